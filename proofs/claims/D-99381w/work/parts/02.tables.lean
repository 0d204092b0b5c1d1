set_option maxRecDepth 100000
/-! OrdinaryStalkLaw -/
def RX0 : String := "OrdinaryStalkLaw"
abbrev cX0_rests : ByteArray := method_3_code
def yX0_rests : MethodName := ⟨RX0, "rests", "(LOrdinaryStalk;IIII[J)I"⟩
theorem q114 : (Jvm.Cond.initialized "OrdinaryStalkLaw") ∈ lw_all := lw_g (lw_at lw_m1 0 rfl) rfl
theorem q169 : (Jvm.Cond.classLink "OrdinaryStalkLaw" (8 : Nat) "OrdinaryStalk") ∈ lw_all := lw_g (lw_at lw_m1 55 rfl) rfl
theorem q171 : (Jvm.Cond.methodLink "OrdinaryStalkLaw" (15 : Nat) ({ cls := "OrdinaryStalk", name := "<init>", desc := "()V" } : Jvm.MethodName)) ∈ lw_all := lw_g (lw_at lw_m1 57 rfl) rfl
theorem q587 : (Jvm.Cond.methodLink "OrdinaryStalkLaw" (21 : Nat) ({ cls := "OrdinaryStalk", name := "feed", desc := "(JJJ)I" } : Jvm.MethodName)) ∈ lw_all := lw_g (lw_at lw_m2 233 rfl) rfl
theorem q599 : (Jvm.Cond.methodLink "OrdinaryStalkLaw" (26 : Nat) ({ cls := "OrdinaryStalk", name := "camp", desc := "()I" } : Jvm.MethodName)) ∈ lw_all := lw_g (lw_at lw_m3 5 rfl) rfl
theorem q1192 : (Jvm.Cond.methodLink "OrdinaryStalkLaw" (31 : Nat) ({ cls := "OrdinaryStalk", name := "day", desc := "()I" } : Jvm.MethodName)) ∈ lw_all := lw_g (lw_at lw_m5 118 rfl) rfl
theorem q1247 : (Jvm.Cond.methodLink "OrdinaryStalkLaw" (35 : Nat) ({ cls := "OrdinaryStalk", name := "person", desc := "(II)I" } : Jvm.MethodName)) ∈ lw_all := lw_g (lw_at lw_m5 173 rfl) rfl
theorem q1277 : (Jvm.Cond.methodLink "OrdinaryStalkLaw" (40 : Nat) ({ cls := "OrdinaryStalk", name := "scout", desc := "(II)I" } : Jvm.MethodName)) ∈ lw_all := lw_g (lw_at lw_m5 203 rfl) rfl
theorem q1293 : (Jvm.Cond.methodLink "OrdinaryStalkLaw" (44 : Nat) ({ cls := "OrdinaryStalk", name := "creep", desc := "(II)I" } : Jvm.MethodName)) ∈ lw_all := lw_g (lw_at lw_m5 219 rfl) rfl
theorem q1335 : (Jvm.Cond.methodLink "OrdinaryStalkLaw" (48 : Nat) ({ cls := "OrdinaryStalk", name := "off", desc := "(I)Z" } : Jvm.MethodName)) ∈ lw_all := lw_g (lw_at lw_m6 21 rfl) rfl
theorem q1343 : (Jvm.Cond.methodLink "OrdinaryStalkLaw" (53 : Nat) ({ cls := "OrdinaryStalk", name := "step", desc := "()I" } : Jvm.MethodName)) ∈ lw_all := lw_g (lw_at lw_m6 29 rfl) rfl
theorem q1483 : (Jvm.Cond.methodLink "OrdinaryStalkLaw" (57 : Nat) ({ cls := "OrdinaryStalk", name := "undo", desc := "()Z" } : Jvm.MethodName)) ∈ lw_all := lw_g (lw_at lw_m6 169 rfl) rfl
theorem q1491 : (Jvm.Cond.methodLink "OrdinaryStalkLaw" (62 : Nat) ({ cls := "OrdinaryStalk", name := "judged", desc := "(I)I" } : Jvm.MethodName)) ∈ lw_all := lw_g (lw_at lw_m6 177 rfl) rfl
theorem q1513 : (Jvm.Cond.methodLink "OrdinaryStalkLaw" (67 : Nat) ({ cls := "OrdinaryStalk", name := "later", desc := "(II)I" } : Jvm.MethodName)) ∈ lw_all := lw_g (lw_at lw_m6 199 rfl) rfl
theorem q1518 : (Jvm.Cond.methodLink "OrdinaryStalkLaw" (103 : Nat) ({ cls := "OrdinaryStalk", name := "meets", desc := "(II)I" } : Jvm.MethodName)) ∈ lw_all := lw_g (lw_at lw_m6 204 rfl) rfl
theorem q1522 : (Jvm.Cond.methodLink "OrdinaryStalkLaw" (111 : Nat) ({ cls := "OrdinaryStalk", name := "camped", desc := "()I" } : Jvm.MethodName)) ∈ lw_all := lw_g (lw_at lw_m6 208 rfl) rfl
theorem q1527 : (Jvm.Cond.methodLink "OrdinaryStalkLaw" (71 : Nat) ({ cls := "OrdinaryStalk", name := "would", desc := "(II)I" } : Jvm.MethodName)) ∈ lw_all := lw_g (lw_at lw_m6 213 rfl) rfl
theorem q1537 : (Jvm.Cond.methodLink "OrdinaryStalkLaw" (75 : Nat) ({ cls := "OrdinaryStalk", name := "quiet", desc := "(II)I" } : Jvm.MethodName)) ∈ lw_all := lw_g (lw_at lw_m6 223 rfl) rfl
theorem q1542 : (Jvm.Cond.methodLink "OrdinaryStalkLaw" (79 : Nat) ({ cls := "OrdinaryStalk", name := "bush", desc := "(I)I" } : Jvm.MethodName)) ∈ lw_all := lw_g (lw_at lw_m6 228 rfl) rfl
theorem q1547 : (Jvm.Cond.methodLink "OrdinaryStalkLaw" (83 : Nat) ({ cls := "OrdinaryStalk", name := "shortest", desc := "(II)I" } : Jvm.MethodName)) ∈ lw_all := lw_g (lw_at lw_m6 233 rfl) rfl
theorem q1577 : (Jvm.Cond.methodLink "OrdinaryStalkLaw" (87 : Nat) ({ cls := "OrdinaryStalk", name := "first", desc := "(II)I" } : Jvm.MethodName)) ∈ lw_all := lw_g (lw_at lw_m7 23 rfl) rfl
theorem q1582 : (Jvm.Cond.methodLink "OrdinaryStalkLaw" (91 : Nat) ({ cls := "OrdinaryStalk", name := "soonest", desc := "(I)I" } : Jvm.MethodName)) ∈ lw_all := lw_g (lw_at lw_m7 28 rfl) rfl
theorem q1586 : (Jvm.Cond.methodLink "OrdinaryStalkLaw" (95 : Nat) ({ cls := "OrdinaryStalk", name := "worth", desc := "(I)I" } : Jvm.MethodName)) ∈ lw_all := lw_g (lw_at lw_m7 32 rfl) rfl
theorem q1590 : (Jvm.Cond.methodLink "OrdinaryStalkLaw" (99 : Nat) ({ cls := "OrdinaryStalk", name := "team", desc := "(II)I" } : Jvm.MethodName)) ∈ lw_all := lw_g (lw_at lw_m7 36 rfl) rfl
theorem q1608 : (Jvm.Cond.methodLink "OrdinaryStalkLaw" (107 : Nat) ({ cls := "OrdinaryStalk", name := "alike", desc := "()I" } : Jvm.MethodName)) ∈ lw_all := lw_g (lw_at lw_m7 54 rfl) rfl
theorem q1613 : (Jvm.Cond.methodLink "OrdinaryStalkLaw" (115 : Nat) ({ cls := "OrdinaryStalk", name := "say", desc := "(IIZ)Z" } : Jvm.MethodName)) ∈ lw_all := lw_g (lw_at lw_m7 59 rfl) rfl
theorem q1617 : (Jvm.Cond.methodLink "OrdinaryStalkLaw" (120 : Nat) ({ cls := "OrdinaryStalk", name := "who", desc := "()I" } : Jvm.MethodName)) ∈ lw_all := lw_g (lw_at lw_m7 63 rfl) rfl
theorem q1626 : (Jvm.Cond.methodLink "OrdinaryStalkLaw" (124 : Nat) ({ cls := "OrdinaryStalk", name := "ask", desc := "()I" } : Jvm.MethodName)) ∈ lw_all := lw_g (lw_at lw_m7 72 rfl) rfl
theorem q1635 : (Jvm.Cond.methodLink "OrdinaryStalkLaw" (128 : Nat) ({ cls := "OrdinaryStalk", name := "chance", desc := "(II)I" } : Jvm.MethodName)) ∈ lw_all := lw_g (lw_at lw_m7 81 rfl) rfl
theorem q1651 : (Jvm.Cond.methodLink "OrdinaryStalkLaw" (141 : Nat) ({ cls := "OrdinaryStalk", name := "camps", desc := "(III)I" } : Jvm.MethodName)) ∈ lw_all := lw_g (lw_at lw_m7 97 rfl) rfl
theorem q1663 : (Jvm.Cond.methodLink "OrdinaryStalkLaw" (146 : Nat) ({ cls := "OrdinaryStalk", name := "mark", desc := "(IZ)Z" } : Jvm.MethodName)) ∈ lw_all := lw_g (lw_at lw_m7 109 rfl) rfl
theorem q1688 : (Jvm.Cond.methodLink "OrdinaryStalkLaw" (151 : Nat) ({ cls := "OrdinaryStalk", name := "count", desc := "(I)I" } : Jvm.MethodName)) ∈ lw_all := lw_g (lw_at lw_m7 134 rfl) rfl
theorem q1696 : (Jvm.Cond.methodLink "OrdinaryStalkLaw" (132 : Nat) ({ cls := "OrdinaryStalkLaw", name := "rests", desc := "(LOrdinaryStalk;IIII[J)I" } : Jvm.MethodName)) ∈ lw_all := lw_g (lw_at lw_m7 142 rfl) rfl
theorem q1697 : (Jvm.Cond.static ({ cls := "OrdinaryStalkLaw", name := "rests", desc := "(LOrdinaryStalk;IIII[J)I" } : Jvm.MethodName)) ∈ lw_all := lw_g (lw_at lw_m7 143 rfl) rfl
theorem q1698 : (Jvm.Cond.codeWith ({ cls := "OrdinaryStalkLaw", name := "rests", desc := "(LOrdinaryStalk;IIII[J)I" } : Jvm.MethodName) method_3_code (7 : Nat) (Option.some Jvm.ClassFile.FieldType.int) [((0 : Nat), (14 : Nat), (17 : Nat), (13 : Nat))]) ∈ lw_all := lw_g (lw_at lw_m7 144 rfl) rfl
theorem q1699 : (Jvm.Cond.classLink "OrdinaryStalkLaw" (13 : Nat) "java/util/NoSuchElementException") ∈ lw_all := lw_g (lw_at lw_m7 145 rfl) rfl
theorem q1700 : (Jvm.Cond.methodLink "OrdinaryStalkLaw" (7 : Nat) ({ cls := "OrdinaryStalk", name := "rests", desc := "(IIII)I" } : Jvm.MethodName)) ∈ lw_all := lw_g (lw_at lw_m7 146 rfl) rfl
theorem q1733 : (Jvm.Cond.classLink "OrdinaryStalkLaw" (16 : Nat) "OrdinaryStalkModel") ∈ lw_all := lw_g (lw_at lw_m7 179 rfl) rfl
theorem q1735 : (Jvm.Cond.methodLink "OrdinaryStalkLaw" (18 : Nat) ({ cls := "OrdinaryStalkModel", name := "<init>", desc := "()V" } : Jvm.MethodName)) ∈ lw_all := lw_g (lw_at lw_m7 181 rfl) rfl
theorem q1951 : (Jvm.Cond.methodLink "OrdinaryStalkLaw" (138 : Nat) ({ cls := "OrdinaryStalkModel", name := "thrown", desc := "()I" } : Jvm.MethodName)) ∈ lw_all := lw_g (lw_at lw_m8 157 rfl) rfl
theorem q1955 : (Jvm.Cond.methodLink "OrdinaryStalkLaw" (25 : Nat) ({ cls := "OrdinaryStalkModel", name := "feed", desc := "(JJJ)I" } : Jvm.MethodName)) ∈ lw_all := lw_g (lw_at lw_m8 161 rfl) rfl
theorem q1960 : (Jvm.Cond.methodLink "OrdinaryStalkLaw" (30 : Nat) ({ cls := "OrdinaryStalkModel", name := "camp", desc := "()I" } : Jvm.MethodName)) ∈ lw_all := lw_g (lw_at lw_m8 166 rfl) rfl
theorem q2114 : (Jvm.Cond.methodLink "OrdinaryStalkLaw" (34 : Nat) ({ cls := "OrdinaryStalkModel", name := "day", desc := "()I" } : Jvm.MethodName)) ∈ lw_all := lw_g (lw_at lw_m9 80 rfl) rfl
theorem q2126 : (Jvm.Cond.methodLink "OrdinaryStalkLaw" (39 : Nat) ({ cls := "OrdinaryStalkModel", name := "person", desc := "(II)I" } : Jvm.MethodName)) ∈ lw_all := lw_g (lw_at lw_m9 92 rfl) rfl
theorem q2138 : (Jvm.Cond.methodLink "OrdinaryStalkLaw" (43 : Nat) ({ cls := "OrdinaryStalkModel", name := "scout", desc := "(II)I" } : Jvm.MethodName)) ∈ lw_all := lw_g (lw_at lw_m9 104 rfl) rfl
theorem q2150 : (Jvm.Cond.methodLink "OrdinaryStalkLaw" (47 : Nat) ({ cls := "OrdinaryStalkModel", name := "creep", desc := "(II)I" } : Jvm.MethodName)) ∈ lw_all := lw_g (lw_at lw_m9 116 rfl) rfl
theorem q2181 : (Jvm.Cond.methodLink "OrdinaryStalkLaw" (52 : Nat) ({ cls := "OrdinaryStalkModel", name := "off", desc := "(I)Z" } : Jvm.MethodName)) ∈ lw_all := lw_g (lw_at lw_m9 147 rfl) rfl
theorem q2185 : (Jvm.Cond.methodLink "OrdinaryStalkLaw" (56 : Nat) ({ cls := "OrdinaryStalkModel", name := "step", desc := "()I" } : Jvm.MethodName)) ∈ lw_all := lw_g (lw_at lw_m9 151 rfl) rfl
theorem q2234 : (Jvm.Cond.methodLink "OrdinaryStalkLaw" (61 : Nat) ({ cls := "OrdinaryStalkModel", name := "undo", desc := "()Z" } : Jvm.MethodName)) ∈ lw_all := lw_g (lw_at lw_m9 200 rfl) rfl
theorem q2238 : (Jvm.Cond.methodLink "OrdinaryStalkLaw" (66 : Nat) ({ cls := "OrdinaryStalkModel", name := "judged", desc := "(I)I" } : Jvm.MethodName)) ∈ lw_all := lw_g (lw_at lw_m9 204 rfl) rfl
theorem q2242 : (Jvm.Cond.methodLink "OrdinaryStalkLaw" (70 : Nat) ({ cls := "OrdinaryStalkModel", name := "later", desc := "(II)I" } : Jvm.MethodName)) ∈ lw_all := lw_g (lw_at lw_m9 208 rfl) rfl
theorem q2246 : (Jvm.Cond.methodLink "OrdinaryStalkLaw" (74 : Nat) ({ cls := "OrdinaryStalkModel", name := "would", desc := "(II)I" } : Jvm.MethodName)) ∈ lw_all := lw_g (lw_at lw_m9 212 rfl) rfl
theorem q2250 : (Jvm.Cond.methodLink "OrdinaryStalkLaw" (78 : Nat) ({ cls := "OrdinaryStalkModel", name := "quiet", desc := "(II)I" } : Jvm.MethodName)) ∈ lw_all := lw_g (lw_at lw_m9 216 rfl) rfl
theorem q2258 : (Jvm.Cond.methodLink "OrdinaryStalkLaw" (82 : Nat) ({ cls := "OrdinaryStalkModel", name := "bush", desc := "(I)I" } : Jvm.MethodName)) ∈ lw_all := lw_g (lw_at lw_m9 224 rfl) rfl
theorem q2262 : (Jvm.Cond.methodLink "OrdinaryStalkLaw" (86 : Nat) ({ cls := "OrdinaryStalkModel", name := "shortest", desc := "(II)I" } : Jvm.MethodName)) ∈ lw_all := lw_g (lw_at lw_m9 228 rfl) rfl
theorem q2282 : (Jvm.Cond.methodLink "OrdinaryStalkLaw" (90 : Nat) ({ cls := "OrdinaryStalkModel", name := "first", desc := "(II)I" } : Jvm.MethodName)) ∈ lw_all := lw_g (lw_at lw_m10 8 rfl) rfl
theorem q2286 : (Jvm.Cond.methodLink "OrdinaryStalkLaw" (94 : Nat) ({ cls := "OrdinaryStalkModel", name := "soonest", desc := "(I)I" } : Jvm.MethodName)) ∈ lw_all := lw_g (lw_at lw_m10 12 rfl) rfl
theorem q2290 : (Jvm.Cond.methodLink "OrdinaryStalkLaw" (98 : Nat) ({ cls := "OrdinaryStalkModel", name := "worth", desc := "(I)I" } : Jvm.MethodName)) ∈ lw_all := lw_g (lw_at lw_m10 16 rfl) rfl
theorem q2294 : (Jvm.Cond.methodLink "OrdinaryStalkLaw" (102 : Nat) ({ cls := "OrdinaryStalkModel", name := "team", desc := "(II)I" } : Jvm.MethodName)) ∈ lw_all := lw_g (lw_at lw_m10 20 rfl) rfl
theorem q2302 : (Jvm.Cond.methodLink "OrdinaryStalkLaw" (106 : Nat) ({ cls := "OrdinaryStalkModel", name := "meets", desc := "(II)I" } : Jvm.MethodName)) ∈ lw_all := lw_g (lw_at lw_m10 28 rfl) rfl
theorem q2306 : (Jvm.Cond.methodLink "OrdinaryStalkLaw" (110 : Nat) ({ cls := "OrdinaryStalkModel", name := "alike", desc := "()I" } : Jvm.MethodName)) ∈ lw_all := lw_g (lw_at lw_m10 32 rfl) rfl
theorem q2314 : (Jvm.Cond.methodLink "OrdinaryStalkLaw" (114 : Nat) ({ cls := "OrdinaryStalkModel", name := "camped", desc := "()I" } : Jvm.MethodName)) ∈ lw_all := lw_g (lw_at lw_m10 40 rfl) rfl
theorem q2318 : (Jvm.Cond.methodLink "OrdinaryStalkLaw" (119 : Nat) ({ cls := "OrdinaryStalkModel", name := "say", desc := "(IIZ)Z" } : Jvm.MethodName)) ∈ lw_all := lw_g (lw_at lw_m10 44 rfl) rfl
theorem q2322 : (Jvm.Cond.methodLink "OrdinaryStalkLaw" (123 : Nat) ({ cls := "OrdinaryStalkModel", name := "who", desc := "()I" } : Jvm.MethodName)) ∈ lw_all := lw_g (lw_at lw_m10 48 rfl) rfl
theorem q2334 : (Jvm.Cond.methodLink "OrdinaryStalkLaw" (127 : Nat) ({ cls := "OrdinaryStalkModel", name := "ask", desc := "()I" } : Jvm.MethodName)) ∈ lw_all := lw_g (lw_at lw_m10 60 rfl) rfl
theorem q2343 : (Jvm.Cond.methodLink "OrdinaryStalkLaw" (131 : Nat) ({ cls := "OrdinaryStalkModel", name := "chance", desc := "(II)I" } : Jvm.MethodName)) ∈ lw_all := lw_g (lw_at lw_m10 69 rfl) rfl
theorem q2352 : (Jvm.Cond.methodLink "OrdinaryStalkLaw" (137 : Nat) ({ cls := "OrdinaryStalkModel", name := "rests", desc := "(IIII)I" } : Jvm.MethodName)) ∈ lw_all := lw_g (lw_at lw_m10 78 rfl) rfl
theorem q2359 : (Jvm.Cond.methodLink "OrdinaryStalkLaw" (145 : Nat) ({ cls := "OrdinaryStalkModel", name := "camps", desc := "(III)I" } : Jvm.MethodName)) ∈ lw_all := lw_g (lw_at lw_m10 85 rfl) rfl
theorem q2371 : (Jvm.Cond.methodLink "OrdinaryStalkLaw" (150 : Nat) ({ cls := "OrdinaryStalkModel", name := "mark", desc := "(IZ)Z" } : Jvm.MethodName)) ∈ lw_all := lw_g (lw_at lw_m10 97 rfl) rfl
theorem q2379 : (Jvm.Cond.methodLink "OrdinaryStalkLaw" (154 : Nat) ({ cls := "OrdinaryStalkModel", name := "count", desc := "(I)I" } : Jvm.MethodName)) ∈ lw_all := lw_g (lw_at lw_m10 105 rfl) rfl
theorem q2387 : (Jvm.Cond.constantLong "OrdinaryStalkLaw" (19 : Nat) (4294967295 : Int64)) ∈ lw_all := lw_g (lw_at lw_m10 113 rfl) rfl

/-! OrdinaryStalk -/
def RX1 : String := "OrdinaryStalk"
def TX1 : u_T := fun k => match k with
  | 0 => ("OrdinaryStalk", "reader", "LOrdinaryStalk$Reader;", true)
  | 1 => ("OrdinaryStalk", "hunt", "LOrdinaryStalk$Hunt;", false)
  | 2 => ("OrdinaryStalk", "trial", "LOrdinaryStalk$Hunt;", true)
  | 3 => ("OrdinaryStalk", "lines", "Ljava/util/ArrayList;", false)
  | 4 => ("OrdinaryStalk", "said", "Ljava/util/ArrayList;", false)
  | 5 => ("OrdinaryStalk", "behind", "Ljava/util/ArrayList;", true)
  | 6 => ("OrdinaryStalk", "chase", "LOrdinaryStalk$Chase;", true)
  | 7 => ("OrdinaryStalk", "teams", "LOrdinaryStalk$Teams;", true)
  | 8 => ("OrdinaryStalk", "winds", "LOrdinaryStalk$Winds;", true)
  | 9 => ("OrdinaryStalk", "g", "J", false)
  | _ => ("OrdinaryStalk", "marks", "[LOrdinaryStalk$Mark;", true)
def tyX1 : Nat → FieldType := fun k => match k with
  | 0 => .object "OrdinaryStalk$Reader"
  | 1 => .object "OrdinaryStalk$Hunt"
  | 2 => .object "OrdinaryStalk$Hunt"
  | 3 => .object "java/util/ArrayList"
  | 4 => .object "java/util/ArrayList"
  | 5 => .object "java/util/ArrayList"
  | 6 => .object "OrdinaryStalk$Chase"
  | 7 => .object "OrdinaryStalk$Teams"
  | 8 => .object "OrdinaryStalk$Winds"
  | 9 => .long
  | _ => .array (.object "OrdinaryStalk$Mark")
abbrev wsX10 : List Cond := u_ws RX1 TX1 11
theorem nmX1 : ∀ a, a < 11 → ∀ b, b < 11 → a ≠ b → (TX1 a).2.1 ≠ (TX1 b).2.1 := by decide +kernel
theorem tyX1_ok : ∀ k, k < 11 → parseFieldDescriptor (TX1 k).2.2.1 = some (tyX1 k) := by decide +kernel
abbrev cX1_init : ByteArray := prog_1_method_5_code
def yX1_init : MethodName := ⟨RX1, "<init>", "()V"⟩
abbrev cX1_feed : ByteArray := prog_1_method_6_code
def yX1_feed : MethodName := ⟨RX1, "feed", "(JJJ)I"⟩
abbrev cX1_within : ByteArray := prog_1_method_1_code
def yX1_within : MethodName := ⟨RX1, "within", "(III)Z"⟩
abbrev cX1_camp : ByteArray := prog_1_method_7_code
def yX1_camp : MethodName := ⟨RX1, "camp", "()I"⟩
abbrev cX1_made : ByteArray := prog_1_method_4_code
def yX1_made : MethodName := ⟨RX1, "made", "(IIII[I)LOrdinaryStalk$Person;"⟩
abbrev cX1_has : ByteArray := prog_1_method_2_code
def yX1_has : MethodName := ⟨RX1, "has", "(II)Z"⟩
abbrev cX1_day : ByteArray := prog_1_method_8_code
def yX1_day : MethodName := ⟨RX1, "day", "()I"⟩
abbrev cX1_now : ByteArray := prog_1_method_9_code
def yX1_now : MethodName := ⟨RX1, "now", "()LOrdinaryStalk$Camp;"⟩
abbrev cX1_person : ByteArray := prog_1_method_15_code
def yX1_person : MethodName := ⟨RX1, "person", "(II)I"⟩
abbrev cX1_isPerson : ByteArray := prog_1_method_12_code
def yX1_isPerson : MethodName := ⟨RX1, "isPerson", "(I)Z"⟩
abbrev cX1_people : ByteArray := prog_1_method_10_code
def yX1_people : MethodName := ⟨RX1, "people", "()I"⟩
abbrev cX1_scout : ByteArray := prog_1_method_16_code
def yX1_scout : MethodName := ⟨RX1, "scout", "(II)I"⟩
abbrev cX1_isScout : ByteArray := prog_1_method_13_code
def yX1_isScout : MethodName := ⟨RX1, "isScout", "(I)Z"⟩
abbrev cX1_scouts : ByteArray := prog_1_method_11_code
def yX1_scouts : MethodName := ⟨RX1, "scouts", "()I"⟩
abbrev cX1_creep : ByteArray := prog_1_method_18_code
def yX1_creep : MethodName := ⟨RX1, "creep", "(II)I"⟩
abbrev cX1_keep : ByteArray := prog_1_method_17_code
def yX1_keep : MethodName := ⟨RX1, "keep", "()V"⟩
abbrev cX1_off : ByteArray := prog_1_method_19_code
def yX1_off : MethodName := ⟨RX1, "off", "(I)Z"⟩
abbrev cX1_isOut : ByteArray := prog_1_method_14_code
def yX1_isOut : MethodName := ⟨RX1, "isOut", "(I)Z"⟩
abbrev cX1_step : ByteArray := prog_1_method_20_code
def yX1_step : MethodName := ⟨RX1, "step", "()I"⟩
abbrev cX1_undo : ByteArray := prog_1_method_21_code
def yX1_undo : MethodName := ⟨RX1, "undo", "()Z"⟩
abbrev cX1_judged : ByteArray := prog_1_method_22_code
def yX1_judged : MethodName := ⟨RX1, "judged", "(I)I"⟩
abbrev cX1_later : ByteArray := prog_1_method_23_code
def yX1_later : MethodName := ⟨RX1, "later", "(II)I"⟩
abbrev cX1_meets : ByteArray := prog_1_method_24_code
def yX1_meets : MethodName := ⟨RX1, "meets", "(II)I"⟩
abbrev cX1_camped : ByteArray := prog_1_method_25_code
def yX1_camped : MethodName := ⟨RX1, "camped", "()I"⟩
abbrev cX1_would : ByteArray := prog_1_method_27_code
def yX1_would : MethodName := ⟨RX1, "would", "(II)I"⟩
abbrev cX1_hearing : ByteArray := prog_1_method_26_code
def yX1_hearing : MethodName := ⟨RX1, "hearing", "(I)I"⟩
abbrev cX1_quiet : ByteArray := prog_1_method_28_code
def yX1_quiet : MethodName := ⟨RX1, "quiet", "(II)I"⟩
abbrev cX1_bush : ByteArray := prog_1_method_29_code
def yX1_bush : MethodName := ⟨RX1, "bush", "(I)I"⟩
abbrev cX1_shortest : ByteArray := prog_1_method_31_code
def yX1_shortest : MethodName := ⟨RX1, "shortest", "(II)I"⟩
abbrev cX1_mayGet : ByteArray := prog_1_method_30_code
def yX1_mayGet : MethodName := ⟨RX1, "mayGet", "(II)Z"⟩
abbrev cX1_first : ByteArray := prog_1_method_32_code
def yX1_first : MethodName := ⟨RX1, "first", "(II)I"⟩
abbrev cX1_soonest : ByteArray := prog_1_method_33_code
def yX1_soonest : MethodName := ⟨RX1, "soonest", "(I)I"⟩
abbrev cX1_worth : ByteArray := prog_1_method_34_code
def yX1_worth : MethodName := ⟨RX1, "worth", "(I)I"⟩
abbrev cX1_team : ByteArray := prog_1_method_35_code
def yX1_team : MethodName := ⟨RX1, "team", "(II)I"⟩
abbrev cX1_alike : ByteArray := prog_1_method_36_code
def yX1_alike : MethodName := ⟨RX1, "alike", "()I"⟩
abbrev cX1_say : ByteArray := prog_1_method_37_code
def yX1_say : MethodName := ⟨RX1, "say", "(IIZ)Z"⟩
abbrev cX1_who : ByteArray := prog_1_method_39_code
def yX1_who : MethodName := ⟨RX1, "who", "()I"⟩
abbrev cX1_walksFor : ByteArray := prog_1_method_38_code
def yX1_walksFor : MethodName := ⟨RX1, "walksFor", "(I)V"⟩
abbrev cX1_ask : ByteArray := prog_1_method_40_code
def yX1_ask : MethodName := ⟨RX1, "ask", "()I"⟩
abbrev cX1_bits : ByteArray := prog_1_method_3_code
def yX1_bits : MethodName := ⟨RX1, "bits", "(I)I"⟩
abbrev cX1_chance : ByteArray := prog_1_method_41_code
def yX1_chance : MethodName := ⟨RX1, "chance", "(II)I"⟩
abbrev cX1_camps : ByteArray := prog_1_method_47_code
def yX1_camps : MethodName := ⟨RX1, "camps", "(III)I"⟩
abbrev cX1_draw : ByteArray := prog_1_method_46_code
def yX1_draw : MethodName := ⟨RX1, "draw", "(I)I"⟩
abbrev cX1_mark : ByteArray := prog_1_method_49_code
def yX1_mark : MethodName := ⟨RX1, "mark", "(IZ)Z"⟩
abbrev cX1_copied : ByteArray := prog_1_method_48_code
def yX1_copied : MethodName := ⟨RX1, "copied", "(Ljava/util/ArrayList;)Ljava/util/ArrayList;"⟩
abbrev cX1_count : ByteArray := prog_1_method_50_code
def yX1_count : MethodName := ⟨RX1, "count", "(I)I"⟩
abbrev cX1_rests : ByteArray := prog_1_method_45_code
def yX1_rests : MethodName := ⟨RX1, "rests", "(IIII)I"⟩
abbrev cX1_need : ByteArray := prog_1_method_44_code
def yX1_need : MethodName := ⟨RX1, "need", "(Z)V"⟩
abbrev cX1_isRest : ByteArray := prog_1_method_43_code
def yX1_isRest : MethodName := ⟨RX1, "isRest", "(ZZIII)Z"⟩
abbrev cX1_gets : ByteArray := prog_1_method_42_code
def yX1_gets : MethodName := ⟨RX1, "gets", "(ZZIII)I"⟩
theorem q115 : (Jvm.Cond.initialized "OrdinaryStalk") ∈ lw_all := lw_g (lw_at lw_m1 1 rfl) rfl
theorem q170 : (Jvm.Cond.instantiable "OrdinaryStalk" (11 : Nat)) ∈ lw_all := lw_g (lw_at lw_m1 56 rfl) rfl
theorem q172 : (Jvm.Cond.instanceMethod ({ cls := "OrdinaryStalk", name := "<init>", desc := "()V" } : Jvm.MethodName)) ∈ lw_all := lw_g (lw_at lw_m1 58 rfl) rfl
theorem q173 : (Jvm.Cond.code ({ cls := "OrdinaryStalk", name := "<init>", desc := "()V" } : Jvm.MethodName) prog_1_method_5_code (1 : Nat) (Option.none : Option Jvm.ClassFile.FieldType)) ∈ lw_all := lw_g (lw_at lw_m1 59 rfl) rfl
theorem q174 : (Jvm.Cond.methodLink "OrdinaryStalk" (16 : Nat) ({ cls := "java/lang/Object", name := "<init>", desc := "()V" } : Jvm.MethodName)) ∈ lw_all := lw_g (lw_at lw_m1 60 rfl) rfl
theorem q177 : (Jvm.Cond.classLink "OrdinaryStalk" (21 : Nat) "OrdinaryStalk$Reader") ∈ lw_all := lw_g (lw_at lw_m1 63 rfl) rfl
theorem q179 : (Jvm.Cond.methodLinkNest "OrdinaryStalk" (23 : Nat) ({ cls := "OrdinaryStalk$Reader", name := "<init>", desc := "()V" } : Jvm.MethodName) "OrdinaryStalk") ∈ lw_tbl := lw_at lw_m1 65 rfl
theorem q220 : (Jvm.Cond.fieldLink "OrdinaryStalk" (96 : Nat) "OrdinaryStalk$Reader" "taped" "I") ∈ lw_all := lw_g (lw_at lw_m1 106 rfl) rfl
theorem q258 : (Jvm.Cond.classLink "OrdinaryStalk" (30 : Nat) "OrdinaryStalk$Hunt") ∈ lw_all := lw_g (lw_at lw_m1 144 rfl) rfl
theorem q260 : (Jvm.Cond.methodLinkNest "OrdinaryStalk" (32 : Nat) ({ cls := "OrdinaryStalk$Hunt", name := "<init>", desc := "()V" } : Jvm.MethodName) "OrdinaryStalk") ∈ lw_tbl := lw_at lw_m1 146 rfl
theorem q266 : (Jvm.Cond.fieldLink "OrdinaryStalk" (119 : Nat) "OrdinaryStalk$Hunt" "camp" "LOrdinaryStalk$Camp;") ∈ lw_all := lw_g (lw_at lw_m1 152 rfl) rfl
theorem q269 : (Jvm.Cond.fieldLink "OrdinaryStalk" (238 : Nat) "OrdinaryStalk$Hunt" "step" "I") ∈ lw_all := lw_g (lw_at lw_m1 155 rfl) rfl
theorem q272 : (Jvm.Cond.fieldLink "OrdinaryStalk" (170 : Nat) "OrdinaryStalk$Hunt" "usual" "I") ∈ lw_all := lw_g (lw_at lw_m1 158 rfl) rfl
theorem q276 : (Jvm.Cond.fieldLink "OrdinaryStalk" (144 : Nat) "OrdinaryStalk$Hunt" "off" "I") ∈ lw_all := lw_g (lw_at lw_m1 162 rfl) rfl
theorem q279 : (Jvm.Cond.fieldLink "OrdinaryStalk" (176 : Nat) "OrdinaryStalk$Hunt" "crept" "I") ∈ lw_all := lw_g (lw_at lw_m1 165 rfl) rfl
theorem q281 : (Jvm.Cond.fieldLink "OrdinaryStalk" (226 : Nat) "OrdinaryStalk$Hunt" "marks" "I") ∈ lw_all := lw_g (lw_at lw_m1 167 rfl) rfl
theorem q286 : (Jvm.Cond.fieldLink "OrdinaryStalk" (161 : Nat) "OrdinaryStalk$Hunt" "person" "[I") ∈ lw_all := lw_g (lw_at lw_m1 172 rfl) rfl
theorem q289 : (Jvm.Cond.fieldLink "OrdinaryStalk" (173 : Nat) "OrdinaryStalk$Hunt" "scout" "[I") ∈ lw_all := lw_g (lw_at lw_m1 175 rfl) rfl
theorem q291 : (Jvm.Cond.fieldLink "OrdinaryStalk" (179 : Nat) "OrdinaryStalk$Hunt" "got" "[I") ∈ lw_all := lw_g (lw_at lw_m1 177 rfl) rfl
theorem q294 : (Jvm.Cond.fieldLinkNest "OrdinaryStalk" (234 : Nat) "OrdinaryStalk$Hunt" "stayed" "[Z" "OrdinaryStalk") ∈ lw_tbl := lw_at lw_m1 180 rfl
theorem q319 : (Jvm.Cond.classLink "OrdinaryStalk" (33 : Nat) "OrdinaryStalk$Camp") ∈ lw_all := lw_g (lw_at lw_m1 205 rfl) rfl
theorem q321 : (Jvm.Cond.methodLinkNest "OrdinaryStalk" (35 : Nat) ({ cls := "OrdinaryStalk$Camp", name := "<init>", desc := "()V" } : Jvm.MethodName) "OrdinaryStalk") ∈ lw_tbl := lw_at lw_m1 207 rfl
theorem q371 : (Jvm.Cond.fieldLink "OrdinaryStalk" (122 : Nat) "OrdinaryStalk$Camp" "people" "Ljava/util/ArrayList;") ∈ lw_all := lw_g (lw_at lw_m2 17 rfl) rfl
theorem q375 : (Jvm.Cond.fieldLink "OrdinaryStalk" (129 : Nat) "OrdinaryStalk$Camp" "scouts" "Ljava/util/ArrayList;") ∈ lw_all := lw_g (lw_at lw_m2 21 rfl) rfl
theorem q379 : (Jvm.Cond.fieldLink "OrdinaryStalk" (342 : Nat) "OrdinaryStalk$Camp" "wide" "I") ∈ lw_all := lw_g (lw_at lw_m2 25 rfl) rfl
theorem q382 : (Jvm.Cond.fieldLink "OrdinaryStalk" (345 : Nat) "OrdinaryStalk$Camp" "high" "I") ∈ lw_all := lw_g (lw_at lw_m2 28 rfl) rfl
theorem q411 : (Jvm.Cond.methodLink "OrdinaryStalk" (36 : Nat) ({ cls := "OrdinaryStalk$Hunt", name := "begins", desc := "(LOrdinaryStalk$Camp;)LOrdinaryStalk$Hunt;" } : Jvm.MethodName)) ∈ lw_all := lw_g (lw_at lw_m2 57 rfl) rfl
theorem q462 : (Jvm.Cond.classLink "OrdinaryStalk" (47 : Nat) "java/util/ArrayList") ∈ lw_all := lw_g (lw_at lw_m2 108 rfl) rfl
theorem q463 : (Jvm.Cond.methodLink "OrdinaryStalk" (49 : Nat) ({ cls := "java/util/ArrayList", name := "<init>", desc := "(I)V" } : Jvm.MethodName)) ∈ lw_all := lw_g (lw_at lw_m2 109 rfl) rfl
theorem q464 : (Jvm.Cond.methodLink "OrdinaryStalk" (59 : Nat) ({ cls := "java/util/ArrayList", name := "<init>", desc := "()V" } : Jvm.MethodName)) ∈ lw_all := lw_g (lw_at lw_m2 110 rfl) rfl
theorem q469 : (Jvm.Cond.classLink "OrdinaryStalk" (63 : Nat) "OrdinaryStalk$Chase") ∈ lw_all := lw_g (lw_at lw_m2 115 rfl) rfl
theorem q471 : (Jvm.Cond.methodLinkNest "OrdinaryStalk" (65 : Nat) ({ cls := "OrdinaryStalk$Chase", name := "<init>", desc := "(LOrdinaryStalk;)V" } : Jvm.MethodName) "OrdinaryStalk") ∈ lw_tbl := lw_at lw_m2 117 rfl
theorem q494 : (Jvm.Cond.classLink "OrdinaryStalk" (72 : Nat) "OrdinaryStalk$Teams") ∈ lw_all := lw_g (lw_at lw_m2 140 rfl) rfl
theorem q496 : (Jvm.Cond.methodLinkNest "OrdinaryStalk" (74 : Nat) ({ cls := "OrdinaryStalk$Teams", name := "<init>", desc := "(LOrdinaryStalk;)V" } : Jvm.MethodName) "OrdinaryStalk") ∈ lw_tbl := lw_at lw_m2 142 rfl
theorem q503 : (Jvm.Cond.fieldLink "OrdinaryStalk" (274 : Nat) "OrdinaryStalk$Teams" "best" "[I") ∈ lw_all := lw_g (lw_at lw_m2 149 rfl) rfl
theorem q506 : (Jvm.Cond.fieldLink "OrdinaryStalk" (271 : Nat) "OrdinaryStalk$Teams" "most" "I") ∈ lw_all := lw_g (lw_at lw_m2 152 rfl) rfl
theorem q521 : (Jvm.Cond.classLink "OrdinaryStalk" (79 : Nat) "OrdinaryStalk$Winds") ∈ lw_all := lw_g (lw_at lw_m2 167 rfl) rfl
theorem q523 : (Jvm.Cond.methodLinkNest "OrdinaryStalk" (81 : Nat) ({ cls := "OrdinaryStalk$Winds", name := "<init>", desc := "(LOrdinaryStalk;)V" } : Jvm.MethodName) "OrdinaryStalk") ∈ lw_tbl := lw_at lw_m2 169 rfl
theorem q534 : (Jvm.Cond.fieldLink "OrdinaryStalk" (298 : Nat) "OrdinaryStalk$Winds" "unheard" "I") ∈ lw_all := lw_g (lw_at lw_m2 180 rfl) rfl
theorem q547 : (Jvm.Cond.classLink "OrdinaryStalk" (86 : Nat) "OrdinaryStalk$Mark") ∈ lw_all := lw_g (lw_at lw_m2 193 rfl) rfl
theorem q549 : (Jvm.Cond.fieldLink "OrdinaryStalk" (24 : Nat) "OrdinaryStalk" "reader" "LOrdinaryStalk$Reader;") ∈ lw_all := lw_g (lw_at lw_m2 195 rfl) rfl
theorem q553 : (Jvm.Cond.fieldLink "OrdinaryStalk" (40 : Nat) "OrdinaryStalk" "hunt" "LOrdinaryStalk$Hunt;") ∈ lw_all := lw_g (lw_at lw_m2 199 rfl) rfl
theorem q555 : (Jvm.Cond.fieldLink "OrdinaryStalk" (44 : Nat) "OrdinaryStalk" "trial" "LOrdinaryStalk$Hunt;") ∈ lw_all := lw_g (lw_at lw_m2 201 rfl) rfl
theorem q556 : (Jvm.Cond.fieldLink "OrdinaryStalk" (52 : Nat) "OrdinaryStalk" "lines" "Ljava/util/ArrayList;") ∈ lw_all := lw_g (lw_at lw_m2 202 rfl) rfl
theorem q557 : (Jvm.Cond.fieldLink "OrdinaryStalk" (56 : Nat) "OrdinaryStalk" "said" "Ljava/util/ArrayList;") ∈ lw_all := lw_g (lw_at lw_m2 203 rfl) rfl
theorem q558 : (Jvm.Cond.fieldLink "OrdinaryStalk" (60 : Nat) "OrdinaryStalk" "behind" "Ljava/util/ArrayList;") ∈ lw_all := lw_g (lw_at lw_m2 204 rfl) rfl
theorem q559 : (Jvm.Cond.fieldLink "OrdinaryStalk" (68 : Nat) "OrdinaryStalk" "chase" "LOrdinaryStalk$Chase;") ∈ lw_all := lw_g (lw_at lw_m2 205 rfl) rfl
theorem q560 : (Jvm.Cond.fieldLink "OrdinaryStalk" (75 : Nat) "OrdinaryStalk" "teams" "LOrdinaryStalk$Teams;") ∈ lw_all := lw_g (lw_at lw_m2 206 rfl) rfl
theorem q561 : (Jvm.Cond.fieldLink "OrdinaryStalk" (82 : Nat) "OrdinaryStalk" "winds" "LOrdinaryStalk$Winds;") ∈ lw_all := lw_g (lw_at lw_m2 207 rfl) rfl
theorem q562 : (Jvm.Cond.fieldLink "OrdinaryStalk" (318 : Nat) "OrdinaryStalk" "g" "J") ∈ lw_all := lw_g (lw_at lw_m2 208 rfl) rfl
theorem q563 : (Jvm.Cond.fieldLink "OrdinaryStalk" (88 : Nat) "OrdinaryStalk" "marks" "[LOrdinaryStalk$Mark;") ∈ lw_all := lw_g (lw_at lw_m2 209 rfl) rfl
theorem q564 : (Jvm.Cond.laysFinal "OrdinaryStalk" "OrdinaryStalk" "reader" "LOrdinaryStalk$Reader;") ∈ lw_all := lw_g (lw_at lw_m2 210 rfl) rfl
theorem q565 : (Jvm.Cond.soleField "OrdinaryStalk" "reader") ∈ lw_all := lw_g (lw_at lw_m2 211 rfl) rfl
theorem q566 : (Jvm.Cond.lays "OrdinaryStalk" "OrdinaryStalk" "hunt" "LOrdinaryStalk$Hunt;") ∈ lw_all := lw_g (lw_at lw_m2 212 rfl) rfl
theorem q567 : (Jvm.Cond.soleField "OrdinaryStalk" "hunt") ∈ lw_all := lw_g (lw_at lw_m2 213 rfl) rfl
theorem q568 : (Jvm.Cond.laysFinal "OrdinaryStalk" "OrdinaryStalk" "trial" "LOrdinaryStalk$Hunt;") ∈ lw_all := lw_g (lw_at lw_m2 214 rfl) rfl
theorem q569 : (Jvm.Cond.soleField "OrdinaryStalk" "trial") ∈ lw_all := lw_g (lw_at lw_m2 215 rfl) rfl
theorem q570 : (Jvm.Cond.lays "OrdinaryStalk" "OrdinaryStalk" "lines" "Ljava/util/ArrayList;") ∈ lw_all := lw_g (lw_at lw_m2 216 rfl) rfl
theorem q571 : (Jvm.Cond.soleField "OrdinaryStalk" "lines") ∈ lw_all := lw_g (lw_at lw_m2 217 rfl) rfl
theorem q572 : (Jvm.Cond.lays "OrdinaryStalk" "OrdinaryStalk" "said" "Ljava/util/ArrayList;") ∈ lw_all := lw_g (lw_at lw_m2 218 rfl) rfl
theorem q573 : (Jvm.Cond.soleField "OrdinaryStalk" "said") ∈ lw_all := lw_g (lw_at lw_m2 219 rfl) rfl
theorem q574 : (Jvm.Cond.laysFinal "OrdinaryStalk" "OrdinaryStalk" "behind" "Ljava/util/ArrayList;") ∈ lw_all := lw_g (lw_at lw_m2 220 rfl) rfl
theorem q575 : (Jvm.Cond.soleField "OrdinaryStalk" "behind") ∈ lw_all := lw_g (lw_at lw_m2 221 rfl) rfl
theorem q576 : (Jvm.Cond.laysFinal "OrdinaryStalk" "OrdinaryStalk" "chase" "LOrdinaryStalk$Chase;") ∈ lw_all := lw_g (lw_at lw_m2 222 rfl) rfl
theorem q577 : (Jvm.Cond.soleField "OrdinaryStalk" "chase") ∈ lw_all := lw_g (lw_at lw_m2 223 rfl) rfl
theorem q578 : (Jvm.Cond.laysFinal "OrdinaryStalk" "OrdinaryStalk" "teams" "LOrdinaryStalk$Teams;") ∈ lw_all := lw_g (lw_at lw_m2 224 rfl) rfl
theorem q579 : (Jvm.Cond.soleField "OrdinaryStalk" "teams") ∈ lw_all := lw_g (lw_at lw_m2 225 rfl) rfl
theorem q580 : (Jvm.Cond.laysFinal "OrdinaryStalk" "OrdinaryStalk" "winds" "LOrdinaryStalk$Winds;") ∈ lw_all := lw_g (lw_at lw_m2 226 rfl) rfl
theorem q581 : (Jvm.Cond.soleField "OrdinaryStalk" "winds") ∈ lw_all := lw_g (lw_at lw_m2 227 rfl) rfl
theorem q582 : (Jvm.Cond.lays "OrdinaryStalk" "OrdinaryStalk" "g" "J") ∈ lw_all := lw_g (lw_at lw_m2 228 rfl) rfl
theorem q583 : (Jvm.Cond.soleField "OrdinaryStalk" "g") ∈ lw_all := lw_g (lw_at lw_m2 229 rfl) rfl
theorem q584 : (Jvm.Cond.laysFinal "OrdinaryStalk" "OrdinaryStalk" "marks" "[LOrdinaryStalk$Mark;") ∈ lw_all := lw_g (lw_at lw_m2 230 rfl) rfl
theorem q585 : (Jvm.Cond.soleField "OrdinaryStalk" "marks") ∈ lw_all := lw_g (lw_at lw_m2 231 rfl) rfl
theorem q586 : (Jvm.Cond.superclass "OrdinaryStalk" "java/lang/Object") ∈ lw_all := lw_g (lw_at lw_m2 232 rfl) rfl
theorem q588 : (Jvm.Cond.instanceMethod ({ cls := "OrdinaryStalk", name := "feed", desc := "(JJJ)I" } : Jvm.MethodName)) ∈ lw_all := lw_g (lw_at lw_m2 234 rfl) rfl
theorem q589 : (Jvm.Cond.selects "OrdinaryStalk" ({ cls := "OrdinaryStalk", name := "feed", desc := "(JJJ)I" } : Jvm.MethodName) ({ cls := "OrdinaryStalk", name := "feed", desc := "(JJJ)I" } : Jvm.MethodName)) ∈ lw_all := lw_g (lw_at lw_m2 235 rfl) rfl
theorem q590 : (Jvm.Cond.code ({ cls := "OrdinaryStalk", name := "feed", desc := "(JJJ)I" } : Jvm.MethodName) prog_1_method_6_code (7 : Nat) (Option.some Jvm.ClassFile.FieldType.int)) ∈ lw_all := lw_g (lw_at lw_m2 236 rfl) rfl
theorem q591 : (Jvm.Cond.methodLink "OrdinaryStalk" (92 : Nat) ({ cls := "OrdinaryStalk$Reader", name := "feed", desc := "(J)V" } : Jvm.MethodName)) ∈ lw_all := lw_g (lw_at lw_m2 237 rfl) rfl
theorem q597 : (Jvm.Cond.static ({ cls := "OrdinaryStalk", name := "within", desc := "(III)Z" } : Jvm.MethodName)) ∈ lw_all := lw_g (lw_at lw_m3 3 rfl) rfl
theorem q598 : (Jvm.Cond.code ({ cls := "OrdinaryStalk", name := "within", desc := "(III)Z" } : Jvm.MethodName) prog_1_method_1_code (3 : Nat) (Option.some Jvm.ClassFile.FieldType.boolean)) ∈ lw_all := lw_g (lw_at lw_m3 4 rfl) rfl
theorem q600 : (Jvm.Cond.instanceMethod ({ cls := "OrdinaryStalk", name := "camp", desc := "()I" } : Jvm.MethodName)) ∈ lw_all := lw_g (lw_at lw_m3 6 rfl) rfl
theorem q601 : (Jvm.Cond.selects "OrdinaryStalk" ({ cls := "OrdinaryStalk", name := "camp", desc := "()I" } : Jvm.MethodName) ({ cls := "OrdinaryStalk", name := "camp", desc := "()I" } : Jvm.MethodName)) ∈ lw_all := lw_g (lw_at lw_m3 7 rfl) rfl
theorem q602 : (Jvm.Cond.codeWith ({ cls := "OrdinaryStalk", name := "camp", desc := "()I" } : Jvm.MethodName) prog_1_method_7_code (2 : Nat) (Option.some Jvm.ClassFile.FieldType.int) [((0 : Nat), (73 : Nat), (74 : Nat), (107 : Nat))]) ∈ lw_all := lw_g (lw_at lw_m3 8 rfl) rfl
theorem q603 : (Jvm.Cond.classLink "OrdinaryStalk" (107 : Nat) "OrdinaryStalk$Wrong") ∈ lw_all := lw_g (lw_at lw_m3 9 rfl) rfl
theorem q604 : (Jvm.Cond.methodLink "OrdinaryStalk" (100 : Nat) ({ cls := "OrdinaryStalk$Reader", name := "camp", desc := "()LOrdinaryStalk$Camp;" } : Jvm.MethodName)) ∈ lw_all := lw_g (lw_at lw_m3 10 rfl) rfl
theorem q801 : (Jvm.Cond.fieldLink "OrdinaryStalk" (109 : Nat) "OrdinaryStalk$Wrong" "fault" "I") ∈ lw_all := lw_g (lw_at lw_m3 207 rfl) rfl
theorem q900 : (Jvm.Cond.selects "OrdinaryStalk" ({ cls := "java/lang/Object", name := "getClass", desc := "()Ljava/lang/Class;" } : Jvm.MethodName) ({ cls := "java/lang/Object", name := "getClass", desc := "()Ljava/lang/Class;" } : Jvm.MethodName)) ∈ lw_all := lw_g (lw_at lw_m4 66 rfl) rfl
theorem q967 : (Jvm.Cond.static ({ cls := "OrdinaryStalk", name := "made", desc := "(IIII[I)LOrdinaryStalk$Person;" } : Jvm.MethodName)) ∈ lw_all := lw_g (lw_at lw_m4 133 rfl) rfl
theorem q968 : (Jvm.Cond.code ({ cls := "OrdinaryStalk", name := "made", desc := "(IIII[I)LOrdinaryStalk$Person;" } : Jvm.MethodName) prog_1_method_4_code (5 : Nat) (Option.some (Jvm.ClassFile.FieldType.object "OrdinaryStalk$Person"))) ∈ lw_all := lw_g (lw_at lw_m4 134 rfl) rfl
theorem q969 : (Jvm.Cond.classLink "OrdinaryStalk" (1 : Nat) "OrdinaryStalk$Postman") ∈ lw_all := lw_g (lw_at lw_m4 135 rfl) rfl
theorem q971 : (Jvm.Cond.methodLink "OrdinaryStalk" (3 : Nat) ({ cls := "OrdinaryStalk$Postman", name := "<init>", desc := "(III[I)V" } : Jvm.MethodName)) ∈ lw_all := lw_g (lw_at lw_m4 137 rfl) rfl
theorem q983 : (Jvm.Cond.fieldLink "OrdinaryStalk" (165 : Nat) "OrdinaryStalk$Person" "ears" "I") ∈ lw_all := lw_g (lw_at lw_m4 149 rfl) rfl
theorem q987 : (Jvm.Cond.fieldLink "OrdinaryStalk" (168 : Nat) "OrdinaryStalk$Person" "marks" "I") ∈ lw_all := lw_g (lw_at lw_m4 153 rfl) rfl
theorem q998 : (Jvm.Cond.classLink "OrdinaryStalk" (7 : Nat) "OrdinaryStalk$Stag") ∈ lw_all := lw_g (lw_at lw_m4 164 rfl) rfl
theorem q1000 : (Jvm.Cond.methodLink "OrdinaryStalk" (9 : Nat) ({ cls := "OrdinaryStalk$Stag", name := "<init>", desc := "(III[I)V" } : Jvm.MethodName)) ∈ lw_all := lw_g (lw_at lw_m4 166 rfl) rfl
theorem q1009 : (Jvm.Cond.classLink "OrdinaryStalk" (10 : Nat) "OrdinaryStalk$Clerk") ∈ lw_all := lw_g (lw_at lw_m4 175 rfl) rfl
theorem q1011 : (Jvm.Cond.methodLink "OrdinaryStalk" (12 : Nat) ({ cls := "OrdinaryStalk$Clerk", name := "<init>", desc := "(III[I)V" } : Jvm.MethodName)) ∈ lw_all := lw_g (lw_at lw_m4 177 rfl) rfl
theorem q1020 : (Jvm.Cond.classLink "OrdinaryStalk" (13 : Nat) "OrdinaryStalk$Person") ∈ lw_all := lw_g (lw_at lw_m4 186 rfl) rfl
theorem q1022 : (Jvm.Cond.methodLink "OrdinaryStalk" (15 : Nat) ({ cls := "OrdinaryStalk$Person", name := "<init>", desc := "(III[I)V" } : Jvm.MethodName)) ∈ lw_all := lw_g (lw_at lw_m4 188 rfl) rfl
theorem q1037 : (Jvm.Cond.static ({ cls := "OrdinaryStalk", name := "has", desc := "(II)Z" } : Jvm.MethodName)) ∈ lw_all := lw_g (lw_at lw_m4 203 rfl) rfl
theorem q1038 : (Jvm.Cond.code ({ cls := "OrdinaryStalk", name := "has", desc := "(II)Z" } : Jvm.MethodName) prog_1_method_2_code (2 : Nat) (Option.some Jvm.ClassFile.FieldType.boolean)) ∈ lw_all := lw_g (lw_at lw_m4 204 rfl) rfl
theorem q1188 : (Jvm.Cond.methodLink "OrdinaryStalk" (104 : Nat) ({ cls := "java/util/ArrayList", name := "clear", desc := "()V" } : Jvm.MethodName)) ∈ lw_all := lw_g (lw_at lw_m5 114 rfl) rfl
theorem q1193 : (Jvm.Cond.instanceMethod ({ cls := "OrdinaryStalk", name := "day", desc := "()I" } : Jvm.MethodName)) ∈ lw_all := lw_g (lw_at lw_m5 119 rfl) rfl
theorem q1194 : (Jvm.Cond.selects "OrdinaryStalk" ({ cls := "OrdinaryStalk", name := "day", desc := "()I" } : Jvm.MethodName) ({ cls := "OrdinaryStalk", name := "day", desc := "()I" } : Jvm.MethodName)) ∈ lw_all := lw_g (lw_at lw_m5 120 rfl) rfl
theorem q1195 : (Jvm.Cond.codeWith ({ cls := "OrdinaryStalk", name := "day", desc := "()I" } : Jvm.MethodName) prog_1_method_8_code (2 : Nat) (Option.some Jvm.ClassFile.FieldType.int) [((0 : Nat), (16 : Nat), (17 : Nat), (107 : Nat))]) ∈ lw_all := lw_g (lw_at lw_m5 121 rfl) rfl
theorem q1196 : (Jvm.Cond.methodLink "OrdinaryStalk" (112 : Nat) ({ cls := "OrdinaryStalk", name := "now", desc := "()LOrdinaryStalk$Camp;" } : Jvm.MethodName)) ∈ lw_all := lw_g (lw_at lw_m5 122 rfl) rfl
theorem q1197 : (Jvm.Cond.privateMethod ({ cls := "OrdinaryStalk", name := "now", desc := "()LOrdinaryStalk$Camp;" } : Jvm.MethodName)) ∈ lw_tbl := lw_at lw_m5 123 rfl
theorem q1198 : (Jvm.Cond.instanceMethod ({ cls := "OrdinaryStalk", name := "now", desc := "()LOrdinaryStalk$Camp;" } : Jvm.MethodName)) ∈ lw_all := lw_g (lw_at lw_m5 124 rfl) rfl
theorem q1199 : (Jvm.Cond.code ({ cls := "OrdinaryStalk", name := "now", desc := "()LOrdinaryStalk$Camp;" } : Jvm.MethodName) prog_1_method_9_code (1 : Nat) (Option.some (Jvm.ClassFile.FieldType.object "OrdinaryStalk$Camp"))) ∈ lw_all := lw_g (lw_at lw_m5 125 rfl) rfl
theorem q1200 : (Jvm.Cond.methodLink "OrdinaryStalk" (115 : Nat) ({ cls := "OrdinaryStalk$Reader", name := "day", desc := "(LOrdinaryStalk$Camp;)Ljava/util/ArrayList;" } : Jvm.MethodName)) ∈ lw_all := lw_g (lw_at lw_m5 126 rfl) rfl
theorem q1248 : (Jvm.Cond.instanceMethod ({ cls := "OrdinaryStalk", name := "person", desc := "(II)I" } : Jvm.MethodName)) ∈ lw_all := lw_g (lw_at lw_m5 174 rfl) rfl
theorem q1249 : (Jvm.Cond.selects "OrdinaryStalk" ({ cls := "OrdinaryStalk", name := "person", desc := "(II)I" } : Jvm.MethodName) ({ cls := "OrdinaryStalk", name := "person", desc := "(II)I" } : Jvm.MethodName)) ∈ lw_all := lw_g (lw_at lw_m5 175 rfl) rfl
theorem q1250 : (Jvm.Cond.code ({ cls := "OrdinaryStalk", name := "person", desc := "(II)I" } : Jvm.MethodName) prog_1_method_15_code (4 : Nat) (Option.some Jvm.ClassFile.FieldType.int)) ∈ lw_all := lw_g (lw_at lw_m5 176 rfl) rfl
theorem q1251 : (Jvm.Cond.methodLink "OrdinaryStalk" (151 : Nat) ({ cls := "OrdinaryStalk", name := "isPerson", desc := "(I)Z" } : Jvm.MethodName)) ∈ lw_all := lw_g (lw_at lw_m5 177 rfl) rfl
theorem q1252 : (Jvm.Cond.privateMethod ({ cls := "OrdinaryStalk", name := "isPerson", desc := "(I)Z" } : Jvm.MethodName)) ∈ lw_tbl := lw_at lw_m5 178 rfl
theorem q1253 : (Jvm.Cond.instanceMethod ({ cls := "OrdinaryStalk", name := "isPerson", desc := "(I)Z" } : Jvm.MethodName)) ∈ lw_all := lw_g (lw_at lw_m5 179 rfl) rfl
theorem q1254 : (Jvm.Cond.code ({ cls := "OrdinaryStalk", name := "isPerson", desc := "(I)Z" } : Jvm.MethodName) prog_1_method_12_code (2 : Nat) (Option.some Jvm.ClassFile.FieldType.boolean)) ∈ lw_all := lw_g (lw_at lw_m5 180 rfl) rfl
theorem q1255 : (Jvm.Cond.methodLink "OrdinaryStalk" (132 : Nat) ({ cls := "OrdinaryStalk", name := "people", desc := "()I" } : Jvm.MethodName)) ∈ lw_all := lw_g (lw_at lw_m5 181 rfl) rfl
theorem q1256 : (Jvm.Cond.privateMethod ({ cls := "OrdinaryStalk", name := "people", desc := "()I" } : Jvm.MethodName)) ∈ lw_tbl := lw_at lw_m5 182 rfl
theorem q1257 : (Jvm.Cond.instanceMethod ({ cls := "OrdinaryStalk", name := "people", desc := "()I" } : Jvm.MethodName)) ∈ lw_all := lw_g (lw_at lw_m5 183 rfl) rfl
theorem q1258 : (Jvm.Cond.code ({ cls := "OrdinaryStalk", name := "people", desc := "()I" } : Jvm.MethodName) prog_1_method_10_code (1 : Nat) (Option.some Jvm.ClassFile.FieldType.int)) ∈ lw_all := lw_g (lw_at lw_m5 184 rfl) rfl
theorem q1259 : (Jvm.Cond.methodLink "OrdinaryStalk" (125 : Nat) ({ cls := "java/util/ArrayList", name := "size", desc := "()I" } : Jvm.MethodName)) ∈ lw_all := lw_g (lw_at lw_m5 185 rfl) rfl
theorem q1260 : (Jvm.Cond.methodLink "OrdinaryStalk" (134 : Nat) ({ cls := "OrdinaryStalk", name := "within", desc := "(III)Z" } : Jvm.MethodName)) ∈ lw_all := lw_g (lw_at lw_m5 186 rfl) rfl
theorem q1261 : (Jvm.Cond.methodLink "OrdinaryStalk" (154 : Nat) ({ cls := "OrdinaryStalk$Hunt", name := "of", desc := "(I)LOrdinaryStalk$Person;" } : Jvm.MethodName)) ∈ lw_all := lw_g (lw_at lw_m5 187 rfl) rfl
theorem q1262 : (Jvm.Cond.methodLink "OrdinaryStalk" (158 : Nat) ({ cls := "OrdinaryStalk$Person", name := "kind", desc := "()I" } : Jvm.MethodName)) ∈ lw_all := lw_g (lw_at lw_m5 188 rfl) rfl
theorem q1276 : (Jvm.Cond.methodLink "OrdinaryStalk" (147 : Nat) ({ cls := "OrdinaryStalk", name := "has", desc := "(II)Z" } : Jvm.MethodName)) ∈ lw_all := lw_g (lw_at lw_m5 202 rfl) rfl
theorem q1278 : (Jvm.Cond.instanceMethod ({ cls := "OrdinaryStalk", name := "scout", desc := "(II)I" } : Jvm.MethodName)) ∈ lw_all := lw_g (lw_at lw_m5 204 rfl) rfl
theorem q1279 : (Jvm.Cond.selects "OrdinaryStalk" ({ cls := "OrdinaryStalk", name := "scout", desc := "(II)I" } : Jvm.MethodName) ({ cls := "OrdinaryStalk", name := "scout", desc := "(II)I" } : Jvm.MethodName)) ∈ lw_all := lw_g (lw_at lw_m5 205 rfl) rfl
theorem q1280 : (Jvm.Cond.code ({ cls := "OrdinaryStalk", name := "scout", desc := "(II)I" } : Jvm.MethodName) prog_1_method_16_code (3 : Nat) (Option.some Jvm.ClassFile.FieldType.int)) ∈ lw_all := lw_g (lw_at lw_m5 206 rfl) rfl
theorem q1281 : (Jvm.Cond.methodLink "OrdinaryStalk" (140 : Nat) ({ cls := "OrdinaryStalk", name := "isScout", desc := "(I)Z" } : Jvm.MethodName)) ∈ lw_all := lw_g (lw_at lw_m5 207 rfl) rfl
theorem q1282 : (Jvm.Cond.privateMethod ({ cls := "OrdinaryStalk", name := "isScout", desc := "(I)Z" } : Jvm.MethodName)) ∈ lw_tbl := lw_at lw_m5 208 rfl
theorem q1283 : (Jvm.Cond.instanceMethod ({ cls := "OrdinaryStalk", name := "isScout", desc := "(I)Z" } : Jvm.MethodName)) ∈ lw_all := lw_g (lw_at lw_m5 209 rfl) rfl
theorem q1284 : (Jvm.Cond.code ({ cls := "OrdinaryStalk", name := "isScout", desc := "(I)Z" } : Jvm.MethodName) prog_1_method_13_code (2 : Nat) (Option.some Jvm.ClassFile.FieldType.boolean)) ∈ lw_all := lw_g (lw_at lw_m5 210 rfl) rfl
theorem q1285 : (Jvm.Cond.methodLink "OrdinaryStalk" (138 : Nat) ({ cls := "OrdinaryStalk", name := "scouts", desc := "()I" } : Jvm.MethodName)) ∈ lw_all := lw_g (lw_at lw_m5 211 rfl) rfl
theorem q1286 : (Jvm.Cond.privateMethod ({ cls := "OrdinaryStalk", name := "scouts", desc := "()I" } : Jvm.MethodName)) ∈ lw_tbl := lw_at lw_m5 212 rfl
theorem q1287 : (Jvm.Cond.instanceMethod ({ cls := "OrdinaryStalk", name := "scouts", desc := "()I" } : Jvm.MethodName)) ∈ lw_all := lw_g (lw_at lw_m5 213 rfl) rfl
theorem q1288 : (Jvm.Cond.code ({ cls := "OrdinaryStalk", name := "scouts", desc := "()I" } : Jvm.MethodName) prog_1_method_11_code (1 : Nat) (Option.some Jvm.ClassFile.FieldType.int)) ∈ lw_all := lw_g (lw_at lw_m5 214 rfl) rfl
theorem q1289 : (Jvm.Cond.methodLink "OrdinaryStalk" (182 : Nat) ({ cls := "OrdinaryStalk$Camp", name := "isBush", desc := "(I)Z" } : Jvm.MethodName)) ∈ lw_all := lw_g (lw_at lw_m5 215 rfl) rfl
theorem q1294 : (Jvm.Cond.instanceMethod ({ cls := "OrdinaryStalk", name := "creep", desc := "(II)I" } : Jvm.MethodName)) ∈ lw_all := lw_g (lw_at lw_m5 220 rfl) rfl
theorem q1295 : (Jvm.Cond.selects "OrdinaryStalk" ({ cls := "OrdinaryStalk", name := "creep", desc := "(II)I" } : Jvm.MethodName) ({ cls := "OrdinaryStalk", name := "creep", desc := "(II)I" } : Jvm.MethodName)) ∈ lw_all := lw_g (lw_at lw_m5 221 rfl) rfl
theorem q1296 : (Jvm.Cond.code ({ cls := "OrdinaryStalk", name := "creep", desc := "(II)I" } : Jvm.MethodName) prog_1_method_18_code (3 : Nat) (Option.some Jvm.ClassFile.FieldType.int)) ∈ lw_all := lw_g (lw_at lw_m5 222 rfl) rfl
theorem q1297 : (Jvm.Cond.methodLink "OrdinaryStalk" (197 : Nat) ({ cls := "OrdinaryStalk$Hunt", name := "mayCreep", desc := "(II)Z" } : Jvm.MethodName)) ∈ lw_all := lw_g (lw_at lw_m5 223 rfl) rfl
theorem q1306 : (Jvm.Cond.methodLink "OrdinaryStalk" (200 : Nat) ({ cls := "OrdinaryStalk", name := "keep", desc := "()V" } : Jvm.MethodName)) ∈ lw_all := lw_g (lw_at lw_m5 232 rfl) rfl
theorem q1307 : (Jvm.Cond.privateMethod ({ cls := "OrdinaryStalk", name := "keep", desc := "()V" } : Jvm.MethodName)) ∈ lw_tbl := lw_at lw_m5 233 rfl
theorem q1308 : (Jvm.Cond.instanceMethod ({ cls := "OrdinaryStalk", name := "keep", desc := "()V" } : Jvm.MethodName)) ∈ lw_all := lw_g (lw_at lw_m5 234 rfl) rfl
theorem q1309 : (Jvm.Cond.code ({ cls := "OrdinaryStalk", name := "keep", desc := "()V" } : Jvm.MethodName) prog_1_method_17_code (1 : Nat) (Option.none : Option Jvm.ClassFile.FieldType)) ∈ lw_all := lw_g (lw_at lw_m5 235 rfl) rfl
theorem q1310 : (Jvm.Cond.methodLink "OrdinaryStalk" (185 : Nat) ({ cls := "java/util/ArrayList", name := "remove", desc := "(I)Ljava/lang/Object;" } : Jvm.MethodName)) ∈ lw_all := lw_g (lw_at lw_m5 236 rfl) rfl
theorem q1319 : (Jvm.Cond.methodLink "OrdinaryStalk" (189 : Nat) ({ cls := "OrdinaryStalk$Hunt", name := "copied", desc := "()LOrdinaryStalk$Hunt;" } : Jvm.MethodName)) ∈ lw_all := lw_g (lw_at lw_m6 5 rfl) rfl
theorem q1330 : (Jvm.Cond.methodLink "OrdinaryStalk" (193 : Nat) ({ cls := "java/util/ArrayList", name := "add", desc := "(Ljava/lang/Object;)Z" } : Jvm.MethodName)) ∈ lw_all := lw_g (lw_at lw_m6 16 rfl) rfl
theorem q1331 : (Jvm.Cond.methodLink "OrdinaryStalk" (203 : Nat) ({ cls := "OrdinaryStalk$Hunt", name := "creeps", desc := "(II)V" } : Jvm.MethodName)) ∈ lw_all := lw_g (lw_at lw_m6 17 rfl) rfl
theorem q1336 : (Jvm.Cond.instanceMethod ({ cls := "OrdinaryStalk", name := "off", desc := "(I)Z" } : Jvm.MethodName)) ∈ lw_all := lw_g (lw_at lw_m6 22 rfl) rfl
theorem q1337 : (Jvm.Cond.selects "OrdinaryStalk" ({ cls := "OrdinaryStalk", name := "off", desc := "(I)Z" } : Jvm.MethodName) ({ cls := "OrdinaryStalk", name := "off", desc := "(I)Z" } : Jvm.MethodName)) ∈ lw_all := lw_g (lw_at lw_m6 23 rfl) rfl
theorem q1338 : (Jvm.Cond.code ({ cls := "OrdinaryStalk", name := "off", desc := "(I)Z" } : Jvm.MethodName) prog_1_method_19_code (2 : Nat) (Option.some Jvm.ClassFile.FieldType.boolean)) ∈ lw_all := lw_g (lw_at lw_m6 24 rfl) rfl
theorem q1339 : (Jvm.Cond.methodLink "OrdinaryStalk" (207 : Nat) ({ cls := "OrdinaryStalk", name := "isOut", desc := "(I)Z" } : Jvm.MethodName)) ∈ lw_all := lw_g (lw_at lw_m6 25 rfl) rfl
theorem q1340 : (Jvm.Cond.privateMethod ({ cls := "OrdinaryStalk", name := "isOut", desc := "(I)Z" } : Jvm.MethodName)) ∈ lw_tbl := lw_at lw_m6 26 rfl
theorem q1341 : (Jvm.Cond.instanceMethod ({ cls := "OrdinaryStalk", name := "isOut", desc := "(I)Z" } : Jvm.MethodName)) ∈ lw_all := lw_g (lw_at lw_m6 27 rfl) rfl
theorem q1342 : (Jvm.Cond.code ({ cls := "OrdinaryStalk", name := "isOut", desc := "(I)Z" } : Jvm.MethodName) prog_1_method_14_code (2 : Nat) (Option.some Jvm.ClassFile.FieldType.boolean)) ∈ lw_all := lw_g (lw_at lw_m6 28 rfl) rfl
theorem q1344 : (Jvm.Cond.instanceMethod ({ cls := "OrdinaryStalk", name := "step", desc := "()I" } : Jvm.MethodName)) ∈ lw_all := lw_g (lw_at lw_m6 30 rfl) rfl
theorem q1345 : (Jvm.Cond.selects "OrdinaryStalk" ({ cls := "OrdinaryStalk", name := "step", desc := "()I" } : Jvm.MethodName) ({ cls := "OrdinaryStalk", name := "step", desc := "()I" } : Jvm.MethodName)) ∈ lw_all := lw_g (lw_at lw_m6 31 rfl) rfl
theorem q1346 : (Jvm.Cond.code ({ cls := "OrdinaryStalk", name := "step", desc := "()I" } : Jvm.MethodName) prog_1_method_20_code (1 : Nat) (Option.some Jvm.ClassFile.FieldType.int)) ∈ lw_all := lw_g (lw_at lw_m6 32 rfl) rfl
theorem q1347 : (Jvm.Cond.methodLink "OrdinaryStalk" (210 : Nat) ({ cls := "OrdinaryStalk$Hunt", name := "passes", desc := "()I" } : Jvm.MethodName)) ∈ lw_all := lw_g (lw_at lw_m6 33 rfl) rfl
theorem q1484 : (Jvm.Cond.instanceMethod ({ cls := "OrdinaryStalk", name := "undo", desc := "()Z" } : Jvm.MethodName)) ∈ lw_all := lw_g (lw_at lw_m6 170 rfl) rfl
theorem q1485 : (Jvm.Cond.selects "OrdinaryStalk" ({ cls := "OrdinaryStalk", name := "undo", desc := "()Z" } : Jvm.MethodName) ({ cls := "OrdinaryStalk", name := "undo", desc := "()Z" } : Jvm.MethodName)) ∈ lw_all := lw_g (lw_at lw_m6 171 rfl) rfl
theorem q1486 : (Jvm.Cond.code ({ cls := "OrdinaryStalk", name := "undo", desc := "()Z" } : Jvm.MethodName) prog_1_method_21_code (1 : Nat) (Option.some Jvm.ClassFile.FieldType.boolean)) ∈ lw_all := lw_g (lw_at lw_m6 172 rfl) rfl
theorem q1487 : (Jvm.Cond.methodLink "OrdinaryStalk" (213 : Nat) ({ cls := "java/util/ArrayList", name := "isEmpty", desc := "()Z" } : Jvm.MethodName)) ∈ lw_all := lw_g (lw_at lw_m6 173 rfl) rfl
theorem q1492 : (Jvm.Cond.instanceMethod ({ cls := "OrdinaryStalk", name := "judged", desc := "(I)I" } : Jvm.MethodName)) ∈ lw_all := lw_g (lw_at lw_m6 178 rfl) rfl
theorem q1493 : (Jvm.Cond.selects "OrdinaryStalk" ({ cls := "OrdinaryStalk", name := "judged", desc := "(I)I" } : Jvm.MethodName) ({ cls := "OrdinaryStalk", name := "judged", desc := "(I)I" } : Jvm.MethodName)) ∈ lw_all := lw_g (lw_at lw_m6 179 rfl) rfl
theorem q1494 : (Jvm.Cond.code ({ cls := "OrdinaryStalk", name := "judged", desc := "(I)I" } : Jvm.MethodName) prog_1_method_22_code (6 : Nat) (Option.some Jvm.ClassFile.FieldType.int)) ∈ lw_all := lw_g (lw_at lw_m6 180 rfl) rfl
theorem q1495 : (Jvm.Cond.methodLink "OrdinaryStalk" (217 : Nat) ({ cls := "java/util/ArrayList", name := "get", desc := "(I)Ljava/lang/Object;" } : Jvm.MethodName)) ∈ lw_all := lw_g (lw_at lw_m6 181 rfl) rfl
theorem q1496 : (Jvm.Cond.classLink "OrdinaryStalk" (220 : Nat) "OrdinaryStalk$Line") ∈ lw_all := lw_g (lw_at lw_m6 182 rfl) rfl
theorem q1497 : (Jvm.Cond.methodLink "OrdinaryStalk" (222 : Nat) ({ cls := "OrdinaryStalk$Line", name := "isDone", desc := "(LOrdinaryStalk$Hunt;)Z" } : Jvm.MethodName)) ∈ lw_all := lw_g (lw_at lw_m6 183 rfl) rfl
theorem q1514 : (Jvm.Cond.instanceMethod ({ cls := "OrdinaryStalk", name := "later", desc := "(II)I" } : Jvm.MethodName)) ∈ lw_all := lw_g (lw_at lw_m6 200 rfl) rfl
theorem q1515 : (Jvm.Cond.selects "OrdinaryStalk" ({ cls := "OrdinaryStalk", name := "later", desc := "(II)I" } : Jvm.MethodName) ({ cls := "OrdinaryStalk", name := "later", desc := "(II)I" } : Jvm.MethodName)) ∈ lw_all := lw_g (lw_at lw_m6 201 rfl) rfl
theorem q1516 : (Jvm.Cond.code ({ cls := "OrdinaryStalk", name := "later", desc := "(II)I" } : Jvm.MethodName) prog_1_method_23_code (4 : Nat) (Option.some Jvm.ClassFile.FieldType.int)) ∈ lw_all := lw_g (lw_at lw_m6 202 rfl) rfl
theorem q1517 : (Jvm.Cond.methodLink "OrdinaryStalk" (227 : Nat) ({ cls := "OrdinaryStalk$Hunt", name := "copies", desc := "(LOrdinaryStalk$Hunt;)LOrdinaryStalk$Hunt;" } : Jvm.MethodName)) ∈ lw_all := lw_g (lw_at lw_m6 203 rfl) rfl
theorem q1519 : (Jvm.Cond.instanceMethod ({ cls := "OrdinaryStalk", name := "meets", desc := "(II)I" } : Jvm.MethodName)) ∈ lw_all := lw_g (lw_at lw_m6 205 rfl) rfl
theorem q1520 : (Jvm.Cond.selects "OrdinaryStalk" ({ cls := "OrdinaryStalk", name := "meets", desc := "(II)I" } : Jvm.MethodName) ({ cls := "OrdinaryStalk", name := "meets", desc := "(II)I" } : Jvm.MethodName)) ∈ lw_all := lw_g (lw_at lw_m6 206 rfl) rfl
theorem q1521 : (Jvm.Cond.code ({ cls := "OrdinaryStalk", name := "meets", desc := "(II)I" } : Jvm.MethodName) prog_1_method_24_code (4 : Nat) (Option.some Jvm.ClassFile.FieldType.int)) ∈ lw_all := lw_g (lw_at lw_m6 207 rfl) rfl
theorem q1523 : (Jvm.Cond.instanceMethod ({ cls := "OrdinaryStalk", name := "camped", desc := "()I" } : Jvm.MethodName)) ∈ lw_all := lw_g (lw_at lw_m6 209 rfl) rfl
theorem q1524 : (Jvm.Cond.selects "OrdinaryStalk" ({ cls := "OrdinaryStalk", name := "camped", desc := "()I" } : Jvm.MethodName) ({ cls := "OrdinaryStalk", name := "camped", desc := "()I" } : Jvm.MethodName)) ∈ lw_all := lw_g (lw_at lw_m6 210 rfl) rfl
theorem q1525 : (Jvm.Cond.code ({ cls := "OrdinaryStalk", name := "camped", desc := "()I" } : Jvm.MethodName) prog_1_method_25_code (3 : Nat) (Option.some Jvm.ClassFile.FieldType.int)) ∈ lw_all := lw_g (lw_at lw_m6 211 rfl) rfl
theorem q1526 : (Jvm.Cond.methodLinkNest "OrdinaryStalk" (231 : Nat) ({ cls := "OrdinaryStalk$Hunt", name := "walk", desc := "()V" } : Jvm.MethodName) "OrdinaryStalk") ∈ lw_tbl := lw_at lw_m6 212 rfl
theorem q1528 : (Jvm.Cond.instanceMethod ({ cls := "OrdinaryStalk", name := "would", desc := "(II)I" } : Jvm.MethodName)) ∈ lw_all := lw_g (lw_at lw_m6 214 rfl) rfl
theorem q1529 : (Jvm.Cond.selects "OrdinaryStalk" ({ cls := "OrdinaryStalk", name := "would", desc := "(II)I" } : Jvm.MethodName) ({ cls := "OrdinaryStalk", name := "would", desc := "(II)I" } : Jvm.MethodName)) ∈ lw_all := lw_g (lw_at lw_m6 215 rfl) rfl
theorem q1530 : (Jvm.Cond.code ({ cls := "OrdinaryStalk", name := "would", desc := "(II)I" } : Jvm.MethodName) prog_1_method_27_code (3 : Nat) (Option.some Jvm.ClassFile.FieldType.int)) ∈ lw_all := lw_g (lw_at lw_m6 216 rfl) rfl
theorem q1531 : (Jvm.Cond.methodLink "OrdinaryStalk" (248 : Nat) ({ cls := "OrdinaryStalk", name := "hearing", desc := "(I)I" } : Jvm.MethodName)) ∈ lw_all := lw_g (lw_at lw_m6 217 rfl) rfl
theorem q1532 : (Jvm.Cond.privateMethod ({ cls := "OrdinaryStalk", name := "hearing", desc := "(I)I" } : Jvm.MethodName)) ∈ lw_tbl := lw_at lw_m6 218 rfl
theorem q1533 : (Jvm.Cond.instanceMethod ({ cls := "OrdinaryStalk", name := "hearing", desc := "(I)I" } : Jvm.MethodName)) ∈ lw_all := lw_g (lw_at lw_m6 219 rfl) rfl
theorem q1534 : (Jvm.Cond.code ({ cls := "OrdinaryStalk", name := "hearing", desc := "(I)I" } : Jvm.MethodName) prog_1_method_26_code (4 : Nat) (Option.some Jvm.ClassFile.FieldType.int)) ∈ lw_all := lw_g (lw_at lw_m6 220 rfl) rfl
theorem q1535 : (Jvm.Cond.methodLink "OrdinaryStalk" (241 : Nat) ({ cls := "OrdinaryStalk$Camp", name := "wind", desc := "(I)I" } : Jvm.MethodName)) ∈ lw_all := lw_g (lw_at lw_m6 221 rfl) rfl
theorem q1536 : (Jvm.Cond.methodLink "OrdinaryStalk" (245 : Nat) ({ cls := "OrdinaryStalk$Hunt", name := "hears", desc := "(III)Z" } : Jvm.MethodName)) ∈ lw_all := lw_g (lw_at lw_m6 222 rfl) rfl
theorem q1538 : (Jvm.Cond.instanceMethod ({ cls := "OrdinaryStalk", name := "quiet", desc := "(II)I" } : Jvm.MethodName)) ∈ lw_all := lw_g (lw_at lw_m6 224 rfl) rfl
theorem q1539 : (Jvm.Cond.selects "OrdinaryStalk" ({ cls := "OrdinaryStalk", name := "quiet", desc := "(II)I" } : Jvm.MethodName) ({ cls := "OrdinaryStalk", name := "quiet", desc := "(II)I" } : Jvm.MethodName)) ∈ lw_all := lw_g (lw_at lw_m6 225 rfl) rfl
theorem q1540 : (Jvm.Cond.code ({ cls := "OrdinaryStalk", name := "quiet", desc := "(II)I" } : Jvm.MethodName) prog_1_method_28_code (6 : Nat) (Option.some Jvm.ClassFile.FieldType.int)) ∈ lw_all := lw_g (lw_at lw_m6 226 rfl) rfl
theorem q1541 : (Jvm.Cond.methodLink "OrdinaryStalk" (251 : Nat) ({ cls := "OrdinaryStalk$Camp", name := "cells", desc := "()I" } : Jvm.MethodName)) ∈ lw_all := lw_g (lw_at lw_m6 227 rfl) rfl
theorem q1543 : (Jvm.Cond.instanceMethod ({ cls := "OrdinaryStalk", name := "bush", desc := "(I)I" } : Jvm.MethodName)) ∈ lw_all := lw_g (lw_at lw_m6 229 rfl) rfl
theorem q1544 : (Jvm.Cond.selects "OrdinaryStalk" ({ cls := "OrdinaryStalk", name := "bush", desc := "(I)I" } : Jvm.MethodName) ({ cls := "OrdinaryStalk", name := "bush", desc := "(I)I" } : Jvm.MethodName)) ∈ lw_all := lw_g (lw_at lw_m6 230 rfl) rfl
theorem q1545 : (Jvm.Cond.code ({ cls := "OrdinaryStalk", name := "bush", desc := "(I)I" } : Jvm.MethodName) prog_1_method_29_code (5 : Nat) (Option.some Jvm.ClassFile.FieldType.int)) ∈ lw_all := lw_g (lw_at lw_m6 231 rfl) rfl
theorem q1546 : (Jvm.Cond.methodLink "OrdinaryStalk" (254 : Nat) ({ cls := "OrdinaryStalk$Camp", name := "far", desc := "(II)I" } : Jvm.MethodName)) ∈ lw_all := lw_g (lw_at lw_m6 232 rfl) rfl
theorem q1548 : (Jvm.Cond.instanceMethod ({ cls := "OrdinaryStalk", name := "shortest", desc := "(II)I" } : Jvm.MethodName)) ∈ lw_all := lw_g (lw_at lw_m6 234 rfl) rfl
theorem q1549 : (Jvm.Cond.selects "OrdinaryStalk" ({ cls := "OrdinaryStalk", name := "shortest", desc := "(II)I" } : Jvm.MethodName) ({ cls := "OrdinaryStalk", name := "shortest", desc := "(II)I" } : Jvm.MethodName)) ∈ lw_all := lw_g (lw_at lw_m6 235 rfl) rfl
theorem q1550 : (Jvm.Cond.code ({ cls := "OrdinaryStalk", name := "shortest", desc := "(II)I" } : Jvm.MethodName) prog_1_method_31_code (3 : Nat) (Option.some Jvm.ClassFile.FieldType.int)) ∈ lw_all := lw_g (lw_at lw_m6 236 rfl) rfl
theorem q1551 : (Jvm.Cond.methodLink "OrdinaryStalk" (258 : Nat) ({ cls := "OrdinaryStalk", name := "mayGet", desc := "(II)Z" } : Jvm.MethodName)) ∈ lw_all := lw_g (lw_at lw_m6 237 rfl) rfl
theorem q1552 : (Jvm.Cond.privateMethod ({ cls := "OrdinaryStalk", name := "mayGet", desc := "(II)Z" } : Jvm.MethodName)) ∈ lw_tbl := lw_at lw_m6 238 rfl
theorem q1553 : (Jvm.Cond.instanceMethod ({ cls := "OrdinaryStalk", name := "mayGet", desc := "(II)Z" } : Jvm.MethodName)) ∈ lw_all := lw_g (lw_at lw_m6 239 rfl) rfl
theorem q1554 : (Jvm.Cond.code ({ cls := "OrdinaryStalk", name := "mayGet", desc := "(II)Z" } : Jvm.MethodName) prog_1_method_30_code (3 : Nat) (Option.some Jvm.ClassFile.FieldType.boolean)) ∈ lw_all := lw_g (lw_at lw_m7 0 rfl) rfl
theorem q1555 : (Jvm.Cond.methodLink "OrdinaryStalk" (261 : Nat) ({ cls := "OrdinaryStalk$Chase", name := "finds", desc := "(III)I" } : Jvm.MethodName)) ∈ lw_all := lw_g (lw_at lw_m7 1 rfl) rfl
theorem q1578 : (Jvm.Cond.instanceMethod ({ cls := "OrdinaryStalk", name := "first", desc := "(II)I" } : Jvm.MethodName)) ∈ lw_all := lw_g (lw_at lw_m7 24 rfl) rfl
theorem q1579 : (Jvm.Cond.selects "OrdinaryStalk" ({ cls := "OrdinaryStalk", name := "first", desc := "(II)I" } : Jvm.MethodName) ({ cls := "OrdinaryStalk", name := "first", desc := "(II)I" } : Jvm.MethodName)) ∈ lw_all := lw_g (lw_at lw_m7 25 rfl) rfl
theorem q1580 : (Jvm.Cond.code ({ cls := "OrdinaryStalk", name := "first", desc := "(II)I" } : Jvm.MethodName) prog_1_method_32_code (5 : Nat) (Option.some Jvm.ClassFile.FieldType.int)) ∈ lw_all := lw_g (lw_at lw_m7 26 rfl) rfl
theorem q1581 : (Jvm.Cond.methodLink "OrdinaryStalk" (265 : Nat) ({ cls := "OrdinaryStalk", name := "shortest", desc := "(II)I" } : Jvm.MethodName)) ∈ lw_all := lw_g (lw_at lw_m7 27 rfl) rfl
theorem q1583 : (Jvm.Cond.instanceMethod ({ cls := "OrdinaryStalk", name := "soonest", desc := "(I)I" } : Jvm.MethodName)) ∈ lw_all := lw_g (lw_at lw_m7 29 rfl) rfl
theorem q1584 : (Jvm.Cond.selects "OrdinaryStalk" ({ cls := "OrdinaryStalk", name := "soonest", desc := "(I)I" } : Jvm.MethodName) ({ cls := "OrdinaryStalk", name := "soonest", desc := "(I)I" } : Jvm.MethodName)) ∈ lw_all := lw_g (lw_at lw_m7 30 rfl) rfl
theorem q1585 : (Jvm.Cond.code ({ cls := "OrdinaryStalk", name := "soonest", desc := "(I)I" } : Jvm.MethodName) prog_1_method_33_code (6 : Nat) (Option.some Jvm.ClassFile.FieldType.int)) ∈ lw_all := lw_g (lw_at lw_m7 31 rfl) rfl
theorem q1587 : (Jvm.Cond.instanceMethod ({ cls := "OrdinaryStalk", name := "worth", desc := "(I)I" } : Jvm.MethodName)) ∈ lw_all := lw_g (lw_at lw_m7 33 rfl) rfl
theorem q1588 : (Jvm.Cond.selects "OrdinaryStalk" ({ cls := "OrdinaryStalk", name := "worth", desc := "(I)I" } : Jvm.MethodName) ({ cls := "OrdinaryStalk", name := "worth", desc := "(I)I" } : Jvm.MethodName)) ∈ lw_all := lw_g (lw_at lw_m7 34 rfl) rfl
theorem q1589 : (Jvm.Cond.code ({ cls := "OrdinaryStalk", name := "worth", desc := "(I)I" } : Jvm.MethodName) prog_1_method_34_code (6 : Nat) (Option.some Jvm.ClassFile.FieldType.int)) ∈ lw_all := lw_g (lw_at lw_m7 35 rfl) rfl
theorem q1591 : (Jvm.Cond.instanceMethod ({ cls := "OrdinaryStalk", name := "team", desc := "(II)I" } : Jvm.MethodName)) ∈ lw_all := lw_g (lw_at lw_m7 37 rfl) rfl
theorem q1592 : (Jvm.Cond.selects "OrdinaryStalk" ({ cls := "OrdinaryStalk", name := "team", desc := "(II)I" } : Jvm.MethodName) ({ cls := "OrdinaryStalk", name := "team", desc := "(II)I" } : Jvm.MethodName)) ∈ lw_all := lw_g (lw_at lw_m7 38 rfl) rfl
theorem q1593 : (Jvm.Cond.code ({ cls := "OrdinaryStalk", name := "team", desc := "(II)I" } : Jvm.MethodName) prog_1_method_35_code (3 : Nat) (Option.some Jvm.ClassFile.FieldType.int)) ∈ lw_all := lw_g (lw_at lw_m7 39 rfl) rfl
theorem q1594 : (Jvm.Cond.methodLink "OrdinaryStalk" (268 : Nat) ({ cls := "OrdinaryStalk$Teams", name := "finds", desc := "(I)LOrdinaryStalk$Teams;" } : Jvm.MethodName)) ∈ lw_all := lw_g (lw_at lw_m7 40 rfl) rfl
theorem q1609 : (Jvm.Cond.instanceMethod ({ cls := "OrdinaryStalk", name := "alike", desc := "()I" } : Jvm.MethodName)) ∈ lw_all := lw_g (lw_at lw_m7 55 rfl) rfl
theorem q1610 : (Jvm.Cond.selects "OrdinaryStalk" ({ cls := "OrdinaryStalk", name := "alike", desc := "()I" } : Jvm.MethodName) ({ cls := "OrdinaryStalk", name := "alike", desc := "()I" } : Jvm.MethodName)) ∈ lw_all := lw_g (lw_at lw_m7 56 rfl) rfl
theorem q1611 : (Jvm.Cond.code ({ cls := "OrdinaryStalk", name := "alike", desc := "()I" } : Jvm.MethodName) prog_1_method_36_code (6 : Nat) (Option.some Jvm.ClassFile.FieldType.int)) ∈ lw_all := lw_g (lw_at lw_m7 57 rfl) rfl
theorem q1612 : (Jvm.Cond.methodLink "OrdinaryStalk" (277 : Nat) ({ cls := "OrdinaryStalk$Person", name := "way", desc := "(I)I" } : Jvm.MethodName)) ∈ lw_all := lw_g (lw_at lw_m7 58 rfl) rfl
theorem q1614 : (Jvm.Cond.instanceMethod ({ cls := "OrdinaryStalk", name := "say", desc := "(IIZ)Z" } : Jvm.MethodName)) ∈ lw_all := lw_g (lw_at lw_m7 60 rfl) rfl
theorem q1615 : (Jvm.Cond.selects "OrdinaryStalk" ({ cls := "OrdinaryStalk", name := "say", desc := "(IIZ)Z" } : Jvm.MethodName) ({ cls := "OrdinaryStalk", name := "say", desc := "(IIZ)Z" } : Jvm.MethodName)) ∈ lw_all := lw_g (lw_at lw_m7 61 rfl) rfl
theorem q1616 : (Jvm.Cond.code ({ cls := "OrdinaryStalk", name := "say", desc := "(IIZ)Z" } : Jvm.MethodName) prog_1_method_37_code (4 : Nat) (Option.some Jvm.ClassFile.FieldType.boolean)) ∈ lw_all := lw_g (lw_at lw_m7 62 rfl) rfl
theorem q1618 : (Jvm.Cond.instanceMethod ({ cls := "OrdinaryStalk", name := "who", desc := "()I" } : Jvm.MethodName)) ∈ lw_all := lw_g (lw_at lw_m7 64 rfl) rfl
theorem q1619 : (Jvm.Cond.selects "OrdinaryStalk" ({ cls := "OrdinaryStalk", name := "who", desc := "()I" } : Jvm.MethodName) ({ cls := "OrdinaryStalk", name := "who", desc := "()I" } : Jvm.MethodName)) ∈ lw_all := lw_g (lw_at lw_m7 65 rfl) rfl
theorem q1620 : (Jvm.Cond.code ({ cls := "OrdinaryStalk", name := "who", desc := "()I" } : Jvm.MethodName) prog_1_method_39_code (5 : Nat) (Option.some Jvm.ClassFile.FieldType.int)) ∈ lw_all := lw_g (lw_at lw_m7 66 rfl) rfl
theorem q1621 : (Jvm.Cond.classLink "OrdinaryStalk" (280 : Nat) "[I") ∈ lw_all := lw_g (lw_at lw_m7 67 rfl) rfl
theorem q1622 : (Jvm.Cond.methodLink "OrdinaryStalk" (281 : Nat) ({ cls := "OrdinaryStalk", name := "walksFor", desc := "(I)V" } : Jvm.MethodName)) ∈ lw_all := lw_g (lw_at lw_m7 68 rfl) rfl
theorem q1623 : (Jvm.Cond.privateMethod ({ cls := "OrdinaryStalk", name := "walksFor", desc := "(I)V" } : Jvm.MethodName)) ∈ lw_tbl := lw_at lw_m7 69 rfl
theorem q1624 : (Jvm.Cond.instanceMethod ({ cls := "OrdinaryStalk", name := "walksFor", desc := "(I)V" } : Jvm.MethodName)) ∈ lw_all := lw_g (lw_at lw_m7 70 rfl) rfl
theorem q1625 : (Jvm.Cond.code ({ cls := "OrdinaryStalk", name := "walksFor", desc := "(I)V" } : Jvm.MethodName) prog_1_method_38_code (3 : Nat) (Option.none : Option Jvm.ClassFile.FieldType)) ∈ lw_all := lw_g (lw_at lw_m7 71 rfl) rfl
theorem q1627 : (Jvm.Cond.instanceMethod ({ cls := "OrdinaryStalk", name := "ask", desc := "()I" } : Jvm.MethodName)) ∈ lw_all := lw_g (lw_at lw_m7 73 rfl) rfl
theorem q1628 : (Jvm.Cond.selects "OrdinaryStalk" ({ cls := "OrdinaryStalk", name := "ask", desc := "()I" } : Jvm.MethodName) ({ cls := "OrdinaryStalk", name := "ask", desc := "()I" } : Jvm.MethodName)) ∈ lw_all := lw_g (lw_at lw_m7 74 rfl) rfl
theorem q1629 : (Jvm.Cond.code ({ cls := "OrdinaryStalk", name := "ask", desc := "()I" } : Jvm.MethodName) prog_1_method_40_code (8 : Nat) (Option.some Jvm.ClassFile.FieldType.int)) ∈ lw_all := lw_g (lw_at lw_m7 75 rfl) rfl
theorem q1630 : (Jvm.Cond.methodLink "OrdinaryStalk" (284 : Nat) ({ cls := "OrdinaryStalk", name := "who", desc := "()I" } : Jvm.MethodName)) ∈ lw_all := lw_g (lw_at lw_m7 76 rfl) rfl
theorem q1631 : (Jvm.Cond.methodLink "OrdinaryStalk" (287 : Nat) ({ cls := "OrdinaryStalk", name := "bits", desc := "(I)I" } : Jvm.MethodName)) ∈ lw_all := lw_g (lw_at lw_m7 77 rfl) rfl
theorem q1632 : (Jvm.Cond.static ({ cls := "OrdinaryStalk", name := "bits", desc := "(I)I" } : Jvm.MethodName)) ∈ lw_all := lw_g (lw_at lw_m7 78 rfl) rfl
theorem q1633 : (Jvm.Cond.code ({ cls := "OrdinaryStalk", name := "bits", desc := "(I)I" } : Jvm.MethodName) prog_1_method_3_code (3 : Nat) (Option.some Jvm.ClassFile.FieldType.int)) ∈ lw_all := lw_g (lw_at lw_m7 79 rfl) rfl
theorem q1634 : (Jvm.Cond.methodLink "OrdinaryStalk" (290 : Nat) ({ cls := "java/lang/Math", name := "max", desc := "(II)I" } : Jvm.MethodName)) ∈ lw_all := lw_g (lw_at lw_m7 80 rfl) rfl
theorem q1636 : (Jvm.Cond.instanceMethod ({ cls := "OrdinaryStalk", name := "chance", desc := "(II)I" } : Jvm.MethodName)) ∈ lw_all := lw_g (lw_at lw_m7 82 rfl) rfl
theorem q1637 : (Jvm.Cond.selects "OrdinaryStalk" ({ cls := "OrdinaryStalk", name := "chance", desc := "(II)I" } : Jvm.MethodName) ({ cls := "OrdinaryStalk", name := "chance", desc := "(II)I" } : Jvm.MethodName)) ∈ lw_all := lw_g (lw_at lw_m7 83 rfl) rfl
theorem q1638 : (Jvm.Cond.code ({ cls := "OrdinaryStalk", name := "chance", desc := "(II)I" } : Jvm.MethodName) prog_1_method_41_code (5 : Nat) (Option.some Jvm.ClassFile.FieldType.int)) ∈ lw_all := lw_g (lw_at lw_m7 84 rfl) rfl
theorem q1639 : (Jvm.Cond.methodLink "OrdinaryStalk" (295 : Nat) ({ cls := "OrdinaryStalk$Winds", name := "finds", desc := "(II)LOrdinaryStalk$Winds;" } : Jvm.MethodName)) ∈ lw_all := lw_g (lw_at lw_m7 85 rfl) rfl
theorem q1650 : (Jvm.Cond.constantLong "OrdinaryStalk" (301 : Nat) (1000000 : Int64)) ∈ lw_all := lw_g (lw_at lw_m7 96 rfl) rfl
theorem q1652 : (Jvm.Cond.instanceMethod ({ cls := "OrdinaryStalk", name := "camps", desc := "(III)I" } : Jvm.MethodName)) ∈ lw_all := lw_g (lw_at lw_m7 98 rfl) rfl
theorem q1653 : (Jvm.Cond.selects "OrdinaryStalk" ({ cls := "OrdinaryStalk", name := "camps", desc := "(III)I" } : Jvm.MethodName) ({ cls := "OrdinaryStalk", name := "camps", desc := "(III)I" } : Jvm.MethodName)) ∈ lw_all := lw_g (lw_at lw_m7 99 rfl) rfl
theorem q1654 : (Jvm.Cond.code ({ cls := "OrdinaryStalk", name := "camps", desc := "(III)I" } : Jvm.MethodName) prog_1_method_47_code (8 : Nat) (Option.some Jvm.ClassFile.FieldType.int)) ∈ lw_all := lw_g (lw_at lw_m7 100 rfl) rfl
theorem q1655 : (Jvm.Cond.methodLink "OrdinaryStalk" (330 : Nat) ({ cls := "OrdinaryStalk", name := "draw", desc := "(I)I" } : Jvm.MethodName)) ∈ lw_all := lw_g (lw_at lw_m7 101 rfl) rfl
theorem q1656 : (Jvm.Cond.privateMethod ({ cls := "OrdinaryStalk", name := "draw", desc := "(I)I" } : Jvm.MethodName)) ∈ lw_tbl := lw_at lw_m7 102 rfl
theorem q1657 : (Jvm.Cond.instanceMethod ({ cls := "OrdinaryStalk", name := "draw", desc := "(I)I" } : Jvm.MethodName)) ∈ lw_all := lw_g (lw_at lw_m7 103 rfl) rfl
theorem q1658 : (Jvm.Cond.code ({ cls := "OrdinaryStalk", name := "draw", desc := "(I)I" } : Jvm.MethodName) prog_1_method_46_code (2 : Nat) (Option.some Jvm.ClassFile.FieldType.int)) ∈ lw_all := lw_g (lw_at lw_m7 104 rfl) rfl
theorem q1659 : (Jvm.Cond.constantLong "OrdinaryStalk" (322 : Nat) (1103515245 : Int64)) ∈ lw_all := lw_g (lw_at lw_m7 105 rfl) rfl
theorem q1660 : (Jvm.Cond.constantLong "OrdinaryStalk" (324 : Nat) (12345 : Int64)) ∈ lw_all := lw_g (lw_at lw_m7 106 rfl) rfl
theorem q1661 : (Jvm.Cond.constantLong "OrdinaryStalk" (326 : Nat) (2147483648 : Int64)) ∈ lw_all := lw_g (lw_at lw_m7 107 rfl) rfl
theorem q1662 : (Jvm.Cond.constantLong "OrdinaryStalk" (328 : Nat) (65536 : Int64)) ∈ lw_all := lw_g (lw_at lw_m7 108 rfl) rfl
theorem q1664 : (Jvm.Cond.instanceMethod ({ cls := "OrdinaryStalk", name := "mark", desc := "(IZ)Z" } : Jvm.MethodName)) ∈ lw_all := lw_g (lw_at lw_m7 110 rfl) rfl
theorem q1665 : (Jvm.Cond.selects "OrdinaryStalk" ({ cls := "OrdinaryStalk", name := "mark", desc := "(IZ)Z" } : Jvm.MethodName) ({ cls := "OrdinaryStalk", name := "mark", desc := "(IZ)Z" } : Jvm.MethodName)) ∈ lw_all := lw_g (lw_at lw_m7 111 rfl) rfl
theorem q1666 : (Jvm.Cond.code ({ cls := "OrdinaryStalk", name := "mark", desc := "(IZ)Z" } : Jvm.MethodName) prog_1_method_49_code (3 : Nat) (Option.some Jvm.ClassFile.FieldType.boolean)) ∈ lw_all := lw_g (lw_at lw_m7 112 rfl) rfl
theorem q1668 : (Jvm.Cond.methodLink "OrdinaryStalk" (333 : Nat) ({ cls := "OrdinaryStalk", name := "copied", desc := "(Ljava/util/ArrayList;)Ljava/util/ArrayList;" } : Jvm.MethodName)) ∈ lw_all := lw_g (lw_at lw_m7 114 rfl) rfl
theorem q1669 : (Jvm.Cond.static ({ cls := "OrdinaryStalk", name := "copied", desc := "(Ljava/util/ArrayList;)Ljava/util/ArrayList;" } : Jvm.MethodName)) ∈ lw_all := lw_g (lw_at lw_m7 115 rfl) rfl
theorem q1670 : (Jvm.Cond.code ({ cls := "OrdinaryStalk", name := "copied", desc := "(Ljava/util/ArrayList;)Ljava/util/ArrayList;" } : Jvm.MethodName) prog_1_method_48_code (3 : Nat) (Option.some (Jvm.ClassFile.FieldType.object "java/util/ArrayList"))) ∈ lw_all := lw_g (lw_at lw_m7 116 rfl) rfl
theorem q1671 : (Jvm.Cond.methodLink "OrdinaryStalk" (336 : Nat) ({ cls := "OrdinaryStalk$Mark", name := "<init>", desc := "(LOrdinaryStalk$Hunt;Ljava/util/ArrayList;Ljava/util/ArrayList;)V" } : Jvm.MethodName)) ∈ lw_all := lw_g (lw_at lw_m7 117 rfl) rfl
theorem q1676 : (Jvm.Cond.fieldLinkNest "OrdinaryStalk" (339 : Nat) "OrdinaryStalk$Mark" "hunt" "LOrdinaryStalk$Hunt;" "OrdinaryStalk") ∈ lw_tbl := lw_at lw_m7 122 rfl
theorem q1678 : (Jvm.Cond.fieldLinkNest "OrdinaryStalk" (340 : Nat) "OrdinaryStalk$Mark" "lines" "Ljava/util/ArrayList;" "OrdinaryStalk") ∈ lw_tbl := lw_at lw_m7 124 rfl
theorem q1680 : (Jvm.Cond.fieldLinkNest "OrdinaryStalk" (341 : Nat) "OrdinaryStalk$Mark" "said" "Ljava/util/ArrayList;" "OrdinaryStalk") ∈ lw_tbl := lw_at lw_m7 126 rfl
theorem q1689 : (Jvm.Cond.instanceMethod ({ cls := "OrdinaryStalk", name := "count", desc := "(I)I" } : Jvm.MethodName)) ∈ lw_all := lw_g (lw_at lw_m7 135 rfl) rfl
theorem q1690 : (Jvm.Cond.selects "OrdinaryStalk" ({ cls := "OrdinaryStalk", name := "count", desc := "(I)I" } : Jvm.MethodName) ({ cls := "OrdinaryStalk", name := "count", desc := "(I)I" } : Jvm.MethodName)) ∈ lw_all := lw_g (lw_at lw_m7 136 rfl) rfl
theorem q1691 : (Jvm.Cond.code ({ cls := "OrdinaryStalk", name := "count", desc := "(I)I" } : Jvm.MethodName) prog_1_method_50_code (2 : Nat) (Option.some Jvm.ClassFile.FieldType.int)) ∈ lw_all := lw_g (lw_at lw_m7 137 rfl) rfl
theorem q1692 : (Jvm.Cond.methodLink "OrdinaryStalk" (348 : Nat) ({ cls := "OrdinaryStalk$Camp", name := "bushMany", desc := "()I" } : Jvm.MethodName)) ∈ lw_all := lw_g (lw_at lw_m7 138 rfl) rfl
theorem q1701 : (Jvm.Cond.instanceMethod ({ cls := "OrdinaryStalk", name := "rests", desc := "(IIII)I" } : Jvm.MethodName)) ∈ lw_all := lw_g (lw_at lw_m7 147 rfl) rfl
theorem q1702 : (Jvm.Cond.selects "OrdinaryStalk" ({ cls := "OrdinaryStalk", name := "rests", desc := "(IIII)I" } : Jvm.MethodName) ({ cls := "OrdinaryStalk", name := "rests", desc := "(IIII)I" } : Jvm.MethodName)) ∈ lw_all := lw_g (lw_at lw_m7 148 rfl) rfl
theorem q1703 : (Jvm.Cond.code ({ cls := "OrdinaryStalk", name := "rests", desc := "(IIII)I" } : Jvm.MethodName) prog_1_method_45_code (7 : Nat) (Option.some Jvm.ClassFile.FieldType.int)) ∈ lw_all := lw_g (lw_at lw_m7 149 rfl) rfl
theorem q1704 : (Jvm.Cond.methodLink "OrdinaryStalk" (310 : Nat) ({ cls := "OrdinaryStalk", name := "need", desc := "(Z)V" } : Jvm.MethodName)) ∈ lw_all := lw_g (lw_at lw_m7 150 rfl) rfl
theorem q1705 : (Jvm.Cond.static ({ cls := "OrdinaryStalk", name := "need", desc := "(Z)V" } : Jvm.MethodName)) ∈ lw_all := lw_g (lw_at lw_m7 151 rfl) rfl
theorem q1706 : (Jvm.Cond.code ({ cls := "OrdinaryStalk", name := "need", desc := "(Z)V" } : Jvm.MethodName) prog_1_method_44_code (1 : Nat) (Option.none : Option Jvm.ClassFile.FieldType)) ∈ lw_all := lw_g (lw_at lw_m7 152 rfl) rfl
theorem q1707 : (Jvm.Cond.classLink "OrdinaryStalk" (307 : Nat) "java/util/NoSuchElementException") ∈ lw_all := lw_g (lw_at lw_m7 153 rfl) rfl
theorem q1718 : (Jvm.Cond.methodLink "OrdinaryStalk" (309 : Nat) ({ cls := "java/util/NoSuchElementException", name := "<init>", desc := "()V" } : Jvm.MethodName)) ∈ lw_all := lw_g (lw_at lw_m7 164 rfl) rfl
theorem q1727 : (Jvm.Cond.methodLink "OrdinaryStalk" (314 : Nat) ({ cls := "OrdinaryStalk", name := "isRest", desc := "(ZZIII)Z" } : Jvm.MethodName)) ∈ lw_all := lw_g (lw_at lw_m7 173 rfl) rfl
theorem q1728 : (Jvm.Cond.static ({ cls := "OrdinaryStalk", name := "isRest", desc := "(ZZIII)Z" } : Jvm.MethodName)) ∈ lw_all := lw_g (lw_at lw_m7 174 rfl) rfl
theorem q1729 : (Jvm.Cond.code ({ cls := "OrdinaryStalk", name := "isRest", desc := "(ZZIII)Z" } : Jvm.MethodName) prog_1_method_43_code (5 : Nat) (Option.some Jvm.ClassFile.FieldType.boolean)) ∈ lw_all := lw_g (lw_at lw_m7 175 rfl) rfl
theorem q1730 : (Jvm.Cond.methodLink "OrdinaryStalk" (303 : Nat) ({ cls := "OrdinaryStalk", name := "gets", desc := "(ZZIII)I" } : Jvm.MethodName)) ∈ lw_all := lw_g (lw_at lw_m7 176 rfl) rfl
theorem q1731 : (Jvm.Cond.static ({ cls := "OrdinaryStalk", name := "gets", desc := "(ZZIII)I" } : Jvm.MethodName)) ∈ lw_all := lw_g (lw_at lw_m7 177 rfl) rfl
theorem q1732 : (Jvm.Cond.code ({ cls := "OrdinaryStalk", name := "gets", desc := "(ZZIII)I" } : Jvm.MethodName) prog_1_method_42_code (5 : Nat) (Option.some Jvm.ClassFile.FieldType.int)) ∈ lw_all := lw_g (lw_at lw_m7 178 rfl) rfl
theorem q2410 : (Jvm.Cond.castable "OrdinaryStalk" "java/lang/Object") ∈ lw_tbl := lw_at lw_m10 136 rfl
theorem in_X1 : ∀ w ∈ wsX10, w ∈ lw_all := lw_in wsX10 [564, 566, 568, 570, 572, 574, 576, 578, 580, 582, 584] (by decide +kernel) (by decide +kernel)

/-! OrdinaryStalk$Reader -/
def RX2 : String := "OrdinaryStalk$Reader"
def TX2 : u_T := fun k => match k with
  | 0 => ("OrdinaryStalk$Reader", "facts", "[Ljava/lang/String;", true)
  | 1 => ("OrdinaryStalk$Reader", "kinds", "[Ljava/lang/String;", true)
  | 2 => ("OrdinaryStalk$Reader", "kept", "[Ljava/lang/String;", true)
  | 3 => ("OrdinaryStalk$Reader", "singles", "[Ljava/lang/String;", true)
  | 4 => ("OrdinaryStalk$Reader", "acts", "[Ljava/lang/String;", true)
  | 5 => ("OrdinaryStalk$Reader", "draft", "LOrdinaryStalk$Camp;", false)
  | 6 => ("OrdinaryStalk$Reader", "once", "I", false)
  | 7 => ("OrdinaryStalk$Reader", "tape", "[I", true)
  | 8 => ("OrdinaryStalk$Reader", "taped", "I", false)
  | 9 => ("OrdinaryStalk$Reader", "sort", "[I", true)
  | 10 => ("OrdinaryStalk$Reader", "value", "[J", true)
  | 11 => ("OrdinaryStalk$Reader", "place", "[I", true)
  | 12 => ("OrdinaryStalk$Reader", "at", "I", false)
  | _ => ("OrdinaryStalk$Reader", "deep", "I", false)
def tyX2 : Nat → FieldType := fun k => match k with
  | 0 => .array (.object "java/lang/String")
  | 1 => .array (.object "java/lang/String")
  | 2 => .array (.object "java/lang/String")
  | 3 => .array (.object "java/lang/String")
  | 4 => .array (.object "java/lang/String")
  | 5 => .object "OrdinaryStalk$Camp"
  | 6 => .int
  | 7 => .array .int
  | 8 => .int
  | 9 => .array .int
  | 10 => .array .long
  | 11 => .array .int
  | 12 => .int
  | _ => .int
abbrev wsX20 : List Cond := u_ws RX2 TX2 14
theorem nmX2 : ∀ a, a < 14 → ∀ b, b < 14 → a ≠ b → (TX2 a).2.1 ≠ (TX2 b).2.1 := by decide +kernel
theorem tyX2_ok : ∀ k, k < 14 → parseFieldDescriptor (TX2 k).2.2.1 = some (tyX2 k) := by decide +kernel
abbrev cX2_init : ByteArray := prog_24_method_1_code
def yX2_init : MethodName := ⟨RX2, "<init>", "()V"⟩
abbrev cX2_feed : ByteArray := prog_24_method_2_code
def yX2_feed : MethodName := ⟨RX2, "feed", "(J)V"⟩
abbrev cX2_camp : ByteArray := prog_24_method_16_code
def yX2_camp : MethodName := ⟨RX2, "camp", "()LOrdinaryStalk$Camp;"⟩
abbrev cX2_cut : ByteArray := prog_24_method_6_code
def yX2_cut : MethodName := ⟨RX2, "cut", "()V"⟩
abbrev cX2_isLetter : ByteArray := prog_24_method_4_code
def yX2_isLetter : MethodName := ⟨RX2, "isLetter", "(I)Z"⟩
abbrev cX2_isDigit : ByteArray := prog_24_method_5_code
def yX2_isDigit : MethodName := ⟨RX2, "isDigit", "(I)Z"⟩
abbrev cX2_isWord : ByteArray := prog_24_method_8_code
def yX2_isWord : MethodName := ⟨RX2, "isWord", "(Ljava/lang/String;)Z"⟩
abbrev cX2_word : ByteArray := prog_24_method_3_code
def yX2_word : MethodName := ⟨RX2, "word", "(Ljava/lang/String;)J"⟩
abbrev cX2_bush : ByteArray := prog_24_method_19_code
def yX2_bush : MethodName := ⟨RX2, "bush", "()V"⟩
abbrev cX2_number : ByteArray := prog_24_method_17_code
def yX2_number : MethodName := ⟨RX2, "number", "(Ljava/lang/String;II)I"⟩
abbrev cX2_takeWord : ByteArray := prog_24_method_27_code
def yX2_takeWord : MethodName := ⟨RX2, "takeWord", "(Ljava/lang/String;)V"⟩
abbrev cX2_hasWord : ByteArray := prog_24_method_9_code
def yX2_hasWord : MethodName := ⟨RX2, "hasWord", "(Ljava/lang/String;)Z"⟩
abbrev cX2_wrong : ByteArray := prog_24_method_7_code
def yX2_wrong : MethodName := ⟨RX2, "wrong", "(I)LOrdinaryStalk$Wrong;"⟩
abbrev cX2_number_2 : ByteArray := prog_24_method_14_code
def yX2_number_2 : MethodName := ⟨RX2, "number", "(II)I"⟩
abbrev cX2_person : ByteArray := prog_24_method_20_code
def yX2_person : MethodName := ⟨RX2, "person", "()V"⟩
abbrev cX2_newName : ByteArray := prog_24_method_18_code
def yX2_newName : MethodName := ⟨RX2, "newName", "(ZI)V"⟩
abbrev cX2_isName : ByteArray := prog_24_method_15_code
def yX2_isName : MethodName := ⟨RX2, "isName", "()Z"⟩
abbrev cX2_which : ByteArray := prog_24_method_10_code
def yX2_which : MethodName := ⟨RX2, "which", "([Ljava/lang/String;)I"⟩
abbrev cX2_row : ByteArray := prog_24_method_22_code
def yX2_row : MethodName := ⟨RX2, "row", "(I)[I"⟩
abbrev cX2_scout : ByteArray := prog_24_method_21_code
def yX2_scout : MethodName := ⟨RX2, "scout", "()V"⟩
abbrev cX2_single : ByteArray := prog_24_method_23_code
def yX2_single : MethodName := ⟨RX2, "single", "()V"⟩
abbrev cX2_whole : ByteArray := prog_24_method_28_code
def yX2_whole : MethodName := ⟨RX2, "whole", "()LOrdinaryStalk$Expression;"⟩
abbrev cX2_all : ByteArray := prog_24_method_30_code
def yX2_all : MethodName := ⟨RX2, "all", "()LOrdinaryStalk$Expression;"⟩
abbrev cX2_test : ByteArray := prog_24_method_31_code
def yX2_test : MethodName := ⟨RX2, "test", "()LOrdinaryStalk$Expression;"⟩
abbrev cX2_sum : ByteArray := prog_24_method_32_code
def yX2_sum : MethodName := ⟨RX2, "sum", "()LOrdinaryStalk$Expression;"⟩
abbrev cX2_term : ByteArray := prog_24_method_33_code
def yX2_term : MethodName := ⟨RX2, "term", "()LOrdinaryStalk$Expression;"⟩
abbrev cX2_part : ByteArray := prog_24_method_34_code
def yX2_part : MethodName := ⟨RX2, "part", "()LOrdinaryStalk$Expression;"⟩
abbrev cX2_isSign : ByteArray := prog_24_method_11_code
def yX2_isSign : MethodName := ⟨RX2, "isSign", "(I)Z"⟩
abbrev cX2_sign : ByteArray := prog_24_method_13_code
def yX2_sign : MethodName := ⟨RX2, "sign", "(I)V"⟩
abbrev cX2_hasSign : ByteArray := prog_24_method_12_code
def yX2_hasSign : MethodName := ⟨RX2, "hasSign", "(I)Z"⟩
abbrev cX2_chain : ByteArray := prog_24_method_29_code
def yX2_chain : MethodName := ⟨RX2, "chain", "(LOrdinaryStalk$Expression;LOrdinaryStalk$Chain;)LOrdinaryStalk$Chain;"⟩
abbrev cX2_day : ByteArray := prog_24_method_25_code
def yX2_day : MethodName := ⟨RX2, "day", "(LOrdinaryStalk$Camp;)Ljava/util/ArrayList;"⟩
abbrev cX2_line : ByteArray := prog_24_method_26_code
def yX2_line : MethodName := ⟨RX2, "line", "(I)LOrdinaryStalk$Line;"⟩
abbrev cX2_told : ByteArray := prog_24_method_24_code
def yX2_told : MethodName := ⟨RX2, "told", "()I"⟩
theorem q116 : (Jvm.Cond.initialized "OrdinaryStalk$Reader") ∈ lw_all := lw_g (lw_at lw_m1 2 rfl) rfl
theorem q178 : (Jvm.Cond.instantiable "OrdinaryStalk$Reader" (14 : Nat)) ∈ lw_all := lw_g (lw_at lw_m1 64 rfl) rfl
theorem q180 : (Jvm.Cond.instanceMethod ({ cls := "OrdinaryStalk$Reader", name := "<init>", desc := "()V" } : Jvm.MethodName)) ∈ lw_all := lw_g (lw_at lw_m1 66 rfl) rfl
theorem q181 : (Jvm.Cond.code ({ cls := "OrdinaryStalk$Reader", name := "<init>", desc := "()V" } : Jvm.MethodName) prog_24_method_1_code (1 : Nat) (Option.none : Option Jvm.ClassFile.FieldType)) ∈ lw_all := lw_g (lw_at lw_m1 67 rfl) rfl
theorem q182 : (Jvm.Cond.methodLink "OrdinaryStalk$Reader" (3 : Nat) ({ cls := "java/lang/Object", name := "<init>", desc := "()V" } : Jvm.MethodName)) ∈ lw_all := lw_g (lw_at lw_m1 68 rfl) rfl
theorem q183 : (Jvm.Cond.classLink "OrdinaryStalk$Reader" (9 : Nat) "java/lang/String") ∈ lw_all := lw_g (lw_at lw_m1 69 rfl) rfl
theorem q185 : (Jvm.Cond.stringRef "OrdinaryStalk$Reader" (11 : Nat) "far") ∈ lw_tbl := lw_at lw_m1 71 rfl
theorem q186 : (Jvm.Cond.stringRef "OrdinaryStalk$Reader" (13 : Nat) "hidden") ∈ lw_tbl := lw_at lw_m1 72 rfl
theorem q187 : (Jvm.Cond.stringRef "OrdinaryStalk$Reader" (15 : Nat) "still") ∈ lw_tbl := lw_at lw_m1 73 rfl
theorem q188 : (Jvm.Cond.stringRef "OrdinaryStalk$Reader" (17 : Nat) "upwind") ∈ lw_tbl := lw_at lw_m1 74 rfl
theorem q189 : (Jvm.Cond.stringRef "OrdinaryStalk$Reader" (19 : Nat) "ear") ∈ lw_tbl := lw_at lw_m1 75 rfl
theorem q190 : (Jvm.Cond.stringRef "OrdinaryStalk$Reader" (27 : Nat) "plain") ∈ lw_tbl := lw_at lw_m1 76 rfl
theorem q191 : (Jvm.Cond.stringRef "OrdinaryStalk$Reader" (29 : Nat) "postman") ∈ lw_tbl := lw_at lw_m1 77 rfl
theorem q192 : (Jvm.Cond.stringRef "OrdinaryStalk$Reader" (31 : Nat) "stag") ∈ lw_tbl := lw_at lw_m1 78 rfl
theorem q193 : (Jvm.Cond.stringRef "OrdinaryStalk$Reader" (33 : Nat) "clerk") ∈ lw_tbl := lw_at lw_m1 79 rfl
theorem q194 : (Jvm.Cond.stringRef "OrdinaryStalk$Reader" (38 : Nat) "field") ∈ lw_tbl := lw_at lw_m1 80 rfl
theorem q195 : (Jvm.Cond.stringRef "OrdinaryStalk$Reader" (40 : Nat) "by") ∈ lw_tbl := lw_at lw_m1 81 rfl
theorem q196 : (Jvm.Cond.stringRef "OrdinaryStalk$Reader" (42 : Nat) "bush") ∈ lw_tbl := lw_at lw_m1 82 rfl
theorem q197 : (Jvm.Cond.stringRef "OrdinaryStalk$Reader" (44 : Nat) "person") ∈ lw_tbl := lw_at lw_m1 83 rfl
theorem q198 : (Jvm.Cond.stringRef "OrdinaryStalk$Reader" (46 : Nat) "at") ∈ lw_tbl := lw_at lw_m1 84 rfl
theorem q199 : (Jvm.Cond.stringRef "OrdinaryStalk$Reader" (48 : Nat) "ears") ∈ lw_tbl := lw_at lw_m1 85 rfl
theorem q200 : (Jvm.Cond.stringRef "OrdinaryStalk$Reader" (50 : Nat) "marks") ∈ lw_tbl := lw_at lw_m1 86 rfl
theorem q201 : (Jvm.Cond.stringRef "OrdinaryStalk$Reader" (52 : Nat) "walks") ∈ lw_tbl := lw_at lw_m1 87 rfl
theorem q202 : (Jvm.Cond.stringRef "OrdinaryStalk$Reader" (54 : Nat) "scout") ∈ lw_tbl := lw_at lw_m1 88 rfl
theorem q203 : (Jvm.Cond.stringRef "OrdinaryStalk$Reader" (56 : Nat) "wind") ∈ lw_tbl := lw_at lw_m1 89 rfl
theorem q204 : (Jvm.Cond.stringRef "OrdinaryStalk$Reader" (58 : Nat) "hears") ∈ lw_tbl := lw_at lw_m1 90 rfl
theorem q205 : (Jvm.Cond.stringRef "OrdinaryStalk$Reader" (60 : Nat) "creep") ∈ lw_tbl := lw_at lw_m1 91 rfl
theorem q206 : (Jvm.Cond.stringRef "OrdinaryStalk$Reader" (62 : Nat) "off") ∈ lw_tbl := lw_at lw_m1 92 rfl
theorem q207 : (Jvm.Cond.stringRef "OrdinaryStalk$Reader" (64 : Nat) "step") ∈ lw_tbl := lw_at lw_m1 93 rfl
theorem q208 : (Jvm.Cond.stringRef "OrdinaryStalk$Reader" (66 : Nat) "not") ∈ lw_tbl := lw_at lw_m1 94 rfl
theorem q209 : (Jvm.Cond.stringRef "OrdinaryStalk$Reader" (68 : Nat) "and") ∈ lw_tbl := lw_at lw_m1 95 rfl
theorem q210 : (Jvm.Cond.stringRef "OrdinaryStalk$Reader" (70 : Nat) "or") ∈ lw_tbl := lw_at lw_m1 96 rfl
theorem q211 : (Jvm.Cond.fieldLink "OrdinaryStalk$Reader" (21 : Nat) "OrdinaryStalk$Reader" "facts" "[Ljava/lang/String;") ∈ lw_all := lw_g (lw_at lw_m1 97 rfl) rfl
theorem q212 : (Jvm.Cond.fieldLink "OrdinaryStalk$Reader" (35 : Nat) "OrdinaryStalk$Reader" "kinds" "[Ljava/lang/String;") ∈ lw_all := lw_g (lw_at lw_m1 98 rfl) rfl
theorem q213 : (Jvm.Cond.fieldLink "OrdinaryStalk$Reader" (72 : Nat) "OrdinaryStalk$Reader" "kept" "[Ljava/lang/String;") ∈ lw_all := lw_g (lw_at lw_m1 99 rfl) rfl
theorem q214 : (Jvm.Cond.fieldLink "OrdinaryStalk$Reader" (75 : Nat) "OrdinaryStalk$Reader" "singles" "[Ljava/lang/String;") ∈ lw_all := lw_g (lw_at lw_m1 100 rfl) rfl
theorem q215 : (Jvm.Cond.fieldLink "OrdinaryStalk$Reader" (78 : Nat) "OrdinaryStalk$Reader" "acts" "[Ljava/lang/String;") ∈ lw_all := lw_g (lw_at lw_m1 101 rfl) rfl
theorem q216 : (Jvm.Cond.fieldLink "OrdinaryStalk$Reader" (169 : Nat) "OrdinaryStalk$Reader" "draft" "LOrdinaryStalk$Camp;") ∈ lw_all := lw_g (lw_at lw_m1 102 rfl) rfl
theorem q217 : (Jvm.Cond.fieldLink "OrdinaryStalk$Reader" (173 : Nat) "OrdinaryStalk$Reader" "once" "I") ∈ lw_all := lw_g (lw_at lw_m1 103 rfl) rfl
theorem q218 : (Jvm.Cond.fieldLink "OrdinaryStalk$Reader" (81 : Nat) "OrdinaryStalk$Reader" "tape" "[I") ∈ lw_all := lw_g (lw_at lw_m1 104 rfl) rfl
theorem q219 : (Jvm.Cond.fieldLink "OrdinaryStalk$Reader" (101 : Nat) "OrdinaryStalk$Reader" "taped" "I") ∈ lw_all := lw_g (lw_at lw_m1 105 rfl) rfl
theorem q221 : (Jvm.Cond.fieldLink "OrdinaryStalk$Reader" (85 : Nat) "OrdinaryStalk$Reader" "sort" "[I") ∈ lw_all := lw_g (lw_at lw_m1 107 rfl) rfl
theorem q222 : (Jvm.Cond.fieldLink "OrdinaryStalk$Reader" (88 : Nat) "OrdinaryStalk$Reader" "value" "[J") ∈ lw_all := lw_g (lw_at lw_m1 108 rfl) rfl
theorem q223 : (Jvm.Cond.fieldLink "OrdinaryStalk$Reader" (92 : Nat) "OrdinaryStalk$Reader" "place" "[I") ∈ lw_all := lw_g (lw_at lw_m1 109 rfl) rfl
theorem q224 : (Jvm.Cond.fieldLink "OrdinaryStalk$Reader" (134 : Nat) "OrdinaryStalk$Reader" "at" "I") ∈ lw_all := lw_g (lw_at lw_m1 110 rfl) rfl
theorem q225 : (Jvm.Cond.fieldLink "OrdinaryStalk$Reader" (303 : Nat) "OrdinaryStalk$Reader" "deep" "I") ∈ lw_all := lw_g (lw_at lw_m1 111 rfl) rfl
theorem q226 : (Jvm.Cond.laysFinal "OrdinaryStalk$Reader" "OrdinaryStalk$Reader" "facts" "[Ljava/lang/String;") ∈ lw_all := lw_g (lw_at lw_m1 112 rfl) rfl
theorem q227 : (Jvm.Cond.soleField "OrdinaryStalk$Reader" "facts") ∈ lw_all := lw_g (lw_at lw_m1 113 rfl) rfl
theorem q228 : (Jvm.Cond.laysFinal "OrdinaryStalk$Reader" "OrdinaryStalk$Reader" "kinds" "[Ljava/lang/String;") ∈ lw_all := lw_g (lw_at lw_m1 114 rfl) rfl
theorem q229 : (Jvm.Cond.soleField "OrdinaryStalk$Reader" "kinds") ∈ lw_all := lw_g (lw_at lw_m1 115 rfl) rfl
theorem q230 : (Jvm.Cond.laysFinal "OrdinaryStalk$Reader" "OrdinaryStalk$Reader" "kept" "[Ljava/lang/String;") ∈ lw_all := lw_g (lw_at lw_m1 116 rfl) rfl
theorem q231 : (Jvm.Cond.soleField "OrdinaryStalk$Reader" "kept") ∈ lw_all := lw_g (lw_at lw_m1 117 rfl) rfl
theorem q232 : (Jvm.Cond.laysFinal "OrdinaryStalk$Reader" "OrdinaryStalk$Reader" "singles" "[Ljava/lang/String;") ∈ lw_all := lw_g (lw_at lw_m1 118 rfl) rfl
theorem q233 : (Jvm.Cond.soleField "OrdinaryStalk$Reader" "singles") ∈ lw_all := lw_g (lw_at lw_m1 119 rfl) rfl
theorem q234 : (Jvm.Cond.laysFinal "OrdinaryStalk$Reader" "OrdinaryStalk$Reader" "acts" "[Ljava/lang/String;") ∈ lw_all := lw_g (lw_at lw_m1 120 rfl) rfl
theorem q235 : (Jvm.Cond.soleField "OrdinaryStalk$Reader" "acts") ∈ lw_all := lw_g (lw_at lw_m1 121 rfl) rfl
theorem q236 : (Jvm.Cond.lays "OrdinaryStalk$Reader" "OrdinaryStalk$Reader" "draft" "LOrdinaryStalk$Camp;") ∈ lw_all := lw_g (lw_at lw_m1 122 rfl) rfl
theorem q237 : (Jvm.Cond.soleField "OrdinaryStalk$Reader" "draft") ∈ lw_all := lw_g (lw_at lw_m1 123 rfl) rfl
theorem q238 : (Jvm.Cond.lays "OrdinaryStalk$Reader" "OrdinaryStalk$Reader" "once" "I") ∈ lw_all := lw_g (lw_at lw_m1 124 rfl) rfl
theorem q239 : (Jvm.Cond.soleField "OrdinaryStalk$Reader" "once") ∈ lw_all := lw_g (lw_at lw_m1 125 rfl) rfl
theorem q240 : (Jvm.Cond.laysFinal "OrdinaryStalk$Reader" "OrdinaryStalk$Reader" "tape" "[I") ∈ lw_all := lw_g (lw_at lw_m1 126 rfl) rfl
theorem q241 : (Jvm.Cond.soleField "OrdinaryStalk$Reader" "tape") ∈ lw_all := lw_g (lw_at lw_m1 127 rfl) rfl
theorem q242 : (Jvm.Cond.lays "OrdinaryStalk$Reader" "OrdinaryStalk$Reader" "taped" "I") ∈ lw_all := lw_g (lw_at lw_m1 128 rfl) rfl
theorem q243 : (Jvm.Cond.soleField "OrdinaryStalk$Reader" "taped") ∈ lw_all := lw_g (lw_at lw_m1 129 rfl) rfl
theorem q244 : (Jvm.Cond.laysFinal "OrdinaryStalk$Reader" "OrdinaryStalk$Reader" "sort" "[I") ∈ lw_all := lw_g (lw_at lw_m1 130 rfl) rfl
theorem q245 : (Jvm.Cond.soleField "OrdinaryStalk$Reader" "sort") ∈ lw_all := lw_g (lw_at lw_m1 131 rfl) rfl
theorem q246 : (Jvm.Cond.laysFinal "OrdinaryStalk$Reader" "OrdinaryStalk$Reader" "value" "[J") ∈ lw_all := lw_g (lw_at lw_m1 132 rfl) rfl
theorem q247 : (Jvm.Cond.soleField "OrdinaryStalk$Reader" "value") ∈ lw_all := lw_g (lw_at lw_m1 133 rfl) rfl
theorem q248 : (Jvm.Cond.laysFinal "OrdinaryStalk$Reader" "OrdinaryStalk$Reader" "place" "[I") ∈ lw_all := lw_g (lw_at lw_m1 134 rfl) rfl
theorem q249 : (Jvm.Cond.soleField "OrdinaryStalk$Reader" "place") ∈ lw_all := lw_g (lw_at lw_m1 135 rfl) rfl
theorem q250 : (Jvm.Cond.lays "OrdinaryStalk$Reader" "OrdinaryStalk$Reader" "at" "I") ∈ lw_all := lw_g (lw_at lw_m1 136 rfl) rfl
theorem q251 : (Jvm.Cond.soleField "OrdinaryStalk$Reader" "at") ∈ lw_all := lw_g (lw_at lw_m1 137 rfl) rfl
theorem q252 : (Jvm.Cond.lays "OrdinaryStalk$Reader" "OrdinaryStalk$Reader" "deep" "I") ∈ lw_all := lw_g (lw_at lw_m1 138 rfl) rfl
theorem q253 : (Jvm.Cond.soleField "OrdinaryStalk$Reader" "deep") ∈ lw_all := lw_g (lw_at lw_m1 139 rfl) rfl
theorem q254 : (Jvm.Cond.superclass "OrdinaryStalk$Reader" "java/lang/Object") ∈ lw_all := lw_g (lw_at lw_m1 140 rfl) rfl
theorem q366 : (Jvm.Cond.fieldLink "OrdinaryStalk$Reader" (204 : Nat) "OrdinaryStalk$Camp" "names" "Ljava/util/ArrayList;") ∈ lw_all := lw_g (lw_at lw_m2 12 rfl) rfl
theorem q368 : (Jvm.Cond.fieldLink "OrdinaryStalk$Reader" (220 : Nat) "OrdinaryStalk$Camp" "nameOf" "Ljava/util/ArrayList;") ∈ lw_all := lw_g (lw_at lw_m2 14 rfl) rfl
theorem q372 : (Jvm.Cond.fieldLink "OrdinaryStalk$Reader" (235 : Nat) "OrdinaryStalk$Camp" "people" "Ljava/util/ArrayList;") ∈ lw_all := lw_g (lw_at lw_m2 18 rfl) rfl
theorem q376 : (Jvm.Cond.fieldLink "OrdinaryStalk$Reader" (253 : Nat) "OrdinaryStalk$Camp" "scouts" "Ljava/util/ArrayList;") ∈ lw_all := lw_g (lw_at lw_m2 22 rfl) rfl
theorem q378 : (Jvm.Cond.fieldLink "OrdinaryStalk$Reader" (266 : Nat) "OrdinaryStalk$Camp" "wide" "I") ∈ lw_all := lw_g (lw_at lw_m2 24 rfl) rfl
theorem q381 : (Jvm.Cond.fieldLink "OrdinaryStalk$Reader" (269 : Nat) "OrdinaryStalk$Camp" "high" "I") ∈ lw_all := lw_g (lw_at lw_m2 27 rfl) rfl
theorem q384 : (Jvm.Cond.fieldLink "OrdinaryStalk$Reader" (231 : Nat) "OrdinaryStalk$Camp" "bushes" "[Z") ∈ lw_all := lw_g (lw_at lw_m2 30 rfl) rfl
theorem q386 : (Jvm.Cond.fieldLinkNest "OrdinaryStalk$Reader" (272 : Nat) "OrdinaryStalk$Camp" "wind" "[I" "OrdinaryStalk") ∈ lw_tbl := lw_at lw_m2 32 rfl
theorem q388 : (Jvm.Cond.fieldLink "OrdinaryStalk$Reader" (278 : Nat) "OrdinaryStalk$Camp" "hears" "LOrdinaryStalk$Expression;") ∈ lw_all := lw_g (lw_at lw_m2 34 rfl) rfl
theorem q592 : (Jvm.Cond.instanceMethod ({ cls := "OrdinaryStalk$Reader", name := "feed", desc := "(J)V" } : Jvm.MethodName)) ∈ lw_all := lw_g (lw_at lw_m2 238 rfl) rfl
theorem q593 : (Jvm.Cond.selects "OrdinaryStalk$Reader" ({ cls := "OrdinaryStalk$Reader", name := "feed", desc := "(J)V" } : Jvm.MethodName) ({ cls := "OrdinaryStalk$Reader", name := "feed", desc := "(J)V" } : Jvm.MethodName)) ∈ lw_all := lw_g (lw_at lw_m2 239 rfl) rfl
theorem q594 : (Jvm.Cond.code ({ cls := "OrdinaryStalk$Reader", name := "feed", desc := "(J)V" } : Jvm.MethodName) prog_24_method_2_code (5 : Nat) (Option.none : Option Jvm.ClassFile.FieldType)) ∈ lw_all := lw_g (lw_at lw_m3 0 rfl) rfl
theorem q595 : (Jvm.Cond.constantLong "OrdinaryStalk$Reader" (95 : Nat) (255 : Int64)) ∈ lw_all := lw_g (lw_at lw_m3 1 rfl) rfl
theorem q596 : (Jvm.Cond.methodLinkNest "OrdinaryStalk$Reader" (97 : Nat) ({ cls := "OrdinaryStalk", name := "within", desc := "(III)Z" } : Jvm.MethodName) "OrdinaryStalk") ∈ lw_tbl := lw_at lw_m3 2 rfl
theorem q605 : (Jvm.Cond.instanceMethod ({ cls := "OrdinaryStalk$Reader", name := "camp", desc := "()LOrdinaryStalk$Camp;" } : Jvm.MethodName)) ∈ lw_all := lw_g (lw_at lw_m3 11 rfl) rfl
theorem q606 : (Jvm.Cond.selects "OrdinaryStalk$Reader" ({ cls := "OrdinaryStalk$Reader", name := "camp", desc := "()LOrdinaryStalk$Camp;" } : Jvm.MethodName) ({ cls := "OrdinaryStalk$Reader", name := "camp", desc := "()LOrdinaryStalk$Camp;" } : Jvm.MethodName)) ∈ lw_all := lw_g (lw_at lw_m3 12 rfl) rfl
theorem q607 : (Jvm.Cond.code ({ cls := "OrdinaryStalk$Reader", name := "camp", desc := "()LOrdinaryStalk$Camp;" } : Jvm.MethodName) prog_24_method_16_code (1 : Nat) (Option.some (Jvm.ClassFile.FieldType.object "OrdinaryStalk$Camp"))) ∈ lw_all := lw_g (lw_at lw_m3 13 rfl) rfl
theorem q608 : (Jvm.Cond.methodLink "OrdinaryStalk$Reader" (163 : Nat) ({ cls := "OrdinaryStalk$Reader", name := "cut", desc := "()V" } : Jvm.MethodName)) ∈ lw_all := lw_g (lw_at lw_m3 14 rfl) rfl
theorem q609 : (Jvm.Cond.privateMethod ({ cls := "OrdinaryStalk$Reader", name := "cut", desc := "()V" } : Jvm.MethodName)) ∈ lw_tbl := lw_at lw_m3 15 rfl
theorem q610 : (Jvm.Cond.instanceMethod ({ cls := "OrdinaryStalk$Reader", name := "cut", desc := "()V" } : Jvm.MethodName)) ∈ lw_all := lw_g (lw_at lw_m3 16 rfl) rfl
theorem q611 : (Jvm.Cond.code ({ cls := "OrdinaryStalk$Reader", name := "cut", desc := "()V" } : Jvm.MethodName) prog_24_method_6_code (8 : Nat) (Option.none : Option Jvm.ClassFile.FieldType)) ∈ lw_all := lw_g (lw_at lw_m3 17 rfl) rfl
theorem q612 : (Jvm.Cond.methodLink "OrdinaryStalk$Reader" (117 : Nat) ({ cls := "OrdinaryStalk$Reader", name := "isLetter", desc := "(I)Z" } : Jvm.MethodName)) ∈ lw_all := lw_g (lw_at lw_m3 18 rfl) rfl
theorem q613 : (Jvm.Cond.static ({ cls := "OrdinaryStalk$Reader", name := "isLetter", desc := "(I)Z" } : Jvm.MethodName)) ∈ lw_all := lw_g (lw_at lw_m3 19 rfl) rfl
theorem q614 : (Jvm.Cond.code ({ cls := "OrdinaryStalk$Reader", name := "isLetter", desc := "(I)Z" } : Jvm.MethodName) prog_24_method_4_code (1 : Nat) (Option.some Jvm.ClassFile.FieldType.boolean)) ∈ lw_all := lw_g (lw_at lw_m3 20 rfl) rfl
theorem q615 : (Jvm.Cond.constantLong "OrdinaryStalk$Reader" (109 : Nat) (27 : Int64)) ∈ lw_all := lw_g (lw_at lw_m3 21 rfl) rfl
theorem q616 : (Jvm.Cond.constantLong "OrdinaryStalk$Reader" (115 : Nat) (96 : Int64)) ∈ lw_all := lw_g (lw_at lw_m3 22 rfl) rfl
theorem q617 : (Jvm.Cond.methodLink "OrdinaryStalk$Reader" (121 : Nat) ({ cls := "OrdinaryStalk$Reader", name := "isDigit", desc := "(I)Z" } : Jvm.MethodName)) ∈ lw_all := lw_g (lw_at lw_m3 23 rfl) rfl
theorem q618 : (Jvm.Cond.static ({ cls := "OrdinaryStalk$Reader", name := "isDigit", desc := "(I)Z" } : Jvm.MethodName)) ∈ lw_all := lw_g (lw_at lw_m3 24 rfl) rfl
theorem q619 : (Jvm.Cond.code ({ cls := "OrdinaryStalk$Reader", name := "isDigit", desc := "(I)Z" } : Jvm.MethodName) prog_24_method_5_code (1 : Nat) (Option.some Jvm.ClassFile.FieldType.boolean)) ∈ lw_all := lw_g (lw_at lw_m3 25 rfl) rfl
theorem q620 : (Jvm.Cond.constantLong "OrdinaryStalk$Reader" (124 : Nat) (10 : Int64)) ∈ lw_all := lw_g (lw_at lw_m3 26 rfl) rfl
theorem q621 : (Jvm.Cond.constantLong "OrdinaryStalk$Reader" (126 : Nat) (48 : Int64)) ∈ lw_all := lw_g (lw_at lw_m3 27 rfl) rfl
theorem q622 : (Jvm.Cond.stringRef "OrdinaryStalk$Reader" (128 : Nat) "()<=+-*;") ∈ lw_tbl := lw_at lw_m3 28 rfl
theorem q623 : (Jvm.Cond.methodLink "OrdinaryStalk$Reader" (130 : Nat) ({ cls := "java/lang/String", name := "indexOf", desc := "(I)I" } : Jvm.MethodName)) ∈ lw_all := lw_g (lw_at lw_m3 29 rfl) rfl
theorem q707 : (Jvm.Cond.classLink "OrdinaryStalk$Reader" (166 : Nat) "OrdinaryStalk$Camp") ∈ lw_all := lw_g (lw_at lw_m3 113 rfl) rfl
theorem q708 : (Jvm.Cond.methodLinkNest "OrdinaryStalk$Reader" (168 : Nat) ({ cls := "OrdinaryStalk$Camp", name := "<init>", desc := "()V" } : Jvm.MethodName) "OrdinaryStalk") ∈ lw_tbl := lw_at lw_m3 114 rfl
theorem q709 : (Jvm.Cond.methodLink "OrdinaryStalk$Reader" (145 : Nat) ({ cls := "OrdinaryStalk$Reader", name := "isWord", desc := "(Ljava/lang/String;)Z" } : Jvm.MethodName)) ∈ lw_all := lw_g (lw_at lw_m3 115 rfl) rfl
theorem q710 : (Jvm.Cond.privateMethod ({ cls := "OrdinaryStalk$Reader", name := "isWord", desc := "(Ljava/lang/String;)Z" } : Jvm.MethodName)) ∈ lw_tbl := lw_at lw_m3 116 rfl
theorem q711 : (Jvm.Cond.instanceMethod ({ cls := "OrdinaryStalk$Reader", name := "isWord", desc := "(Ljava/lang/String;)Z" } : Jvm.MethodName)) ∈ lw_all := lw_g (lw_at lw_m3 117 rfl) rfl
theorem q712 : (Jvm.Cond.code ({ cls := "OrdinaryStalk$Reader", name := "isWord", desc := "(Ljava/lang/String;)Z" } : Jvm.MethodName) prog_24_method_8_code (2 : Nat) (Option.some Jvm.ClassFile.FieldType.boolean)) ∈ lw_all := lw_g (lw_at lw_m3 118 rfl) rfl
theorem q713 : (Jvm.Cond.methodLink "OrdinaryStalk$Reader" (141 : Nat) ({ cls := "OrdinaryStalk$Reader", name := "word", desc := "(Ljava/lang/String;)J" } : Jvm.MethodName)) ∈ lw_all := lw_g (lw_at lw_m3 119 rfl) rfl
theorem q714 : (Jvm.Cond.static ({ cls := "OrdinaryStalk$Reader", name := "word", desc := "(Ljava/lang/String;)J" } : Jvm.MethodName)) ∈ lw_all := lw_g (lw_at lw_m3 120 rfl) rfl
theorem q715 : (Jvm.Cond.code ({ cls := "OrdinaryStalk$Reader", name := "word", desc := "(Ljava/lang/String;)J" } : Jvm.MethodName) prog_24_method_3_code (4 : Nat) (Option.some Jvm.ClassFile.FieldType.long)) ∈ lw_all := lw_g (lw_at lw_m3 121 rfl) rfl
theorem q716 : (Jvm.Cond.methodLink "OrdinaryStalk$Reader" (105 : Nat) ({ cls := "java/lang/String", name := "length", desc := "()I" } : Jvm.MethodName)) ∈ lw_all := lw_g (lw_at lw_m3 122 rfl) rfl
theorem q717 : (Jvm.Cond.methodLink "OrdinaryStalk$Reader" (111 : Nat) ({ cls := "java/lang/String", name := "charAt", desc := "(I)C" } : Jvm.MethodName)) ∈ lw_all := lw_g (lw_at lw_m3 123 rfl) rfl
theorem q735 : (Jvm.Cond.methodLink "OrdinaryStalk$Reader" (176 : Nat) ({ cls := "OrdinaryStalk$Reader", name := "bush", desc := "()V" } : Jvm.MethodName)) ∈ lw_all := lw_g (lw_at lw_m3 141 rfl) rfl
theorem q736 : (Jvm.Cond.privateMethod ({ cls := "OrdinaryStalk$Reader", name := "bush", desc := "()V" } : Jvm.MethodName)) ∈ lw_tbl := lw_at lw_m3 142 rfl
theorem q737 : (Jvm.Cond.instanceMethod ({ cls := "OrdinaryStalk$Reader", name := "bush", desc := "()V" } : Jvm.MethodName)) ∈ lw_all := lw_g (lw_at lw_m3 143 rfl) rfl
theorem q738 : (Jvm.Cond.code ({ cls := "OrdinaryStalk$Reader", name := "bush", desc := "()V" } : Jvm.MethodName) prog_24_method_19_code (2 : Nat) (Option.none : Option Jvm.ClassFile.FieldType)) ∈ lw_all := lw_g (lw_at lw_m3 144 rfl) rfl
theorem q739 : (Jvm.Cond.methodLink "OrdinaryStalk$Reader" (228 : Nat) ({ cls := "OrdinaryStalk$Reader", name := "number", desc := "(Ljava/lang/String;II)I" } : Jvm.MethodName)) ∈ lw_all := lw_g (lw_at lw_m3 145 rfl) rfl
theorem q740 : (Jvm.Cond.privateMethod ({ cls := "OrdinaryStalk$Reader", name := "number", desc := "(Ljava/lang/String;II)I" } : Jvm.MethodName)) ∈ lw_tbl := lw_at lw_m3 146 rfl
theorem q741 : (Jvm.Cond.instanceMethod ({ cls := "OrdinaryStalk$Reader", name := "number", desc := "(Ljava/lang/String;II)I" } : Jvm.MethodName)) ∈ lw_all := lw_g (lw_at lw_m3 147 rfl) rfl
theorem q742 : (Jvm.Cond.code ({ cls := "OrdinaryStalk$Reader", name := "number", desc := "(Ljava/lang/String;II)I" } : Jvm.MethodName) prog_24_method_17_code (4 : Nat) (Option.some Jvm.ClassFile.FieldType.int)) ∈ lw_all := lw_g (lw_at lw_m3 148 rfl) rfl
theorem q743 : (Jvm.Cond.methodLink "OrdinaryStalk$Reader" (188 : Nat) ({ cls := "OrdinaryStalk$Reader", name := "takeWord", desc := "(Ljava/lang/String;)V" } : Jvm.MethodName)) ∈ lw_all := lw_g (lw_at lw_m3 149 rfl) rfl
theorem q744 : (Jvm.Cond.privateMethod ({ cls := "OrdinaryStalk$Reader", name := "takeWord", desc := "(Ljava/lang/String;)V" } : Jvm.MethodName)) ∈ lw_tbl := lw_at lw_m3 150 rfl
theorem q745 : (Jvm.Cond.instanceMethod ({ cls := "OrdinaryStalk$Reader", name := "takeWord", desc := "(Ljava/lang/String;)V" } : Jvm.MethodName)) ∈ lw_all := lw_g (lw_at lw_m3 151 rfl) rfl
theorem q746 : (Jvm.Cond.code ({ cls := "OrdinaryStalk$Reader", name := "takeWord", desc := "(Ljava/lang/String;)V" } : Jvm.MethodName) prog_24_method_27_code (2 : Nat) (Option.none : Option Jvm.ClassFile.FieldType)) ∈ lw_all := lw_g (lw_at lw_m3 152 rfl) rfl
theorem q747 : (Jvm.Cond.methodLink "OrdinaryStalk$Reader" (300 : Nat) ({ cls := "OrdinaryStalk$Reader", name := "hasWord", desc := "(Ljava/lang/String;)Z" } : Jvm.MethodName)) ∈ lw_all := lw_g (lw_at lw_m3 153 rfl) rfl
theorem q748 : (Jvm.Cond.privateMethod ({ cls := "OrdinaryStalk$Reader", name := "hasWord", desc := "(Ljava/lang/String;)Z" } : Jvm.MethodName)) ∈ lw_tbl := lw_at lw_m3 154 rfl
theorem q749 : (Jvm.Cond.instanceMethod ({ cls := "OrdinaryStalk$Reader", name := "hasWord", desc := "(Ljava/lang/String;)Z" } : Jvm.MethodName)) ∈ lw_all := lw_g (lw_at lw_m3 155 rfl) rfl
theorem q750 : (Jvm.Cond.code ({ cls := "OrdinaryStalk$Reader", name := "hasWord", desc := "(Ljava/lang/String;)Z" } : Jvm.MethodName) prog_24_method_9_code (3 : Nat) (Option.some Jvm.ClassFile.FieldType.boolean)) ∈ lw_all := lw_g (lw_at lw_m3 156 rfl) rfl
theorem q751 : (Jvm.Cond.methodLink "OrdinaryStalk$Reader" (155 : Nat) ({ cls := "OrdinaryStalk$Reader", name := "wrong", desc := "(I)LOrdinaryStalk$Wrong;" } : Jvm.MethodName)) ∈ lw_all := lw_g (lw_at lw_m3 157 rfl) rfl
theorem q752 : (Jvm.Cond.privateMethod ({ cls := "OrdinaryStalk$Reader", name := "wrong", desc := "(I)LOrdinaryStalk$Wrong;" } : Jvm.MethodName)) ∈ lw_tbl := lw_at lw_m3 158 rfl
theorem q753 : (Jvm.Cond.instanceMethod ({ cls := "OrdinaryStalk$Reader", name := "wrong", desc := "(I)LOrdinaryStalk$Wrong;" } : Jvm.MethodName)) ∈ lw_all := lw_g (lw_at lw_m3 159 rfl) rfl
theorem q754 : (Jvm.Cond.code ({ cls := "OrdinaryStalk$Reader", name := "wrong", desc := "(I)LOrdinaryStalk$Wrong;" } : Jvm.MethodName) prog_24_method_7_code (2 : Nat) (Option.some (Jvm.ClassFile.FieldType.object "OrdinaryStalk$Wrong"))) ∈ lw_all := lw_g (lw_at lw_m3 160 rfl) rfl
theorem q755 : (Jvm.Cond.classLink "OrdinaryStalk$Reader" (136 : Nat) "OrdinaryStalk$Wrong") ∈ lw_all := lw_g (lw_at lw_m3 161 rfl) rfl
theorem q793 : (Jvm.Cond.methodLink "OrdinaryStalk$Reader" (138 : Nat) ({ cls := "OrdinaryStalk$Wrong", name := "<init>", desc := "(I)V" } : Jvm.MethodName)) ∈ lw_all := lw_g (lw_at lw_m3 199 rfl) rfl
theorem q816 : (Jvm.Cond.methodLink "OrdinaryStalk$Reader" (192 : Nat) ({ cls := "OrdinaryStalk$Reader", name := "number", desc := "(II)I" } : Jvm.MethodName)) ∈ lw_all := lw_g (lw_at lw_m3 222 rfl) rfl
theorem q817 : (Jvm.Cond.privateMethod ({ cls := "OrdinaryStalk$Reader", name := "number", desc := "(II)I" } : Jvm.MethodName)) ∈ lw_tbl := lw_at lw_m3 223 rfl
theorem q818 : (Jvm.Cond.instanceMethod ({ cls := "OrdinaryStalk$Reader", name := "number", desc := "(II)I" } : Jvm.MethodName)) ∈ lw_all := lw_g (lw_at lw_m3 224 rfl) rfl
theorem q819 : (Jvm.Cond.code ({ cls := "OrdinaryStalk$Reader", name := "number", desc := "(II)I" } : Jvm.MethodName) prog_24_method_14_code (3 : Nat) (Option.some Jvm.ClassFile.FieldType.int)) ∈ lw_all := lw_g (lw_at lw_m3 225 rfl) rfl
theorem q820 : (Jvm.Cond.methodLink "OrdinaryStalk$Reader" (178 : Nat) ({ cls := "OrdinaryStalk$Reader", name := "person", desc := "()V" } : Jvm.MethodName)) ∈ lw_all := lw_g (lw_at lw_m3 226 rfl) rfl
theorem q821 : (Jvm.Cond.privateMethod ({ cls := "OrdinaryStalk$Reader", name := "person", desc := "()V" } : Jvm.MethodName)) ∈ lw_tbl := lw_at lw_m3 227 rfl
theorem q822 : (Jvm.Cond.instanceMethod ({ cls := "OrdinaryStalk$Reader", name := "person", desc := "()V" } : Jvm.MethodName)) ∈ lw_all := lw_g (lw_at lw_m3 228 rfl) rfl
theorem q823 : (Jvm.Cond.code ({ cls := "OrdinaryStalk$Reader", name := "person", desc := "()V" } : Jvm.MethodName) prog_24_method_20_code (6 : Nat) (Option.none : Option Jvm.ClassFile.FieldType)) ∈ lw_all := lw_g (lw_at lw_m3 229 rfl) rfl
theorem q824 : (Jvm.Cond.methodLink "OrdinaryStalk$Reader" (238 : Nat) ({ cls := "java/util/ArrayList", name := "size", desc := "()I" } : Jvm.MethodName)) ∈ lw_all := lw_g (lw_at lw_m3 230 rfl) rfl
theorem q825 : (Jvm.Cond.methodLink "OrdinaryStalk$Reader" (241 : Nat) ({ cls := "OrdinaryStalk$Reader", name := "newName", desc := "(ZI)V" } : Jvm.MethodName)) ∈ lw_all := lw_g (lw_at lw_m3 231 rfl) rfl
theorem q826 : (Jvm.Cond.privateMethod ({ cls := "OrdinaryStalk$Reader", name := "newName", desc := "(ZI)V" } : Jvm.MethodName)) ∈ lw_tbl := lw_at lw_m3 232 rfl
theorem q827 : (Jvm.Cond.instanceMethod ({ cls := "OrdinaryStalk$Reader", name := "newName", desc := "(ZI)V" } : Jvm.MethodName)) ∈ lw_all := lw_g (lw_at lw_m3 233 rfl) rfl
theorem q828 : (Jvm.Cond.code ({ cls := "OrdinaryStalk$Reader", name := "newName", desc := "(ZI)V" } : Jvm.MethodName) prog_24_method_18_code (3 : Nat) (Option.none : Option Jvm.ClassFile.FieldType)) ∈ lw_all := lw_g (lw_at lw_m3 234 rfl) rfl
theorem q829 : (Jvm.Cond.methodLink "OrdinaryStalk$Reader" (196 : Nat) ({ cls := "OrdinaryStalk$Reader", name := "isName", desc := "()Z" } : Jvm.MethodName)) ∈ lw_all := lw_g (lw_at lw_m3 235 rfl) rfl
theorem q830 : (Jvm.Cond.privateMethod ({ cls := "OrdinaryStalk$Reader", name := "isName", desc := "()Z" } : Jvm.MethodName)) ∈ lw_tbl := lw_at lw_m3 236 rfl
theorem q831 : (Jvm.Cond.instanceMethod ({ cls := "OrdinaryStalk$Reader", name := "isName", desc := "()Z" } : Jvm.MethodName)) ∈ lw_all := lw_g (lw_at lw_m3 237 rfl) rfl
theorem q832 : (Jvm.Cond.code ({ cls := "OrdinaryStalk$Reader", name := "isName", desc := "()Z" } : Jvm.MethodName) prog_24_method_15_code (1 : Nat) (Option.some Jvm.ClassFile.FieldType.boolean)) ∈ lw_all := lw_g (lw_at lw_m3 238 rfl) rfl
theorem q833 : (Jvm.Cond.methodLink "OrdinaryStalk$Reader" (159 : Nat) ({ cls := "OrdinaryStalk$Reader", name := "which", desc := "([Ljava/lang/String;)I" } : Jvm.MethodName)) ∈ lw_all := lw_g (lw_at lw_m3 239 rfl) rfl
theorem q834 : (Jvm.Cond.privateMethod ({ cls := "OrdinaryStalk$Reader", name := "which", desc := "([Ljava/lang/String;)I" } : Jvm.MethodName)) ∈ lw_tbl := lw_at lw_m4 0 rfl
theorem q835 : (Jvm.Cond.instanceMethod ({ cls := "OrdinaryStalk$Reader", name := "which", desc := "([Ljava/lang/String;)I" } : Jvm.MethodName)) ∈ lw_all := lw_g (lw_at lw_m4 1 rfl) rfl
theorem q836 : (Jvm.Cond.code ({ cls := "OrdinaryStalk$Reader", name := "which", desc := "([Ljava/lang/String;)I" } : Jvm.MethodName) prog_24_method_10_code (3 : Nat) (Option.some Jvm.ClassFile.FieldType.int)) ∈ lw_all := lw_g (lw_at lw_m4 2 rfl) rfl
theorem q837 : (Jvm.Cond.methodLink "OrdinaryStalk$Reader" (200 : Nat) ({ cls := "OrdinaryStalk$Camp", name := "find", desc := "(J)I" } : Jvm.MethodName)) ∈ lw_all := lw_g (lw_at lw_m4 3 rfl) rfl
theorem q850 : (Jvm.Cond.methodLink "OrdinaryStalk$Reader" (208 : Nat) ({ cls := "java/lang/Long", name := "valueOf", desc := "(J)Ljava/lang/Long;" } : Jvm.MethodName)) ∈ lw_all := lw_g (lw_at lw_m4 16 rfl) rfl
theorem q870 : (Jvm.Cond.methodLink "OrdinaryStalk$Reader" (214 : Nat) ({ cls := "java/util/ArrayList", name := "add", desc := "(Ljava/lang/Object;)Z" } : Jvm.MethodName)) ∈ lw_all := lw_g (lw_at lw_m4 36 rfl) rfl
theorem q920 : (Jvm.Cond.selects "OrdinaryStalk$Reader" ({ cls := "java/lang/Object", name := "getClass", desc := "()Ljava/lang/Class;" } : Jvm.MethodName) ({ cls := "java/lang/Object", name := "getClass", desc := "()Ljava/lang/Class;" } : Jvm.MethodName)) ∈ lw_all := lw_g (lw_at lw_m4 86 rfl) rfl
theorem q944 : (Jvm.Cond.methodLink "OrdinaryStalk$Reader" (223 : Nat) ({ cls := "java/lang/Integer", name := "valueOf", desc := "(I)Ljava/lang/Integer;" } : Jvm.MethodName)) ∈ lw_all := lw_g (lw_at lw_m4 110 rfl) rfl
theorem q961 : (Jvm.Cond.methodLink "OrdinaryStalk$Reader" (245 : Nat) ({ cls := "OrdinaryStalk$Reader", name := "row", desc := "(I)[I" } : Jvm.MethodName)) ∈ lw_all := lw_g (lw_at lw_m4 127 rfl) rfl
theorem q962 : (Jvm.Cond.privateMethod ({ cls := "OrdinaryStalk$Reader", name := "row", desc := "(I)[I" } : Jvm.MethodName)) ∈ lw_tbl := lw_at lw_m4 128 rfl
theorem q963 : (Jvm.Cond.instanceMethod ({ cls := "OrdinaryStalk$Reader", name := "row", desc := "(I)[I" } : Jvm.MethodName)) ∈ lw_all := lw_g (lw_at lw_m4 129 rfl) rfl
theorem q964 : (Jvm.Cond.code ({ cls := "OrdinaryStalk$Reader", name := "row", desc := "(I)[I" } : Jvm.MethodName) prog_24_method_22_code (5 : Nat) (Option.some (Jvm.ClassFile.FieldType.array Jvm.ClassFile.FieldType.int))) ∈ lw_all := lw_g (lw_at lw_m4 130 rfl) rfl
theorem q965 : (Jvm.Cond.methodLink "OrdinaryStalk$Reader" (256 : Nat) ({ cls := "java/lang/System", name := "arraycopy", desc := "(Ljava/lang/Object;ILjava/lang/Object;II)V" } : Jvm.MethodName)) ∈ lw_all := lw_g (lw_at lw_m4 131 rfl) rfl
theorem q966 : (Jvm.Cond.methodLinkNest "OrdinaryStalk$Reader" (249 : Nat) ({ cls := "OrdinaryStalk", name := "made", desc := "(IIII[I)LOrdinaryStalk$Person;" } : Jvm.MethodName) "OrdinaryStalk") ∈ lw_tbl := lw_at lw_m4 132 rfl
theorem q1028 : (Jvm.Cond.methodLink "OrdinaryStalk$Reader" (180 : Nat) ({ cls := "OrdinaryStalk$Reader", name := "scout", desc := "()V" } : Jvm.MethodName)) ∈ lw_all := lw_g (lw_at lw_m4 194 rfl) rfl
theorem q1029 : (Jvm.Cond.privateMethod ({ cls := "OrdinaryStalk$Reader", name := "scout", desc := "()V" } : Jvm.MethodName)) ∈ lw_tbl := lw_at lw_m4 195 rfl
theorem q1030 : (Jvm.Cond.instanceMethod ({ cls := "OrdinaryStalk$Reader", name := "scout", desc := "()V" } : Jvm.MethodName)) ∈ lw_all := lw_g (lw_at lw_m4 196 rfl) rfl
theorem q1031 : (Jvm.Cond.code ({ cls := "OrdinaryStalk$Reader", name := "scout", desc := "()V" } : Jvm.MethodName) prog_24_method_21_code (2 : Nat) (Option.none : Option Jvm.ClassFile.FieldType)) ∈ lw_all := lw_g (lw_at lw_m4 197 rfl) rfl
theorem q1032 : (Jvm.Cond.methodLink "OrdinaryStalk$Reader" (182 : Nat) ({ cls := "OrdinaryStalk$Reader", name := "single", desc := "()V" } : Jvm.MethodName)) ∈ lw_all := lw_g (lw_at lw_m4 198 rfl) rfl
theorem q1033 : (Jvm.Cond.privateMethod ({ cls := "OrdinaryStalk$Reader", name := "single", desc := "()V" } : Jvm.MethodName)) ∈ lw_tbl := lw_at lw_m4 199 rfl
theorem q1034 : (Jvm.Cond.instanceMethod ({ cls := "OrdinaryStalk$Reader", name := "single", desc := "()V" } : Jvm.MethodName)) ∈ lw_all := lw_g (lw_at lw_m4 200 rfl) rfl
theorem q1035 : (Jvm.Cond.code ({ cls := "OrdinaryStalk$Reader", name := "single", desc := "()V" } : Jvm.MethodName) prog_24_method_23_code (2 : Nat) (Option.none : Option Jvm.ClassFile.FieldType)) ∈ lw_all := lw_g (lw_at lw_m4 201 rfl) rfl
theorem q1036 : (Jvm.Cond.methodLinkNest "OrdinaryStalk$Reader" (262 : Nat) ({ cls := "OrdinaryStalk", name := "has", desc := "(II)Z" } : Jvm.MethodName) "OrdinaryStalk") ∈ lw_tbl := lw_at lw_m4 202 rfl
theorem q1039 : (Jvm.Cond.methodLink "OrdinaryStalk$Reader" (274 : Nat) ({ cls := "OrdinaryStalk$Reader", name := "whole", desc := "()LOrdinaryStalk$Expression;" } : Jvm.MethodName)) ∈ lw_all := lw_g (lw_at lw_m4 205 rfl) rfl
theorem q1040 : (Jvm.Cond.privateMethod ({ cls := "OrdinaryStalk$Reader", name := "whole", desc := "()LOrdinaryStalk$Expression;" } : Jvm.MethodName)) ∈ lw_tbl := lw_at lw_m4 206 rfl
theorem q1041 : (Jvm.Cond.instanceMethod ({ cls := "OrdinaryStalk$Reader", name := "whole", desc := "()LOrdinaryStalk$Expression;" } : Jvm.MethodName)) ∈ lw_all := lw_g (lw_at lw_m4 207 rfl) rfl
theorem q1042 : (Jvm.Cond.code ({ cls := "OrdinaryStalk$Reader", name := "whole", desc := "()LOrdinaryStalk$Expression;" } : Jvm.MethodName) prog_24_method_28_code (1 : Nat) (Option.some (Jvm.ClassFile.FieldType.object "OrdinaryStalk$Expression"))) ∈ lw_all := lw_g (lw_at lw_m4 208 rfl) rfl
theorem q1043 : (Jvm.Cond.methodLink "OrdinaryStalk$Reader" (306 : Nat) ({ cls := "OrdinaryStalk$Reader", name := "all", desc := "()LOrdinaryStalk$Expression;" } : Jvm.MethodName)) ∈ lw_all := lw_g (lw_at lw_m4 209 rfl) rfl
theorem q1044 : (Jvm.Cond.privateMethod ({ cls := "OrdinaryStalk$Reader", name := "all", desc := "()LOrdinaryStalk$Expression;" } : Jvm.MethodName)) ∈ lw_tbl := lw_at lw_m4 210 rfl
theorem q1045 : (Jvm.Cond.instanceMethod ({ cls := "OrdinaryStalk$Reader", name := "all", desc := "()LOrdinaryStalk$Expression;" } : Jvm.MethodName)) ∈ lw_all := lw_g (lw_at lw_m4 211 rfl) rfl
theorem q1046 : (Jvm.Cond.code ({ cls := "OrdinaryStalk$Reader", name := "all", desc := "()LOrdinaryStalk$Expression;" } : Jvm.MethodName) prog_24_method_30_code (5 : Nat) (Option.some (Jvm.ClassFile.FieldType.object "OrdinaryStalk$Expression"))) ∈ lw_all := lw_g (lw_at lw_m4 212 rfl) rfl
theorem q1047 : (Jvm.Cond.methodLink "OrdinaryStalk$Reader" (314 : Nat) ({ cls := "OrdinaryStalk$Reader", name := "test", desc := "()LOrdinaryStalk$Expression;" } : Jvm.MethodName)) ∈ lw_all := lw_g (lw_at lw_m4 213 rfl) rfl
theorem q1048 : (Jvm.Cond.privateMethod ({ cls := "OrdinaryStalk$Reader", name := "test", desc := "()LOrdinaryStalk$Expression;" } : Jvm.MethodName)) ∈ lw_tbl := lw_at lw_m4 214 rfl
theorem q1049 : (Jvm.Cond.instanceMethod ({ cls := "OrdinaryStalk$Reader", name := "test", desc := "()LOrdinaryStalk$Expression;" } : Jvm.MethodName)) ∈ lw_all := lw_g (lw_at lw_m4 215 rfl) rfl
theorem q1050 : (Jvm.Cond.code ({ cls := "OrdinaryStalk$Reader", name := "test", desc := "()LOrdinaryStalk$Expression;" } : Jvm.MethodName) prog_24_method_31_code (5 : Nat) (Option.some (Jvm.ClassFile.FieldType.object "OrdinaryStalk$Expression"))) ∈ lw_all := lw_g (lw_at lw_m4 216 rfl) rfl
theorem q1051 : (Jvm.Cond.methodLink "OrdinaryStalk$Reader" (330 : Nat) ({ cls := "OrdinaryStalk$Reader", name := "sum", desc := "()LOrdinaryStalk$Expression;" } : Jvm.MethodName)) ∈ lw_all := lw_g (lw_at lw_m4 217 rfl) rfl
theorem q1052 : (Jvm.Cond.privateMethod ({ cls := "OrdinaryStalk$Reader", name := "sum", desc := "()LOrdinaryStalk$Expression;" } : Jvm.MethodName)) ∈ lw_tbl := lw_at lw_m4 218 rfl
theorem q1053 : (Jvm.Cond.instanceMethod ({ cls := "OrdinaryStalk$Reader", name := "sum", desc := "()LOrdinaryStalk$Expression;" } : Jvm.MethodName)) ∈ lw_all := lw_g (lw_at lw_m4 219 rfl) rfl
theorem q1054 : (Jvm.Cond.code ({ cls := "OrdinaryStalk$Reader", name := "sum", desc := "()LOrdinaryStalk$Expression;" } : Jvm.MethodName) prog_24_method_32_code (5 : Nat) (Option.some (Jvm.ClassFile.FieldType.object "OrdinaryStalk$Expression"))) ∈ lw_all := lw_g (lw_at lw_m4 220 rfl) rfl
theorem q1055 : (Jvm.Cond.methodLink "OrdinaryStalk$Reader" (339 : Nat) ({ cls := "OrdinaryStalk$Reader", name := "term", desc := "()LOrdinaryStalk$Expression;" } : Jvm.MethodName)) ∈ lw_all := lw_g (lw_at lw_m4 221 rfl) rfl
theorem q1056 : (Jvm.Cond.privateMethod ({ cls := "OrdinaryStalk$Reader", name := "term", desc := "()LOrdinaryStalk$Expression;" } : Jvm.MethodName)) ∈ lw_tbl := lw_at lw_m4 222 rfl
theorem q1057 : (Jvm.Cond.instanceMethod ({ cls := "OrdinaryStalk$Reader", name := "term", desc := "()LOrdinaryStalk$Expression;" } : Jvm.MethodName)) ∈ lw_all := lw_g (lw_at lw_m4 223 rfl) rfl
theorem q1058 : (Jvm.Cond.code ({ cls := "OrdinaryStalk$Reader", name := "term", desc := "()LOrdinaryStalk$Expression;" } : Jvm.MethodName) prog_24_method_33_code (4 : Nat) (Option.some (Jvm.ClassFile.FieldType.object "OrdinaryStalk$Expression"))) ∈ lw_all := lw_g (lw_at lw_m4 224 rfl) rfl
theorem q1059 : (Jvm.Cond.methodLink "OrdinaryStalk$Reader" (348 : Nat) ({ cls := "OrdinaryStalk$Reader", name := "part", desc := "()LOrdinaryStalk$Expression;" } : Jvm.MethodName)) ∈ lw_all := lw_g (lw_at lw_m4 225 rfl) rfl
theorem q1060 : (Jvm.Cond.privateMethod ({ cls := "OrdinaryStalk$Reader", name := "part", desc := "()LOrdinaryStalk$Expression;" } : Jvm.MethodName)) ∈ lw_tbl := lw_at lw_m4 226 rfl
theorem q1061 : (Jvm.Cond.instanceMethod ({ cls := "OrdinaryStalk$Reader", name := "part", desc := "()LOrdinaryStalk$Expression;" } : Jvm.MethodName)) ∈ lw_all := lw_g (lw_at lw_m4 227 rfl) rfl
theorem q1062 : (Jvm.Cond.code ({ cls := "OrdinaryStalk$Reader", name := "part", desc := "()LOrdinaryStalk$Expression;" } : Jvm.MethodName) prog_24_method_34_code (4 : Nat) (Option.some (Jvm.ClassFile.FieldType.object "OrdinaryStalk$Expression"))) ∈ lw_all := lw_g (lw_at lw_m4 228 rfl) rfl
theorem q1063 : (Jvm.Cond.methodLink "OrdinaryStalk$Reader" (149 : Nat) ({ cls := "OrdinaryStalk$Reader", name := "isSign", desc := "(I)Z" } : Jvm.MethodName)) ∈ lw_all := lw_g (lw_at lw_m4 229 rfl) rfl
theorem q1064 : (Jvm.Cond.privateMethod ({ cls := "OrdinaryStalk$Reader", name := "isSign", desc := "(I)Z" } : Jvm.MethodName)) ∈ lw_tbl := lw_at lw_m4 230 rfl
theorem q1065 : (Jvm.Cond.instanceMethod ({ cls := "OrdinaryStalk$Reader", name := "isSign", desc := "(I)Z" } : Jvm.MethodName)) ∈ lw_all := lw_g (lw_at lw_m4 231 rfl) rfl
theorem q1066 : (Jvm.Cond.code ({ cls := "OrdinaryStalk$Reader", name := "isSign", desc := "(I)Z" } : Jvm.MethodName) prog_24_method_11_code (2 : Nat) (Option.some Jvm.ClassFile.FieldType.boolean)) ∈ lw_all := lw_g (lw_at lw_m4 232 rfl) rfl
theorem q1067 : (Jvm.Cond.classLink "OrdinaryStalk$Reader" (354 : Nat) "OrdinaryStalk$Fact") ∈ lw_all := lw_g (lw_at lw_m4 233 rfl) rfl
theorem q1069 : (Jvm.Cond.methodLink "OrdinaryStalk$Reader" (356 : Nat) ({ cls := "OrdinaryStalk$Fact", name := "<init>", desc := "(I)V" } : Jvm.MethodName)) ∈ lw_all := lw_g (lw_at lw_m4 235 rfl) rfl
theorem q1080 : (Jvm.Cond.classLink "OrdinaryStalk$Reader" (357 : Nat) "OrdinaryStalk$Plain") ∈ lw_all := lw_g (lw_at lw_m5 6 rfl) rfl
theorem q1082 : (Jvm.Cond.methodLink "OrdinaryStalk$Reader" (359 : Nat) ({ cls := "OrdinaryStalk$Plain", name := "<init>", desc := "(I)V" } : Jvm.MethodName)) ∈ lw_all := lw_g (lw_at lw_m5 8 rfl) rfl
theorem q1090 : (Jvm.Cond.classLink "OrdinaryStalk$Reader" (360 : Nat) "OrdinaryStalk$Not") ∈ lw_all := lw_g (lw_at lw_m5 16 rfl) rfl
theorem q1092 : (Jvm.Cond.methodLink "OrdinaryStalk$Reader" (362 : Nat) ({ cls := "OrdinaryStalk$Not", name := "<init>", desc := "(LOrdinaryStalk$Expression;)V" } : Jvm.MethodName)) ∈ lw_all := lw_g (lw_at lw_m5 18 rfl) rfl
theorem q1100 : (Jvm.Cond.methodLink "OrdinaryStalk$Reader" (185 : Nat) ({ cls := "OrdinaryStalk$Reader", name := "sign", desc := "(I)V" } : Jvm.MethodName)) ∈ lw_all := lw_g (lw_at lw_m5 26 rfl) rfl
theorem q1101 : (Jvm.Cond.privateMethod ({ cls := "OrdinaryStalk$Reader", name := "sign", desc := "(I)V" } : Jvm.MethodName)) ∈ lw_tbl := lw_at lw_m5 27 rfl
theorem q1102 : (Jvm.Cond.instanceMethod ({ cls := "OrdinaryStalk$Reader", name := "sign", desc := "(I)V" } : Jvm.MethodName)) ∈ lw_all := lw_g (lw_at lw_m5 28 rfl) rfl
theorem q1103 : (Jvm.Cond.code ({ cls := "OrdinaryStalk$Reader", name := "sign", desc := "(I)V" } : Jvm.MethodName) prog_24_method_13_code (2 : Nat) (Option.none : Option Jvm.ClassFile.FieldType)) ∈ lw_all := lw_g (lw_at lw_m5 29 rfl) rfl
theorem q1104 : (Jvm.Cond.methodLink "OrdinaryStalk$Reader" (152 : Nat) ({ cls := "OrdinaryStalk$Reader", name := "hasSign", desc := "(I)Z" } : Jvm.MethodName)) ∈ lw_all := lw_g (lw_at lw_m5 30 rfl) rfl
theorem q1105 : (Jvm.Cond.privateMethod ({ cls := "OrdinaryStalk$Reader", name := "hasSign", desc := "(I)Z" } : Jvm.MethodName)) ∈ lw_tbl := lw_at lw_m5 31 rfl
theorem q1106 : (Jvm.Cond.instanceMethod ({ cls := "OrdinaryStalk$Reader", name := "hasSign", desc := "(I)Z" } : Jvm.MethodName)) ∈ lw_all := lw_g (lw_at lw_m5 32 rfl) rfl
theorem q1107 : (Jvm.Cond.code ({ cls := "OrdinaryStalk$Reader", name := "hasSign", desc := "(I)Z" } : Jvm.MethodName) prog_24_method_12_code (3 : Nat) (Option.some Jvm.ClassFile.FieldType.boolean)) ∈ lw_all := lw_g (lw_at lw_m5 33 rfl) rfl
theorem q1108 : (Jvm.Cond.methodLink "OrdinaryStalk$Reader" (317 : Nat) ({ cls := "OrdinaryStalk$Reader", name := "chain", desc := "(LOrdinaryStalk$Expression;LOrdinaryStalk$Chain;)LOrdinaryStalk$Chain;" } : Jvm.MethodName)) ∈ lw_all := lw_g (lw_at lw_m5 34 rfl) rfl
theorem q1109 : (Jvm.Cond.static ({ cls := "OrdinaryStalk$Reader", name := "chain", desc := "(LOrdinaryStalk$Expression;LOrdinaryStalk$Chain;)LOrdinaryStalk$Chain;" } : Jvm.MethodName)) ∈ lw_all := lw_g (lw_at lw_m5 35 rfl) rfl
theorem q1110 : (Jvm.Cond.code ({ cls := "OrdinaryStalk$Reader", name := "chain", desc := "(LOrdinaryStalk$Expression;LOrdinaryStalk$Chain;)LOrdinaryStalk$Chain;" } : Jvm.MethodName) prog_24_method_29_code (2 : Nat) (Option.some (Jvm.ClassFile.FieldType.object "OrdinaryStalk$Chain"))) ∈ lw_all := lw_g (lw_at lw_m5 36 rfl) rfl
theorem q1111 : (Jvm.Cond.classLink "OrdinaryStalk$Reader" (309 : Nat) "OrdinaryStalk$Chain") ∈ lw_all := lw_g (lw_at lw_m5 37 rfl) rfl
theorem q1113 : (Jvm.Cond.methodLink "OrdinaryStalk$Reader" (311 : Nat) ({ cls := "OrdinaryStalk$Chain", name := "<init>", desc := "(LOrdinaryStalk$Expression;)V" } : Jvm.MethodName)) ∈ lw_all := lw_g (lw_at lw_m5 39 rfl) rfl
theorem q1121 : (Jvm.Cond.fieldLink "OrdinaryStalk$Reader" (321 : Nat) "OrdinaryStalk$Chain" "links" "Ljava/util/ArrayList;") ∈ lw_all := lw_g (lw_at lw_m5 47 rfl) rfl
theorem q1127 : (Jvm.Cond.classLink "OrdinaryStalk$Reader" (351 : Nat) "OrdinaryStalk$Times") ∈ lw_all := lw_g (lw_at lw_m5 53 rfl) rfl
theorem q1129 : (Jvm.Cond.methodLink "OrdinaryStalk$Reader" (353 : Nat) ({ cls := "OrdinaryStalk$Times", name := "<init>", desc := "(LOrdinaryStalk$Expression;)V" } : Jvm.MethodName)) ∈ lw_all := lw_g (lw_at lw_m5 55 rfl) rfl
theorem q1140 : (Jvm.Cond.classLink "OrdinaryStalk$Reader" (342 : Nat) "OrdinaryStalk$Plus") ∈ lw_all := lw_g (lw_at lw_m5 66 rfl) rfl
theorem q1142 : (Jvm.Cond.methodLink "OrdinaryStalk$Reader" (344 : Nat) ({ cls := "OrdinaryStalk$Plus", name := "<init>", desc := "(LOrdinaryStalk$Expression;)V" } : Jvm.MethodName)) ∈ lw_all := lw_g (lw_at lw_m5 68 rfl) rfl
theorem q1148 : (Jvm.Cond.classLink "OrdinaryStalk$Reader" (345 : Nat) "OrdinaryStalk$Minus") ∈ lw_all := lw_g (lw_at lw_m5 74 rfl) rfl
theorem q1150 : (Jvm.Cond.methodLink "OrdinaryStalk$Reader" (347 : Nat) ({ cls := "OrdinaryStalk$Minus", name := "<init>", desc := "(LOrdinaryStalk$Expression;)V" } : Jvm.MethodName)) ∈ lw_all := lw_g (lw_at lw_m5 76 rfl) rfl
theorem q1156 : (Jvm.Cond.classLink "OrdinaryStalk$Reader" (333 : Nat) "OrdinaryStalk$Less") ∈ lw_all := lw_g (lw_at lw_m5 82 rfl) rfl
theorem q1158 : (Jvm.Cond.methodLink "OrdinaryStalk$Reader" (335 : Nat) ({ cls := "OrdinaryStalk$Less", name := "<init>", desc := "(LOrdinaryStalk$Expression;)V" } : Jvm.MethodName)) ∈ lw_all := lw_g (lw_at lw_m5 84 rfl) rfl
theorem q1164 : (Jvm.Cond.classLink "OrdinaryStalk$Reader" (336 : Nat) "OrdinaryStalk$Same") ∈ lw_all := lw_g (lw_at lw_m5 90 rfl) rfl
theorem q1166 : (Jvm.Cond.methodLink "OrdinaryStalk$Reader" (338 : Nat) ({ cls := "OrdinaryStalk$Same", name := "<init>", desc := "(LOrdinaryStalk$Expression;)V" } : Jvm.MethodName)) ∈ lw_all := lw_g (lw_at lw_m5 92 rfl) rfl
theorem q1172 : (Jvm.Cond.classLink "OrdinaryStalk$Reader" (324 : Nat) "OrdinaryStalk$And") ∈ lw_all := lw_g (lw_at lw_m5 98 rfl) rfl
theorem q1174 : (Jvm.Cond.methodLink "OrdinaryStalk$Reader" (326 : Nat) ({ cls := "OrdinaryStalk$And", name := "<init>", desc := "(LOrdinaryStalk$Expression;)V" } : Jvm.MethodName)) ∈ lw_all := lw_g (lw_at lw_m5 100 rfl) rfl
theorem q1180 : (Jvm.Cond.classLink "OrdinaryStalk$Reader" (327 : Nat) "OrdinaryStalk$Or") ∈ lw_all := lw_g (lw_at lw_m5 106 rfl) rfl
theorem q1182 : (Jvm.Cond.methodLink "OrdinaryStalk$Reader" (329 : Nat) ({ cls := "OrdinaryStalk$Or", name := "<init>", desc := "(LOrdinaryStalk$Expression;)V" } : Jvm.MethodName)) ∈ lw_all := lw_g (lw_at lw_m5 108 rfl) rfl
theorem q1201 : (Jvm.Cond.instanceMethod ({ cls := "OrdinaryStalk$Reader", name := "day", desc := "(LOrdinaryStalk$Camp;)Ljava/util/ArrayList;" } : Jvm.MethodName)) ∈ lw_all := lw_g (lw_at lw_m5 127 rfl) rfl
theorem q1202 : (Jvm.Cond.selects "OrdinaryStalk$Reader" ({ cls := "OrdinaryStalk$Reader", name := "day", desc := "(LOrdinaryStalk$Camp;)Ljava/util/ArrayList;" } : Jvm.MethodName) ({ cls := "OrdinaryStalk$Reader", name := "day", desc := "(LOrdinaryStalk$Camp;)Ljava/util/ArrayList;" } : Jvm.MethodName)) ∈ lw_all := lw_g (lw_at lw_m5 128 rfl) rfl
theorem q1203 : (Jvm.Cond.code ({ cls := "OrdinaryStalk$Reader", name := "day", desc := "(LOrdinaryStalk$Camp;)Ljava/util/ArrayList;" } : Jvm.MethodName) prog_24_method_25_code (4 : Nat) (Option.some (Jvm.ClassFile.FieldType.object "java/util/ArrayList"))) ∈ lw_all := lw_g (lw_at lw_m5 129 rfl) rfl
theorem q1204 : (Jvm.Cond.classLink "OrdinaryStalk$Reader" (215 : Nat) "java/util/ArrayList") ∈ lw_all := lw_g (lw_at lw_m5 130 rfl) rfl
theorem q1205 : (Jvm.Cond.methodLink "OrdinaryStalk$Reader" (281 : Nat) ({ cls := "java/util/ArrayList", name := "<init>", desc := "(I)V" } : Jvm.MethodName)) ∈ lw_all := lw_g (lw_at lw_m5 131 rfl) rfl
theorem q1206 : (Jvm.Cond.methodLink "OrdinaryStalk$Reader" (282 : Nat) ({ cls := "OrdinaryStalk$Reader", name := "line", desc := "(I)LOrdinaryStalk$Line;" } : Jvm.MethodName)) ∈ lw_all := lw_g (lw_at lw_m5 132 rfl) rfl
theorem q1207 : (Jvm.Cond.privateMethod ({ cls := "OrdinaryStalk$Reader", name := "line", desc := "(I)LOrdinaryStalk$Line;" } : Jvm.MethodName)) ∈ lw_tbl := lw_at lw_m5 133 rfl
theorem q1208 : (Jvm.Cond.instanceMethod ({ cls := "OrdinaryStalk$Reader", name := "line", desc := "(I)LOrdinaryStalk$Line;" } : Jvm.MethodName)) ∈ lw_all := lw_g (lw_at lw_m5 134 rfl) rfl
theorem q1209 : (Jvm.Cond.code ({ cls := "OrdinaryStalk$Reader", name := "line", desc := "(I)LOrdinaryStalk$Line;" } : Jvm.MethodName) prog_24_method_26_code (3 : Nat) (Option.some (Jvm.ClassFile.FieldType.object "OrdinaryStalk$Line"))) ∈ lw_all := lw_g (lw_at lw_m5 135 rfl) rfl
theorem q1210 : (Jvm.Cond.classLink "OrdinaryStalk$Reader" (286 : Nat) "OrdinaryStalk$Steps") ∈ lw_all := lw_g (lw_at lw_m5 136 rfl) rfl
theorem q1212 : (Jvm.Cond.methodLinkNest "OrdinaryStalk$Reader" (288 : Nat) ({ cls := "OrdinaryStalk$Steps", name := "<init>", desc := "()V" } : Jvm.MethodName) "OrdinaryStalk") ∈ lw_tbl := lw_at lw_m5 138 rfl
theorem q1220 : (Jvm.Cond.methodLink "OrdinaryStalk$Reader" (289 : Nat) ({ cls := "OrdinaryStalk$Reader", name := "told", desc := "()I" } : Jvm.MethodName)) ∈ lw_all := lw_g (lw_at lw_m5 146 rfl) rfl
theorem q1221 : (Jvm.Cond.privateMethod ({ cls := "OrdinaryStalk$Reader", name := "told", desc := "()I" } : Jvm.MethodName)) ∈ lw_tbl := lw_at lw_m5 147 rfl
theorem q1222 : (Jvm.Cond.instanceMethod ({ cls := "OrdinaryStalk$Reader", name := "told", desc := "()I" } : Jvm.MethodName)) ∈ lw_all := lw_g (lw_at lw_m5 148 rfl) rfl
theorem q1223 : (Jvm.Cond.code ({ cls := "OrdinaryStalk$Reader", name := "told", desc := "()I" } : Jvm.MethodName) prog_24_method_24_code (2 : Nat) (Option.some Jvm.ClassFile.FieldType.int)) ∈ lw_all := lw_g (lw_at lw_m5 149 rfl) rfl
theorem q1224 : (Jvm.Cond.classLink "OrdinaryStalk$Reader" (292 : Nat) "OrdinaryStalk$Creeps") ∈ lw_all := lw_g (lw_at lw_m5 150 rfl) rfl
theorem q1226 : (Jvm.Cond.methodLink "OrdinaryStalk$Reader" (294 : Nat) ({ cls := "OrdinaryStalk$Creeps", name := "<init>", desc := "(II)V" } : Jvm.MethodName)) ∈ lw_all := lw_g (lw_at lw_m5 152 rfl) rfl
theorem q1237 : (Jvm.Cond.classLink "OrdinaryStalk$Reader" (297 : Nat) "OrdinaryStalk$Offs") ∈ lw_all := lw_g (lw_at lw_m5 163 rfl) rfl
theorem q1239 : (Jvm.Cond.methodLink "OrdinaryStalk$Reader" (299 : Nat) ({ cls := "OrdinaryStalk$Offs", name := "<init>", desc := "(I)V" } : Jvm.MethodName)) ∈ lw_all := lw_g (lw_at lw_m5 165 rfl) rfl
theorem q2411 : (Jvm.Cond.castable "OrdinaryStalk$Reader" "java/lang/Object") ∈ lw_tbl := lw_at lw_m10 137 rfl
theorem in_X2 : ∀ w ∈ wsX20, w ∈ lw_all := lw_in wsX20 [226, 228, 230, 232, 234, 236, 238, 240, 242, 244, 246, 248, 250, 252] (by decide +kernel) (by decide +kernel)

/-! OrdinaryStalk$Hunt -/
def RX3 : String := "OrdinaryStalk$Hunt"
def TX3 : u_T := fun k => match k with
  | 0 => ("OrdinaryStalk$Hunt", "camp", "LOrdinaryStalk$Camp;", false)
  | 1 => ("OrdinaryStalk$Hunt", "step", "I", false)
  | 2 => ("OrdinaryStalk$Hunt", "usual", "I", false)
  | 3 => ("OrdinaryStalk$Hunt", "off", "I", false)
  | 4 => ("OrdinaryStalk$Hunt", "crept", "I", false)
  | 5 => ("OrdinaryStalk$Hunt", "marks", "I", false)
  | 6 => ("OrdinaryStalk$Hunt", "heard", "I", false)
  | 7 => ("OrdinaryStalk$Hunt", "person", "[I", true)
  | 8 => ("OrdinaryStalk$Hunt", "scout", "[I", true)
  | 9 => ("OrdinaryStalk$Hunt", "got", "[I", true)
  | _ => ("OrdinaryStalk$Hunt", "stayed", "[Z", true)
def tyX3 : Nat → FieldType := fun k => match k with
  | 0 => .object "OrdinaryStalk$Camp"
  | 1 => .int
  | 2 => .int
  | 3 => .int
  | 4 => .int
  | 5 => .int
  | 6 => .int
  | 7 => .array .int
  | 8 => .array .int
  | 9 => .array .int
  | _ => .array .boolean
abbrev wsX30 : List Cond := u_ws RX3 TX3 11
theorem nmX3 : ∀ a, a < 11 → ∀ b, b < 11 → a ≠ b → (TX3 a).2.1 ≠ (TX3 b).2.1 := by decide +kernel
theorem tyX3_ok : ∀ k, k < 11 → parseFieldDescriptor (TX3 k).2.2.1 = some (tyX3 k) := by decide +kernel
abbrev cX3_init : ByteArray := prog_11_method_1_code
def yX3_init : MethodName := ⟨RX3, "<init>", "()V"⟩
abbrev cX3_begins : ByteArray := prog_11_method_2_code
def yX3_begins : MethodName := ⟨RX3, "begins", "(LOrdinaryStalk$Camp;)LOrdinaryStalk$Hunt;"⟩
abbrev cX3_people : ByteArray := prog_11_method_5_code
def yX3_people : MethodName := ⟨RX3, "people", "()I"⟩
abbrev cX3_of : ByteArray := prog_11_method_7_code
def yX3_of : MethodName := ⟨RX3, "of", "(I)LOrdinaryStalk$Person;"⟩
abbrev cX3_scouts : ByteArray := prog_11_method_6_code
def yX3_scouts : MethodName := ⟨RX3, "scouts", "()I"⟩
abbrev cX3_mayCreep : ByteArray := prog_11_method_8_code
def yX3_mayCreep : MethodName := ⟨RX3, "mayCreep", "(II)Z"⟩
abbrev cX3_copied : ByteArray := prog_11_method_3_code
def yX3_copied : MethodName := ⟨RX3, "copied", "()LOrdinaryStalk$Hunt;"⟩
abbrev cX3_copies : ByteArray := prog_11_method_4_code
def yX3_copies : MethodName := ⟨RX3, "copies", "(LOrdinaryStalk$Hunt;)LOrdinaryStalk$Hunt;"⟩
abbrev cX3_creeps : ByteArray := prog_11_method_9_code
def yX3_creeps : MethodName := ⟨RX3, "creeps", "(II)V"⟩
abbrev cX3_passes : ByteArray := prog_11_method_13_code
def yX3_passes : MethodName := ⟨RX3, "passes", "()I"⟩
abbrev cX3_passes_2 : ByteArray := prog_11_method_12_code
def yX3_passes_2 : MethodName := ⟨RX3, "passes", "(I)I"⟩
abbrev cX3_walk : ByteArray := prog_11_method_10_code
def yX3_walk : MethodName := ⟨RX3, "walk", "()V"⟩
abbrev cX3_hears : ByteArray := prog_11_method_11_code
def yX3_hears : MethodName := ⟨RX3, "hears", "(III)Z"⟩
abbrev cX3_gets : ByteArray := prog_11_method_14_code
def yX3_gets : MethodName := ⟨RX3, "gets", "()V"⟩
theorem q117 : (Jvm.Cond.initialized "OrdinaryStalk$Hunt") ∈ lw_all := lw_g (lw_at lw_m1 3 rfl) rfl
theorem q259 : (Jvm.Cond.instantiable "OrdinaryStalk$Hunt" (11 : Nat)) ∈ lw_all := lw_g (lw_at lw_m1 145 rfl) rfl
theorem q261 : (Jvm.Cond.instanceMethod ({ cls := "OrdinaryStalk$Hunt", name := "<init>", desc := "()V" } : Jvm.MethodName)) ∈ lw_all := lw_g (lw_at lw_m1 147 rfl) rfl
theorem q262 : (Jvm.Cond.code ({ cls := "OrdinaryStalk$Hunt", name := "<init>", desc := "()V" } : Jvm.MethodName) prog_11_method_1_code (1 : Nat) (Option.none : Option Jvm.ClassFile.FieldType)) ∈ lw_all := lw_g (lw_at lw_m1 148 rfl) rfl
theorem q263 : (Jvm.Cond.methodLink "OrdinaryStalk$Hunt" (3 : Nat) ({ cls := "java/lang/Object", name := "<init>", desc := "()V" } : Jvm.MethodName)) ∈ lw_all := lw_g (lw_at lw_m1 149 rfl) rfl
theorem q264 : (Jvm.Cond.fieldLink "OrdinaryStalk$Hunt" (25 : Nat) "OrdinaryStalk$Hunt" "camp" "LOrdinaryStalk$Camp;") ∈ lw_all := lw_g (lw_at lw_m1 150 rfl) rfl
theorem q267 : (Jvm.Cond.fieldLink "OrdinaryStalk$Hunt" (29 : Nat) "OrdinaryStalk$Hunt" "step" "I") ∈ lw_all := lw_g (lw_at lw_m1 153 rfl) rfl
theorem q270 : (Jvm.Cond.fieldLink "OrdinaryStalk$Hunt" (37 : Nat) "OrdinaryStalk$Hunt" "usual" "I") ∈ lw_all := lw_g (lw_at lw_m1 156 rfl) rfl
theorem q274 : (Jvm.Cond.fieldLink "OrdinaryStalk$Hunt" (40 : Nat) "OrdinaryStalk$Hunt" "off" "I") ∈ lw_all := lw_g (lw_at lw_m1 160 rfl) rfl
theorem q277 : (Jvm.Cond.fieldLink "OrdinaryStalk$Hunt" (43 : Nat) "OrdinaryStalk$Hunt" "crept" "I") ∈ lw_all := lw_g (lw_at lw_m1 163 rfl) rfl
theorem q280 : (Jvm.Cond.fieldLink "OrdinaryStalk$Hunt" (46 : Nat) "OrdinaryStalk$Hunt" "marks" "I") ∈ lw_all := lw_g (lw_at lw_m1 166 rfl) rfl
theorem q282 : (Jvm.Cond.fieldLink "OrdinaryStalk$Hunt" (49 : Nat) "OrdinaryStalk$Hunt" "heard" "I") ∈ lw_all := lw_g (lw_at lw_m1 168 rfl) rfl
theorem q284 : (Jvm.Cond.fieldLink "OrdinaryStalk$Hunt" (9 : Nat) "OrdinaryStalk$Hunt" "person" "[I") ∈ lw_all := lw_g (lw_at lw_m1 170 rfl) rfl
theorem q287 : (Jvm.Cond.fieldLink "OrdinaryStalk$Hunt" (15 : Nat) "OrdinaryStalk$Hunt" "scout" "[I") ∈ lw_all := lw_g (lw_at lw_m1 173 rfl) rfl
theorem q290 : (Jvm.Cond.fieldLink "OrdinaryStalk$Hunt" (18 : Nat) "OrdinaryStalk$Hunt" "got" "[I") ∈ lw_all := lw_g (lw_at lw_m1 176 rfl) rfl
theorem q292 : (Jvm.Cond.fieldLink "OrdinaryStalk$Hunt" (21 : Nat) "OrdinaryStalk$Hunt" "stayed" "[Z") ∈ lw_all := lw_g (lw_at lw_m1 178 rfl) rfl
theorem q295 : (Jvm.Cond.lays "OrdinaryStalk$Hunt" "OrdinaryStalk$Hunt" "camp" "LOrdinaryStalk$Camp;") ∈ lw_all := lw_g (lw_at lw_m1 181 rfl) rfl
theorem q296 : (Jvm.Cond.soleField "OrdinaryStalk$Hunt" "camp") ∈ lw_all := lw_g (lw_at lw_m1 182 rfl) rfl
theorem q297 : (Jvm.Cond.lays "OrdinaryStalk$Hunt" "OrdinaryStalk$Hunt" "step" "I") ∈ lw_all := lw_g (lw_at lw_m1 183 rfl) rfl
theorem q298 : (Jvm.Cond.soleField "OrdinaryStalk$Hunt" "step") ∈ lw_all := lw_g (lw_at lw_m1 184 rfl) rfl
theorem q299 : (Jvm.Cond.lays "OrdinaryStalk$Hunt" "OrdinaryStalk$Hunt" "usual" "I") ∈ lw_all := lw_g (lw_at lw_m1 185 rfl) rfl
theorem q300 : (Jvm.Cond.soleField "OrdinaryStalk$Hunt" "usual") ∈ lw_all := lw_g (lw_at lw_m1 186 rfl) rfl
theorem q301 : (Jvm.Cond.lays "OrdinaryStalk$Hunt" "OrdinaryStalk$Hunt" "off" "I") ∈ lw_all := lw_g (lw_at lw_m1 187 rfl) rfl
theorem q302 : (Jvm.Cond.soleField "OrdinaryStalk$Hunt" "off") ∈ lw_all := lw_g (lw_at lw_m1 188 rfl) rfl
theorem q303 : (Jvm.Cond.lays "OrdinaryStalk$Hunt" "OrdinaryStalk$Hunt" "crept" "I") ∈ lw_all := lw_g (lw_at lw_m1 189 rfl) rfl
theorem q304 : (Jvm.Cond.soleField "OrdinaryStalk$Hunt" "crept") ∈ lw_all := lw_g (lw_at lw_m1 190 rfl) rfl
theorem q305 : (Jvm.Cond.lays "OrdinaryStalk$Hunt" "OrdinaryStalk$Hunt" "marks" "I") ∈ lw_all := lw_g (lw_at lw_m1 191 rfl) rfl
theorem q306 : (Jvm.Cond.soleField "OrdinaryStalk$Hunt" "marks") ∈ lw_all := lw_g (lw_at lw_m1 192 rfl) rfl
theorem q307 : (Jvm.Cond.lays "OrdinaryStalk$Hunt" "OrdinaryStalk$Hunt" "heard" "I") ∈ lw_all := lw_g (lw_at lw_m1 193 rfl) rfl
theorem q308 : (Jvm.Cond.soleField "OrdinaryStalk$Hunt" "heard") ∈ lw_all := lw_g (lw_at lw_m1 194 rfl) rfl
theorem q309 : (Jvm.Cond.laysFinal "OrdinaryStalk$Hunt" "OrdinaryStalk$Hunt" "person" "[I") ∈ lw_all := lw_g (lw_at lw_m1 195 rfl) rfl
theorem q310 : (Jvm.Cond.soleField "OrdinaryStalk$Hunt" "person") ∈ lw_all := lw_g (lw_at lw_m1 196 rfl) rfl
theorem q311 : (Jvm.Cond.laysFinal "OrdinaryStalk$Hunt" "OrdinaryStalk$Hunt" "scout" "[I") ∈ lw_all := lw_g (lw_at lw_m1 197 rfl) rfl
theorem q312 : (Jvm.Cond.soleField "OrdinaryStalk$Hunt" "scout") ∈ lw_all := lw_g (lw_at lw_m1 198 rfl) rfl
theorem q313 : (Jvm.Cond.laysFinal "OrdinaryStalk$Hunt" "OrdinaryStalk$Hunt" "got" "[I") ∈ lw_all := lw_g (lw_at lw_m1 199 rfl) rfl
theorem q314 : (Jvm.Cond.soleField "OrdinaryStalk$Hunt" "got") ∈ lw_all := lw_g (lw_at lw_m1 200 rfl) rfl
theorem q315 : (Jvm.Cond.laysFinal "OrdinaryStalk$Hunt" "OrdinaryStalk$Hunt" "stayed" "[Z") ∈ lw_all := lw_g (lw_at lw_m1 201 rfl) rfl
theorem q316 : (Jvm.Cond.soleField "OrdinaryStalk$Hunt" "stayed") ∈ lw_all := lw_g (lw_at lw_m1 202 rfl) rfl
theorem q317 : (Jvm.Cond.superclass "OrdinaryStalk$Hunt" "java/lang/Object") ∈ lw_all := lw_g (lw_at lw_m1 203 rfl) rfl
theorem q370 : (Jvm.Cond.fieldLink "OrdinaryStalk$Hunt" (95 : Nat) "OrdinaryStalk$Camp" "people" "Ljava/util/ArrayList;") ∈ lw_all := lw_g (lw_at lw_m2 16 rfl) rfl
theorem q374 : (Jvm.Cond.fieldLink "OrdinaryStalk$Hunt" (70 : Nat) "OrdinaryStalk$Camp" "scouts" "Ljava/util/ArrayList;") ∈ lw_all := lw_g (lw_at lw_m2 20 rfl) rfl
theorem q412 : (Jvm.Cond.instanceMethod ({ cls := "OrdinaryStalk$Hunt", name := "begins", desc := "(LOrdinaryStalk$Camp;)LOrdinaryStalk$Hunt;" } : Jvm.MethodName)) ∈ lw_all := lw_g (lw_at lw_m2 58 rfl) rfl
theorem q413 : (Jvm.Cond.selects "OrdinaryStalk$Hunt" ({ cls := "OrdinaryStalk$Hunt", name := "begins", desc := "(LOrdinaryStalk$Camp;)LOrdinaryStalk$Hunt;" } : Jvm.MethodName) ({ cls := "OrdinaryStalk$Hunt", name := "begins", desc := "(LOrdinaryStalk$Camp;)LOrdinaryStalk$Hunt;" } : Jvm.MethodName)) ∈ lw_all := lw_g (lw_at lw_m2 59 rfl) rfl
theorem q414 : (Jvm.Cond.code ({ cls := "OrdinaryStalk$Hunt", name := "begins", desc := "(LOrdinaryStalk$Camp;)LOrdinaryStalk$Hunt;" } : Jvm.MethodName) prog_11_method_2_code (3 : Nat) (Option.some (Jvm.ClassFile.FieldType.object "OrdinaryStalk$Hunt"))) ∈ lw_all := lw_g (lw_at lw_m2 60 rfl) rfl
theorem q415 : (Jvm.Cond.methodLink "OrdinaryStalk$Hunt" (33 : Nat) ({ cls := "OrdinaryStalk$Hunt", name := "people", desc := "()I" } : Jvm.MethodName)) ∈ lw_all := lw_g (lw_at lw_m2 61 rfl) rfl
theorem q416 : (Jvm.Cond.instanceMethod ({ cls := "OrdinaryStalk$Hunt", name := "people", desc := "()I" } : Jvm.MethodName)) ∈ lw_all := lw_g (lw_at lw_m2 62 rfl) rfl
theorem q417 : (Jvm.Cond.selects "OrdinaryStalk$Hunt" ({ cls := "OrdinaryStalk$Hunt", name := "people", desc := "()I" } : Jvm.MethodName) ({ cls := "OrdinaryStalk$Hunt", name := "people", desc := "()I" } : Jvm.MethodName)) ∈ lw_all := lw_g (lw_at lw_m2 63 rfl) rfl
theorem q418 : (Jvm.Cond.code ({ cls := "OrdinaryStalk$Hunt", name := "people", desc := "()I" } : Jvm.MethodName) prog_11_method_5_code (1 : Nat) (Option.some Jvm.ClassFile.FieldType.int)) ∈ lw_all := lw_g (lw_at lw_m2 64 rfl) rfl
theorem q419 : (Jvm.Cond.methodLink "OrdinaryStalk$Hunt" (97 : Nat) ({ cls := "java/util/ArrayList", name := "size", desc := "()I" } : Jvm.MethodName)) ∈ lw_all := lw_g (lw_at lw_m2 65 rfl) rfl
theorem q423 : (Jvm.Cond.methodLink "OrdinaryStalk$Hunt" (52 : Nat) ({ cls := "OrdinaryStalk$Hunt", name := "of", desc := "(I)LOrdinaryStalk$Person;" } : Jvm.MethodName)) ∈ lw_all := lw_g (lw_at lw_m2 69 rfl) rfl
theorem q424 : (Jvm.Cond.instanceMethod ({ cls := "OrdinaryStalk$Hunt", name := "of", desc := "(I)LOrdinaryStalk$Person;" } : Jvm.MethodName)) ∈ lw_all := lw_g (lw_at lw_m2 70 rfl) rfl
theorem q425 : (Jvm.Cond.selects "OrdinaryStalk$Hunt" ({ cls := "OrdinaryStalk$Hunt", name := "of", desc := "(I)LOrdinaryStalk$Person;" } : Jvm.MethodName) ({ cls := "OrdinaryStalk$Hunt", name := "of", desc := "(I)LOrdinaryStalk$Person;" } : Jvm.MethodName)) ∈ lw_all := lw_g (lw_at lw_m2 71 rfl) rfl
theorem q426 : (Jvm.Cond.code ({ cls := "OrdinaryStalk$Hunt", name := "of", desc := "(I)LOrdinaryStalk$Person;" } : Jvm.MethodName) prog_11_method_7_code (2 : Nat) (Option.some (Jvm.ClassFile.FieldType.object "OrdinaryStalk$Person"))) ∈ lw_all := lw_g (lw_at lw_m2 72 rfl) rfl
theorem q427 : (Jvm.Cond.methodLink "OrdinaryStalk$Hunt" (73 : Nat) ({ cls := "java/util/ArrayList", name := "get", desc := "(I)Ljava/lang/Object;" } : Jvm.MethodName)) ∈ lw_all := lw_g (lw_at lw_m2 73 rfl) rfl
theorem q441 : (Jvm.Cond.classLink "OrdinaryStalk$Hunt" (57 : Nat) "OrdinaryStalk$Person") ∈ lw_all := lw_g (lw_at lw_m2 87 rfl) rfl
theorem q442 : (Jvm.Cond.methodLink "OrdinaryStalk$Hunt" (61 : Nat) ({ cls := "OrdinaryStalk$Camp", name := "cell", desc := "(I)I" } : Jvm.MethodName)) ∈ lw_all := lw_g (lw_at lw_m2 88 rfl) rfl
theorem q453 : (Jvm.Cond.methodLink "OrdinaryStalk$Hunt" (67 : Nat) ({ cls := "OrdinaryStalk$Hunt", name := "scouts", desc := "()I" } : Jvm.MethodName)) ∈ lw_all := lw_g (lw_at lw_m2 99 rfl) rfl
theorem q454 : (Jvm.Cond.instanceMethod ({ cls := "OrdinaryStalk$Hunt", name := "scouts", desc := "()I" } : Jvm.MethodName)) ∈ lw_all := lw_g (lw_at lw_m2 100 rfl) rfl
theorem q455 : (Jvm.Cond.selects "OrdinaryStalk$Hunt" ({ cls := "OrdinaryStalk$Hunt", name := "scouts", desc := "()I" } : Jvm.MethodName) ({ cls := "OrdinaryStalk$Hunt", name := "scouts", desc := "()I" } : Jvm.MethodName)) ∈ lw_all := lw_g (lw_at lw_m2 101 rfl) rfl
theorem q456 : (Jvm.Cond.code ({ cls := "OrdinaryStalk$Hunt", name := "scouts", desc := "()I" } : Jvm.MethodName) prog_11_method_6_code (1 : Nat) (Option.some Jvm.ClassFile.FieldType.int)) ∈ lw_all := lw_g (lw_at lw_m2 102 rfl) rfl
theorem q457 : (Jvm.Cond.classLink "OrdinaryStalk$Hunt" (79 : Nat) "java/lang/Integer") ∈ lw_all := lw_g (lw_at lw_m2 103 rfl) rfl
theorem q458 : (Jvm.Cond.methodLink "OrdinaryStalk$Hunt" (81 : Nat) ({ cls := "java/lang/Integer", name := "intValue", desc := "()I" } : Jvm.MethodName)) ∈ lw_all := lw_g (lw_at lw_m2 104 rfl) rfl
theorem q909 : (Jvm.Cond.selects "OrdinaryStalk$Hunt" ({ cls := "java/lang/Object", name := "getClass", desc := "()Ljava/lang/Class;" } : Jvm.MethodName) ({ cls := "java/lang/Object", name := "getClass", desc := "()Ljava/lang/Class;" } : Jvm.MethodName)) ∈ lw_all := lw_g (lw_at lw_m4 75 rfl) rfl
theorem q979 : (Jvm.Cond.fieldLink "OrdinaryStalk$Hunt" (56 : Nat) "OrdinaryStalk$Person" "at" "I") ∈ lw_all := lw_g (lw_at lw_m4 145 rfl) rfl
theorem q982 : (Jvm.Cond.fieldLink "OrdinaryStalk$Hunt" (116 : Nat) "OrdinaryStalk$Person" "ears" "I") ∈ lw_all := lw_g (lw_at lw_m4 148 rfl) rfl
theorem q986 : (Jvm.Cond.fieldLink "OrdinaryStalk$Hunt" (146 : Nat) "OrdinaryStalk$Person" "marks" "I") ∈ lw_all := lw_g (lw_at lw_m4 152 rfl) rfl
theorem q1298 : (Jvm.Cond.instanceMethod ({ cls := "OrdinaryStalk$Hunt", name := "mayCreep", desc := "(II)Z" } : Jvm.MethodName)) ∈ lw_all := lw_g (lw_at lw_m5 224 rfl) rfl
theorem q1299 : (Jvm.Cond.selects "OrdinaryStalk$Hunt" ({ cls := "OrdinaryStalk$Hunt", name := "mayCreep", desc := "(II)Z" } : Jvm.MethodName) ({ cls := "OrdinaryStalk$Hunt", name := "mayCreep", desc := "(II)Z" } : Jvm.MethodName)) ∈ lw_all := lw_g (lw_at lw_m5 225 rfl) rfl
theorem q1300 : (Jvm.Cond.code ({ cls := "OrdinaryStalk$Hunt", name := "mayCreep", desc := "(II)Z" } : Jvm.MethodName) prog_11_method_8_code (3 : Nat) (Option.some Jvm.ClassFile.FieldType.boolean)) ∈ lw_all := lw_g (lw_at lw_m5 226 rfl) rfl
theorem q1301 : (Jvm.Cond.methodLinkNest "OrdinaryStalk$Hunt" (100 : Nat) ({ cls := "OrdinaryStalk", name := "has", desc := "(II)Z" } : Jvm.MethodName) "OrdinaryStalk") ∈ lw_tbl := lw_at lw_m5 227 rfl
theorem q1302 : (Jvm.Cond.methodLink "OrdinaryStalk$Hunt" (104 : Nat) ({ cls := "OrdinaryStalk$Camp", name := "next", desc := "(II)I" } : Jvm.MethodName)) ∈ lw_all := lw_g (lw_at lw_m5 228 rfl) rfl
theorem q1320 : (Jvm.Cond.instanceMethod ({ cls := "OrdinaryStalk$Hunt", name := "copied", desc := "()LOrdinaryStalk$Hunt;" } : Jvm.MethodName)) ∈ lw_all := lw_g (lw_at lw_m6 6 rfl) rfl
theorem q1321 : (Jvm.Cond.selects "OrdinaryStalk$Hunt" ({ cls := "OrdinaryStalk$Hunt", name := "copied", desc := "()LOrdinaryStalk$Hunt;" } : Jvm.MethodName) ({ cls := "OrdinaryStalk$Hunt", name := "copied", desc := "()LOrdinaryStalk$Hunt;" } : Jvm.MethodName)) ∈ lw_all := lw_g (lw_at lw_m6 7 rfl) rfl
theorem q1322 : (Jvm.Cond.code ({ cls := "OrdinaryStalk$Hunt", name := "copied", desc := "()LOrdinaryStalk$Hunt;" } : Jvm.MethodName) prog_11_method_3_code (1 : Nat) (Option.some (Jvm.ClassFile.FieldType.object "OrdinaryStalk$Hunt"))) ∈ lw_all := lw_g (lw_at lw_m6 8 rfl) rfl
theorem q1323 : (Jvm.Cond.classLink "OrdinaryStalk$Hunt" (10 : Nat) "OrdinaryStalk$Hunt") ∈ lw_all := lw_g (lw_at lw_m6 9 rfl) rfl
theorem q1324 : (Jvm.Cond.methodLink "OrdinaryStalk$Hunt" (84 : Nat) ({ cls := "OrdinaryStalk$Hunt", name := "<init>", desc := "()V" } : Jvm.MethodName)) ∈ lw_all := lw_g (lw_at lw_m6 10 rfl) rfl
theorem q1325 : (Jvm.Cond.methodLink "OrdinaryStalk$Hunt" (85 : Nat) ({ cls := "OrdinaryStalk$Hunt", name := "copies", desc := "(LOrdinaryStalk$Hunt;)LOrdinaryStalk$Hunt;" } : Jvm.MethodName)) ∈ lw_all := lw_g (lw_at lw_m6 11 rfl) rfl
theorem q1326 : (Jvm.Cond.instanceMethod ({ cls := "OrdinaryStalk$Hunt", name := "copies", desc := "(LOrdinaryStalk$Hunt;)LOrdinaryStalk$Hunt;" } : Jvm.MethodName)) ∈ lw_all := lw_g (lw_at lw_m6 12 rfl) rfl
theorem q1327 : (Jvm.Cond.selects "OrdinaryStalk$Hunt" ({ cls := "OrdinaryStalk$Hunt", name := "copies", desc := "(LOrdinaryStalk$Hunt;)LOrdinaryStalk$Hunt;" } : Jvm.MethodName) ({ cls := "OrdinaryStalk$Hunt", name := "copies", desc := "(LOrdinaryStalk$Hunt;)LOrdinaryStalk$Hunt;" } : Jvm.MethodName)) ∈ lw_all := lw_g (lw_at lw_m6 13 rfl) rfl
theorem q1328 : (Jvm.Cond.code ({ cls := "OrdinaryStalk$Hunt", name := "copies", desc := "(LOrdinaryStalk$Hunt;)LOrdinaryStalk$Hunt;" } : Jvm.MethodName) prog_11_method_4_code (2 : Nat) (Option.some (Jvm.ClassFile.FieldType.object "OrdinaryStalk$Hunt"))) ∈ lw_all := lw_g (lw_at lw_m6 14 rfl) rfl
theorem q1329 : (Jvm.Cond.methodLink "OrdinaryStalk$Hunt" (89 : Nat) ({ cls := "java/lang/System", name := "arraycopy", desc := "(Ljava/lang/Object;ILjava/lang/Object;II)V" } : Jvm.MethodName)) ∈ lw_all := lw_g (lw_at lw_m6 15 rfl) rfl
theorem q1332 : (Jvm.Cond.instanceMethod ({ cls := "OrdinaryStalk$Hunt", name := "creeps", desc := "(II)V" } : Jvm.MethodName)) ∈ lw_all := lw_g (lw_at lw_m6 18 rfl) rfl
theorem q1333 : (Jvm.Cond.selects "OrdinaryStalk$Hunt" ({ cls := "OrdinaryStalk$Hunt", name := "creeps", desc := "(II)V" } : Jvm.MethodName) ({ cls := "OrdinaryStalk$Hunt", name := "creeps", desc := "(II)V" } : Jvm.MethodName)) ∈ lw_all := lw_g (lw_at lw_m6 19 rfl) rfl
theorem q1334 : (Jvm.Cond.code ({ cls := "OrdinaryStalk$Hunt", name := "creeps", desc := "(II)V" } : Jvm.MethodName) prog_11_method_9_code (3 : Nat) (Option.none : Option Jvm.ClassFile.FieldType)) ∈ lw_all := lw_g (lw_at lw_m6 20 rfl) rfl
theorem q1348 : (Jvm.Cond.instanceMethod ({ cls := "OrdinaryStalk$Hunt", name := "passes", desc := "()I" } : Jvm.MethodName)) ∈ lw_all := lw_g (lw_at lw_m6 34 rfl) rfl
theorem q1349 : (Jvm.Cond.selects "OrdinaryStalk$Hunt" ({ cls := "OrdinaryStalk$Hunt", name := "passes", desc := "()I" } : Jvm.MethodName) ({ cls := "OrdinaryStalk$Hunt", name := "passes", desc := "()I" } : Jvm.MethodName)) ∈ lw_all := lw_g (lw_at lw_m6 35 rfl) rfl
theorem q1350 : (Jvm.Cond.code ({ cls := "OrdinaryStalk$Hunt", name := "passes", desc := "()I" } : Jvm.MethodName) prog_11_method_13_code (1 : Nat) (Option.some Jvm.ClassFile.FieldType.int)) ∈ lw_all := lw_g (lw_at lw_m6 36 rfl) rfl
theorem q1351 : (Jvm.Cond.methodLink "OrdinaryStalk$Hunt" (137 : Nat) ({ cls := "OrdinaryStalk$Camp", name := "wind", desc := "(I)I" } : Jvm.MethodName)) ∈ lw_all := lw_g (lw_at lw_m6 37 rfl) rfl
theorem q1355 : (Jvm.Cond.methodLink "OrdinaryStalk$Hunt" (140 : Nat) ({ cls := "OrdinaryStalk$Hunt", name := "passes", desc := "(I)I" } : Jvm.MethodName)) ∈ lw_all := lw_g (lw_at lw_m6 41 rfl) rfl
theorem q1356 : (Jvm.Cond.instanceMethod ({ cls := "OrdinaryStalk$Hunt", name := "passes", desc := "(I)I" } : Jvm.MethodName)) ∈ lw_all := lw_g (lw_at lw_m6 42 rfl) rfl
theorem q1357 : (Jvm.Cond.selects "OrdinaryStalk$Hunt" ({ cls := "OrdinaryStalk$Hunt", name := "passes", desc := "(I)I" } : Jvm.MethodName) ({ cls := "OrdinaryStalk$Hunt", name := "passes", desc := "(I)I" } : Jvm.MethodName)) ∈ lw_all := lw_g (lw_at lw_m6 43 rfl) rfl
theorem q1358 : (Jvm.Cond.code ({ cls := "OrdinaryStalk$Hunt", name := "passes", desc := "(I)I" } : Jvm.MethodName) prog_11_method_12_code (5 : Nat) (Option.some Jvm.ClassFile.FieldType.int)) ∈ lw_all := lw_g (lw_at lw_m6 44 rfl) rfl
theorem q1359 : (Jvm.Cond.methodLink "OrdinaryStalk$Hunt" (123 : Nat) ({ cls := "OrdinaryStalk$Hunt", name := "walk", desc := "()V" } : Jvm.MethodName)) ∈ lw_all := lw_g (lw_at lw_m6 45 rfl) rfl
theorem q1360 : (Jvm.Cond.privateMethod ({ cls := "OrdinaryStalk$Hunt", name := "walk", desc := "()V" } : Jvm.MethodName)) ∈ lw_tbl := lw_at lw_m6 46 rfl
theorem q1361 : (Jvm.Cond.instanceMethod ({ cls := "OrdinaryStalk$Hunt", name := "walk", desc := "()V" } : Jvm.MethodName)) ∈ lw_all := lw_g (lw_at lw_m6 47 rfl) rfl
theorem q1362 : (Jvm.Cond.code ({ cls := "OrdinaryStalk$Hunt", name := "walk", desc := "()V" } : Jvm.MethodName) prog_11_method_10_code (3 : Nat) (Option.none : Option Jvm.ClassFile.FieldType)) ∈ lw_all := lw_g (lw_at lw_m6 48 rfl) rfl
theorem q1363 : (Jvm.Cond.methodLink "OrdinaryStalk$Hunt" (108 : Nat) ({ cls := "OrdinaryStalk$Person", name := "walks", desc := "(LOrdinaryStalk$Camp;II)I" } : Jvm.MethodName)) ∈ lw_all := lw_g (lw_at lw_m6 49 rfl) rfl
theorem q1382 : (Jvm.Cond.methodLink "OrdinaryStalk$Hunt" (126 : Nat) ({ cls := "OrdinaryStalk$Hunt", name := "hears", desc := "(III)Z" } : Jvm.MethodName)) ∈ lw_all := lw_g (lw_at lw_m6 68 rfl) rfl
theorem q1383 : (Jvm.Cond.instanceMethod ({ cls := "OrdinaryStalk$Hunt", name := "hears", desc := "(III)Z" } : Jvm.MethodName)) ∈ lw_all := lw_g (lw_at lw_m6 69 rfl) rfl
theorem q1384 : (Jvm.Cond.selects "OrdinaryStalk$Hunt" ({ cls := "OrdinaryStalk$Hunt", name := "hears", desc := "(III)Z" } : Jvm.MethodName) ({ cls := "OrdinaryStalk$Hunt", name := "hears", desc := "(III)Z" } : Jvm.MethodName)) ∈ lw_all := lw_g (lw_at lw_m6 70 rfl) rfl
theorem q1385 : (Jvm.Cond.code ({ cls := "OrdinaryStalk$Hunt", name := "hears", desc := "(III)Z" } : Jvm.MethodName) prog_11_method_11_code (4 : Nat) (Option.some Jvm.ClassFile.FieldType.boolean)) ∈ lw_all := lw_g (lw_at lw_m6 71 rfl) rfl
theorem q1386 : (Jvm.Cond.methodLink "OrdinaryStalk$Hunt" (112 : Nat) ({ cls := "OrdinaryStalk$Person", name := "listens", desc := "(Z)Z" } : Jvm.MethodName)) ∈ lw_all := lw_g (lw_at lw_m6 72 rfl) rfl
theorem q1396 : (Jvm.Cond.methodLink "OrdinaryStalk$Hunt" (119 : Nat) ({ cls := "OrdinaryStalk$Camp", name := "isHeard", desc := "(IIIZI)Z" } : Jvm.MethodName)) ∈ lw_all := lw_g (lw_at lw_m6 82 rfl) rfl
theorem q1468 : (Jvm.Cond.methodLink "OrdinaryStalk$Hunt" (130 : Nat) ({ cls := "OrdinaryStalk$Person", name := "leaps", desc := "()Z" } : Jvm.MethodName)) ∈ lw_all := lw_g (lw_at lw_m6 154 rfl) rfl
theorem q1478 : (Jvm.Cond.methodLink "OrdinaryStalk$Hunt" (134 : Nat) ({ cls := "OrdinaryStalk$Hunt", name := "gets", desc := "()V" } : Jvm.MethodName)) ∈ lw_all := lw_g (lw_at lw_m6 164 rfl) rfl
theorem q1479 : (Jvm.Cond.privateMethod ({ cls := "OrdinaryStalk$Hunt", name := "gets", desc := "()V" } : Jvm.MethodName)) ∈ lw_tbl := lw_at lw_m6 165 rfl
theorem q1480 : (Jvm.Cond.instanceMethod ({ cls := "OrdinaryStalk$Hunt", name := "gets", desc := "()V" } : Jvm.MethodName)) ∈ lw_all := lw_g (lw_at lw_m6 166 rfl) rfl
theorem q1481 : (Jvm.Cond.code ({ cls := "OrdinaryStalk$Hunt", name := "gets", desc := "()V" } : Jvm.MethodName) prog_11_method_14_code (3 : Nat) (Option.none : Option Jvm.ClassFile.FieldType)) ∈ lw_all := lw_g (lw_at lw_m6 167 rfl) rfl
theorem q1482 : (Jvm.Cond.methodLink "OrdinaryStalk$Hunt" (143 : Nat) ({ cls := "OrdinaryStalk$Camp", name := "far", desc := "(II)I" } : Jvm.MethodName)) ∈ lw_all := lw_g (lw_at lw_m6 168 rfl) rfl
theorem q2408 : (Jvm.Cond.castable "OrdinaryStalk$Hunt" "java/lang/Object") ∈ lw_tbl := lw_at lw_m10 134 rfl
theorem in_X3 : ∀ w ∈ wsX30, w ∈ lw_all := lw_in wsX30 [295, 297, 299, 301, 303, 305, 307, 309, 311, 313, 315] (by decide +kernel) (by decide +kernel)

/-! OrdinaryStalk$Camp -/
def RX4 : String := "OrdinaryStalk$Camp"
def TX4 : u_T := fun k => match k with
  | 0 => ("OrdinaryStalk$Camp", "names", "Ljava/util/ArrayList;", true)
  | 1 => ("OrdinaryStalk$Camp", "nameOf", "Ljava/util/ArrayList;", true)
  | 2 => ("OrdinaryStalk$Camp", "people", "Ljava/util/ArrayList;", true)
  | 3 => ("OrdinaryStalk$Camp", "scouts", "Ljava/util/ArrayList;", true)
  | 4 => ("OrdinaryStalk$Camp", "wide", "I", false)
  | 5 => ("OrdinaryStalk$Camp", "high", "I", false)
  | 6 => ("OrdinaryStalk$Camp", "bushes", "[Z", true)
  | 7 => ("OrdinaryStalk$Camp", "wind", "[I", false)
  | 8 => ("OrdinaryStalk$Camp", "hears", "LOrdinaryStalk$Expression;", false)
  | _ => ("OrdinaryStalk$Camp", "facts", "LOrdinaryStalk$Facts;", true)
def tyX4 : Nat → FieldType := fun k => match k with
  | 0 => .object "java/util/ArrayList"
  | 1 => .object "java/util/ArrayList"
  | 2 => .object "java/util/ArrayList"
  | 3 => .object "java/util/ArrayList"
  | 4 => .int
  | 5 => .int
  | 6 => .array .boolean
  | 7 => .array .int
  | 8 => .object "OrdinaryStalk$Expression"
  | _ => .object "OrdinaryStalk$Facts"
abbrev wsX40 : List Cond := u_ws RX4 TX4 10
theorem nmX4 : ∀ a, a < 10 → ∀ b, b < 10 → a ≠ b → (TX4 a).2.1 ≠ (TX4 b).2.1 := by decide +kernel
theorem tyX4_ok : ∀ k, k < 10 → parseFieldDescriptor (TX4 k).2.2.1 = some (tyX4 k) := by decide +kernel
abbrev cX4_init : ByteArray := prog_3_method_1_code
def yX4_init : MethodName := ⟨RX4, "<init>", "()V"⟩
abbrev cX4_cell : ByteArray := prog_3_method_4_code
def yX4_cell : MethodName := ⟨RX4, "cell", "(I)I"⟩
abbrev cX4_cells : ByteArray := prog_3_method_3_code
def yX4_cells : MethodName := ⟨RX4, "cells", "()I"⟩
abbrev cX4_find : ByteArray := prog_3_method_2_code
def yX4_find : MethodName := ⟨RX4, "find", "(J)I"⟩
abbrev cX4_isBush : ByteArray := prog_3_method_6_code
def yX4_isBush : MethodName := ⟨RX4, "isBush", "(I)Z"⟩
abbrev cX4_next : ByteArray := prog_3_method_8_code
def yX4_next : MethodName := ⟨RX4, "next", "(II)I"⟩
abbrev cX4_wind : ByteArray := prog_3_method_5_code
def yX4_wind : MethodName := ⟨RX4, "wind", "(I)I"⟩
abbrev cX4_isHeard : ByteArray := prog_3_method_11_code
def yX4_isHeard : MethodName := ⟨RX4, "isHeard", "(IIIZI)Z"⟩
abbrev cX4_far : ByteArray := prog_3_method_9_code
def yX4_far : MethodName := ⟨RX4, "far", "(II)I"⟩
abbrev cX4_isUpwind : ByteArray := prog_3_method_10_code
def yX4_isUpwind : MethodName := ⟨RX4, "isUpwind", "(III)Z"⟩
abbrev cX4_bushMany : ByteArray := prog_3_method_7_code
def yX4_bushMany : MethodName := ⟨RX4, "bushMany", "()I"⟩
theorem q118 : (Jvm.Cond.initialized "OrdinaryStalk$Camp") ∈ lw_all := lw_g (lw_at lw_m1 4 rfl) rfl
theorem q320 : (Jvm.Cond.instantiable "OrdinaryStalk$Camp" (10 : Nat)) ∈ lw_all := lw_g (lw_at lw_m1 206 rfl) rfl
theorem q322 : (Jvm.Cond.instanceMethod ({ cls := "OrdinaryStalk$Camp", name := "<init>", desc := "()V" } : Jvm.MethodName)) ∈ lw_all := lw_g (lw_at lw_m1 208 rfl) rfl
theorem q323 : (Jvm.Cond.code ({ cls := "OrdinaryStalk$Camp", name := "<init>", desc := "()V" } : Jvm.MethodName) prog_3_method_1_code (1 : Nat) (Option.none : Option Jvm.ClassFile.FieldType)) ∈ lw_all := lw_g (lw_at lw_m1 209 rfl) rfl
theorem q324 : (Jvm.Cond.methodLink "OrdinaryStalk$Camp" (3 : Nat) ({ cls := "java/lang/Object", name := "<init>", desc := "()V" } : Jvm.MethodName)) ∈ lw_all := lw_g (lw_at lw_m1 210 rfl) rfl
theorem q325 : (Jvm.Cond.classLink "OrdinaryStalk$Camp" (9 : Nat) "java/util/ArrayList") ∈ lw_all := lw_g (lw_at lw_m1 211 rfl) rfl
theorem q327 : (Jvm.Cond.methodLink "OrdinaryStalk$Camp" (11 : Nat) ({ cls := "java/util/ArrayList", name := "<init>", desc := "(I)V" } : Jvm.MethodName)) ∈ lw_all := lw_g (lw_at lw_m1 213 rfl) rfl
theorem q353 : (Jvm.Cond.classLink "OrdinaryStalk$Camp" (44 : Nat) "OrdinaryStalk$Facts") ∈ lw_all := lw_g (lw_at lw_m1 239 rfl) rfl
theorem q355 : (Jvm.Cond.methodLinkNest "OrdinaryStalk$Camp" (46 : Nat) ({ cls := "OrdinaryStalk$Facts", name := "<init>", desc := "()V" } : Jvm.MethodName) "OrdinaryStalk") ∈ lw_tbl := lw_at lw_m2 1 rfl
theorem q361 : (Jvm.Cond.fieldLink "OrdinaryStalk$Camp" (98 : Nat) "OrdinaryStalk$Facts" "of" "[I") ∈ lw_all := lw_g (lw_at lw_m2 7 rfl) rfl
theorem q365 : (Jvm.Cond.fieldLink "OrdinaryStalk$Camp" (14 : Nat) "OrdinaryStalk$Camp" "names" "Ljava/util/ArrayList;") ∈ lw_all := lw_g (lw_at lw_m2 11 rfl) rfl
theorem q367 : (Jvm.Cond.fieldLink "OrdinaryStalk$Camp" (20 : Nat) "OrdinaryStalk$Camp" "nameOf" "Ljava/util/ArrayList;") ∈ lw_all := lw_g (lw_at lw_m2 13 rfl) rfl
theorem q369 : (Jvm.Cond.fieldLink "OrdinaryStalk$Camp" (23 : Nat) "OrdinaryStalk$Camp" "people" "Ljava/util/ArrayList;") ∈ lw_all := lw_g (lw_at lw_m2 15 rfl) rfl
theorem q373 : (Jvm.Cond.fieldLink "OrdinaryStalk$Camp" (26 : Nat) "OrdinaryStalk$Camp" "scouts" "Ljava/util/ArrayList;") ∈ lw_all := lw_g (lw_at lw_m2 19 rfl) rfl
theorem q377 : (Jvm.Cond.fieldLink "OrdinaryStalk$Camp" (29 : Nat) "OrdinaryStalk$Camp" "wide" "I") ∈ lw_all := lw_g (lw_at lw_m2 23 rfl) rfl
theorem q380 : (Jvm.Cond.fieldLink "OrdinaryStalk$Camp" (33 : Nat) "OrdinaryStalk$Camp" "high" "I") ∈ lw_all := lw_g (lw_at lw_m2 26 rfl) rfl
theorem q383 : (Jvm.Cond.fieldLink "OrdinaryStalk$Camp" (36 : Nat) "OrdinaryStalk$Camp" "bushes" "[Z") ∈ lw_all := lw_g (lw_at lw_m2 29 rfl) rfl
theorem q385 : (Jvm.Cond.fieldLink "OrdinaryStalk$Camp" (40 : Nat) "OrdinaryStalk$Camp" "wind" "[I") ∈ lw_all := lw_g (lw_at lw_m2 31 rfl) rfl
theorem q387 : (Jvm.Cond.fieldLink "OrdinaryStalk$Camp" (94 : Nat) "OrdinaryStalk$Camp" "hears" "LOrdinaryStalk$Expression;") ∈ lw_all := lw_g (lw_at lw_m2 33 rfl) rfl
theorem q389 : (Jvm.Cond.fieldLink "OrdinaryStalk$Camp" (47 : Nat) "OrdinaryStalk$Camp" "facts" "LOrdinaryStalk$Facts;") ∈ lw_all := lw_g (lw_at lw_m2 35 rfl) rfl
theorem q390 : (Jvm.Cond.laysFinal "OrdinaryStalk$Camp" "OrdinaryStalk$Camp" "names" "Ljava/util/ArrayList;") ∈ lw_all := lw_g (lw_at lw_m2 36 rfl) rfl
theorem q391 : (Jvm.Cond.soleField "OrdinaryStalk$Camp" "names") ∈ lw_all := lw_g (lw_at lw_m2 37 rfl) rfl
theorem q392 : (Jvm.Cond.laysFinal "OrdinaryStalk$Camp" "OrdinaryStalk$Camp" "nameOf" "Ljava/util/ArrayList;") ∈ lw_all := lw_g (lw_at lw_m2 38 rfl) rfl
theorem q393 : (Jvm.Cond.soleField "OrdinaryStalk$Camp" "nameOf") ∈ lw_all := lw_g (lw_at lw_m2 39 rfl) rfl
theorem q394 : (Jvm.Cond.laysFinal "OrdinaryStalk$Camp" "OrdinaryStalk$Camp" "people" "Ljava/util/ArrayList;") ∈ lw_all := lw_g (lw_at lw_m2 40 rfl) rfl
theorem q395 : (Jvm.Cond.soleField "OrdinaryStalk$Camp" "people") ∈ lw_all := lw_g (lw_at lw_m2 41 rfl) rfl
theorem q396 : (Jvm.Cond.laysFinal "OrdinaryStalk$Camp" "OrdinaryStalk$Camp" "scouts" "Ljava/util/ArrayList;") ∈ lw_all := lw_g (lw_at lw_m2 42 rfl) rfl
theorem q397 : (Jvm.Cond.soleField "OrdinaryStalk$Camp" "scouts") ∈ lw_all := lw_g (lw_at lw_m2 43 rfl) rfl
theorem q398 : (Jvm.Cond.lays "OrdinaryStalk$Camp" "OrdinaryStalk$Camp" "wide" "I") ∈ lw_all := lw_g (lw_at lw_m2 44 rfl) rfl
theorem q399 : (Jvm.Cond.soleField "OrdinaryStalk$Camp" "wide") ∈ lw_all := lw_g (lw_at lw_m2 45 rfl) rfl
theorem q400 : (Jvm.Cond.lays "OrdinaryStalk$Camp" "OrdinaryStalk$Camp" "high" "I") ∈ lw_all := lw_g (lw_at lw_m2 46 rfl) rfl
theorem q401 : (Jvm.Cond.soleField "OrdinaryStalk$Camp" "high") ∈ lw_all := lw_g (lw_at lw_m2 47 rfl) rfl
theorem q402 : (Jvm.Cond.laysFinal "OrdinaryStalk$Camp" "OrdinaryStalk$Camp" "bushes" "[Z") ∈ lw_all := lw_g (lw_at lw_m2 48 rfl) rfl
theorem q403 : (Jvm.Cond.soleField "OrdinaryStalk$Camp" "bushes") ∈ lw_all := lw_g (lw_at lw_m2 49 rfl) rfl
theorem q404 : (Jvm.Cond.lays "OrdinaryStalk$Camp" "OrdinaryStalk$Camp" "wind" "[I") ∈ lw_all := lw_g (lw_at lw_m2 50 rfl) rfl
theorem q405 : (Jvm.Cond.soleField "OrdinaryStalk$Camp" "wind") ∈ lw_all := lw_g (lw_at lw_m2 51 rfl) rfl
theorem q406 : (Jvm.Cond.lays "OrdinaryStalk$Camp" "OrdinaryStalk$Camp" "hears" "LOrdinaryStalk$Expression;") ∈ lw_all := lw_g (lw_at lw_m2 52 rfl) rfl
theorem q407 : (Jvm.Cond.soleField "OrdinaryStalk$Camp" "hears") ∈ lw_all := lw_g (lw_at lw_m2 53 rfl) rfl
theorem q408 : (Jvm.Cond.laysFinal "OrdinaryStalk$Camp" "OrdinaryStalk$Camp" "facts" "LOrdinaryStalk$Facts;") ∈ lw_all := lw_g (lw_at lw_m2 54 rfl) rfl
theorem q409 : (Jvm.Cond.soleField "OrdinaryStalk$Camp" "facts") ∈ lw_all := lw_g (lw_at lw_m2 55 rfl) rfl
theorem q410 : (Jvm.Cond.superclass "OrdinaryStalk$Camp" "java/lang/Object") ∈ lw_all := lw_g (lw_at lw_m2 56 rfl) rfl
theorem q443 : (Jvm.Cond.instanceMethod ({ cls := "OrdinaryStalk$Camp", name := "cell", desc := "(I)I" } : Jvm.MethodName)) ∈ lw_all := lw_g (lw_at lw_m2 89 rfl) rfl
theorem q444 : (Jvm.Cond.selects "OrdinaryStalk$Camp" ({ cls := "OrdinaryStalk$Camp", name := "cell", desc := "(I)I" } : Jvm.MethodName) ({ cls := "OrdinaryStalk$Camp", name := "cell", desc := "(I)I" } : Jvm.MethodName)) ∈ lw_all := lw_g (lw_at lw_m2 90 rfl) rfl
theorem q445 : (Jvm.Cond.code ({ cls := "OrdinaryStalk$Camp", name := "cell", desc := "(I)I" } : Jvm.MethodName) prog_3_method_4_code (2 : Nat) (Option.some Jvm.ClassFile.FieldType.int)) ∈ lw_all := lw_g (lw_at lw_m2 91 rfl) rfl
theorem q446 : (Jvm.Cond.methodLink "OrdinaryStalk$Camp" (70 : Nat) ({ cls := "OrdinaryStalk$Camp", name := "cells", desc := "()I" } : Jvm.MethodName)) ∈ lw_all := lw_g (lw_at lw_m2 92 rfl) rfl
theorem q447 : (Jvm.Cond.instanceMethod ({ cls := "OrdinaryStalk$Camp", name := "cells", desc := "()I" } : Jvm.MethodName)) ∈ lw_all := lw_g (lw_at lw_m2 93 rfl) rfl
theorem q448 : (Jvm.Cond.selects "OrdinaryStalk$Camp" ({ cls := "OrdinaryStalk$Camp", name := "cells", desc := "()I" } : Jvm.MethodName) ({ cls := "OrdinaryStalk$Camp", name := "cells", desc := "()I" } : Jvm.MethodName)) ∈ lw_all := lw_g (lw_at lw_m2 94 rfl) rfl
theorem q449 : (Jvm.Cond.code ({ cls := "OrdinaryStalk$Camp", name := "cells", desc := "()I" } : Jvm.MethodName) prog_3_method_3_code (1 : Nat) (Option.some Jvm.ClassFile.FieldType.int)) ∈ lw_all := lw_g (lw_at lw_m2 95 rfl) rfl
theorem q450 : (Jvm.Cond.methodLink "OrdinaryStalk$Camp" (73 : Nat) ({ cls := "java/lang/Math", name := "min", desc := "(II)I" } : Jvm.MethodName)) ∈ lw_all := lw_g (lw_at lw_m2 96 rfl) rfl
theorem q838 : (Jvm.Cond.instanceMethod ({ cls := "OrdinaryStalk$Camp", name := "find", desc := "(J)I" } : Jvm.MethodName)) ∈ lw_all := lw_g (lw_at lw_m4 4 rfl) rfl
theorem q839 : (Jvm.Cond.selects "OrdinaryStalk$Camp" ({ cls := "OrdinaryStalk$Camp", name := "find", desc := "(J)I" } : Jvm.MethodName) ({ cls := "OrdinaryStalk$Camp", name := "find", desc := "(J)I" } : Jvm.MethodName)) ∈ lw_all := lw_g (lw_at lw_m4 5 rfl) rfl
theorem q840 : (Jvm.Cond.code ({ cls := "OrdinaryStalk$Camp", name := "find", desc := "(J)I" } : Jvm.MethodName) prog_3_method_2_code (4 : Nat) (Option.some Jvm.ClassFile.FieldType.int)) ∈ lw_all := lw_g (lw_at lw_m4 6 rfl) rfl
theorem q841 : (Jvm.Cond.methodLink "OrdinaryStalk$Camp" (51 : Nat) ({ cls := "java/util/ArrayList", name := "size", desc := "()I" } : Jvm.MethodName)) ∈ lw_all := lw_g (lw_at lw_m4 7 rfl) rfl
theorem q842 : (Jvm.Cond.methodLink "OrdinaryStalk$Camp" (55 : Nat) ({ cls := "java/util/ArrayList", name := "get", desc := "(I)Ljava/lang/Object;" } : Jvm.MethodName)) ∈ lw_all := lw_g (lw_at lw_m4 8 rfl) rfl
theorem q843 : (Jvm.Cond.classLink "OrdinaryStalk$Camp" (59 : Nat) "java/lang/Long") ∈ lw_all := lw_g (lw_at lw_m4 9 rfl) rfl
theorem q844 : (Jvm.Cond.methodLink "OrdinaryStalk$Camp" (61 : Nat) ({ cls := "java/lang/Long", name := "longValue", desc := "()J" } : Jvm.MethodName)) ∈ lw_all := lw_g (lw_at lw_m4 10 rfl) rfl
theorem q848 : (Jvm.Cond.classLink "OrdinaryStalk$Camp" (65 : Nat) "java/lang/Integer") ∈ lw_all := lw_g (lw_at lw_m4 14 rfl) rfl
theorem q849 : (Jvm.Cond.methodLink "OrdinaryStalk$Camp" (67 : Nat) ({ cls := "java/lang/Integer", name := "intValue", desc := "()I" } : Jvm.MethodName)) ∈ lw_all := lw_g (lw_at lw_m4 15 rfl) rfl
theorem q902 : (Jvm.Cond.selects "OrdinaryStalk$Camp" ({ cls := "java/lang/Object", name := "getClass", desc := "()Ljava/lang/Class;" } : Jvm.MethodName) ({ cls := "java/lang/Object", name := "getClass", desc := "()Ljava/lang/Class;" } : Jvm.MethodName)) ∈ lw_all := lw_g (lw_at lw_m4 68 rfl) rfl
theorem q1290 : (Jvm.Cond.instanceMethod ({ cls := "OrdinaryStalk$Camp", name := "isBush", desc := "(I)Z" } : Jvm.MethodName)) ∈ lw_all := lw_g (lw_at lw_m5 216 rfl) rfl
theorem q1291 : (Jvm.Cond.selects "OrdinaryStalk$Camp" ({ cls := "OrdinaryStalk$Camp", name := "isBush", desc := "(I)Z" } : Jvm.MethodName) ({ cls := "OrdinaryStalk$Camp", name := "isBush", desc := "(I)Z" } : Jvm.MethodName)) ∈ lw_all := lw_g (lw_at lw_m5 217 rfl) rfl
theorem q1292 : (Jvm.Cond.code ({ cls := "OrdinaryStalk$Camp", name := "isBush", desc := "(I)Z" } : Jvm.MethodName) prog_3_method_6_code (2 : Nat) (Option.some Jvm.ClassFile.FieldType.boolean)) ∈ lw_all := lw_g (lw_at lw_m5 218 rfl) rfl
theorem q1303 : (Jvm.Cond.instanceMethod ({ cls := "OrdinaryStalk$Camp", name := "next", desc := "(II)I" } : Jvm.MethodName)) ∈ lw_all := lw_g (lw_at lw_m5 229 rfl) rfl
theorem q1304 : (Jvm.Cond.selects "OrdinaryStalk$Camp" ({ cls := "OrdinaryStalk$Camp", name := "next", desc := "(II)I" } : Jvm.MethodName) ({ cls := "OrdinaryStalk$Camp", name := "next", desc := "(II)I" } : Jvm.MethodName)) ∈ lw_all := lw_g (lw_at lw_m5 230 rfl) rfl
theorem q1305 : (Jvm.Cond.code ({ cls := "OrdinaryStalk$Camp", name := "next", desc := "(II)I" } : Jvm.MethodName) prog_3_method_8_code (5 : Nat) (Option.some Jvm.ClassFile.FieldType.int)) ∈ lw_all := lw_g (lw_at lw_m5 231 rfl) rfl
theorem q1352 : (Jvm.Cond.instanceMethod ({ cls := "OrdinaryStalk$Camp", name := "wind", desc := "(I)I" } : Jvm.MethodName)) ∈ lw_all := lw_g (lw_at lw_m6 38 rfl) rfl
theorem q1353 : (Jvm.Cond.selects "OrdinaryStalk$Camp" ({ cls := "OrdinaryStalk$Camp", name := "wind", desc := "(I)I" } : Jvm.MethodName) ({ cls := "OrdinaryStalk$Camp", name := "wind", desc := "(I)I" } : Jvm.MethodName)) ∈ lw_all := lw_g (lw_at lw_m6 39 rfl) rfl
theorem q1354 : (Jvm.Cond.code ({ cls := "OrdinaryStalk$Camp", name := "wind", desc := "(I)I" } : Jvm.MethodName) prog_3_method_5_code (2 : Nat) (Option.some Jvm.ClassFile.FieldType.int)) ∈ lw_all := lw_g (lw_at lw_m6 40 rfl) rfl
theorem q1397 : (Jvm.Cond.instanceMethod ({ cls := "OrdinaryStalk$Camp", name := "isHeard", desc := "(IIIZI)Z" } : Jvm.MethodName)) ∈ lw_all := lw_g (lw_at lw_m6 83 rfl) rfl
theorem q1398 : (Jvm.Cond.selects "OrdinaryStalk$Camp" ({ cls := "OrdinaryStalk$Camp", name := "isHeard", desc := "(IIIZI)Z" } : Jvm.MethodName) ({ cls := "OrdinaryStalk$Camp", name := "isHeard", desc := "(IIIZI)Z" } : Jvm.MethodName)) ∈ lw_all := lw_g (lw_at lw_m6 84 rfl) rfl
theorem q1399 : (Jvm.Cond.code ({ cls := "OrdinaryStalk$Camp", name := "isHeard", desc := "(IIIZI)Z" } : Jvm.MethodName) prog_3_method_11_code (9 : Nat) (Option.some Jvm.ClassFile.FieldType.boolean)) ∈ lw_all := lw_g (lw_at lw_m6 85 rfl) rfl
theorem q1400 : (Jvm.Cond.methodLink "OrdinaryStalk$Camp" (83 : Nat) ({ cls := "OrdinaryStalk$Camp", name := "far", desc := "(II)I" } : Jvm.MethodName)) ∈ lw_all := lw_g (lw_at lw_m6 86 rfl) rfl
theorem q1401 : (Jvm.Cond.instanceMethod ({ cls := "OrdinaryStalk$Camp", name := "far", desc := "(II)I" } : Jvm.MethodName)) ∈ lw_all := lw_g (lw_at lw_m6 87 rfl) rfl
theorem q1402 : (Jvm.Cond.selects "OrdinaryStalk$Camp" ({ cls := "OrdinaryStalk$Camp", name := "far", desc := "(II)I" } : Jvm.MethodName) ({ cls := "OrdinaryStalk$Camp", name := "far", desc := "(II)I" } : Jvm.MethodName)) ∈ lw_all := lw_g (lw_at lw_m6 88 rfl) rfl
theorem q1403 : (Jvm.Cond.code ({ cls := "OrdinaryStalk$Camp", name := "far", desc := "(II)I" } : Jvm.MethodName) prog_3_method_9_code (3 : Nat) (Option.some Jvm.ClassFile.FieldType.int)) ∈ lw_all := lw_g (lw_at lw_m6 89 rfl) rfl
theorem q1404 : (Jvm.Cond.methodLink "OrdinaryStalk$Camp" (79 : Nat) ({ cls := "java/lang/Math", name := "abs", desc := "(I)I" } : Jvm.MethodName)) ∈ lw_all := lw_g (lw_at lw_m6 90 rfl) rfl
theorem q1407 : (Jvm.Cond.methodLink "OrdinaryStalk$Camp" (86 : Nat) ({ cls := "OrdinaryStalk$Camp", name := "isBush", desc := "(I)Z" } : Jvm.MethodName)) ∈ lw_all := lw_g (lw_at lw_m6 93 rfl) rfl
theorem q1408 : (Jvm.Cond.methodLink "OrdinaryStalk$Camp" (90 : Nat) ({ cls := "OrdinaryStalk$Camp", name := "isUpwind", desc := "(III)Z" } : Jvm.MethodName)) ∈ lw_all := lw_g (lw_at lw_m6 94 rfl) rfl
theorem q1409 : (Jvm.Cond.privateMethod ({ cls := "OrdinaryStalk$Camp", name := "isUpwind", desc := "(III)Z" } : Jvm.MethodName)) ∈ lw_tbl := lw_at lw_m6 95 rfl
theorem q1410 : (Jvm.Cond.instanceMethod ({ cls := "OrdinaryStalk$Camp", name := "isUpwind", desc := "(III)Z" } : Jvm.MethodName)) ∈ lw_all := lw_g (lw_at lw_m6 96 rfl) rfl
theorem q1411 : (Jvm.Cond.code ({ cls := "OrdinaryStalk$Camp", name := "isUpwind", desc := "(III)Z" } : Jvm.MethodName) prog_3_method_10_code (4 : Nat) (Option.some Jvm.ClassFile.FieldType.boolean)) ∈ lw_all := lw_g (lw_at lw_m6 97 rfl) rfl
theorem q1412 : (Jvm.Cond.methodLink "OrdinaryStalk$Camp" (101 : Nat) ({ cls := "OrdinaryStalk$Expression", name := "of", desc := "(LOrdinaryStalk$Facts;)I" } : Jvm.MethodName)) ∈ lw_all := lw_g (lw_at lw_m6 98 rfl) rfl
theorem q1693 : (Jvm.Cond.instanceMethod ({ cls := "OrdinaryStalk$Camp", name := "bushMany", desc := "()I" } : Jvm.MethodName)) ∈ lw_all := lw_g (lw_at lw_m7 139 rfl) rfl
theorem q1694 : (Jvm.Cond.selects "OrdinaryStalk$Camp" ({ cls := "OrdinaryStalk$Camp", name := "bushMany", desc := "()I" } : Jvm.MethodName) ({ cls := "OrdinaryStalk$Camp", name := "bushMany", desc := "()I" } : Jvm.MethodName)) ∈ lw_all := lw_g (lw_at lw_m7 140 rfl) rfl
theorem q1695 : (Jvm.Cond.code ({ cls := "OrdinaryStalk$Camp", name := "bushMany", desc := "()I" } : Jvm.MethodName) prog_3_method_7_code (3 : Nat) (Option.some Jvm.ClassFile.FieldType.int)) ∈ lw_all := lw_g (lw_at lw_m7 141 rfl) rfl
theorem q2412 : (Jvm.Cond.castable "OrdinaryStalk$Camp" "java/lang/Object") ∈ lw_tbl := lw_at lw_m10 138 rfl
theorem in_X4 : ∀ w ∈ wsX40, w ∈ lw_all := lw_in wsX40 [390, 392, 394, 396, 398, 400, 402, 404, 406, 408] (by decide +kernel) (by decide +kernel)

/-! java/util/AbstractCollection -/
def RJ0 : String := "java/util/AbstractCollection"
abbrev cJ0_init : ByteArray := prog_55_method_1_code
def yJ0_init : MethodName := ⟨RJ0, "<init>", "()V"⟩
theorem q119 : (Jvm.Cond.initialized "java/util/AbstractCollection") ∈ lw_all := lw_g (lw_at lw_m1 5 rfl) rfl
theorem q334 : (Jvm.Cond.instanceMethod ({ cls := "java/util/AbstractCollection", name := "<init>", desc := "()V" } : Jvm.MethodName)) ∈ lw_all := lw_g (lw_at lw_m1 220 rfl) rfl
theorem q335 : (Jvm.Cond.code ({ cls := "java/util/AbstractCollection", name := "<init>", desc := "()V" } : Jvm.MethodName) prog_55_method_1_code (1 : Nat) (Option.none : Option Jvm.ClassFile.FieldType)) ∈ lw_all := lw_g (lw_at lw_m1 221 rfl) rfl
theorem q336 : (Jvm.Cond.methodLink "java/util/AbstractCollection" (1 : Nat) ({ cls := "java/lang/Object", name := "<init>", desc := "()V" } : Jvm.MethodName)) ∈ lw_all := lw_g (lw_at lw_m1 222 rfl) rfl

/-! java/util/AbstractList -/
def RJ1 : String := "java/util/AbstractList"
abbrev cJ1_init : ByteArray := prog_56_method_1_code
def yJ1_init : MethodName := ⟨RJ1, "<init>", "()V"⟩
theorem q120 : (Jvm.Cond.initialized "java/util/AbstractList") ∈ lw_all := lw_g (lw_at lw_m1 6 rfl) rfl
theorem q331 : (Jvm.Cond.instanceMethod ({ cls := "java/util/AbstractList", name := "<init>", desc := "()V" } : Jvm.MethodName)) ∈ lw_all := lw_g (lw_at lw_m1 217 rfl) rfl
theorem q332 : (Jvm.Cond.code ({ cls := "java/util/AbstractList", name := "<init>", desc := "()V" } : Jvm.MethodName) prog_56_method_1_code (1 : Nat) (Option.none : Option Jvm.ClassFile.FieldType)) ∈ lw_all := lw_g (lw_at lw_m1 218 rfl) rfl
theorem q333 : (Jvm.Cond.methodLink "java/util/AbstractList" (1 : Nat) ({ cls := "java/util/AbstractCollection", name := "<init>", desc := "()V" } : Jvm.MethodName)) ∈ lw_all := lw_g (lw_at lw_m1 219 rfl) rfl
theorem q343 : (Jvm.Cond.fieldLink "java/util/AbstractList" (7 : Nat) "java/util/AbstractList" "modCount" "I") ∈ lw_all := lw_g (lw_at lw_m1 229 rfl) rfl
theorem q351 : (Jvm.Cond.soleField "java/util/AbstractList" "modCount") ∈ lw_all := lw_g (lw_at lw_m1 237 rfl) rfl

/-! java/util/ArrayList -/
def RJ2 : String := "java/util/ArrayList"
def TJ2 : u_T := fun k => match k with
  | 0 => ("java/util/AbstractList", "modCount", "I", false)
  | 1 => ("java/util/ArrayList", "elementData", "[Ljava/lang/Object;", false)
  | _ => ("java/util/ArrayList", "size", "I", false)
def tyJ2 : Nat → FieldType := fun k => match k with
  | 0 => .int
  | 1 => .array (.object "java/lang/Object")
  | _ => .int
abbrev wsJ20 : List Cond := u_ws RJ2 TJ2 3
theorem nmJ2 : ∀ a, a < 3 → ∀ b, b < 3 → a ≠ b → (TJ2 a).2.1 ≠ (TJ2 b).2.1 := by decide +kernel
theorem tyJ2_ok : ∀ k, k < 3 → parseFieldDescriptor (TJ2 k).2.2.1 = some (tyJ2 k) := by decide +kernel
abbrev cJ2_init : ByteArray := prog_57_method_1_code
def yJ2_init : MethodName := ⟨RJ2, "<init>", "(I)V"⟩
abbrev cJ2_size : ByteArray := prog_57_method_8_code
def yJ2_size : MethodName := ⟨RJ2, "size", "()I"⟩
abbrev cJ2_get : ByteArray := prog_57_method_20_code
def yJ2_get : MethodName := ⟨RJ2, "get", "(I)Ljava/lang/Object;"⟩
abbrev cJ2_elementData : ByteArray := prog_57_method_18_code
def yJ2_elementData : MethodName := ⟨RJ2, "elementData", "(I)Ljava/lang/Object;"⟩
abbrev cJ2_init_2 : ByteArray := prog_57_method_2_code
def yJ2_init_2 : MethodName := ⟨RJ2, "<init>", "()V"⟩
abbrev cJ2_add : ByteArray := prog_57_method_25_code
def yJ2_add : MethodName := ⟨RJ2, "add", "(Ljava/lang/Object;)Z"⟩
abbrev cJ2_add_2 : ByteArray := prog_57_method_24_code
def yJ2_add_2 : MethodName := ⟨RJ2, "add", "(Ljava/lang/Object;[Ljava/lang/Object;I)V"⟩
abbrev cJ2_grow : ByteArray := prog_57_method_7_code
def yJ2_grow : MethodName := ⟨RJ2, "grow", "()[Ljava/lang/Object;"⟩
abbrev cJ2_grow_2 : ByteArray := prog_57_method_6_code
def yJ2_grow_2 : MethodName := ⟨RJ2, "grow", "(I)[Ljava/lang/Object;"⟩
abbrev cJ2_clear : ByteArray := prog_57_method_40_code
def yJ2_clear : MethodName := ⟨RJ2, "clear", "()V"⟩
abbrev cJ2_remove : ByteArray := prog_57_method_29_code
def yJ2_remove : MethodName := ⟨RJ2, "remove", "(I)Ljava/lang/Object;"⟩
abbrev cJ2_fastRemove : ByteArray := prog_57_method_39_code
def yJ2_fastRemove : MethodName := ⟨RJ2, "fastRemove", "([Ljava/lang/Object;I)V"⟩
abbrev cJ2_isEmpty : ByteArray := prog_57_method_9_code
def yJ2_isEmpty : MethodName := ⟨RJ2, "isEmpty", "()Z"⟩
theorem q121 : (Jvm.Cond.initialized "java/util/ArrayList") ∈ lw_all := lw_g (lw_at lw_m1 7 rfl) rfl
theorem q326 : (Jvm.Cond.instantiable "java/util/ArrayList" (3 : Nat)) ∈ lw_all := lw_g (lw_at lw_m1 212 rfl) rfl
theorem q328 : (Jvm.Cond.instanceMethod ({ cls := "java/util/ArrayList", name := "<init>", desc := "(I)V" } : Jvm.MethodName)) ∈ lw_all := lw_g (lw_at lw_m1 214 rfl) rfl
theorem q329 : (Jvm.Cond.code ({ cls := "java/util/ArrayList", name := "<init>", desc := "(I)V" } : Jvm.MethodName) prog_57_method_1_code (2 : Nat) (Option.none : Option Jvm.ClassFile.FieldType)) ∈ lw_all := lw_g (lw_at lw_m1 215 rfl) rfl
theorem q330 : (Jvm.Cond.methodLink "java/util/ArrayList" (1 : Nat) ({ cls := "java/util/AbstractList", name := "<init>", desc := "()V" } : Jvm.MethodName)) ∈ lw_all := lw_g (lw_at lw_m1 216 rfl) rfl
theorem q337 : (Jvm.Cond.classLink "java/util/ArrayList" (7 : Nat) "java/lang/Object") ∈ lw_all := lw_g (lw_at lw_m1 223 rfl) rfl
theorem q339 : (Jvm.Cond.fieldLink "java/util/ArrayList" (15 : Nat) "java/util/ArrayList" "EMPTY_ELEMENTDATA" "[Ljava/lang/Object;") ∈ lw_all := lw_g (lw_at lw_m1 225 rfl) rfl
theorem q340 : (Jvm.Cond.laysStatic "java/util/ArrayList" "EMPTY_ELEMENTDATA" "[Ljava/lang/Object;") ∈ lw_tbl := lw_at lw_m1 226 rfl
theorem q341 : (Jvm.Cond.fieldLink "java/util/ArrayList" (9 : Nat) "java/util/ArrayList" "elementData" "[Ljava/lang/Object;") ∈ lw_all := lw_g (lw_at lw_m1 227 rfl) rfl
theorem q342 : (Jvm.Cond.fieldLink "java/util/ArrayList" (48 : Nat) "java/util/ArrayList" "size" "I") ∈ lw_all := lw_g (lw_at lw_m1 228 rfl) rfl
theorem q344 : (Jvm.Cond.fieldLink "java/util/ArrayList" (63 : Nat) "java/util/ArrayList" "modCount" "I") ∈ lw_all := lw_g (lw_at lw_m1 230 rfl) rfl
theorem q345 : (Jvm.Cond.sameField "java/util/ArrayList" "java/util/AbstractList" "modCount" "I") ∈ lw_all := lw_g (lw_at lw_m1 231 rfl) rfl
theorem q346 : (Jvm.Cond.lays "java/util/ArrayList" "java/util/ArrayList" "elementData" "[Ljava/lang/Object;") ∈ lw_all := lw_g (lw_at lw_m1 232 rfl) rfl
theorem q347 : (Jvm.Cond.soleField "java/util/ArrayList" "elementData") ∈ lw_all := lw_g (lw_at lw_m1 233 rfl) rfl
theorem q348 : (Jvm.Cond.lays "java/util/ArrayList" "java/util/ArrayList" "size" "I") ∈ lw_all := lw_g (lw_at lw_m1 234 rfl) rfl
theorem q349 : (Jvm.Cond.soleField "java/util/ArrayList" "size") ∈ lw_all := lw_g (lw_at lw_m1 235 rfl) rfl
theorem q350 : (Jvm.Cond.lays "java/util/ArrayList" "java/util/AbstractList" "modCount" "I") ∈ lw_all := lw_g (lw_at lw_m1 236 rfl) rfl
theorem q352 : (Jvm.Cond.superclass "java/util/ArrayList" "java/util/AbstractList") ∈ lw_all := lw_g (lw_at lw_m1 238 rfl) rfl
theorem q420 : (Jvm.Cond.instanceMethod ({ cls := "java/util/ArrayList", name := "size", desc := "()I" } : Jvm.MethodName)) ∈ lw_all := lw_g (lw_at lw_m2 66 rfl) rfl
theorem q421 : (Jvm.Cond.selects "java/util/ArrayList" ({ cls := "java/util/ArrayList", name := "size", desc := "()I" } : Jvm.MethodName) ({ cls := "java/util/ArrayList", name := "size", desc := "()I" } : Jvm.MethodName)) ∈ lw_all := lw_g (lw_at lw_m2 67 rfl) rfl
theorem q422 : (Jvm.Cond.code ({ cls := "java/util/ArrayList", name := "size", desc := "()I" } : Jvm.MethodName) prog_57_method_8_code (1 : Nat) (Option.some Jvm.ClassFile.FieldType.int)) ∈ lw_all := lw_g (lw_at lw_m2 68 rfl) rfl
theorem q428 : (Jvm.Cond.instanceMethod ({ cls := "java/util/ArrayList", name := "get", desc := "(I)Ljava/lang/Object;" } : Jvm.MethodName)) ∈ lw_all := lw_g (lw_at lw_m2 74 rfl) rfl
theorem q429 : (Jvm.Cond.selects "java/util/ArrayList" ({ cls := "java/util/ArrayList", name := "get", desc := "(I)Ljava/lang/Object;" } : Jvm.MethodName) ({ cls := "java/util/ArrayList", name := "get", desc := "(I)Ljava/lang/Object;" } : Jvm.MethodName)) ∈ lw_all := lw_g (lw_at lw_m2 75 rfl) rfl
theorem q430 : (Jvm.Cond.code ({ cls := "java/util/ArrayList", name := "get", desc := "(I)Ljava/lang/Object;" } : Jvm.MethodName) prog_57_method_20_code (2 : Nat) (Option.some (Jvm.ClassFile.FieldType.object "java/lang/Object"))) ∈ lw_all := lw_g (lw_at lw_m2 76 rfl) rfl
theorem q431 : (Jvm.Cond.methodLink "java/util/ArrayList" (118 : Nat) ({ cls := "java/util/Objects", name := "checkIndex", desc := "(II)I" } : Jvm.MethodName)) ∈ lw_all := lw_g (lw_at lw_m2 77 rfl) rfl
theorem q437 : (Jvm.Cond.methodLink "java/util/ArrayList" (123 : Nat) ({ cls := "java/util/ArrayList", name := "elementData", desc := "(I)Ljava/lang/Object;" } : Jvm.MethodName)) ∈ lw_all := lw_g (lw_at lw_m2 83 rfl) rfl
theorem q438 : (Jvm.Cond.instanceMethod ({ cls := "java/util/ArrayList", name := "elementData", desc := "(I)Ljava/lang/Object;" } : Jvm.MethodName)) ∈ lw_all := lw_g (lw_at lw_m2 84 rfl) rfl
theorem q439 : (Jvm.Cond.selects "java/util/ArrayList" ({ cls := "java/util/ArrayList", name := "elementData", desc := "(I)Ljava/lang/Object;" } : Jvm.MethodName) ({ cls := "java/util/ArrayList", name := "elementData", desc := "(I)Ljava/lang/Object;" } : Jvm.MethodName)) ∈ lw_all := lw_g (lw_at lw_m2 85 rfl) rfl
theorem q440 : (Jvm.Cond.code ({ cls := "java/util/ArrayList", name := "elementData", desc := "(I)Ljava/lang/Object;" } : Jvm.MethodName) prog_57_method_18_code (2 : Nat) (Option.some (Jvm.ClassFile.FieldType.object "java/lang/Object"))) ∈ lw_all := lw_g (lw_at lw_m2 86 rfl) rfl
theorem q465 : (Jvm.Cond.instanceMethod ({ cls := "java/util/ArrayList", name := "<init>", desc := "()V" } : Jvm.MethodName)) ∈ lw_all := lw_g (lw_at lw_m2 111 rfl) rfl
theorem q466 : (Jvm.Cond.code ({ cls := "java/util/ArrayList", name := "<init>", desc := "()V" } : Jvm.MethodName) prog_57_method_2_code (1 : Nat) (Option.none : Option Jvm.ClassFile.FieldType)) ∈ lw_all := lw_g (lw_at lw_m2 112 rfl) rfl
theorem q467 : (Jvm.Cond.fieldLink "java/util/ArrayList" (39 : Nat) "java/util/ArrayList" "DEFAULTCAPACITY_EMPTY_ELEMENTDATA" "[Ljava/lang/Object;") ∈ lw_all := lw_g (lw_at lw_m2 113 rfl) rfl
theorem q468 : (Jvm.Cond.laysStatic "java/util/ArrayList" "DEFAULTCAPACITY_EMPTY_ELEMENTDATA" "[Ljava/lang/Object;") ∈ lw_tbl := lw_at lw_m2 114 rfl
theorem q871 : (Jvm.Cond.instanceMethod ({ cls := "java/util/ArrayList", name := "add", desc := "(Ljava/lang/Object;)Z" } : Jvm.MethodName)) ∈ lw_all := lw_g (lw_at lw_m4 37 rfl) rfl
theorem q872 : (Jvm.Cond.selects "java/util/ArrayList" ({ cls := "java/util/ArrayList", name := "add", desc := "(Ljava/lang/Object;)Z" } : Jvm.MethodName) ({ cls := "java/util/ArrayList", name := "add", desc := "(Ljava/lang/Object;)Z" } : Jvm.MethodName)) ∈ lw_all := lw_g (lw_at lw_m4 38 rfl) rfl
theorem q873 : (Jvm.Cond.code ({ cls := "java/util/ArrayList", name := "add", desc := "(Ljava/lang/Object;)Z" } : Jvm.MethodName) prog_57_method_25_code (2 : Nat) (Option.some Jvm.ClassFile.FieldType.boolean)) ∈ lw_all := lw_g (lw_at lw_m4 39 rfl) rfl
theorem q874 : (Jvm.Cond.methodLink "java/util/ArrayList" (131 : Nat) ({ cls := "java/util/ArrayList", name := "add", desc := "(Ljava/lang/Object;[Ljava/lang/Object;I)V" } : Jvm.MethodName)) ∈ lw_all := lw_g (lw_at lw_m4 40 rfl) rfl
theorem q875 : (Jvm.Cond.privateMethod ({ cls := "java/util/ArrayList", name := "add", desc := "(Ljava/lang/Object;[Ljava/lang/Object;I)V" } : Jvm.MethodName)) ∈ lw_tbl := lw_at lw_m4 41 rfl
theorem q876 : (Jvm.Cond.instanceMethod ({ cls := "java/util/ArrayList", name := "add", desc := "(Ljava/lang/Object;[Ljava/lang/Object;I)V" } : Jvm.MethodName)) ∈ lw_all := lw_g (lw_at lw_m4 42 rfl) rfl
theorem q877 : (Jvm.Cond.code ({ cls := "java/util/ArrayList", name := "add", desc := "(Ljava/lang/Object;[Ljava/lang/Object;I)V" } : Jvm.MethodName) prog_57_method_24_code (4 : Nat) (Option.none : Option Jvm.ClassFile.FieldType)) ∈ lw_all := lw_g (lw_at lw_m4 43 rfl) rfl
theorem q878 : (Jvm.Cond.methodLink "java/util/ArrayList" (129 : Nat) ({ cls := "java/util/ArrayList", name := "grow", desc := "()[Ljava/lang/Object;" } : Jvm.MethodName)) ∈ lw_all := lw_g (lw_at lw_m4 44 rfl) rfl
theorem q879 : (Jvm.Cond.privateMethod ({ cls := "java/util/ArrayList", name := "grow", desc := "()[Ljava/lang/Object;" } : Jvm.MethodName)) ∈ lw_tbl := lw_at lw_m4 45 rfl
theorem q880 : (Jvm.Cond.instanceMethod ({ cls := "java/util/ArrayList", name := "grow", desc := "()[Ljava/lang/Object;" } : Jvm.MethodName)) ∈ lw_all := lw_g (lw_at lw_m4 46 rfl) rfl
theorem q881 : (Jvm.Cond.code ({ cls := "java/util/ArrayList", name := "grow", desc := "()[Ljava/lang/Object;" } : Jvm.MethodName) prog_57_method_7_code (1 : Nat) (Option.some (Jvm.ClassFile.FieldType.array (Jvm.ClassFile.FieldType.object "java/lang/Object")))) ∈ lw_all := lw_g (lw_at lw_m4 47 rfl) rfl
theorem q882 : (Jvm.Cond.methodLink "java/util/ArrayList" (69 : Nat) ({ cls := "java/util/ArrayList", name := "grow", desc := "(I)[Ljava/lang/Object;" } : Jvm.MethodName)) ∈ lw_all := lw_g (lw_at lw_m4 48 rfl) rfl
theorem q883 : (Jvm.Cond.privateMethod ({ cls := "java/util/ArrayList", name := "grow", desc := "(I)[Ljava/lang/Object;" } : Jvm.MethodName)) ∈ lw_tbl := lw_at lw_m4 49 rfl
theorem q884 : (Jvm.Cond.instanceMethod ({ cls := "java/util/ArrayList", name := "grow", desc := "(I)[Ljava/lang/Object;" } : Jvm.MethodName)) ∈ lw_all := lw_g (lw_at lw_m4 50 rfl) rfl
theorem q885 : (Jvm.Cond.code ({ cls := "java/util/ArrayList", name := "grow", desc := "(I)[Ljava/lang/Object;" } : Jvm.MethodName) prog_57_method_6_code (4 : Nat) (Option.some (Jvm.ClassFile.FieldType.array (Jvm.ClassFile.FieldType.object "java/lang/Object")))) ∈ lw_all := lw_g (lw_at lw_m4 51 rfl) rfl
theorem q886 : (Jvm.Cond.methodLink "java/util/ArrayList" (73 : Nat) ({ cls := "jdk/internal/util/ArraysSupport", name := "newLength", desc := "(III)I" } : Jvm.MethodName)) ∈ lw_all := lw_g (lw_at lw_m4 52 rfl) rfl
theorem q894 : (Jvm.Cond.methodLink "java/util/ArrayList" (66 : Nat) ({ cls := "java/util/Arrays", name := "copyOf", desc := "([Ljava/lang/Object;I)[Ljava/lang/Object;" } : Jvm.MethodName)) ∈ lw_all := lw_g (lw_at lw_m4 60 rfl) rfl
theorem q931 : (Jvm.Cond.selects "java/util/ArrayList" ({ cls := "java/lang/Object", name := "getClass", desc := "()Ljava/lang/Class;" } : Jvm.MethodName) ({ cls := "java/lang/Object", name := "getClass", desc := "()Ljava/lang/Class;" } : Jvm.MethodName)) ∈ lw_all := lw_g (lw_at lw_m4 97 rfl) rfl
theorem q943 : (Jvm.Cond.methodLink "java/util/ArrayList" (79 : Nat) ({ cls := "java/lang/Math", name := "max", desc := "(II)I" } : Jvm.MethodName)) ∈ lw_all := lw_g (lw_at lw_m4 109 rfl) rfl
theorem q1189 : (Jvm.Cond.instanceMethod ({ cls := "java/util/ArrayList", name := "clear", desc := "()V" } : Jvm.MethodName)) ∈ lw_all := lw_g (lw_at lw_m5 115 rfl) rfl
theorem q1190 : (Jvm.Cond.selects "java/util/ArrayList" ({ cls := "java/util/ArrayList", name := "clear", desc := "()V" } : Jvm.MethodName) ({ cls := "java/util/ArrayList", name := "clear", desc := "()V" } : Jvm.MethodName)) ∈ lw_all := lw_g (lw_at lw_m5 116 rfl) rfl
theorem q1191 : (Jvm.Cond.code ({ cls := "java/util/ArrayList", name := "clear", desc := "()V" } : Jvm.MethodName) prog_57_method_40_code (4 : Nat) (Option.none : Option Jvm.ClassFile.FieldType)) ∈ lw_all := lw_g (lw_at lw_m5 117 rfl) rfl
theorem q1311 : (Jvm.Cond.instanceMethod ({ cls := "java/util/ArrayList", name := "remove", desc := "(I)Ljava/lang/Object;" } : Jvm.MethodName)) ∈ lw_all := lw_g (lw_at lw_m5 237 rfl) rfl
theorem q1312 : (Jvm.Cond.selects "java/util/ArrayList" ({ cls := "java/util/ArrayList", name := "remove", desc := "(I)Ljava/lang/Object;" } : Jvm.MethodName) ({ cls := "java/util/ArrayList", name := "remove", desc := "(I)Ljava/lang/Object;" } : Jvm.MethodName)) ∈ lw_all := lw_g (lw_at lw_m5 238 rfl) rfl
theorem q1313 : (Jvm.Cond.code ({ cls := "java/util/ArrayList", name := "remove", desc := "(I)Ljava/lang/Object;" } : Jvm.MethodName) prog_57_method_29_code (4 : Nat) (Option.some (Jvm.ClassFile.FieldType.object "java/lang/Object"))) ∈ lw_all := lw_g (lw_at lw_m5 239 rfl) rfl
theorem q1314 : (Jvm.Cond.methodLink "java/util/ArrayList" (144 : Nat) ({ cls := "java/util/ArrayList", name := "fastRemove", desc := "([Ljava/lang/Object;I)V" } : Jvm.MethodName)) ∈ lw_all := lw_g (lw_at lw_m6 0 rfl) rfl
theorem q1315 : (Jvm.Cond.privateMethod ({ cls := "java/util/ArrayList", name := "fastRemove", desc := "([Ljava/lang/Object;I)V" } : Jvm.MethodName)) ∈ lw_tbl := lw_at lw_m6 1 rfl
theorem q1316 : (Jvm.Cond.instanceMethod ({ cls := "java/util/ArrayList", name := "fastRemove", desc := "([Ljava/lang/Object;I)V" } : Jvm.MethodName)) ∈ lw_all := lw_g (lw_at lw_m6 2 rfl) rfl
theorem q1317 : (Jvm.Cond.code ({ cls := "java/util/ArrayList", name := "fastRemove", desc := "([Ljava/lang/Object;I)V" } : Jvm.MethodName) prog_57_method_39_code (4 : Nat) (Option.none : Option Jvm.ClassFile.FieldType)) ∈ lw_all := lw_g (lw_at lw_m6 3 rfl) rfl
theorem q1318 : (Jvm.Cond.methodLink "java/util/ArrayList" (112 : Nat) ({ cls := "java/lang/System", name := "arraycopy", desc := "(Ljava/lang/Object;ILjava/lang/Object;II)V" } : Jvm.MethodName)) ∈ lw_all := lw_g (lw_at lw_m6 4 rfl) rfl
theorem q1488 : (Jvm.Cond.instanceMethod ({ cls := "java/util/ArrayList", name := "isEmpty", desc := "()Z" } : Jvm.MethodName)) ∈ lw_all := lw_g (lw_at lw_m6 174 rfl) rfl
theorem q1489 : (Jvm.Cond.selects "java/util/ArrayList" ({ cls := "java/util/ArrayList", name := "isEmpty", desc := "()Z" } : Jvm.MethodName) ({ cls := "java/util/ArrayList", name := "isEmpty", desc := "()Z" } : Jvm.MethodName)) ∈ lw_all := lw_g (lw_at lw_m6 175 rfl) rfl
theorem q1490 : (Jvm.Cond.code ({ cls := "java/util/ArrayList", name := "isEmpty", desc := "()Z" } : Jvm.MethodName) prog_57_method_9_code (1 : Nat) (Option.some Jvm.ClassFile.FieldType.boolean)) ∈ lw_all := lw_g (lw_at lw_m6 176 rfl) rfl
theorem q2413 : (Jvm.Cond.castable "java/util/ArrayList" "java/lang/Object") ∈ lw_tbl := lw_at lw_m10 139 rfl
theorem in_J2 : ∀ w ∈ wsJ20, w ∈ lw_all := lw_in wsJ20 [350, 346, 348] (by decide +kernel) (by decide +kernel)

/-! OrdinaryStalk$Facts -/
def RX5 : String := "OrdinaryStalk$Facts"
def TX5 : u_T := fun k => match k with
  | _ => ("OrdinaryStalk$Facts", "of", "[I", true)
def tyX5 : Nat → FieldType := fun k => match k with
  | _ => .array .int
abbrev wsX50 : List Cond := u_ws RX5 TX5 1
theorem nmX5 : ∀ a, a < 1 → ∀ b, b < 1 → a ≠ b → (TX5 a).2.1 ≠ (TX5 b).2.1 := by decide +kernel
theorem tyX5_ok : ∀ k, k < 1 → parseFieldDescriptor (TX5 k).2.2.1 = some (tyX5 k) := by decide +kernel
abbrev cX5_init : ByteArray := prog_10_method_1_code
def yX5_init : MethodName := ⟨RX5, "<init>", "()V"⟩
theorem q122 : (Jvm.Cond.initialized "OrdinaryStalk$Facts") ∈ lw_all := lw_g (lw_at lw_m1 8 rfl) rfl
theorem q354 : (Jvm.Cond.instantiable "OrdinaryStalk$Facts" (1 : Nat)) ∈ lw_all := lw_g (lw_at lw_m2 0 rfl) rfl
theorem q356 : (Jvm.Cond.instanceMethod ({ cls := "OrdinaryStalk$Facts", name := "<init>", desc := "()V" } : Jvm.MethodName)) ∈ lw_all := lw_g (lw_at lw_m2 2 rfl) rfl
theorem q357 : (Jvm.Cond.code ({ cls := "OrdinaryStalk$Facts", name := "<init>", desc := "()V" } : Jvm.MethodName) prog_10_method_1_code (1 : Nat) (Option.none : Option Jvm.ClassFile.FieldType)) ∈ lw_all := lw_g (lw_at lw_m2 3 rfl) rfl
theorem q358 : (Jvm.Cond.methodLink "OrdinaryStalk$Facts" (1 : Nat) ({ cls := "java/lang/Object", name := "<init>", desc := "()V" } : Jvm.MethodName)) ∈ lw_all := lw_g (lw_at lw_m2 4 rfl) rfl
theorem q359 : (Jvm.Cond.fieldLink "OrdinaryStalk$Facts" (9 : Nat) "OrdinaryStalk$Facts" "of" "[I") ∈ lw_all := lw_g (lw_at lw_m2 5 rfl) rfl
theorem q362 : (Jvm.Cond.laysFinal "OrdinaryStalk$Facts" "OrdinaryStalk$Facts" "of" "[I") ∈ lw_all := lw_g (lw_at lw_m2 8 rfl) rfl
theorem q363 : (Jvm.Cond.soleField "OrdinaryStalk$Facts" "of") ∈ lw_all := lw_g (lw_at lw_m2 9 rfl) rfl
theorem q364 : (Jvm.Cond.superclass "OrdinaryStalk$Facts" "java/lang/Object") ∈ lw_all := lw_g (lw_at lw_m2 10 rfl) rfl
theorem q908 : (Jvm.Cond.selects "OrdinaryStalk$Facts" ({ cls := "java/lang/Object", name := "getClass", desc := "()Ljava/lang/Class;" } : Jvm.MethodName) ({ cls := "java/lang/Object", name := "getClass", desc := "()Ljava/lang/Class;" } : Jvm.MethodName)) ∈ lw_all := lw_g (lw_at lw_m4 74 rfl) rfl
theorem q2414 : (Jvm.Cond.castable "OrdinaryStalk$Facts" "java/lang/Object") ∈ lw_tbl := lw_at lw_m10 140 rfl
theorem in_X5 : ∀ w ∈ wsX50, w ∈ lw_all := lw_in wsX50 [362] (by decide +kernel) (by decide +kernel)

/-! java/util/Objects -/
def RJ3 : String := "java/util/Objects"
abbrev cJ3_checkIndex : ByteArray := prog_62_method_17_code
def yJ3_checkIndex : MethodName := ⟨RJ3, "checkIndex", "(II)I"⟩
theorem q123 : (Jvm.Cond.initialized "java/util/Objects") ∈ lw_all := lw_g (lw_at lw_m1 9 rfl) rfl
theorem q432 : (Jvm.Cond.static ({ cls := "java/util/Objects", name := "checkIndex", desc := "(II)I" } : Jvm.MethodName)) ∈ lw_all := lw_g (lw_at lw_m2 78 rfl) rfl
theorem q433 : (Jvm.Cond.code ({ cls := "java/util/Objects", name := "checkIndex", desc := "(II)I" } : Jvm.MethodName) prog_62_method_17_code (2 : Nat) (Option.some Jvm.ClassFile.FieldType.int)) ∈ lw_all := lw_g (lw_at lw_m2 79 rfl) rfl
theorem q434 : (Jvm.Cond.methodLink "java/util/Objects" (105 : Nat) ({ cls := "jdk/internal/util/Preconditions", name := "checkIndex", desc := "(IILjava/util/function/BiFunction;)I" } : Jvm.MethodName)) ∈ lw_all := lw_g (lw_at lw_m2 80 rfl) rfl

/-! jdk/internal/util/Preconditions -/
def RJ4 : String := "jdk/internal/util/Preconditions"
abbrev cJ4_checkIndex : ByteArray := prog_66_method_11_code
def yJ4_checkIndex : MethodName := ⟨RJ4, "checkIndex", "(IILjava/util/function/BiFunction;)I"⟩
abbrev cJ4_checkFromToIndex : ByteArray := prog_66_method_12_code
def yJ4_checkFromToIndex : MethodName := ⟨RJ4, "checkFromToIndex", "(IIILjava/util/function/BiFunction;)I"⟩
theorem q124 : (Jvm.Cond.initialized "jdk/internal/util/Preconditions") ∈ lw_all := lw_g (lw_at lw_m1 10 rfl) rfl
theorem q435 : (Jvm.Cond.static ({ cls := "jdk/internal/util/Preconditions", name := "checkIndex", desc := "(IILjava/util/function/BiFunction;)I" } : Jvm.MethodName)) ∈ lw_all := lw_g (lw_at lw_m2 81 rfl) rfl
theorem q436 : (Jvm.Cond.code ({ cls := "jdk/internal/util/Preconditions", name := "checkIndex", desc := "(IILjava/util/function/BiFunction;)I" } : Jvm.MethodName) prog_66_method_11_code (3 : Nat) (Option.some Jvm.ClassFile.FieldType.int)) ∈ lw_all := lw_g (lw_at lw_m2 82 rfl) rfl
theorem q677 : (Jvm.Cond.laysStatic "jdk/internal/util/Preconditions" "SIOOBE_FORMATTER" "Ljava/util/function/BiFunction;") ∈ lw_tbl := lw_at lw_m3 83 rfl
theorem q679 : (Jvm.Cond.static ({ cls := "jdk/internal/util/Preconditions", name := "checkFromToIndex", desc := "(IIILjava/util/function/BiFunction;)I" } : Jvm.MethodName)) ∈ lw_all := lw_g (lw_at lw_m3 85 rfl) rfl
theorem q680 : (Jvm.Cond.code ({ cls := "jdk/internal/util/Preconditions", name := "checkFromToIndex", desc := "(IIILjava/util/function/BiFunction;)I" } : Jvm.MethodName) prog_66_method_12_code (4 : Nat) (Option.some Jvm.ClassFile.FieldType.int)) ∈ lw_all := lw_g (lw_at lw_m3 86 rfl) rfl

/-! java/lang/Math -/
def RJ5 : String := "java/lang/Math"
abbrev cJ5_min : ByteArray := prog_45_method_69_code
def yJ5_min : MethodName := ⟨RJ5, "min", "(II)I"⟩
abbrev cJ5_max : ByteArray := prog_45_method_65_code
def yJ5_max : MethodName := ⟨RJ5, "max", "(II)I"⟩
abbrev cJ5_abs : ByteArray := prog_45_method_59_code
def yJ5_abs : MethodName := ⟨RJ5, "abs", "(I)I"⟩
theorem q125 : (Jvm.Cond.initialized "java/lang/Math") ∈ lw_all := lw_g (lw_at lw_m1 11 rfl) rfl
theorem q451 : (Jvm.Cond.static ({ cls := "java/lang/Math", name := "min", desc := "(II)I" } : Jvm.MethodName)) ∈ lw_all := lw_g (lw_at lw_m2 97 rfl) rfl
theorem q452 : (Jvm.Cond.code ({ cls := "java/lang/Math", name := "min", desc := "(II)I" } : Jvm.MethodName) prog_45_method_69_code (2 : Nat) (Option.some Jvm.ClassFile.FieldType.int)) ∈ lw_all := lw_g (lw_at lw_m2 98 rfl) rfl
theorem q652 : (Jvm.Cond.static ({ cls := "java/lang/Math", name := "max", desc := "(II)I" } : Jvm.MethodName)) ∈ lw_all := lw_g (lw_at lw_m3 58 rfl) rfl
theorem q653 : (Jvm.Cond.code ({ cls := "java/lang/Math", name := "max", desc := "(II)I" } : Jvm.MethodName) prog_45_method_65_code (2 : Nat) (Option.some Jvm.ClassFile.FieldType.int)) ∈ lw_all := lw_g (lw_at lw_m3 59 rfl) rfl
theorem q1405 : (Jvm.Cond.static ({ cls := "java/lang/Math", name := "abs", desc := "(I)I" } : Jvm.MethodName)) ∈ lw_all := lw_g (lw_at lw_m6 91 rfl) rfl
theorem q1406 : (Jvm.Cond.code ({ cls := "java/lang/Math", name := "abs", desc := "(I)I" } : Jvm.MethodName) prog_45_method_59_code (1 : Nat) (Option.some Jvm.ClassFile.FieldType.int)) ∈ lw_all := lw_g (lw_at lw_m6 92 rfl) rfl

/-! OrdinaryStalk$Chase -/
def RX6 : String := "OrdinaryStalk$Chase"
def TX6 : u_T := fun k => match k with
  | 0 => ("OrdinaryStalk$Chase", "who", "I", false)
  | 1 => ("OrdinaryStalk$Chase", "whom", "I", false)
  | 2 => ("OrdinaryStalk$Chase", "now", "J", false)
  | 3 => ("OrdinaryStalk$Chase", "then", "J", false)
  | 4 => ("OrdinaryStalk$Chase", "isGot", "Z", false)
  | _ => ("OrdinaryStalk$Chase", "this$0", "LOrdinaryStalk;", true)
def tyX6 : Nat → FieldType := fun k => match k with
  | 0 => .int
  | 1 => .int
  | 2 => .long
  | 3 => .long
  | 4 => .boolean
  | _ => .object "OrdinaryStalk"
abbrev wsX60 : List Cond := u_ws RX6 TX6 6
theorem nmX6 : ∀ a, a < 6 → ∀ b, b < 6 → a ≠ b → (TX6 a).2.1 ≠ (TX6 b).2.1 := by decide +kernel
theorem tyX6_ok : ∀ k, k < 6 → parseFieldDescriptor (TX6 k).2.2.1 = some (tyX6 k) := by decide +kernel
abbrev cX6_init : ByteArray := prog_5_method_1_code
def yX6_init : MethodName := ⟨RX6, "<init>", "(LOrdinaryStalk;)V"⟩
abbrev cX6_finds : ByteArray := prog_5_method_2_code
def yX6_finds : MethodName := ⟨RX6, "finds", "(III)I"⟩
abbrev cX6_goes : ByteArray := prog_5_method_3_code
def yX6_goes : MethodName := ⟨RX6, "goes", "(ZII)V"⟩
abbrev cX6_lies : ByteArray := prog_5_method_4_code
def yX6_lies : MethodName := ⟨RX6, "lies", "(IZI)V"⟩
theorem q126 : (Jvm.Cond.initialized "OrdinaryStalk$Chase") ∈ lw_all := lw_g (lw_at lw_m1 12 rfl) rfl
theorem q265 : (Jvm.Cond.fieldLink "OrdinaryStalk$Chase" (50 : Nat) "OrdinaryStalk$Hunt" "camp" "LOrdinaryStalk$Camp;") ∈ lw_all := lw_g (lw_at lw_m1 151 rfl) rfl
theorem q268 : (Jvm.Cond.fieldLink "OrdinaryStalk$Chase" (54 : Nat) "OrdinaryStalk$Hunt" "step" "I") ∈ lw_all := lw_g (lw_at lw_m1 154 rfl) rfl
theorem q271 : (Jvm.Cond.fieldLink "OrdinaryStalk$Chase" (67 : Nat) "OrdinaryStalk$Hunt" "usual" "I") ∈ lw_all := lw_g (lw_at lw_m1 157 rfl) rfl
theorem q275 : (Jvm.Cond.fieldLink "OrdinaryStalk$Chase" (39 : Nat) "OrdinaryStalk$Hunt" "off" "I") ∈ lw_all := lw_g (lw_at lw_m1 161 rfl) rfl
theorem q278 : (Jvm.Cond.fieldLink "OrdinaryStalk$Chase" (81 : Nat) "OrdinaryStalk$Hunt" "crept" "I") ∈ lw_all := lw_g (lw_at lw_m1 164 rfl) rfl
theorem q285 : (Jvm.Cond.fieldLink "OrdinaryStalk$Chase" (99 : Nat) "OrdinaryStalk$Hunt" "person" "[I") ∈ lw_all := lw_g (lw_at lw_m1 171 rfl) rfl
theorem q288 : (Jvm.Cond.fieldLink "OrdinaryStalk$Chase" (42 : Nat) "OrdinaryStalk$Hunt" "scout" "[I") ∈ lw_all := lw_g (lw_at lw_m1 174 rfl) rfl
theorem q293 : (Jvm.Cond.fieldLinkNest "OrdinaryStalk$Chase" (102 : Nat) "OrdinaryStalk$Hunt" "stayed" "[Z" "OrdinaryStalk") ∈ lw_tbl := lw_at lw_m1 179 rfl
theorem q470 : (Jvm.Cond.instantiable "OrdinaryStalk$Chase" (6 : Nat)) ∈ lw_all := lw_g (lw_at lw_m2 116 rfl) rfl
theorem q472 : (Jvm.Cond.instanceMethod ({ cls := "OrdinaryStalk$Chase", name := "<init>", desc := "(LOrdinaryStalk;)V" } : Jvm.MethodName)) ∈ lw_all := lw_g (lw_at lw_m2 118 rfl) rfl
theorem q473 : (Jvm.Cond.code ({ cls := "OrdinaryStalk$Chase", name := "<init>", desc := "(LOrdinaryStalk;)V" } : Jvm.MethodName) prog_5_method_1_code (2 : Nat) (Option.none : Option Jvm.ClassFile.FieldType)) ∈ lw_all := lw_g (lw_at lw_m2 119 rfl) rfl
theorem q474 : (Jvm.Cond.methodLink "OrdinaryStalk$Chase" (9 : Nat) ({ cls := "java/lang/Object", name := "<init>", desc := "()V" } : Jvm.MethodName)) ∈ lw_all := lw_g (lw_at lw_m2 120 rfl) rfl
theorem q475 : (Jvm.Cond.fieldLink "OrdinaryStalk$Chase" (15 : Nat) "OrdinaryStalk$Chase" "who" "I") ∈ lw_all := lw_g (lw_at lw_m2 121 rfl) rfl
theorem q476 : (Jvm.Cond.fieldLink "OrdinaryStalk$Chase" (19 : Nat) "OrdinaryStalk$Chase" "whom" "I") ∈ lw_all := lw_g (lw_at lw_m2 122 rfl) rfl
theorem q477 : (Jvm.Cond.fieldLink "OrdinaryStalk$Chase" (46 : Nat) "OrdinaryStalk$Chase" "now" "J") ∈ lw_all := lw_g (lw_at lw_m2 123 rfl) rfl
theorem q478 : (Jvm.Cond.fieldLink "OrdinaryStalk$Chase" (78 : Nat) "OrdinaryStalk$Chase" "then" "J") ∈ lw_all := lw_g (lw_at lw_m2 124 rfl) rfl
theorem q479 : (Jvm.Cond.fieldLink "OrdinaryStalk$Chase" (22 : Nat) "OrdinaryStalk$Chase" "isGot" "Z") ∈ lw_all := lw_g (lw_at lw_m2 125 rfl) rfl
theorem q480 : (Jvm.Cond.fieldLink "OrdinaryStalk$Chase" (3 : Nat) "OrdinaryStalk$Chase" "this$0" "LOrdinaryStalk;") ∈ lw_all := lw_g (lw_at lw_m2 126 rfl) rfl
theorem q481 : (Jvm.Cond.lays "OrdinaryStalk$Chase" "OrdinaryStalk$Chase" "who" "I") ∈ lw_all := lw_g (lw_at lw_m2 127 rfl) rfl
theorem q482 : (Jvm.Cond.soleField "OrdinaryStalk$Chase" "who") ∈ lw_all := lw_g (lw_at lw_m2 128 rfl) rfl
theorem q483 : (Jvm.Cond.lays "OrdinaryStalk$Chase" "OrdinaryStalk$Chase" "whom" "I") ∈ lw_all := lw_g (lw_at lw_m2 129 rfl) rfl
theorem q484 : (Jvm.Cond.soleField "OrdinaryStalk$Chase" "whom") ∈ lw_all := lw_g (lw_at lw_m2 130 rfl) rfl
theorem q485 : (Jvm.Cond.lays "OrdinaryStalk$Chase" "OrdinaryStalk$Chase" "now" "J") ∈ lw_all := lw_g (lw_at lw_m2 131 rfl) rfl
theorem q486 : (Jvm.Cond.soleField "OrdinaryStalk$Chase" "now") ∈ lw_all := lw_g (lw_at lw_m2 132 rfl) rfl
theorem q487 : (Jvm.Cond.lays "OrdinaryStalk$Chase" "OrdinaryStalk$Chase" "then" "J") ∈ lw_all := lw_g (lw_at lw_m2 133 rfl) rfl
theorem q488 : (Jvm.Cond.soleField "OrdinaryStalk$Chase" "then") ∈ lw_all := lw_g (lw_at lw_m2 134 rfl) rfl
theorem q489 : (Jvm.Cond.lays "OrdinaryStalk$Chase" "OrdinaryStalk$Chase" "isGot" "Z") ∈ lw_all := lw_g (lw_at lw_m2 135 rfl) rfl
theorem q490 : (Jvm.Cond.soleField "OrdinaryStalk$Chase" "isGot") ∈ lw_all := lw_g (lw_at lw_m2 136 rfl) rfl
theorem q491 : (Jvm.Cond.laysFinal "OrdinaryStalk$Chase" "OrdinaryStalk$Chase" "this$0" "LOrdinaryStalk;") ∈ lw_all := lw_g (lw_at lw_m2 137 rfl) rfl
theorem q492 : (Jvm.Cond.soleField "OrdinaryStalk$Chase" "this$0") ∈ lw_all := lw_g (lw_at lw_m2 138 rfl) rfl
theorem q493 : (Jvm.Cond.superclass "OrdinaryStalk$Chase" "java/lang/Object") ∈ lw_all := lw_g (lw_at lw_m2 139 rfl) rfl
theorem q551 : (Jvm.Cond.fieldLinkNest "OrdinaryStalk$Chase" (30 : Nat) "OrdinaryStalk" "hunt" "LOrdinaryStalk$Hunt;" "OrdinaryStalk") ∈ lw_tbl := lw_at lw_m2 197 rfl
theorem q554 : (Jvm.Cond.fieldLinkNest "OrdinaryStalk$Chase" (26 : Nat) "OrdinaryStalk" "trial" "LOrdinaryStalk$Hunt;" "OrdinaryStalk") ∈ lw_tbl := lw_at lw_m2 200 rfl
theorem q904 : (Jvm.Cond.selects "OrdinaryStalk$Chase" ({ cls := "java/lang/Object", name := "getClass", desc := "()Ljava/lang/Class;" } : Jvm.MethodName) ({ cls := "java/lang/Object", name := "getClass", desc := "()Ljava/lang/Class;" } : Jvm.MethodName)) ∈ lw_all := lw_g (lw_at lw_m4 70 rfl) rfl
theorem q981 : (Jvm.Cond.fieldLink "OrdinaryStalk$Chase" (112 : Nat) "OrdinaryStalk$Person" "ears" "I") ∈ lw_all := lw_g (lw_at lw_m4 147 rfl) rfl
theorem q1556 : (Jvm.Cond.instanceMethod ({ cls := "OrdinaryStalk$Chase", name := "finds", desc := "(III)I" } : Jvm.MethodName)) ∈ lw_all := lw_g (lw_at lw_m7 2 rfl) rfl
theorem q1557 : (Jvm.Cond.selects "OrdinaryStalk$Chase" ({ cls := "OrdinaryStalk$Chase", name := "finds", desc := "(III)I" } : Jvm.MethodName) ({ cls := "OrdinaryStalk$Chase", name := "finds", desc := "(III)I" } : Jvm.MethodName)) ∈ lw_all := lw_g (lw_at lw_m7 3 rfl) rfl
theorem q1558 : (Jvm.Cond.code ({ cls := "OrdinaryStalk$Chase", name := "finds", desc := "(III)I" } : Jvm.MethodName) prog_5_method_2_code (6 : Nat) (Option.some Jvm.ClassFile.FieldType.int)) ∈ lw_all := lw_g (lw_at lw_m7 4 rfl) rfl
theorem q1559 : (Jvm.Cond.methodLink "OrdinaryStalk$Chase" (33 : Nat) ({ cls := "OrdinaryStalk$Hunt", name := "copies", desc := "(LOrdinaryStalk$Hunt;)LOrdinaryStalk$Hunt;" } : Jvm.MethodName)) ∈ lw_all := lw_g (lw_at lw_m7 5 rfl) rfl
theorem q1560 : (Jvm.Cond.methodLink "OrdinaryStalk$Chase" (57 : Nat) ({ cls := "OrdinaryStalk$Camp", name := "wind", desc := "(I)I" } : Jvm.MethodName)) ∈ lw_all := lw_g (lw_at lw_m7 6 rfl) rfl
theorem q1561 : (Jvm.Cond.methodLink "OrdinaryStalk$Chase" (63 : Nat) ({ cls := "OrdinaryStalk$Hunt", name := "passes", desc := "()I" } : Jvm.MethodName)) ∈ lw_all := lw_g (lw_at lw_m7 7 rfl) rfl
theorem q1562 : (Jvm.Cond.methodLinkNest "OrdinaryStalk$Chase" (70 : Nat) ({ cls := "OrdinaryStalk", name := "has", desc := "(II)Z" } : Jvm.MethodName) "OrdinaryStalk") ∈ lw_tbl := lw_at lw_m7 8 rfl
theorem q1563 : (Jvm.Cond.methodLink "OrdinaryStalk$Chase" (74 : Nat) ({ cls := "OrdinaryStalk$Chase", name := "goes", desc := "(ZII)V" } : Jvm.MethodName)) ∈ lw_all := lw_g (lw_at lw_m7 9 rfl) rfl
theorem q1564 : (Jvm.Cond.privateMethod ({ cls := "OrdinaryStalk$Chase", name := "goes", desc := "(ZII)V" } : Jvm.MethodName)) ∈ lw_tbl := lw_at lw_m7 10 rfl
theorem q1565 : (Jvm.Cond.instanceMethod ({ cls := "OrdinaryStalk$Chase", name := "goes", desc := "(ZII)V" } : Jvm.MethodName)) ∈ lw_all := lw_g (lw_at lw_m7 11 rfl) rfl
theorem q1566 : (Jvm.Cond.code ({ cls := "OrdinaryStalk$Chase", name := "goes", desc := "(ZII)V" } : Jvm.MethodName) prog_5_method_3_code (9 : Nat) (Option.none : Option Jvm.ClassFile.FieldType)) ∈ lw_all := lw_g (lw_at lw_m7 12 rfl) rfl
theorem q1567 : (Jvm.Cond.methodLink "OrdinaryStalk$Chase" (84 : Nat) ({ cls := "OrdinaryStalk$Camp", name := "cells", desc := "()I" } : Jvm.MethodName)) ∈ lw_all := lw_g (lw_at lw_m7 13 rfl) rfl
theorem q1568 : (Jvm.Cond.methodLink "OrdinaryStalk$Chase" (87 : Nat) ({ cls := "OrdinaryStalk$Camp", name := "next", desc := "(II)I" } : Jvm.MethodName)) ∈ lw_all := lw_g (lw_at lw_m7 14 rfl) rfl
theorem q1569 : (Jvm.Cond.methodLink "OrdinaryStalk$Chase" (91 : Nat) ({ cls := "OrdinaryStalk$Chase", name := "lies", desc := "(IZI)V" } : Jvm.MethodName)) ∈ lw_all := lw_g (lw_at lw_m7 15 rfl) rfl
theorem q1570 : (Jvm.Cond.privateMethod ({ cls := "OrdinaryStalk$Chase", name := "lies", desc := "(IZI)V" } : Jvm.MethodName)) ∈ lw_tbl := lw_at lw_m7 16 rfl
theorem q1571 : (Jvm.Cond.instanceMethod ({ cls := "OrdinaryStalk$Chase", name := "lies", desc := "(IZI)V" } : Jvm.MethodName)) ∈ lw_all := lw_g (lw_at lw_m7 17 rfl) rfl
theorem q1572 : (Jvm.Cond.code ({ cls := "OrdinaryStalk$Chase", name := "lies", desc := "(IZI)V" } : Jvm.MethodName) prog_5_method_4_code (6 : Nat) (Option.none : Option Jvm.ClassFile.FieldType)) ∈ lw_all := lw_g (lw_at lw_m7 18 rfl) rfl
theorem q1573 : (Jvm.Cond.methodLink "OrdinaryStalk$Chase" (95 : Nat) ({ cls := "OrdinaryStalk$Hunt", name := "of", desc := "(I)LOrdinaryStalk$Person;" } : Jvm.MethodName)) ∈ lw_all := lw_g (lw_at lw_m7 19 rfl) rfl
theorem q1574 : (Jvm.Cond.methodLink "OrdinaryStalk$Chase" (106 : Nat) ({ cls := "OrdinaryStalk$Person", name := "listens", desc := "(Z)Z" } : Jvm.MethodName)) ∈ lw_all := lw_g (lw_at lw_m7 20 rfl) rfl
theorem q1575 : (Jvm.Cond.methodLink "OrdinaryStalk$Chase" (115 : Nat) ({ cls := "OrdinaryStalk$Camp", name := "isHeard", desc := "(IIIZI)Z" } : Jvm.MethodName)) ∈ lw_all := lw_g (lw_at lw_m7 21 rfl) rfl
theorem q1576 : (Jvm.Cond.methodLink "OrdinaryStalk$Chase" (119 : Nat) ({ cls := "OrdinaryStalk$Camp", name := "far", desc := "(II)I" } : Jvm.MethodName)) ∈ lw_all := lw_g (lw_at lw_m7 22 rfl) rfl
theorem q2415 : (Jvm.Cond.castable "OrdinaryStalk$Chase" "java/lang/Object") ∈ lw_tbl := lw_at lw_m10 141 rfl
theorem in_X6 : ∀ w ∈ wsX60, w ∈ lw_all := lw_in wsX60 [481, 483, 485, 487, 489, 491] (by decide +kernel) (by decide +kernel)

/-! OrdinaryStalk$Teams -/
def RX7 : String := "OrdinaryStalk$Teams"
def TX7 : u_T := fun k => match k with
  | 0 => ("OrdinaryStalk$Teams", "steps", "[I", true)
  | 1 => ("OrdinaryStalk$Teams", "row", "[I", true)
  | 2 => ("OrdinaryStalk$Teams", "best", "[I", true)
  | 3 => ("OrdinaryStalk$Teams", "within", "I", false)
  | 4 => ("OrdinaryStalk$Teams", "most", "I", false)
  | _ => ("OrdinaryStalk$Teams", "this$0", "LOrdinaryStalk;", true)
def tyX7 : Nat → FieldType := fun k => match k with
  | 0 => .array .int
  | 1 => .array .int
  | 2 => .array .int
  | 3 => .int
  | 4 => .int
  | _ => .object "OrdinaryStalk"
abbrev wsX70 : List Cond := u_ws RX7 TX7 6
theorem nmX7 : ∀ a, a < 6 → ∀ b, b < 6 → a ≠ b → (TX7 a).2.1 ≠ (TX7 b).2.1 := by decide +kernel
theorem tyX7_ok : ∀ k, k < 6 → parseFieldDescriptor (TX7 k).2.2.1 = some (tyX7 k) := by decide +kernel
abbrev cX7_init : ByteArray := prog_28_method_1_code
def yX7_init : MethodName := ⟨RX7, "<init>", "(LOrdinaryStalk;)V"⟩
abbrev cX7_finds : ByteArray := prog_28_method_2_code
def yX7_finds : MethodName := ⟨RX7, "finds", "(I)LOrdinaryStalk$Teams;"⟩
abbrev cX7_goes : ByteArray := prog_28_method_3_code
def yX7_goes : MethodName := ⟨RX7, "goes", "(III)V"⟩
theorem q127 : (Jvm.Cond.initialized "OrdinaryStalk$Teams") ∈ lw_all := lw_g (lw_at lw_m1 13 rfl) rfl
theorem q495 : (Jvm.Cond.instantiable "OrdinaryStalk$Teams" (6 : Nat)) ∈ lw_all := lw_g (lw_at lw_m2 141 rfl) rfl
theorem q497 : (Jvm.Cond.instanceMethod ({ cls := "OrdinaryStalk$Teams", name := "<init>", desc := "(LOrdinaryStalk;)V" } : Jvm.MethodName)) ∈ lw_all := lw_g (lw_at lw_m2 143 rfl) rfl
theorem q498 : (Jvm.Cond.code ({ cls := "OrdinaryStalk$Teams", name := "<init>", desc := "(LOrdinaryStalk;)V" } : Jvm.MethodName) prog_28_method_1_code (2 : Nat) (Option.none : Option Jvm.ClassFile.FieldType)) ∈ lw_all := lw_g (lw_at lw_m2 144 rfl) rfl
theorem q499 : (Jvm.Cond.methodLink "OrdinaryStalk$Teams" (9 : Nat) ({ cls := "java/lang/Object", name := "<init>", desc := "()V" } : Jvm.MethodName)) ∈ lw_all := lw_g (lw_at lw_m2 145 rfl) rfl
theorem q500 : (Jvm.Cond.fieldLink "OrdinaryStalk$Teams" (15 : Nat) "OrdinaryStalk$Teams" "steps" "[I") ∈ lw_all := lw_g (lw_at lw_m2 146 rfl) rfl
theorem q501 : (Jvm.Cond.fieldLink "OrdinaryStalk$Teams" (19 : Nat) "OrdinaryStalk$Teams" "row" "[I") ∈ lw_all := lw_g (lw_at lw_m2 147 rfl) rfl
theorem q502 : (Jvm.Cond.fieldLink "OrdinaryStalk$Teams" (22 : Nat) "OrdinaryStalk$Teams" "best" "[I") ∈ lw_all := lw_g (lw_at lw_m2 148 rfl) rfl
theorem q504 : (Jvm.Cond.fieldLink "OrdinaryStalk$Teams" (25 : Nat) "OrdinaryStalk$Teams" "within" "I") ∈ lw_all := lw_g (lw_at lw_m2 150 rfl) rfl
theorem q505 : (Jvm.Cond.fieldLink "OrdinaryStalk$Teams" (29 : Nat) "OrdinaryStalk$Teams" "most" "I") ∈ lw_all := lw_g (lw_at lw_m2 151 rfl) rfl
theorem q507 : (Jvm.Cond.fieldLink "OrdinaryStalk$Teams" (3 : Nat) "OrdinaryStalk$Teams" "this$0" "LOrdinaryStalk;") ∈ lw_all := lw_g (lw_at lw_m2 153 rfl) rfl
theorem q508 : (Jvm.Cond.laysFinal "OrdinaryStalk$Teams" "OrdinaryStalk$Teams" "steps" "[I") ∈ lw_all := lw_g (lw_at lw_m2 154 rfl) rfl
theorem q509 : (Jvm.Cond.soleField "OrdinaryStalk$Teams" "steps") ∈ lw_all := lw_g (lw_at lw_m2 155 rfl) rfl
theorem q510 : (Jvm.Cond.laysFinal "OrdinaryStalk$Teams" "OrdinaryStalk$Teams" "row" "[I") ∈ lw_all := lw_g (lw_at lw_m2 156 rfl) rfl
theorem q511 : (Jvm.Cond.soleField "OrdinaryStalk$Teams" "row") ∈ lw_all := lw_g (lw_at lw_m2 157 rfl) rfl
theorem q512 : (Jvm.Cond.laysFinal "OrdinaryStalk$Teams" "OrdinaryStalk$Teams" "best" "[I") ∈ lw_all := lw_g (lw_at lw_m2 158 rfl) rfl
theorem q513 : (Jvm.Cond.soleField "OrdinaryStalk$Teams" "best") ∈ lw_all := lw_g (lw_at lw_m2 159 rfl) rfl
theorem q514 : (Jvm.Cond.lays "OrdinaryStalk$Teams" "OrdinaryStalk$Teams" "within" "I") ∈ lw_all := lw_g (lw_at lw_m2 160 rfl) rfl
theorem q515 : (Jvm.Cond.soleField "OrdinaryStalk$Teams" "within") ∈ lw_all := lw_g (lw_at lw_m2 161 rfl) rfl
theorem q516 : (Jvm.Cond.lays "OrdinaryStalk$Teams" "OrdinaryStalk$Teams" "most" "I") ∈ lw_all := lw_g (lw_at lw_m2 162 rfl) rfl
theorem q517 : (Jvm.Cond.soleField "OrdinaryStalk$Teams" "most") ∈ lw_all := lw_g (lw_at lw_m2 163 rfl) rfl
theorem q518 : (Jvm.Cond.laysFinal "OrdinaryStalk$Teams" "OrdinaryStalk$Teams" "this$0" "LOrdinaryStalk;") ∈ lw_all := lw_g (lw_at lw_m2 164 rfl) rfl
theorem q519 : (Jvm.Cond.soleField "OrdinaryStalk$Teams" "this$0") ∈ lw_all := lw_g (lw_at lw_m2 165 rfl) rfl
theorem q520 : (Jvm.Cond.superclass "OrdinaryStalk$Teams" "java/lang/Object") ∈ lw_all := lw_g (lw_at lw_m2 166 rfl) rfl
theorem q552 : (Jvm.Cond.fieldLinkNest "OrdinaryStalk$Teams" (57 : Nat) "OrdinaryStalk" "hunt" "LOrdinaryStalk$Hunt;" "OrdinaryStalk") ∈ lw_tbl := lw_at lw_m2 198 rfl
theorem q924 : (Jvm.Cond.selects "OrdinaryStalk$Teams" ({ cls := "java/lang/Object", name := "getClass", desc := "()Ljava/lang/Class;" } : Jvm.MethodName) ({ cls := "java/lang/Object", name := "getClass", desc := "()Ljava/lang/Class;" } : Jvm.MethodName)) ∈ lw_all := lw_g (lw_at lw_m4 90 rfl) rfl
theorem q985 : (Jvm.Cond.fieldLink "OrdinaryStalk$Teams" (67 : Nat) "OrdinaryStalk$Person" "marks" "I") ∈ lw_all := lw_g (lw_at lw_m4 151 rfl) rfl
theorem q1595 : (Jvm.Cond.instanceMethod ({ cls := "OrdinaryStalk$Teams", name := "finds", desc := "(I)LOrdinaryStalk$Teams;" } : Jvm.MethodName)) ∈ lw_all := lw_g (lw_at lw_m7 41 rfl) rfl
theorem q1596 : (Jvm.Cond.selects "OrdinaryStalk$Teams" ({ cls := "OrdinaryStalk$Teams", name := "finds", desc := "(I)LOrdinaryStalk$Teams;" } : Jvm.MethodName) ({ cls := "OrdinaryStalk$Teams", name := "finds", desc := "(I)LOrdinaryStalk$Teams;" } : Jvm.MethodName)) ∈ lw_all := lw_g (lw_at lw_m7 42 rfl) rfl
theorem q1597 : (Jvm.Cond.code ({ cls := "OrdinaryStalk$Teams", name := "finds", desc := "(I)LOrdinaryStalk$Teams;" } : Jvm.MethodName) prog_28_method_2_code (4 : Nat) (Option.some (Jvm.ClassFile.FieldType.object "OrdinaryStalk$Teams"))) ∈ lw_all := lw_g (lw_at lw_m7 43 rfl) rfl
theorem q1598 : (Jvm.Cond.methodLinkNest "OrdinaryStalk$Teams" (32 : Nat) ({ cls := "OrdinaryStalk", name := "scouts", desc := "()I" } : Jvm.MethodName) "OrdinaryStalk") ∈ lw_tbl := lw_at lw_m7 44 rfl
theorem q1599 : (Jvm.Cond.methodLinkNest "OrdinaryStalk$Teams" (36 : Nat) ({ cls := "OrdinaryStalk", name := "people", desc := "()I" } : Jvm.MethodName) "OrdinaryStalk") ∈ lw_tbl := lw_at lw_m7 45 rfl
theorem q1600 : (Jvm.Cond.methodLink "OrdinaryStalk$Teams" (39 : Nat) ({ cls := "OrdinaryStalk", name := "shortest", desc := "(II)I" } : Jvm.MethodName)) ∈ lw_all := lw_g (lw_at lw_m7 46 rfl) rfl
theorem q1601 : (Jvm.Cond.methodLink "OrdinaryStalk$Teams" (43 : Nat) ({ cls := "OrdinaryStalk$Teams", name := "goes", desc := "(III)V" } : Jvm.MethodName)) ∈ lw_all := lw_g (lw_at lw_m7 47 rfl) rfl
theorem q1602 : (Jvm.Cond.privateMethod ({ cls := "OrdinaryStalk$Teams", name := "goes", desc := "(III)V" } : Jvm.MethodName)) ∈ lw_tbl := lw_at lw_m7 48 rfl
theorem q1603 : (Jvm.Cond.instanceMethod ({ cls := "OrdinaryStalk$Teams", name := "goes", desc := "(III)V" } : Jvm.MethodName)) ∈ lw_all := lw_g (lw_at lw_m7 49 rfl) rfl
theorem q1604 : (Jvm.Cond.code ({ cls := "OrdinaryStalk$Teams", name := "goes", desc := "(III)V" } : Jvm.MethodName) prog_28_method_3_code (6 : Nat) (Option.none : Option Jvm.ClassFile.FieldType)) ∈ lw_all := lw_g (lw_at lw_m7 50 rfl) rfl
theorem q1605 : (Jvm.Cond.methodLink "OrdinaryStalk$Teams" (47 : Nat) ({ cls := "java/lang/System", name := "arraycopy", desc := "(Ljava/lang/Object;ILjava/lang/Object;II)V" } : Jvm.MethodName)) ∈ lw_all := lw_g (lw_at lw_m7 51 rfl) rfl
theorem q1606 : (Jvm.Cond.methodLinkNest "OrdinaryStalk$Teams" (53 : Nat) ({ cls := "OrdinaryStalk", name := "has", desc := "(II)Z" } : Jvm.MethodName) "OrdinaryStalk") ∈ lw_tbl := lw_at lw_m7 52 rfl
theorem q1607 : (Jvm.Cond.methodLink "OrdinaryStalk$Teams" (61 : Nat) ({ cls := "OrdinaryStalk$Hunt", name := "of", desc := "(I)LOrdinaryStalk$Person;" } : Jvm.MethodName)) ∈ lw_all := lw_g (lw_at lw_m7 53 rfl) rfl
theorem q2416 : (Jvm.Cond.castable "OrdinaryStalk$Teams" "java/lang/Object") ∈ lw_tbl := lw_at lw_m10 142 rfl
theorem in_X7 : ∀ w ∈ wsX70, w ∈ lw_all := lw_in wsX70 [508, 510, 512, 514, 516, 518] (by decide +kernel) (by decide +kernel)

/-! OrdinaryStalk$Winds -/
def RX8 : String := "OrdinaryStalk$Winds"
def TX8 : u_T := fun k => match k with
  | 0 => ("OrdinaryStalk$Winds", "steps", "[LOrdinaryStalk$Hunt;", true)
  | 1 => ("OrdinaryStalk$Winds", "who", "I", false)
  | 2 => ("OrdinaryStalk$Winds", "many", "I", false)
  | 3 => ("OrdinaryStalk$Winds", "unheard", "I", false)
  | _ => ("OrdinaryStalk$Winds", "this$0", "LOrdinaryStalk;", true)
def tyX8 : Nat → FieldType := fun k => match k with
  | 0 => .array (.object "OrdinaryStalk$Hunt")
  | 1 => .int
  | 2 => .int
  | 3 => .int
  | _ => .object "OrdinaryStalk"
abbrev wsX80 : List Cond := u_ws RX8 TX8 5
theorem nmX8 : ∀ a, a < 5 → ∀ b, b < 5 → a ≠ b → (TX8 a).2.1 ≠ (TX8 b).2.1 := by decide +kernel
theorem tyX8_ok : ∀ k, k < 5 → parseFieldDescriptor (TX8 k).2.2.1 = some (tyX8 k) := by decide +kernel
abbrev cX8_init : ByteArray := prog_30_method_1_code
def yX8_init : MethodName := ⟨RX8, "<init>", "(LOrdinaryStalk;)V"⟩
abbrev cX8_finds : ByteArray := prog_30_method_2_code
def yX8_finds : MethodName := ⟨RX8, "finds", "(II)LOrdinaryStalk$Winds;"⟩
abbrev cX8_goes : ByteArray := prog_30_method_3_code
def yX8_goes : MethodName := ⟨RX8, "goes", "(I)V"⟩
theorem q128 : (Jvm.Cond.initialized "OrdinaryStalk$Winds") ∈ lw_all := lw_g (lw_at lw_m1 14 rfl) rfl
theorem q283 : (Jvm.Cond.fieldLink "OrdinaryStalk$Winds" (48 : Nat) "OrdinaryStalk$Hunt" "heard" "I") ∈ lw_all := lw_g (lw_at lw_m1 169 rfl) rfl
theorem q522 : (Jvm.Cond.instantiable "OrdinaryStalk$Winds" (5 : Nat)) ∈ lw_all := lw_g (lw_at lw_m2 168 rfl) rfl
theorem q524 : (Jvm.Cond.instanceMethod ({ cls := "OrdinaryStalk$Winds", name := "<init>", desc := "(LOrdinaryStalk;)V" } : Jvm.MethodName)) ∈ lw_all := lw_g (lw_at lw_m2 170 rfl) rfl
theorem q525 : (Jvm.Cond.code ({ cls := "OrdinaryStalk$Winds", name := "<init>", desc := "(LOrdinaryStalk;)V" } : Jvm.MethodName) prog_30_method_1_code (2 : Nat) (Option.none : Option Jvm.ClassFile.FieldType)) ∈ lw_all := lw_g (lw_at lw_m2 171 rfl) rfl
theorem q526 : (Jvm.Cond.methodLink "OrdinaryStalk$Winds" (9 : Nat) ({ cls := "java/lang/Object", name := "<init>", desc := "()V" } : Jvm.MethodName)) ∈ lw_all := lw_g (lw_at lw_m2 172 rfl) rfl
theorem q527 : (Jvm.Cond.classLink "OrdinaryStalk$Winds" (15 : Nat) "OrdinaryStalk$Hunt") ∈ lw_all := lw_g (lw_at lw_m2 173 rfl) rfl
theorem q529 : (Jvm.Cond.methodLinkNest "OrdinaryStalk$Winds" (17 : Nat) ({ cls := "OrdinaryStalk$Hunt", name := "<init>", desc := "()V" } : Jvm.MethodName) "OrdinaryStalk") ∈ lw_tbl := lw_at lw_m2 175 rfl
theorem q530 : (Jvm.Cond.fieldLink "OrdinaryStalk$Winds" (18 : Nat) "OrdinaryStalk$Winds" "steps" "[LOrdinaryStalk$Hunt;") ∈ lw_all := lw_g (lw_at lw_m2 176 rfl) rfl
theorem q531 : (Jvm.Cond.fieldLink "OrdinaryStalk$Winds" (22 : Nat) "OrdinaryStalk$Winds" "who" "I") ∈ lw_all := lw_g (lw_at lw_m2 177 rfl) rfl
theorem q532 : (Jvm.Cond.fieldLink "OrdinaryStalk$Winds" (26 : Nat) "OrdinaryStalk$Winds" "many" "I") ∈ lw_all := lw_g (lw_at lw_m2 178 rfl) rfl
theorem q533 : (Jvm.Cond.fieldLink "OrdinaryStalk$Winds" (29 : Nat) "OrdinaryStalk$Winds" "unheard" "I") ∈ lw_all := lw_g (lw_at lw_m2 179 rfl) rfl
theorem q535 : (Jvm.Cond.fieldLink "OrdinaryStalk$Winds" (3 : Nat) "OrdinaryStalk$Winds" "this$0" "LOrdinaryStalk;") ∈ lw_all := lw_g (lw_at lw_m2 181 rfl) rfl
theorem q536 : (Jvm.Cond.laysFinal "OrdinaryStalk$Winds" "OrdinaryStalk$Winds" "steps" "[LOrdinaryStalk$Hunt;") ∈ lw_all := lw_g (lw_at lw_m2 182 rfl) rfl
theorem q537 : (Jvm.Cond.soleField "OrdinaryStalk$Winds" "steps") ∈ lw_all := lw_g (lw_at lw_m2 183 rfl) rfl
theorem q538 : (Jvm.Cond.lays "OrdinaryStalk$Winds" "OrdinaryStalk$Winds" "who" "I") ∈ lw_all := lw_g (lw_at lw_m2 184 rfl) rfl
theorem q539 : (Jvm.Cond.soleField "OrdinaryStalk$Winds" "who") ∈ lw_all := lw_g (lw_at lw_m2 185 rfl) rfl
theorem q540 : (Jvm.Cond.lays "OrdinaryStalk$Winds" "OrdinaryStalk$Winds" "many" "I") ∈ lw_all := lw_g (lw_at lw_m2 186 rfl) rfl
theorem q541 : (Jvm.Cond.soleField "OrdinaryStalk$Winds" "many") ∈ lw_all := lw_g (lw_at lw_m2 187 rfl) rfl
theorem q542 : (Jvm.Cond.lays "OrdinaryStalk$Winds" "OrdinaryStalk$Winds" "unheard" "I") ∈ lw_all := lw_g (lw_at lw_m2 188 rfl) rfl
theorem q543 : (Jvm.Cond.soleField "OrdinaryStalk$Winds" "unheard") ∈ lw_all := lw_g (lw_at lw_m2 189 rfl) rfl
theorem q544 : (Jvm.Cond.laysFinal "OrdinaryStalk$Winds" "OrdinaryStalk$Winds" "this$0" "LOrdinaryStalk;") ∈ lw_all := lw_g (lw_at lw_m2 190 rfl) rfl
theorem q545 : (Jvm.Cond.soleField "OrdinaryStalk$Winds" "this$0") ∈ lw_all := lw_g (lw_at lw_m2 191 rfl) rfl
theorem q546 : (Jvm.Cond.superclass "OrdinaryStalk$Winds" "java/lang/Object") ∈ lw_all := lw_g (lw_at lw_m2 192 rfl) rfl
theorem q550 : (Jvm.Cond.fieldLinkNest "OrdinaryStalk$Winds" (32 : Nat) "OrdinaryStalk" "hunt" "LOrdinaryStalk$Hunt;" "OrdinaryStalk") ∈ lw_tbl := lw_at lw_m2 196 rfl
theorem q926 : (Jvm.Cond.selects "OrdinaryStalk$Winds" ({ cls := "java/lang/Object", name := "getClass", desc := "()Ljava/lang/Class;" } : Jvm.MethodName) ({ cls := "java/lang/Object", name := "getClass", desc := "()Ljava/lang/Class;" } : Jvm.MethodName)) ∈ lw_all := lw_g (lw_at lw_m4 92 rfl) rfl
theorem q1640 : (Jvm.Cond.instanceMethod ({ cls := "OrdinaryStalk$Winds", name := "finds", desc := "(II)LOrdinaryStalk$Winds;" } : Jvm.MethodName)) ∈ lw_all := lw_g (lw_at lw_m7 86 rfl) rfl
theorem q1641 : (Jvm.Cond.selects "OrdinaryStalk$Winds" ({ cls := "OrdinaryStalk$Winds", name := "finds", desc := "(II)LOrdinaryStalk$Winds;" } : Jvm.MethodName) ({ cls := "OrdinaryStalk$Winds", name := "finds", desc := "(II)LOrdinaryStalk$Winds;" } : Jvm.MethodName)) ∈ lw_all := lw_g (lw_at lw_m7 87 rfl) rfl
theorem q1642 : (Jvm.Cond.code ({ cls := "OrdinaryStalk$Winds", name := "finds", desc := "(II)LOrdinaryStalk$Winds;" } : Jvm.MethodName) prog_30_method_2_code (3 : Nat) (Option.some (Jvm.ClassFile.FieldType.object "OrdinaryStalk$Winds"))) ∈ lw_all := lw_g (lw_at lw_m7 88 rfl) rfl
theorem q1643 : (Jvm.Cond.methodLink "OrdinaryStalk$Winds" (36 : Nat) ({ cls := "OrdinaryStalk$Hunt", name := "copies", desc := "(LOrdinaryStalk$Hunt;)LOrdinaryStalk$Hunt;" } : Jvm.MethodName)) ∈ lw_all := lw_g (lw_at lw_m7 89 rfl) rfl
theorem q1644 : (Jvm.Cond.methodLink "OrdinaryStalk$Winds" (40 : Nat) ({ cls := "OrdinaryStalk$Winds", name := "goes", desc := "(I)V" } : Jvm.MethodName)) ∈ lw_all := lw_g (lw_at lw_m7 90 rfl) rfl
theorem q1645 : (Jvm.Cond.privateMethod ({ cls := "OrdinaryStalk$Winds", name := "goes", desc := "(I)V" } : Jvm.MethodName)) ∈ lw_tbl := lw_at lw_m7 91 rfl
theorem q1646 : (Jvm.Cond.instanceMethod ({ cls := "OrdinaryStalk$Winds", name := "goes", desc := "(I)V" } : Jvm.MethodName)) ∈ lw_all := lw_g (lw_at lw_m7 92 rfl) rfl
theorem q1647 : (Jvm.Cond.code ({ cls := "OrdinaryStalk$Winds", name := "goes", desc := "(I)V" } : Jvm.MethodName) prog_30_method_3_code (3 : Nat) (Option.none : Option Jvm.ClassFile.FieldType)) ∈ lw_all := lw_g (lw_at lw_m7 93 rfl) rfl
theorem q1648 : (Jvm.Cond.methodLink "OrdinaryStalk$Winds" (44 : Nat) ({ cls := "OrdinaryStalk$Hunt", name := "passes", desc := "(I)I" } : Jvm.MethodName)) ∈ lw_all := lw_g (lw_at lw_m7 94 rfl) rfl
theorem q1649 : (Jvm.Cond.methodLinkNest "OrdinaryStalk$Winds" (51 : Nat) ({ cls := "OrdinaryStalk", name := "has", desc := "(II)Z" } : Jvm.MethodName) "OrdinaryStalk") ∈ lw_tbl := lw_at lw_m7 95 rfl
theorem q2417 : (Jvm.Cond.castable "OrdinaryStalk$Winds" "java/lang/Object") ∈ lw_tbl := lw_at lw_m10 143 rfl
theorem in_X8 : ∀ w ∈ wsX80, w ∈ lw_all := lw_in wsX80 [536, 538, 540, 542, 544] (by decide +kernel) (by decide +kernel)

/-! OrdinaryStalkModel -/
def RX9 : String := "OrdinaryStalkModel"
def TX9 : u_T := fun k => match k with
  | 0 => ("OrdinaryStalkModel", "thrown", "I", false)
  | 1 => ("OrdinaryStalkModel", "taped", "I", false)
  | 2 => ("OrdinaryStalkModel", "tape", "[I", true)
  | 3 => ("OrdinaryStalkModel", "size", "I", false)
  | 4 => ("OrdinaryStalkModel", "place", "I", false)
  | 5 => ("OrdinaryStalkModel", "begin", "I", false)
  | 6 => ("OrdinaryStalkModel", "token", "I", false)
  | 7 => ("OrdinaryStalkModel", "word", "J", false)
  | 8 => ("OrdinaryStalkModel", "told", "I", false)
  | 9 => ("OrdinaryStalkModel", "wrong", "I", false)
  | 10 => ("OrdinaryStalkModel", "camp", "[I", true)
  | 11 => ("OrdinaryStalkModel", "personName", "[J", true)
  | 12 => ("OrdinaryStalkModel", "scoutName", "[J", true)
  | 13 => ("OrdinaryStalkModel", "kind", "[I", true)
  | 14 => ("OrdinaryStalkModel", "atTold", "[I", true)
  | 15 => ("OrdinaryStalkModel", "ears", "[I", true)
  | 16 => ("OrdinaryStalkModel", "marksTold", "[I", true)
  | 17 => ("OrdinaryStalkModel", "ways", "[I", true)
  | 18 => ("OrdinaryStalkModel", "way", "[I", true)
  | 19 => ("OrdinaryStalkModel", "scoutAt", "[I", true)
  | 20 => ("OrdinaryStalkModel", "wind", "[I", true)
  | 21 => ("OrdinaryStalkModel", "bushes", "[J", true)
  | 22 => ("OrdinaryStalkModel", "lineFrom", "[I", true)
  | 23 => ("OrdinaryStalkModel", "lineTo", "[I", true)
  | 24 => ("OrdinaryStalkModel", "codes", "[I", true)
  | 25 => ("OrdinaryStalkModel", "code", "I", false)
  | 26 => ("OrdinaryStalkModel", "isField", "Z", false)
  | 27 => ("OrdinaryStalkModel", "opened", "[I", true)
  | 28 => ("OrdinaryStalkModel", "compared", "[Z", true)
  | 29 => ("OrdinaryStalkModel", "kept", "[I", true)
  | 30 => ("OrdinaryStalkModel", "keptBy", "[I", true)
  | 31 => ("OrdinaryStalkModel", "ahead", "[I", true)
  | 32 => ("OrdinaryStalkModel", "against", "[I", true)
  | 33 => ("OrdinaryStalkModel", "sum", "[I", true)
  | 34 => ("OrdinaryStalkModel", "sumBy", "[I", true)
  | 35 => ("OrdinaryStalkModel", "term", "[I", true)
  | 36 => ("OrdinaryStalkModel", "termBy", "[I", true)
  | 37 => ("OrdinaryStalkModel", "byNot", "[I", true)
  | 38 => ("OrdinaryStalkModel", "valueOf", "[I", true)
  | 39 => ("OrdinaryStalkModel", "given", "I", false)
  | 40 => ("OrdinaryStalkModel", "fresh", "J", false)
  | 41 => ("OrdinaryStalkModel", "lines", "[I", true)
  | 42 => ("OrdinaryStalkModel", "lineWhat", "[I", true)
  | 43 => ("OrdinaryStalkModel", "lineA", "[I", true)
  | 44 => ("OrdinaryStalkModel", "lineB", "[I", true)
  | 45 => ("OrdinaryStalkModel", "says", "[I", true)
  | 46 => ("OrdinaryStalkModel", "saidIn", "[I", true)
  | 47 => ("OrdinaryStalkModel", "saidCell", "[I", true)
  | 48 => ("OrdinaryStalkModel", "saidThere", "[Z", true)
  | 49 => ("OrdinaryStalkModel", "s", "[I", true)
  | 50 => ("OrdinaryStalkModel", "aside", "[I", true)
  | 51 => ("OrdinaryStalkModel", "before", "[I", true)
  | 52 => ("OrdinaryStalkModel", "marked", "[I", true)
  | 53 => ("OrdinaryStalkModel", "undone", "[I", true)
  | 54 => ("OrdinaryStalkModel", "isLaid", "[Z", true)
  | 55 => ("OrdinaryStalkModel", "done", "I", false)
  | 56 => ("OrdinaryStalkModel", "blowsNow", "I", false)
  | 57 => ("OrdinaryStalkModel", "was", "[I", true)
  | 58 => ("OrdinaryStalkModel", "heardBy", "[I", true)
  | 59 => ("OrdinaryStalkModel", "reached", "[J", true)
  | 60 => ("OrdinaryStalkModel", "firstWay", "I", false)
  | 61 => ("OrdinaryStalkModel", "fewestOf", "[I", true)
  | 62 => ("OrdinaryStalkModel", "row", "[I", true)
  | 63 => ("OrdinaryStalkModel", "bestRow", "[I", true)
  | 64 => ("OrdinaryStalkModel", "mostMarks", "I", false)
  | 65 => ("OrdinaryStalkModel", "cellIn", "[I", true)
  | 66 => ("OrdinaryStalkModel", "unheard", "I", false)
  | 67 => ("OrdinaryStalkModel", "stack", "[I", true)
  | _ => ("OrdinaryStalkModel", "g", "J", false)
def tyX9 : Nat → FieldType := fun k => match k with
  | 0 => .int
  | 1 => .int
  | 2 => .array .int
  | 3 => .int
  | 4 => .int
  | 5 => .int
  | 6 => .int
  | 7 => .long
  | 8 => .int
  | 9 => .int
  | 10 => .array .int
  | 11 => .array .long
  | 12 => .array .long
  | 13 => .array .int
  | 14 => .array .int
  | 15 => .array .int
  | 16 => .array .int
  | 17 => .array .int
  | 18 => .array .int
  | 19 => .array .int
  | 20 => .array .int
  | 21 => .array .long
  | 22 => .array .int
  | 23 => .array .int
  | 24 => .array .int
  | 25 => .int
  | 26 => .boolean
  | 27 => .array .int
  | 28 => .array .boolean
  | 29 => .array .int
  | 30 => .array .int
  | 31 => .array .int
  | 32 => .array .int
  | 33 => .array .int
  | 34 => .array .int
  | 35 => .array .int
  | 36 => .array .int
  | 37 => .array .int
  | 38 => .array .int
  | 39 => .int
  | 40 => .long
  | 41 => .array .int
  | 42 => .array .int
  | 43 => .array .int
  | 44 => .array .int
  | 45 => .array .int
  | 46 => .array .int
  | 47 => .array .int
  | 48 => .array .boolean
  | 49 => .array .int
  | 50 => .array .int
  | 51 => .array .int
  | 52 => .array .int
  | 53 => .array .int
  | 54 => .array .boolean
  | 55 => .int
  | 56 => .int
  | 57 => .array .int
  | 58 => .array .int
  | 59 => .array .long
  | 60 => .int
  | 61 => .array .int
  | 62 => .array .int
  | 63 => .array .int
  | 64 => .int
  | 65 => .array .int
  | 66 => .int
  | 67 => .array .int
  | _ => .long
abbrev wsX90 : List Cond := u_ws RX9 TX9 69
theorem nmX9 : ∀ a, a < 69 → ∀ b, b < 69 → a ≠ b → (TX9 a).2.1 ≠ (TX9 b).2.1 := by decide +kernel
theorem tyX9_ok : ∀ k, k < 69 → parseFieldDescriptor (TX9 k).2.2.1 = some (tyX9 k) := by decide +kernel
abbrev cX9_init : ByteArray := prog_33_method_1_code
def yX9_init : MethodName := ⟨RX9, "<init>", "()V"⟩
abbrev cX9_usual : ByteArray := prog_33_method_11_code
def yX9_usual : MethodName := ⟨RX9, "usual", "(I)V"⟩
abbrev cX9_thrown : ByteArray := prog_33_method_2_code
def yX9_thrown : MethodName := ⟨RX9, "thrown", "()I"⟩
abbrev cX9_feed : ByteArray := prog_33_method_5_code
def yX9_feed : MethodName := ⟨RX9, "feed", "(JJJ)I"⟩
abbrev cX9_camp : ByteArray := prog_33_method_45_code
def yX9_camp : MethodName := ⟨RX9, "camp", "()I"⟩
abbrev cX9_readsAll : ByteArray := prog_33_method_35_code
def yX9_readsAll : MethodName := ⟨RX9, "readsAll", "()Z"⟩
abbrev cX9_begins : ByteArray := prog_33_method_34_code
def yX9_begins : MethodName := ⟨RX9, "begins", "()V"⟩
abbrev cX9_nextToken : ByteArray := prog_33_method_7_code
def yX9_nextToken : MethodName := ⟨RX9, "nextToken", "()V"⟩
abbrev cX9_signAt : ByteArray := prog_33_method_6_code
def yX9_signAt : MethodName := ⟨RX9, "signAt", "(I)I"⟩
abbrev cX9_isWord : ByteArray := prog_33_method_8_code
def yX9_isWord : MethodName := ⟨RX9, "isWord", "(J)Z"⟩
abbrev cX9_readsField : ByteArray := prog_33_method_28_code
def yX9_readsField : MethodName := ⟨RX9, "readsField", "()Z"⟩
abbrev cX9_fails : ByteArray := prog_33_method_10_code
def yX9_fails : MethodName := ⟨RX9, "fails", "(I)Z"⟩
abbrev cX9_needsNumber : ByteArray := prog_33_method_22_code
def yX9_needsNumber : MethodName := ⟨RX9, "needsNumber", "(II)Z"⟩
abbrev cX9_within : ByteArray := prog_33_method_3_code
def yX9_within : MethodName := ⟨RX9, "within", "(III)Z"⟩
abbrev cX9_needsBoth : ByteArray := prog_33_method_24_code
def yX9_needsBoth : MethodName := ⟨RX9, "needsBoth", "(JII)Z"⟩
abbrev cX9_needsWord : ByteArray := prog_33_method_23_code
def yX9_needsWord : MethodName := ⟨RX9, "needsWord", "(J)Z"⟩
abbrev cX9_closes : ByteArray := prog_33_method_25_code
def yX9_closes : MethodName := ⟨RX9, "closes", "()Z"⟩
abbrev cX9_isSign : ByteArray := prog_33_method_9_code
def yX9_isSign : MethodName := ⟨RX9, "isSign", "(I)Z"⟩
abbrev cX9_readsBush : ByteArray := prog_33_method_29_code
def yX9_readsBush : MethodName := ⟨RX9, "readsBush", "()Z"⟩
abbrev cX9_readsPerson : ByteArray := prog_33_method_30_code
def yX9_readsPerson : MethodName := ⟨RX9, "readsPerson", "()Z"⟩
abbrev cX9_needsNew : ByteArray := prog_33_method_26_code
def yX9_needsNew : MethodName := ⟨RX9, "needsNew", "()Z"⟩
abbrev cX9_isKept : ByteArray := prog_33_method_19_code
def yX9_isKept : MethodName := ⟨RX9, "isKept", "()Z"⟩
abbrev cX9_isTaken : ByteArray := prog_33_method_21_code
def yX9_isTaken : MethodName := ⟨RX9, "isTaken", "()Z"⟩
abbrev cX9_scoutNamed : ByteArray := prog_33_method_20_code
def yX9_scoutNamed : MethodName := ⟨RX9, "scoutNamed", "(I)I"⟩
abbrev cX9_numbersInto : ByteArray := prog_33_method_27_code
def yX9_numbersInto : MethodName := ⟨RX9, "numbersInto", "([IIII)I"⟩
abbrev cX9_readsScout : ByteArray := prog_33_method_31_code
def yX9_readsScout : MethodName := ⟨RX9, "readsScout", "()Z"⟩
abbrev cX9_readsWind : ByteArray := prog_33_method_32_code
def yX9_readsWind : MethodName := ⟨RX9, "readsWind", "()Z"⟩
abbrev cX9_readsHears : ByteArray := prog_33_method_33_code
def yX9_readsHears : MethodName := ⟨RX9, "readsHears", "()Z"⟩
abbrev cX9_reads : ByteArray := prog_33_method_14_code
def yX9_reads : MethodName := ⟨RX9, "reads", "()Z"⟩
abbrev cX9_fact : ByteArray := prog_33_method_13_code
def yX9_fact : MethodName := ⟨RX9, "fact", "()I"⟩
abbrev cX9_puts : ByteArray := prog_33_method_12_code
def yX9_puts : MethodName := ⟨RX9, "puts", "(I)V"⟩
abbrev cX9_lays : ByteArray := prog_33_method_38_code
def yX9_lays : MethodName := ⟨RX9, "lays", "()V"⟩
abbrev cX9_shifts : ByteArray := prog_33_method_36_code
def yX9_shifts : MethodName := ⟨RX9, "shifts", "([II)V"⟩
abbrev cX9_shiftsNames : ByteArray := prog_33_method_37_code
def yX9_shiftsNames : MethodName := ⟨RX9, "shiftsNames", "([JI)V"⟩
abbrev cX9_fresh0 : ByteArray := prog_33_method_44_code
def yX9_fresh0 : MethodName := ⟨RX9, "fresh0", "()V"⟩
abbrev cX9_cells : ByteArray := prog_33_method_43_code
def yX9_cells : MethodName := ⟨RX9, "cells", "()I"⟩
abbrev cX9_day : ByteArray := prog_33_method_46_code
def yX9_day : MethodName := ⟨RX9, "day", "()I"⟩
abbrev cX9_readsLine : ByteArray := prog_33_method_40_code
def yX9_readsLine : MethodName := ⟨RX9, "readsLine", "()Z"⟩
abbrev cX9_laysLines : ByteArray := prog_33_method_41_code
def yX9_laysLines : MethodName := ⟨RX9, "laysLines", "(II)V"⟩
abbrev cX9_person : ByteArray := prog_33_method_63_code
def yX9_person : MethodName := ⟨RX9, "person", "(II)I"⟩
abbrev cX9_isPerson : ByteArray := prog_33_method_47_code
def yX9_isPerson : MethodName := ⟨RX9, "isPerson", "(I)Z"⟩
abbrev cX9_isUsual : ByteArray := prog_33_method_52_code
def yX9_isUsual : MethodName := ⟨RX9, "isUsual", "(I)Z"⟩
abbrev cX9_scout : ByteArray := prog_33_method_64_code
def yX9_scout : MethodName := ⟨RX9, "scout", "(II)I"⟩
abbrev cX9_isScout : ByteArray := prog_33_method_48_code
def yX9_isScout : MethodName := ⟨RX9, "isScout", "(I)Z"⟩
abbrev cX9_isBush : ByteArray := prog_33_method_51_code
def yX9_isBush : MethodName := ⟨RX9, "isBush", "(I)Z"⟩
abbrev cX9_creep : ByteArray := prog_33_method_66_code
def yX9_creep : MethodName := ⟨RX9, "creep", "(II)I"⟩
abbrev cX9_canCreep : ByteArray := prog_33_method_61_code
def yX9_canCreep : MethodName := ⟨RX9, "canCreep", "(II)Z"⟩
abbrev cX9_isOff : ByteArray := prog_33_method_53_code
def yX9_isOff : MethodName := ⟨RX9, "isOff", "(I)Z"⟩
abbrev cX9_hasCrept : ByteArray := prog_33_method_54_code
def yX9_hasCrept : MethodName := ⟨RX9, "hasCrept", "(I)Z"⟩
abbrev cX9_beyond : ByteArray := prog_33_method_49_code
def yX9_beyond : MethodName := ⟨RX9, "beyond", "(II)I"⟩
abbrev cX9_keeps : ByteArray := prog_33_method_65_code
def yX9_keeps : MethodName := ⟨RX9, "keeps", "()V"⟩
abbrev cX9_copies : ByteArray := prog_33_method_39_code
def yX9_copies : MethodName := ⟨RX9, "copies", "([II[II)V"⟩
abbrev cX9_creeps : ByteArray := prog_33_method_62_code
def yX9_creeps : MethodName := ⟨RX9, "creeps", "(II)V"⟩
abbrev cX9_off : ByteArray := prog_33_method_67_code
def yX9_off : MethodName := ⟨RX9, "off", "(I)Z"⟩
abbrev cX9_step : ByteArray := prog_33_method_68_code
def yX9_step : MethodName := ⟨RX9, "step", "()I"⟩
abbrev cX9_passes : ByteArray := prog_33_method_59_code
def yX9_passes : MethodName := ⟨RX9, "passes", "()I"⟩
abbrev cX9_windOf : ByteArray := prog_33_method_56_code
def yX9_windOf : MethodName := ⟨RX9, "windOf", "(I)I"⟩
abbrev cX9_walked : ByteArray := prog_33_method_55_code
def yX9_walked : MethodName := ⟨RX9, "walked", "(III)I"⟩
abbrev cX9_hearsAt : ByteArray := prog_33_method_58_code
def yX9_hearsAt : MethodName := ⟨RX9, "hearsAt", "(IIZIZI)Z"⟩
abbrev cX9_farFrom : ByteArray := prog_33_method_50_code
def yX9_farFrom : MethodName := ⟨RX9, "farFrom", "(II)I"⟩
abbrev cX9_isUpwind : ByteArray := prog_33_method_57_code
def yX9_isUpwind : MethodName := ⟨RX9, "isUpwind", "(III)Z"⟩
abbrev cX9_worked : ByteArray := prog_33_method_18_code
def yX9_worked : MethodName := ⟨RX9, "worked", "(I)I"⟩
abbrev cX9_opens : ByteArray := prog_33_method_15_code
def yX9_opens : MethodName := ⟨RX9, "opens", "(I)V"⟩
abbrev cX9_sums : ByteArray := prog_33_method_16_code
def yX9_sums : MethodName := ⟨RX9, "sums", "(I)V"⟩
abbrev cX9_tests : ByteArray := prog_33_method_17_code
def yX9_tests : MethodName := ⟨RX9, "tests", "(I)V"⟩
abbrev cX9_gets : ByteArray := prog_33_method_60_code
def yX9_gets : MethodName := ⟨RX9, "gets", "(II)V"⟩
abbrev cX9_undo : ByteArray := prog_33_method_69_code
def yX9_undo : MethodName := ⟨RX9, "undo", "()Z"⟩
abbrev cX9_judged : ByteArray := prog_33_method_70_code
def yX9_judged : MethodName := ⟨RX9, "judged", "(I)I"⟩
abbrev cX9_later : ByteArray := prog_33_method_71_code
def yX9_later : MethodName := ⟨RX9, "later", "(II)I"⟩
abbrev cX9_would : ByteArray := prog_33_method_72_code
def yX9_would : MethodName := ⟨RX9, "would", "(II)I"⟩
abbrev cX9_quiet : ByteArray := prog_33_method_74_code
def yX9_quiet : MethodName := ⟨RX9, "quiet", "(II)I"⟩
abbrev cX9_isQuiet : ByteArray := prog_33_method_73_code
def yX9_isQuiet : MethodName := ⟨RX9, "isQuiet", "(I)Z"⟩
abbrev cX9_bush : ByteArray := prog_33_method_75_code
def yX9_bush : MethodName := ⟨RX9, "bush", "(I)I"⟩
abbrev cX9_shortest : ByteArray := prog_33_method_80_code
def yX9_shortest : MethodName := ⟨RX9, "shortest", "(II)I"⟩
abbrev cX9_fewest : ByteArray := prog_33_method_79_code
def yX9_fewest : MethodName := ⟨RX9, "fewest", "(II)I"⟩
abbrev cX9_canGet : ByteArray := prog_33_method_76_code
def yX9_canGet : MethodName := ⟨RX9, "canGet", "(II)Z"⟩
abbrev cX9_hearsOthers : ByteArray := prog_33_method_77_code
def yX9_hearsOthers : MethodName := ⟨RX9, "hearsOthers", "(IIZII)Z"⟩
abbrev cX9_spreadsBy : ByteArray := prog_33_method_78_code
def yX9_spreadsBy : MethodName := ⟨RX9, "spreadsBy", "(IIIIZI)Z"⟩
abbrev cX9_first : ByteArray := prog_33_method_81_code
def yX9_first : MethodName := ⟨RX9, "first", "(II)I"⟩
abbrev cX9_soonest : ByteArray := prog_33_method_82_code
def yX9_soonest : MethodName := ⟨RX9, "soonest", "(I)I"⟩
abbrev cX9_worth : ByteArray := prog_33_method_83_code
def yX9_worth : MethodName := ⟨RX9, "worth", "(I)I"⟩
abbrev cX9_team : ByteArray := prog_33_method_85_code
def yX9_team : MethodName := ⟨RX9, "team", "(II)I"⟩
abbrev cX9_sends : ByteArray := prog_33_method_84_code
def yX9_sends : MethodName := ⟨RX9, "sends", "(IIII)V"⟩
abbrev cX9_meets : ByteArray := prog_33_method_86_code
def yX9_meets : MethodName := ⟨RX9, "meets", "(II)I"⟩
abbrev cX9_alike : ByteArray := prog_33_method_88_code
def yX9_alike : MethodName := ⟨RX9, "alike", "()I"⟩
abbrev cX9_walkAlike : ByteArray := prog_33_method_87_code
def yX9_walkAlike : MethodName := ⟨RX9, "walkAlike", "(II)Z"⟩
abbrev cX9_camped : ByteArray := prog_33_method_89_code
def yX9_camped : MethodName := ⟨RX9, "camped", "()I"⟩
abbrev cX9_say : ByteArray := prog_33_method_91_code
def yX9_say : MethodName := ⟨RX9, "say", "(IIZ)Z"⟩
abbrev cX9_who : ByteArray := prog_33_method_93_code
def yX9_who : MethodName := ⟨RX9, "who", "()I"⟩
abbrev cX9_laysCells : ByteArray := prog_33_method_90_code
def yX9_laysCells : MethodName := ⟨RX9, "laysCells", "()V"⟩
abbrev cX9_isAsSaid : ByteArray := prog_33_method_92_code
def yX9_isAsSaid : MethodName := ⟨RX9, "isAsSaid", "(I)Z"⟩
abbrev cX9_ask : ByteArray := prog_33_method_94_code
def yX9_ask : MethodName := ⟨RX9, "ask", "()I"⟩
abbrev cX9_bits : ByteArray := prog_33_method_4_code
def yX9_bits : MethodName := ⟨RX9, "bits", "(I)I"⟩
abbrev cX9_chance : ByteArray := prog_33_method_96_code
def yX9_chance : MethodName := ⟨RX9, "chance", "(II)I"⟩
abbrev cX9_blowsOn : ByteArray := prog_33_method_95_code
def yX9_blowsOn : MethodName := ⟨RX9, "blowsOn", "(II)V"⟩
abbrev cX9_rests : ByteArray := prog_33_method_98_code
def yX9_rests : MethodName := ⟨RX9, "rests", "(IIII)I"⟩
abbrev cX9_getsBy : ByteArray := prog_33_method_97_code
def yX9_getsBy : MethodName := ⟨RX9, "getsBy", "(IIIII)I"⟩
abbrev cX9_camps : ByteArray := prog_33_method_100_code
def yX9_camps : MethodName := ⟨RX9, "camps", "(III)I"⟩
abbrev cX9_draws : ByteArray := prog_33_method_99_code
def yX9_draws : MethodName := ⟨RX9, "draws", "(I)I"⟩
abbrev cX9_mark : ByteArray := prog_33_method_101_code
def yX9_mark : MethodName := ⟨RX9, "mark", "(IZ)Z"⟩
abbrev cX9_laysSaid : ByteArray := prog_33_method_42_code
def yX9_laysSaid : MethodName := ⟨RX9, "laysSaid", "(II)V"⟩
abbrev cX9_count : ByteArray := prog_33_method_103_code
def yX9_count : MethodName := ⟨RX9, "count", "(I)I"⟩
abbrev cX9_bushesIn : ByteArray := prog_33_method_102_code
def yX9_bushesIn : MethodName := ⟨RX9, "bushesIn", "()I"⟩
theorem q129 : (Jvm.Cond.initialized "OrdinaryStalkModel") ∈ lw_all := lw_g (lw_at lw_m1 15 rfl) rfl
theorem q928 : (Jvm.Cond.selects "OrdinaryStalkModel" ({ cls := "java/lang/Object", name := "getClass", desc := "()Ljava/lang/Class;" } : Jvm.MethodName) ({ cls := "java/lang/Object", name := "getClass", desc := "()Ljava/lang/Class;" } : Jvm.MethodName)) ∈ lw_all := lw_g (lw_at lw_m4 94 rfl) rfl
theorem q1734 : (Jvm.Cond.instantiable "OrdinaryStalkModel" (69 : Nat)) ∈ lw_all := lw_g (lw_at lw_m7 180 rfl) rfl
theorem q1736 : (Jvm.Cond.instanceMethod ({ cls := "OrdinaryStalkModel", name := "<init>", desc := "()V" } : Jvm.MethodName)) ∈ lw_all := lw_g (lw_at lw_m7 182 rfl) rfl
theorem q1737 : (Jvm.Cond.code ({ cls := "OrdinaryStalkModel", name := "<init>", desc := "()V" } : Jvm.MethodName) prog_33_method_1_code (1 : Nat) (Option.none : Option Jvm.ClassFile.FieldType)) ∈ lw_all := lw_g (lw_at lw_m7 183 rfl) rfl
theorem q1738 : (Jvm.Cond.methodLink "OrdinaryStalkModel" (1 : Nat) ({ cls := "java/lang/Object", name := "<init>", desc := "()V" } : Jvm.MethodName)) ∈ lw_all := lw_g (lw_at lw_m7 184 rfl) rfl
theorem q1739 : (Jvm.Cond.methodLink "OrdinaryStalkModel" (166 : Nat) ({ cls := "OrdinaryStalkModel", name := "usual", desc := "(I)V" } : Jvm.MethodName)) ∈ lw_all := lw_g (lw_at lw_m7 185 rfl) rfl
theorem q1740 : (Jvm.Cond.privateMethod ({ cls := "OrdinaryStalkModel", name := "usual", desc := "(I)V" } : Jvm.MethodName)) ∈ lw_tbl := lw_at lw_m7 186 rfl
theorem q1741 : (Jvm.Cond.instanceMethod ({ cls := "OrdinaryStalkModel", name := "usual", desc := "(I)V" } : Jvm.MethodName)) ∈ lw_all := lw_g (lw_at lw_m7 187 rfl) rfl
theorem q1742 : (Jvm.Cond.code ({ cls := "OrdinaryStalkModel", name := "usual", desc := "(I)V" } : Jvm.MethodName) prog_33_method_11_code (2 : Nat) (Option.none : Option Jvm.ClassFile.FieldType)) ∈ lw_all := lw_g (lw_at lw_m7 188 rfl) rfl
theorem q1743 : (Jvm.Cond.fieldLink "OrdinaryStalkModel" (170 : Nat) "OrdinaryStalkModel" "thrown" "I") ∈ lw_all := lw_g (lw_at lw_m7 189 rfl) rfl
theorem q1744 : (Jvm.Cond.fieldLink "OrdinaryStalkModel" (175 : Nat) "OrdinaryStalkModel" "taped" "I") ∈ lw_all := lw_g (lw_at lw_m7 190 rfl) rfl
theorem q1745 : (Jvm.Cond.fieldLink "OrdinaryStalkModel" (7 : Nat) "OrdinaryStalkModel" "tape" "[I") ∈ lw_all := lw_g (lw_at lw_m7 191 rfl) rfl
theorem q1746 : (Jvm.Cond.fieldLink "OrdinaryStalkModel" (178 : Nat) "OrdinaryStalkModel" "size" "I") ∈ lw_all := lw_g (lw_at lw_m7 192 rfl) rfl
theorem q1747 : (Jvm.Cond.fieldLink "OrdinaryStalkModel" (181 : Nat) "OrdinaryStalkModel" "place" "I") ∈ lw_all := lw_g (lw_at lw_m7 193 rfl) rfl
theorem q1748 : (Jvm.Cond.fieldLink "OrdinaryStalkModel" (184 : Nat) "OrdinaryStalkModel" "begin" "I") ∈ lw_all := lw_g (lw_at lw_m7 194 rfl) rfl
theorem q1749 : (Jvm.Cond.fieldLink "OrdinaryStalkModel" (194 : Nat) "OrdinaryStalkModel" "token" "I") ∈ lw_all := lw_g (lw_at lw_m7 195 rfl) rfl
theorem q1750 : (Jvm.Cond.fieldLink "OrdinaryStalkModel" (187 : Nat) "OrdinaryStalkModel" "word" "J") ∈ lw_all := lw_g (lw_at lw_m7 196 rfl) rfl
theorem q1751 : (Jvm.Cond.fieldLink "OrdinaryStalkModel" (191 : Nat) "OrdinaryStalkModel" "told" "I") ∈ lw_all := lw_g (lw_at lw_m7 197 rfl) rfl
theorem q1752 : (Jvm.Cond.fieldLink "OrdinaryStalkModel" (205 : Nat) "OrdinaryStalkModel" "wrong" "I") ∈ lw_all := lw_g (lw_at lw_m7 198 rfl) rfl
theorem q1753 : (Jvm.Cond.fieldLink "OrdinaryStalkModel" (13 : Nat) "OrdinaryStalkModel" "camp" "[I") ∈ lw_all := lw_g (lw_at lw_m7 199 rfl) rfl
theorem q1754 : (Jvm.Cond.fieldLink "OrdinaryStalkModel" (16 : Nat) "OrdinaryStalkModel" "personName" "[J") ∈ lw_all := lw_g (lw_at lw_m7 200 rfl) rfl
theorem q1755 : (Jvm.Cond.fieldLink "OrdinaryStalkModel" (20 : Nat) "OrdinaryStalkModel" "scoutName" "[J") ∈ lw_all := lw_g (lw_at lw_m7 201 rfl) rfl
theorem q1756 : (Jvm.Cond.fieldLink "OrdinaryStalkModel" (23 : Nat) "OrdinaryStalkModel" "kind" "[I") ∈ lw_all := lw_g (lw_at lw_m7 202 rfl) rfl
theorem q1757 : (Jvm.Cond.fieldLink "OrdinaryStalkModel" (26 : Nat) "OrdinaryStalkModel" "atTold" "[I") ∈ lw_all := lw_g (lw_at lw_m7 203 rfl) rfl
theorem q1758 : (Jvm.Cond.fieldLink "OrdinaryStalkModel" (29 : Nat) "OrdinaryStalkModel" "ears" "[I") ∈ lw_all := lw_g (lw_at lw_m7 204 rfl) rfl
theorem q1759 : (Jvm.Cond.fieldLink "OrdinaryStalkModel" (32 : Nat) "OrdinaryStalkModel" "marksTold" "[I") ∈ lw_all := lw_g (lw_at lw_m7 205 rfl) rfl
theorem q1760 : (Jvm.Cond.fieldLink "OrdinaryStalkModel" (35 : Nat) "OrdinaryStalkModel" "ways" "[I") ∈ lw_all := lw_g (lw_at lw_m7 206 rfl) rfl
theorem q1761 : (Jvm.Cond.fieldLink "OrdinaryStalkModel" (38 : Nat) "OrdinaryStalkModel" "way" "[I") ∈ lw_all := lw_g (lw_at lw_m7 207 rfl) rfl
theorem q1762 : (Jvm.Cond.fieldLink "OrdinaryStalkModel" (41 : Nat) "OrdinaryStalkModel" "scoutAt" "[I") ∈ lw_all := lw_g (lw_at lw_m7 208 rfl) rfl
theorem q1763 : (Jvm.Cond.fieldLink "OrdinaryStalkModel" (44 : Nat) "OrdinaryStalkModel" "wind" "[I") ∈ lw_all := lw_g (lw_at lw_m7 209 rfl) rfl
theorem q1764 : (Jvm.Cond.fieldLink "OrdinaryStalkModel" (47 : Nat) "OrdinaryStalkModel" "bushes" "[J") ∈ lw_all := lw_g (lw_at lw_m7 210 rfl) rfl
theorem q1765 : (Jvm.Cond.fieldLink "OrdinaryStalkModel" (50 : Nat) "OrdinaryStalkModel" "lineFrom" "[I") ∈ lw_all := lw_g (lw_at lw_m7 211 rfl) rfl
theorem q1766 : (Jvm.Cond.fieldLink "OrdinaryStalkModel" (53 : Nat) "OrdinaryStalkModel" "lineTo" "[I") ∈ lw_all := lw_g (lw_at lw_m7 212 rfl) rfl
theorem q1767 : (Jvm.Cond.fieldLink "OrdinaryStalkModel" (56 : Nat) "OrdinaryStalkModel" "codes" "[I") ∈ lw_all := lw_g (lw_at lw_m7 213 rfl) rfl
theorem q1768 : (Jvm.Cond.fieldLink "OrdinaryStalkModel" (208 : Nat) "OrdinaryStalkModel" "code" "I") ∈ lw_all := lw_g (lw_at lw_m7 214 rfl) rfl
theorem q1769 : (Jvm.Cond.fieldLink "OrdinaryStalkModel" (320 : Nat) "OrdinaryStalkModel" "isField" "Z") ∈ lw_all := lw_g (lw_at lw_m7 215 rfl) rfl
theorem q1770 : (Jvm.Cond.fieldLink "OrdinaryStalkModel" (59 : Nat) "OrdinaryStalkModel" "opened" "[I") ∈ lw_all := lw_g (lw_at lw_m7 216 rfl) rfl
theorem q1771 : (Jvm.Cond.fieldLink "OrdinaryStalkModel" (62 : Nat) "OrdinaryStalkModel" "compared" "[Z") ∈ lw_all := lw_g (lw_at lw_m7 217 rfl) rfl
theorem q1772 : (Jvm.Cond.fieldLink "OrdinaryStalkModel" (66 : Nat) "OrdinaryStalkModel" "kept" "[I") ∈ lw_all := lw_g (lw_at lw_m7 218 rfl) rfl
theorem q1773 : (Jvm.Cond.fieldLink "OrdinaryStalkModel" (69 : Nat) "OrdinaryStalkModel" "keptBy" "[I") ∈ lw_all := lw_g (lw_at lw_m7 219 rfl) rfl
theorem q1774 : (Jvm.Cond.fieldLink "OrdinaryStalkModel" (72 : Nat) "OrdinaryStalkModel" "ahead" "[I") ∈ lw_all := lw_g (lw_at lw_m7 220 rfl) rfl
theorem q1775 : (Jvm.Cond.fieldLink "OrdinaryStalkModel" (75 : Nat) "OrdinaryStalkModel" "against" "[I") ∈ lw_all := lw_g (lw_at lw_m7 221 rfl) rfl
theorem q1776 : (Jvm.Cond.fieldLink "OrdinaryStalkModel" (78 : Nat) "OrdinaryStalkModel" "sum" "[I") ∈ lw_all := lw_g (lw_at lw_m7 222 rfl) rfl
theorem q1777 : (Jvm.Cond.fieldLink "OrdinaryStalkModel" (81 : Nat) "OrdinaryStalkModel" "sumBy" "[I") ∈ lw_all := lw_g (lw_at lw_m7 223 rfl) rfl
theorem q1778 : (Jvm.Cond.fieldLink "OrdinaryStalkModel" (84 : Nat) "OrdinaryStalkModel" "term" "[I") ∈ lw_all := lw_g (lw_at lw_m7 224 rfl) rfl
theorem q1779 : (Jvm.Cond.fieldLink "OrdinaryStalkModel" (87 : Nat) "OrdinaryStalkModel" "termBy" "[I") ∈ lw_all := lw_g (lw_at lw_m7 225 rfl) rfl
theorem q1780 : (Jvm.Cond.fieldLink "OrdinaryStalkModel" (90 : Nat) "OrdinaryStalkModel" "byNot" "[I") ∈ lw_all := lw_g (lw_at lw_m7 226 rfl) rfl
theorem q1781 : (Jvm.Cond.fieldLink "OrdinaryStalkModel" (93 : Nat) "OrdinaryStalkModel" "valueOf" "[I") ∈ lw_all := lw_g (lw_at lw_m7 227 rfl) rfl
theorem q1782 : (Jvm.Cond.fieldLink "OrdinaryStalkModel" (300 : Nat) "OrdinaryStalkModel" "given" "I") ∈ lw_all := lw_g (lw_at lw_m7 228 rfl) rfl
theorem q1783 : (Jvm.Cond.fieldLink "OrdinaryStalkModel" (317 : Nat) "OrdinaryStalkModel" "fresh" "J") ∈ lw_all := lw_g (lw_at lw_m7 229 rfl) rfl
theorem q1784 : (Jvm.Cond.fieldLink "OrdinaryStalkModel" (96 : Nat) "OrdinaryStalkModel" "lines" "[I") ∈ lw_all := lw_g (lw_at lw_m7 230 rfl) rfl
theorem q1785 : (Jvm.Cond.fieldLink "OrdinaryStalkModel" (99 : Nat) "OrdinaryStalkModel" "lineWhat" "[I") ∈ lw_all := lw_g (lw_at lw_m7 231 rfl) rfl
theorem q1786 : (Jvm.Cond.fieldLink "OrdinaryStalkModel" (102 : Nat) "OrdinaryStalkModel" "lineA" "[I") ∈ lw_all := lw_g (lw_at lw_m7 232 rfl) rfl
theorem q1787 : (Jvm.Cond.fieldLink "OrdinaryStalkModel" (105 : Nat) "OrdinaryStalkModel" "lineB" "[I") ∈ lw_all := lw_g (lw_at lw_m7 233 rfl) rfl
theorem q1788 : (Jvm.Cond.fieldLink "OrdinaryStalkModel" (108 : Nat) "OrdinaryStalkModel" "says" "[I") ∈ lw_all := lw_g (lw_at lw_m7 234 rfl) rfl
theorem q1789 : (Jvm.Cond.fieldLink "OrdinaryStalkModel" (111 : Nat) "OrdinaryStalkModel" "saidIn" "[I") ∈ lw_all := lw_g (lw_at lw_m7 235 rfl) rfl
theorem q1790 : (Jvm.Cond.fieldLink "OrdinaryStalkModel" (114 : Nat) "OrdinaryStalkModel" "saidCell" "[I") ∈ lw_all := lw_g (lw_at lw_m7 236 rfl) rfl
theorem q1791 : (Jvm.Cond.fieldLink "OrdinaryStalkModel" (117 : Nat) "OrdinaryStalkModel" "saidThere" "[Z") ∈ lw_all := lw_g (lw_at lw_m7 237 rfl) rfl
theorem q1792 : (Jvm.Cond.fieldLink "OrdinaryStalkModel" (120 : Nat) "OrdinaryStalkModel" "s" "[I") ∈ lw_all := lw_g (lw_at lw_m7 238 rfl) rfl
theorem q1793 : (Jvm.Cond.fieldLink "OrdinaryStalkModel" (123 : Nat) "OrdinaryStalkModel" "aside" "[I") ∈ lw_all := lw_g (lw_at lw_m7 239 rfl) rfl
theorem q1794 : (Jvm.Cond.fieldLink "OrdinaryStalkModel" (126 : Nat) "OrdinaryStalkModel" "before" "[I") ∈ lw_all := lw_g (lw_at lw_m8 0 rfl) rfl
theorem q1795 : (Jvm.Cond.fieldLink "OrdinaryStalkModel" (129 : Nat) "OrdinaryStalkModel" "marked" "[I") ∈ lw_all := lw_g (lw_at lw_m8 1 rfl) rfl
theorem q1796 : (Jvm.Cond.fieldLink "OrdinaryStalkModel" (132 : Nat) "OrdinaryStalkModel" "undone" "[I") ∈ lw_all := lw_g (lw_at lw_m8 2 rfl) rfl
theorem q1797 : (Jvm.Cond.fieldLink "OrdinaryStalkModel" (135 : Nat) "OrdinaryStalkModel" "isLaid" "[Z") ∈ lw_all := lw_g (lw_at lw_m8 3 rfl) rfl
theorem q1798 : (Jvm.Cond.fieldLink "OrdinaryStalkModel" (388 : Nat) "OrdinaryStalkModel" "done" "I") ∈ lw_all := lw_g (lw_at lw_m8 4 rfl) rfl
theorem q1799 : (Jvm.Cond.fieldLink "OrdinaryStalkModel" (138 : Nat) "OrdinaryStalkModel" "blowsNow" "I") ∈ lw_all := lw_g (lw_at lw_m8 5 rfl) rfl
theorem q1800 : (Jvm.Cond.fieldLink "OrdinaryStalkModel" (142 : Nat) "OrdinaryStalkModel" "was" "[I") ∈ lw_all := lw_g (lw_at lw_m8 6 rfl) rfl
theorem q1801 : (Jvm.Cond.fieldLink "OrdinaryStalkModel" (145 : Nat) "OrdinaryStalkModel" "heardBy" "[I") ∈ lw_all := lw_g (lw_at lw_m8 7 rfl) rfl
theorem q1802 : (Jvm.Cond.fieldLink "OrdinaryStalkModel" (148 : Nat) "OrdinaryStalkModel" "reached" "[J") ∈ lw_all := lw_g (lw_at lw_m8 8 rfl) rfl
theorem q1803 : (Jvm.Cond.fieldLink "OrdinaryStalkModel" (464 : Nat) "OrdinaryStalkModel" "firstWay" "I") ∈ lw_all := lw_g (lw_at lw_m8 9 rfl) rfl
theorem q1804 : (Jvm.Cond.fieldLink "OrdinaryStalkModel" (151 : Nat) "OrdinaryStalkModel" "fewestOf" "[I") ∈ lw_all := lw_g (lw_at lw_m8 10 rfl) rfl
theorem q1805 : (Jvm.Cond.fieldLink "OrdinaryStalkModel" (154 : Nat) "OrdinaryStalkModel" "row" "[I") ∈ lw_all := lw_g (lw_at lw_m8 11 rfl) rfl
theorem q1806 : (Jvm.Cond.fieldLink "OrdinaryStalkModel" (157 : Nat) "OrdinaryStalkModel" "bestRow" "[I") ∈ lw_all := lw_g (lw_at lw_m8 12 rfl) rfl
theorem q1807 : (Jvm.Cond.fieldLink "OrdinaryStalkModel" (481 : Nat) "OrdinaryStalkModel" "mostMarks" "I") ∈ lw_all := lw_g (lw_at lw_m8 13 rfl) rfl
theorem q1808 : (Jvm.Cond.fieldLink "OrdinaryStalkModel" (160 : Nat) "OrdinaryStalkModel" "cellIn" "[I") ∈ lw_all := lw_g (lw_at lw_m8 14 rfl) rfl
theorem q1809 : (Jvm.Cond.fieldLink "OrdinaryStalkModel" (506 : Nat) "OrdinaryStalkModel" "unheard" "I") ∈ lw_all := lw_g (lw_at lw_m8 15 rfl) rfl
theorem q1810 : (Jvm.Cond.fieldLink "OrdinaryStalkModel" (163 : Nat) "OrdinaryStalkModel" "stack" "[I") ∈ lw_all := lw_g (lw_at lw_m8 16 rfl) rfl
theorem q1811 : (Jvm.Cond.fieldLink "OrdinaryStalkModel" (518 : Nat) "OrdinaryStalkModel" "g" "J") ∈ lw_all := lw_g (lw_at lw_m8 17 rfl) rfl
theorem q1812 : (Jvm.Cond.lays "OrdinaryStalkModel" "OrdinaryStalkModel" "thrown" "I") ∈ lw_all := lw_g (lw_at lw_m8 18 rfl) rfl
theorem q1813 : (Jvm.Cond.soleField "OrdinaryStalkModel" "thrown") ∈ lw_all := lw_g (lw_at lw_m8 19 rfl) rfl
theorem q1814 : (Jvm.Cond.lays "OrdinaryStalkModel" "OrdinaryStalkModel" "taped" "I") ∈ lw_all := lw_g (lw_at lw_m8 20 rfl) rfl
theorem q1815 : (Jvm.Cond.soleField "OrdinaryStalkModel" "taped") ∈ lw_all := lw_g (lw_at lw_m8 21 rfl) rfl
theorem q1816 : (Jvm.Cond.laysFinal "OrdinaryStalkModel" "OrdinaryStalkModel" "tape" "[I") ∈ lw_all := lw_g (lw_at lw_m8 22 rfl) rfl
theorem q1817 : (Jvm.Cond.soleField "OrdinaryStalkModel" "tape") ∈ lw_all := lw_g (lw_at lw_m8 23 rfl) rfl
theorem q1818 : (Jvm.Cond.lays "OrdinaryStalkModel" "OrdinaryStalkModel" "size" "I") ∈ lw_all := lw_g (lw_at lw_m8 24 rfl) rfl
theorem q1819 : (Jvm.Cond.soleField "OrdinaryStalkModel" "size") ∈ lw_all := lw_g (lw_at lw_m8 25 rfl) rfl
theorem q1820 : (Jvm.Cond.lays "OrdinaryStalkModel" "OrdinaryStalkModel" "place" "I") ∈ lw_all := lw_g (lw_at lw_m8 26 rfl) rfl
theorem q1821 : (Jvm.Cond.soleField "OrdinaryStalkModel" "place") ∈ lw_all := lw_g (lw_at lw_m8 27 rfl) rfl
theorem q1822 : (Jvm.Cond.lays "OrdinaryStalkModel" "OrdinaryStalkModel" "begin" "I") ∈ lw_all := lw_g (lw_at lw_m8 28 rfl) rfl
theorem q1823 : (Jvm.Cond.soleField "OrdinaryStalkModel" "begin") ∈ lw_all := lw_g (lw_at lw_m8 29 rfl) rfl
theorem q1824 : (Jvm.Cond.lays "OrdinaryStalkModel" "OrdinaryStalkModel" "token" "I") ∈ lw_all := lw_g (lw_at lw_m8 30 rfl) rfl
theorem q1825 : (Jvm.Cond.soleField "OrdinaryStalkModel" "token") ∈ lw_all := lw_g (lw_at lw_m8 31 rfl) rfl
theorem q1826 : (Jvm.Cond.lays "OrdinaryStalkModel" "OrdinaryStalkModel" "word" "J") ∈ lw_all := lw_g (lw_at lw_m8 32 rfl) rfl
theorem q1827 : (Jvm.Cond.soleField "OrdinaryStalkModel" "word") ∈ lw_all := lw_g (lw_at lw_m8 33 rfl) rfl
theorem q1828 : (Jvm.Cond.lays "OrdinaryStalkModel" "OrdinaryStalkModel" "told" "I") ∈ lw_all := lw_g (lw_at lw_m8 34 rfl) rfl
theorem q1829 : (Jvm.Cond.soleField "OrdinaryStalkModel" "told") ∈ lw_all := lw_g (lw_at lw_m8 35 rfl) rfl
theorem q1830 : (Jvm.Cond.lays "OrdinaryStalkModel" "OrdinaryStalkModel" "wrong" "I") ∈ lw_all := lw_g (lw_at lw_m8 36 rfl) rfl
theorem q1831 : (Jvm.Cond.soleField "OrdinaryStalkModel" "wrong") ∈ lw_all := lw_g (lw_at lw_m8 37 rfl) rfl
theorem q1832 : (Jvm.Cond.laysFinal "OrdinaryStalkModel" "OrdinaryStalkModel" "camp" "[I") ∈ lw_all := lw_g (lw_at lw_m8 38 rfl) rfl
theorem q1833 : (Jvm.Cond.soleField "OrdinaryStalkModel" "camp") ∈ lw_all := lw_g (lw_at lw_m8 39 rfl) rfl
theorem q1834 : (Jvm.Cond.laysFinal "OrdinaryStalkModel" "OrdinaryStalkModel" "personName" "[J") ∈ lw_all := lw_g (lw_at lw_m8 40 rfl) rfl
theorem q1835 : (Jvm.Cond.soleField "OrdinaryStalkModel" "personName") ∈ lw_all := lw_g (lw_at lw_m8 41 rfl) rfl
theorem q1836 : (Jvm.Cond.laysFinal "OrdinaryStalkModel" "OrdinaryStalkModel" "scoutName" "[J") ∈ lw_all := lw_g (lw_at lw_m8 42 rfl) rfl
theorem q1837 : (Jvm.Cond.soleField "OrdinaryStalkModel" "scoutName") ∈ lw_all := lw_g (lw_at lw_m8 43 rfl) rfl
theorem q1838 : (Jvm.Cond.laysFinal "OrdinaryStalkModel" "OrdinaryStalkModel" "kind" "[I") ∈ lw_all := lw_g (lw_at lw_m8 44 rfl) rfl
theorem q1839 : (Jvm.Cond.soleField "OrdinaryStalkModel" "kind") ∈ lw_all := lw_g (lw_at lw_m8 45 rfl) rfl
theorem q1840 : (Jvm.Cond.laysFinal "OrdinaryStalkModel" "OrdinaryStalkModel" "atTold" "[I") ∈ lw_all := lw_g (lw_at lw_m8 46 rfl) rfl
theorem q1841 : (Jvm.Cond.soleField "OrdinaryStalkModel" "atTold") ∈ lw_all := lw_g (lw_at lw_m8 47 rfl) rfl
theorem q1842 : (Jvm.Cond.laysFinal "OrdinaryStalkModel" "OrdinaryStalkModel" "ears" "[I") ∈ lw_all := lw_g (lw_at lw_m8 48 rfl) rfl
theorem q1843 : (Jvm.Cond.soleField "OrdinaryStalkModel" "ears") ∈ lw_all := lw_g (lw_at lw_m8 49 rfl) rfl
theorem q1844 : (Jvm.Cond.laysFinal "OrdinaryStalkModel" "OrdinaryStalkModel" "marksTold" "[I") ∈ lw_all := lw_g (lw_at lw_m8 50 rfl) rfl
theorem q1845 : (Jvm.Cond.soleField "OrdinaryStalkModel" "marksTold") ∈ lw_all := lw_g (lw_at lw_m8 51 rfl) rfl
theorem q1846 : (Jvm.Cond.laysFinal "OrdinaryStalkModel" "OrdinaryStalkModel" "ways" "[I") ∈ lw_all := lw_g (lw_at lw_m8 52 rfl) rfl
theorem q1847 : (Jvm.Cond.soleField "OrdinaryStalkModel" "ways") ∈ lw_all := lw_g (lw_at lw_m8 53 rfl) rfl
theorem q1848 : (Jvm.Cond.laysFinal "OrdinaryStalkModel" "OrdinaryStalkModel" "way" "[I") ∈ lw_all := lw_g (lw_at lw_m8 54 rfl) rfl
theorem q1849 : (Jvm.Cond.soleField "OrdinaryStalkModel" "way") ∈ lw_all := lw_g (lw_at lw_m8 55 rfl) rfl
theorem q1850 : (Jvm.Cond.laysFinal "OrdinaryStalkModel" "OrdinaryStalkModel" "scoutAt" "[I") ∈ lw_all := lw_g (lw_at lw_m8 56 rfl) rfl
theorem q1851 : (Jvm.Cond.soleField "OrdinaryStalkModel" "scoutAt") ∈ lw_all := lw_g (lw_at lw_m8 57 rfl) rfl
theorem q1852 : (Jvm.Cond.laysFinal "OrdinaryStalkModel" "OrdinaryStalkModel" "wind" "[I") ∈ lw_all := lw_g (lw_at lw_m8 58 rfl) rfl
theorem q1853 : (Jvm.Cond.soleField "OrdinaryStalkModel" "wind") ∈ lw_all := lw_g (lw_at lw_m8 59 rfl) rfl
theorem q1854 : (Jvm.Cond.laysFinal "OrdinaryStalkModel" "OrdinaryStalkModel" "bushes" "[J") ∈ lw_all := lw_g (lw_at lw_m8 60 rfl) rfl
theorem q1855 : (Jvm.Cond.soleField "OrdinaryStalkModel" "bushes") ∈ lw_all := lw_g (lw_at lw_m8 61 rfl) rfl
theorem q1856 : (Jvm.Cond.laysFinal "OrdinaryStalkModel" "OrdinaryStalkModel" "lineFrom" "[I") ∈ lw_all := lw_g (lw_at lw_m8 62 rfl) rfl
theorem q1857 : (Jvm.Cond.soleField "OrdinaryStalkModel" "lineFrom") ∈ lw_all := lw_g (lw_at lw_m8 63 rfl) rfl
theorem q1858 : (Jvm.Cond.laysFinal "OrdinaryStalkModel" "OrdinaryStalkModel" "lineTo" "[I") ∈ lw_all := lw_g (lw_at lw_m8 64 rfl) rfl
theorem q1859 : (Jvm.Cond.soleField "OrdinaryStalkModel" "lineTo") ∈ lw_all := lw_g (lw_at lw_m8 65 rfl) rfl
theorem q1860 : (Jvm.Cond.laysFinal "OrdinaryStalkModel" "OrdinaryStalkModel" "codes" "[I") ∈ lw_all := lw_g (lw_at lw_m8 66 rfl) rfl
theorem q1861 : (Jvm.Cond.soleField "OrdinaryStalkModel" "codes") ∈ lw_all := lw_g (lw_at lw_m8 67 rfl) rfl
theorem q1862 : (Jvm.Cond.lays "OrdinaryStalkModel" "OrdinaryStalkModel" "code" "I") ∈ lw_all := lw_g (lw_at lw_m8 68 rfl) rfl
theorem q1863 : (Jvm.Cond.soleField "OrdinaryStalkModel" "code") ∈ lw_all := lw_g (lw_at lw_m8 69 rfl) rfl
theorem q1864 : (Jvm.Cond.lays "OrdinaryStalkModel" "OrdinaryStalkModel" "isField" "Z") ∈ lw_all := lw_g (lw_at lw_m8 70 rfl) rfl
theorem q1865 : (Jvm.Cond.soleField "OrdinaryStalkModel" "isField") ∈ lw_all := lw_g (lw_at lw_m8 71 rfl) rfl
theorem q1866 : (Jvm.Cond.laysFinal "OrdinaryStalkModel" "OrdinaryStalkModel" "opened" "[I") ∈ lw_all := lw_g (lw_at lw_m8 72 rfl) rfl
theorem q1867 : (Jvm.Cond.soleField "OrdinaryStalkModel" "opened") ∈ lw_all := lw_g (lw_at lw_m8 73 rfl) rfl
theorem q1868 : (Jvm.Cond.laysFinal "OrdinaryStalkModel" "OrdinaryStalkModel" "compared" "[Z") ∈ lw_all := lw_g (lw_at lw_m8 74 rfl) rfl
theorem q1869 : (Jvm.Cond.soleField "OrdinaryStalkModel" "compared") ∈ lw_all := lw_g (lw_at lw_m8 75 rfl) rfl
theorem q1870 : (Jvm.Cond.laysFinal "OrdinaryStalkModel" "OrdinaryStalkModel" "kept" "[I") ∈ lw_all := lw_g (lw_at lw_m8 76 rfl) rfl
theorem q1871 : (Jvm.Cond.soleField "OrdinaryStalkModel" "kept") ∈ lw_all := lw_g (lw_at lw_m8 77 rfl) rfl
theorem q1872 : (Jvm.Cond.laysFinal "OrdinaryStalkModel" "OrdinaryStalkModel" "keptBy" "[I") ∈ lw_all := lw_g (lw_at lw_m8 78 rfl) rfl
theorem q1873 : (Jvm.Cond.soleField "OrdinaryStalkModel" "keptBy") ∈ lw_all := lw_g (lw_at lw_m8 79 rfl) rfl
theorem q1874 : (Jvm.Cond.laysFinal "OrdinaryStalkModel" "OrdinaryStalkModel" "ahead" "[I") ∈ lw_all := lw_g (lw_at lw_m8 80 rfl) rfl
theorem q1875 : (Jvm.Cond.soleField "OrdinaryStalkModel" "ahead") ∈ lw_all := lw_g (lw_at lw_m8 81 rfl) rfl
theorem q1876 : (Jvm.Cond.laysFinal "OrdinaryStalkModel" "OrdinaryStalkModel" "against" "[I") ∈ lw_all := lw_g (lw_at lw_m8 82 rfl) rfl
theorem q1877 : (Jvm.Cond.soleField "OrdinaryStalkModel" "against") ∈ lw_all := lw_g (lw_at lw_m8 83 rfl) rfl
theorem q1878 : (Jvm.Cond.laysFinal "OrdinaryStalkModel" "OrdinaryStalkModel" "sum" "[I") ∈ lw_all := lw_g (lw_at lw_m8 84 rfl) rfl
theorem q1879 : (Jvm.Cond.soleField "OrdinaryStalkModel" "sum") ∈ lw_all := lw_g (lw_at lw_m8 85 rfl) rfl
theorem q1880 : (Jvm.Cond.laysFinal "OrdinaryStalkModel" "OrdinaryStalkModel" "sumBy" "[I") ∈ lw_all := lw_g (lw_at lw_m8 86 rfl) rfl
theorem q1881 : (Jvm.Cond.soleField "OrdinaryStalkModel" "sumBy") ∈ lw_all := lw_g (lw_at lw_m8 87 rfl) rfl
theorem q1882 : (Jvm.Cond.laysFinal "OrdinaryStalkModel" "OrdinaryStalkModel" "term" "[I") ∈ lw_all := lw_g (lw_at lw_m8 88 rfl) rfl
theorem q1883 : (Jvm.Cond.soleField "OrdinaryStalkModel" "term") ∈ lw_all := lw_g (lw_at lw_m8 89 rfl) rfl
theorem q1884 : (Jvm.Cond.laysFinal "OrdinaryStalkModel" "OrdinaryStalkModel" "termBy" "[I") ∈ lw_all := lw_g (lw_at lw_m8 90 rfl) rfl
theorem q1885 : (Jvm.Cond.soleField "OrdinaryStalkModel" "termBy") ∈ lw_all := lw_g (lw_at lw_m8 91 rfl) rfl
theorem q1886 : (Jvm.Cond.laysFinal "OrdinaryStalkModel" "OrdinaryStalkModel" "byNot" "[I") ∈ lw_all := lw_g (lw_at lw_m8 92 rfl) rfl
theorem q1887 : (Jvm.Cond.soleField "OrdinaryStalkModel" "byNot") ∈ lw_all := lw_g (lw_at lw_m8 93 rfl) rfl
theorem q1888 : (Jvm.Cond.laysFinal "OrdinaryStalkModel" "OrdinaryStalkModel" "valueOf" "[I") ∈ lw_all := lw_g (lw_at lw_m8 94 rfl) rfl
theorem q1889 : (Jvm.Cond.soleField "OrdinaryStalkModel" "valueOf") ∈ lw_all := lw_g (lw_at lw_m8 95 rfl) rfl
theorem q1890 : (Jvm.Cond.lays "OrdinaryStalkModel" "OrdinaryStalkModel" "given" "I") ∈ lw_all := lw_g (lw_at lw_m8 96 rfl) rfl
theorem q1891 : (Jvm.Cond.soleField "OrdinaryStalkModel" "given") ∈ lw_all := lw_g (lw_at lw_m8 97 rfl) rfl
theorem q1892 : (Jvm.Cond.lays "OrdinaryStalkModel" "OrdinaryStalkModel" "fresh" "J") ∈ lw_all := lw_g (lw_at lw_m8 98 rfl) rfl
theorem q1893 : (Jvm.Cond.soleField "OrdinaryStalkModel" "fresh") ∈ lw_all := lw_g (lw_at lw_m8 99 rfl) rfl
theorem q1894 : (Jvm.Cond.laysFinal "OrdinaryStalkModel" "OrdinaryStalkModel" "lines" "[I") ∈ lw_all := lw_g (lw_at lw_m8 100 rfl) rfl
theorem q1895 : (Jvm.Cond.soleField "OrdinaryStalkModel" "lines") ∈ lw_all := lw_g (lw_at lw_m8 101 rfl) rfl
theorem q1896 : (Jvm.Cond.laysFinal "OrdinaryStalkModel" "OrdinaryStalkModel" "lineWhat" "[I") ∈ lw_all := lw_g (lw_at lw_m8 102 rfl) rfl
theorem q1897 : (Jvm.Cond.soleField "OrdinaryStalkModel" "lineWhat") ∈ lw_all := lw_g (lw_at lw_m8 103 rfl) rfl
theorem q1898 : (Jvm.Cond.laysFinal "OrdinaryStalkModel" "OrdinaryStalkModel" "lineA" "[I") ∈ lw_all := lw_g (lw_at lw_m8 104 rfl) rfl
theorem q1899 : (Jvm.Cond.soleField "OrdinaryStalkModel" "lineA") ∈ lw_all := lw_g (lw_at lw_m8 105 rfl) rfl
theorem q1900 : (Jvm.Cond.laysFinal "OrdinaryStalkModel" "OrdinaryStalkModel" "lineB" "[I") ∈ lw_all := lw_g (lw_at lw_m8 106 rfl) rfl
theorem q1901 : (Jvm.Cond.soleField "OrdinaryStalkModel" "lineB") ∈ lw_all := lw_g (lw_at lw_m8 107 rfl) rfl
theorem q1902 : (Jvm.Cond.laysFinal "OrdinaryStalkModel" "OrdinaryStalkModel" "says" "[I") ∈ lw_all := lw_g (lw_at lw_m8 108 rfl) rfl
theorem q1903 : (Jvm.Cond.soleField "OrdinaryStalkModel" "says") ∈ lw_all := lw_g (lw_at lw_m8 109 rfl) rfl
theorem q1904 : (Jvm.Cond.laysFinal "OrdinaryStalkModel" "OrdinaryStalkModel" "saidIn" "[I") ∈ lw_all := lw_g (lw_at lw_m8 110 rfl) rfl
theorem q1905 : (Jvm.Cond.soleField "OrdinaryStalkModel" "saidIn") ∈ lw_all := lw_g (lw_at lw_m8 111 rfl) rfl
theorem q1906 : (Jvm.Cond.laysFinal "OrdinaryStalkModel" "OrdinaryStalkModel" "saidCell" "[I") ∈ lw_all := lw_g (lw_at lw_m8 112 rfl) rfl
theorem q1907 : (Jvm.Cond.soleField "OrdinaryStalkModel" "saidCell") ∈ lw_all := lw_g (lw_at lw_m8 113 rfl) rfl
theorem q1908 : (Jvm.Cond.laysFinal "OrdinaryStalkModel" "OrdinaryStalkModel" "saidThere" "[Z") ∈ lw_all := lw_g (lw_at lw_m8 114 rfl) rfl
theorem q1909 : (Jvm.Cond.soleField "OrdinaryStalkModel" "saidThere") ∈ lw_all := lw_g (lw_at lw_m8 115 rfl) rfl
theorem q1910 : (Jvm.Cond.laysFinal "OrdinaryStalkModel" "OrdinaryStalkModel" "s" "[I") ∈ lw_all := lw_g (lw_at lw_m8 116 rfl) rfl
theorem q1911 : (Jvm.Cond.soleField "OrdinaryStalkModel" "s") ∈ lw_all := lw_g (lw_at lw_m8 117 rfl) rfl
theorem q1912 : (Jvm.Cond.laysFinal "OrdinaryStalkModel" "OrdinaryStalkModel" "aside" "[I") ∈ lw_all := lw_g (lw_at lw_m8 118 rfl) rfl
theorem q1913 : (Jvm.Cond.soleField "OrdinaryStalkModel" "aside") ∈ lw_all := lw_g (lw_at lw_m8 119 rfl) rfl
theorem q1914 : (Jvm.Cond.laysFinal "OrdinaryStalkModel" "OrdinaryStalkModel" "before" "[I") ∈ lw_all := lw_g (lw_at lw_m8 120 rfl) rfl
theorem q1915 : (Jvm.Cond.soleField "OrdinaryStalkModel" "before") ∈ lw_all := lw_g (lw_at lw_m8 121 rfl) rfl
theorem q1916 : (Jvm.Cond.laysFinal "OrdinaryStalkModel" "OrdinaryStalkModel" "marked" "[I") ∈ lw_all := lw_g (lw_at lw_m8 122 rfl) rfl
theorem q1917 : (Jvm.Cond.soleField "OrdinaryStalkModel" "marked") ∈ lw_all := lw_g (lw_at lw_m8 123 rfl) rfl
theorem q1918 : (Jvm.Cond.laysFinal "OrdinaryStalkModel" "OrdinaryStalkModel" "undone" "[I") ∈ lw_all := lw_g (lw_at lw_m8 124 rfl) rfl
theorem q1919 : (Jvm.Cond.soleField "OrdinaryStalkModel" "undone") ∈ lw_all := lw_g (lw_at lw_m8 125 rfl) rfl
theorem q1920 : (Jvm.Cond.laysFinal "OrdinaryStalkModel" "OrdinaryStalkModel" "isLaid" "[Z") ∈ lw_all := lw_g (lw_at lw_m8 126 rfl) rfl
theorem q1921 : (Jvm.Cond.soleField "OrdinaryStalkModel" "isLaid") ∈ lw_all := lw_g (lw_at lw_m8 127 rfl) rfl
theorem q1922 : (Jvm.Cond.lays "OrdinaryStalkModel" "OrdinaryStalkModel" "done" "I") ∈ lw_all := lw_g (lw_at lw_m8 128 rfl) rfl
theorem q1923 : (Jvm.Cond.soleField "OrdinaryStalkModel" "done") ∈ lw_all := lw_g (lw_at lw_m8 129 rfl) rfl
theorem q1924 : (Jvm.Cond.lays "OrdinaryStalkModel" "OrdinaryStalkModel" "blowsNow" "I") ∈ lw_all := lw_g (lw_at lw_m8 130 rfl) rfl
theorem q1925 : (Jvm.Cond.soleField "OrdinaryStalkModel" "blowsNow") ∈ lw_all := lw_g (lw_at lw_m8 131 rfl) rfl
theorem q1926 : (Jvm.Cond.laysFinal "OrdinaryStalkModel" "OrdinaryStalkModel" "was" "[I") ∈ lw_all := lw_g (lw_at lw_m8 132 rfl) rfl
theorem q1927 : (Jvm.Cond.soleField "OrdinaryStalkModel" "was") ∈ lw_all := lw_g (lw_at lw_m8 133 rfl) rfl
theorem q1928 : (Jvm.Cond.laysFinal "OrdinaryStalkModel" "OrdinaryStalkModel" "heardBy" "[I") ∈ lw_all := lw_g (lw_at lw_m8 134 rfl) rfl
theorem q1929 : (Jvm.Cond.soleField "OrdinaryStalkModel" "heardBy") ∈ lw_all := lw_g (lw_at lw_m8 135 rfl) rfl
theorem q1930 : (Jvm.Cond.laysFinal "OrdinaryStalkModel" "OrdinaryStalkModel" "reached" "[J") ∈ lw_all := lw_g (lw_at lw_m8 136 rfl) rfl
theorem q1931 : (Jvm.Cond.soleField "OrdinaryStalkModel" "reached") ∈ lw_all := lw_g (lw_at lw_m8 137 rfl) rfl
theorem q1932 : (Jvm.Cond.lays "OrdinaryStalkModel" "OrdinaryStalkModel" "firstWay" "I") ∈ lw_all := lw_g (lw_at lw_m8 138 rfl) rfl
theorem q1933 : (Jvm.Cond.soleField "OrdinaryStalkModel" "firstWay") ∈ lw_all := lw_g (lw_at lw_m8 139 rfl) rfl
theorem q1934 : (Jvm.Cond.laysFinal "OrdinaryStalkModel" "OrdinaryStalkModel" "fewestOf" "[I") ∈ lw_all := lw_g (lw_at lw_m8 140 rfl) rfl
theorem q1935 : (Jvm.Cond.soleField "OrdinaryStalkModel" "fewestOf") ∈ lw_all := lw_g (lw_at lw_m8 141 rfl) rfl
theorem q1936 : (Jvm.Cond.laysFinal "OrdinaryStalkModel" "OrdinaryStalkModel" "row" "[I") ∈ lw_all := lw_g (lw_at lw_m8 142 rfl) rfl
theorem q1937 : (Jvm.Cond.soleField "OrdinaryStalkModel" "row") ∈ lw_all := lw_g (lw_at lw_m8 143 rfl) rfl
theorem q1938 : (Jvm.Cond.laysFinal "OrdinaryStalkModel" "OrdinaryStalkModel" "bestRow" "[I") ∈ lw_all := lw_g (lw_at lw_m8 144 rfl) rfl
theorem q1939 : (Jvm.Cond.soleField "OrdinaryStalkModel" "bestRow") ∈ lw_all := lw_g (lw_at lw_m8 145 rfl) rfl
theorem q1940 : (Jvm.Cond.lays "OrdinaryStalkModel" "OrdinaryStalkModel" "mostMarks" "I") ∈ lw_all := lw_g (lw_at lw_m8 146 rfl) rfl
theorem q1941 : (Jvm.Cond.soleField "OrdinaryStalkModel" "mostMarks") ∈ lw_all := lw_g (lw_at lw_m8 147 rfl) rfl
theorem q1942 : (Jvm.Cond.laysFinal "OrdinaryStalkModel" "OrdinaryStalkModel" "cellIn" "[I") ∈ lw_all := lw_g (lw_at lw_m8 148 rfl) rfl
theorem q1943 : (Jvm.Cond.soleField "OrdinaryStalkModel" "cellIn") ∈ lw_all := lw_g (lw_at lw_m8 149 rfl) rfl
theorem q1944 : (Jvm.Cond.lays "OrdinaryStalkModel" "OrdinaryStalkModel" "unheard" "I") ∈ lw_all := lw_g (lw_at lw_m8 150 rfl) rfl
theorem q1945 : (Jvm.Cond.soleField "OrdinaryStalkModel" "unheard") ∈ lw_all := lw_g (lw_at lw_m8 151 rfl) rfl
theorem q1946 : (Jvm.Cond.laysFinal "OrdinaryStalkModel" "OrdinaryStalkModel" "stack" "[I") ∈ lw_all := lw_g (lw_at lw_m8 152 rfl) rfl
theorem q1947 : (Jvm.Cond.soleField "OrdinaryStalkModel" "stack") ∈ lw_all := lw_g (lw_at lw_m8 153 rfl) rfl
theorem q1948 : (Jvm.Cond.lays "OrdinaryStalkModel" "OrdinaryStalkModel" "g" "J") ∈ lw_all := lw_g (lw_at lw_m8 154 rfl) rfl
theorem q1949 : (Jvm.Cond.soleField "OrdinaryStalkModel" "g") ∈ lw_all := lw_g (lw_at lw_m8 155 rfl) rfl
theorem q1950 : (Jvm.Cond.superclass "OrdinaryStalkModel" "java/lang/Object") ∈ lw_all := lw_g (lw_at lw_m8 156 rfl) rfl
theorem q1952 : (Jvm.Cond.instanceMethod ({ cls := "OrdinaryStalkModel", name := "thrown", desc := "()I" } : Jvm.MethodName)) ∈ lw_all := lw_g (lw_at lw_m8 158 rfl) rfl
theorem q1953 : (Jvm.Cond.selects "OrdinaryStalkModel" ({ cls := "OrdinaryStalkModel", name := "thrown", desc := "()I" } : Jvm.MethodName) ({ cls := "OrdinaryStalkModel", name := "thrown", desc := "()I" } : Jvm.MethodName)) ∈ lw_all := lw_g (lw_at lw_m8 159 rfl) rfl
theorem q1954 : (Jvm.Cond.code ({ cls := "OrdinaryStalkModel", name := "thrown", desc := "()I" } : Jvm.MethodName) prog_33_method_2_code (1 : Nat) (Option.some Jvm.ClassFile.FieldType.int)) ∈ lw_all := lw_g (lw_at lw_m8 160 rfl) rfl
theorem q1956 : (Jvm.Cond.instanceMethod ({ cls := "OrdinaryStalkModel", name := "feed", desc := "(JJJ)I" } : Jvm.MethodName)) ∈ lw_all := lw_g (lw_at lw_m8 162 rfl) rfl
theorem q1957 : (Jvm.Cond.selects "OrdinaryStalkModel" ({ cls := "OrdinaryStalkModel", name := "feed", desc := "(JJJ)I" } : Jvm.MethodName) ({ cls := "OrdinaryStalkModel", name := "feed", desc := "(JJJ)I" } : Jvm.MethodName)) ∈ lw_all := lw_g (lw_at lw_m8 163 rfl) rfl
theorem q1958 : (Jvm.Cond.code ({ cls := "OrdinaryStalkModel", name := "feed", desc := "(JJJ)I" } : Jvm.MethodName) prog_33_method_5_code (11 : Nat) (Option.some Jvm.ClassFile.FieldType.int)) ∈ lw_all := lw_g (lw_at lw_m8 164 rfl) rfl
theorem q1959 : (Jvm.Cond.constantLong "OrdinaryStalkModel" (173 : Nat) (255 : Int64)) ∈ lw_all := lw_g (lw_at lw_m8 165 rfl) rfl
theorem q1961 : (Jvm.Cond.instanceMethod ({ cls := "OrdinaryStalkModel", name := "camp", desc := "()I" } : Jvm.MethodName)) ∈ lw_all := lw_g (lw_at lw_m8 167 rfl) rfl
theorem q1962 : (Jvm.Cond.selects "OrdinaryStalkModel" ({ cls := "OrdinaryStalkModel", name := "camp", desc := "()I" } : Jvm.MethodName) ({ cls := "OrdinaryStalkModel", name := "camp", desc := "()I" } : Jvm.MethodName)) ∈ lw_all := lw_g (lw_at lw_m8 168 rfl) rfl
theorem q1963 : (Jvm.Cond.code ({ cls := "OrdinaryStalkModel", name := "camp", desc := "()I" } : Jvm.MethodName) prog_33_method_45_code (2 : Nat) (Option.some Jvm.ClassFile.FieldType.int)) ∈ lw_all := lw_g (lw_at lw_m8 169 rfl) rfl
theorem q1964 : (Jvm.Cond.methodLink "OrdinaryStalkModel" (379 : Nat) ({ cls := "OrdinaryStalkModel", name := "readsAll", desc := "()Z" } : Jvm.MethodName)) ∈ lw_all := lw_g (lw_at lw_m8 170 rfl) rfl
theorem q1965 : (Jvm.Cond.privateMethod ({ cls := "OrdinaryStalkModel", name := "readsAll", desc := "()Z" } : Jvm.MethodName)) ∈ lw_tbl := lw_at lw_m8 171 rfl
theorem q1966 : (Jvm.Cond.instanceMethod ({ cls := "OrdinaryStalkModel", name := "readsAll", desc := "()Z" } : Jvm.MethodName)) ∈ lw_all := lw_g (lw_at lw_m8 172 rfl) rfl
theorem q1967 : (Jvm.Cond.code ({ cls := "OrdinaryStalkModel", name := "readsAll", desc := "()Z" } : Jvm.MethodName) prog_33_method_35_code (2 : Nat) (Option.some Jvm.ClassFile.FieldType.boolean)) ∈ lw_all := lw_g (lw_at lw_m8 173 rfl) rfl
theorem q1968 : (Jvm.Cond.methodLink "OrdinaryStalkModel" (341 : Nat) ({ cls := "OrdinaryStalkModel", name := "begins", desc := "()V" } : Jvm.MethodName)) ∈ lw_all := lw_g (lw_at lw_m8 174 rfl) rfl
theorem q1969 : (Jvm.Cond.privateMethod ({ cls := "OrdinaryStalkModel", name := "begins", desc := "()V" } : Jvm.MethodName)) ∈ lw_tbl := lw_at lw_m8 175 rfl
theorem q1970 : (Jvm.Cond.instanceMethod ({ cls := "OrdinaryStalkModel", name := "begins", desc := "()V" } : Jvm.MethodName)) ∈ lw_all := lw_g (lw_at lw_m8 176 rfl) rfl
theorem q1971 : (Jvm.Cond.code ({ cls := "OrdinaryStalkModel", name := "begins", desc := "()V" } : Jvm.MethodName) prog_33_method_34_code (1 : Nat) (Option.none : Option Jvm.ClassFile.FieldType)) ∈ lw_all := lw_g (lw_at lw_m8 177 rfl) rfl
theorem q1972 : (Jvm.Cond.methodLink "OrdinaryStalkModel" (241 : Nat) ({ cls := "OrdinaryStalkModel", name := "nextToken", desc := "()V" } : Jvm.MethodName)) ∈ lw_all := lw_g (lw_at lw_m8 178 rfl) rfl
theorem q1973 : (Jvm.Cond.privateMethod ({ cls := "OrdinaryStalkModel", name := "nextToken", desc := "()V" } : Jvm.MethodName)) ∈ lw_tbl := lw_at lw_m8 179 rfl
theorem q1974 : (Jvm.Cond.instanceMethod ({ cls := "OrdinaryStalkModel", name := "nextToken", desc := "()V" } : Jvm.MethodName)) ∈ lw_all := lw_g (lw_at lw_m8 180 rfl) rfl
theorem q1975 : (Jvm.Cond.code ({ cls := "OrdinaryStalkModel", name := "nextToken", desc := "()V" } : Jvm.MethodName) prog_33_method_7_code (2 : Nat) (Option.none : Option Jvm.ClassFile.FieldType)) ∈ lw_all := lw_g (lw_at lw_m8 181 rfl) rfl
theorem q1976 : (Jvm.Cond.methodLink "OrdinaryStalkModel" (197 : Nat) ({ cls := "OrdinaryStalkModel", name := "signAt", desc := "(I)I" } : Jvm.MethodName)) ∈ lw_all := lw_g (lw_at lw_m8 182 rfl) rfl
theorem q1977 : (Jvm.Cond.privateMethod ({ cls := "OrdinaryStalkModel", name := "signAt", desc := "(I)I" } : Jvm.MethodName)) ∈ lw_tbl := lw_at lw_m8 183 rfl
theorem q1978 : (Jvm.Cond.instanceMethod ({ cls := "OrdinaryStalkModel", name := "signAt", desc := "(I)I" } : Jvm.MethodName)) ∈ lw_all := lw_g (lw_at lw_m8 184 rfl) rfl
theorem q1979 : (Jvm.Cond.code ({ cls := "OrdinaryStalkModel", name := "signAt", desc := "(I)I" } : Jvm.MethodName) prog_33_method_6_code (2 : Nat) (Option.some Jvm.ClassFile.FieldType.int)) ∈ lw_all := lw_g (lw_at lw_m8 185 rfl) rfl
theorem q1980 : (Jvm.Cond.constantLong "OrdinaryStalkModel" (201 : Nat) (27 : Int64)) ∈ lw_all := lw_g (lw_at lw_m8 186 rfl) rfl
theorem q1981 : (Jvm.Cond.constantLong "OrdinaryStalkModel" (203 : Nat) (96 : Int64)) ∈ lw_all := lw_g (lw_at lw_m8 187 rfl) rfl
theorem q1982 : (Jvm.Cond.constantLong "OrdinaryStalkModel" (257 : Nat) (3369766 : Int64)) ∈ lw_all := lw_g (lw_at lw_m8 188 rfl) rfl
theorem q1983 : (Jvm.Cond.methodLink "OrdinaryStalkModel" (227 : Nat) ({ cls := "OrdinaryStalkModel", name := "isWord", desc := "(J)Z" } : Jvm.MethodName)) ∈ lw_all := lw_g (lw_at lw_m8 189 rfl) rfl
theorem q1984 : (Jvm.Cond.privateMethod ({ cls := "OrdinaryStalkModel", name := "isWord", desc := "(J)Z" } : Jvm.MethodName)) ∈ lw_tbl := lw_at lw_m8 190 rfl
theorem q1985 : (Jvm.Cond.instanceMethod ({ cls := "OrdinaryStalkModel", name := "isWord", desc := "(J)Z" } : Jvm.MethodName)) ∈ lw_all := lw_g (lw_at lw_m8 191 rfl) rfl
theorem q1986 : (Jvm.Cond.code ({ cls := "OrdinaryStalkModel", name := "isWord", desc := "(J)Z" } : Jvm.MethodName) prog_33_method_8_code (3 : Nat) (Option.some Jvm.ClassFile.FieldType.boolean)) ∈ lw_all := lw_g (lw_at lw_m8 192 rfl) rfl
theorem q1987 : (Jvm.Cond.methodLink "OrdinaryStalkModel" (344 : Nat) ({ cls := "OrdinaryStalkModel", name := "readsField", desc := "()Z" } : Jvm.MethodName)) ∈ lw_all := lw_g (lw_at lw_m8 193 rfl) rfl
theorem q1988 : (Jvm.Cond.privateMethod ({ cls := "OrdinaryStalkModel", name := "readsField", desc := "()Z" } : Jvm.MethodName)) ∈ lw_tbl := lw_at lw_m8 194 rfl
theorem q1989 : (Jvm.Cond.instanceMethod ({ cls := "OrdinaryStalkModel", name := "readsField", desc := "()Z" } : Jvm.MethodName)) ∈ lw_all := lw_g (lw_at lw_m8 195 rfl) rfl
theorem q1990 : (Jvm.Cond.code ({ cls := "OrdinaryStalkModel", name := "readsField", desc := "()Z" } : Jvm.MethodName) prog_33_method_28_code (1 : Nat) (Option.some Jvm.ClassFile.FieldType.boolean)) ∈ lw_all := lw_g (lw_at lw_m8 196 rfl) rfl
theorem q1991 : (Jvm.Cond.methodLink "OrdinaryStalkModel" (235 : Nat) ({ cls := "OrdinaryStalkModel", name := "fails", desc := "(I)Z" } : Jvm.MethodName)) ∈ lw_all := lw_g (lw_at lw_m8 197 rfl) rfl
theorem q1992 : (Jvm.Cond.privateMethod ({ cls := "OrdinaryStalkModel", name := "fails", desc := "(I)Z" } : Jvm.MethodName)) ∈ lw_tbl := lw_at lw_m8 198 rfl
theorem q1993 : (Jvm.Cond.instanceMethod ({ cls := "OrdinaryStalkModel", name := "fails", desc := "(I)Z" } : Jvm.MethodName)) ∈ lw_all := lw_g (lw_at lw_m8 199 rfl) rfl
theorem q1994 : (Jvm.Cond.code ({ cls := "OrdinaryStalkModel", name := "fails", desc := "(I)Z" } : Jvm.MethodName) prog_33_method_10_code (2 : Nat) (Option.some Jvm.ClassFile.FieldType.boolean)) ∈ lw_all := lw_g (lw_at lw_m8 200 rfl) rfl
theorem q1995 : (Jvm.Cond.methodLink "OrdinaryStalkModel" (306 : Nat) ({ cls := "OrdinaryStalkModel", name := "needsNumber", desc := "(II)Z" } : Jvm.MethodName)) ∈ lw_all := lw_g (lw_at lw_m8 201 rfl) rfl
theorem q1996 : (Jvm.Cond.privateMethod ({ cls := "OrdinaryStalkModel", name := "needsNumber", desc := "(II)Z" } : Jvm.MethodName)) ∈ lw_tbl := lw_at lw_m8 202 rfl
theorem q1997 : (Jvm.Cond.instanceMethod ({ cls := "OrdinaryStalkModel", name := "needsNumber", desc := "(II)Z" } : Jvm.MethodName)) ∈ lw_all := lw_g (lw_at lw_m8 203 rfl) rfl
theorem q1998 : (Jvm.Cond.code ({ cls := "OrdinaryStalkModel", name := "needsNumber", desc := "(II)Z" } : Jvm.MethodName) prog_33_method_22_code (3 : Nat) (Option.some Jvm.ClassFile.FieldType.boolean)) ∈ lw_all := lw_g (lw_at lw_m8 204 rfl) rfl
theorem q1999 : (Jvm.Cond.methodLink "OrdinaryStalkModel" (296 : Nat) ({ cls := "OrdinaryStalkModel", name := "within", desc := "(III)Z" } : Jvm.MethodName)) ∈ lw_all := lw_g (lw_at lw_m8 205 rfl) rfl
theorem q2000 : (Jvm.Cond.static ({ cls := "OrdinaryStalkModel", name := "within", desc := "(III)Z" } : Jvm.MethodName)) ∈ lw_all := lw_g (lw_at lw_m8 206 rfl) rfl
theorem q2001 : (Jvm.Cond.code ({ cls := "OrdinaryStalkModel", name := "within", desc := "(III)Z" } : Jvm.MethodName) prog_33_method_3_code (3 : Nat) (Option.some Jvm.ClassFile.FieldType.boolean)) ∈ lw_all := lw_g (lw_at lw_m8 207 rfl) rfl
theorem q2002 : (Jvm.Cond.constantLong "OrdinaryStalkModel" (259 : Nat) (79 : Int64)) ∈ lw_all := lw_g (lw_at lw_m8 208 rfl) rfl
theorem q2003 : (Jvm.Cond.methodLink "OrdinaryStalkModel" (324 : Nat) ({ cls := "OrdinaryStalkModel", name := "needsBoth", desc := "(JII)Z" } : Jvm.MethodName)) ∈ lw_all := lw_g (lw_at lw_m8 209 rfl) rfl
theorem q2004 : (Jvm.Cond.privateMethod ({ cls := "OrdinaryStalkModel", name := "needsBoth", desc := "(JII)Z" } : Jvm.MethodName)) ∈ lw_tbl := lw_at lw_m8 210 rfl
theorem q2005 : (Jvm.Cond.instanceMethod ({ cls := "OrdinaryStalkModel", name := "needsBoth", desc := "(JII)Z" } : Jvm.MethodName)) ∈ lw_all := lw_g (lw_at lw_m8 211 rfl) rfl
theorem q2006 : (Jvm.Cond.code ({ cls := "OrdinaryStalkModel", name := "needsBoth", desc := "(JII)Z" } : Jvm.MethodName) prog_33_method_24_code (5 : Nat) (Option.some Jvm.ClassFile.FieldType.boolean)) ∈ lw_all := lw_g (lw_at lw_m8 212 rfl) rfl
theorem q2007 : (Jvm.Cond.methodLink "OrdinaryStalkModel" (303 : Nat) ({ cls := "OrdinaryStalkModel", name := "needsWord", desc := "(J)Z" } : Jvm.MethodName)) ∈ lw_all := lw_g (lw_at lw_m8 213 rfl) rfl
theorem q2008 : (Jvm.Cond.privateMethod ({ cls := "OrdinaryStalkModel", name := "needsWord", desc := "(J)Z" } : Jvm.MethodName)) ∈ lw_tbl := lw_at lw_m8 214 rfl
theorem q2009 : (Jvm.Cond.instanceMethod ({ cls := "OrdinaryStalkModel", name := "needsWord", desc := "(J)Z" } : Jvm.MethodName)) ∈ lw_all := lw_g (lw_at lw_m8 215 rfl) rfl
theorem q2010 : (Jvm.Cond.code ({ cls := "OrdinaryStalkModel", name := "needsWord", desc := "(J)Z" } : Jvm.MethodName) prog_33_method_23_code (3 : Nat) (Option.some Jvm.ClassFile.FieldType.boolean)) ∈ lw_all := lw_g (lw_at lw_m8 216 rfl) rfl
theorem q2011 : (Jvm.Cond.methodLink "OrdinaryStalkModel" (328 : Nat) ({ cls := "OrdinaryStalkModel", name := "closes", desc := "()Z" } : Jvm.MethodName)) ∈ lw_all := lw_g (lw_at lw_m8 217 rfl) rfl
theorem q2012 : (Jvm.Cond.privateMethod ({ cls := "OrdinaryStalkModel", name := "closes", desc := "()Z" } : Jvm.MethodName)) ∈ lw_tbl := lw_at lw_m8 218 rfl
theorem q2013 : (Jvm.Cond.instanceMethod ({ cls := "OrdinaryStalkModel", name := "closes", desc := "()Z" } : Jvm.MethodName)) ∈ lw_all := lw_g (lw_at lw_m8 219 rfl) rfl
theorem q2014 : (Jvm.Cond.code ({ cls := "OrdinaryStalkModel", name := "closes", desc := "()Z" } : Jvm.MethodName) prog_33_method_25_code (1 : Nat) (Option.some Jvm.ClassFile.FieldType.boolean)) ∈ lw_all := lw_g (lw_at lw_m8 220 rfl) rfl
theorem q2015 : (Jvm.Cond.methodLink "OrdinaryStalkModel" (231 : Nat) ({ cls := "OrdinaryStalkModel", name := "isSign", desc := "(I)Z" } : Jvm.MethodName)) ∈ lw_all := lw_g (lw_at lw_m8 221 rfl) rfl
theorem q2016 : (Jvm.Cond.privateMethod ({ cls := "OrdinaryStalkModel", name := "isSign", desc := "(I)Z" } : Jvm.MethodName)) ∈ lw_tbl := lw_at lw_m8 222 rfl
theorem q2017 : (Jvm.Cond.instanceMethod ({ cls := "OrdinaryStalkModel", name := "isSign", desc := "(I)Z" } : Jvm.MethodName)) ∈ lw_all := lw_g (lw_at lw_m8 223 rfl) rfl
theorem q2018 : (Jvm.Cond.code ({ cls := "OrdinaryStalkModel", name := "isSign", desc := "(I)Z" } : Jvm.MethodName) prog_33_method_9_code (2 : Nat) (Option.some Jvm.ClassFile.FieldType.boolean)) ∈ lw_all := lw_g (lw_at lw_m8 224 rfl) rfl
theorem q2019 : (Jvm.Cond.constantLong "OrdinaryStalkModel" (261 : Nat) (55196 : Int64)) ∈ lw_all := lw_g (lw_at lw_m8 225 rfl) rfl
theorem q2020 : (Jvm.Cond.methodLink "OrdinaryStalkModel" (347 : Nat) ({ cls := "OrdinaryStalkModel", name := "readsBush", desc := "()Z" } : Jvm.MethodName)) ∈ lw_all := lw_g (lw_at lw_m8 226 rfl) rfl
theorem q2021 : (Jvm.Cond.privateMethod ({ cls := "OrdinaryStalkModel", name := "readsBush", desc := "()Z" } : Jvm.MethodName)) ∈ lw_tbl := lw_at lw_m8 227 rfl
theorem q2022 : (Jvm.Cond.instanceMethod ({ cls := "OrdinaryStalkModel", name := "readsBush", desc := "()Z" } : Jvm.MethodName)) ∈ lw_all := lw_g (lw_at lw_m8 228 rfl) rfl
theorem q2023 : (Jvm.Cond.code ({ cls := "OrdinaryStalkModel", name := "readsBush", desc := "()Z" } : Jvm.MethodName) prog_33_method_29_code (1 : Nat) (Option.some Jvm.ClassFile.FieldType.boolean)) ∈ lw_all := lw_g (lw_at lw_m8 229 rfl) rfl
theorem q2024 : (Jvm.Cond.constantLong "OrdinaryStalkModel" (263 : Nat) (232608281 : Int64)) ∈ lw_all := lw_g (lw_at lw_m8 230 rfl) rfl
theorem q2025 : (Jvm.Cond.methodLink "OrdinaryStalkModel" (350 : Nat) ({ cls := "OrdinaryStalkModel", name := "readsPerson", desc := "()Z" } : Jvm.MethodName)) ∈ lw_all := lw_g (lw_at lw_m8 231 rfl) rfl
theorem q2026 : (Jvm.Cond.privateMethod ({ cls := "OrdinaryStalkModel", name := "readsPerson", desc := "()Z" } : Jvm.MethodName)) ∈ lw_tbl := lw_at lw_m8 232 rfl
theorem q2027 : (Jvm.Cond.instanceMethod ({ cls := "OrdinaryStalkModel", name := "readsPerson", desc := "()Z" } : Jvm.MethodName)) ∈ lw_all := lw_g (lw_at lw_m8 233 rfl) rfl
theorem q2028 : (Jvm.Cond.code ({ cls := "OrdinaryStalkModel", name := "readsPerson", desc := "()Z" } : Jvm.MethodName) prog_33_method_30_code (2 : Nat) (Option.some Jvm.ClassFile.FieldType.boolean)) ∈ lw_all := lw_g (lw_at lw_m8 234 rfl) rfl
theorem q2029 : (Jvm.Cond.methodLink "OrdinaryStalkModel" (331 : Nat) ({ cls := "OrdinaryStalkModel", name := "needsNew", desc := "()Z" } : Jvm.MethodName)) ∈ lw_all := lw_g (lw_at lw_m8 235 rfl) rfl
theorem q2030 : (Jvm.Cond.privateMethod ({ cls := "OrdinaryStalkModel", name := "needsNew", desc := "()Z" } : Jvm.MethodName)) ∈ lw_tbl := lw_at lw_m8 236 rfl
theorem q2031 : (Jvm.Cond.instanceMethod ({ cls := "OrdinaryStalkModel", name := "needsNew", desc := "()Z" } : Jvm.MethodName)) ∈ lw_all := lw_g (lw_at lw_m8 237 rfl) rfl
theorem q2032 : (Jvm.Cond.code ({ cls := "OrdinaryStalkModel", name := "needsNew", desc := "()Z" } : Jvm.MethodName) prog_33_method_26_code (1 : Nat) (Option.some Jvm.ClassFile.FieldType.boolean)) ∈ lw_all := lw_g (lw_at lw_m8 238 rfl) rfl
theorem q2033 : (Jvm.Cond.methodLink "OrdinaryStalkModel" (310 : Nat) ({ cls := "OrdinaryStalkModel", name := "isKept", desc := "()Z" } : Jvm.MethodName)) ∈ lw_all := lw_g (lw_at lw_m8 239 rfl) rfl
theorem q2034 : (Jvm.Cond.privateMethod ({ cls := "OrdinaryStalkModel", name := "isKept", desc := "()Z" } : Jvm.MethodName)) ∈ lw_tbl := lw_at lw_m9 0 rfl
theorem q2035 : (Jvm.Cond.instanceMethod ({ cls := "OrdinaryStalkModel", name := "isKept", desc := "()Z" } : Jvm.MethodName)) ∈ lw_all := lw_g (lw_at lw_m9 1 rfl) rfl
theorem q2036 : (Jvm.Cond.code ({ cls := "OrdinaryStalkModel", name := "isKept", desc := "()Z" } : Jvm.MethodName) prog_33_method_19_code (1 : Nat) (Option.some Jvm.ClassFile.FieldType.boolean)) ∈ lw_all := lw_g (lw_at lw_m9 2 rfl) rfl
theorem q2037 : (Jvm.Cond.constantLong "OrdinaryStalkModel" (265 : Nat) (47 : Int64)) ∈ lw_all := lw_g (lw_at lw_m9 3 rfl) rfl
theorem q2038 : (Jvm.Cond.constantLong "OrdinaryStalkModel" (267 : Nat) (99649 : Int64)) ∈ lw_all := lw_g (lw_at lw_m9 4 rfl) rfl
theorem q2039 : (Jvm.Cond.constantLong "OrdinaryStalkModel" (269 : Nat) (6941854 : Int64)) ∈ lw_all := lw_g (lw_at lw_m9 5 rfl) rfl
theorem q2040 : (Jvm.Cond.constantLong "OrdinaryStalkModel" (271 : Nat) (12251890 : Int64)) ∈ lw_all := lw_g (lw_at lw_m9 6 rfl) rfl
theorem q2041 : (Jvm.Cond.constantLong "OrdinaryStalkModel" (273 : Nat) (10167950 : Int64)) ∈ lw_all := lw_g (lw_at lw_m9 7 rfl) rfl
theorem q2042 : (Jvm.Cond.constantLong "OrdinaryStalkModel" (275 : Nat) (459652 : Int64)) ∈ lw_all := lw_g (lw_at lw_m9 8 rfl) rfl
theorem q2043 : (Jvm.Cond.constantLong "OrdinaryStalkModel" (277 : Nat) (4351177 : Int64)) ∈ lw_all := lw_g (lw_at lw_m9 9 rfl) rfl
theorem q2044 : (Jvm.Cond.constantLong "OrdinaryStalkModel" (279 : Nat) (1952413 : Int64)) ∈ lw_all := lw_g (lw_at lw_m9 10 rfl) rfl
theorem q2045 : (Jvm.Cond.constantLong "OrdinaryStalkModel" (281 : Nat) (11103 : Int64)) ∈ lw_all := lw_g (lw_at lw_m9 11 rfl) rfl
theorem q2046 : (Jvm.Cond.constantLong "OrdinaryStalkModel" (283 : Nat) (388708 : Int64)) ∈ lw_all := lw_g (lw_at lw_m9 12 rfl) rfl
theorem q2047 : (Jvm.Cond.constantLong "OrdinaryStalkModel" (285 : Nat) (8740238 : Int64)) ∈ lw_all := lw_g (lw_at lw_m9 13 rfl) rfl
theorem q2048 : (Jvm.Cond.constantLong "OrdinaryStalkModel" (287 : Nat) (6424461986 : Int64)) ∈ lw_all := lw_g (lw_at lw_m9 14 rfl) rfl
theorem q2049 : (Jvm.Cond.constantLong "OrdinaryStalkModel" (289 : Nat) (388591 : Int64)) ∈ lw_all := lw_g (lw_at lw_m9 15 rfl) rfl
theorem q2050 : (Jvm.Cond.constantLong "OrdinaryStalkModel" (291 : Nat) (1834661 : Int64)) ∈ lw_all := lw_g (lw_at lw_m9 16 rfl) rfl
theorem q2051 : (Jvm.Cond.constantLong "OrdinaryStalkModel" (225 : Nat) (10631 : Int64)) ∈ lw_all := lw_g (lw_at lw_m9 17 rfl) rfl
theorem q2052 : (Jvm.Cond.constantLong "OrdinaryStalkModel" (244 : Nat) (1111 : Int64)) ∈ lw_all := lw_g (lw_at lw_m9 18 rfl) rfl
theorem q2053 : (Jvm.Cond.constantLong "OrdinaryStalkModel" (246 : Nat) (423 : Int64)) ∈ lw_all := lw_g (lw_at lw_m9 19 rfl) rfl
theorem q2054 : (Jvm.Cond.methodLink "OrdinaryStalkModel" (314 : Nat) ({ cls := "OrdinaryStalkModel", name := "isTaken", desc := "()Z" } : Jvm.MethodName)) ∈ lw_all := lw_g (lw_at lw_m9 20 rfl) rfl
theorem q2055 : (Jvm.Cond.privateMethod ({ cls := "OrdinaryStalkModel", name := "isTaken", desc := "()Z" } : Jvm.MethodName)) ∈ lw_tbl := lw_at lw_m9 21 rfl
theorem q2056 : (Jvm.Cond.instanceMethod ({ cls := "OrdinaryStalkModel", name := "isTaken", desc := "()Z" } : Jvm.MethodName)) ∈ lw_all := lw_g (lw_at lw_m9 22 rfl) rfl
theorem q2057 : (Jvm.Cond.code ({ cls := "OrdinaryStalkModel", name := "isTaken", desc := "()Z" } : Jvm.MethodName) prog_33_method_21_code (2 : Nat) (Option.some Jvm.ClassFile.FieldType.boolean)) ∈ lw_all := lw_g (lw_at lw_m9 23 rfl) rfl
theorem q2058 : (Jvm.Cond.methodLink "OrdinaryStalkModel" (293 : Nat) ({ cls := "OrdinaryStalkModel", name := "scoutNamed", desc := "(I)I" } : Jvm.MethodName)) ∈ lw_all := lw_g (lw_at lw_m9 24 rfl) rfl
theorem q2059 : (Jvm.Cond.privateMethod ({ cls := "OrdinaryStalkModel", name := "scoutNamed", desc := "(I)I" } : Jvm.MethodName)) ∈ lw_tbl := lw_at lw_m9 25 rfl
theorem q2060 : (Jvm.Cond.instanceMethod ({ cls := "OrdinaryStalkModel", name := "scoutNamed", desc := "(I)I" } : Jvm.MethodName)) ∈ lw_all := lw_g (lw_at lw_m9 26 rfl) rfl
theorem q2061 : (Jvm.Cond.code ({ cls := "OrdinaryStalkModel", name := "scoutNamed", desc := "(I)I" } : Jvm.MethodName) prog_33_method_20_code (3 : Nat) (Option.some Jvm.ClassFile.FieldType.int)) ∈ lw_all := lw_g (lw_at lw_m9 27 rfl) rfl
theorem q2062 : (Jvm.Cond.methodLink "OrdinaryStalkModel" (334 : Nat) ({ cls := "OrdinaryStalkModel", name := "numbersInto", desc := "([IIII)I" } : Jvm.MethodName)) ∈ lw_all := lw_g (lw_at lw_m9 28 rfl) rfl
theorem q2063 : (Jvm.Cond.privateMethod ({ cls := "OrdinaryStalkModel", name := "numbersInto", desc := "([IIII)I" } : Jvm.MethodName)) ∈ lw_tbl := lw_at lw_m9 29 rfl
theorem q2064 : (Jvm.Cond.instanceMethod ({ cls := "OrdinaryStalkModel", name := "numbersInto", desc := "([IIII)I" } : Jvm.MethodName)) ∈ lw_all := lw_g (lw_at lw_m9 30 rfl) rfl
theorem q2065 : (Jvm.Cond.code ({ cls := "OrdinaryStalkModel", name := "numbersInto", desc := "([IIII)I" } : Jvm.MethodName) prog_33_method_27_code (6 : Nat) (Option.some Jvm.ClassFile.FieldType.int)) ∈ lw_all := lw_g (lw_at lw_m9 31 rfl) rfl
theorem q2066 : (Jvm.Cond.methodLink "OrdinaryStalkModel" (353 : Nat) ({ cls := "OrdinaryStalkModel", name := "readsScout", desc := "()Z" } : Jvm.MethodName)) ∈ lw_all := lw_g (lw_at lw_m9 32 rfl) rfl
theorem q2067 : (Jvm.Cond.privateMethod ({ cls := "OrdinaryStalkModel", name := "readsScout", desc := "()Z" } : Jvm.MethodName)) ∈ lw_tbl := lw_at lw_m9 33 rfl
theorem q2068 : (Jvm.Cond.instanceMethod ({ cls := "OrdinaryStalkModel", name := "readsScout", desc := "()Z" } : Jvm.MethodName)) ∈ lw_all := lw_g (lw_at lw_m9 34 rfl) rfl
theorem q2069 : (Jvm.Cond.code ({ cls := "OrdinaryStalkModel", name := "readsScout", desc := "()Z" } : Jvm.MethodName) prog_33_method_31_code (2 : Nat) (Option.some Jvm.ClassFile.FieldType.boolean)) ∈ lw_all := lw_g (lw_at lw_m9 35 rfl) rfl
theorem q2070 : (Jvm.Cond.methodLink "OrdinaryStalkModel" (356 : Nat) ({ cls := "OrdinaryStalkModel", name := "readsWind", desc := "()Z" } : Jvm.MethodName)) ∈ lw_all := lw_g (lw_at lw_m9 36 rfl) rfl
theorem q2071 : (Jvm.Cond.privateMethod ({ cls := "OrdinaryStalkModel", name := "readsWind", desc := "()Z" } : Jvm.MethodName)) ∈ lw_tbl := lw_at lw_m9 37 rfl
theorem q2072 : (Jvm.Cond.instanceMethod ({ cls := "OrdinaryStalkModel", name := "readsWind", desc := "()Z" } : Jvm.MethodName)) ∈ lw_all := lw_g (lw_at lw_m9 38 rfl) rfl
theorem q2073 : (Jvm.Cond.code ({ cls := "OrdinaryStalkModel", name := "readsWind", desc := "()Z" } : Jvm.MethodName) prog_33_method_32_code (2 : Nat) (Option.some Jvm.ClassFile.FieldType.boolean)) ∈ lw_all := lw_g (lw_at lw_m9 39 rfl) rfl
theorem q2074 : (Jvm.Cond.methodLink "OrdinaryStalkModel" (359 : Nat) ({ cls := "OrdinaryStalkModel", name := "readsHears", desc := "()Z" } : Jvm.MethodName)) ∈ lw_all := lw_g (lw_at lw_m9 40 rfl) rfl
theorem q2075 : (Jvm.Cond.privateMethod ({ cls := "OrdinaryStalkModel", name := "readsHears", desc := "()Z" } : Jvm.MethodName)) ∈ lw_tbl := lw_at lw_m9 41 rfl
theorem q2076 : (Jvm.Cond.instanceMethod ({ cls := "OrdinaryStalkModel", name := "readsHears", desc := "()Z" } : Jvm.MethodName)) ∈ lw_all := lw_g (lw_at lw_m9 42 rfl) rfl
theorem q2077 : (Jvm.Cond.code ({ cls := "OrdinaryStalkModel", name := "readsHears", desc := "()Z" } : Jvm.MethodName) prog_33_method_33_code (1 : Nat) (Option.some Jvm.ClassFile.FieldType.boolean)) ∈ lw_all := lw_g (lw_at lw_m9 43 rfl) rfl
theorem q2078 : (Jvm.Cond.methodLink "OrdinaryStalkModel" (338 : Nat) ({ cls := "OrdinaryStalkModel", name := "reads", desc := "()Z" } : Jvm.MethodName)) ∈ lw_all := lw_g (lw_at lw_m9 44 rfl) rfl
theorem q2079 : (Jvm.Cond.privateMethod ({ cls := "OrdinaryStalkModel", name := "reads", desc := "()Z" } : Jvm.MethodName)) ∈ lw_tbl := lw_at lw_m9 45 rfl
theorem q2080 : (Jvm.Cond.instanceMethod ({ cls := "OrdinaryStalkModel", name := "reads", desc := "()Z" } : Jvm.MethodName)) ∈ lw_all := lw_g (lw_at lw_m9 46 rfl) rfl
theorem q2081 : (Jvm.Cond.code ({ cls := "OrdinaryStalkModel", name := "reads", desc := "()Z" } : Jvm.MethodName) prog_33_method_14_code (6 : Nat) (Option.some Jvm.ClassFile.FieldType.boolean)) ∈ lw_all := lw_g (lw_at lw_m9 47 rfl) rfl
theorem q2082 : (Jvm.Cond.methodLink "OrdinaryStalkModel" (221 : Nat) ({ cls := "OrdinaryStalkModel", name := "fact", desc := "()I" } : Jvm.MethodName)) ∈ lw_all := lw_g (lw_at lw_m9 48 rfl) rfl
theorem q2083 : (Jvm.Cond.privateMethod ({ cls := "OrdinaryStalkModel", name := "fact", desc := "()I" } : Jvm.MethodName)) ∈ lw_tbl := lw_at lw_m9 49 rfl
theorem q2084 : (Jvm.Cond.instanceMethod ({ cls := "OrdinaryStalkModel", name := "fact", desc := "()I" } : Jvm.MethodName)) ∈ lw_all := lw_g (lw_at lw_m9 50 rfl) rfl
theorem q2085 : (Jvm.Cond.code ({ cls := "OrdinaryStalkModel", name := "fact", desc := "()I" } : Jvm.MethodName) prog_33_method_13_code (1 : Nat) (Option.some Jvm.ClassFile.FieldType.int)) ∈ lw_all := lw_g (lw_at lw_m9 51 rfl) rfl
theorem q2086 : (Jvm.Cond.constantLong "OrdinaryStalkModel" (211 : Nat) (4419 : Int64)) ∈ lw_all := lw_g (lw_at lw_m9 52 rfl) rfl
theorem q2087 : (Jvm.Cond.constantLong "OrdinaryStalkModel" (213 : Nat) (119656022 : Int64)) ∈ lw_all := lw_g (lw_at lw_m9 53 rfl) rfl
theorem q2088 : (Jvm.Cond.constantLong "OrdinaryStalkModel" (215 : Nat) (10497936 : Int64)) ∈ lw_all := lw_g (lw_at lw_m9 54 rfl) rfl
theorem q2089 : (Jvm.Cond.constantLong "OrdinaryStalkModel" (217 : Nat) (310289755 : Int64)) ∈ lw_all := lw_g (lw_at lw_m9 55 rfl) rfl
theorem q2090 : (Jvm.Cond.constantLong "OrdinaryStalkModel" (219 : Nat) (3690 : Int64)) ∈ lw_all := lw_g (lw_at lw_m9 56 rfl) rfl
theorem q2091 : (Jvm.Cond.methodLink "OrdinaryStalkModel" (238 : Nat) ({ cls := "OrdinaryStalkModel", name := "puts", desc := "(I)V" } : Jvm.MethodName)) ∈ lw_all := lw_g (lw_at lw_m9 57 rfl) rfl
theorem q2092 : (Jvm.Cond.privateMethod ({ cls := "OrdinaryStalkModel", name := "puts", desc := "(I)V" } : Jvm.MethodName)) ∈ lw_tbl := lw_at lw_m9 58 rfl
theorem q2093 : (Jvm.Cond.instanceMethod ({ cls := "OrdinaryStalkModel", name := "puts", desc := "(I)V" } : Jvm.MethodName)) ∈ lw_all := lw_g (lw_at lw_m9 59 rfl) rfl
theorem q2094 : (Jvm.Cond.code ({ cls := "OrdinaryStalkModel", name := "puts", desc := "(I)V" } : Jvm.MethodName) prog_33_method_12_code (2 : Nat) (Option.none : Option Jvm.ClassFile.FieldType)) ∈ lw_all := lw_g (lw_at lw_m9 60 rfl) rfl
theorem q2095 : (Jvm.Cond.methodLink "OrdinaryStalkModel" (382 : Nat) ({ cls := "OrdinaryStalkModel", name := "lays", desc := "()V" } : Jvm.MethodName)) ∈ lw_all := lw_g (lw_at lw_m9 61 rfl) rfl
theorem q2096 : (Jvm.Cond.privateMethod ({ cls := "OrdinaryStalkModel", name := "lays", desc := "()V" } : Jvm.MethodName)) ∈ lw_tbl := lw_at lw_m9 62 rfl
theorem q2097 : (Jvm.Cond.instanceMethod ({ cls := "OrdinaryStalkModel", name := "lays", desc := "()V" } : Jvm.MethodName)) ∈ lw_all := lw_g (lw_at lw_m9 63 rfl) rfl
theorem q2098 : (Jvm.Cond.code ({ cls := "OrdinaryStalkModel", name := "lays", desc := "()V" } : Jvm.MethodName) prog_33_method_38_code (1 : Nat) (Option.none : Option Jvm.ClassFile.FieldType)) ∈ lw_all := lw_g (lw_at lw_m9 64 rfl) rfl
theorem q2099 : (Jvm.Cond.methodLink "OrdinaryStalkModel" (362 : Nat) ({ cls := "OrdinaryStalkModel", name := "shifts", desc := "([II)V" } : Jvm.MethodName)) ∈ lw_all := lw_g (lw_at lw_m9 65 rfl) rfl
theorem q2100 : (Jvm.Cond.static ({ cls := "OrdinaryStalkModel", name := "shifts", desc := "([II)V" } : Jvm.MethodName)) ∈ lw_all := lw_g (lw_at lw_m9 66 rfl) rfl
theorem q2101 : (Jvm.Cond.code ({ cls := "OrdinaryStalkModel", name := "shifts", desc := "([II)V" } : Jvm.MethodName) prog_33_method_36_code (3 : Nat) (Option.none : Option Jvm.ClassFile.FieldType)) ∈ lw_all := lw_g (lw_at lw_m9 67 rfl) rfl
theorem q2102 : (Jvm.Cond.methodLink "OrdinaryStalkModel" (366 : Nat) ({ cls := "OrdinaryStalkModel", name := "shiftsNames", desc := "([JI)V" } : Jvm.MethodName)) ∈ lw_all := lw_g (lw_at lw_m9 68 rfl) rfl
theorem q2103 : (Jvm.Cond.static ({ cls := "OrdinaryStalkModel", name := "shiftsNames", desc := "([JI)V" } : Jvm.MethodName)) ∈ lw_all := lw_g (lw_at lw_m9 69 rfl) rfl
theorem q2104 : (Jvm.Cond.code ({ cls := "OrdinaryStalkModel", name := "shiftsNames", desc := "([JI)V" } : Jvm.MethodName) prog_33_method_37_code (3 : Nat) (Option.none : Option Jvm.ClassFile.FieldType)) ∈ lw_all := lw_g (lw_at lw_m9 70 rfl) rfl
theorem q2105 : (Jvm.Cond.methodLink "OrdinaryStalkModel" (385 : Nat) ({ cls := "OrdinaryStalkModel", name := "fresh0", desc := "()V" } : Jvm.MethodName)) ∈ lw_all := lw_g (lw_at lw_m9 71 rfl) rfl
theorem q2106 : (Jvm.Cond.privateMethod ({ cls := "OrdinaryStalkModel", name := "fresh0", desc := "()V" } : Jvm.MethodName)) ∈ lw_tbl := lw_at lw_m9 72 rfl
theorem q2107 : (Jvm.Cond.instanceMethod ({ cls := "OrdinaryStalkModel", name := "fresh0", desc := "()V" } : Jvm.MethodName)) ∈ lw_all := lw_g (lw_at lw_m9 73 rfl) rfl
theorem q2108 : (Jvm.Cond.code ({ cls := "OrdinaryStalkModel", name := "fresh0", desc := "()V" } : Jvm.MethodName) prog_33_method_44_code (2 : Nat) (Option.none : Option Jvm.ClassFile.FieldType)) ∈ lw_all := lw_g (lw_at lw_m9 74 rfl) rfl
theorem q2109 : (Jvm.Cond.methodLink "OrdinaryStalkModel" (370 : Nat) ({ cls := "OrdinaryStalkModel", name := "cells", desc := "()I" } : Jvm.MethodName)) ∈ lw_all := lw_g (lw_at lw_m9 75 rfl) rfl
theorem q2110 : (Jvm.Cond.privateMethod ({ cls := "OrdinaryStalkModel", name := "cells", desc := "()I" } : Jvm.MethodName)) ∈ lw_tbl := lw_at lw_m9 76 rfl
theorem q2111 : (Jvm.Cond.instanceMethod ({ cls := "OrdinaryStalkModel", name := "cells", desc := "()I" } : Jvm.MethodName)) ∈ lw_all := lw_g (lw_at lw_m9 77 rfl) rfl
theorem q2112 : (Jvm.Cond.code ({ cls := "OrdinaryStalkModel", name := "cells", desc := "()I" } : Jvm.MethodName) prog_33_method_43_code (1 : Nat) (Option.some Jvm.ClassFile.FieldType.int)) ∈ lw_all := lw_g (lw_at lw_m9 78 rfl) rfl
theorem q2113 : (Jvm.Cond.methodLink "OrdinaryStalkModel" (373 : Nat) ({ cls := "java/lang/Math", name := "min", desc := "(II)I" } : Jvm.MethodName)) ∈ lw_all := lw_g (lw_at lw_m9 79 rfl) rfl
theorem q2115 : (Jvm.Cond.instanceMethod ({ cls := "OrdinaryStalkModel", name := "day", desc := "()I" } : Jvm.MethodName)) ∈ lw_all := lw_g (lw_at lw_m9 81 rfl) rfl
theorem q2116 : (Jvm.Cond.selects "OrdinaryStalkModel" ({ cls := "OrdinaryStalkModel", name := "day", desc := "()I" } : Jvm.MethodName) ({ cls := "OrdinaryStalkModel", name := "day", desc := "()I" } : Jvm.MethodName)) ∈ lw_all := lw_g (lw_at lw_m9 82 rfl) rfl
theorem q2117 : (Jvm.Cond.code ({ cls := "OrdinaryStalkModel", name := "day", desc := "()I" } : Jvm.MethodName) prog_33_method_46_code (1 : Nat) (Option.some Jvm.ClassFile.FieldType.int)) ∈ lw_all := lw_g (lw_at lw_m9 83 rfl) rfl
theorem q2118 : (Jvm.Cond.methodLink "OrdinaryStalkModel" (391 : Nat) ({ cls := "OrdinaryStalkModel", name := "readsLine", desc := "()Z" } : Jvm.MethodName)) ∈ lw_all := lw_g (lw_at lw_m9 84 rfl) rfl
theorem q2119 : (Jvm.Cond.privateMethod ({ cls := "OrdinaryStalkModel", name := "readsLine", desc := "()Z" } : Jvm.MethodName)) ∈ lw_tbl := lw_at lw_m9 85 rfl
theorem q2120 : (Jvm.Cond.instanceMethod ({ cls := "OrdinaryStalkModel", name := "readsLine", desc := "()Z" } : Jvm.MethodName)) ∈ lw_all := lw_g (lw_at lw_m9 86 rfl) rfl
theorem q2121 : (Jvm.Cond.code ({ cls := "OrdinaryStalkModel", name := "readsLine", desc := "()Z" } : Jvm.MethodName) prog_33_method_40_code (3 : Nat) (Option.some Jvm.ClassFile.FieldType.boolean)) ∈ lw_all := lw_g (lw_at lw_m9 87 rfl) rfl
theorem q2122 : (Jvm.Cond.methodLink "OrdinaryStalkModel" (394 : Nat) ({ cls := "OrdinaryStalkModel", name := "laysLines", desc := "(II)V" } : Jvm.MethodName)) ∈ lw_all := lw_g (lw_at lw_m9 88 rfl) rfl
theorem q2123 : (Jvm.Cond.privateMethod ({ cls := "OrdinaryStalkModel", name := "laysLines", desc := "(II)V" } : Jvm.MethodName)) ∈ lw_tbl := lw_at lw_m9 89 rfl
theorem q2124 : (Jvm.Cond.instanceMethod ({ cls := "OrdinaryStalkModel", name := "laysLines", desc := "(II)V" } : Jvm.MethodName)) ∈ lw_all := lw_g (lw_at lw_m9 90 rfl) rfl
theorem q2125 : (Jvm.Cond.code ({ cls := "OrdinaryStalkModel", name := "laysLines", desc := "(II)V" } : Jvm.MethodName) prog_33_method_41_code (4 : Nat) (Option.none : Option Jvm.ClassFile.FieldType)) ∈ lw_all := lw_g (lw_at lw_m9 91 rfl) rfl
theorem q2127 : (Jvm.Cond.instanceMethod ({ cls := "OrdinaryStalkModel", name := "person", desc := "(II)I" } : Jvm.MethodName)) ∈ lw_all := lw_g (lw_at lw_m9 93 rfl) rfl
theorem q2128 : (Jvm.Cond.selects "OrdinaryStalkModel" ({ cls := "OrdinaryStalkModel", name := "person", desc := "(II)I" } : Jvm.MethodName) ({ cls := "OrdinaryStalkModel", name := "person", desc := "(II)I" } : Jvm.MethodName)) ∈ lw_all := lw_g (lw_at lw_m9 94 rfl) rfl
theorem q2129 : (Jvm.Cond.code ({ cls := "OrdinaryStalkModel", name := "person", desc := "(II)I" } : Jvm.MethodName) prog_33_method_63_code (3 : Nat) (Option.some Jvm.ClassFile.FieldType.int)) ∈ lw_all := lw_g (lw_at lw_m9 95 rfl) rfl
theorem q2130 : (Jvm.Cond.methodLink "OrdinaryStalkModel" (439 : Nat) ({ cls := "OrdinaryStalkModel", name := "isPerson", desc := "(I)Z" } : Jvm.MethodName)) ∈ lw_all := lw_g (lw_at lw_m9 96 rfl) rfl
theorem q2131 : (Jvm.Cond.privateMethod ({ cls := "OrdinaryStalkModel", name := "isPerson", desc := "(I)Z" } : Jvm.MethodName)) ∈ lw_tbl := lw_at lw_m9 97 rfl
theorem q2132 : (Jvm.Cond.instanceMethod ({ cls := "OrdinaryStalkModel", name := "isPerson", desc := "(I)Z" } : Jvm.MethodName)) ∈ lw_all := lw_g (lw_at lw_m9 98 rfl) rfl
theorem q2133 : (Jvm.Cond.code ({ cls := "OrdinaryStalkModel", name := "isPerson", desc := "(I)Z" } : Jvm.MethodName) prog_33_method_47_code (2 : Nat) (Option.some Jvm.ClassFile.FieldType.boolean)) ∈ lw_all := lw_g (lw_at lw_m9 99 rfl) rfl
theorem q2134 : (Jvm.Cond.methodLink "OrdinaryStalkModel" (419 : Nat) ({ cls := "OrdinaryStalkModel", name := "isUsual", desc := "(I)Z" } : Jvm.MethodName)) ∈ lw_all := lw_g (lw_at lw_m9 100 rfl) rfl
theorem q2135 : (Jvm.Cond.privateMethod ({ cls := "OrdinaryStalkModel", name := "isUsual", desc := "(I)Z" } : Jvm.MethodName)) ∈ lw_tbl := lw_at lw_m9 101 rfl
theorem q2136 : (Jvm.Cond.instanceMethod ({ cls := "OrdinaryStalkModel", name := "isUsual", desc := "(I)Z" } : Jvm.MethodName)) ∈ lw_all := lw_g (lw_at lw_m9 102 rfl) rfl
theorem q2137 : (Jvm.Cond.code ({ cls := "OrdinaryStalkModel", name := "isUsual", desc := "(I)Z" } : Jvm.MethodName) prog_33_method_52_code (2 : Nat) (Option.some Jvm.ClassFile.FieldType.boolean)) ∈ lw_all := lw_g (lw_at lw_m9 103 rfl) rfl
theorem q2139 : (Jvm.Cond.instanceMethod ({ cls := "OrdinaryStalkModel", name := "scout", desc := "(II)I" } : Jvm.MethodName)) ∈ lw_all := lw_g (lw_at lw_m9 105 rfl) rfl
theorem q2140 : (Jvm.Cond.selects "OrdinaryStalkModel" ({ cls := "OrdinaryStalkModel", name := "scout", desc := "(II)I" } : Jvm.MethodName) ({ cls := "OrdinaryStalkModel", name := "scout", desc := "(II)I" } : Jvm.MethodName)) ∈ lw_all := lw_g (lw_at lw_m9 106 rfl) rfl
theorem q2141 : (Jvm.Cond.code ({ cls := "OrdinaryStalkModel", name := "scout", desc := "(II)I" } : Jvm.MethodName) prog_33_method_64_code (3 : Nat) (Option.some Jvm.ClassFile.FieldType.int)) ∈ lw_all := lw_g (lw_at lw_m9 107 rfl) rfl
theorem q2142 : (Jvm.Cond.methodLink "OrdinaryStalkModel" (442 : Nat) ({ cls := "OrdinaryStalkModel", name := "isScout", desc := "(I)Z" } : Jvm.MethodName)) ∈ lw_all := lw_g (lw_at lw_m9 108 rfl) rfl
theorem q2143 : (Jvm.Cond.privateMethod ({ cls := "OrdinaryStalkModel", name := "isScout", desc := "(I)Z" } : Jvm.MethodName)) ∈ lw_tbl := lw_at lw_m9 109 rfl
theorem q2144 : (Jvm.Cond.instanceMethod ({ cls := "OrdinaryStalkModel", name := "isScout", desc := "(I)Z" } : Jvm.MethodName)) ∈ lw_all := lw_g (lw_at lw_m9 110 rfl) rfl
theorem q2145 : (Jvm.Cond.code ({ cls := "OrdinaryStalkModel", name := "isScout", desc := "(I)Z" } : Jvm.MethodName) prog_33_method_48_code (2 : Nat) (Option.some Jvm.ClassFile.FieldType.boolean)) ∈ lw_all := lw_g (lw_at lw_m9 111 rfl) rfl
theorem q2146 : (Jvm.Cond.methodLink "OrdinaryStalkModel" (407 : Nat) ({ cls := "OrdinaryStalkModel", name := "isBush", desc := "(I)Z" } : Jvm.MethodName)) ∈ lw_all := lw_g (lw_at lw_m9 112 rfl) rfl
theorem q2147 : (Jvm.Cond.privateMethod ({ cls := "OrdinaryStalkModel", name := "isBush", desc := "(I)Z" } : Jvm.MethodName)) ∈ lw_tbl := lw_at lw_m9 113 rfl
theorem q2148 : (Jvm.Cond.instanceMethod ({ cls := "OrdinaryStalkModel", name := "isBush", desc := "(I)Z" } : Jvm.MethodName)) ∈ lw_all := lw_g (lw_at lw_m9 114 rfl) rfl
theorem q2149 : (Jvm.Cond.code ({ cls := "OrdinaryStalkModel", name := "isBush", desc := "(I)Z" } : Jvm.MethodName) prog_33_method_51_code (2 : Nat) (Option.some Jvm.ClassFile.FieldType.boolean)) ∈ lw_all := lw_g (lw_at lw_m9 115 rfl) rfl
theorem q2151 : (Jvm.Cond.instanceMethod ({ cls := "OrdinaryStalkModel", name := "creep", desc := "(II)I" } : Jvm.MethodName)) ∈ lw_all := lw_g (lw_at lw_m9 117 rfl) rfl
theorem q2152 : (Jvm.Cond.selects "OrdinaryStalkModel" ({ cls := "OrdinaryStalkModel", name := "creep", desc := "(II)I" } : Jvm.MethodName) ({ cls := "OrdinaryStalkModel", name := "creep", desc := "(II)I" } : Jvm.MethodName)) ∈ lw_all := lw_g (lw_at lw_m9 118 rfl) rfl
theorem q2153 : (Jvm.Cond.code ({ cls := "OrdinaryStalkModel", name := "creep", desc := "(II)I" } : Jvm.MethodName) prog_33_method_66_code (3 : Nat) (Option.some Jvm.ClassFile.FieldType.int)) ∈ lw_all := lw_g (lw_at lw_m9 119 rfl) rfl
theorem q2154 : (Jvm.Cond.methodLink "OrdinaryStalkModel" (449 : Nat) ({ cls := "OrdinaryStalkModel", name := "canCreep", desc := "(II)Z" } : Jvm.MethodName)) ∈ lw_all := lw_g (lw_at lw_m9 120 rfl) rfl
theorem q2155 : (Jvm.Cond.privateMethod ({ cls := "OrdinaryStalkModel", name := "canCreep", desc := "(II)Z" } : Jvm.MethodName)) ∈ lw_tbl := lw_at lw_m9 121 rfl
theorem q2156 : (Jvm.Cond.instanceMethod ({ cls := "OrdinaryStalkModel", name := "canCreep", desc := "(II)Z" } : Jvm.MethodName)) ∈ lw_all := lw_g (lw_at lw_m9 122 rfl) rfl
theorem q2157 : (Jvm.Cond.code ({ cls := "OrdinaryStalkModel", name := "canCreep", desc := "(II)Z" } : Jvm.MethodName) prog_33_method_61_code (3 : Nat) (Option.some Jvm.ClassFile.FieldType.boolean)) ∈ lw_all := lw_g (lw_at lw_m9 123 rfl) rfl
theorem q2158 : (Jvm.Cond.methodLink "OrdinaryStalkModel" (426 : Nat) ({ cls := "OrdinaryStalkModel", name := "isOff", desc := "(I)Z" } : Jvm.MethodName)) ∈ lw_all := lw_g (lw_at lw_m9 124 rfl) rfl
theorem q2159 : (Jvm.Cond.privateMethod ({ cls := "OrdinaryStalkModel", name := "isOff", desc := "(I)Z" } : Jvm.MethodName)) ∈ lw_tbl := lw_at lw_m9 125 rfl
theorem q2160 : (Jvm.Cond.instanceMethod ({ cls := "OrdinaryStalkModel", name := "isOff", desc := "(I)Z" } : Jvm.MethodName)) ∈ lw_all := lw_g (lw_at lw_m9 126 rfl) rfl
theorem q2161 : (Jvm.Cond.code ({ cls := "OrdinaryStalkModel", name := "isOff", desc := "(I)Z" } : Jvm.MethodName) prog_33_method_53_code (2 : Nat) (Option.some Jvm.ClassFile.FieldType.boolean)) ∈ lw_all := lw_g (lw_at lw_m9 127 rfl) rfl
theorem q2162 : (Jvm.Cond.methodLink "OrdinaryStalkModel" (429 : Nat) ({ cls := "OrdinaryStalkModel", name := "hasCrept", desc := "(I)Z" } : Jvm.MethodName)) ∈ lw_all := lw_g (lw_at lw_m9 128 rfl) rfl
theorem q2163 : (Jvm.Cond.privateMethod ({ cls := "OrdinaryStalkModel", name := "hasCrept", desc := "(I)Z" } : Jvm.MethodName)) ∈ lw_tbl := lw_at lw_m9 129 rfl
theorem q2164 : (Jvm.Cond.instanceMethod ({ cls := "OrdinaryStalkModel", name := "hasCrept", desc := "(I)Z" } : Jvm.MethodName)) ∈ lw_all := lw_g (lw_at lw_m9 130 rfl) rfl
theorem q2165 : (Jvm.Cond.code ({ cls := "OrdinaryStalkModel", name := "hasCrept", desc := "(I)Z" } : Jvm.MethodName) prog_33_method_54_code (2 : Nat) (Option.some Jvm.ClassFile.FieldType.boolean)) ∈ lw_all := lw_g (lw_at lw_m9 131 rfl) rfl
theorem q2166 : (Jvm.Cond.methodLink "OrdinaryStalkModel" (401 : Nat) ({ cls := "OrdinaryStalkModel", name := "beyond", desc := "(II)I" } : Jvm.MethodName)) ∈ lw_all := lw_g (lw_at lw_m9 132 rfl) rfl
theorem q2167 : (Jvm.Cond.privateMethod ({ cls := "OrdinaryStalkModel", name := "beyond", desc := "(II)I" } : Jvm.MethodName)) ∈ lw_tbl := lw_at lw_m9 133 rfl
theorem q2168 : (Jvm.Cond.instanceMethod ({ cls := "OrdinaryStalkModel", name := "beyond", desc := "(II)I" } : Jvm.MethodName)) ∈ lw_all := lw_g (lw_at lw_m9 134 rfl) rfl
theorem q2169 : (Jvm.Cond.code ({ cls := "OrdinaryStalkModel", name := "beyond", desc := "(II)I" } : Jvm.MethodName) prog_33_method_49_code (5 : Nat) (Option.some Jvm.ClassFile.FieldType.int)) ∈ lw_all := lw_g (lw_at lw_m9 135 rfl) rfl
theorem q2170 : (Jvm.Cond.methodLink "OrdinaryStalkModel" (452 : Nat) ({ cls := "OrdinaryStalkModel", name := "keeps", desc := "()V" } : Jvm.MethodName)) ∈ lw_all := lw_g (lw_at lw_m9 136 rfl) rfl
theorem q2171 : (Jvm.Cond.privateMethod ({ cls := "OrdinaryStalkModel", name := "keeps", desc := "()V" } : Jvm.MethodName)) ∈ lw_tbl := lw_at lw_m9 137 rfl
theorem q2172 : (Jvm.Cond.instanceMethod ({ cls := "OrdinaryStalkModel", name := "keeps", desc := "()V" } : Jvm.MethodName)) ∈ lw_all := lw_g (lw_at lw_m9 138 rfl) rfl
theorem q2173 : (Jvm.Cond.code ({ cls := "OrdinaryStalkModel", name := "keeps", desc := "()V" } : Jvm.MethodName) prog_33_method_65_code (2 : Nat) (Option.none : Option Jvm.ClassFile.FieldType)) ∈ lw_all := lw_g (lw_at lw_m9 139 rfl) rfl
theorem q2174 : (Jvm.Cond.methodLink "OrdinaryStalkModel" (445 : Nat) ({ cls := "OrdinaryStalkModel", name := "copies", desc := "([II[II)V" } : Jvm.MethodName)) ∈ lw_all := lw_g (lw_at lw_m9 140 rfl) rfl
theorem q2175 : (Jvm.Cond.static ({ cls := "OrdinaryStalkModel", name := "copies", desc := "([II[II)V" } : Jvm.MethodName)) ∈ lw_all := lw_g (lw_at lw_m9 141 rfl) rfl
theorem q2176 : (Jvm.Cond.code ({ cls := "OrdinaryStalkModel", name := "copies", desc := "([II[II)V" } : Jvm.MethodName) prog_33_method_39_code (5 : Nat) (Option.none : Option Jvm.ClassFile.FieldType)) ∈ lw_all := lw_g (lw_at lw_m9 142 rfl) rfl
theorem q2177 : (Jvm.Cond.methodLink "OrdinaryStalkModel" (455 : Nat) ({ cls := "OrdinaryStalkModel", name := "creeps", desc := "(II)V" } : Jvm.MethodName)) ∈ lw_all := lw_g (lw_at lw_m9 143 rfl) rfl
theorem q2178 : (Jvm.Cond.privateMethod ({ cls := "OrdinaryStalkModel", name := "creeps", desc := "(II)V" } : Jvm.MethodName)) ∈ lw_tbl := lw_at lw_m9 144 rfl
theorem q2179 : (Jvm.Cond.instanceMethod ({ cls := "OrdinaryStalkModel", name := "creeps", desc := "(II)V" } : Jvm.MethodName)) ∈ lw_all := lw_g (lw_at lw_m9 145 rfl) rfl
theorem q2180 : (Jvm.Cond.code ({ cls := "OrdinaryStalkModel", name := "creeps", desc := "(II)V" } : Jvm.MethodName) prog_33_method_62_code (3 : Nat) (Option.none : Option Jvm.ClassFile.FieldType)) ∈ lw_all := lw_g (lw_at lw_m9 146 rfl) rfl
theorem q2182 : (Jvm.Cond.instanceMethod ({ cls := "OrdinaryStalkModel", name := "off", desc := "(I)Z" } : Jvm.MethodName)) ∈ lw_all := lw_g (lw_at lw_m9 148 rfl) rfl
theorem q2183 : (Jvm.Cond.selects "OrdinaryStalkModel" ({ cls := "OrdinaryStalkModel", name := "off", desc := "(I)Z" } : Jvm.MethodName) ({ cls := "OrdinaryStalkModel", name := "off", desc := "(I)Z" } : Jvm.MethodName)) ∈ lw_all := lw_g (lw_at lw_m9 149 rfl) rfl
theorem q2184 : (Jvm.Cond.code ({ cls := "OrdinaryStalkModel", name := "off", desc := "(I)Z" } : Jvm.MethodName) prog_33_method_67_code (2 : Nat) (Option.some Jvm.ClassFile.FieldType.boolean)) ∈ lw_all := lw_g (lw_at lw_m9 150 rfl) rfl
theorem q2186 : (Jvm.Cond.instanceMethod ({ cls := "OrdinaryStalkModel", name := "step", desc := "()I" } : Jvm.MethodName)) ∈ lw_all := lw_g (lw_at lw_m9 152 rfl) rfl
theorem q2187 : (Jvm.Cond.selects "OrdinaryStalkModel" ({ cls := "OrdinaryStalkModel", name := "step", desc := "()I" } : Jvm.MethodName) ({ cls := "OrdinaryStalkModel", name := "step", desc := "()I" } : Jvm.MethodName)) ∈ lw_all := lw_g (lw_at lw_m9 153 rfl) rfl
theorem q2188 : (Jvm.Cond.code ({ cls := "OrdinaryStalkModel", name := "step", desc := "()I" } : Jvm.MethodName) prog_33_method_68_code (1 : Nat) (Option.some Jvm.ClassFile.FieldType.int)) ∈ lw_all := lw_g (lw_at lw_m9 154 rfl) rfl
theorem q2189 : (Jvm.Cond.methodLink "OrdinaryStalkModel" (458 : Nat) ({ cls := "OrdinaryStalkModel", name := "passes", desc := "()I" } : Jvm.MethodName)) ∈ lw_all := lw_g (lw_at lw_m9 155 rfl) rfl
theorem q2190 : (Jvm.Cond.privateMethod ({ cls := "OrdinaryStalkModel", name := "passes", desc := "()I" } : Jvm.MethodName)) ∈ lw_tbl := lw_at lw_m9 156 rfl
theorem q2191 : (Jvm.Cond.instanceMethod ({ cls := "OrdinaryStalkModel", name := "passes", desc := "()I" } : Jvm.MethodName)) ∈ lw_all := lw_g (lw_at lw_m9 157 rfl) rfl
theorem q2192 : (Jvm.Cond.code ({ cls := "OrdinaryStalkModel", name := "passes", desc := "()I" } : Jvm.MethodName) prog_33_method_59_code (5 : Nat) (Option.some Jvm.ClassFile.FieldType.int)) ∈ lw_all := lw_g (lw_at lw_m9 158 rfl) rfl
theorem q2193 : (Jvm.Cond.methodLink "OrdinaryStalkModel" (416 : Nat) ({ cls := "OrdinaryStalkModel", name := "windOf", desc := "(I)I" } : Jvm.MethodName)) ∈ lw_all := lw_g (lw_at lw_m9 159 rfl) rfl
theorem q2194 : (Jvm.Cond.privateMethod ({ cls := "OrdinaryStalkModel", name := "windOf", desc := "(I)I" } : Jvm.MethodName)) ∈ lw_tbl := lw_at lw_m9 160 rfl
theorem q2195 : (Jvm.Cond.instanceMethod ({ cls := "OrdinaryStalkModel", name := "windOf", desc := "(I)I" } : Jvm.MethodName)) ∈ lw_all := lw_g (lw_at lw_m9 161 rfl) rfl
theorem q2196 : (Jvm.Cond.code ({ cls := "OrdinaryStalkModel", name := "windOf", desc := "(I)I" } : Jvm.MethodName) prog_33_method_56_code (2 : Nat) (Option.some Jvm.ClassFile.FieldType.int)) ∈ lw_all := lw_g (lw_at lw_m9 162 rfl) rfl
theorem q2197 : (Jvm.Cond.methodLink "OrdinaryStalkModel" (422 : Nat) ({ cls := "OrdinaryStalkModel", name := "walked", desc := "(III)I" } : Jvm.MethodName)) ∈ lw_all := lw_g (lw_at lw_m9 163 rfl) rfl
theorem q2198 : (Jvm.Cond.privateMethod ({ cls := "OrdinaryStalkModel", name := "walked", desc := "(III)I" } : Jvm.MethodName)) ∈ lw_tbl := lw_at lw_m9 164 rfl
theorem q2199 : (Jvm.Cond.instanceMethod ({ cls := "OrdinaryStalkModel", name := "walked", desc := "(III)I" } : Jvm.MethodName)) ∈ lw_all := lw_g (lw_at lw_m9 165 rfl) rfl
theorem q2200 : (Jvm.Cond.code ({ cls := "OrdinaryStalkModel", name := "walked", desc := "(III)I" } : Jvm.MethodName) prog_33_method_55_code (7 : Nat) (Option.some Jvm.ClassFile.FieldType.int)) ∈ lw_all := lw_g (lw_at lw_m9 166 rfl) rfl
theorem q2201 : (Jvm.Cond.methodLink "OrdinaryStalkModel" (432 : Nat) ({ cls := "OrdinaryStalkModel", name := "hearsAt", desc := "(IIZIZI)Z" } : Jvm.MethodName)) ∈ lw_all := lw_g (lw_at lw_m9 167 rfl) rfl
theorem q2202 : (Jvm.Cond.privateMethod ({ cls := "OrdinaryStalkModel", name := "hearsAt", desc := "(IIZIZI)Z" } : Jvm.MethodName)) ∈ lw_tbl := lw_at lw_m9 168 rfl
theorem q2203 : (Jvm.Cond.instanceMethod ({ cls := "OrdinaryStalkModel", name := "hearsAt", desc := "(IIZIZI)Z" } : Jvm.MethodName)) ∈ lw_all := lw_g (lw_at lw_m9 169 rfl) rfl
theorem q2204 : (Jvm.Cond.code ({ cls := "OrdinaryStalkModel", name := "hearsAt", desc := "(IIZIZI)Z" } : Jvm.MethodName) prog_33_method_58_code (11 : Nat) (Option.some Jvm.ClassFile.FieldType.boolean)) ∈ lw_all := lw_g (lw_at lw_m9 170 rfl) rfl
theorem q2205 : (Jvm.Cond.methodLink "OrdinaryStalkModel" (404 : Nat) ({ cls := "OrdinaryStalkModel", name := "farFrom", desc := "(II)I" } : Jvm.MethodName)) ∈ lw_all := lw_g (lw_at lw_m9 171 rfl) rfl
theorem q2206 : (Jvm.Cond.privateMethod ({ cls := "OrdinaryStalkModel", name := "farFrom", desc := "(II)I" } : Jvm.MethodName)) ∈ lw_tbl := lw_at lw_m9 172 rfl
theorem q2207 : (Jvm.Cond.instanceMethod ({ cls := "OrdinaryStalkModel", name := "farFrom", desc := "(II)I" } : Jvm.MethodName)) ∈ lw_all := lw_g (lw_at lw_m9 173 rfl) rfl
theorem q2208 : (Jvm.Cond.code ({ cls := "OrdinaryStalkModel", name := "farFrom", desc := "(II)I" } : Jvm.MethodName) prog_33_method_50_code (3 : Nat) (Option.some Jvm.ClassFile.FieldType.int)) ∈ lw_all := lw_g (lw_at lw_m9 174 rfl) rfl
theorem q2209 : (Jvm.Cond.methodLink "OrdinaryStalkModel" (398 : Nat) ({ cls := "java/lang/Math", name := "abs", desc := "(I)I" } : Jvm.MethodName)) ∈ lw_all := lw_g (lw_at lw_m9 175 rfl) rfl
theorem q2210 : (Jvm.Cond.methodLink "OrdinaryStalkModel" (410 : Nat) ({ cls := "OrdinaryStalkModel", name := "isUpwind", desc := "(III)Z" } : Jvm.MethodName)) ∈ lw_all := lw_g (lw_at lw_m9 176 rfl) rfl
theorem q2211 : (Jvm.Cond.privateMethod ({ cls := "OrdinaryStalkModel", name := "isUpwind", desc := "(III)Z" } : Jvm.MethodName)) ∈ lw_tbl := lw_at lw_m9 177 rfl
theorem q2212 : (Jvm.Cond.instanceMethod ({ cls := "OrdinaryStalkModel", name := "isUpwind", desc := "(III)Z" } : Jvm.MethodName)) ∈ lw_all := lw_g (lw_at lw_m9 178 rfl) rfl
theorem q2213 : (Jvm.Cond.code ({ cls := "OrdinaryStalkModel", name := "isUpwind", desc := "(III)Z" } : Jvm.MethodName) prog_33_method_57_code (6 : Nat) (Option.some Jvm.ClassFile.FieldType.boolean)) ∈ lw_all := lw_g (lw_at lw_m9 179 rfl) rfl
theorem q2214 : (Jvm.Cond.methodLink "OrdinaryStalkModel" (413 : Nat) ({ cls := "OrdinaryStalkModel", name := "worked", desc := "(I)I" } : Jvm.MethodName)) ∈ lw_all := lw_g (lw_at lw_m9 180 rfl) rfl
theorem q2215 : (Jvm.Cond.privateMethod ({ cls := "OrdinaryStalkModel", name := "worked", desc := "(I)I" } : Jvm.MethodName)) ∈ lw_tbl := lw_at lw_m9 181 rfl
theorem q2216 : (Jvm.Cond.instanceMethod ({ cls := "OrdinaryStalkModel", name := "worked", desc := "(I)I" } : Jvm.MethodName)) ∈ lw_all := lw_g (lw_at lw_m9 182 rfl) rfl
theorem q2217 : (Jvm.Cond.code ({ cls := "OrdinaryStalkModel", name := "worked", desc := "(I)I" } : Jvm.MethodName) prog_33_method_18_code (6 : Nat) (Option.some Jvm.ClassFile.FieldType.int)) ∈ lw_all := lw_g (lw_at lw_m9 183 rfl) rfl
theorem q2218 : (Jvm.Cond.methodLink "OrdinaryStalkModel" (251 : Nat) ({ cls := "OrdinaryStalkModel", name := "opens", desc := "(I)V" } : Jvm.MethodName)) ∈ lw_all := lw_g (lw_at lw_m9 184 rfl) rfl
theorem q2219 : (Jvm.Cond.privateMethod ({ cls := "OrdinaryStalkModel", name := "opens", desc := "(I)V" } : Jvm.MethodName)) ∈ lw_tbl := lw_at lw_m9 185 rfl
theorem q2220 : (Jvm.Cond.instanceMethod ({ cls := "OrdinaryStalkModel", name := "opens", desc := "(I)V" } : Jvm.MethodName)) ∈ lw_all := lw_g (lw_at lw_m9 186 rfl) rfl
theorem q2221 : (Jvm.Cond.code ({ cls := "OrdinaryStalkModel", name := "opens", desc := "(I)V" } : Jvm.MethodName) prog_33_method_15_code (2 : Nat) (Option.none : Option Jvm.ClassFile.FieldType)) ∈ lw_all := lw_g (lw_at lw_m9 187 rfl) rfl
theorem q2222 : (Jvm.Cond.methodLink "OrdinaryStalkModel" (248 : Nat) ({ cls := "OrdinaryStalkModel", name := "sums", desc := "(I)V" } : Jvm.MethodName)) ∈ lw_all := lw_g (lw_at lw_m9 188 rfl) rfl
theorem q2223 : (Jvm.Cond.privateMethod ({ cls := "OrdinaryStalkModel", name := "sums", desc := "(I)V" } : Jvm.MethodName)) ∈ lw_tbl := lw_at lw_m9 189 rfl
theorem q2224 : (Jvm.Cond.instanceMethod ({ cls := "OrdinaryStalkModel", name := "sums", desc := "(I)V" } : Jvm.MethodName)) ∈ lw_all := lw_g (lw_at lw_m9 190 rfl) rfl
theorem q2225 : (Jvm.Cond.code ({ cls := "OrdinaryStalkModel", name := "sums", desc := "(I)V" } : Jvm.MethodName) prog_33_method_16_code (2 : Nat) (Option.none : Option Jvm.ClassFile.FieldType)) ∈ lw_all := lw_g (lw_at lw_m9 191 rfl) rfl
theorem q2226 : (Jvm.Cond.methodLink "OrdinaryStalkModel" (254 : Nat) ({ cls := "OrdinaryStalkModel", name := "tests", desc := "(I)V" } : Jvm.MethodName)) ∈ lw_all := lw_g (lw_at lw_m9 192 rfl) rfl
theorem q2227 : (Jvm.Cond.privateMethod ({ cls := "OrdinaryStalkModel", name := "tests", desc := "(I)V" } : Jvm.MethodName)) ∈ lw_tbl := lw_at lw_m9 193 rfl
theorem q2228 : (Jvm.Cond.instanceMethod ({ cls := "OrdinaryStalkModel", name := "tests", desc := "(I)V" } : Jvm.MethodName)) ∈ lw_all := lw_g (lw_at lw_m9 194 rfl) rfl
theorem q2229 : (Jvm.Cond.code ({ cls := "OrdinaryStalkModel", name := "tests", desc := "(I)V" } : Jvm.MethodName) prog_33_method_17_code (3 : Nat) (Option.none : Option Jvm.ClassFile.FieldType)) ∈ lw_all := lw_g (lw_at lw_m9 195 rfl) rfl
theorem q2230 : (Jvm.Cond.methodLink "OrdinaryStalkModel" (436 : Nat) ({ cls := "OrdinaryStalkModel", name := "gets", desc := "(II)V" } : Jvm.MethodName)) ∈ lw_all := lw_g (lw_at lw_m9 196 rfl) rfl
theorem q2231 : (Jvm.Cond.privateMethod ({ cls := "OrdinaryStalkModel", name := "gets", desc := "(II)V" } : Jvm.MethodName)) ∈ lw_tbl := lw_at lw_m9 197 rfl
theorem q2232 : (Jvm.Cond.instanceMethod ({ cls := "OrdinaryStalkModel", name := "gets", desc := "(II)V" } : Jvm.MethodName)) ∈ lw_all := lw_g (lw_at lw_m9 198 rfl) rfl
theorem q2233 : (Jvm.Cond.code ({ cls := "OrdinaryStalkModel", name := "gets", desc := "(II)V" } : Jvm.MethodName) prog_33_method_60_code (3 : Nat) (Option.none : Option Jvm.ClassFile.FieldType)) ∈ lw_all := lw_g (lw_at lw_m9 199 rfl) rfl
theorem q2235 : (Jvm.Cond.instanceMethod ({ cls := "OrdinaryStalkModel", name := "undo", desc := "()Z" } : Jvm.MethodName)) ∈ lw_all := lw_g (lw_at lw_m9 201 rfl) rfl
theorem q2236 : (Jvm.Cond.selects "OrdinaryStalkModel" ({ cls := "OrdinaryStalkModel", name := "undo", desc := "()Z" } : Jvm.MethodName) ({ cls := "OrdinaryStalkModel", name := "undo", desc := "()Z" } : Jvm.MethodName)) ∈ lw_all := lw_g (lw_at lw_m9 202 rfl) rfl
theorem q2237 : (Jvm.Cond.code ({ cls := "OrdinaryStalkModel", name := "undo", desc := "()Z" } : Jvm.MethodName) prog_33_method_69_code (1 : Nat) (Option.some Jvm.ClassFile.FieldType.boolean)) ∈ lw_all := lw_g (lw_at lw_m9 203 rfl) rfl
theorem q2239 : (Jvm.Cond.instanceMethod ({ cls := "OrdinaryStalkModel", name := "judged", desc := "(I)I" } : Jvm.MethodName)) ∈ lw_all := lw_g (lw_at lw_m9 205 rfl) rfl
theorem q2240 : (Jvm.Cond.selects "OrdinaryStalkModel" ({ cls := "OrdinaryStalkModel", name := "judged", desc := "(I)I" } : Jvm.MethodName) ({ cls := "OrdinaryStalkModel", name := "judged", desc := "(I)I" } : Jvm.MethodName)) ∈ lw_all := lw_g (lw_at lw_m9 206 rfl) rfl
theorem q2241 : (Jvm.Cond.code ({ cls := "OrdinaryStalkModel", name := "judged", desc := "(I)I" } : Jvm.MethodName) prog_33_method_70_code (6 : Nat) (Option.some Jvm.ClassFile.FieldType.int)) ∈ lw_all := lw_g (lw_at lw_m9 207 rfl) rfl
theorem q2243 : (Jvm.Cond.instanceMethod ({ cls := "OrdinaryStalkModel", name := "later", desc := "(II)I" } : Jvm.MethodName)) ∈ lw_all := lw_g (lw_at lw_m9 209 rfl) rfl
theorem q2244 : (Jvm.Cond.selects "OrdinaryStalkModel" ({ cls := "OrdinaryStalkModel", name := "later", desc := "(II)I" } : Jvm.MethodName) ({ cls := "OrdinaryStalkModel", name := "later", desc := "(II)I" } : Jvm.MethodName)) ∈ lw_all := lw_g (lw_at lw_m9 210 rfl) rfl
theorem q2245 : (Jvm.Cond.code ({ cls := "OrdinaryStalkModel", name := "later", desc := "(II)I" } : Jvm.MethodName) prog_33_method_71_code (4 : Nat) (Option.some Jvm.ClassFile.FieldType.int)) ∈ lw_all := lw_g (lw_at lw_m9 211 rfl) rfl
theorem q2247 : (Jvm.Cond.instanceMethod ({ cls := "OrdinaryStalkModel", name := "would", desc := "(II)I" } : Jvm.MethodName)) ∈ lw_all := lw_g (lw_at lw_m9 213 rfl) rfl
theorem q2248 : (Jvm.Cond.selects "OrdinaryStalkModel" ({ cls := "OrdinaryStalkModel", name := "would", desc := "(II)I" } : Jvm.MethodName) ({ cls := "OrdinaryStalkModel", name := "would", desc := "(II)I" } : Jvm.MethodName)) ∈ lw_all := lw_g (lw_at lw_m9 214 rfl) rfl
theorem q2249 : (Jvm.Cond.code ({ cls := "OrdinaryStalkModel", name := "would", desc := "(II)I" } : Jvm.MethodName) prog_33_method_72_code (3 : Nat) (Option.some Jvm.ClassFile.FieldType.int)) ∈ lw_all := lw_g (lw_at lw_m9 215 rfl) rfl
theorem q2251 : (Jvm.Cond.instanceMethod ({ cls := "OrdinaryStalkModel", name := "quiet", desc := "(II)I" } : Jvm.MethodName)) ∈ lw_all := lw_g (lw_at lw_m9 217 rfl) rfl
theorem q2252 : (Jvm.Cond.selects "OrdinaryStalkModel" ({ cls := "OrdinaryStalkModel", name := "quiet", desc := "(II)I" } : Jvm.MethodName) ({ cls := "OrdinaryStalkModel", name := "quiet", desc := "(II)I" } : Jvm.MethodName)) ∈ lw_all := lw_g (lw_at lw_m9 218 rfl) rfl
theorem q2253 : (Jvm.Cond.code ({ cls := "OrdinaryStalkModel", name := "quiet", desc := "(II)I" } : Jvm.MethodName) prog_33_method_74_code (6 : Nat) (Option.some Jvm.ClassFile.FieldType.int)) ∈ lw_all := lw_g (lw_at lw_m9 219 rfl) rfl
theorem q2254 : (Jvm.Cond.methodLink "OrdinaryStalkModel" (461 : Nat) ({ cls := "OrdinaryStalkModel", name := "isQuiet", desc := "(I)Z" } : Jvm.MethodName)) ∈ lw_all := lw_g (lw_at lw_m9 220 rfl) rfl
theorem q2255 : (Jvm.Cond.privateMethod ({ cls := "OrdinaryStalkModel", name := "isQuiet", desc := "(I)Z" } : Jvm.MethodName)) ∈ lw_tbl := lw_at lw_m9 221 rfl
theorem q2256 : (Jvm.Cond.instanceMethod ({ cls := "OrdinaryStalkModel", name := "isQuiet", desc := "(I)Z" } : Jvm.MethodName)) ∈ lw_all := lw_g (lw_at lw_m9 222 rfl) rfl
theorem q2257 : (Jvm.Cond.code ({ cls := "OrdinaryStalkModel", name := "isQuiet", desc := "(I)Z" } : Jvm.MethodName) prog_33_method_73_code (4 : Nat) (Option.some Jvm.ClassFile.FieldType.boolean)) ∈ lw_all := lw_g (lw_at lw_m9 223 rfl) rfl
theorem q2259 : (Jvm.Cond.instanceMethod ({ cls := "OrdinaryStalkModel", name := "bush", desc := "(I)I" } : Jvm.MethodName)) ∈ lw_all := lw_g (lw_at lw_m9 225 rfl) rfl
theorem q2260 : (Jvm.Cond.selects "OrdinaryStalkModel" ({ cls := "OrdinaryStalkModel", name := "bush", desc := "(I)I" } : Jvm.MethodName) ({ cls := "OrdinaryStalkModel", name := "bush", desc := "(I)I" } : Jvm.MethodName)) ∈ lw_all := lw_g (lw_at lw_m9 226 rfl) rfl
theorem q2261 : (Jvm.Cond.code ({ cls := "OrdinaryStalkModel", name := "bush", desc := "(I)I" } : Jvm.MethodName) prog_33_method_75_code (4 : Nat) (Option.some Jvm.ClassFile.FieldType.int)) ∈ lw_all := lw_g (lw_at lw_m9 227 rfl) rfl
theorem q2263 : (Jvm.Cond.instanceMethod ({ cls := "OrdinaryStalkModel", name := "shortest", desc := "(II)I" } : Jvm.MethodName)) ∈ lw_all := lw_g (lw_at lw_m9 229 rfl) rfl
theorem q2264 : (Jvm.Cond.selects "OrdinaryStalkModel" ({ cls := "OrdinaryStalkModel", name := "shortest", desc := "(II)I" } : Jvm.MethodName) ({ cls := "OrdinaryStalkModel", name := "shortest", desc := "(II)I" } : Jvm.MethodName)) ∈ lw_all := lw_g (lw_at lw_m9 230 rfl) rfl
theorem q2265 : (Jvm.Cond.code ({ cls := "OrdinaryStalkModel", name := "shortest", desc := "(II)I" } : Jvm.MethodName) prog_33_method_80_code (3 : Nat) (Option.some Jvm.ClassFile.FieldType.int)) ∈ lw_all := lw_g (lw_at lw_m9 231 rfl) rfl
theorem q2266 : (Jvm.Cond.methodLink "OrdinaryStalkModel" (478 : Nat) ({ cls := "OrdinaryStalkModel", name := "fewest", desc := "(II)I" } : Jvm.MethodName)) ∈ lw_all := lw_g (lw_at lw_m9 232 rfl) rfl
theorem q2267 : (Jvm.Cond.privateMethod ({ cls := "OrdinaryStalkModel", name := "fewest", desc := "(II)I" } : Jvm.MethodName)) ∈ lw_tbl := lw_at lw_m9 233 rfl
theorem q2268 : (Jvm.Cond.instanceMethod ({ cls := "OrdinaryStalkModel", name := "fewest", desc := "(II)I" } : Jvm.MethodName)) ∈ lw_all := lw_g (lw_at lw_m9 234 rfl) rfl
theorem q2269 : (Jvm.Cond.code ({ cls := "OrdinaryStalkModel", name := "fewest", desc := "(II)I" } : Jvm.MethodName) prog_33_method_79_code (7 : Nat) (Option.some Jvm.ClassFile.FieldType.int)) ∈ lw_all := lw_g (lw_at lw_m9 235 rfl) rfl
theorem q2270 : (Jvm.Cond.methodLink "OrdinaryStalkModel" (467 : Nat) ({ cls := "OrdinaryStalkModel", name := "canGet", desc := "(II)Z" } : Jvm.MethodName)) ∈ lw_all := lw_g (lw_at lw_m9 236 rfl) rfl
theorem q2271 : (Jvm.Cond.privateMethod ({ cls := "OrdinaryStalkModel", name := "canGet", desc := "(II)Z" } : Jvm.MethodName)) ∈ lw_tbl := lw_at lw_m9 237 rfl
theorem q2272 : (Jvm.Cond.instanceMethod ({ cls := "OrdinaryStalkModel", name := "canGet", desc := "(II)Z" } : Jvm.MethodName)) ∈ lw_all := lw_g (lw_at lw_m9 238 rfl) rfl
theorem q2273 : (Jvm.Cond.code ({ cls := "OrdinaryStalkModel", name := "canGet", desc := "(II)Z" } : Jvm.MethodName) prog_33_method_76_code (3 : Nat) (Option.some Jvm.ClassFile.FieldType.boolean)) ∈ lw_all := lw_g (lw_at lw_m9 239 rfl) rfl
theorem q2274 : (Jvm.Cond.methodLink "OrdinaryStalkModel" (470 : Nat) ({ cls := "OrdinaryStalkModel", name := "hearsOthers", desc := "(IIZII)Z" } : Jvm.MethodName)) ∈ lw_all := lw_g (lw_at lw_m10 0 rfl) rfl
theorem q2275 : (Jvm.Cond.privateMethod ({ cls := "OrdinaryStalkModel", name := "hearsOthers", desc := "(IIZII)Z" } : Jvm.MethodName)) ∈ lw_tbl := lw_at lw_m10 1 rfl
theorem q2276 : (Jvm.Cond.instanceMethod ({ cls := "OrdinaryStalkModel", name := "hearsOthers", desc := "(IIZII)Z" } : Jvm.MethodName)) ∈ lw_all := lw_g (lw_at lw_m10 2 rfl) rfl
theorem q2277 : (Jvm.Cond.code ({ cls := "OrdinaryStalkModel", name := "hearsOthers", desc := "(IIZII)Z" } : Jvm.MethodName) prog_33_method_77_code (7 : Nat) (Option.some Jvm.ClassFile.FieldType.boolean)) ∈ lw_all := lw_g (lw_at lw_m10 3 rfl) rfl
theorem q2278 : (Jvm.Cond.methodLink "OrdinaryStalkModel" (474 : Nat) ({ cls := "OrdinaryStalkModel", name := "spreadsBy", desc := "(IIIIZI)Z" } : Jvm.MethodName)) ∈ lw_all := lw_g (lw_at lw_m10 4 rfl) rfl
theorem q2279 : (Jvm.Cond.privateMethod ({ cls := "OrdinaryStalkModel", name := "spreadsBy", desc := "(IIIIZI)Z" } : Jvm.MethodName)) ∈ lw_tbl := lw_at lw_m10 5 rfl
theorem q2280 : (Jvm.Cond.instanceMethod ({ cls := "OrdinaryStalkModel", name := "spreadsBy", desc := "(IIIIZI)Z" } : Jvm.MethodName)) ∈ lw_all := lw_g (lw_at lw_m10 6 rfl) rfl
theorem q2281 : (Jvm.Cond.code ({ cls := "OrdinaryStalkModel", name := "spreadsBy", desc := "(IIIIZI)Z" } : Jvm.MethodName) prog_33_method_78_code (14 : Nat) (Option.some Jvm.ClassFile.FieldType.boolean)) ∈ lw_all := lw_g (lw_at lw_m10 7 rfl) rfl
theorem q2283 : (Jvm.Cond.instanceMethod ({ cls := "OrdinaryStalkModel", name := "first", desc := "(II)I" } : Jvm.MethodName)) ∈ lw_all := lw_g (lw_at lw_m10 9 rfl) rfl
theorem q2284 : (Jvm.Cond.selects "OrdinaryStalkModel" ({ cls := "OrdinaryStalkModel", name := "first", desc := "(II)I" } : Jvm.MethodName) ({ cls := "OrdinaryStalkModel", name := "first", desc := "(II)I" } : Jvm.MethodName)) ∈ lw_all := lw_g (lw_at lw_m10 10 rfl) rfl
theorem q2285 : (Jvm.Cond.code ({ cls := "OrdinaryStalkModel", name := "first", desc := "(II)I" } : Jvm.MethodName) prog_33_method_81_code (3 : Nat) (Option.some Jvm.ClassFile.FieldType.int)) ∈ lw_all := lw_g (lw_at lw_m10 11 rfl) rfl
theorem q2287 : (Jvm.Cond.instanceMethod ({ cls := "OrdinaryStalkModel", name := "soonest", desc := "(I)I" } : Jvm.MethodName)) ∈ lw_all := lw_g (lw_at lw_m10 13 rfl) rfl
theorem q2288 : (Jvm.Cond.selects "OrdinaryStalkModel" ({ cls := "OrdinaryStalkModel", name := "soonest", desc := "(I)I" } : Jvm.MethodName) ({ cls := "OrdinaryStalkModel", name := "soonest", desc := "(I)I" } : Jvm.MethodName)) ∈ lw_all := lw_g (lw_at lw_m10 14 rfl) rfl
theorem q2289 : (Jvm.Cond.code ({ cls := "OrdinaryStalkModel", name := "soonest", desc := "(I)I" } : Jvm.MethodName) prog_33_method_82_code (6 : Nat) (Option.some Jvm.ClassFile.FieldType.int)) ∈ lw_all := lw_g (lw_at lw_m10 15 rfl) rfl
theorem q2291 : (Jvm.Cond.instanceMethod ({ cls := "OrdinaryStalkModel", name := "worth", desc := "(I)I" } : Jvm.MethodName)) ∈ lw_all := lw_g (lw_at lw_m10 17 rfl) rfl
theorem q2292 : (Jvm.Cond.selects "OrdinaryStalkModel" ({ cls := "OrdinaryStalkModel", name := "worth", desc := "(I)I" } : Jvm.MethodName) ({ cls := "OrdinaryStalkModel", name := "worth", desc := "(I)I" } : Jvm.MethodName)) ∈ lw_all := lw_g (lw_at lw_m10 18 rfl) rfl
theorem q2293 : (Jvm.Cond.code ({ cls := "OrdinaryStalkModel", name := "worth", desc := "(I)I" } : Jvm.MethodName) prog_33_method_83_code (7 : Nat) (Option.some Jvm.ClassFile.FieldType.int)) ∈ lw_all := lw_g (lw_at lw_m10 19 rfl) rfl
theorem q2295 : (Jvm.Cond.instanceMethod ({ cls := "OrdinaryStalkModel", name := "team", desc := "(II)I" } : Jvm.MethodName)) ∈ lw_all := lw_g (lw_at lw_m10 21 rfl) rfl
theorem q2296 : (Jvm.Cond.selects "OrdinaryStalkModel" ({ cls := "OrdinaryStalkModel", name := "team", desc := "(II)I" } : Jvm.MethodName) ({ cls := "OrdinaryStalkModel", name := "team", desc := "(II)I" } : Jvm.MethodName)) ∈ lw_all := lw_g (lw_at lw_m10 22 rfl) rfl
theorem q2297 : (Jvm.Cond.code ({ cls := "OrdinaryStalkModel", name := "team", desc := "(II)I" } : Jvm.MethodName) prog_33_method_85_code (5 : Nat) (Option.some Jvm.ClassFile.FieldType.int)) ∈ lw_all := lw_g (lw_at lw_m10 23 rfl) rfl
theorem q2298 : (Jvm.Cond.methodLink "OrdinaryStalkModel" (484 : Nat) ({ cls := "OrdinaryStalkModel", name := "sends", desc := "(IIII)V" } : Jvm.MethodName)) ∈ lw_all := lw_g (lw_at lw_m10 24 rfl) rfl
theorem q2299 : (Jvm.Cond.privateMethod ({ cls := "OrdinaryStalkModel", name := "sends", desc := "(IIII)V" } : Jvm.MethodName)) ∈ lw_tbl := lw_at lw_m10 25 rfl
theorem q2300 : (Jvm.Cond.instanceMethod ({ cls := "OrdinaryStalkModel", name := "sends", desc := "(IIII)V" } : Jvm.MethodName)) ∈ lw_all := lw_g (lw_at lw_m10 26 rfl) rfl
theorem q2301 : (Jvm.Cond.code ({ cls := "OrdinaryStalkModel", name := "sends", desc := "(IIII)V" } : Jvm.MethodName) prog_33_method_84_code (6 : Nat) (Option.none : Option Jvm.ClassFile.FieldType)) ∈ lw_all := lw_g (lw_at lw_m10 27 rfl) rfl
theorem q2303 : (Jvm.Cond.instanceMethod ({ cls := "OrdinaryStalkModel", name := "meets", desc := "(II)I" } : Jvm.MethodName)) ∈ lw_all := lw_g (lw_at lw_m10 29 rfl) rfl
theorem q2304 : (Jvm.Cond.selects "OrdinaryStalkModel" ({ cls := "OrdinaryStalkModel", name := "meets", desc := "(II)I" } : Jvm.MethodName) ({ cls := "OrdinaryStalkModel", name := "meets", desc := "(II)I" } : Jvm.MethodName)) ∈ lw_all := lw_g (lw_at lw_m10 30 rfl) rfl
theorem q2305 : (Jvm.Cond.code ({ cls := "OrdinaryStalkModel", name := "meets", desc := "(II)I" } : Jvm.MethodName) prog_33_method_86_code (4 : Nat) (Option.some Jvm.ClassFile.FieldType.int)) ∈ lw_all := lw_g (lw_at lw_m10 31 rfl) rfl
theorem q2307 : (Jvm.Cond.instanceMethod ({ cls := "OrdinaryStalkModel", name := "alike", desc := "()I" } : Jvm.MethodName)) ∈ lw_all := lw_g (lw_at lw_m10 33 rfl) rfl
theorem q2308 : (Jvm.Cond.selects "OrdinaryStalkModel" ({ cls := "OrdinaryStalkModel", name := "alike", desc := "()I" } : Jvm.MethodName) ({ cls := "OrdinaryStalkModel", name := "alike", desc := "()I" } : Jvm.MethodName)) ∈ lw_all := lw_g (lw_at lw_m10 34 rfl) rfl
theorem q2309 : (Jvm.Cond.code ({ cls := "OrdinaryStalkModel", name := "alike", desc := "()I" } : Jvm.MethodName) prog_33_method_88_code (4 : Nat) (Option.some Jvm.ClassFile.FieldType.int)) ∈ lw_all := lw_g (lw_at lw_m10 35 rfl) rfl
theorem q2310 : (Jvm.Cond.methodLink "OrdinaryStalkModel" (488 : Nat) ({ cls := "OrdinaryStalkModel", name := "walkAlike", desc := "(II)Z" } : Jvm.MethodName)) ∈ lw_all := lw_g (lw_at lw_m10 36 rfl) rfl
theorem q2311 : (Jvm.Cond.privateMethod ({ cls := "OrdinaryStalkModel", name := "walkAlike", desc := "(II)Z" } : Jvm.MethodName)) ∈ lw_tbl := lw_at lw_m10 37 rfl
theorem q2312 : (Jvm.Cond.instanceMethod ({ cls := "OrdinaryStalkModel", name := "walkAlike", desc := "(II)Z" } : Jvm.MethodName)) ∈ lw_all := lw_g (lw_at lw_m10 38 rfl) rfl
theorem q2313 : (Jvm.Cond.code ({ cls := "OrdinaryStalkModel", name := "walkAlike", desc := "(II)Z" } : Jvm.MethodName) prog_33_method_87_code (4 : Nat) (Option.some Jvm.ClassFile.FieldType.boolean)) ∈ lw_all := lw_g (lw_at lw_m10 39 rfl) rfl
theorem q2315 : (Jvm.Cond.instanceMethod ({ cls := "OrdinaryStalkModel", name := "camped", desc := "()I" } : Jvm.MethodName)) ∈ lw_all := lw_g (lw_at lw_m10 41 rfl) rfl
theorem q2316 : (Jvm.Cond.selects "OrdinaryStalkModel" ({ cls := "OrdinaryStalkModel", name := "camped", desc := "()I" } : Jvm.MethodName) ({ cls := "OrdinaryStalkModel", name := "camped", desc := "()I" } : Jvm.MethodName)) ∈ lw_all := lw_g (lw_at lw_m10 42 rfl) rfl
theorem q2317 : (Jvm.Cond.code ({ cls := "OrdinaryStalkModel", name := "camped", desc := "()I" } : Jvm.MethodName) prog_33_method_89_code (3 : Nat) (Option.some Jvm.ClassFile.FieldType.int)) ∈ lw_all := lw_g (lw_at lw_m10 43 rfl) rfl
theorem q2319 : (Jvm.Cond.instanceMethod ({ cls := "OrdinaryStalkModel", name := "say", desc := "(IIZ)Z" } : Jvm.MethodName)) ∈ lw_all := lw_g (lw_at lw_m10 45 rfl) rfl
theorem q2320 : (Jvm.Cond.selects "OrdinaryStalkModel" ({ cls := "OrdinaryStalkModel", name := "say", desc := "(IIZ)Z" } : Jvm.MethodName) ({ cls := "OrdinaryStalkModel", name := "say", desc := "(IIZ)Z" } : Jvm.MethodName)) ∈ lw_all := lw_g (lw_at lw_m10 46 rfl) rfl
theorem q2321 : (Jvm.Cond.code ({ cls := "OrdinaryStalkModel", name := "say", desc := "(IIZ)Z" } : Jvm.MethodName) prog_33_method_91_code (4 : Nat) (Option.some Jvm.ClassFile.FieldType.boolean)) ∈ lw_all := lw_g (lw_at lw_m10 47 rfl) rfl
theorem q2323 : (Jvm.Cond.instanceMethod ({ cls := "OrdinaryStalkModel", name := "who", desc := "()I" } : Jvm.MethodName)) ∈ lw_all := lw_g (lw_at lw_m10 49 rfl) rfl
theorem q2324 : (Jvm.Cond.selects "OrdinaryStalkModel" ({ cls := "OrdinaryStalkModel", name := "who", desc := "()I" } : Jvm.MethodName) ({ cls := "OrdinaryStalkModel", name := "who", desc := "()I" } : Jvm.MethodName)) ∈ lw_all := lw_g (lw_at lw_m10 50 rfl) rfl
theorem q2325 : (Jvm.Cond.code ({ cls := "OrdinaryStalkModel", name := "who", desc := "()I" } : Jvm.MethodName) prog_33_method_93_code (3 : Nat) (Option.some Jvm.ClassFile.FieldType.int)) ∈ lw_all := lw_g (lw_at lw_m10 51 rfl) rfl
theorem q2326 : (Jvm.Cond.methodLink "OrdinaryStalkModel" (491 : Nat) ({ cls := "OrdinaryStalkModel", name := "laysCells", desc := "()V" } : Jvm.MethodName)) ∈ lw_all := lw_g (lw_at lw_m10 52 rfl) rfl
theorem q2327 : (Jvm.Cond.privateMethod ({ cls := "OrdinaryStalkModel", name := "laysCells", desc := "()V" } : Jvm.MethodName)) ∈ lw_tbl := lw_at lw_m10 53 rfl
theorem q2328 : (Jvm.Cond.instanceMethod ({ cls := "OrdinaryStalkModel", name := "laysCells", desc := "()V" } : Jvm.MethodName)) ∈ lw_all := lw_g (lw_at lw_m10 54 rfl) rfl
theorem q2329 : (Jvm.Cond.code ({ cls := "OrdinaryStalkModel", name := "laysCells", desc := "()V" } : Jvm.MethodName) prog_33_method_90_code (4 : Nat) (Option.none : Option Jvm.ClassFile.FieldType)) ∈ lw_all := lw_g (lw_at lw_m10 55 rfl) rfl
theorem q2330 : (Jvm.Cond.methodLink "OrdinaryStalkModel" (494 : Nat) ({ cls := "OrdinaryStalkModel", name := "isAsSaid", desc := "(I)Z" } : Jvm.MethodName)) ∈ lw_all := lw_g (lw_at lw_m10 56 rfl) rfl
theorem q2331 : (Jvm.Cond.privateMethod ({ cls := "OrdinaryStalkModel", name := "isAsSaid", desc := "(I)Z" } : Jvm.MethodName)) ∈ lw_tbl := lw_at lw_m10 57 rfl
theorem q2332 : (Jvm.Cond.instanceMethod ({ cls := "OrdinaryStalkModel", name := "isAsSaid", desc := "(I)Z" } : Jvm.MethodName)) ∈ lw_all := lw_g (lw_at lw_m10 58 rfl) rfl
theorem q2333 : (Jvm.Cond.code ({ cls := "OrdinaryStalkModel", name := "isAsSaid", desc := "(I)Z" } : Jvm.MethodName) prog_33_method_92_code (3 : Nat) (Option.some Jvm.ClassFile.FieldType.boolean)) ∈ lw_all := lw_g (lw_at lw_m10 59 rfl) rfl
theorem q2335 : (Jvm.Cond.instanceMethod ({ cls := "OrdinaryStalkModel", name := "ask", desc := "()I" } : Jvm.MethodName)) ∈ lw_all := lw_g (lw_at lw_m10 61 rfl) rfl
theorem q2336 : (Jvm.Cond.selects "OrdinaryStalkModel" ({ cls := "OrdinaryStalkModel", name := "ask", desc := "()I" } : Jvm.MethodName) ({ cls := "OrdinaryStalkModel", name := "ask", desc := "()I" } : Jvm.MethodName)) ∈ lw_all := lw_g (lw_at lw_m10 62 rfl) rfl
theorem q2337 : (Jvm.Cond.code ({ cls := "OrdinaryStalkModel", name := "ask", desc := "()I" } : Jvm.MethodName) prog_33_method_94_code (8 : Nat) (Option.some Jvm.ClassFile.FieldType.int)) ∈ lw_all := lw_g (lw_at lw_m10 63 rfl) rfl
theorem q2338 : (Jvm.Cond.methodLink "OrdinaryStalkModel" (497 : Nat) ({ cls := "OrdinaryStalkModel", name := "who", desc := "()I" } : Jvm.MethodName)) ∈ lw_all := lw_g (lw_at lw_m10 64 rfl) rfl
theorem q2339 : (Jvm.Cond.methodLink "OrdinaryStalkModel" (500 : Nat) ({ cls := "OrdinaryStalkModel", name := "bits", desc := "(I)I" } : Jvm.MethodName)) ∈ lw_all := lw_g (lw_at lw_m10 65 rfl) rfl
theorem q2340 : (Jvm.Cond.static ({ cls := "OrdinaryStalkModel", name := "bits", desc := "(I)I" } : Jvm.MethodName)) ∈ lw_all := lw_g (lw_at lw_m10 66 rfl) rfl
theorem q2341 : (Jvm.Cond.code ({ cls := "OrdinaryStalkModel", name := "bits", desc := "(I)I" } : Jvm.MethodName) prog_33_method_4_code (3 : Nat) (Option.some Jvm.ClassFile.FieldType.int)) ∈ lw_all := lw_g (lw_at lw_m10 67 rfl) rfl
theorem q2342 : (Jvm.Cond.methodLink "OrdinaryStalkModel" (503 : Nat) ({ cls := "java/lang/Math", name := "max", desc := "(II)I" } : Jvm.MethodName)) ∈ lw_all := lw_g (lw_at lw_m10 68 rfl) rfl
theorem q2344 : (Jvm.Cond.instanceMethod ({ cls := "OrdinaryStalkModel", name := "chance", desc := "(II)I" } : Jvm.MethodName)) ∈ lw_all := lw_g (lw_at lw_m10 70 rfl) rfl
theorem q2345 : (Jvm.Cond.selects "OrdinaryStalkModel" ({ cls := "OrdinaryStalkModel", name := "chance", desc := "(II)I" } : Jvm.MethodName) ({ cls := "OrdinaryStalkModel", name := "chance", desc := "(II)I" } : Jvm.MethodName)) ∈ lw_all := lw_g (lw_at lw_m10 71 rfl) rfl
theorem q2346 : (Jvm.Cond.code ({ cls := "OrdinaryStalkModel", name := "chance", desc := "(II)I" } : Jvm.MethodName) prog_33_method_96_code (5 : Nat) (Option.some Jvm.ClassFile.FieldType.int)) ∈ lw_all := lw_g (lw_at lw_m10 72 rfl) rfl
theorem q2347 : (Jvm.Cond.methodLink "OrdinaryStalkModel" (509 : Nat) ({ cls := "OrdinaryStalkModel", name := "blowsOn", desc := "(II)V" } : Jvm.MethodName)) ∈ lw_all := lw_g (lw_at lw_m10 73 rfl) rfl
theorem q2348 : (Jvm.Cond.privateMethod ({ cls := "OrdinaryStalkModel", name := "blowsOn", desc := "(II)V" } : Jvm.MethodName)) ∈ lw_tbl := lw_at lw_m10 74 rfl
theorem q2349 : (Jvm.Cond.instanceMethod ({ cls := "OrdinaryStalkModel", name := "blowsOn", desc := "(II)V" } : Jvm.MethodName)) ∈ lw_all := lw_g (lw_at lw_m10 75 rfl) rfl
theorem q2350 : (Jvm.Cond.code ({ cls := "OrdinaryStalkModel", name := "blowsOn", desc := "(II)V" } : Jvm.MethodName) prog_33_method_95_code (4 : Nat) (Option.none : Option Jvm.ClassFile.FieldType)) ∈ lw_all := lw_g (lw_at lw_m10 76 rfl) rfl
theorem q2351 : (Jvm.Cond.constantLong "OrdinaryStalkModel" (512 : Nat) (1000000 : Int64)) ∈ lw_all := lw_g (lw_at lw_m10 77 rfl) rfl
theorem q2353 : (Jvm.Cond.instanceMethod ({ cls := "OrdinaryStalkModel", name := "rests", desc := "(IIII)I" } : Jvm.MethodName)) ∈ lw_all := lw_g (lw_at lw_m10 79 rfl) rfl
theorem q2354 : (Jvm.Cond.selects "OrdinaryStalkModel" ({ cls := "OrdinaryStalkModel", name := "rests", desc := "(IIII)I" } : Jvm.MethodName) ({ cls := "OrdinaryStalkModel", name := "rests", desc := "(IIII)I" } : Jvm.MethodName)) ∈ lw_all := lw_g (lw_at lw_m10 80 rfl) rfl
theorem q2355 : (Jvm.Cond.code ({ cls := "OrdinaryStalkModel", name := "rests", desc := "(IIII)I" } : Jvm.MethodName) prog_33_method_98_code (9 : Nat) (Option.some Jvm.ClassFile.FieldType.int)) ∈ lw_all := lw_g (lw_at lw_m10 81 rfl) rfl
theorem q2356 : (Jvm.Cond.methodLink "OrdinaryStalkModel" (514 : Nat) ({ cls := "OrdinaryStalkModel", name := "getsBy", desc := "(IIIII)I" } : Jvm.MethodName)) ∈ lw_all := lw_g (lw_at lw_m10 82 rfl) rfl
theorem q2357 : (Jvm.Cond.static ({ cls := "OrdinaryStalkModel", name := "getsBy", desc := "(IIIII)I" } : Jvm.MethodName)) ∈ lw_all := lw_g (lw_at lw_m10 83 rfl) rfl
theorem q2358 : (Jvm.Cond.code ({ cls := "OrdinaryStalkModel", name := "getsBy", desc := "(IIIII)I" } : Jvm.MethodName) prog_33_method_97_code (5 : Nat) (Option.some Jvm.ClassFile.FieldType.int)) ∈ lw_all := lw_g (lw_at lw_m10 84 rfl) rfl
theorem q2360 : (Jvm.Cond.instanceMethod ({ cls := "OrdinaryStalkModel", name := "camps", desc := "(III)I" } : Jvm.MethodName)) ∈ lw_all := lw_g (lw_at lw_m10 86 rfl) rfl
theorem q2361 : (Jvm.Cond.selects "OrdinaryStalkModel" ({ cls := "OrdinaryStalkModel", name := "camps", desc := "(III)I" } : Jvm.MethodName) ({ cls := "OrdinaryStalkModel", name := "camps", desc := "(III)I" } : Jvm.MethodName)) ∈ lw_all := lw_g (lw_at lw_m10 87 rfl) rfl
theorem q2362 : (Jvm.Cond.code ({ cls := "OrdinaryStalkModel", name := "camps", desc := "(III)I" } : Jvm.MethodName) prog_33_method_100_code (8 : Nat) (Option.some Jvm.ClassFile.FieldType.int)) ∈ lw_all := lw_g (lw_at lw_m10 88 rfl) rfl
theorem q2363 : (Jvm.Cond.methodLink "OrdinaryStalkModel" (529 : Nat) ({ cls := "OrdinaryStalkModel", name := "draws", desc := "(I)I" } : Jvm.MethodName)) ∈ lw_all := lw_g (lw_at lw_m10 89 rfl) rfl
theorem q2364 : (Jvm.Cond.privateMethod ({ cls := "OrdinaryStalkModel", name := "draws", desc := "(I)I" } : Jvm.MethodName)) ∈ lw_tbl := lw_at lw_m10 90 rfl
theorem q2365 : (Jvm.Cond.instanceMethod ({ cls := "OrdinaryStalkModel", name := "draws", desc := "(I)I" } : Jvm.MethodName)) ∈ lw_all := lw_g (lw_at lw_m10 91 rfl) rfl
theorem q2366 : (Jvm.Cond.code ({ cls := "OrdinaryStalkModel", name := "draws", desc := "(I)I" } : Jvm.MethodName) prog_33_method_99_code (2 : Nat) (Option.some Jvm.ClassFile.FieldType.int)) ∈ lw_all := lw_g (lw_at lw_m10 92 rfl) rfl
theorem q2367 : (Jvm.Cond.constantLong "OrdinaryStalkModel" (521 : Nat) (1103515245 : Int64)) ∈ lw_all := lw_g (lw_at lw_m10 93 rfl) rfl
theorem q2368 : (Jvm.Cond.constantLong "OrdinaryStalkModel" (523 : Nat) (12345 : Int64)) ∈ lw_all := lw_g (lw_at lw_m10 94 rfl) rfl
theorem q2369 : (Jvm.Cond.constantLong "OrdinaryStalkModel" (525 : Nat) (2147483648 : Int64)) ∈ lw_all := lw_g (lw_at lw_m10 95 rfl) rfl
theorem q2370 : (Jvm.Cond.constantLong "OrdinaryStalkModel" (527 : Nat) (65536 : Int64)) ∈ lw_all := lw_g (lw_at lw_m10 96 rfl) rfl
theorem q2372 : (Jvm.Cond.instanceMethod ({ cls := "OrdinaryStalkModel", name := "mark", desc := "(IZ)Z" } : Jvm.MethodName)) ∈ lw_all := lw_g (lw_at lw_m10 98 rfl) rfl
theorem q2373 : (Jvm.Cond.selects "OrdinaryStalkModel" ({ cls := "OrdinaryStalkModel", name := "mark", desc := "(IZ)Z" } : Jvm.MethodName) ({ cls := "OrdinaryStalkModel", name := "mark", desc := "(IZ)Z" } : Jvm.MethodName)) ∈ lw_all := lw_g (lw_at lw_m10 99 rfl) rfl
theorem q2374 : (Jvm.Cond.code ({ cls := "OrdinaryStalkModel", name := "mark", desc := "(IZ)Z" } : Jvm.MethodName) prog_33_method_101_code (5 : Nat) (Option.some Jvm.ClassFile.FieldType.boolean)) ∈ lw_all := lw_g (lw_at lw_m10 100 rfl) rfl
theorem q2375 : (Jvm.Cond.methodLink "OrdinaryStalkModel" (532 : Nat) ({ cls := "OrdinaryStalkModel", name := "laysSaid", desc := "(II)V" } : Jvm.MethodName)) ∈ lw_all := lw_g (lw_at lw_m10 101 rfl) rfl
theorem q2376 : (Jvm.Cond.privateMethod ({ cls := "OrdinaryStalkModel", name := "laysSaid", desc := "(II)V" } : Jvm.MethodName)) ∈ lw_tbl := lw_at lw_m10 102 rfl
theorem q2377 : (Jvm.Cond.instanceMethod ({ cls := "OrdinaryStalkModel", name := "laysSaid", desc := "(II)V" } : Jvm.MethodName)) ∈ lw_all := lw_g (lw_at lw_m10 103 rfl) rfl
theorem q2378 : (Jvm.Cond.code ({ cls := "OrdinaryStalkModel", name := "laysSaid", desc := "(II)V" } : Jvm.MethodName) prog_33_method_42_code (4 : Nat) (Option.none : Option Jvm.ClassFile.FieldType)) ∈ lw_all := lw_g (lw_at lw_m10 104 rfl) rfl
theorem q2380 : (Jvm.Cond.instanceMethod ({ cls := "OrdinaryStalkModel", name := "count", desc := "(I)I" } : Jvm.MethodName)) ∈ lw_all := lw_g (lw_at lw_m10 106 rfl) rfl
theorem q2381 : (Jvm.Cond.selects "OrdinaryStalkModel" ({ cls := "OrdinaryStalkModel", name := "count", desc := "(I)I" } : Jvm.MethodName) ({ cls := "OrdinaryStalkModel", name := "count", desc := "(I)I" } : Jvm.MethodName)) ∈ lw_all := lw_g (lw_at lw_m10 107 rfl) rfl
theorem q2382 : (Jvm.Cond.code ({ cls := "OrdinaryStalkModel", name := "count", desc := "(I)I" } : Jvm.MethodName) prog_33_method_103_code (2 : Nat) (Option.some Jvm.ClassFile.FieldType.int)) ∈ lw_all := lw_g (lw_at lw_m10 108 rfl) rfl
theorem q2383 : (Jvm.Cond.methodLink "OrdinaryStalkModel" (535 : Nat) ({ cls := "OrdinaryStalkModel", name := "bushesIn", desc := "()I" } : Jvm.MethodName)) ∈ lw_all := lw_g (lw_at lw_m10 109 rfl) rfl
theorem q2384 : (Jvm.Cond.privateMethod ({ cls := "OrdinaryStalkModel", name := "bushesIn", desc := "()I" } : Jvm.MethodName)) ∈ lw_tbl := lw_at lw_m10 110 rfl
theorem q2385 : (Jvm.Cond.instanceMethod ({ cls := "OrdinaryStalkModel", name := "bushesIn", desc := "()I" } : Jvm.MethodName)) ∈ lw_all := lw_g (lw_at lw_m10 111 rfl) rfl
theorem q2386 : (Jvm.Cond.code ({ cls := "OrdinaryStalkModel", name := "bushesIn", desc := "()I" } : Jvm.MethodName) prog_33_method_102_code (3 : Nat) (Option.some Jvm.ClassFile.FieldType.int)) ∈ lw_all := lw_g (lw_at lw_m10 112 rfl) rfl
theorem q2418 : (Jvm.Cond.castable "OrdinaryStalkModel" "java/lang/Object") ∈ lw_tbl := lw_at lw_m10 144 rfl
theorem in_X9 : ∀ w ∈ wsX90, w ∈ lw_all := lw_in wsX90 [1812, 1814, 1816, 1818, 1820, 1822, 1824, 1826, 1828, 1830, 1832, 1834, 1836, 1838, 1840, 1842, 1844, 1846, 1848, 1850, 1852, 1854, 1856, 1858, 1860, 1862, 1864, 1866, 1868, 1870, 1872, 1874, 1876, 1878, 1880, 1882, 1884, 1886, 1888, 1890, 1892, 1894, 1896, 1898, 1900, 1902, 1904, 1906, 1908, 1910, 1912, 1914, 1916, 1918, 1920, 1922, 1924, 1926, 1928, 1930, 1932, 1934, 1936, 1938, 1940, 1942, 1944, 1946, 1948] (by decide +kernel) (by decide +kernel)

/-! java/lang/String -/
def RJ6 : String := "java/lang/String"
abbrev cJ6_indexOf : ByteArray := prog_48_method_79_code
def yJ6_indexOf : MethodName := ⟨RJ6, "indexOf", "(I)I"⟩
abbrev cJ6_indexOf_2 : ByteArray := prog_48_method_80_code
def yJ6_indexOf_2 : MethodName := ⟨RJ6, "indexOf", "(II)I"⟩
abbrev cJ6_isLatin1 : ByteArray := prog_48_method_154_code
def yJ6_isLatin1 : MethodName := ⟨RJ6, "isLatin1", "()Z"⟩
abbrev cJ6_length : ByteArray := prog_48_method_54_code
def yJ6_length : MethodName := ⟨RJ6, "length", "()I"⟩
abbrev cJ6_coder : ByteArray := prog_48_method_152_code
def yJ6_coder : MethodName := ⟨RJ6, "coder", "()B"⟩
abbrev cJ6_checkBoundsBeginEnd : ByteArray := prog_48_method_158_code
def yJ6_checkBoundsBeginEnd : MethodName := ⟨RJ6, "checkBoundsBeginEnd", "(III)V"⟩
abbrev cJ6_charAt : ByteArray := prog_48_method_56_code
def yJ6_charAt : MethodName := ⟨RJ6, "charAt", "(I)C"⟩
abbrev cJ6_checkIndex : ByteArray := prog_48_method_155_code
def yJ6_checkIndex : MethodName := ⟨RJ6, "checkIndex", "(II)V"⟩
theorem q130 : (Jvm.Cond.initialized "java/lang/String") ∈ lw_all := lw_g (lw_at lw_m1 16 rfl) rfl
theorem q624 : (Jvm.Cond.instanceMethod ({ cls := "java/lang/String", name := "indexOf", desc := "(I)I" } : Jvm.MethodName)) ∈ lw_all := lw_g (lw_at lw_m3 30 rfl) rfl
theorem q625 : (Jvm.Cond.selects "java/lang/String" ({ cls := "java/lang/String", name := "indexOf", desc := "(I)I" } : Jvm.MethodName) ({ cls := "java/lang/String", name := "indexOf", desc := "(I)I" } : Jvm.MethodName)) ∈ lw_all := lw_g (lw_at lw_m3 31 rfl) rfl
theorem q626 : (Jvm.Cond.code ({ cls := "java/lang/String", name := "indexOf", desc := "(I)I" } : Jvm.MethodName) prog_48_method_79_code (2 : Nat) (Option.some Jvm.ClassFile.FieldType.int)) ∈ lw_all := lw_g (lw_at lw_m3 32 rfl) rfl
theorem q627 : (Jvm.Cond.methodLink "java/lang/String" (633 : Nat) ({ cls := "java/lang/String", name := "indexOf", desc := "(II)I" } : Jvm.MethodName)) ∈ lw_all := lw_g (lw_at lw_m3 33 rfl) rfl
theorem q628 : (Jvm.Cond.instanceMethod ({ cls := "java/lang/String", name := "indexOf", desc := "(II)I" } : Jvm.MethodName)) ∈ lw_all := lw_g (lw_at lw_m3 34 rfl) rfl
theorem q629 : (Jvm.Cond.selects "java/lang/String" ({ cls := "java/lang/String", name := "indexOf", desc := "(II)I" } : Jvm.MethodName) ({ cls := "java/lang/String", name := "indexOf", desc := "(II)I" } : Jvm.MethodName)) ∈ lw_all := lw_g (lw_at lw_m3 35 rfl) rfl
theorem q630 : (Jvm.Cond.code ({ cls := "java/lang/String", name := "indexOf", desc := "(II)I" } : Jvm.MethodName) prog_48_method_80_code (3 : Nat) (Option.some Jvm.ClassFile.FieldType.int)) ∈ lw_all := lw_g (lw_at lw_m3 36 rfl) rfl
theorem q631 : (Jvm.Cond.methodLink "java/lang/String" (492 : Nat) ({ cls := "java/lang/String", name := "isLatin1", desc := "()Z" } : Jvm.MethodName)) ∈ lw_all := lw_g (lw_at lw_m3 37 rfl) rfl
theorem q632 : (Jvm.Cond.instanceMethod ({ cls := "java/lang/String", name := "isLatin1", desc := "()Z" } : Jvm.MethodName)) ∈ lw_all := lw_g (lw_at lw_m3 38 rfl) rfl
theorem q633 : (Jvm.Cond.selects "java/lang/String" ({ cls := "java/lang/String", name := "isLatin1", desc := "()Z" } : Jvm.MethodName) ({ cls := "java/lang/String", name := "isLatin1", desc := "()Z" } : Jvm.MethodName)) ∈ lw_all := lw_g (lw_at lw_m3 39 rfl) rfl
theorem q634 : (Jvm.Cond.code ({ cls := "java/lang/String", name := "isLatin1", desc := "()Z" } : Jvm.MethodName) prog_48_method_154_code (1 : Nat) (Option.some Jvm.ClassFile.FieldType.boolean)) ∈ lw_all := lw_g (lw_at lw_m3 40 rfl) rfl
theorem q635 : (Jvm.Cond.fieldLink "java/lang/String" (38 : Nat) "java/lang/String" "COMPACT_STRINGS" "Z") ∈ lw_all := lw_g (lw_at lw_m3 41 rfl) rfl
theorem q636 : (Jvm.Cond.laysStatic "java/lang/String" "COMPACT_STRINGS" "Z") ∈ lw_tbl := lw_at lw_m3 42 rfl
theorem q637 : (Jvm.Cond.methodLink "java/lang/String" (505 : Nat) ({ cls := "java/lang/String", name := "length", desc := "()I" } : Jvm.MethodName)) ∈ lw_all := lw_g (lw_at lw_m3 43 rfl) rfl
theorem q638 : (Jvm.Cond.instanceMethod ({ cls := "java/lang/String", name := "length", desc := "()I" } : Jvm.MethodName)) ∈ lw_all := lw_g (lw_at lw_m3 44 rfl) rfl
theorem q639 : (Jvm.Cond.selects "java/lang/String" ({ cls := "java/lang/String", name := "length", desc := "()I" } : Jvm.MethodName) ({ cls := "java/lang/String", name := "length", desc := "()I" } : Jvm.MethodName)) ∈ lw_all := lw_g (lw_at lw_m3 45 rfl) rfl
theorem q640 : (Jvm.Cond.code ({ cls := "java/lang/String", name := "length", desc := "()I" } : Jvm.MethodName) prog_48_method_54_code (1 : Nat) (Option.some Jvm.ClassFile.FieldType.int)) ∈ lw_all := lw_g (lw_at lw_m3 46 rfl) rfl
theorem q641 : (Jvm.Cond.methodLink "java/lang/String" (335 : Nat) ({ cls := "java/lang/String", name := "coder", desc := "()B" } : Jvm.MethodName)) ∈ lw_all := lw_g (lw_at lw_m3 47 rfl) rfl
theorem q642 : (Jvm.Cond.instanceMethod ({ cls := "java/lang/String", name := "coder", desc := "()B" } : Jvm.MethodName)) ∈ lw_all := lw_g (lw_at lw_m3 48 rfl) rfl
theorem q643 : (Jvm.Cond.selects "java/lang/String" ({ cls := "java/lang/String", name := "coder", desc := "()B" } : Jvm.MethodName) ({ cls := "java/lang/String", name := "coder", desc := "()B" } : Jvm.MethodName)) ∈ lw_all := lw_g (lw_at lw_m3 49 rfl) rfl
theorem q644 : (Jvm.Cond.code ({ cls := "java/lang/String", name := "coder", desc := "()B" } : Jvm.MethodName) prog_48_method_152_code (1 : Nat) (Option.some Jvm.ClassFile.FieldType.byte)) ∈ lw_all := lw_g (lw_at lw_m3 50 rfl) rfl
theorem q645 : (Jvm.Cond.methodLink "java/lang/String" (637 : Nat) ({ cls := "java/lang/StringLatin1", name := "indexOf", desc := "([BIII)I" } : Jvm.MethodName)) ∈ lw_all := lw_g (lw_at lw_m3 51 rfl) rfl
theorem q658 : (Jvm.Cond.methodLink "java/lang/String" (640 : Nat) ({ cls := "java/lang/StringUTF16", name := "indexOf", desc := "([BIII)I" } : Jvm.MethodName)) ∈ lw_all := lw_g (lw_at lw_m3 64 rfl) rfl
theorem q674 : (Jvm.Cond.static ({ cls := "java/lang/String", name := "checkBoundsBeginEnd", desc := "(III)V" } : Jvm.MethodName)) ∈ lw_all := lw_g (lw_at lw_m3 80 rfl) rfl
theorem q675 : (Jvm.Cond.code ({ cls := "java/lang/String", name := "checkBoundsBeginEnd", desc := "(III)V" } : Jvm.MethodName) prog_48_method_158_code (3 : Nat) (Option.none : Option Jvm.ClassFile.FieldType)) ∈ lw_all := lw_g (lw_at lw_m3 81 rfl) rfl
theorem q676 : (Jvm.Cond.fieldLink "java/lang/String" (1053 : Nat) "jdk/internal/util/Preconditions" "SIOOBE_FORMATTER" "Ljava/util/function/BiFunction;") ∈ lw_all := lw_g (lw_at lw_m3 82 rfl) rfl
theorem q678 : (Jvm.Cond.methodLink "java/lang/String" (1062 : Nat) ({ cls := "jdk/internal/util/Preconditions", name := "checkFromToIndex", desc := "(IIILjava/util/function/BiFunction;)I" } : Jvm.MethodName)) ∈ lw_all := lw_g (lw_at lw_m3 84 rfl) rfl
theorem q718 : (Jvm.Cond.instanceMethod ({ cls := "java/lang/String", name := "charAt", desc := "(I)C" } : Jvm.MethodName)) ∈ lw_all := lw_g (lw_at lw_m3 124 rfl) rfl
theorem q719 : (Jvm.Cond.selects "java/lang/String" ({ cls := "java/lang/String", name := "charAt", desc := "(I)C" } : Jvm.MethodName) ({ cls := "java/lang/String", name := "charAt", desc := "(I)C" } : Jvm.MethodName)) ∈ lw_all := lw_g (lw_at lw_m3 125 rfl) rfl
theorem q720 : (Jvm.Cond.code ({ cls := "java/lang/String", name := "charAt", desc := "(I)C" } : Jvm.MethodName) prog_48_method_56_code (2 : Nat) (Option.some Jvm.ClassFile.FieldType.char)) ∈ lw_all := lw_g (lw_at lw_m3 126 rfl) rfl
theorem q721 : (Jvm.Cond.methodLink "java/lang/String" (495 : Nat) ({ cls := "java/lang/StringLatin1", name := "charAt", desc := "([BI)C" } : Jvm.MethodName)) ∈ lw_all := lw_g (lw_at lw_m3 127 rfl) rfl
theorem q725 : (Jvm.Cond.static ({ cls := "java/lang/String", name := "checkIndex", desc := "(II)V" } : Jvm.MethodName)) ∈ lw_all := lw_g (lw_at lw_m3 131 rfl) rfl
theorem q726 : (Jvm.Cond.code ({ cls := "java/lang/String", name := "checkIndex", desc := "(II)V" } : Jvm.MethodName) prog_48_method_155_code (2 : Nat) (Option.none : Option Jvm.ClassFile.FieldType)) ∈ lw_all := lw_g (lw_at lw_m3 132 rfl) rfl
theorem q727 : (Jvm.Cond.methodLink "java/lang/String" (1059 : Nat) ({ cls := "jdk/internal/util/Preconditions", name := "checkIndex", desc := "(IILjava/util/function/BiFunction;)I" } : Jvm.MethodName)) ∈ lw_all := lw_g (lw_at lw_m3 133 rfl) rfl
theorem q728 : (Jvm.Cond.methodLink "java/lang/String" (498 : Nat) ({ cls := "java/lang/StringUTF16", name := "charAt", desc := "([BI)C" } : Jvm.MethodName)) ∈ lw_all := lw_g (lw_at lw_m3 134 rfl) rfl
theorem q2407 : (Jvm.Cond.castable "java/lang/String" "java/lang/Object") ∈ lw_tbl := lw_at lw_m10 133 rfl
theorem q2453 : (Jvm.Cond.fieldLink "java/lang/String" (15 : Nat) "java/lang/String" "coder" "B") ∈ lw_all := lw_g (lw_at lw_m10 179 rfl) rfl
theorem q2454 : (Jvm.Cond.fieldLink "java/lang/String" (9 : Nat) "java/lang/String" "value" "[B") ∈ lw_all := lw_g (lw_at lw_m10 180 rfl) rfl

/-! java/lang/StringLatin1 -/
def RJ7 : String := "java/lang/StringLatin1"
abbrev cJ7_indexOf : ByteArray := prog_49_method_22_code
def yJ7_indexOf : MethodName := ⟨RJ7, "indexOf", "([BIII)I"⟩
abbrev cJ7_canEncode : ByteArray := prog_49_method_4_code
def yJ7_canEncode : MethodName := ⟨RJ7, "canEncode", "(I)Z"⟩
abbrev cJ7_indexOfChar : ByteArray := prog_49_method_23_code
def yJ7_indexOfChar : MethodName := ⟨RJ7, "indexOfChar", "([BIII)I"⟩
abbrev cJ7_charAt : ByteArray := prog_49_method_2_code
def yJ7_charAt : MethodName := ⟨RJ7, "charAt", "([BI)C"⟩
theorem q131 : (Jvm.Cond.initialized "java/lang/StringLatin1") ∈ lw_all := lw_g (lw_at lw_m1 17 rfl) rfl
theorem q646 : (Jvm.Cond.static ({ cls := "java/lang/StringLatin1", name := "indexOf", desc := "([BIII)I" } : Jvm.MethodName)) ∈ lw_all := lw_g (lw_at lw_m3 52 rfl) rfl
theorem q647 : (Jvm.Cond.code ({ cls := "java/lang/StringLatin1", name := "indexOf", desc := "([BIII)I" } : Jvm.MethodName) prog_49_method_22_code (4 : Nat) (Option.some Jvm.ClassFile.FieldType.int)) ∈ lw_all := lw_g (lw_at lw_m3 53 rfl) rfl
theorem q648 : (Jvm.Cond.methodLink "java/lang/StringLatin1" (88 : Nat) ({ cls := "java/lang/StringLatin1", name := "canEncode", desc := "(I)Z" } : Jvm.MethodName)) ∈ lw_all := lw_g (lw_at lw_m3 54 rfl) rfl
theorem q649 : (Jvm.Cond.static ({ cls := "java/lang/StringLatin1", name := "canEncode", desc := "(I)Z" } : Jvm.MethodName)) ∈ lw_all := lw_g (lw_at lw_m3 55 rfl) rfl
theorem q650 : (Jvm.Cond.code ({ cls := "java/lang/StringLatin1", name := "canEncode", desc := "(I)Z" } : Jvm.MethodName) prog_49_method_4_code (1 : Nat) (Option.some Jvm.ClassFile.FieldType.boolean)) ∈ lw_all := lw_g (lw_at lw_m3 56 rfl) rfl
theorem q651 : (Jvm.Cond.methodLink "java/lang/StringLatin1" (92 : Nat) ({ cls := "java/lang/Math", name := "max", desc := "(II)I" } : Jvm.MethodName)) ∈ lw_all := lw_g (lw_at lw_m3 57 rfl) rfl
theorem q654 : (Jvm.Cond.methodLink "java/lang/StringLatin1" (38 : Nat) ({ cls := "java/lang/Math", name := "min", desc := "(II)I" } : Jvm.MethodName)) ∈ lw_all := lw_g (lw_at lw_m3 60 rfl) rfl
theorem q655 : (Jvm.Cond.methodLink "java/lang/StringLatin1" (95 : Nat) ({ cls := "java/lang/StringLatin1", name := "indexOfChar", desc := "([BIII)I" } : Jvm.MethodName)) ∈ lw_all := lw_g (lw_at lw_m3 61 rfl) rfl
theorem q656 : (Jvm.Cond.static ({ cls := "java/lang/StringLatin1", name := "indexOfChar", desc := "([BIII)I" } : Jvm.MethodName)) ∈ lw_all := lw_g (lw_at lw_m3 62 rfl) rfl
theorem q657 : (Jvm.Cond.code ({ cls := "java/lang/StringLatin1", name := "indexOfChar", desc := "([BIII)I" } : Jvm.MethodName) prog_49_method_23_code (6 : Nat) (Option.some Jvm.ClassFile.FieldType.int)) ∈ lw_all := lw_g (lw_at lw_m3 63 rfl) rfl
theorem q722 : (Jvm.Cond.static ({ cls := "java/lang/StringLatin1", name := "charAt", desc := "([BI)C" } : Jvm.MethodName)) ∈ lw_all := lw_g (lw_at lw_m3 128 rfl) rfl
theorem q723 : (Jvm.Cond.code ({ cls := "java/lang/StringLatin1", name := "charAt", desc := "([BI)C" } : Jvm.MethodName) prog_49_method_2_code (2 : Nat) (Option.some Jvm.ClassFile.FieldType.char)) ∈ lw_all := lw_g (lw_at lw_m3 129 rfl) rfl
theorem q724 : (Jvm.Cond.methodLink "java/lang/StringLatin1" (9 : Nat) ({ cls := "java/lang/String", name := "checkIndex", desc := "(II)V" } : Jvm.MethodName)) ∈ lw_all := lw_g (lw_at lw_m3 130 rfl) rfl

/-! java/lang/StringUTF16 -/
def RJ8 : String := "java/lang/StringUTF16"
abbrev cJ8_indexOf : ByteArray := prog_50_method_40_code
def yJ8_indexOf : MethodName := ⟨RJ8, "indexOf", "([BIII)I"⟩
abbrev cJ8_indexOfChar : ByteArray := prog_50_method_47_code
def yJ8_indexOfChar : MethodName := ⟨RJ8, "indexOfChar", "([BIII)I"⟩
abbrev cJ8_checkBoundsBeginEnd : ByteArray := prog_50_method_93_code
def yJ8_checkBoundsBeginEnd : MethodName := ⟨RJ8, "checkBoundsBeginEnd", "(II[B)V"⟩
abbrev cJ8_length : ByteArray := prog_50_method_6_code
def yJ8_length : MethodName := ⟨RJ8, "length", "([B)I"⟩
abbrev cJ8_indexOfCharUnsafe : ByteArray := prog_50_method_48_code
def yJ8_indexOfCharUnsafe : MethodName := ⟨RJ8, "indexOfCharUnsafe", "([BIII)I"⟩
abbrev cJ8_getChar : ByteArray := prog_50_method_5_code
def yJ8_getChar : MethodName := ⟨RJ8, "getChar", "([BI)C"⟩
abbrev cJ8_indexOfSupplementary : ByteArray := prog_50_method_49_code
def yJ8_indexOfSupplementary : MethodName := ⟨RJ8, "indexOfSupplementary", "([BIII)I"⟩
abbrev cJ8_charAt : ByteArray := prog_50_method_83_code
def yJ8_charAt : MethodName := ⟨RJ8, "charAt", "([BI)C"⟩
abbrev cJ8_checkIndex : ByteArray := prog_50_method_91_code
def yJ8_checkIndex : MethodName := ⟨RJ8, "checkIndex", "(I[B)V"⟩
theorem q132 : (Jvm.Cond.initialized "java/lang/StringUTF16") ∈ lw_all := lw_g (lw_at lw_m1 18 rfl) rfl
theorem q659 : (Jvm.Cond.static ({ cls := "java/lang/StringUTF16", name := "indexOf", desc := "([BIII)I" } : Jvm.MethodName)) ∈ lw_all := lw_g (lw_at lw_m3 65 rfl) rfl
theorem q660 : (Jvm.Cond.code ({ cls := "java/lang/StringUTF16", name := "indexOf", desc := "([BIII)I" } : Jvm.MethodName) prog_50_method_40_code (4 : Nat) (Option.some Jvm.ClassFile.FieldType.int)) ∈ lw_all := lw_g (lw_at lw_m3 66 rfl) rfl
theorem q661 : (Jvm.Cond.methodLink "java/lang/StringUTF16" (224 : Nat) ({ cls := "java/lang/Math", name := "max", desc := "(II)I" } : Jvm.MethodName)) ∈ lw_all := lw_g (lw_at lw_m3 67 rfl) rfl
theorem q662 : (Jvm.Cond.methodLink "java/lang/StringUTF16" (183 : Nat) ({ cls := "java/lang/Math", name := "min", desc := "(II)I" } : Jvm.MethodName)) ∈ lw_all := lw_g (lw_at lw_m3 68 rfl) rfl
theorem q663 : (Jvm.Cond.constant "java/lang/StringUTF16" (227 : Nat) (65536 : Int32)) ∈ lw_all := lw_g (lw_at lw_m3 69 rfl) rfl
theorem q664 : (Jvm.Cond.methodLink "java/lang/StringUTF16" (228 : Nat) ({ cls := "java/lang/StringUTF16", name := "indexOfChar", desc := "([BIII)I" } : Jvm.MethodName)) ∈ lw_all := lw_g (lw_at lw_m3 70 rfl) rfl
theorem q665 : (Jvm.Cond.static ({ cls := "java/lang/StringUTF16", name := "indexOfChar", desc := "([BIII)I" } : Jvm.MethodName)) ∈ lw_all := lw_g (lw_at lw_m3 71 rfl) rfl
theorem q666 : (Jvm.Cond.code ({ cls := "java/lang/StringUTF16", name := "indexOfChar", desc := "([BIII)I" } : Jvm.MethodName) prog_50_method_47_code (4 : Nat) (Option.some Jvm.ClassFile.FieldType.int)) ∈ lw_all := lw_g (lw_at lw_m3 72 rfl) rfl
theorem q667 : (Jvm.Cond.methodLink "java/lang/StringUTF16" (96 : Nat) ({ cls := "java/lang/StringUTF16", name := "checkBoundsBeginEnd", desc := "(II[B)V" } : Jvm.MethodName)) ∈ lw_all := lw_g (lw_at lw_m3 73 rfl) rfl
theorem q668 : (Jvm.Cond.static ({ cls := "java/lang/StringUTF16", name := "checkBoundsBeginEnd", desc := "(II[B)V" } : Jvm.MethodName)) ∈ lw_all := lw_g (lw_at lw_m3 74 rfl) rfl
theorem q669 : (Jvm.Cond.code ({ cls := "java/lang/StringUTF16", name := "checkBoundsBeginEnd", desc := "(II[B)V" } : Jvm.MethodName) prog_50_method_93_code (3 : Nat) (Option.none : Option Jvm.ClassFile.FieldType)) ∈ lw_all := lw_g (lw_at lw_m3 75 rfl) rfl
theorem q670 : (Jvm.Cond.methodLink "java/lang/StringUTF16" (48 : Nat) ({ cls := "java/lang/StringUTF16", name := "length", desc := "([B)I" } : Jvm.MethodName)) ∈ lw_all := lw_g (lw_at lw_m3 76 rfl) rfl
theorem q671 : (Jvm.Cond.static ({ cls := "java/lang/StringUTF16", name := "length", desc := "([B)I" } : Jvm.MethodName)) ∈ lw_all := lw_g (lw_at lw_m3 77 rfl) rfl
theorem q672 : (Jvm.Cond.code ({ cls := "java/lang/StringUTF16", name := "length", desc := "([B)I" } : Jvm.MethodName) prog_50_method_6_code (1 : Nat) (Option.some Jvm.ClassFile.FieldType.int)) ∈ lw_all := lw_g (lw_at lw_m3 78 rfl) rfl
theorem q673 : (Jvm.Cond.methodLink "java/lang/StringUTF16" (241 : Nat) ({ cls := "java/lang/String", name := "checkBoundsBeginEnd", desc := "(III)V" } : Jvm.MethodName)) ∈ lw_all := lw_g (lw_at lw_m3 79 rfl) rfl
theorem q681 : (Jvm.Cond.methodLink "java/lang/StringUTF16" (244 : Nat) ({ cls := "java/lang/StringUTF16", name := "indexOfCharUnsafe", desc := "([BIII)I" } : Jvm.MethodName)) ∈ lw_all := lw_g (lw_at lw_m3 87 rfl) rfl
theorem q682 : (Jvm.Cond.static ({ cls := "java/lang/StringUTF16", name := "indexOfCharUnsafe", desc := "([BIII)I" } : Jvm.MethodName)) ∈ lw_all := lw_g (lw_at lw_m3 88 rfl) rfl
theorem q683 : (Jvm.Cond.code ({ cls := "java/lang/StringUTF16", name := "indexOfCharUnsafe", desc := "([BIII)I" } : Jvm.MethodName) prog_50_method_48_code (5 : Nat) (Option.some Jvm.ClassFile.FieldType.int)) ∈ lw_all := lw_g (lw_at lw_m3 89 rfl) rfl
theorem q684 : (Jvm.Cond.methodLink "java/lang/StringUTF16" (71 : Nat) ({ cls := "java/lang/StringUTF16", name := "getChar", desc := "([BI)C" } : Jvm.MethodName)) ∈ lw_all := lw_g (lw_at lw_m3 90 rfl) rfl
theorem q685 : (Jvm.Cond.static ({ cls := "java/lang/StringUTF16", name := "getChar", desc := "([BI)C" } : Jvm.MethodName)) ∈ lw_all := lw_g (lw_at lw_m3 91 rfl) rfl
theorem q686 : (Jvm.Cond.code ({ cls := "java/lang/StringUTF16", name := "getChar", desc := "([BI)C" } : Jvm.MethodName) prog_50_method_5_code (2 : Nat) (Option.some Jvm.ClassFile.FieldType.char)) ∈ lw_all := lw_g (lw_at lw_m3 92 rfl) rfl
theorem q687 : (Jvm.Cond.fieldLink "java/lang/StringUTF16" (44 : Nat) "java/lang/StringUTF16" "$assertionsDisabled" "Z") ∈ lw_all := lw_g (lw_at lw_m3 93 rfl) rfl
theorem q688 : (Jvm.Cond.laysStatic "java/lang/StringUTF16" "$assertionsDisabled" "Z") ∈ lw_tbl := lw_at lw_m3 94 rfl
theorem q689 : (Jvm.Cond.fieldLink "java/lang/StringUTF16" (59 : Nat) "java/lang/StringUTF16" "HI_BYTE_SHIFT" "I") ∈ lw_all := lw_g (lw_at lw_m3 95 rfl) rfl
theorem q690 : (Jvm.Cond.laysStatic "java/lang/StringUTF16" "HI_BYTE_SHIFT" "I") ∈ lw_tbl := lw_at lw_m3 96 rfl
theorem q691 : (Jvm.Cond.fieldLink "java/lang/StringUTF16" (63 : Nat) "java/lang/StringUTF16" "LO_BYTE_SHIFT" "I") ∈ lw_all := lw_g (lw_at lw_m3 97 rfl) rfl
theorem q692 : (Jvm.Cond.laysStatic "java/lang/StringUTF16" "LO_BYTE_SHIFT" "I") ∈ lw_tbl := lw_at lw_m3 98 rfl
theorem q693 : (Jvm.Cond.methodLink "java/lang/StringUTF16" (232 : Nat) ({ cls := "java/lang/StringUTF16", name := "indexOfSupplementary", desc := "([BIII)I" } : Jvm.MethodName)) ∈ lw_all := lw_g (lw_at lw_m3 99 rfl) rfl
theorem q694 : (Jvm.Cond.static ({ cls := "java/lang/StringUTF16", name := "indexOfSupplementary", desc := "([BIII)I" } : Jvm.MethodName)) ∈ lw_all := lw_g (lw_at lw_m3 100 rfl) rfl
theorem q695 : (Jvm.Cond.code ({ cls := "java/lang/StringUTF16", name := "indexOfSupplementary", desc := "([BIII)I" } : Jvm.MethodName) prog_50_method_49_code (7 : Nat) (Option.some Jvm.ClassFile.FieldType.int)) ∈ lw_all := lw_g (lw_at lw_m3 101 rfl) rfl
theorem q696 : (Jvm.Cond.methodLink "java/lang/StringUTF16" (164 : Nat) ({ cls := "java/lang/Character", name := "isValidCodePoint", desc := "(I)Z" } : Jvm.MethodName)) ∈ lw_all := lw_g (lw_at lw_m3 102 rfl) rfl
theorem q699 : (Jvm.Cond.methodLink "java/lang/StringUTF16" (157 : Nat) ({ cls := "java/lang/Character", name := "highSurrogate", desc := "(I)C" } : Jvm.MethodName)) ∈ lw_all := lw_g (lw_at lw_m3 105 rfl) rfl
theorem q703 : (Jvm.Cond.methodLink "java/lang/StringUTF16" (161 : Nat) ({ cls := "java/lang/Character", name := "lowSurrogate", desc := "(I)C" } : Jvm.MethodName)) ∈ lw_all := lw_g (lw_at lw_m3 109 rfl) rfl
theorem q729 : (Jvm.Cond.static ({ cls := "java/lang/StringUTF16", name := "charAt", desc := "([BI)C" } : Jvm.MethodName)) ∈ lw_all := lw_g (lw_at lw_m3 135 rfl) rfl
theorem q730 : (Jvm.Cond.code ({ cls := "java/lang/StringUTF16", name := "charAt", desc := "([BI)C" } : Jvm.MethodName) prog_50_method_83_code (2 : Nat) (Option.some Jvm.ClassFile.FieldType.char)) ∈ lw_all := lw_g (lw_at lw_m3 136 rfl) rfl
theorem q731 : (Jvm.Cond.methodLink "java/lang/StringUTF16" (67 : Nat) ({ cls := "java/lang/StringUTF16", name := "checkIndex", desc := "(I[B)V" } : Jvm.MethodName)) ∈ lw_all := lw_g (lw_at lw_m3 137 rfl) rfl
theorem q732 : (Jvm.Cond.static ({ cls := "java/lang/StringUTF16", name := "checkIndex", desc := "(I[B)V" } : Jvm.MethodName)) ∈ lw_all := lw_g (lw_at lw_m3 138 rfl) rfl
theorem q733 : (Jvm.Cond.code ({ cls := "java/lang/StringUTF16", name := "checkIndex", desc := "(I[B)V" } : Jvm.MethodName) prog_50_method_91_code (2 : Nat) (Option.none : Option Jvm.ClassFile.FieldType)) ∈ lw_all := lw_g (lw_at lw_m3 139 rfl) rfl
theorem q734 : (Jvm.Cond.methodLink "java/lang/StringUTF16" (414 : Nat) ({ cls := "java/lang/String", name := "checkIndex", desc := "(II)V" } : Jvm.MethodName)) ∈ lw_all := lw_g (lw_at lw_m3 140 rfl) rfl

/-! java/lang/Character -/
def RJ9 : String := "java/lang/Character"
abbrev cJ9_isValidCodePoint : ByteArray := prog_36_method_11_code
def yJ9_isValidCodePoint : MethodName := ⟨RJ9, "isValidCodePoint", "(I)Z"⟩
abbrev cJ9_highSurrogate : ByteArray := prog_36_method_28_code
def yJ9_highSurrogate : MethodName := ⟨RJ9, "highSurrogate", "(I)C"⟩
abbrev cJ9_lowSurrogate : ByteArray := prog_36_method_29_code
def yJ9_lowSurrogate : MethodName := ⟨RJ9, "lowSurrogate", "(I)C"⟩
theorem q133 : (Jvm.Cond.initialized "java/lang/Character") ∈ lw_all := lw_g (lw_at lw_m1 19 rfl) rfl
theorem q697 : (Jvm.Cond.static ({ cls := "java/lang/Character", name := "isValidCodePoint", desc := "(I)Z" } : Jvm.MethodName)) ∈ lw_all := lw_g (lw_at lw_m3 103 rfl) rfl
theorem q698 : (Jvm.Cond.code ({ cls := "java/lang/Character", name := "isValidCodePoint", desc := "(I)Z" } : Jvm.MethodName) prog_36_method_11_code (2 : Nat) (Option.some Jvm.ClassFile.FieldType.boolean)) ∈ lw_all := lw_g (lw_at lw_m3 104 rfl) rfl
theorem q700 : (Jvm.Cond.static ({ cls := "java/lang/Character", name := "highSurrogate", desc := "(I)C" } : Jvm.MethodName)) ∈ lw_all := lw_g (lw_at lw_m3 106 rfl) rfl
theorem q701 : (Jvm.Cond.code ({ cls := "java/lang/Character", name := "highSurrogate", desc := "(I)C" } : Jvm.MethodName) prog_36_method_28_code (1 : Nat) (Option.some Jvm.ClassFile.FieldType.char)) ∈ lw_all := lw_g (lw_at lw_m3 107 rfl) rfl
theorem q702 : (Jvm.Cond.constant "java/lang/Character" (110 : Nat) (55232 : Int32)) ∈ lw_all := lw_g (lw_at lw_m3 108 rfl) rfl
theorem q704 : (Jvm.Cond.static ({ cls := "java/lang/Character", name := "lowSurrogate", desc := "(I)C" } : Jvm.MethodName)) ∈ lw_all := lw_g (lw_at lw_m3 110 rfl) rfl
theorem q705 : (Jvm.Cond.code ({ cls := "java/lang/Character", name := "lowSurrogate", desc := "(I)C" } : Jvm.MethodName) prog_36_method_29_code (1 : Nat) (Option.some Jvm.ClassFile.FieldType.char)) ∈ lw_all := lw_g (lw_at lw_m3 111 rfl) rfl
theorem q706 : (Jvm.Cond.constant "java/lang/Character" (76 : Nat) (56320 : Int32)) ∈ lw_all := lw_g (lw_at lw_m3 112 rfl) rfl

/-! java/lang/Throwable -/
def RJ10 : String := "java/lang/Throwable"
def TJ10 : u_T := fun k => match k with
  | 0 => ("java/lang/Throwable", "cause", "Ljava/lang/Throwable;", false)
  | 1 => ("java/lang/Throwable", "stackTrace", "[Ljava/lang/StackTraceElement;", false)
  | 2 => ("java/lang/Throwable", "suppressedExceptions", "Ljava/util/List;", false)
  | 3 => ("java/lang/Throwable", "detailMessage", "Ljava/lang/String;", false)
  | _ => ("java/lang/Throwable", "backtrace", "Ljava/lang/Object;", false)
def tyJ10 : Nat → FieldType := fun k => match k with
  | 0 => .object "java/lang/Throwable"
  | 1 => .array (.object "java/lang/StackTraceElement")
  | 2 => .object "java/util/List"
  | 3 => .object "java/lang/String"
  | _ => .object "java/lang/Object"
abbrev wsJ100 : List Cond := u_ws RJ10 TJ10 5
theorem nmJ10 : ∀ a, a < 5 → ∀ b, b < 5 → a ≠ b → (TJ10 a).2.1 ≠ (TJ10 b).2.1 := by decide +kernel
theorem tyJ10_ok : ∀ k, k < 5 → parseFieldDescriptor (TJ10 k).2.2.1 = some (tyJ10 k) := by decide +kernel
abbrev cJ10_init : ByteArray := prog_52_method_1_code
def yJ10_init : MethodName := ⟨RJ10, "<init>", "()V"⟩
theorem q134 : (Jvm.Cond.initialized "java/lang/Throwable") ∈ lw_all := lw_g (lw_at lw_m1 20 rfl) rfl
theorem q760 : (Jvm.Cond.declares ({ cls := "java/lang/Throwable", name := "<init>", desc := "()V" } : Jvm.MethodName)) ∈ lw_tbl := lw_at lw_m3 166 rfl
theorem q761 : (Jvm.Cond.declares ({ cls := "java/lang/Throwable", name := "<init>", desc := "(Ljava/lang/String;)V" } : Jvm.MethodName)) ∈ lw_tbl := lw_at lw_m3 167 rfl
theorem q765 : (Jvm.Cond.lays "java/lang/Throwable" "java/lang/Throwable" "cause" "Ljava/lang/Throwable;") ∈ lw_all := lw_g (lw_at lw_m3 171 rfl) rfl
theorem q767 : (Jvm.Cond.lays "java/lang/Throwable" "java/lang/Throwable" "stackTrace" "[Ljava/lang/StackTraceElement;") ∈ lw_all := lw_g (lw_at lw_m3 173 rfl) rfl
theorem q769 : (Jvm.Cond.lays "java/lang/Throwable" "java/lang/Throwable" "suppressedExceptions" "Ljava/util/List;") ∈ lw_all := lw_g (lw_at lw_m3 175 rfl) rfl
theorem q771 : (Jvm.Cond.lays "java/lang/Throwable" "java/lang/Throwable" "detailMessage" "Ljava/lang/String;") ∈ lw_all := lw_g (lw_at lw_m3 177 rfl) rfl
theorem q773 : (Jvm.Cond.lays "java/lang/Throwable" "java/lang/Throwable" "backtrace" "Ljava/lang/Object;") ∈ lw_all := lw_g (lw_at lw_m3 179 rfl) rfl
theorem q774 : (Jvm.Cond.fieldLink "java/lang/Throwable" (198 : Nat) "java/lang/Throwable" "backtrace" "Ljava/lang/Object;") ∈ lw_all := lw_g (lw_at lw_m3 180 rfl) rfl
theorem q775 : (Jvm.Cond.superclass "java/lang/Throwable" "java/lang/Object") ∈ lw_all := lw_g (lw_at lw_m3 181 rfl) rfl
theorem q776 : (Jvm.Cond.instanceMethod ({ cls := "java/lang/Throwable", name := "<init>", desc := "()V" } : Jvm.MethodName)) ∈ lw_all := lw_g (lw_at lw_m3 182 rfl) rfl
theorem q777 : (Jvm.Cond.code ({ cls := "java/lang/Throwable", name := "<init>", desc := "()V" } : Jvm.MethodName) prog_52_method_1_code (1 : Nat) (Option.none : Option Jvm.ClassFile.FieldType)) ∈ lw_all := lw_g (lw_at lw_m3 183 rfl) rfl
theorem q778 : (Jvm.Cond.methodLink "java/lang/Throwable" (1 : Nat) ({ cls := "java/lang/Object", name := "<init>", desc := "()V" } : Jvm.MethodName)) ∈ lw_all := lw_g (lw_at lw_m3 184 rfl) rfl
theorem q779 : (Jvm.Cond.fieldLink "java/lang/Throwable" (13 : Nat) "java/lang/Throwable" "UNASSIGNED_STACK" "[Ljava/lang/StackTraceElement;") ∈ lw_all := lw_g (lw_at lw_m3 185 rfl) rfl
theorem q780 : (Jvm.Cond.laysStatic "java/lang/Throwable" "UNASSIGNED_STACK" "[Ljava/lang/StackTraceElement;") ∈ lw_tbl := lw_at lw_m3 186 rfl
theorem q781 : (Jvm.Cond.fieldLink "java/lang/Throwable" (20 : Nat) "java/lang/Throwable" "SUPPRESSED_SENTINEL" "Ljava/util/List;") ∈ lw_all := lw_g (lw_at lw_m3 187 rfl) rfl
theorem q782 : (Jvm.Cond.laysStatic "java/lang/Throwable" "SUPPRESSED_SENTINEL" "Ljava/util/List;") ∈ lw_tbl := lw_at lw_m3 188 rfl
theorem q783 : (Jvm.Cond.methodLink "java/lang/Throwable" (27 : Nat) ({ cls := "java/lang/Throwable", name := "fillInStackTrace", desc := "()Ljava/lang/Throwable;" } : Jvm.MethodName)) ∈ lw_all := lw_g (lw_at lw_m3 189 rfl) rfl
theorem q784 : (Jvm.Cond.instanceMethod ({ cls := "java/lang/Throwable", name := "fillInStackTrace", desc := "()Ljava/lang/Throwable;" } : Jvm.MethodName)) ∈ lw_all := lw_g (lw_at lw_m3 190 rfl) rfl
theorem q785 : (Jvm.Cond.sameMethod "java/lang/Throwable" "java/lang/Throwable" "fillInStackTrace" "()Ljava/lang/Throwable;") ∈ lw_all := lw_g (lw_at lw_m3 191 rfl) rfl
theorem q787 : (Jvm.Cond.codeSync ({ cls := "java/lang/Throwable", name := "fillInStackTrace", desc := "()Ljava/lang/Throwable;" } : Jvm.MethodName) prog_52_method_18_code (1 : Nat) (Option.some (Jvm.ClassFile.FieldType.object "java/lang/Throwable"))) ∈ lw_all := lw_g (lw_at lw_m3 193 rfl) rfl
theorem q788 : (Jvm.Cond.methodLink "java/lang/Throwable" (202 : Nat) ({ cls := "java/lang/Throwable", name := "fillInStackTrace", desc := "(I)Ljava/lang/Throwable;" } : Jvm.MethodName)) ∈ lw_all := lw_g (lw_at lw_m3 194 rfl) rfl
theorem q789 : (Jvm.Cond.privateMethod ({ cls := "java/lang/Throwable", name := "fillInStackTrace", desc := "(I)Ljava/lang/Throwable;" } : Jvm.MethodName)) ∈ lw_tbl := lw_at lw_m3 195 rfl
theorem q790 : (Jvm.Cond.instanceMethod ({ cls := "java/lang/Throwable", name := "fillInStackTrace", desc := "(I)Ljava/lang/Throwable;" } : Jvm.MethodName)) ∈ lw_all := lw_g (lw_at lw_m3 196 rfl) rfl
theorem q791 : (Jvm.Cond.instantiable "java/lang/Throwable" (6 : Nat)) ∈ lw_all := lw_g (lw_at lw_m3 197 rfl) rfl
theorem q792 : (Jvm.Cond.native ({ cls := "java/lang/Throwable", name := "fillInStackTrace", desc := "(I)Ljava/lang/Throwable;" } : Jvm.MethodName)) ∈ lw_all := lw_g (lw_at lw_m3 198 rfl) rfl
theorem q802 : (Jvm.Cond.fieldLink "java/lang/Throwable" (198 : Nat) "java/lang/Throwable" "backtrace" "Ljava/lang/Object;") ∈ lw_all := lw_g (lw_at lw_m3 208 rfl) rfl
theorem q803 : (Jvm.Cond.fieldLink "java/lang/Throwable" (7 : Nat) "java/lang/Throwable" "cause" "Ljava/lang/Throwable;") ∈ lw_all := lw_g (lw_at lw_m3 209 rfl) rfl
theorem q804 : (Jvm.Cond.fieldLink "java/lang/Throwable" (17 : Nat) "java/lang/Throwable" "stackTrace" "[Ljava/lang/StackTraceElement;") ∈ lw_all := lw_g (lw_at lw_m3 210 rfl) rfl
theorem q805 : (Jvm.Cond.fieldLink "java/lang/Throwable" (24 : Nat) "java/lang/Throwable" "suppressedExceptions" "Ljava/util/List;") ∈ lw_all := lw_g (lw_at lw_m3 211 rfl) rfl
theorem q808 : (Jvm.Cond.soleField "java/lang/Throwable" "backtrace") ∈ lw_all := lw_g (lw_at lw_m3 214 rfl) rfl
theorem q809 : (Jvm.Cond.soleField "java/lang/Throwable" "detailMessage") ∈ lw_all := lw_g (lw_at lw_m3 215 rfl) rfl
theorem q810 : (Jvm.Cond.soleField "java/lang/Throwable" "cause") ∈ lw_all := lw_g (lw_at lw_m3 216 rfl) rfl
theorem q811 : (Jvm.Cond.soleField "java/lang/Throwable" "stackTrace") ∈ lw_all := lw_g (lw_at lw_m3 217 rfl) rfl
theorem q813 : (Jvm.Cond.soleField "java/lang/Throwable" "depth") ∈ lw_all := lw_g (lw_at lw_m3 219 rfl) rfl
theorem q814 : (Jvm.Cond.soleField "java/lang/Throwable" "suppressedExceptions") ∈ lw_all := lw_g (lw_at lw_m3 220 rfl) rfl
theorem q2388 : (Jvm.Cond.sameMethod "java/lang/Throwable" "java/lang/Throwable" "fillInStackTrace" "(I)Ljava/lang/Throwable;") ∈ lw_all := lw_g (lw_at lw_m10 114 rfl) rfl
theorem q2441 : (Jvm.Cond.castable "java/lang/Throwable" "java/lang/Object") ∈ lw_tbl := lw_at lw_m10 167 rfl
theorem in_J10 : ∀ w ∈ wsJ100, w ∈ lw_all := lw_in wsJ100 [765, 767, 769, 771, 773] (by decide +kernel) (by decide +kernel)

/-! java/lang/Exception -/
def RJ11 : String := "java/lang/Exception"
abbrev cJ11_init : ByteArray := prog_39_method_1_code
def yJ11_init : MethodName := ⟨RJ11, "<init>", "()V"⟩
theorem q135 : (Jvm.Cond.initialized "java/lang/Exception") ∈ lw_all := lw_g (lw_at lw_m1 21 rfl) rfl
theorem q758 : (Jvm.Cond.declares ({ cls := "java/lang/Exception", name := "<init>", desc := "()V" } : Jvm.MethodName)) ∈ lw_tbl := lw_at lw_m3 164 rfl
theorem q759 : (Jvm.Cond.declares ({ cls := "java/lang/Exception", name := "<init>", desc := "(Ljava/lang/String;)V" } : Jvm.MethodName)) ∈ lw_tbl := lw_at lw_m3 165 rfl
theorem q797 : (Jvm.Cond.instanceMethod ({ cls := "java/lang/Exception", name := "<init>", desc := "()V" } : Jvm.MethodName)) ∈ lw_all := lw_g (lw_at lw_m3 203 rfl) rfl
theorem q798 : (Jvm.Cond.code ({ cls := "java/lang/Exception", name := "<init>", desc := "()V" } : Jvm.MethodName) prog_39_method_1_code (1 : Nat) (Option.none : Option Jvm.ClassFile.FieldType)) ∈ lw_all := lw_g (lw_at lw_m3 204 rfl) rfl
theorem q799 : (Jvm.Cond.methodLink "java/lang/Exception" (1 : Nat) ({ cls := "java/lang/Throwable", name := "<init>", desc := "()V" } : Jvm.MethodName)) ∈ lw_all := lw_g (lw_at lw_m3 205 rfl) rfl

/-! OrdinaryStalk$Wrong -/
def RX10 : String := "OrdinaryStalk$Wrong"
def TX10 : u_T := fun k => match k with
  | 0 => ("java/lang/Throwable", "cause", "Ljava/lang/Throwable;", false)
  | 1 => ("java/lang/Throwable", "stackTrace", "[Ljava/lang/StackTraceElement;", false)
  | 2 => ("java/lang/Throwable", "suppressedExceptions", "Ljava/util/List;", false)
  | 3 => ("java/lang/Throwable", "detailMessage", "Ljava/lang/String;", false)
  | 4 => ("java/lang/Throwable", "backtrace", "Ljava/lang/Object;", false)
  | 5 => ("java/lang/Throwable", "depth", "I", false)
  | _ => ("OrdinaryStalk$Wrong", "fault", "I", true)
def tyX10 : Nat → FieldType := fun k => match k with
  | 0 => .object "java/lang/Throwable"
  | 1 => .array (.object "java/lang/StackTraceElement")
  | 2 => .object "java/util/List"
  | 3 => .object "java/lang/String"
  | 4 => .object "java/lang/Object"
  | 5 => .int
  | _ => .int
abbrev wsX100 : List Cond := u_ws RX10 TX10 7
theorem nmX10 : ∀ a, a < 7 → ∀ b, b < 7 → a ≠ b → (TX10 a).2.1 ≠ (TX10 b).2.1 := by decide +kernel
theorem tyX10_ok : ∀ k, k < 7 → parseFieldDescriptor (TX10 k).2.2.1 = some (tyX10 k) := by decide +kernel
abbrev cX10_init : ByteArray := prog_31_method_1_code
def yX10_init : MethodName := ⟨RX10, "<init>", "(I)V"⟩
theorem q136 : (Jvm.Cond.initialized "OrdinaryStalk$Wrong") ∈ lw_all := lw_g (lw_at lw_m1 22 rfl) rfl
theorem q756 : (Jvm.Cond.instantiable "OrdinaryStalk$Wrong" (7 : Nat)) ∈ lw_all := lw_g (lw_at lw_m3 162 rfl) rfl
theorem q757 : (Jvm.Cond.castable "OrdinaryStalk$Wrong" "OrdinaryStalk$Wrong") ∈ lw_tbl := lw_at lw_m3 163 rfl
theorem q762 : (Jvm.Cond.selects "OrdinaryStalk$Wrong" ({ cls := "java/lang/Throwable", name := "fillInStackTrace", desc := "(I)Ljava/lang/Throwable;" } : Jvm.MethodName) ({ cls := "java/lang/Throwable", name := "fillInStackTrace", desc := "(I)Ljava/lang/Throwable;" } : Jvm.MethodName)) ∈ lw_all := lw_g (lw_at lw_m3 168 rfl) rfl
theorem q763 : (Jvm.Cond.selects "OrdinaryStalk$Wrong" ({ cls := "java/lang/Throwable", name := "fillInStackTrace", desc := "()Ljava/lang/Throwable;" } : Jvm.MethodName) ({ cls := "java/lang/Throwable", name := "fillInStackTrace", desc := "()Ljava/lang/Throwable;" } : Jvm.MethodName)) ∈ lw_all := lw_g (lw_at lw_m3 169 rfl) rfl
theorem q764 : (Jvm.Cond.lays "OrdinaryStalk$Wrong" "java/lang/Throwable" "cause" "Ljava/lang/Throwable;") ∈ lw_all := lw_g (lw_at lw_m3 170 rfl) rfl
theorem q766 : (Jvm.Cond.lays "OrdinaryStalk$Wrong" "java/lang/Throwable" "stackTrace" "[Ljava/lang/StackTraceElement;") ∈ lw_all := lw_g (lw_at lw_m3 172 rfl) rfl
theorem q768 : (Jvm.Cond.lays "OrdinaryStalk$Wrong" "java/lang/Throwable" "suppressedExceptions" "Ljava/util/List;") ∈ lw_all := lw_g (lw_at lw_m3 174 rfl) rfl
theorem q770 : (Jvm.Cond.lays "OrdinaryStalk$Wrong" "java/lang/Throwable" "detailMessage" "Ljava/lang/String;") ∈ lw_all := lw_g (lw_at lw_m3 176 rfl) rfl
theorem q772 : (Jvm.Cond.lays "OrdinaryStalk$Wrong" "java/lang/Throwable" "backtrace" "Ljava/lang/Object;") ∈ lw_all := lw_g (lw_at lw_m3 178 rfl) rfl
theorem q794 : (Jvm.Cond.instanceMethod ({ cls := "OrdinaryStalk$Wrong", name := "<init>", desc := "(I)V" } : Jvm.MethodName)) ∈ lw_all := lw_g (lw_at lw_m3 200 rfl) rfl
theorem q795 : (Jvm.Cond.code ({ cls := "OrdinaryStalk$Wrong", name := "<init>", desc := "(I)V" } : Jvm.MethodName) prog_31_method_1_code (2 : Nat) (Option.none : Option Jvm.ClassFile.FieldType)) ∈ lw_all := lw_g (lw_at lw_m3 201 rfl) rfl
theorem q796 : (Jvm.Cond.methodLink "OrdinaryStalk$Wrong" (1 : Nat) ({ cls := "java/lang/Exception", name := "<init>", desc := "()V" } : Jvm.MethodName)) ∈ lw_all := lw_g (lw_at lw_m3 202 rfl) rfl
theorem q800 : (Jvm.Cond.fieldLink "OrdinaryStalk$Wrong" (7 : Nat) "OrdinaryStalk$Wrong" "fault" "I") ∈ lw_all := lw_g (lw_at lw_m3 206 rfl) rfl
theorem q806 : (Jvm.Cond.laysFinal "OrdinaryStalk$Wrong" "OrdinaryStalk$Wrong" "fault" "I") ∈ lw_all := lw_g (lw_at lw_m3 212 rfl) rfl
theorem q807 : (Jvm.Cond.soleField "OrdinaryStalk$Wrong" "fault") ∈ lw_all := lw_g (lw_at lw_m3 213 rfl) rfl
theorem q812 : (Jvm.Cond.lays "OrdinaryStalk$Wrong" "java/lang/Throwable" "depth" "I") ∈ lw_all := lw_g (lw_at lw_m3 218 rfl) rfl
theorem q815 : (Jvm.Cond.superclass "OrdinaryStalk$Wrong" "java/lang/Exception") ∈ lw_all := lw_g (lw_at lw_m3 221 rfl) rfl
theorem q927 : (Jvm.Cond.selects "OrdinaryStalk$Wrong" ({ cls := "java/lang/Object", name := "getClass", desc := "()Ljava/lang/Class;" } : Jvm.MethodName) ({ cls := "java/lang/Object", name := "getClass", desc := "()Ljava/lang/Class;" } : Jvm.MethodName)) ∈ lw_all := lw_g (lw_at lw_m4 93 rfl) rfl
theorem q2419 : (Jvm.Cond.castable "OrdinaryStalk$Wrong" "java/lang/Object") ∈ lw_tbl := lw_at lw_m10 145 rfl
theorem in_X10 : ∀ w ∈ wsX100, w ∈ lw_all := lw_in wsX100 [764, 766, 768, 770, 772, 812, 806] (by decide +kernel) (by decide +kernel)

/-! java/lang/Number -/
def RJ12 : String := "java/lang/Number"
abbrev cJ12_init : ByteArray := prog_46_method_1_code
def yJ12_init : MethodName := ⟨RJ12, "<init>", "()V"⟩
theorem q137 : (Jvm.Cond.initialized "java/lang/Number") ∈ lw_all := lw_g (lw_at lw_m1 23 rfl) rfl
theorem q863 : (Jvm.Cond.instanceMethod ({ cls := "java/lang/Number", name := "<init>", desc := "()V" } : Jvm.MethodName)) ∈ lw_all := lw_g (lw_at lw_m4 29 rfl) rfl
theorem q864 : (Jvm.Cond.code ({ cls := "java/lang/Number", name := "<init>", desc := "()V" } : Jvm.MethodName) prog_46_method_1_code (1 : Nat) (Option.none : Option Jvm.ClassFile.FieldType)) ∈ lw_all := lw_g (lw_at lw_m4 30 rfl) rfl
theorem q865 : (Jvm.Cond.methodLink "java/lang/Number" (1 : Nat) ({ cls := "java/lang/Object", name := "<init>", desc := "()V" } : Jvm.MethodName)) ∈ lw_all := lw_g (lw_at lw_m4 31 rfl) rfl

/-! java/lang/Long -/
def RJ13 : String := "java/lang/Long"
def TJ13 : u_T := fun k => match k with
  | _ => ("java/lang/Long", "value", "J", true)
def tyJ13 : Nat → FieldType := fun k => match k with
  | _ => .long
abbrev wsJ130 : List Cond := u_ws RJ13 TJ13 1
theorem nmJ13 : ∀ a, a < 1 → ∀ b, b < 1 → a ≠ b → (TJ13 a).2.1 ≠ (TJ13 b).2.1 := by decide +kernel
theorem tyJ13_ok : ∀ k, k < 1 → parseFieldDescriptor (TJ13 k).2.2.1 = some (tyJ13 k) := by decide +kernel
abbrev cJ13_longValue : ByteArray := prog_43_method_31_code
def yJ13_longValue : MethodName := ⟨RJ13, "longValue", "()J"⟩
abbrev cJ13_valueOf : ByteArray := prog_43_method_24_code
def yJ13_valueOf : MethodName := ⟨RJ13, "valueOf", "(J)Ljava/lang/Long;"⟩
abbrev cJ13_init : ByteArray := prog_43_method_26_code
def yJ13_init : MethodName := ⟨RJ13, "<init>", "(J)V"⟩
theorem q138 : (Jvm.Cond.initialized "java/lang/Long") ∈ lw_all := lw_g (lw_at lw_m1 24 rfl) rfl
theorem q845 : (Jvm.Cond.instanceMethod ({ cls := "java/lang/Long", name := "longValue", desc := "()J" } : Jvm.MethodName)) ∈ lw_all := lw_g (lw_at lw_m4 11 rfl) rfl
theorem q846 : (Jvm.Cond.selects "java/lang/Long" ({ cls := "java/lang/Long", name := "longValue", desc := "()J" } : Jvm.MethodName) ({ cls := "java/lang/Long", name := "longValue", desc := "()J" } : Jvm.MethodName)) ∈ lw_all := lw_g (lw_at lw_m4 12 rfl) rfl
theorem q847 : (Jvm.Cond.code ({ cls := "java/lang/Long", name := "longValue", desc := "()J" } : Jvm.MethodName) prog_43_method_31_code (1 : Nat) (Option.some Jvm.ClassFile.FieldType.long)) ∈ lw_all := lw_g (lw_at lw_m4 13 rfl) rfl
theorem q851 : (Jvm.Cond.static ({ cls := "java/lang/Long", name := "valueOf", desc := "(J)Ljava/lang/Long;" } : Jvm.MethodName)) ∈ lw_all := lw_g (lw_at lw_m4 17 rfl) rfl
theorem q852 : (Jvm.Cond.code ({ cls := "java/lang/Long", name := "valueOf", desc := "(J)Ljava/lang/Long;" } : Jvm.MethodName) prog_43_method_24_code (3 : Nat) (Option.some (Jvm.ClassFile.FieldType.object "java/lang/Long"))) ∈ lw_all := lw_g (lw_at lw_m4 18 rfl) rfl
theorem q853 : (Jvm.Cond.constantLong "java/lang/Long" (230 : Nat) (-128 : Int64)) ∈ lw_all := lw_g (lw_at lw_m4 19 rfl) rfl
theorem q854 : (Jvm.Cond.constantLong "java/lang/Long" (232 : Nat) (127 : Int64)) ∈ lw_all := lw_g (lw_at lw_m4 20 rfl) rfl
theorem q855 : (Jvm.Cond.fieldLink "java/lang/Long" (234 : Nat) "java/lang/Long$LongCache" "cache" "[Ljava/lang/Long;") ∈ lw_all := lw_g (lw_at lw_m4 21 rfl) rfl
theorem q857 : (Jvm.Cond.classLink "java/lang/Long" (1 : Nat) "java/lang/Long") ∈ lw_all := lw_g (lw_at lw_m4 23 rfl) rfl
theorem q858 : (Jvm.Cond.instantiable "java/lang/Long" (1 : Nat)) ∈ lw_all := lw_g (lw_at lw_m4 24 rfl) rfl
theorem q859 : (Jvm.Cond.methodLink "java/lang/Long" (240 : Nat) ({ cls := "java/lang/Long", name := "<init>", desc := "(J)V" } : Jvm.MethodName)) ∈ lw_all := lw_g (lw_at lw_m4 25 rfl) rfl
theorem q860 : (Jvm.Cond.instanceMethod ({ cls := "java/lang/Long", name := "<init>", desc := "(J)V" } : Jvm.MethodName)) ∈ lw_all := lw_g (lw_at lw_m4 26 rfl) rfl
theorem q861 : (Jvm.Cond.code ({ cls := "java/lang/Long", name := "<init>", desc := "(J)V" } : Jvm.MethodName) prog_43_method_26_code (3 : Nat) (Option.none : Option Jvm.ClassFile.FieldType)) ∈ lw_all := lw_g (lw_at lw_m4 27 rfl) rfl
theorem q862 : (Jvm.Cond.methodLink "java/lang/Long" (270 : Nat) ({ cls := "java/lang/Number", name := "<init>", desc := "()V" } : Jvm.MethodName)) ∈ lw_all := lw_g (lw_at lw_m4 28 rfl) rfl
theorem q866 : (Jvm.Cond.fieldLink "java/lang/Long" (273 : Nat) "java/lang/Long" "value" "J") ∈ lw_all := lw_g (lw_at lw_m4 32 rfl) rfl
theorem q867 : (Jvm.Cond.laysFinal "java/lang/Long" "java/lang/Long" "value" "J") ∈ lw_all := lw_g (lw_at lw_m4 33 rfl) rfl
theorem q868 : (Jvm.Cond.soleField "java/lang/Long" "value") ∈ lw_all := lw_g (lw_at lw_m4 34 rfl) rfl
theorem q869 : (Jvm.Cond.superclass "java/lang/Long" "java/lang/Number") ∈ lw_all := lw_g (lw_at lw_m4 35 rfl) rfl
theorem q930 : (Jvm.Cond.selects "java/lang/Long" ({ cls := "java/lang/Object", name := "getClass", desc := "()Ljava/lang/Class;" } : Jvm.MethodName) ({ cls := "java/lang/Object", name := "getClass", desc := "()Ljava/lang/Class;" } : Jvm.MethodName)) ∈ lw_all := lw_g (lw_at lw_m4 96 rfl) rfl
theorem q2420 : (Jvm.Cond.castable "java/lang/Long" "java/lang/Object") ∈ lw_tbl := lw_at lw_m10 146 rfl
theorem in_J13 : ∀ w ∈ wsJ130, w ∈ lw_all := lw_in wsJ130 [867] (by decide +kernel) (by decide +kernel)

/-! jdk/internal/util/ArraysSupport -/
def RJ14 : String := "jdk/internal/util/ArraysSupport"
abbrev cJ14_newLength : ByteArray := prog_65_method_27_code
def yJ14_newLength : MethodName := ⟨RJ14, "newLength", "(III)I"⟩
abbrev cJ14_hugeLength : ByteArray := prog_65_method_28_code
def yJ14_hugeLength : MethodName := ⟨RJ14, "hugeLength", "(II)I"⟩
theorem q140 : (Jvm.Cond.initialized "jdk/internal/util/ArraysSupport") ∈ lw_all := lw_g (lw_at lw_m1 26 rfl) rfl
theorem q887 : (Jvm.Cond.static ({ cls := "jdk/internal/util/ArraysSupport", name := "newLength", desc := "(III)I" } : Jvm.MethodName)) ∈ lw_all := lw_g (lw_at lw_m4 53 rfl) rfl
theorem q888 : (Jvm.Cond.code ({ cls := "jdk/internal/util/ArraysSupport", name := "newLength", desc := "(III)I" } : Jvm.MethodName) prog_65_method_27_code (4 : Nat) (Option.some Jvm.ClassFile.FieldType.int)) ∈ lw_all := lw_g (lw_at lw_m4 54 rfl) rfl
theorem q889 : (Jvm.Cond.methodLink "jdk/internal/util/ArraysSupport" (194 : Nat) ({ cls := "java/lang/Math", name := "max", desc := "(II)I" } : Jvm.MethodName)) ∈ lw_all := lw_g (lw_at lw_m4 55 rfl) rfl
theorem q890 : (Jvm.Cond.constant "jdk/internal/util/ArraysSupport" (200 : Nat) (2147483639 : Int32)) ∈ lw_all := lw_g (lw_at lw_m4 56 rfl) rfl
theorem q891 : (Jvm.Cond.methodLink "jdk/internal/util/ArraysSupport" (201 : Nat) ({ cls := "jdk/internal/util/ArraysSupport", name := "hugeLength", desc := "(II)I" } : Jvm.MethodName)) ∈ lw_all := lw_g (lw_at lw_m4 57 rfl) rfl
theorem q892 : (Jvm.Cond.static ({ cls := "jdk/internal/util/ArraysSupport", name := "hugeLength", desc := "(II)I" } : Jvm.MethodName)) ∈ lw_all := lw_g (lw_at lw_m4 58 rfl) rfl
theorem q893 : (Jvm.Cond.code ({ cls := "jdk/internal/util/ArraysSupport", name := "hugeLength", desc := "(II)I" } : Jvm.MethodName) prog_65_method_28_code (3 : Nat) (Option.some Jvm.ClassFile.FieldType.int)) ∈ lw_all := lw_g (lw_at lw_m4 59 rfl) rfl

/-! java/util/Arrays -/
def RJ15 : String := "java/util/Arrays"
abbrev cJ15_copyOf : ByteArray := prog_58_method_119_code
def yJ15_copyOf : MethodName := ⟨RJ15, "copyOf", "([Ljava/lang/Object;I)[Ljava/lang/Object;"⟩
abbrev cJ15_copyOf_2 : ByteArray := prog_58_method_120_code
def yJ15_copyOf_2 : MethodName := ⟨RJ15, "copyOf", "([Ljava/lang/Object;ILjava/lang/Class;)[Ljava/lang/Object;"⟩
theorem q141 : (Jvm.Cond.initialized "java/util/Arrays") ∈ lw_all := lw_g (lw_at lw_m1 27 rfl) rfl
theorem q895 : (Jvm.Cond.static ({ cls := "java/util/Arrays", name := "copyOf", desc := "([Ljava/lang/Object;I)[Ljava/lang/Object;" } : Jvm.MethodName)) ∈ lw_all := lw_g (lw_at lw_m4 61 rfl) rfl
theorem q896 : (Jvm.Cond.code ({ cls := "java/util/Arrays", name := "copyOf", desc := "([Ljava/lang/Object;I)[Ljava/lang/Object;" } : Jvm.MethodName) prog_58_method_119_code (2 : Nat) (Option.some (Jvm.ClassFile.FieldType.array (Jvm.ClassFile.FieldType.object "java/lang/Object")))) ∈ lw_all := lw_g (lw_at lw_m4 62 rfl) rfl
theorem q897 : (Jvm.Cond.methodLink "java/util/Arrays" (86 : Nat) ({ cls := "java/lang/Object", name := "getClass", desc := "()Ljava/lang/Class;" } : Jvm.MethodName)) ∈ lw_all := lw_g (lw_at lw_m4 63 rfl) rfl
theorem q934 : (Jvm.Cond.methodLink "java/util/Arrays" (300 : Nat) ({ cls := "java/util/Arrays", name := "copyOf", desc := "([Ljava/lang/Object;ILjava/lang/Class;)[Ljava/lang/Object;" } : Jvm.MethodName)) ∈ lw_all := lw_g (lw_at lw_m4 100 rfl) rfl
theorem q935 : (Jvm.Cond.static ({ cls := "java/util/Arrays", name := "copyOf", desc := "([Ljava/lang/Object;ILjava/lang/Class;)[Ljava/lang/Object;" } : Jvm.MethodName)) ∈ lw_all := lw_g (lw_at lw_m4 101 rfl) rfl
theorem q936 : (Jvm.Cond.code ({ cls := "java/util/Arrays", name := "copyOf", desc := "([Ljava/lang/Object;ILjava/lang/Class;)[Ljava/lang/Object;" } : Jvm.MethodName) prog_58_method_120_code (4 : Nat) (Option.some (Jvm.ClassFile.FieldType.array (Jvm.ClassFile.FieldType.object "java/lang/Object")))) ∈ lw_all := lw_g (lw_at lw_m4 102 rfl) rfl
theorem q937 : (Jvm.Cond.classLink "java/util/Arrays" (110 : Nat) "[Ljava/lang/Object;") ∈ lw_all := lw_g (lw_at lw_m4 103 rfl) rfl
theorem q938 : (Jvm.Cond.classLink "java/util/Arrays" (2 : Nat) "java/lang/Object") ∈ lw_all := lw_g (lw_at lw_m4 104 rfl) rfl
theorem q939 : (Jvm.Cond.methodLink "java/util/Arrays" (304 : Nat) ({ cls := "java/lang/Math", name := "min", desc := "(II)I" } : Jvm.MethodName)) ∈ lw_all := lw_g (lw_at lw_m4 105 rfl) rfl
theorem q940 : (Jvm.Cond.methodLink "java/util/Arrays" (150 : Nat) ({ cls := "java/lang/System", name := "arraycopy", desc := "(Ljava/lang/Object;ILjava/lang/Object;II)V" } : Jvm.MethodName)) ∈ lw_all := lw_g (lw_at lw_m4 106 rfl) rfl

/-! java/lang/Integer -/
def RJ16 : String := "java/lang/Integer"
def TJ16 : u_T := fun k => match k with
  | _ => ("java/lang/Integer", "value", "I", true)
def tyJ16 : Nat → FieldType := fun k => match k with
  | _ => .int
abbrev wsJ160 : List Cond := u_ws RJ16 TJ16 1
theorem nmJ16 : ∀ a, a < 1 → ∀ b, b < 1 → a ≠ b → (TJ16 a).2.1 ≠ (TJ16 b).2.1 := by decide +kernel
theorem tyJ16_ok : ∀ k, k < 1 → parseFieldDescriptor (TJ16 k).2.2.1 = some (tyJ16 k) := by decide +kernel
abbrev cJ16_intValue : ByteArray := prog_40_method_27_code
def yJ16_intValue : MethodName := ⟨RJ16, "intValue", "()I"⟩
abbrev cJ16_valueOf : ByteArray := prog_40_method_22_code
def yJ16_valueOf : MethodName := ⟨RJ16, "valueOf", "(I)Ljava/lang/Integer;"⟩
abbrev cJ16_init : ByteArray := prog_40_method_23_code
def yJ16_init : MethodName := ⟨RJ16, "<init>", "(I)V"⟩
theorem q143 : (Jvm.Cond.initialized "java/lang/Integer") ∈ lw_all := lw_g (lw_at lw_m1 29 rfl) rfl
theorem q459 : (Jvm.Cond.instanceMethod ({ cls := "java/lang/Integer", name := "intValue", desc := "()I" } : Jvm.MethodName)) ∈ lw_all := lw_g (lw_at lw_m2 105 rfl) rfl
theorem q460 : (Jvm.Cond.selects "java/lang/Integer" ({ cls := "java/lang/Integer", name := "intValue", desc := "()I" } : Jvm.MethodName) ({ cls := "java/lang/Integer", name := "intValue", desc := "()I" } : Jvm.MethodName)) ∈ lw_all := lw_g (lw_at lw_m2 106 rfl) rfl
theorem q461 : (Jvm.Cond.code ({ cls := "java/lang/Integer", name := "intValue", desc := "()I" } : Jvm.MethodName) prog_40_method_27_code (1 : Nat) (Option.some Jvm.ClassFile.FieldType.int)) ∈ lw_all := lw_g (lw_at lw_m2 107 rfl) rfl
theorem q929 : (Jvm.Cond.selects "java/lang/Integer" ({ cls := "java/lang/Object", name := "getClass", desc := "()Ljava/lang/Class;" } : Jvm.MethodName) ({ cls := "java/lang/Object", name := "getClass", desc := "()Ljava/lang/Class;" } : Jvm.MethodName)) ∈ lw_all := lw_g (lw_at lw_m4 95 rfl) rfl
theorem q945 : (Jvm.Cond.static ({ cls := "java/lang/Integer", name := "valueOf", desc := "(I)Ljava/lang/Integer;" } : Jvm.MethodName)) ∈ lw_all := lw_g (lw_at lw_m4 111 rfl) rfl
theorem q946 : (Jvm.Cond.code ({ cls := "java/lang/Integer", name := "valueOf", desc := "(I)Ljava/lang/Integer;" } : Jvm.MethodName) prog_40_method_22_code (1 : Nat) (Option.some (Jvm.ClassFile.FieldType.object "java/lang/Integer"))) ∈ lw_all := lw_g (lw_at lw_m4 112 rfl) rfl
theorem q947 : (Jvm.Cond.fieldLink "java/lang/Integer" (191 : Nat) "java/lang/Integer$IntegerCache" "high" "I") ∈ lw_all := lw_g (lw_at lw_m4 113 rfl) rfl
theorem q949 : (Jvm.Cond.fieldLink "java/lang/Integer" (195 : Nat) "java/lang/Integer$IntegerCache" "cache" "[Ljava/lang/Integer;") ∈ lw_all := lw_g (lw_at lw_m4 115 rfl) rfl
theorem q951 : (Jvm.Cond.classLink "java/lang/Integer" (1 : Nat) "java/lang/Integer") ∈ lw_all := lw_g (lw_at lw_m4 117 rfl) rfl
theorem q952 : (Jvm.Cond.instantiable "java/lang/Integer" (1 : Nat)) ∈ lw_all := lw_g (lw_at lw_m4 118 rfl) rfl
theorem q953 : (Jvm.Cond.methodLink "java/lang/Integer" (199 : Nat) ({ cls := "java/lang/Integer", name := "<init>", desc := "(I)V" } : Jvm.MethodName)) ∈ lw_all := lw_g (lw_at lw_m4 119 rfl) rfl
theorem q954 : (Jvm.Cond.instanceMethod ({ cls := "java/lang/Integer", name := "<init>", desc := "(I)V" } : Jvm.MethodName)) ∈ lw_all := lw_g (lw_at lw_m4 120 rfl) rfl
theorem q955 : (Jvm.Cond.code ({ cls := "java/lang/Integer", name := "<init>", desc := "(I)V" } : Jvm.MethodName) prog_40_method_23_code (2 : Nat) (Option.none : Option Jvm.ClassFile.FieldType)) ∈ lw_all := lw_g (lw_at lw_m4 121 rfl) rfl
theorem q956 : (Jvm.Cond.methodLink "java/lang/Integer" (202 : Nat) ({ cls := "java/lang/Number", name := "<init>", desc := "()V" } : Jvm.MethodName)) ∈ lw_all := lw_g (lw_at lw_m4 122 rfl) rfl
theorem q957 : (Jvm.Cond.fieldLink "java/lang/Integer" (205 : Nat) "java/lang/Integer" "value" "I") ∈ lw_all := lw_g (lw_at lw_m4 123 rfl) rfl
theorem q958 : (Jvm.Cond.laysFinal "java/lang/Integer" "java/lang/Integer" "value" "I") ∈ lw_all := lw_g (lw_at lw_m4 124 rfl) rfl
theorem q959 : (Jvm.Cond.soleField "java/lang/Integer" "value") ∈ lw_all := lw_g (lw_at lw_m4 125 rfl) rfl
theorem q960 : (Jvm.Cond.superclass "java/lang/Integer" "java/lang/Number") ∈ lw_all := lw_g (lw_at lw_m4 126 rfl) rfl
theorem q2421 : (Jvm.Cond.castable "java/lang/Integer" "java/lang/Object") ∈ lw_tbl := lw_at lw_m10 147 rfl
theorem in_J16 : ∀ w ∈ wsJ160, w ∈ lw_all := lw_in wsJ160 [958] (by decide +kernel) (by decide +kernel)

/-! OrdinaryStalk$Person -/
def RX11 : String := "OrdinaryStalk$Person"
def TX11 : u_T := fun k => match k with
  | 0 => ("OrdinaryStalk$Person", "at", "I", true)
  | 1 => ("OrdinaryStalk$Person", "ears", "I", true)
  | 2 => ("OrdinaryStalk$Person", "marks", "I", true)
  | _ => ("OrdinaryStalk$Person", "walks", "[I", true)
def tyX11 : Nat → FieldType := fun k => match k with
  | 0 => .int
  | 1 => .int
  | 2 => .int
  | _ => .array .int
abbrev wsX110 : List Cond := u_ws RX11 TX11 4
theorem nmX11 : ∀ a, a < 4 → ∀ b, b < 4 → a ≠ b → (TX11 a).2.1 ≠ (TX11 b).2.1 := by decide +kernel
theorem tyX11_ok : ∀ k, k < 4 → parseFieldDescriptor (TX11 k).2.2.1 = some (tyX11 k) := by decide +kernel
abbrev cX11_init : ByteArray := prog_20_method_1_code
def yX11_init : MethodName := ⟨RX11, "<init>", "(III[I)V"⟩
abbrev cX11_kind : ByteArray := prog_20_method_2_code
def yX11_kind : MethodName := ⟨RX11, "kind", "()I"⟩
abbrev cX11_way : ByteArray := prog_20_method_3_code
def yX11_way : MethodName := ⟨RX11, "way", "(I)I"⟩
abbrev cX11_walks : ByteArray := prog_20_method_4_code
def yX11_walks : MethodName := ⟨RX11, "walks", "(LOrdinaryStalk$Camp;II)I"⟩
abbrev cX11_listens : ByteArray := prog_20_method_5_code
def yX11_listens : MethodName := ⟨RX11, "listens", "(Z)Z"⟩
abbrev cX11_leaps : ByteArray := prog_20_method_6_code
def yX11_leaps : MethodName := ⟨RX11, "leaps", "()Z"⟩
theorem q145 : (Jvm.Cond.initialized "OrdinaryStalk$Person") ∈ lw_all := lw_g (lw_at lw_m1 31 rfl) rfl
theorem q916 : (Jvm.Cond.selects "OrdinaryStalk$Person" ({ cls := "java/lang/Object", name := "getClass", desc := "()Ljava/lang/Class;" } : Jvm.MethodName) ({ cls := "java/lang/Object", name := "getClass", desc := "()Ljava/lang/Class;" } : Jvm.MethodName)) ∈ lw_all := lw_g (lw_at lw_m4 82 rfl) rfl
theorem q975 : (Jvm.Cond.instanceMethod ({ cls := "OrdinaryStalk$Person", name := "<init>", desc := "(III[I)V" } : Jvm.MethodName)) ∈ lw_all := lw_g (lw_at lw_m4 141 rfl) rfl
theorem q976 : (Jvm.Cond.code ({ cls := "OrdinaryStalk$Person", name := "<init>", desc := "(III[I)V" } : Jvm.MethodName) prog_20_method_1_code (5 : Nat) (Option.none : Option Jvm.ClassFile.FieldType)) ∈ lw_all := lw_g (lw_at lw_m4 142 rfl) rfl
theorem q977 : (Jvm.Cond.methodLink "OrdinaryStalk$Person" (1 : Nat) ({ cls := "java/lang/Object", name := "<init>", desc := "()V" } : Jvm.MethodName)) ∈ lw_all := lw_g (lw_at lw_m4 143 rfl) rfl
theorem q978 : (Jvm.Cond.fieldLink "OrdinaryStalk$Person" (7 : Nat) "OrdinaryStalk$Person" "at" "I") ∈ lw_all := lw_g (lw_at lw_m4 144 rfl) rfl
theorem q980 : (Jvm.Cond.fieldLink "OrdinaryStalk$Person" (13 : Nat) "OrdinaryStalk$Person" "ears" "I") ∈ lw_all := lw_g (lw_at lw_m4 146 rfl) rfl
theorem q984 : (Jvm.Cond.fieldLink "OrdinaryStalk$Person" (16 : Nat) "OrdinaryStalk$Person" "marks" "I") ∈ lw_all := lw_g (lw_at lw_m4 150 rfl) rfl
theorem q988 : (Jvm.Cond.fieldLink "OrdinaryStalk$Person" (19 : Nat) "OrdinaryStalk$Person" "walks" "[I") ∈ lw_all := lw_g (lw_at lw_m4 154 rfl) rfl
theorem q990 : (Jvm.Cond.soleField "OrdinaryStalk$Person" "at") ∈ lw_all := lw_g (lw_at lw_m4 156 rfl) rfl
theorem q992 : (Jvm.Cond.soleField "OrdinaryStalk$Person" "ears") ∈ lw_all := lw_g (lw_at lw_m4 158 rfl) rfl
theorem q994 : (Jvm.Cond.soleField "OrdinaryStalk$Person" "marks") ∈ lw_all := lw_g (lw_at lw_m4 160 rfl) rfl
theorem q996 : (Jvm.Cond.soleField "OrdinaryStalk$Person" "walks") ∈ lw_all := lw_g (lw_at lw_m4 162 rfl) rfl
theorem q1021 : (Jvm.Cond.instantiable "OrdinaryStalk$Person" (4 : Nat)) ∈ lw_all := lw_g (lw_at lw_m4 187 rfl) rfl
theorem q1023 : (Jvm.Cond.laysFinal "OrdinaryStalk$Person" "OrdinaryStalk$Person" "at" "I") ∈ lw_all := lw_g (lw_at lw_m4 189 rfl) rfl
theorem q1024 : (Jvm.Cond.laysFinal "OrdinaryStalk$Person" "OrdinaryStalk$Person" "ears" "I") ∈ lw_all := lw_g (lw_at lw_m4 190 rfl) rfl
theorem q1025 : (Jvm.Cond.laysFinal "OrdinaryStalk$Person" "OrdinaryStalk$Person" "marks" "I") ∈ lw_all := lw_g (lw_at lw_m4 191 rfl) rfl
theorem q1026 : (Jvm.Cond.laysFinal "OrdinaryStalk$Person" "OrdinaryStalk$Person" "walks" "[I") ∈ lw_all := lw_g (lw_at lw_m4 192 rfl) rfl
theorem q1027 : (Jvm.Cond.superclass "OrdinaryStalk$Person" "java/lang/Object") ∈ lw_all := lw_g (lw_at lw_m4 193 rfl) rfl
theorem q1263 : (Jvm.Cond.instanceMethod ({ cls := "OrdinaryStalk$Person", name := "kind", desc := "()I" } : Jvm.MethodName)) ∈ lw_all := lw_g (lw_at lw_m5 189 rfl) rfl
theorem q1264 : (Jvm.Cond.selects "OrdinaryStalk$Person" ({ cls := "OrdinaryStalk$Person", name := "kind", desc := "()I" } : Jvm.MethodName) ({ cls := "OrdinaryStalk$Person", name := "kind", desc := "()I" } : Jvm.MethodName)) ∈ lw_all := lw_g (lw_at lw_m5 190 rfl) rfl
theorem q1265 : (Jvm.Cond.sameMethod "OrdinaryStalk$Person" "OrdinaryStalk$Person" "kind" "()I") ∈ lw_all := lw_g (lw_at lw_m5 191 rfl) rfl
theorem q1275 : (Jvm.Cond.code ({ cls := "OrdinaryStalk$Person", name := "kind", desc := "()I" } : Jvm.MethodName) prog_20_method_2_code (1 : Nat) (Option.some Jvm.ClassFile.FieldType.int)) ∈ lw_all := lw_g (lw_at lw_m5 201 rfl) rfl
theorem q1364 : (Jvm.Cond.instanceMethod ({ cls := "OrdinaryStalk$Person", name := "walks", desc := "(LOrdinaryStalk$Camp;II)I" } : Jvm.MethodName)) ∈ lw_all := lw_g (lw_at lw_m6 50 rfl) rfl
theorem q1365 : (Jvm.Cond.selects "OrdinaryStalk$Person" ({ cls := "OrdinaryStalk$Person", name := "walks", desc := "(LOrdinaryStalk$Camp;II)I" } : Jvm.MethodName) ({ cls := "OrdinaryStalk$Person", name := "walks", desc := "(LOrdinaryStalk$Camp;II)I" } : Jvm.MethodName)) ∈ lw_all := lw_g (lw_at lw_m6 51 rfl) rfl
theorem q1366 : (Jvm.Cond.sameMethod "OrdinaryStalk$Person" "OrdinaryStalk$Person" "walks" "(LOrdinaryStalk$Camp;II)I") ∈ lw_all := lw_g (lw_at lw_m6 52 rfl) rfl
theorem q1373 : (Jvm.Cond.declares ({ cls := "OrdinaryStalk$Person", name := "way", desc := "(I)I" } : Jvm.MethodName)) ∈ lw_tbl := lw_at lw_m6 59 rfl
theorem q1375 : (Jvm.Cond.instanceMethod ({ cls := "OrdinaryStalk$Person", name := "way", desc := "(I)I" } : Jvm.MethodName)) ∈ lw_all := lw_g (lw_at lw_m6 61 rfl) rfl
theorem q1376 : (Jvm.Cond.code ({ cls := "OrdinaryStalk$Person", name := "way", desc := "(I)I" } : Jvm.MethodName) prog_20_method_3_code (2 : Nat) (Option.some Jvm.ClassFile.FieldType.int)) ∈ lw_all := lw_g (lw_at lw_m6 62 rfl) rfl
theorem q1379 : (Jvm.Cond.code ({ cls := "OrdinaryStalk$Person", name := "walks", desc := "(LOrdinaryStalk$Camp;II)I" } : Jvm.MethodName) prog_20_method_4_code (4 : Nat) (Option.some Jvm.ClassFile.FieldType.int)) ∈ lw_all := lw_g (lw_at lw_m6 65 rfl) rfl
theorem q1380 : (Jvm.Cond.methodLink "OrdinaryStalk$Person" (23 : Nat) ({ cls := "OrdinaryStalk$Person", name := "way", desc := "(I)I" } : Jvm.MethodName)) ∈ lw_all := lw_g (lw_at lw_m6 66 rfl) rfl
theorem q1381 : (Jvm.Cond.methodLink "OrdinaryStalk$Person" (27 : Nat) ({ cls := "OrdinaryStalk$Camp", name := "next", desc := "(II)I" } : Jvm.MethodName)) ∈ lw_all := lw_g (lw_at lw_m6 67 rfl) rfl
theorem q1387 : (Jvm.Cond.instanceMethod ({ cls := "OrdinaryStalk$Person", name := "listens", desc := "(Z)Z" } : Jvm.MethodName)) ∈ lw_all := lw_g (lw_at lw_m6 73 rfl) rfl
theorem q1388 : (Jvm.Cond.selects "OrdinaryStalk$Person" ({ cls := "OrdinaryStalk$Person", name := "listens", desc := "(Z)Z" } : Jvm.MethodName) ({ cls := "OrdinaryStalk$Person", name := "listens", desc := "(Z)Z" } : Jvm.MethodName)) ∈ lw_all := lw_g (lw_at lw_m6 74 rfl) rfl
theorem q1389 : (Jvm.Cond.sameMethod "OrdinaryStalk$Person" "OrdinaryStalk$Person" "listens" "(Z)Z") ∈ lw_all := lw_g (lw_at lw_m6 75 rfl) rfl
theorem q1395 : (Jvm.Cond.code ({ cls := "OrdinaryStalk$Person", name := "listens", desc := "(Z)Z" } : Jvm.MethodName) prog_20_method_5_code (2 : Nat) (Option.some Jvm.ClassFile.FieldType.boolean)) ∈ lw_all := lw_g (lw_at lw_m6 81 rfl) rfl
theorem q1469 : (Jvm.Cond.instanceMethod ({ cls := "OrdinaryStalk$Person", name := "leaps", desc := "()Z" } : Jvm.MethodName)) ∈ lw_all := lw_g (lw_at lw_m6 155 rfl) rfl
theorem q1470 : (Jvm.Cond.selects "OrdinaryStalk$Person" ({ cls := "OrdinaryStalk$Person", name := "leaps", desc := "()Z" } : Jvm.MethodName) ({ cls := "OrdinaryStalk$Person", name := "leaps", desc := "()Z" } : Jvm.MethodName)) ∈ lw_all := lw_g (lw_at lw_m6 156 rfl) rfl
theorem q1471 : (Jvm.Cond.sameMethod "OrdinaryStalk$Person" "OrdinaryStalk$Person" "leaps" "()Z") ∈ lw_all := lw_g (lw_at lw_m6 157 rfl) rfl
theorem q1477 : (Jvm.Cond.code ({ cls := "OrdinaryStalk$Person", name := "leaps", desc := "()Z" } : Jvm.MethodName) prog_20_method_6_code (1 : Nat) (Option.some Jvm.ClassFile.FieldType.boolean)) ∈ lw_all := lw_g (lw_at lw_m6 163 rfl) rfl
theorem q2389 : (Jvm.Cond.sameMethod "OrdinaryStalk$Person" "OrdinaryStalk$Person" "way" "(I)I") ∈ lw_all := lw_g (lw_at lw_m10 115 rfl) rfl
theorem q2391 : (Jvm.Cond.selects "OrdinaryStalk$Person" ({ cls := "OrdinaryStalk$Person", name := "way", desc := "(I)I" } : Jvm.MethodName) ({ cls := "OrdinaryStalk$Person", name := "way", desc := "(I)I" } : Jvm.MethodName)) ∈ lw_all := lw_g (lw_at lw_m10 117 rfl) rfl
theorem q2425 : (Jvm.Cond.castable "OrdinaryStalk$Person" "java/lang/Object") ∈ lw_tbl := lw_at lw_m10 151 rfl
theorem in_X11 : ∀ w ∈ wsX110, w ∈ lw_all := lw_in wsX110 [1023, 1024, 1025, 1026] (by decide +kernel) (by decide +kernel)

/-! OrdinaryStalk$Postman -/
def RX12 : String := "OrdinaryStalk$Postman"
def TX12 : u_T := fun k => match k with
  | 0 => ("OrdinaryStalk$Person", "at", "I", true)
  | 1 => ("OrdinaryStalk$Person", "ears", "I", true)
  | 2 => ("OrdinaryStalk$Person", "marks", "I", true)
  | _ => ("OrdinaryStalk$Person", "walks", "[I", true)
def tyX12 : Nat → FieldType := fun k => match k with
  | 0 => .int
  | 1 => .int
  | 2 => .int
  | _ => .array .int
abbrev wsX120 : List Cond := u_ws RX12 TX12 4
theorem nmX12 : ∀ a, a < 4 → ∀ b, b < 4 → a ≠ b → (TX12 a).2.1 ≠ (TX12 b).2.1 := by decide +kernel
theorem tyX12_ok : ∀ k, k < 4 → parseFieldDescriptor (TX12 k).2.2.1 = some (tyX12 k) := by decide +kernel
abbrev cX12_init : ByteArray := prog_23_method_1_code
def yX12_init : MethodName := ⟨RX12, "<init>", "(III[I)V"⟩
abbrev cX12_kind : ByteArray := prog_23_method_2_code
def yX12_kind : MethodName := ⟨RX12, "kind", "()I"⟩
abbrev cX12_walks : ByteArray := prog_23_method_3_code
def yX12_walks : MethodName := ⟨RX12, "walks", "(LOrdinaryStalk$Camp;II)I"⟩
theorem q146 : (Jvm.Cond.initialized "OrdinaryStalk$Postman") ∈ lw_all := lw_g (lw_at lw_m1 32 rfl) rfl
theorem q919 : (Jvm.Cond.selects "OrdinaryStalk$Postman" ({ cls := "java/lang/Object", name := "getClass", desc := "()Ljava/lang/Class;" } : Jvm.MethodName) ({ cls := "java/lang/Object", name := "getClass", desc := "()Ljava/lang/Class;" } : Jvm.MethodName)) ∈ lw_all := lw_g (lw_at lw_m4 85 rfl) rfl
theorem q970 : (Jvm.Cond.instantiable "OrdinaryStalk$Postman" (4 : Nat)) ∈ lw_all := lw_g (lw_at lw_m4 136 rfl) rfl
theorem q972 : (Jvm.Cond.instanceMethod ({ cls := "OrdinaryStalk$Postman", name := "<init>", desc := "(III[I)V" } : Jvm.MethodName)) ∈ lw_all := lw_g (lw_at lw_m4 138 rfl) rfl
theorem q973 : (Jvm.Cond.code ({ cls := "OrdinaryStalk$Postman", name := "<init>", desc := "(III[I)V" } : Jvm.MethodName) prog_23_method_1_code (5 : Nat) (Option.none : Option Jvm.ClassFile.FieldType)) ∈ lw_all := lw_g (lw_at lw_m4 139 rfl) rfl
theorem q974 : (Jvm.Cond.methodLink "OrdinaryStalk$Postman" (1 : Nat) ({ cls := "OrdinaryStalk$Person", name := "<init>", desc := "(III[I)V" } : Jvm.MethodName)) ∈ lw_all := lw_g (lw_at lw_m4 140 rfl) rfl
theorem q989 : (Jvm.Cond.laysFinal "OrdinaryStalk$Postman" "OrdinaryStalk$Person" "at" "I") ∈ lw_all := lw_g (lw_at lw_m4 155 rfl) rfl
theorem q991 : (Jvm.Cond.laysFinal "OrdinaryStalk$Postman" "OrdinaryStalk$Person" "ears" "I") ∈ lw_all := lw_g (lw_at lw_m4 157 rfl) rfl
theorem q993 : (Jvm.Cond.laysFinal "OrdinaryStalk$Postman" "OrdinaryStalk$Person" "marks" "I") ∈ lw_all := lw_g (lw_at lw_m4 159 rfl) rfl
theorem q995 : (Jvm.Cond.laysFinal "OrdinaryStalk$Postman" "OrdinaryStalk$Person" "walks" "[I") ∈ lw_all := lw_g (lw_at lw_m4 161 rfl) rfl
theorem q997 : (Jvm.Cond.superclass "OrdinaryStalk$Postman" "OrdinaryStalk$Person") ∈ lw_all := lw_g (lw_at lw_m4 163 rfl) rfl
theorem q1269 : (Jvm.Cond.selects "OrdinaryStalk$Postman" ({ cls := "OrdinaryStalk$Person", name := "kind", desc := "()I" } : Jvm.MethodName) ({ cls := "OrdinaryStalk$Postman", name := "kind", desc := "()I" } : Jvm.MethodName)) ∈ lw_all := lw_g (lw_at lw_m5 195 rfl) rfl
theorem q1270 : (Jvm.Cond.instanceMethod ({ cls := "OrdinaryStalk$Postman", name := "kind", desc := "()I" } : Jvm.MethodName)) ∈ lw_all := lw_g (lw_at lw_m5 196 rfl) rfl
theorem q1271 : (Jvm.Cond.code ({ cls := "OrdinaryStalk$Postman", name := "kind", desc := "()I" } : Jvm.MethodName) prog_23_method_2_code (1 : Nat) (Option.some Jvm.ClassFile.FieldType.int)) ∈ lw_all := lw_g (lw_at lw_m5 197 rfl) rfl
theorem q1368 : (Jvm.Cond.selects "OrdinaryStalk$Postman" ({ cls := "OrdinaryStalk$Person", name := "walks", desc := "(LOrdinaryStalk$Camp;II)I" } : Jvm.MethodName) ({ cls := "OrdinaryStalk$Postman", name := "walks", desc := "(LOrdinaryStalk$Camp;II)I" } : Jvm.MethodName)) ∈ lw_all := lw_g (lw_at lw_m6 54 rfl) rfl
theorem q1369 : (Jvm.Cond.instanceMethod ({ cls := "OrdinaryStalk$Postman", name := "walks", desc := "(LOrdinaryStalk$Camp;II)I" } : Jvm.MethodName)) ∈ lw_all := lw_g (lw_at lw_m6 55 rfl) rfl
theorem q1370 : (Jvm.Cond.code ({ cls := "OrdinaryStalk$Postman", name := "walks", desc := "(LOrdinaryStalk$Camp;II)I" } : Jvm.MethodName) prog_23_method_3_code (4 : Nat) (Option.some Jvm.ClassFile.FieldType.int)) ∈ lw_all := lw_g (lw_at lw_m6 56 rfl) rfl
theorem q1371 : (Jvm.Cond.methodLink "OrdinaryStalk$Postman" (7 : Nat) ({ cls := "OrdinaryStalk$Postman", name := "way", desc := "(I)I" } : Jvm.MethodName)) ∈ lw_all := lw_g (lw_at lw_m6 57 rfl) rfl
theorem q1372 : (Jvm.Cond.sameMethod "OrdinaryStalk$Postman" "OrdinaryStalk$Person" "way" "(I)I") ∈ lw_all := lw_g (lw_at lw_m6 58 rfl) rfl
theorem q1374 : (Jvm.Cond.selects "OrdinaryStalk$Postman" ({ cls := "OrdinaryStalk$Postman", name := "way", desc := "(I)I" } : Jvm.MethodName) ({ cls := "OrdinaryStalk$Person", name := "way", desc := "(I)I" } : Jvm.MethodName)) ∈ lw_all := lw_g (lw_at lw_m6 60 rfl) rfl
theorem q1377 : (Jvm.Cond.methodLink "OrdinaryStalk$Postman" (13 : Nat) ({ cls := "OrdinaryStalk$Camp", name := "next", desc := "(II)I" } : Jvm.MethodName)) ∈ lw_all := lw_g (lw_at lw_m6 63 rfl) rfl
theorem q1393 : (Jvm.Cond.selects "OrdinaryStalk$Postman" ({ cls := "OrdinaryStalk$Person", name := "listens", desc := "(Z)Z" } : Jvm.MethodName) ({ cls := "OrdinaryStalk$Person", name := "listens", desc := "(Z)Z" } : Jvm.MethodName)) ∈ lw_all := lw_g (lw_at lw_m6 79 rfl) rfl
theorem q1473 : (Jvm.Cond.selects "OrdinaryStalk$Postman" ({ cls := "OrdinaryStalk$Person", name := "leaps", desc := "()Z" } : Jvm.MethodName) ({ cls := "OrdinaryStalk$Person", name := "leaps", desc := "()Z" } : Jvm.MethodName)) ∈ lw_all := lw_g (lw_at lw_m6 159 rfl) rfl
theorem q2392 : (Jvm.Cond.selects "OrdinaryStalk$Postman" ({ cls := "OrdinaryStalk$Person", name := "way", desc := "(I)I" } : Jvm.MethodName) ({ cls := "OrdinaryStalk$Person", name := "way", desc := "(I)I" } : Jvm.MethodName)) ∈ lw_all := lw_g (lw_at lw_m10 118 rfl) rfl
theorem q2395 : (Jvm.Cond.castable "OrdinaryStalk$Postman" "OrdinaryStalk$Person") ∈ lw_tbl := lw_at lw_m10 121 rfl
theorem q2422 : (Jvm.Cond.castable "OrdinaryStalk$Postman" "java/lang/Object") ∈ lw_tbl := lw_at lw_m10 148 rfl
theorem in_X12 : ∀ w ∈ wsX120, w ∈ lw_all := lw_in wsX120 [989, 991, 993, 995] (by decide +kernel) (by decide +kernel)

/-! OrdinaryStalk$Stag -/
def RX13 : String := "OrdinaryStalk$Stag"
def TX13 : u_T := fun k => match k with
  | 0 => ("OrdinaryStalk$Person", "at", "I", true)
  | 1 => ("OrdinaryStalk$Person", "ears", "I", true)
  | 2 => ("OrdinaryStalk$Person", "marks", "I", true)
  | _ => ("OrdinaryStalk$Person", "walks", "[I", true)
def tyX13 : Nat → FieldType := fun k => match k with
  | 0 => .int
  | 1 => .int
  | 2 => .int
  | _ => .array .int
abbrev wsX130 : List Cond := u_ws RX13 TX13 4
theorem nmX13 : ∀ a, a < 4 → ∀ b, b < 4 → a ≠ b → (TX13 a).2.1 ≠ (TX13 b).2.1 := by decide +kernel
theorem tyX13_ok : ∀ k, k < 4 → parseFieldDescriptor (TX13 k).2.2.1 = some (tyX13 k) := by decide +kernel
abbrev cX13_init : ByteArray := prog_26_method_1_code
def yX13_init : MethodName := ⟨RX13, "<init>", "(III[I)V"⟩
abbrev cX13_kind : ByteArray := prog_26_method_2_code
def yX13_kind : MethodName := ⟨RX13, "kind", "()I"⟩
abbrev cX13_leaps : ByteArray := prog_26_method_3_code
def yX13_leaps : MethodName := ⟨RX13, "leaps", "()Z"⟩
theorem q147 : (Jvm.Cond.initialized "OrdinaryStalk$Stag") ∈ lw_all := lw_g (lw_at lw_m1 33 rfl) rfl
theorem q922 : (Jvm.Cond.selects "OrdinaryStalk$Stag" ({ cls := "java/lang/Object", name := "getClass", desc := "()Ljava/lang/Class;" } : Jvm.MethodName) ({ cls := "java/lang/Object", name := "getClass", desc := "()Ljava/lang/Class;" } : Jvm.MethodName)) ∈ lw_all := lw_g (lw_at lw_m4 88 rfl) rfl
theorem q999 : (Jvm.Cond.instantiable "OrdinaryStalk$Stag" (4 : Nat)) ∈ lw_all := lw_g (lw_at lw_m4 165 rfl) rfl
theorem q1001 : (Jvm.Cond.instanceMethod ({ cls := "OrdinaryStalk$Stag", name := "<init>", desc := "(III[I)V" } : Jvm.MethodName)) ∈ lw_all := lw_g (lw_at lw_m4 167 rfl) rfl
theorem q1002 : (Jvm.Cond.code ({ cls := "OrdinaryStalk$Stag", name := "<init>", desc := "(III[I)V" } : Jvm.MethodName) prog_26_method_1_code (5 : Nat) (Option.none : Option Jvm.ClassFile.FieldType)) ∈ lw_all := lw_g (lw_at lw_m4 168 rfl) rfl
theorem q1003 : (Jvm.Cond.methodLink "OrdinaryStalk$Stag" (1 : Nat) ({ cls := "OrdinaryStalk$Person", name := "<init>", desc := "(III[I)V" } : Jvm.MethodName)) ∈ lw_all := lw_g (lw_at lw_m4 169 rfl) rfl
theorem q1004 : (Jvm.Cond.laysFinal "OrdinaryStalk$Stag" "OrdinaryStalk$Person" "at" "I") ∈ lw_all := lw_g (lw_at lw_m4 170 rfl) rfl
theorem q1005 : (Jvm.Cond.laysFinal "OrdinaryStalk$Stag" "OrdinaryStalk$Person" "ears" "I") ∈ lw_all := lw_g (lw_at lw_m4 171 rfl) rfl
theorem q1006 : (Jvm.Cond.laysFinal "OrdinaryStalk$Stag" "OrdinaryStalk$Person" "marks" "I") ∈ lw_all := lw_g (lw_at lw_m4 172 rfl) rfl
theorem q1007 : (Jvm.Cond.laysFinal "OrdinaryStalk$Stag" "OrdinaryStalk$Person" "walks" "[I") ∈ lw_all := lw_g (lw_at lw_m4 173 rfl) rfl
theorem q1008 : (Jvm.Cond.superclass "OrdinaryStalk$Stag" "OrdinaryStalk$Person") ∈ lw_all := lw_g (lw_at lw_m4 174 rfl) rfl
theorem q1272 : (Jvm.Cond.selects "OrdinaryStalk$Stag" ({ cls := "OrdinaryStalk$Person", name := "kind", desc := "()I" } : Jvm.MethodName) ({ cls := "OrdinaryStalk$Stag", name := "kind", desc := "()I" } : Jvm.MethodName)) ∈ lw_all := lw_g (lw_at lw_m5 198 rfl) rfl
theorem q1273 : (Jvm.Cond.instanceMethod ({ cls := "OrdinaryStalk$Stag", name := "kind", desc := "()I" } : Jvm.MethodName)) ∈ lw_all := lw_g (lw_at lw_m5 199 rfl) rfl
theorem q1274 : (Jvm.Cond.code ({ cls := "OrdinaryStalk$Stag", name := "kind", desc := "()I" } : Jvm.MethodName) prog_26_method_2_code (1 : Nat) (Option.some Jvm.ClassFile.FieldType.int)) ∈ lw_all := lw_g (lw_at lw_m5 200 rfl) rfl
theorem q1378 : (Jvm.Cond.selects "OrdinaryStalk$Stag" ({ cls := "OrdinaryStalk$Person", name := "walks", desc := "(LOrdinaryStalk$Camp;II)I" } : Jvm.MethodName) ({ cls := "OrdinaryStalk$Person", name := "walks", desc := "(LOrdinaryStalk$Camp;II)I" } : Jvm.MethodName)) ∈ lw_all := lw_g (lw_at lw_m6 64 rfl) rfl
theorem q1394 : (Jvm.Cond.selects "OrdinaryStalk$Stag" ({ cls := "OrdinaryStalk$Person", name := "listens", desc := "(Z)Z" } : Jvm.MethodName) ({ cls := "OrdinaryStalk$Person", name := "listens", desc := "(Z)Z" } : Jvm.MethodName)) ∈ lw_all := lw_g (lw_at lw_m6 80 rfl) rfl
theorem q1474 : (Jvm.Cond.selects "OrdinaryStalk$Stag" ({ cls := "OrdinaryStalk$Person", name := "leaps", desc := "()Z" } : Jvm.MethodName) ({ cls := "OrdinaryStalk$Stag", name := "leaps", desc := "()Z" } : Jvm.MethodName)) ∈ lw_all := lw_g (lw_at lw_m6 160 rfl) rfl
theorem q1475 : (Jvm.Cond.instanceMethod ({ cls := "OrdinaryStalk$Stag", name := "leaps", desc := "()Z" } : Jvm.MethodName)) ∈ lw_all := lw_g (lw_at lw_m6 161 rfl) rfl
theorem q1476 : (Jvm.Cond.code ({ cls := "OrdinaryStalk$Stag", name := "leaps", desc := "()Z" } : Jvm.MethodName) prog_26_method_3_code (1 : Nat) (Option.some Jvm.ClassFile.FieldType.boolean)) ∈ lw_all := lw_g (lw_at lw_m6 162 rfl) rfl
theorem q2393 : (Jvm.Cond.selects "OrdinaryStalk$Stag" ({ cls := "OrdinaryStalk$Person", name := "way", desc := "(I)I" } : Jvm.MethodName) ({ cls := "OrdinaryStalk$Person", name := "way", desc := "(I)I" } : Jvm.MethodName)) ∈ lw_all := lw_g (lw_at lw_m10 119 rfl) rfl
theorem q2396 : (Jvm.Cond.castable "OrdinaryStalk$Stag" "OrdinaryStalk$Person") ∈ lw_tbl := lw_at lw_m10 122 rfl
theorem q2423 : (Jvm.Cond.castable "OrdinaryStalk$Stag" "java/lang/Object") ∈ lw_tbl := lw_at lw_m10 149 rfl
theorem in_X13 : ∀ w ∈ wsX130, w ∈ lw_all := lw_in wsX130 [1004, 1005, 1006, 1007] (by decide +kernel) (by decide +kernel)

/-! OrdinaryStalk$Clerk -/
def RX14 : String := "OrdinaryStalk$Clerk"
def TX14 : u_T := fun k => match k with
  | 0 => ("OrdinaryStalk$Person", "at", "I", true)
  | 1 => ("OrdinaryStalk$Person", "ears", "I", true)
  | 2 => ("OrdinaryStalk$Person", "marks", "I", true)
  | _ => ("OrdinaryStalk$Person", "walks", "[I", true)
def tyX14 : Nat → FieldType := fun k => match k with
  | 0 => .int
  | 1 => .int
  | 2 => .int
  | _ => .array .int
abbrev wsX140 : List Cond := u_ws RX14 TX14 4
theorem nmX14 : ∀ a, a < 4 → ∀ b, b < 4 → a ≠ b → (TX14 a).2.1 ≠ (TX14 b).2.1 := by decide +kernel
theorem tyX14_ok : ∀ k, k < 4 → parseFieldDescriptor (TX14 k).2.2.1 = some (tyX14 k) := by decide +kernel
abbrev cX14_init : ByteArray := prog_6_method_1_code
def yX14_init : MethodName := ⟨RX14, "<init>", "(III[I)V"⟩
abbrev cX14_kind : ByteArray := prog_6_method_2_code
def yX14_kind : MethodName := ⟨RX14, "kind", "()I"⟩
abbrev cX14_listens : ByteArray := prog_6_method_3_code
def yX14_listens : MethodName := ⟨RX14, "listens", "(Z)Z"⟩
theorem q148 : (Jvm.Cond.initialized "OrdinaryStalk$Clerk") ∈ lw_all := lw_g (lw_at lw_m1 34 rfl) rfl
theorem q905 : (Jvm.Cond.selects "OrdinaryStalk$Clerk" ({ cls := "java/lang/Object", name := "getClass", desc := "()Ljava/lang/Class;" } : Jvm.MethodName) ({ cls := "java/lang/Object", name := "getClass", desc := "()Ljava/lang/Class;" } : Jvm.MethodName)) ∈ lw_all := lw_g (lw_at lw_m4 71 rfl) rfl
theorem q1010 : (Jvm.Cond.instantiable "OrdinaryStalk$Clerk" (4 : Nat)) ∈ lw_all := lw_g (lw_at lw_m4 176 rfl) rfl
theorem q1012 : (Jvm.Cond.instanceMethod ({ cls := "OrdinaryStalk$Clerk", name := "<init>", desc := "(III[I)V" } : Jvm.MethodName)) ∈ lw_all := lw_g (lw_at lw_m4 178 rfl) rfl
theorem q1013 : (Jvm.Cond.code ({ cls := "OrdinaryStalk$Clerk", name := "<init>", desc := "(III[I)V" } : Jvm.MethodName) prog_6_method_1_code (5 : Nat) (Option.none : Option Jvm.ClassFile.FieldType)) ∈ lw_all := lw_g (lw_at lw_m4 179 rfl) rfl
theorem q1014 : (Jvm.Cond.methodLink "OrdinaryStalk$Clerk" (1 : Nat) ({ cls := "OrdinaryStalk$Person", name := "<init>", desc := "(III[I)V" } : Jvm.MethodName)) ∈ lw_all := lw_g (lw_at lw_m4 180 rfl) rfl
theorem q1015 : (Jvm.Cond.laysFinal "OrdinaryStalk$Clerk" "OrdinaryStalk$Person" "at" "I") ∈ lw_all := lw_g (lw_at lw_m4 181 rfl) rfl
theorem q1016 : (Jvm.Cond.laysFinal "OrdinaryStalk$Clerk" "OrdinaryStalk$Person" "ears" "I") ∈ lw_all := lw_g (lw_at lw_m4 182 rfl) rfl
theorem q1017 : (Jvm.Cond.laysFinal "OrdinaryStalk$Clerk" "OrdinaryStalk$Person" "marks" "I") ∈ lw_all := lw_g (lw_at lw_m4 183 rfl) rfl
theorem q1018 : (Jvm.Cond.laysFinal "OrdinaryStalk$Clerk" "OrdinaryStalk$Person" "walks" "[I") ∈ lw_all := lw_g (lw_at lw_m4 184 rfl) rfl
theorem q1019 : (Jvm.Cond.superclass "OrdinaryStalk$Clerk" "OrdinaryStalk$Person") ∈ lw_all := lw_g (lw_at lw_m4 185 rfl) rfl
theorem q1266 : (Jvm.Cond.selects "OrdinaryStalk$Clerk" ({ cls := "OrdinaryStalk$Person", name := "kind", desc := "()I" } : Jvm.MethodName) ({ cls := "OrdinaryStalk$Clerk", name := "kind", desc := "()I" } : Jvm.MethodName)) ∈ lw_all := lw_g (lw_at lw_m5 192 rfl) rfl
theorem q1267 : (Jvm.Cond.instanceMethod ({ cls := "OrdinaryStalk$Clerk", name := "kind", desc := "()I" } : Jvm.MethodName)) ∈ lw_all := lw_g (lw_at lw_m5 193 rfl) rfl
theorem q1268 : (Jvm.Cond.code ({ cls := "OrdinaryStalk$Clerk", name := "kind", desc := "()I" } : Jvm.MethodName) prog_6_method_2_code (1 : Nat) (Option.some Jvm.ClassFile.FieldType.int)) ∈ lw_all := lw_g (lw_at lw_m5 194 rfl) rfl
theorem q1367 : (Jvm.Cond.selects "OrdinaryStalk$Clerk" ({ cls := "OrdinaryStalk$Person", name := "walks", desc := "(LOrdinaryStalk$Camp;II)I" } : Jvm.MethodName) ({ cls := "OrdinaryStalk$Person", name := "walks", desc := "(LOrdinaryStalk$Camp;II)I" } : Jvm.MethodName)) ∈ lw_all := lw_g (lw_at lw_m6 53 rfl) rfl
theorem q1390 : (Jvm.Cond.selects "OrdinaryStalk$Clerk" ({ cls := "OrdinaryStalk$Person", name := "listens", desc := "(Z)Z" } : Jvm.MethodName) ({ cls := "OrdinaryStalk$Clerk", name := "listens", desc := "(Z)Z" } : Jvm.MethodName)) ∈ lw_all := lw_g (lw_at lw_m6 76 rfl) rfl
theorem q1391 : (Jvm.Cond.instanceMethod ({ cls := "OrdinaryStalk$Clerk", name := "listens", desc := "(Z)Z" } : Jvm.MethodName)) ∈ lw_all := lw_g (lw_at lw_m6 77 rfl) rfl
theorem q1392 : (Jvm.Cond.code ({ cls := "OrdinaryStalk$Clerk", name := "listens", desc := "(Z)Z" } : Jvm.MethodName) prog_6_method_3_code (2 : Nat) (Option.some Jvm.ClassFile.FieldType.boolean)) ∈ lw_all := lw_g (lw_at lw_m6 78 rfl) rfl
theorem q1472 : (Jvm.Cond.selects "OrdinaryStalk$Clerk" ({ cls := "OrdinaryStalk$Person", name := "leaps", desc := "()Z" } : Jvm.MethodName) ({ cls := "OrdinaryStalk$Person", name := "leaps", desc := "()Z" } : Jvm.MethodName)) ∈ lw_all := lw_g (lw_at lw_m6 158 rfl) rfl
theorem q2390 : (Jvm.Cond.selects "OrdinaryStalk$Clerk" ({ cls := "OrdinaryStalk$Person", name := "way", desc := "(I)I" } : Jvm.MethodName) ({ cls := "OrdinaryStalk$Person", name := "way", desc := "(I)I" } : Jvm.MethodName)) ∈ lw_all := lw_g (lw_at lw_m10 116 rfl) rfl
theorem q2394 : (Jvm.Cond.castable "OrdinaryStalk$Clerk" "OrdinaryStalk$Person") ∈ lw_tbl := lw_at lw_m10 120 rfl
theorem q2424 : (Jvm.Cond.castable "OrdinaryStalk$Clerk" "java/lang/Object") ∈ lw_tbl := lw_at lw_m10 150 rfl
theorem in_X14 : ∀ w ∈ wsX140, w ∈ lw_all := lw_in wsX140 [1015, 1016, 1017, 1018] (by decide +kernel) (by decide +kernel)

/-! OrdinaryStalk$Expression -/
def RX15 : String := "OrdinaryStalk$Expression"
abbrev cX15_init : ByteArray := prog_8_method_1_code
def yX15_init : MethodName := ⟨RX15, "<init>", "()V"⟩
theorem q149 : (Jvm.Cond.initialized "OrdinaryStalk$Expression") ∈ lw_all := lw_g (lw_at lw_m1 35 rfl) rfl
theorem q1073 : (Jvm.Cond.instanceMethod ({ cls := "OrdinaryStalk$Expression", name := "<init>", desc := "()V" } : Jvm.MethodName)) ∈ lw_all := lw_g (lw_at lw_m4 239 rfl) rfl
theorem q1074 : (Jvm.Cond.code ({ cls := "OrdinaryStalk$Expression", name := "<init>", desc := "()V" } : Jvm.MethodName) prog_8_method_1_code (1 : Nat) (Option.none : Option Jvm.ClassFile.FieldType)) ∈ lw_all := lw_g (lw_at lw_m5 0 rfl) rfl
theorem q1075 : (Jvm.Cond.methodLink "OrdinaryStalk$Expression" (1 : Nat) ({ cls := "java/lang/Object", name := "<init>", desc := "()V" } : Jvm.MethodName)) ∈ lw_all := lw_g (lw_at lw_m5 1 rfl) rfl
theorem q1413 : (Jvm.Cond.declares ({ cls := "OrdinaryStalk$Expression", name := "of", desc := "(LOrdinaryStalk$Facts;)I" } : Jvm.MethodName)) ∈ lw_tbl := lw_at lw_m6 99 rfl
theorem q1414 : (Jvm.Cond.sameMethod "OrdinaryStalk$Expression" "OrdinaryStalk$Expression" "of" "(LOrdinaryStalk$Facts;)I") ∈ lw_all := lw_g (lw_at lw_m6 100 rfl) rfl

/-! OrdinaryStalk$Fact -/
def RX16 : String := "OrdinaryStalk$Fact"
def TX16 : u_T := fun k => match k with
  | _ => ("OrdinaryStalk$Fact", "which", "I", true)
def tyX16 : Nat → FieldType := fun k => match k with
  | _ => .int
abbrev wsX160 : List Cond := u_ws RX16 TX16 1
theorem nmX16 : ∀ a, a < 1 → ∀ b, b < 1 → a ≠ b → (TX16 a).2.1 ≠ (TX16 b).2.1 := by decide +kernel
theorem tyX16_ok : ∀ k, k < 1 → parseFieldDescriptor (TX16 k).2.2.1 = some (tyX16 k) := by decide +kernel
abbrev cX16_init : ByteArray := prog_9_method_1_code
def yX16_init : MethodName := ⟨RX16, "<init>", "(I)V"⟩
abbrev cX16_of : ByteArray := prog_9_method_2_code
def yX16_of : MethodName := ⟨RX16, "of", "(LOrdinaryStalk$Facts;)I"⟩
theorem q150 : (Jvm.Cond.initialized "OrdinaryStalk$Fact") ∈ lw_all := lw_g (lw_at lw_m1 36 rfl) rfl
theorem q360 : (Jvm.Cond.fieldLink "OrdinaryStalk$Fact" (13 : Nat) "OrdinaryStalk$Facts" "of" "[I") ∈ lw_all := lw_g (lw_at lw_m2 6 rfl) rfl
theorem q907 : (Jvm.Cond.selects "OrdinaryStalk$Fact" ({ cls := "java/lang/Object", name := "getClass", desc := "()Ljava/lang/Class;" } : Jvm.MethodName) ({ cls := "java/lang/Object", name := "getClass", desc := "()Ljava/lang/Class;" } : Jvm.MethodName)) ∈ lw_all := lw_g (lw_at lw_m4 73 rfl) rfl
theorem q1068 : (Jvm.Cond.instantiable "OrdinaryStalk$Fact" (1 : Nat)) ∈ lw_all := lw_g (lw_at lw_m4 234 rfl) rfl
theorem q1070 : (Jvm.Cond.instanceMethod ({ cls := "OrdinaryStalk$Fact", name := "<init>", desc := "(I)V" } : Jvm.MethodName)) ∈ lw_all := lw_g (lw_at lw_m4 236 rfl) rfl
theorem q1071 : (Jvm.Cond.code ({ cls := "OrdinaryStalk$Fact", name := "<init>", desc := "(I)V" } : Jvm.MethodName) prog_9_method_1_code (2 : Nat) (Option.none : Option Jvm.ClassFile.FieldType)) ∈ lw_all := lw_g (lw_at lw_m4 237 rfl) rfl
theorem q1072 : (Jvm.Cond.methodLinkNest "OrdinaryStalk$Fact" (1 : Nat) ({ cls := "OrdinaryStalk$Expression", name := "<init>", desc := "()V" } : Jvm.MethodName) "OrdinaryStalk") ∈ lw_tbl := lw_at lw_m4 238 rfl
theorem q1076 : (Jvm.Cond.fieldLink "OrdinaryStalk$Fact" (7 : Nat) "OrdinaryStalk$Fact" "which" "I") ∈ lw_all := lw_g (lw_at lw_m5 2 rfl) rfl
theorem q1077 : (Jvm.Cond.laysFinal "OrdinaryStalk$Fact" "OrdinaryStalk$Fact" "which" "I") ∈ lw_all := lw_g (lw_at lw_m5 3 rfl) rfl
theorem q1078 : (Jvm.Cond.soleField "OrdinaryStalk$Fact" "which") ∈ lw_all := lw_g (lw_at lw_m5 4 rfl) rfl
theorem q1079 : (Jvm.Cond.superclass "OrdinaryStalk$Fact" "OrdinaryStalk$Expression") ∈ lw_all := lw_g (lw_at lw_m5 5 rfl) rfl
theorem q1419 : (Jvm.Cond.instanceMethod ({ cls := "OrdinaryStalk$Fact", name := "of", desc := "(LOrdinaryStalk$Facts;)I" } : Jvm.MethodName)) ∈ lw_all := lw_g (lw_at lw_m6 105 rfl) rfl
theorem q1420 : (Jvm.Cond.code ({ cls := "OrdinaryStalk$Fact", name := "of", desc := "(LOrdinaryStalk$Facts;)I" } : Jvm.MethodName) prog_9_method_2_code (2 : Nat) (Option.some Jvm.ClassFile.FieldType.int)) ∈ lw_all := lw_g (lw_at lw_m6 106 rfl) rfl
theorem q1465 : (Jvm.Cond.selects "OrdinaryStalk$Fact" ({ cls := "OrdinaryStalk$Expression", name := "of", desc := "(LOrdinaryStalk$Facts;)I" } : Jvm.MethodName) ({ cls := "OrdinaryStalk$Fact", name := "of", desc := "(LOrdinaryStalk$Facts;)I" } : Jvm.MethodName)) ∈ lw_all := lw_g (lw_at lw_m6 151 rfl) rfl
theorem q2426 : (Jvm.Cond.castable "OrdinaryStalk$Fact" "java/lang/Object") ∈ lw_tbl := lw_at lw_m10 152 rfl
theorem in_X16 : ∀ w ∈ wsX160, w ∈ lw_all := lw_in wsX160 [1077] (by decide +kernel) (by decide +kernel)

/-! OrdinaryStalk$Plain -/
def RX17 : String := "OrdinaryStalk$Plain"
def TX17 : u_T := fun k => match k with
  | _ => ("OrdinaryStalk$Plain", "n", "I", true)
def tyX17 : Nat → FieldType := fun k => match k with
  | _ => .int
abbrev wsX170 : List Cond := u_ws RX17 TX17 1
theorem nmX17 : ∀ a, a < 1 → ∀ b, b < 1 → a ≠ b → (TX17 a).2.1 ≠ (TX17 b).2.1 := by decide +kernel
theorem tyX17_ok : ∀ k, k < 1 → parseFieldDescriptor (TX17 k).2.2.1 = some (tyX17 k) := by decide +kernel
abbrev cX17_init : ByteArray := prog_21_method_1_code
def yX17_init : MethodName := ⟨RX17, "<init>", "(I)V"⟩
abbrev cX17_of : ByteArray := prog_21_method_2_code
def yX17_of : MethodName := ⟨RX17, "of", "(LOrdinaryStalk$Facts;)I"⟩
theorem q151 : (Jvm.Cond.initialized "OrdinaryStalk$Plain") ∈ lw_all := lw_g (lw_at lw_m1 37 rfl) rfl
theorem q917 : (Jvm.Cond.selects "OrdinaryStalk$Plain" ({ cls := "java/lang/Object", name := "getClass", desc := "()Ljava/lang/Class;" } : Jvm.MethodName) ({ cls := "java/lang/Object", name := "getClass", desc := "()Ljava/lang/Class;" } : Jvm.MethodName)) ∈ lw_all := lw_g (lw_at lw_m4 83 rfl) rfl
theorem q1081 : (Jvm.Cond.instantiable "OrdinaryStalk$Plain" (1 : Nat)) ∈ lw_all := lw_g (lw_at lw_m5 7 rfl) rfl
theorem q1083 : (Jvm.Cond.instanceMethod ({ cls := "OrdinaryStalk$Plain", name := "<init>", desc := "(I)V" } : Jvm.MethodName)) ∈ lw_all := lw_g (lw_at lw_m5 9 rfl) rfl
theorem q1084 : (Jvm.Cond.code ({ cls := "OrdinaryStalk$Plain", name := "<init>", desc := "(I)V" } : Jvm.MethodName) prog_21_method_1_code (2 : Nat) (Option.none : Option Jvm.ClassFile.FieldType)) ∈ lw_all := lw_g (lw_at lw_m5 10 rfl) rfl
theorem q1085 : (Jvm.Cond.methodLinkNest "OrdinaryStalk$Plain" (1 : Nat) ({ cls := "OrdinaryStalk$Expression", name := "<init>", desc := "()V" } : Jvm.MethodName) "OrdinaryStalk") ∈ lw_tbl := lw_at lw_m5 11 rfl
theorem q1086 : (Jvm.Cond.fieldLink "OrdinaryStalk$Plain" (7 : Nat) "OrdinaryStalk$Plain" "n" "I") ∈ lw_all := lw_g (lw_at lw_m5 12 rfl) rfl
theorem q1087 : (Jvm.Cond.laysFinal "OrdinaryStalk$Plain" "OrdinaryStalk$Plain" "n" "I") ∈ lw_all := lw_g (lw_at lw_m5 13 rfl) rfl
theorem q1088 : (Jvm.Cond.soleField "OrdinaryStalk$Plain" "n") ∈ lw_all := lw_g (lw_at lw_m5 14 rfl) rfl
theorem q1089 : (Jvm.Cond.superclass "OrdinaryStalk$Plain" "OrdinaryStalk$Expression") ∈ lw_all := lw_g (lw_at lw_m5 15 rfl) rfl
theorem q1424 : (Jvm.Cond.instanceMethod ({ cls := "OrdinaryStalk$Plain", name := "of", desc := "(LOrdinaryStalk$Facts;)I" } : Jvm.MethodName)) ∈ lw_all := lw_g (lw_at lw_m6 110 rfl) rfl
theorem q1425 : (Jvm.Cond.code ({ cls := "OrdinaryStalk$Plain", name := "of", desc := "(LOrdinaryStalk$Facts;)I" } : Jvm.MethodName) prog_21_method_2_code (2 : Nat) (Option.some Jvm.ClassFile.FieldType.int)) ∈ lw_all := lw_g (lw_at lw_m6 111 rfl) rfl
theorem q1467 : (Jvm.Cond.selects "OrdinaryStalk$Plain" ({ cls := "OrdinaryStalk$Expression", name := "of", desc := "(LOrdinaryStalk$Facts;)I" } : Jvm.MethodName) ({ cls := "OrdinaryStalk$Plain", name := "of", desc := "(LOrdinaryStalk$Facts;)I" } : Jvm.MethodName)) ∈ lw_all := lw_g (lw_at lw_m6 153 rfl) rfl
theorem q2427 : (Jvm.Cond.castable "OrdinaryStalk$Plain" "java/lang/Object") ∈ lw_tbl := lw_at lw_m10 153 rfl
theorem in_X17 : ∀ w ∈ wsX170, w ∈ lw_all := lw_in wsX170 [1087] (by decide +kernel) (by decide +kernel)

/-! OrdinaryStalk$Not -/
def RX18 : String := "OrdinaryStalk$Not"
def TX18 : u_T := fun k => match k with
  | _ => ("OrdinaryStalk$Not", "e", "LOrdinaryStalk$Expression;", true)
def tyX18 : Nat → FieldType := fun k => match k with
  | _ => .object "OrdinaryStalk$Expression"
abbrev wsX180 : List Cond := u_ws RX18 TX18 1
theorem nmX18 : ∀ a, a < 1 → ∀ b, b < 1 → a ≠ b → (TX18 a).2.1 ≠ (TX18 b).2.1 := by decide +kernel
theorem tyX18_ok : ∀ k, k < 1 → parseFieldDescriptor (TX18 k).2.2.1 = some (tyX18 k) := by decide +kernel
abbrev cX18_init : ByteArray := prog_17_method_1_code
def yX18_init : MethodName := ⟨RX18, "<init>", "(LOrdinaryStalk$Expression;)V"⟩
abbrev cX18_of : ByteArray := prog_17_method_2_code
def yX18_of : MethodName := ⟨RX18, "of", "(LOrdinaryStalk$Facts;)I"⟩
theorem q152 : (Jvm.Cond.initialized "OrdinaryStalk$Not") ∈ lw_all := lw_g (lw_at lw_m1 38 rfl) rfl
theorem q913 : (Jvm.Cond.selects "OrdinaryStalk$Not" ({ cls := "java/lang/Object", name := "getClass", desc := "()Ljava/lang/Class;" } : Jvm.MethodName) ({ cls := "java/lang/Object", name := "getClass", desc := "()Ljava/lang/Class;" } : Jvm.MethodName)) ∈ lw_all := lw_g (lw_at lw_m4 79 rfl) rfl
theorem q1091 : (Jvm.Cond.instantiable "OrdinaryStalk$Not" (1 : Nat)) ∈ lw_all := lw_g (lw_at lw_m5 17 rfl) rfl
theorem q1093 : (Jvm.Cond.instanceMethod ({ cls := "OrdinaryStalk$Not", name := "<init>", desc := "(LOrdinaryStalk$Expression;)V" } : Jvm.MethodName)) ∈ lw_all := lw_g (lw_at lw_m5 19 rfl) rfl
theorem q1094 : (Jvm.Cond.code ({ cls := "OrdinaryStalk$Not", name := "<init>", desc := "(LOrdinaryStalk$Expression;)V" } : Jvm.MethodName) prog_17_method_1_code (2 : Nat) (Option.none : Option Jvm.ClassFile.FieldType)) ∈ lw_all := lw_g (lw_at lw_m5 20 rfl) rfl
theorem q1095 : (Jvm.Cond.methodLinkNest "OrdinaryStalk$Not" (1 : Nat) ({ cls := "OrdinaryStalk$Expression", name := "<init>", desc := "()V" } : Jvm.MethodName) "OrdinaryStalk") ∈ lw_tbl := lw_at lw_m5 21 rfl
theorem q1096 : (Jvm.Cond.fieldLink "OrdinaryStalk$Not" (7 : Nat) "OrdinaryStalk$Not" "e" "LOrdinaryStalk$Expression;") ∈ lw_all := lw_g (lw_at lw_m5 22 rfl) rfl
theorem q1097 : (Jvm.Cond.laysFinal "OrdinaryStalk$Not" "OrdinaryStalk$Not" "e" "LOrdinaryStalk$Expression;") ∈ lw_all := lw_g (lw_at lw_m5 23 rfl) rfl
theorem q1098 : (Jvm.Cond.soleField "OrdinaryStalk$Not" "e") ∈ lw_all := lw_g (lw_at lw_m5 24 rfl) rfl
theorem q1099 : (Jvm.Cond.superclass "OrdinaryStalk$Not" "OrdinaryStalk$Expression") ∈ lw_all := lw_g (lw_at lw_m5 25 rfl) rfl
theorem q1421 : (Jvm.Cond.instanceMethod ({ cls := "OrdinaryStalk$Not", name := "of", desc := "(LOrdinaryStalk$Facts;)I" } : Jvm.MethodName)) ∈ lw_all := lw_g (lw_at lw_m6 107 rfl) rfl
theorem q1422 : (Jvm.Cond.code ({ cls := "OrdinaryStalk$Not", name := "of", desc := "(LOrdinaryStalk$Facts;)I" } : Jvm.MethodName) prog_17_method_2_code (2 : Nat) (Option.some Jvm.ClassFile.FieldType.int)) ∈ lw_all := lw_g (lw_at lw_m6 108 rfl) rfl
theorem q1423 : (Jvm.Cond.methodLink "OrdinaryStalk$Not" (13 : Nat) ({ cls := "OrdinaryStalk$Expression", name := "of", desc := "(LOrdinaryStalk$Facts;)I" } : Jvm.MethodName)) ∈ lw_all := lw_g (lw_at lw_m6 109 rfl) rfl
theorem q1466 : (Jvm.Cond.selects "OrdinaryStalk$Not" ({ cls := "OrdinaryStalk$Expression", name := "of", desc := "(LOrdinaryStalk$Facts;)I" } : Jvm.MethodName) ({ cls := "OrdinaryStalk$Not", name := "of", desc := "(LOrdinaryStalk$Facts;)I" } : Jvm.MethodName)) ∈ lw_all := lw_g (lw_at lw_m6 152 rfl) rfl
theorem q2428 : (Jvm.Cond.castable "OrdinaryStalk$Not" "java/lang/Object") ∈ lw_tbl := lw_at lw_m10 154 rfl
theorem in_X18 : ∀ w ∈ wsX180, w ∈ lw_all := lw_in wsX180 [1097] (by decide +kernel) (by decide +kernel)

/-! OrdinaryStalk$Chain -/
def RX19 : String := "OrdinaryStalk$Chain"
def TX19 : u_T := fun k => match k with
  | 0 => ("OrdinaryStalk$Chain", "first", "LOrdinaryStalk$Expression;", true)
  | _ => ("OrdinaryStalk$Chain", "links", "Ljava/util/ArrayList;", true)
def tyX19 : Nat → FieldType := fun k => match k with
  | 0 => .object "OrdinaryStalk$Expression"
  | _ => .object "java/util/ArrayList"
abbrev wsX190 : List Cond := u_ws RX19 TX19 2
theorem nmX19 : ∀ a, a < 2 → ∀ b, b < 2 → a ≠ b → (TX19 a).2.1 ≠ (TX19 b).2.1 := by decide +kernel
theorem tyX19_ok : ∀ k, k < 2 → parseFieldDescriptor (TX19 k).2.2.1 = some (tyX19 k) := by decide +kernel
abbrev cX19_init : ByteArray := prog_4_method_1_code
def yX19_init : MethodName := ⟨RX19, "<init>", "(LOrdinaryStalk$Expression;)V"⟩
abbrev cX19_of : ByteArray := prog_4_method_2_code
def yX19_of : MethodName := ⟨RX19, "of", "(LOrdinaryStalk$Facts;)I"⟩
theorem q153 : (Jvm.Cond.initialized "OrdinaryStalk$Chain") ∈ lw_all := lw_g (lw_at lw_m1 39 rfl) rfl
theorem q903 : (Jvm.Cond.selects "OrdinaryStalk$Chain" ({ cls := "java/lang/Object", name := "getClass", desc := "()Ljava/lang/Class;" } : Jvm.MethodName) ({ cls := "java/lang/Object", name := "getClass", desc := "()Ljava/lang/Class;" } : Jvm.MethodName)) ∈ lw_all := lw_g (lw_at lw_m4 69 rfl) rfl
theorem q1112 : (Jvm.Cond.instantiable "OrdinaryStalk$Chain" (2 : Nat)) ∈ lw_all := lw_g (lw_at lw_m5 38 rfl) rfl
theorem q1114 : (Jvm.Cond.instanceMethod ({ cls := "OrdinaryStalk$Chain", name := "<init>", desc := "(LOrdinaryStalk$Expression;)V" } : Jvm.MethodName)) ∈ lw_all := lw_g (lw_at lw_m5 40 rfl) rfl
theorem q1115 : (Jvm.Cond.code ({ cls := "OrdinaryStalk$Chain", name := "<init>", desc := "(LOrdinaryStalk$Expression;)V" } : Jvm.MethodName) prog_4_method_1_code (2 : Nat) (Option.none : Option Jvm.ClassFile.FieldType)) ∈ lw_all := lw_g (lw_at lw_m5 41 rfl) rfl
theorem q1116 : (Jvm.Cond.methodLinkNest "OrdinaryStalk$Chain" (1 : Nat) ({ cls := "OrdinaryStalk$Expression", name := "<init>", desc := "()V" } : Jvm.MethodName) "OrdinaryStalk") ∈ lw_tbl := lw_at lw_m5 42 rfl
theorem q1117 : (Jvm.Cond.classLink "OrdinaryStalk$Chain" (7 : Nat) "java/util/ArrayList") ∈ lw_all := lw_g (lw_at lw_m5 43 rfl) rfl
theorem q1118 : (Jvm.Cond.methodLink "OrdinaryStalk$Chain" (9 : Nat) ({ cls := "java/util/ArrayList", name := "<init>", desc := "(I)V" } : Jvm.MethodName)) ∈ lw_all := lw_g (lw_at lw_m5 44 rfl) rfl
theorem q1119 : (Jvm.Cond.fieldLink "OrdinaryStalk$Chain" (18 : Nat) "OrdinaryStalk$Chain" "first" "LOrdinaryStalk$Expression;") ∈ lw_all := lw_g (lw_at lw_m5 45 rfl) rfl
theorem q1120 : (Jvm.Cond.fieldLink "OrdinaryStalk$Chain" (12 : Nat) "OrdinaryStalk$Chain" "links" "Ljava/util/ArrayList;") ∈ lw_all := lw_g (lw_at lw_m5 46 rfl) rfl
theorem q1122 : (Jvm.Cond.laysFinal "OrdinaryStalk$Chain" "OrdinaryStalk$Chain" "first" "LOrdinaryStalk$Expression;") ∈ lw_all := lw_g (lw_at lw_m5 48 rfl) rfl
theorem q1123 : (Jvm.Cond.soleField "OrdinaryStalk$Chain" "first") ∈ lw_all := lw_g (lw_at lw_m5 49 rfl) rfl
theorem q1124 : (Jvm.Cond.laysFinal "OrdinaryStalk$Chain" "OrdinaryStalk$Chain" "links" "Ljava/util/ArrayList;") ∈ lw_all := lw_g (lw_at lw_m5 50 rfl) rfl
theorem q1125 : (Jvm.Cond.soleField "OrdinaryStalk$Chain" "links") ∈ lw_all := lw_g (lw_at lw_m5 51 rfl) rfl
theorem q1126 : (Jvm.Cond.superclass "OrdinaryStalk$Chain" "OrdinaryStalk$Expression") ∈ lw_all := lw_g (lw_at lw_m5 52 rfl) rfl
theorem q1415 : (Jvm.Cond.selects "OrdinaryStalk$Chain" ({ cls := "OrdinaryStalk$Expression", name := "of", desc := "(LOrdinaryStalk$Facts;)I" } : Jvm.MethodName) ({ cls := "OrdinaryStalk$Chain", name := "of", desc := "(LOrdinaryStalk$Facts;)I" } : Jvm.MethodName)) ∈ lw_all := lw_g (lw_at lw_m6 101 rfl) rfl
theorem q1416 : (Jvm.Cond.instanceMethod ({ cls := "OrdinaryStalk$Chain", name := "of", desc := "(LOrdinaryStalk$Facts;)I" } : Jvm.MethodName)) ∈ lw_all := lw_g (lw_at lw_m6 102 rfl) rfl
theorem q1417 : (Jvm.Cond.code ({ cls := "OrdinaryStalk$Chain", name := "of", desc := "(LOrdinaryStalk$Facts;)I" } : Jvm.MethodName) prog_4_method_2_code (4 : Nat) (Option.some Jvm.ClassFile.FieldType.int)) ∈ lw_all := lw_g (lw_at lw_m6 103 rfl) rfl
theorem q1418 : (Jvm.Cond.methodLink "OrdinaryStalk$Chain" (22 : Nat) ({ cls := "OrdinaryStalk$Expression", name := "of", desc := "(LOrdinaryStalk$Facts;)I" } : Jvm.MethodName)) ∈ lw_all := lw_g (lw_at lw_m6 104 rfl) rfl
theorem q1426 : (Jvm.Cond.methodLink "OrdinaryStalk$Chain" (26 : Nat) ({ cls := "java/util/ArrayList", name := "size", desc := "()I" } : Jvm.MethodName)) ∈ lw_all := lw_g (lw_at lw_m6 112 rfl) rfl
theorem q1427 : (Jvm.Cond.methodLink "OrdinaryStalk$Chain" (30 : Nat) ({ cls := "java/util/ArrayList", name := "get", desc := "(I)Ljava/lang/Object;" } : Jvm.MethodName)) ∈ lw_all := lw_g (lw_at lw_m6 113 rfl) rfl
theorem q1428 : (Jvm.Cond.classLink "OrdinaryStalk$Chain" (34 : Nat) "OrdinaryStalk$Link") ∈ lw_all := lw_g (lw_at lw_m6 114 rfl) rfl
theorem q1429 : (Jvm.Cond.methodLink "OrdinaryStalk$Chain" (36 : Nat) ({ cls := "OrdinaryStalk$Link", name := "on", desc := "(ILOrdinaryStalk$Facts;)I" } : Jvm.MethodName)) ∈ lw_all := lw_g (lw_at lw_m6 115 rfl) rfl
theorem q2429 : (Jvm.Cond.castable "OrdinaryStalk$Chain" "java/lang/Object") ∈ lw_tbl := lw_at lw_m10 155 rfl
theorem in_X19 : ∀ w ∈ wsX190, w ∈ lw_all := lw_in wsX190 [1122, 1124] (by decide +kernel) (by decide +kernel)

/-! OrdinaryStalk$Link -/
def RX20 : String := "OrdinaryStalk$Link"
abbrev cX20_init : ByteArray := prog_14_method_1_code
def yX20_init : MethodName := ⟨RX20, "<init>", "(LOrdinaryStalk$Expression;)V"⟩
abbrev cX20_on : ByteArray := prog_14_method_3_code
def yX20_on : MethodName := ⟨RX20, "on", "(ILOrdinaryStalk$Facts;)I"⟩
theorem q154 : (Jvm.Cond.initialized "OrdinaryStalk$Link") ∈ lw_all := lw_g (lw_at lw_m1 40 rfl) rfl
theorem q1133 : (Jvm.Cond.instanceMethod ({ cls := "OrdinaryStalk$Link", name := "<init>", desc := "(LOrdinaryStalk$Expression;)V" } : Jvm.MethodName)) ∈ lw_all := lw_g (lw_at lw_m5 59 rfl) rfl
theorem q1134 : (Jvm.Cond.code ({ cls := "OrdinaryStalk$Link", name := "<init>", desc := "(LOrdinaryStalk$Expression;)V" } : Jvm.MethodName) prog_14_method_1_code (2 : Nat) (Option.none : Option Jvm.ClassFile.FieldType)) ∈ lw_all := lw_g (lw_at lw_m5 60 rfl) rfl
theorem q1135 : (Jvm.Cond.methodLink "OrdinaryStalk$Link" (1 : Nat) ({ cls := "java/lang/Object", name := "<init>", desc := "()V" } : Jvm.MethodName)) ∈ lw_all := lw_g (lw_at lw_m5 61 rfl) rfl
theorem q1136 : (Jvm.Cond.fieldLink "OrdinaryStalk$Link" (7 : Nat) "OrdinaryStalk$Link" "e" "LOrdinaryStalk$Expression;") ∈ lw_all := lw_g (lw_at lw_m5 62 rfl) rfl
theorem q1138 : (Jvm.Cond.soleField "OrdinaryStalk$Link" "e") ∈ lw_all := lw_g (lw_at lw_m5 64 rfl) rfl
theorem q1430 : (Jvm.Cond.instanceMethod ({ cls := "OrdinaryStalk$Link", name := "on", desc := "(ILOrdinaryStalk$Facts;)I" } : Jvm.MethodName)) ∈ lw_all := lw_g (lw_at lw_m6 116 rfl) rfl
theorem q1431 : (Jvm.Cond.sameMethod "OrdinaryStalk$Link" "OrdinaryStalk$Link" "on" "(ILOrdinaryStalk$Facts;)I") ∈ lw_all := lw_g (lw_at lw_m6 117 rfl) rfl
theorem q1439 : (Jvm.Cond.code ({ cls := "OrdinaryStalk$Link", name := "on", desc := "(ILOrdinaryStalk$Facts;)I" } : Jvm.MethodName) prog_14_method_3_code (3 : Nat) (Option.some Jvm.ClassFile.FieldType.int)) ∈ lw_all := lw_g (lw_at lw_m6 125 rfl) rfl
theorem q1440 : (Jvm.Cond.methodLink "OrdinaryStalk$Link" (13 : Nat) ({ cls := "OrdinaryStalk$Expression", name := "of", desc := "(LOrdinaryStalk$Facts;)I" } : Jvm.MethodName)) ∈ lw_all := lw_g (lw_at lw_m6 126 rfl) rfl
theorem q1441 : (Jvm.Cond.methodLink "OrdinaryStalk$Link" (19 : Nat) ({ cls := "OrdinaryStalk$Link", name := "with", desc := "(II)I" } : Jvm.MethodName)) ∈ lw_all := lw_g (lw_at lw_m6 127 rfl) rfl
theorem q1442 : (Jvm.Cond.declares ({ cls := "OrdinaryStalk$Link", name := "with", desc := "(II)I" } : Jvm.MethodName)) ∈ lw_tbl := lw_at lw_m6 128 rfl
theorem q1443 : (Jvm.Cond.sameMethod "OrdinaryStalk$Link" "OrdinaryStalk$Link" "with" "(II)I") ∈ lw_all := lw_g (lw_at lw_m6 129 rfl) rfl

/-! OrdinaryStalk$Times -/
def RX21 : String := "OrdinaryStalk$Times"
def TX21 : u_T := fun k => match k with
  | _ => ("OrdinaryStalk$Link", "e", "LOrdinaryStalk$Expression;", true)
def tyX21 : Nat → FieldType := fun k => match k with
  | _ => .object "OrdinaryStalk$Expression"
abbrev wsX210 : List Cond := u_ws RX21 TX21 1
theorem nmX21 : ∀ a, a < 1 → ∀ b, b < 1 → a ≠ b → (TX21 a).2.1 ≠ (TX21 b).2.1 := by decide +kernel
theorem tyX21_ok : ∀ k, k < 1 → parseFieldDescriptor (TX21 k).2.2.1 = some (tyX21 k) := by decide +kernel
abbrev cX21_init : ByteArray := prog_29_method_1_code
def yX21_init : MethodName := ⟨RX21, "<init>", "(LOrdinaryStalk$Expression;)V"⟩
abbrev cX21_with : ByteArray := prog_29_method_2_code
def yX21_with : MethodName := ⟨RX21, "with", "(II)I"⟩
theorem q155 : (Jvm.Cond.initialized "OrdinaryStalk$Times") ∈ lw_all := lw_g (lw_at lw_m1 41 rfl) rfl
theorem q925 : (Jvm.Cond.selects "OrdinaryStalk$Times" ({ cls := "java/lang/Object", name := "getClass", desc := "()Ljava/lang/Class;" } : Jvm.MethodName) ({ cls := "java/lang/Object", name := "getClass", desc := "()Ljava/lang/Class;" } : Jvm.MethodName)) ∈ lw_all := lw_g (lw_at lw_m4 91 rfl) rfl
theorem q1128 : (Jvm.Cond.instantiable "OrdinaryStalk$Times" (1 : Nat)) ∈ lw_all := lw_g (lw_at lw_m5 54 rfl) rfl
theorem q1130 : (Jvm.Cond.instanceMethod ({ cls := "OrdinaryStalk$Times", name := "<init>", desc := "(LOrdinaryStalk$Expression;)V" } : Jvm.MethodName)) ∈ lw_all := lw_g (lw_at lw_m5 56 rfl) rfl
theorem q1131 : (Jvm.Cond.code ({ cls := "OrdinaryStalk$Times", name := "<init>", desc := "(LOrdinaryStalk$Expression;)V" } : Jvm.MethodName) prog_29_method_1_code (2 : Nat) (Option.none : Option Jvm.ClassFile.FieldType)) ∈ lw_all := lw_g (lw_at lw_m5 57 rfl) rfl
theorem q1132 : (Jvm.Cond.methodLink "OrdinaryStalk$Times" (1 : Nat) ({ cls := "OrdinaryStalk$Link", name := "<init>", desc := "(LOrdinaryStalk$Expression;)V" } : Jvm.MethodName)) ∈ lw_all := lw_g (lw_at lw_m5 58 rfl) rfl
theorem q1137 : (Jvm.Cond.laysFinal "OrdinaryStalk$Times" "OrdinaryStalk$Link" "e" "LOrdinaryStalk$Expression;") ∈ lw_all := lw_g (lw_at lw_m5 63 rfl) rfl
theorem q1139 : (Jvm.Cond.superclass "OrdinaryStalk$Times" "OrdinaryStalk$Link") ∈ lw_all := lw_g (lw_at lw_m5 65 rfl) rfl
theorem q1438 : (Jvm.Cond.selects "OrdinaryStalk$Times" ({ cls := "OrdinaryStalk$Link", name := "on", desc := "(ILOrdinaryStalk$Facts;)I" } : Jvm.MethodName) ({ cls := "OrdinaryStalk$Link", name := "on", desc := "(ILOrdinaryStalk$Facts;)I" } : Jvm.MethodName)) ∈ lw_all := lw_g (lw_at lw_m6 124 rfl) rfl
theorem q1462 : (Jvm.Cond.selects "OrdinaryStalk$Times" ({ cls := "OrdinaryStalk$Link", name := "with", desc := "(II)I" } : Jvm.MethodName) ({ cls := "OrdinaryStalk$Times", name := "with", desc := "(II)I" } : Jvm.MethodName)) ∈ lw_all := lw_g (lw_at lw_m6 148 rfl) rfl
theorem q1463 : (Jvm.Cond.instanceMethod ({ cls := "OrdinaryStalk$Times", name := "with", desc := "(II)I" } : Jvm.MethodName)) ∈ lw_all := lw_g (lw_at lw_m6 149 rfl) rfl
theorem q1464 : (Jvm.Cond.code ({ cls := "OrdinaryStalk$Times", name := "with", desc := "(II)I" } : Jvm.MethodName) prog_29_method_2_code (3 : Nat) (Option.some Jvm.ClassFile.FieldType.int)) ∈ lw_all := lw_g (lw_at lw_m6 150 rfl) rfl
theorem q2403 : (Jvm.Cond.castable "OrdinaryStalk$Times" "OrdinaryStalk$Link") ∈ lw_tbl := lw_at lw_m10 129 rfl
theorem q2430 : (Jvm.Cond.castable "OrdinaryStalk$Times" "java/lang/Object") ∈ lw_tbl := lw_at lw_m10 156 rfl
theorem in_X21 : ∀ w ∈ wsX210, w ∈ lw_all := lw_in wsX210 [1137] (by decide +kernel) (by decide +kernel)

/-! OrdinaryStalk$Plus -/
def RX22 : String := "OrdinaryStalk$Plus"
def TX22 : u_T := fun k => match k with
  | _ => ("OrdinaryStalk$Link", "e", "LOrdinaryStalk$Expression;", true)
def tyX22 : Nat → FieldType := fun k => match k with
  | _ => .object "OrdinaryStalk$Expression"
abbrev wsX220 : List Cond := u_ws RX22 TX22 1
theorem nmX22 : ∀ a, a < 1 → ∀ b, b < 1 → a ≠ b → (TX22 a).2.1 ≠ (TX22 b).2.1 := by decide +kernel
theorem tyX22_ok : ∀ k, k < 1 → parseFieldDescriptor (TX22 k).2.2.1 = some (tyX22 k) := by decide +kernel
abbrev cX22_init : ByteArray := prog_22_method_1_code
def yX22_init : MethodName := ⟨RX22, "<init>", "(LOrdinaryStalk$Expression;)V"⟩
abbrev cX22_with : ByteArray := prog_22_method_2_code
def yX22_with : MethodName := ⟨RX22, "with", "(II)I"⟩
theorem q156 : (Jvm.Cond.initialized "OrdinaryStalk$Plus") ∈ lw_all := lw_g (lw_at lw_m1 42 rfl) rfl
theorem q918 : (Jvm.Cond.selects "OrdinaryStalk$Plus" ({ cls := "java/lang/Object", name := "getClass", desc := "()Ljava/lang/Class;" } : Jvm.MethodName) ({ cls := "java/lang/Object", name := "getClass", desc := "()Ljava/lang/Class;" } : Jvm.MethodName)) ∈ lw_all := lw_g (lw_at lw_m4 84 rfl) rfl
theorem q1141 : (Jvm.Cond.instantiable "OrdinaryStalk$Plus" (1 : Nat)) ∈ lw_all := lw_g (lw_at lw_m5 67 rfl) rfl
theorem q1143 : (Jvm.Cond.instanceMethod ({ cls := "OrdinaryStalk$Plus", name := "<init>", desc := "(LOrdinaryStalk$Expression;)V" } : Jvm.MethodName)) ∈ lw_all := lw_g (lw_at lw_m5 69 rfl) rfl
theorem q1144 : (Jvm.Cond.code ({ cls := "OrdinaryStalk$Plus", name := "<init>", desc := "(LOrdinaryStalk$Expression;)V" } : Jvm.MethodName) prog_22_method_1_code (2 : Nat) (Option.none : Option Jvm.ClassFile.FieldType)) ∈ lw_all := lw_g (lw_at lw_m5 70 rfl) rfl
theorem q1145 : (Jvm.Cond.methodLink "OrdinaryStalk$Plus" (1 : Nat) ({ cls := "OrdinaryStalk$Link", name := "<init>", desc := "(LOrdinaryStalk$Expression;)V" } : Jvm.MethodName)) ∈ lw_all := lw_g (lw_at lw_m5 71 rfl) rfl
theorem q1146 : (Jvm.Cond.laysFinal "OrdinaryStalk$Plus" "OrdinaryStalk$Link" "e" "LOrdinaryStalk$Expression;") ∈ lw_all := lw_g (lw_at lw_m5 72 rfl) rfl
theorem q1147 : (Jvm.Cond.superclass "OrdinaryStalk$Plus" "OrdinaryStalk$Link") ∈ lw_all := lw_g (lw_at lw_m5 73 rfl) rfl
theorem q1436 : (Jvm.Cond.selects "OrdinaryStalk$Plus" ({ cls := "OrdinaryStalk$Link", name := "on", desc := "(ILOrdinaryStalk$Facts;)I" } : Jvm.MethodName) ({ cls := "OrdinaryStalk$Link", name := "on", desc := "(ILOrdinaryStalk$Facts;)I" } : Jvm.MethodName)) ∈ lw_all := lw_g (lw_at lw_m6 122 rfl) rfl
theorem q1456 : (Jvm.Cond.selects "OrdinaryStalk$Plus" ({ cls := "OrdinaryStalk$Link", name := "with", desc := "(II)I" } : Jvm.MethodName) ({ cls := "OrdinaryStalk$Plus", name := "with", desc := "(II)I" } : Jvm.MethodName)) ∈ lw_all := lw_g (lw_at lw_m6 142 rfl) rfl
theorem q1457 : (Jvm.Cond.instanceMethod ({ cls := "OrdinaryStalk$Plus", name := "with", desc := "(II)I" } : Jvm.MethodName)) ∈ lw_all := lw_g (lw_at lw_m6 143 rfl) rfl
theorem q1458 : (Jvm.Cond.code ({ cls := "OrdinaryStalk$Plus", name := "with", desc := "(II)I" } : Jvm.MethodName) prog_22_method_2_code (3 : Nat) (Option.some Jvm.ClassFile.FieldType.int)) ∈ lw_all := lw_g (lw_at lw_m6 144 rfl) rfl
theorem q2401 : (Jvm.Cond.castable "OrdinaryStalk$Plus" "OrdinaryStalk$Link") ∈ lw_tbl := lw_at lw_m10 127 rfl
theorem q2431 : (Jvm.Cond.castable "OrdinaryStalk$Plus" "java/lang/Object") ∈ lw_tbl := lw_at lw_m10 157 rfl
theorem in_X22 : ∀ w ∈ wsX220, w ∈ lw_all := lw_in wsX220 [1146] (by decide +kernel) (by decide +kernel)

/-! OrdinaryStalk$Minus -/
def RX23 : String := "OrdinaryStalk$Minus"
def TX23 : u_T := fun k => match k with
  | _ => ("OrdinaryStalk$Link", "e", "LOrdinaryStalk$Expression;", true)
def tyX23 : Nat → FieldType := fun k => match k with
  | _ => .object "OrdinaryStalk$Expression"
abbrev wsX230 : List Cond := u_ws RX23 TX23 1
theorem nmX23 : ∀ a, a < 1 → ∀ b, b < 1 → a ≠ b → (TX23 a).2.1 ≠ (TX23 b).2.1 := by decide +kernel
theorem tyX23_ok : ∀ k, k < 1 → parseFieldDescriptor (TX23 k).2.2.1 = some (tyX23 k) := by decide +kernel
abbrev cX23_init : ByteArray := prog_16_method_1_code
def yX23_init : MethodName := ⟨RX23, "<init>", "(LOrdinaryStalk$Expression;)V"⟩
abbrev cX23_with : ByteArray := prog_16_method_2_code
def yX23_with : MethodName := ⟨RX23, "with", "(II)I"⟩
theorem q157 : (Jvm.Cond.initialized "OrdinaryStalk$Minus") ∈ lw_all := lw_g (lw_at lw_m1 43 rfl) rfl
theorem q912 : (Jvm.Cond.selects "OrdinaryStalk$Minus" ({ cls := "java/lang/Object", name := "getClass", desc := "()Ljava/lang/Class;" } : Jvm.MethodName) ({ cls := "java/lang/Object", name := "getClass", desc := "()Ljava/lang/Class;" } : Jvm.MethodName)) ∈ lw_all := lw_g (lw_at lw_m4 78 rfl) rfl
theorem q1149 : (Jvm.Cond.instantiable "OrdinaryStalk$Minus" (1 : Nat)) ∈ lw_all := lw_g (lw_at lw_m5 75 rfl) rfl
theorem q1151 : (Jvm.Cond.instanceMethod ({ cls := "OrdinaryStalk$Minus", name := "<init>", desc := "(LOrdinaryStalk$Expression;)V" } : Jvm.MethodName)) ∈ lw_all := lw_g (lw_at lw_m5 77 rfl) rfl
theorem q1152 : (Jvm.Cond.code ({ cls := "OrdinaryStalk$Minus", name := "<init>", desc := "(LOrdinaryStalk$Expression;)V" } : Jvm.MethodName) prog_16_method_1_code (2 : Nat) (Option.none : Option Jvm.ClassFile.FieldType)) ∈ lw_all := lw_g (lw_at lw_m5 78 rfl) rfl
theorem q1153 : (Jvm.Cond.methodLink "OrdinaryStalk$Minus" (1 : Nat) ({ cls := "OrdinaryStalk$Link", name := "<init>", desc := "(LOrdinaryStalk$Expression;)V" } : Jvm.MethodName)) ∈ lw_all := lw_g (lw_at lw_m5 79 rfl) rfl
theorem q1154 : (Jvm.Cond.laysFinal "OrdinaryStalk$Minus" "OrdinaryStalk$Link" "e" "LOrdinaryStalk$Expression;") ∈ lw_all := lw_g (lw_at lw_m5 80 rfl) rfl
theorem q1155 : (Jvm.Cond.superclass "OrdinaryStalk$Minus" "OrdinaryStalk$Link") ∈ lw_all := lw_g (lw_at lw_m5 81 rfl) rfl
theorem q1434 : (Jvm.Cond.selects "OrdinaryStalk$Minus" ({ cls := "OrdinaryStalk$Link", name := "on", desc := "(ILOrdinaryStalk$Facts;)I" } : Jvm.MethodName) ({ cls := "OrdinaryStalk$Link", name := "on", desc := "(ILOrdinaryStalk$Facts;)I" } : Jvm.MethodName)) ∈ lw_all := lw_g (lw_at lw_m6 120 rfl) rfl
theorem q1450 : (Jvm.Cond.selects "OrdinaryStalk$Minus" ({ cls := "OrdinaryStalk$Link", name := "with", desc := "(II)I" } : Jvm.MethodName) ({ cls := "OrdinaryStalk$Minus", name := "with", desc := "(II)I" } : Jvm.MethodName)) ∈ lw_all := lw_g (lw_at lw_m6 136 rfl) rfl
theorem q1451 : (Jvm.Cond.instanceMethod ({ cls := "OrdinaryStalk$Minus", name := "with", desc := "(II)I" } : Jvm.MethodName)) ∈ lw_all := lw_g (lw_at lw_m6 137 rfl) rfl
theorem q1452 : (Jvm.Cond.code ({ cls := "OrdinaryStalk$Minus", name := "with", desc := "(II)I" } : Jvm.MethodName) prog_16_method_2_code (3 : Nat) (Option.some Jvm.ClassFile.FieldType.int)) ∈ lw_all := lw_g (lw_at lw_m6 138 rfl) rfl
theorem q2399 : (Jvm.Cond.castable "OrdinaryStalk$Minus" "OrdinaryStalk$Link") ∈ lw_tbl := lw_at lw_m10 125 rfl
theorem q2432 : (Jvm.Cond.castable "OrdinaryStalk$Minus" "java/lang/Object") ∈ lw_tbl := lw_at lw_m10 158 rfl
theorem in_X23 : ∀ w ∈ wsX230, w ∈ lw_all := lw_in wsX230 [1154] (by decide +kernel) (by decide +kernel)

/-! OrdinaryStalk$Less -/
def RX24 : String := "OrdinaryStalk$Less"
def TX24 : u_T := fun k => match k with
  | _ => ("OrdinaryStalk$Link", "e", "LOrdinaryStalk$Expression;", true)
def tyX24 : Nat → FieldType := fun k => match k with
  | _ => .object "OrdinaryStalk$Expression"
abbrev wsX240 : List Cond := u_ws RX24 TX24 1
theorem nmX24 : ∀ a, a < 1 → ∀ b, b < 1 → a ≠ b → (TX24 a).2.1 ≠ (TX24 b).2.1 := by decide +kernel
theorem tyX24_ok : ∀ k, k < 1 → parseFieldDescriptor (TX24 k).2.2.1 = some (tyX24 k) := by decide +kernel
abbrev cX24_init : ByteArray := prog_12_method_1_code
def yX24_init : MethodName := ⟨RX24, "<init>", "(LOrdinaryStalk$Expression;)V"⟩
abbrev cX24_with : ByteArray := prog_12_method_2_code
def yX24_with : MethodName := ⟨RX24, "with", "(II)I"⟩
theorem q158 : (Jvm.Cond.initialized "OrdinaryStalk$Less") ∈ lw_all := lw_g (lw_at lw_m1 44 rfl) rfl
theorem q910 : (Jvm.Cond.selects "OrdinaryStalk$Less" ({ cls := "java/lang/Object", name := "getClass", desc := "()Ljava/lang/Class;" } : Jvm.MethodName) ({ cls := "java/lang/Object", name := "getClass", desc := "()Ljava/lang/Class;" } : Jvm.MethodName)) ∈ lw_all := lw_g (lw_at lw_m4 76 rfl) rfl
theorem q1157 : (Jvm.Cond.instantiable "OrdinaryStalk$Less" (1 : Nat)) ∈ lw_all := lw_g (lw_at lw_m5 83 rfl) rfl
theorem q1159 : (Jvm.Cond.instanceMethod ({ cls := "OrdinaryStalk$Less", name := "<init>", desc := "(LOrdinaryStalk$Expression;)V" } : Jvm.MethodName)) ∈ lw_all := lw_g (lw_at lw_m5 85 rfl) rfl
theorem q1160 : (Jvm.Cond.code ({ cls := "OrdinaryStalk$Less", name := "<init>", desc := "(LOrdinaryStalk$Expression;)V" } : Jvm.MethodName) prog_12_method_1_code (2 : Nat) (Option.none : Option Jvm.ClassFile.FieldType)) ∈ lw_all := lw_g (lw_at lw_m5 86 rfl) rfl
theorem q1161 : (Jvm.Cond.methodLink "OrdinaryStalk$Less" (1 : Nat) ({ cls := "OrdinaryStalk$Link", name := "<init>", desc := "(LOrdinaryStalk$Expression;)V" } : Jvm.MethodName)) ∈ lw_all := lw_g (lw_at lw_m5 87 rfl) rfl
theorem q1162 : (Jvm.Cond.laysFinal "OrdinaryStalk$Less" "OrdinaryStalk$Link" "e" "LOrdinaryStalk$Expression;") ∈ lw_all := lw_g (lw_at lw_m5 88 rfl) rfl
theorem q1163 : (Jvm.Cond.superclass "OrdinaryStalk$Less" "OrdinaryStalk$Link") ∈ lw_all := lw_g (lw_at lw_m5 89 rfl) rfl
theorem q1433 : (Jvm.Cond.selects "OrdinaryStalk$Less" ({ cls := "OrdinaryStalk$Link", name := "on", desc := "(ILOrdinaryStalk$Facts;)I" } : Jvm.MethodName) ({ cls := "OrdinaryStalk$Link", name := "on", desc := "(ILOrdinaryStalk$Facts;)I" } : Jvm.MethodName)) ∈ lw_all := lw_g (lw_at lw_m6 119 rfl) rfl
theorem q1447 : (Jvm.Cond.selects "OrdinaryStalk$Less" ({ cls := "OrdinaryStalk$Link", name := "with", desc := "(II)I" } : Jvm.MethodName) ({ cls := "OrdinaryStalk$Less", name := "with", desc := "(II)I" } : Jvm.MethodName)) ∈ lw_all := lw_g (lw_at lw_m6 133 rfl) rfl
theorem q1448 : (Jvm.Cond.instanceMethod ({ cls := "OrdinaryStalk$Less", name := "with", desc := "(II)I" } : Jvm.MethodName)) ∈ lw_all := lw_g (lw_at lw_m6 134 rfl) rfl
theorem q1449 : (Jvm.Cond.code ({ cls := "OrdinaryStalk$Less", name := "with", desc := "(II)I" } : Jvm.MethodName) prog_12_method_2_code (3 : Nat) (Option.some Jvm.ClassFile.FieldType.int)) ∈ lw_all := lw_g (lw_at lw_m6 135 rfl) rfl
theorem q2398 : (Jvm.Cond.castable "OrdinaryStalk$Less" "OrdinaryStalk$Link") ∈ lw_tbl := lw_at lw_m10 124 rfl
theorem q2433 : (Jvm.Cond.castable "OrdinaryStalk$Less" "java/lang/Object") ∈ lw_tbl := lw_at lw_m10 159 rfl
theorem in_X24 : ∀ w ∈ wsX240, w ∈ lw_all := lw_in wsX240 [1162] (by decide +kernel) (by decide +kernel)

/-! OrdinaryStalk$Same -/
def RX25 : String := "OrdinaryStalk$Same"
def TX25 : u_T := fun k => match k with
  | _ => ("OrdinaryStalk$Link", "e", "LOrdinaryStalk$Expression;", true)
def tyX25 : Nat → FieldType := fun k => match k with
  | _ => .object "OrdinaryStalk$Expression"
abbrev wsX250 : List Cond := u_ws RX25 TX25 1
theorem nmX25 : ∀ a, a < 1 → ∀ b, b < 1 → a ≠ b → (TX25 a).2.1 ≠ (TX25 b).2.1 := by decide +kernel
theorem tyX25_ok : ∀ k, k < 1 → parseFieldDescriptor (TX25 k).2.2.1 = some (tyX25 k) := by decide +kernel
abbrev cX25_init : ByteArray := prog_25_method_1_code
def yX25_init : MethodName := ⟨RX25, "<init>", "(LOrdinaryStalk$Expression;)V"⟩
abbrev cX25_with : ByteArray := prog_25_method_2_code
def yX25_with : MethodName := ⟨RX25, "with", "(II)I"⟩
theorem q159 : (Jvm.Cond.initialized "OrdinaryStalk$Same") ∈ lw_all := lw_g (lw_at lw_m1 45 rfl) rfl
theorem q921 : (Jvm.Cond.selects "OrdinaryStalk$Same" ({ cls := "java/lang/Object", name := "getClass", desc := "()Ljava/lang/Class;" } : Jvm.MethodName) ({ cls := "java/lang/Object", name := "getClass", desc := "()Ljava/lang/Class;" } : Jvm.MethodName)) ∈ lw_all := lw_g (lw_at lw_m4 87 rfl) rfl
theorem q1165 : (Jvm.Cond.instantiable "OrdinaryStalk$Same" (1 : Nat)) ∈ lw_all := lw_g (lw_at lw_m5 91 rfl) rfl
theorem q1167 : (Jvm.Cond.instanceMethod ({ cls := "OrdinaryStalk$Same", name := "<init>", desc := "(LOrdinaryStalk$Expression;)V" } : Jvm.MethodName)) ∈ lw_all := lw_g (lw_at lw_m5 93 rfl) rfl
theorem q1168 : (Jvm.Cond.code ({ cls := "OrdinaryStalk$Same", name := "<init>", desc := "(LOrdinaryStalk$Expression;)V" } : Jvm.MethodName) prog_25_method_1_code (2 : Nat) (Option.none : Option Jvm.ClassFile.FieldType)) ∈ lw_all := lw_g (lw_at lw_m5 94 rfl) rfl
theorem q1169 : (Jvm.Cond.methodLink "OrdinaryStalk$Same" (1 : Nat) ({ cls := "OrdinaryStalk$Link", name := "<init>", desc := "(LOrdinaryStalk$Expression;)V" } : Jvm.MethodName)) ∈ lw_all := lw_g (lw_at lw_m5 95 rfl) rfl
theorem q1170 : (Jvm.Cond.laysFinal "OrdinaryStalk$Same" "OrdinaryStalk$Link" "e" "LOrdinaryStalk$Expression;") ∈ lw_all := lw_g (lw_at lw_m5 96 rfl) rfl
theorem q1171 : (Jvm.Cond.superclass "OrdinaryStalk$Same" "OrdinaryStalk$Link") ∈ lw_all := lw_g (lw_at lw_m5 97 rfl) rfl
theorem q1437 : (Jvm.Cond.selects "OrdinaryStalk$Same" ({ cls := "OrdinaryStalk$Link", name := "on", desc := "(ILOrdinaryStalk$Facts;)I" } : Jvm.MethodName) ({ cls := "OrdinaryStalk$Link", name := "on", desc := "(ILOrdinaryStalk$Facts;)I" } : Jvm.MethodName)) ∈ lw_all := lw_g (lw_at lw_m6 123 rfl) rfl
theorem q1459 : (Jvm.Cond.selects "OrdinaryStalk$Same" ({ cls := "OrdinaryStalk$Link", name := "with", desc := "(II)I" } : Jvm.MethodName) ({ cls := "OrdinaryStalk$Same", name := "with", desc := "(II)I" } : Jvm.MethodName)) ∈ lw_all := lw_g (lw_at lw_m6 145 rfl) rfl
theorem q1460 : (Jvm.Cond.instanceMethod ({ cls := "OrdinaryStalk$Same", name := "with", desc := "(II)I" } : Jvm.MethodName)) ∈ lw_all := lw_g (lw_at lw_m6 146 rfl) rfl
theorem q1461 : (Jvm.Cond.code ({ cls := "OrdinaryStalk$Same", name := "with", desc := "(II)I" } : Jvm.MethodName) prog_25_method_2_code (3 : Nat) (Option.some Jvm.ClassFile.FieldType.int)) ∈ lw_all := lw_g (lw_at lw_m6 147 rfl) rfl
theorem q2402 : (Jvm.Cond.castable "OrdinaryStalk$Same" "OrdinaryStalk$Link") ∈ lw_tbl := lw_at lw_m10 128 rfl
theorem q2434 : (Jvm.Cond.castable "OrdinaryStalk$Same" "java/lang/Object") ∈ lw_tbl := lw_at lw_m10 160 rfl
theorem in_X25 : ∀ w ∈ wsX250, w ∈ lw_all := lw_in wsX250 [1170] (by decide +kernel) (by decide +kernel)

/-! OrdinaryStalk$And -/
def RX26 : String := "OrdinaryStalk$And"
def TX26 : u_T := fun k => match k with
  | _ => ("OrdinaryStalk$Link", "e", "LOrdinaryStalk$Expression;", true)
def tyX26 : Nat → FieldType := fun k => match k with
  | _ => .object "OrdinaryStalk$Expression"
abbrev wsX260 : List Cond := u_ws RX26 TX26 1
theorem nmX26 : ∀ a, a < 1 → ∀ b, b < 1 → a ≠ b → (TX26 a).2.1 ≠ (TX26 b).2.1 := by decide +kernel
theorem tyX26_ok : ∀ k, k < 1 → parseFieldDescriptor (TX26 k).2.2.1 = some (tyX26 k) := by decide +kernel
abbrev cX26_init : ByteArray := prog_2_method_1_code
def yX26_init : MethodName := ⟨RX26, "<init>", "(LOrdinaryStalk$Expression;)V"⟩
abbrev cX26_with : ByteArray := prog_2_method_2_code
def yX26_with : MethodName := ⟨RX26, "with", "(II)I"⟩
theorem q160 : (Jvm.Cond.initialized "OrdinaryStalk$And") ∈ lw_all := lw_g (lw_at lw_m1 46 rfl) rfl
theorem q901 : (Jvm.Cond.selects "OrdinaryStalk$And" ({ cls := "java/lang/Object", name := "getClass", desc := "()Ljava/lang/Class;" } : Jvm.MethodName) ({ cls := "java/lang/Object", name := "getClass", desc := "()Ljava/lang/Class;" } : Jvm.MethodName)) ∈ lw_all := lw_g (lw_at lw_m4 67 rfl) rfl
theorem q1173 : (Jvm.Cond.instantiable "OrdinaryStalk$And" (1 : Nat)) ∈ lw_all := lw_g (lw_at lw_m5 99 rfl) rfl
theorem q1175 : (Jvm.Cond.instanceMethod ({ cls := "OrdinaryStalk$And", name := "<init>", desc := "(LOrdinaryStalk$Expression;)V" } : Jvm.MethodName)) ∈ lw_all := lw_g (lw_at lw_m5 101 rfl) rfl
theorem q1176 : (Jvm.Cond.code ({ cls := "OrdinaryStalk$And", name := "<init>", desc := "(LOrdinaryStalk$Expression;)V" } : Jvm.MethodName) prog_2_method_1_code (2 : Nat) (Option.none : Option Jvm.ClassFile.FieldType)) ∈ lw_all := lw_g (lw_at lw_m5 102 rfl) rfl
theorem q1177 : (Jvm.Cond.methodLink "OrdinaryStalk$And" (1 : Nat) ({ cls := "OrdinaryStalk$Link", name := "<init>", desc := "(LOrdinaryStalk$Expression;)V" } : Jvm.MethodName)) ∈ lw_all := lw_g (lw_at lw_m5 103 rfl) rfl
theorem q1178 : (Jvm.Cond.laysFinal "OrdinaryStalk$And" "OrdinaryStalk$Link" "e" "LOrdinaryStalk$Expression;") ∈ lw_all := lw_g (lw_at lw_m5 104 rfl) rfl
theorem q1179 : (Jvm.Cond.superclass "OrdinaryStalk$And" "OrdinaryStalk$Link") ∈ lw_all := lw_g (lw_at lw_m5 105 rfl) rfl
theorem q1432 : (Jvm.Cond.selects "OrdinaryStalk$And" ({ cls := "OrdinaryStalk$Link", name := "on", desc := "(ILOrdinaryStalk$Facts;)I" } : Jvm.MethodName) ({ cls := "OrdinaryStalk$Link", name := "on", desc := "(ILOrdinaryStalk$Facts;)I" } : Jvm.MethodName)) ∈ lw_all := lw_g (lw_at lw_m6 118 rfl) rfl
theorem q1444 : (Jvm.Cond.selects "OrdinaryStalk$And" ({ cls := "OrdinaryStalk$Link", name := "with", desc := "(II)I" } : Jvm.MethodName) ({ cls := "OrdinaryStalk$And", name := "with", desc := "(II)I" } : Jvm.MethodName)) ∈ lw_all := lw_g (lw_at lw_m6 130 rfl) rfl
theorem q1445 : (Jvm.Cond.instanceMethod ({ cls := "OrdinaryStalk$And", name := "with", desc := "(II)I" } : Jvm.MethodName)) ∈ lw_all := lw_g (lw_at lw_m6 131 rfl) rfl
theorem q1446 : (Jvm.Cond.code ({ cls := "OrdinaryStalk$And", name := "with", desc := "(II)I" } : Jvm.MethodName) prog_2_method_2_code (3 : Nat) (Option.some Jvm.ClassFile.FieldType.int)) ∈ lw_all := lw_g (lw_at lw_m6 132 rfl) rfl
theorem q2397 : (Jvm.Cond.castable "OrdinaryStalk$And" "OrdinaryStalk$Link") ∈ lw_tbl := lw_at lw_m10 123 rfl
theorem q2435 : (Jvm.Cond.castable "OrdinaryStalk$And" "java/lang/Object") ∈ lw_tbl := lw_at lw_m10 161 rfl
theorem in_X26 : ∀ w ∈ wsX260, w ∈ lw_all := lw_in wsX260 [1178] (by decide +kernel) (by decide +kernel)

/-! OrdinaryStalk$Or -/
def RX27 : String := "OrdinaryStalk$Or"
def TX27 : u_T := fun k => match k with
  | _ => ("OrdinaryStalk$Link", "e", "LOrdinaryStalk$Expression;", true)
def tyX27 : Nat → FieldType := fun k => match k with
  | _ => .object "OrdinaryStalk$Expression"
abbrev wsX270 : List Cond := u_ws RX27 TX27 1
theorem nmX27 : ∀ a, a < 1 → ∀ b, b < 1 → a ≠ b → (TX27 a).2.1 ≠ (TX27 b).2.1 := by decide +kernel
theorem tyX27_ok : ∀ k, k < 1 → parseFieldDescriptor (TX27 k).2.2.1 = some (tyX27 k) := by decide +kernel
abbrev cX27_init : ByteArray := prog_19_method_1_code
def yX27_init : MethodName := ⟨RX27, "<init>", "(LOrdinaryStalk$Expression;)V"⟩
abbrev cX27_with : ByteArray := prog_19_method_2_code
def yX27_with : MethodName := ⟨RX27, "with", "(II)I"⟩
theorem q161 : (Jvm.Cond.initialized "OrdinaryStalk$Or") ∈ lw_all := lw_g (lw_at lw_m1 47 rfl) rfl
theorem q915 : (Jvm.Cond.selects "OrdinaryStalk$Or" ({ cls := "java/lang/Object", name := "getClass", desc := "()Ljava/lang/Class;" } : Jvm.MethodName) ({ cls := "java/lang/Object", name := "getClass", desc := "()Ljava/lang/Class;" } : Jvm.MethodName)) ∈ lw_all := lw_g (lw_at lw_m4 81 rfl) rfl
theorem q1181 : (Jvm.Cond.instantiable "OrdinaryStalk$Or" (1 : Nat)) ∈ lw_all := lw_g (lw_at lw_m5 107 rfl) rfl
theorem q1183 : (Jvm.Cond.instanceMethod ({ cls := "OrdinaryStalk$Or", name := "<init>", desc := "(LOrdinaryStalk$Expression;)V" } : Jvm.MethodName)) ∈ lw_all := lw_g (lw_at lw_m5 109 rfl) rfl
theorem q1184 : (Jvm.Cond.code ({ cls := "OrdinaryStalk$Or", name := "<init>", desc := "(LOrdinaryStalk$Expression;)V" } : Jvm.MethodName) prog_19_method_1_code (2 : Nat) (Option.none : Option Jvm.ClassFile.FieldType)) ∈ lw_all := lw_g (lw_at lw_m5 110 rfl) rfl
theorem q1185 : (Jvm.Cond.methodLink "OrdinaryStalk$Or" (1 : Nat) ({ cls := "OrdinaryStalk$Link", name := "<init>", desc := "(LOrdinaryStalk$Expression;)V" } : Jvm.MethodName)) ∈ lw_all := lw_g (lw_at lw_m5 111 rfl) rfl
theorem q1186 : (Jvm.Cond.laysFinal "OrdinaryStalk$Or" "OrdinaryStalk$Link" "e" "LOrdinaryStalk$Expression;") ∈ lw_all := lw_g (lw_at lw_m5 112 rfl) rfl
theorem q1187 : (Jvm.Cond.superclass "OrdinaryStalk$Or" "OrdinaryStalk$Link") ∈ lw_all := lw_g (lw_at lw_m5 113 rfl) rfl
theorem q1435 : (Jvm.Cond.selects "OrdinaryStalk$Or" ({ cls := "OrdinaryStalk$Link", name := "on", desc := "(ILOrdinaryStalk$Facts;)I" } : Jvm.MethodName) ({ cls := "OrdinaryStalk$Link", name := "on", desc := "(ILOrdinaryStalk$Facts;)I" } : Jvm.MethodName)) ∈ lw_all := lw_g (lw_at lw_m6 121 rfl) rfl
theorem q1453 : (Jvm.Cond.selects "OrdinaryStalk$Or" ({ cls := "OrdinaryStalk$Link", name := "with", desc := "(II)I" } : Jvm.MethodName) ({ cls := "OrdinaryStalk$Or", name := "with", desc := "(II)I" } : Jvm.MethodName)) ∈ lw_all := lw_g (lw_at lw_m6 139 rfl) rfl
theorem q1454 : (Jvm.Cond.instanceMethod ({ cls := "OrdinaryStalk$Or", name := "with", desc := "(II)I" } : Jvm.MethodName)) ∈ lw_all := lw_g (lw_at lw_m6 140 rfl) rfl
theorem q1455 : (Jvm.Cond.code ({ cls := "OrdinaryStalk$Or", name := "with", desc := "(II)I" } : Jvm.MethodName) prog_19_method_2_code (3 : Nat) (Option.some Jvm.ClassFile.FieldType.int)) ∈ lw_all := lw_g (lw_at lw_m6 141 rfl) rfl
theorem q2400 : (Jvm.Cond.castable "OrdinaryStalk$Or" "OrdinaryStalk$Link") ∈ lw_tbl := lw_at lw_m10 126 rfl
theorem q2436 : (Jvm.Cond.castable "OrdinaryStalk$Or" "java/lang/Object") ∈ lw_tbl := lw_at lw_m10 162 rfl
theorem in_X27 : ∀ w ∈ wsX270, w ∈ lw_all := lw_in wsX270 [1186] (by decide +kernel) (by decide +kernel)

/-! OrdinaryStalk$Line -/
def RX28 : String := "OrdinaryStalk$Line"
abbrev cX28_init : ByteArray := prog_13_method_1_code
def yX28_init : MethodName := ⟨RX28, "<init>", "()V"⟩
theorem q162 : (Jvm.Cond.initialized "OrdinaryStalk$Line") ∈ lw_all := lw_g (lw_at lw_m1 48 rfl) rfl
theorem q1216 : (Jvm.Cond.instanceMethod ({ cls := "OrdinaryStalk$Line", name := "<init>", desc := "()V" } : Jvm.MethodName)) ∈ lw_all := lw_g (lw_at lw_m5 142 rfl) rfl
theorem q1217 : (Jvm.Cond.code ({ cls := "OrdinaryStalk$Line", name := "<init>", desc := "()V" } : Jvm.MethodName) prog_13_method_1_code (1 : Nat) (Option.none : Option Jvm.ClassFile.FieldType)) ∈ lw_all := lw_g (lw_at lw_m5 143 rfl) rfl
theorem q1218 : (Jvm.Cond.methodLink "OrdinaryStalk$Line" (1 : Nat) ({ cls := "java/lang/Object", name := "<init>", desc := "()V" } : Jvm.MethodName)) ∈ lw_all := lw_g (lw_at lw_m5 144 rfl) rfl
theorem q1498 : (Jvm.Cond.declares ({ cls := "OrdinaryStalk$Line", name := "isDone", desc := "(LOrdinaryStalk$Hunt;)Z" } : Jvm.MethodName)) ∈ lw_tbl := lw_at lw_m6 184 rfl
theorem q1499 : (Jvm.Cond.sameMethod "OrdinaryStalk$Line" "OrdinaryStalk$Line" "isDone" "(LOrdinaryStalk$Hunt;)Z") ∈ lw_all := lw_g (lw_at lw_m6 185 rfl) rfl

/-! OrdinaryStalk$Steps -/
def RX29 : String := "OrdinaryStalk$Steps"
abbrev cX29_init : ByteArray := prog_27_method_1_code
def yX29_init : MethodName := ⟨RX29, "<init>", "()V"⟩
abbrev cX29_isDone : ByteArray := prog_27_method_2_code
def yX29_isDone : MethodName := ⟨RX29, "isDone", "(LOrdinaryStalk$Hunt;)Z"⟩
theorem q163 : (Jvm.Cond.initialized "OrdinaryStalk$Steps") ∈ lw_all := lw_g (lw_at lw_m1 49 rfl) rfl
theorem q923 : (Jvm.Cond.selects "OrdinaryStalk$Steps" ({ cls := "java/lang/Object", name := "getClass", desc := "()Ljava/lang/Class;" } : Jvm.MethodName) ({ cls := "java/lang/Object", name := "getClass", desc := "()Ljava/lang/Class;" } : Jvm.MethodName)) ∈ lw_all := lw_g (lw_at lw_m4 89 rfl) rfl
theorem q1211 : (Jvm.Cond.instantiable "OrdinaryStalk$Steps" (0 : Nat)) ∈ lw_all := lw_g (lw_at lw_m5 137 rfl) rfl
theorem q1213 : (Jvm.Cond.instanceMethod ({ cls := "OrdinaryStalk$Steps", name := "<init>", desc := "()V" } : Jvm.MethodName)) ∈ lw_all := lw_g (lw_at lw_m5 139 rfl) rfl
theorem q1214 : (Jvm.Cond.code ({ cls := "OrdinaryStalk$Steps", name := "<init>", desc := "()V" } : Jvm.MethodName) prog_27_method_1_code (1 : Nat) (Option.none : Option Jvm.ClassFile.FieldType)) ∈ lw_all := lw_g (lw_at lw_m5 140 rfl) rfl
theorem q1215 : (Jvm.Cond.methodLinkNest "OrdinaryStalk$Steps" (1 : Nat) ({ cls := "OrdinaryStalk$Line", name := "<init>", desc := "()V" } : Jvm.MethodName) "OrdinaryStalk") ∈ lw_tbl := lw_at lw_m5 141 rfl
theorem q1219 : (Jvm.Cond.superclass "OrdinaryStalk$Steps" "OrdinaryStalk$Line") ∈ lw_all := lw_g (lw_at lw_m5 145 rfl) rfl
theorem q1509 : (Jvm.Cond.selects "OrdinaryStalk$Steps" ({ cls := "OrdinaryStalk$Line", name := "isDone", desc := "(LOrdinaryStalk$Hunt;)Z" } : Jvm.MethodName) ({ cls := "OrdinaryStalk$Steps", name := "isDone", desc := "(LOrdinaryStalk$Hunt;)Z" } : Jvm.MethodName)) ∈ lw_all := lw_g (lw_at lw_m6 195 rfl) rfl
theorem q1510 : (Jvm.Cond.instanceMethod ({ cls := "OrdinaryStalk$Steps", name := "isDone", desc := "(LOrdinaryStalk$Hunt;)Z" } : Jvm.MethodName)) ∈ lw_all := lw_g (lw_at lw_m6 196 rfl) rfl
theorem q1511 : (Jvm.Cond.code ({ cls := "OrdinaryStalk$Steps", name := "isDone", desc := "(LOrdinaryStalk$Hunt;)Z" } : Jvm.MethodName) prog_27_method_2_code (2 : Nat) (Option.some Jvm.ClassFile.FieldType.boolean)) ∈ lw_all := lw_g (lw_at lw_m6 197 rfl) rfl
theorem q1512 : (Jvm.Cond.methodLink "OrdinaryStalk$Steps" (7 : Nat) ({ cls := "OrdinaryStalk$Hunt", name := "passes", desc := "()I" } : Jvm.MethodName)) ∈ lw_all := lw_g (lw_at lw_m6 198 rfl) rfl
theorem q2406 : (Jvm.Cond.castable "OrdinaryStalk$Steps" "OrdinaryStalk$Line") ∈ lw_tbl := lw_at lw_m10 132 rfl
theorem q2437 : (Jvm.Cond.castable "OrdinaryStalk$Steps" "java/lang/Object") ∈ lw_tbl := lw_at lw_m10 163 rfl

/-! OrdinaryStalk$Creeps -/
def RX30 : String := "OrdinaryStalk$Creeps"
def TX30 : u_T := fun k => match k with
  | 0 => ("OrdinaryStalk$Creeps", "scout", "I", true)
  | _ => ("OrdinaryStalk$Creeps", "way", "I", true)
def tyX30 : Nat → FieldType := fun k => match k with
  | 0 => .int
  | _ => .int
abbrev wsX300 : List Cond := u_ws RX30 TX30 2
theorem nmX30 : ∀ a, a < 2 → ∀ b, b < 2 → a ≠ b → (TX30 a).2.1 ≠ (TX30 b).2.1 := by decide +kernel
theorem tyX30_ok : ∀ k, k < 2 → parseFieldDescriptor (TX30 k).2.2.1 = some (tyX30 k) := by decide +kernel
abbrev cX30_init : ByteArray := prog_7_method_1_code
def yX30_init : MethodName := ⟨RX30, "<init>", "(II)V"⟩
abbrev cX30_isDone : ByteArray := prog_7_method_2_code
def yX30_isDone : MethodName := ⟨RX30, "isDone", "(LOrdinaryStalk$Hunt;)Z"⟩
theorem q164 : (Jvm.Cond.initialized "OrdinaryStalk$Creeps") ∈ lw_all := lw_g (lw_at lw_m1 50 rfl) rfl
theorem q906 : (Jvm.Cond.selects "OrdinaryStalk$Creeps" ({ cls := "java/lang/Object", name := "getClass", desc := "()Ljava/lang/Class;" } : Jvm.MethodName) ({ cls := "java/lang/Object", name := "getClass", desc := "()Ljava/lang/Class;" } : Jvm.MethodName)) ∈ lw_all := lw_g (lw_at lw_m4 72 rfl) rfl
theorem q1225 : (Jvm.Cond.instantiable "OrdinaryStalk$Creeps" (2 : Nat)) ∈ lw_all := lw_g (lw_at lw_m5 151 rfl) rfl
theorem q1227 : (Jvm.Cond.instanceMethod ({ cls := "OrdinaryStalk$Creeps", name := "<init>", desc := "(II)V" } : Jvm.MethodName)) ∈ lw_all := lw_g (lw_at lw_m5 153 rfl) rfl
theorem q1228 : (Jvm.Cond.code ({ cls := "OrdinaryStalk$Creeps", name := "<init>", desc := "(II)V" } : Jvm.MethodName) prog_7_method_1_code (3 : Nat) (Option.none : Option Jvm.ClassFile.FieldType)) ∈ lw_all := lw_g (lw_at lw_m5 154 rfl) rfl
theorem q1229 : (Jvm.Cond.methodLinkNest "OrdinaryStalk$Creeps" (1 : Nat) ({ cls := "OrdinaryStalk$Line", name := "<init>", desc := "()V" } : Jvm.MethodName) "OrdinaryStalk") ∈ lw_tbl := lw_at lw_m5 155 rfl
theorem q1230 : (Jvm.Cond.fieldLink "OrdinaryStalk$Creeps" (7 : Nat) "OrdinaryStalk$Creeps" "scout" "I") ∈ lw_all := lw_g (lw_at lw_m5 156 rfl) rfl
theorem q1231 : (Jvm.Cond.fieldLink "OrdinaryStalk$Creeps" (13 : Nat) "OrdinaryStalk$Creeps" "way" "I") ∈ lw_all := lw_g (lw_at lw_m5 157 rfl) rfl
theorem q1232 : (Jvm.Cond.laysFinal "OrdinaryStalk$Creeps" "OrdinaryStalk$Creeps" "scout" "I") ∈ lw_all := lw_g (lw_at lw_m5 158 rfl) rfl
theorem q1233 : (Jvm.Cond.soleField "OrdinaryStalk$Creeps" "scout") ∈ lw_all := lw_g (lw_at lw_m5 159 rfl) rfl
theorem q1234 : (Jvm.Cond.laysFinal "OrdinaryStalk$Creeps" "OrdinaryStalk$Creeps" "way" "I") ∈ lw_all := lw_g (lw_at lw_m5 160 rfl) rfl
theorem q1235 : (Jvm.Cond.soleField "OrdinaryStalk$Creeps" "way") ∈ lw_all := lw_g (lw_at lw_m5 161 rfl) rfl
theorem q1236 : (Jvm.Cond.superclass "OrdinaryStalk$Creeps" "OrdinaryStalk$Line") ∈ lw_all := lw_g (lw_at lw_m5 162 rfl) rfl
theorem q1500 : (Jvm.Cond.selects "OrdinaryStalk$Creeps" ({ cls := "OrdinaryStalk$Line", name := "isDone", desc := "(LOrdinaryStalk$Hunt;)Z" } : Jvm.MethodName) ({ cls := "OrdinaryStalk$Creeps", name := "isDone", desc := "(LOrdinaryStalk$Hunt;)Z" } : Jvm.MethodName)) ∈ lw_all := lw_g (lw_at lw_m6 186 rfl) rfl
theorem q1501 : (Jvm.Cond.instanceMethod ({ cls := "OrdinaryStalk$Creeps", name := "isDone", desc := "(LOrdinaryStalk$Hunt;)Z" } : Jvm.MethodName)) ∈ lw_all := lw_g (lw_at lw_m6 187 rfl) rfl
theorem q1502 : (Jvm.Cond.code ({ cls := "OrdinaryStalk$Creeps", name := "isDone", desc := "(LOrdinaryStalk$Hunt;)Z" } : Jvm.MethodName) prog_7_method_2_code (2 : Nat) (Option.some Jvm.ClassFile.FieldType.boolean)) ∈ lw_all := lw_g (lw_at lw_m6 188 rfl) rfl
theorem q1503 : (Jvm.Cond.methodLink "OrdinaryStalk$Creeps" (16 : Nat) ({ cls := "OrdinaryStalk$Hunt", name := "mayCreep", desc := "(II)Z" } : Jvm.MethodName)) ∈ lw_all := lw_g (lw_at lw_m6 189 rfl) rfl
theorem q1504 : (Jvm.Cond.methodLink "OrdinaryStalk$Creeps" (22 : Nat) ({ cls := "OrdinaryStalk$Hunt", name := "creeps", desc := "(II)V" } : Jvm.MethodName)) ∈ lw_all := lw_g (lw_at lw_m6 190 rfl) rfl
theorem q2404 : (Jvm.Cond.castable "OrdinaryStalk$Creeps" "OrdinaryStalk$Line") ∈ lw_tbl := lw_at lw_m10 130 rfl
theorem q2438 : (Jvm.Cond.castable "OrdinaryStalk$Creeps" "java/lang/Object") ∈ lw_tbl := lw_at lw_m10 164 rfl
theorem in_X30 : ∀ w ∈ wsX300, w ∈ lw_all := lw_in wsX300 [1232, 1234] (by decide +kernel) (by decide +kernel)

/-! OrdinaryStalk$Offs -/
def RX31 : String := "OrdinaryStalk$Offs"
def TX31 : u_T := fun k => match k with
  | _ => ("OrdinaryStalk$Offs", "scout", "I", true)
def tyX31 : Nat → FieldType := fun k => match k with
  | _ => .int
abbrev wsX310 : List Cond := u_ws RX31 TX31 1
theorem nmX31 : ∀ a, a < 1 → ∀ b, b < 1 → a ≠ b → (TX31 a).2.1 ≠ (TX31 b).2.1 := by decide +kernel
theorem tyX31_ok : ∀ k, k < 1 → parseFieldDescriptor (TX31 k).2.2.1 = some (tyX31 k) := by decide +kernel
abbrev cX31_init : ByteArray := prog_18_method_1_code
def yX31_init : MethodName := ⟨RX31, "<init>", "(I)V"⟩
abbrev cX31_isDone : ByteArray := prog_18_method_2_code
def yX31_isDone : MethodName := ⟨RX31, "isDone", "(LOrdinaryStalk$Hunt;)Z"⟩
theorem q165 : (Jvm.Cond.initialized "OrdinaryStalk$Offs") ∈ lw_all := lw_g (lw_at lw_m1 51 rfl) rfl
theorem q273 : (Jvm.Cond.fieldLink "OrdinaryStalk$Offs" (13 : Nat) "OrdinaryStalk$Hunt" "off" "I") ∈ lw_all := lw_g (lw_at lw_m1 159 rfl) rfl
theorem q914 : (Jvm.Cond.selects "OrdinaryStalk$Offs" ({ cls := "java/lang/Object", name := "getClass", desc := "()Ljava/lang/Class;" } : Jvm.MethodName) ({ cls := "java/lang/Object", name := "getClass", desc := "()Ljava/lang/Class;" } : Jvm.MethodName)) ∈ lw_all := lw_g (lw_at lw_m4 80 rfl) rfl
theorem q1238 : (Jvm.Cond.instantiable "OrdinaryStalk$Offs" (1 : Nat)) ∈ lw_all := lw_g (lw_at lw_m5 164 rfl) rfl
theorem q1240 : (Jvm.Cond.instanceMethod ({ cls := "OrdinaryStalk$Offs", name := "<init>", desc := "(I)V" } : Jvm.MethodName)) ∈ lw_all := lw_g (lw_at lw_m5 166 rfl) rfl
theorem q1241 : (Jvm.Cond.code ({ cls := "OrdinaryStalk$Offs", name := "<init>", desc := "(I)V" } : Jvm.MethodName) prog_18_method_1_code (2 : Nat) (Option.none : Option Jvm.ClassFile.FieldType)) ∈ lw_all := lw_g (lw_at lw_m5 167 rfl) rfl
theorem q1242 : (Jvm.Cond.methodLinkNest "OrdinaryStalk$Offs" (1 : Nat) ({ cls := "OrdinaryStalk$Line", name := "<init>", desc := "()V" } : Jvm.MethodName) "OrdinaryStalk") ∈ lw_tbl := lw_at lw_m5 168 rfl
theorem q1243 : (Jvm.Cond.fieldLink "OrdinaryStalk$Offs" (7 : Nat) "OrdinaryStalk$Offs" "scout" "I") ∈ lw_all := lw_g (lw_at lw_m5 169 rfl) rfl
theorem q1244 : (Jvm.Cond.laysFinal "OrdinaryStalk$Offs" "OrdinaryStalk$Offs" "scout" "I") ∈ lw_all := lw_g (lw_at lw_m5 170 rfl) rfl
theorem q1245 : (Jvm.Cond.soleField "OrdinaryStalk$Offs" "scout") ∈ lw_all := lw_g (lw_at lw_m5 171 rfl) rfl
theorem q1246 : (Jvm.Cond.superclass "OrdinaryStalk$Offs" "OrdinaryStalk$Line") ∈ lw_all := lw_g (lw_at lw_m5 172 rfl) rfl
theorem q1505 : (Jvm.Cond.selects "OrdinaryStalk$Offs" ({ cls := "OrdinaryStalk$Line", name := "isDone", desc := "(LOrdinaryStalk$Hunt;)Z" } : Jvm.MethodName) ({ cls := "OrdinaryStalk$Offs", name := "isDone", desc := "(LOrdinaryStalk$Hunt;)Z" } : Jvm.MethodName)) ∈ lw_all := lw_g (lw_at lw_m6 191 rfl) rfl
theorem q1506 : (Jvm.Cond.instanceMethod ({ cls := "OrdinaryStalk$Offs", name := "isDone", desc := "(LOrdinaryStalk$Hunt;)Z" } : Jvm.MethodName)) ∈ lw_all := lw_g (lw_at lw_m6 192 rfl) rfl
theorem q1507 : (Jvm.Cond.code ({ cls := "OrdinaryStalk$Offs", name := "isDone", desc := "(LOrdinaryStalk$Hunt;)Z" } : Jvm.MethodName) prog_18_method_2_code (2 : Nat) (Option.some Jvm.ClassFile.FieldType.boolean)) ∈ lw_all := lw_g (lw_at lw_m6 193 rfl) rfl
theorem q1508 : (Jvm.Cond.methodLinkNest "OrdinaryStalk$Offs" (18 : Nat) ({ cls := "OrdinaryStalk", name := "has", desc := "(II)Z" } : Jvm.MethodName) "OrdinaryStalk") ∈ lw_tbl := lw_at lw_m6 194 rfl
theorem q2405 : (Jvm.Cond.castable "OrdinaryStalk$Offs" "OrdinaryStalk$Line") ∈ lw_tbl := lw_at lw_m10 131 rfl
theorem q2439 : (Jvm.Cond.castable "OrdinaryStalk$Offs" "java/lang/Object") ∈ lw_tbl := lw_at lw_m10 165 rfl
theorem in_X31 : ∀ w ∈ wsX310, w ∈ lw_all := lw_in wsX310 [1244] (by decide +kernel) (by decide +kernel)

/-! java/lang/RuntimeException -/
def RJ17 : String := "java/lang/RuntimeException"
abbrev cJ17_init : ByteArray := prog_47_method_1_code
def yJ17_init : MethodName := ⟨RJ17, "<init>", "()V"⟩
theorem q166 : (Jvm.Cond.initialized "java/lang/RuntimeException") ∈ lw_all := lw_g (lw_at lw_m1 52 rfl) rfl
theorem q1710 : (Jvm.Cond.declares ({ cls := "java/lang/RuntimeException", name := "<init>", desc := "()V" } : Jvm.MethodName)) ∈ lw_tbl := lw_at lw_m7 156 rfl
theorem q1711 : (Jvm.Cond.declares ({ cls := "java/lang/RuntimeException", name := "<init>", desc := "(Ljava/lang/String;)V" } : Jvm.MethodName)) ∈ lw_tbl := lw_at lw_m7 157 rfl
theorem q1722 : (Jvm.Cond.instanceMethod ({ cls := "java/lang/RuntimeException", name := "<init>", desc := "()V" } : Jvm.MethodName)) ∈ lw_all := lw_g (lw_at lw_m7 168 rfl) rfl
theorem q1723 : (Jvm.Cond.code ({ cls := "java/lang/RuntimeException", name := "<init>", desc := "()V" } : Jvm.MethodName) prog_47_method_1_code (1 : Nat) (Option.none : Option Jvm.ClassFile.FieldType)) ∈ lw_all := lw_g (lw_at lw_m7 169 rfl) rfl
theorem q1724 : (Jvm.Cond.methodLink "java/lang/RuntimeException" (1 : Nat) ({ cls := "java/lang/Exception", name := "<init>", desc := "()V" } : Jvm.MethodName)) ∈ lw_all := lw_g (lw_at lw_m7 170 rfl) rfl

/-! java/util/NoSuchElementException -/
def RJ18 : String := "java/util/NoSuchElementException"
def TJ18 : u_T := fun k => match k with
  | 0 => ("java/lang/Throwable", "cause", "Ljava/lang/Throwable;", false)
  | 1 => ("java/lang/Throwable", "stackTrace", "[Ljava/lang/StackTraceElement;", false)
  | 2 => ("java/lang/Throwable", "suppressedExceptions", "Ljava/util/List;", false)
  | 3 => ("java/lang/Throwable", "detailMessage", "Ljava/lang/String;", false)
  | 4 => ("java/lang/Throwable", "backtrace", "Ljava/lang/Object;", false)
  | _ => ("java/lang/Throwable", "depth", "I", false)
def tyJ18 : Nat → FieldType := fun k => match k with
  | 0 => .object "java/lang/Throwable"
  | 1 => .array (.object "java/lang/StackTraceElement")
  | 2 => .object "java/util/List"
  | 3 => .object "java/lang/String"
  | 4 => .object "java/lang/Object"
  | _ => .int
abbrev wsJ180 : List Cond := u_ws RJ18 TJ18 6
theorem nmJ18 : ∀ a, a < 6 → ∀ b, b < 6 → a ≠ b → (TJ18 a).2.1 ≠ (TJ18 b).2.1 := by decide +kernel
theorem tyJ18_ok : ∀ k, k < 6 → parseFieldDescriptor (TJ18 k).2.2.1 = some (tyJ18 k) := by decide +kernel
abbrev cJ18_init : ByteArray := prog_61_method_1_code
def yJ18_init : MethodName := ⟨RJ18, "<init>", "()V"⟩
theorem q167 : (Jvm.Cond.initialized "java/util/NoSuchElementException") ∈ lw_all := lw_g (lw_at lw_m1 53 rfl) rfl
theorem q786 : (Jvm.Cond.selects "java/util/NoSuchElementException" ({ cls := "java/lang/Throwable", name := "fillInStackTrace", desc := "()Ljava/lang/Throwable;" } : Jvm.MethodName) ({ cls := "java/lang/Throwable", name := "fillInStackTrace", desc := "()Ljava/lang/Throwable;" } : Jvm.MethodName)) ∈ lw_all := lw_g (lw_at lw_m3 192 rfl) rfl
theorem q932 : (Jvm.Cond.selects "java/util/NoSuchElementException" ({ cls := "java/lang/Object", name := "getClass", desc := "()Ljava/lang/Class;" } : Jvm.MethodName) ({ cls := "java/lang/Object", name := "getClass", desc := "()Ljava/lang/Class;" } : Jvm.MethodName)) ∈ lw_all := lw_g (lw_at lw_m4 98 rfl) rfl
theorem q1708 : (Jvm.Cond.instantiable "java/util/NoSuchElementException" (6 : Nat)) ∈ lw_all := lw_g (lw_at lw_m7 154 rfl) rfl
theorem q1709 : (Jvm.Cond.castable "java/util/NoSuchElementException" "java/util/NoSuchElementException") ∈ lw_tbl := lw_at lw_m7 155 rfl
theorem q1712 : (Jvm.Cond.selects "java/util/NoSuchElementException" ({ cls := "java/lang/Throwable", name := "fillInStackTrace", desc := "(I)Ljava/lang/Throwable;" } : Jvm.MethodName) ({ cls := "java/lang/Throwable", name := "fillInStackTrace", desc := "(I)Ljava/lang/Throwable;" } : Jvm.MethodName)) ∈ lw_all := lw_g (lw_at lw_m7 158 rfl) rfl
theorem q1713 : (Jvm.Cond.lays "java/util/NoSuchElementException" "java/lang/Throwable" "cause" "Ljava/lang/Throwable;") ∈ lw_all := lw_g (lw_at lw_m7 159 rfl) rfl
theorem q1714 : (Jvm.Cond.lays "java/util/NoSuchElementException" "java/lang/Throwable" "stackTrace" "[Ljava/lang/StackTraceElement;") ∈ lw_all := lw_g (lw_at lw_m7 160 rfl) rfl
theorem q1715 : (Jvm.Cond.lays "java/util/NoSuchElementException" "java/lang/Throwable" "suppressedExceptions" "Ljava/util/List;") ∈ lw_all := lw_g (lw_at lw_m7 161 rfl) rfl
theorem q1716 : (Jvm.Cond.lays "java/util/NoSuchElementException" "java/lang/Throwable" "detailMessage" "Ljava/lang/String;") ∈ lw_all := lw_g (lw_at lw_m7 162 rfl) rfl
theorem q1717 : (Jvm.Cond.lays "java/util/NoSuchElementException" "java/lang/Throwable" "backtrace" "Ljava/lang/Object;") ∈ lw_all := lw_g (lw_at lw_m7 163 rfl) rfl
theorem q1719 : (Jvm.Cond.instanceMethod ({ cls := "java/util/NoSuchElementException", name := "<init>", desc := "()V" } : Jvm.MethodName)) ∈ lw_all := lw_g (lw_at lw_m7 165 rfl) rfl
theorem q1720 : (Jvm.Cond.code ({ cls := "java/util/NoSuchElementException", name := "<init>", desc := "()V" } : Jvm.MethodName) prog_61_method_1_code (1 : Nat) (Option.none : Option Jvm.ClassFile.FieldType)) ∈ lw_all := lw_g (lw_at lw_m7 166 rfl) rfl
theorem q1721 : (Jvm.Cond.methodLink "java/util/NoSuchElementException" (1 : Nat) ({ cls := "java/lang/RuntimeException", name := "<init>", desc := "()V" } : Jvm.MethodName)) ∈ lw_all := lw_g (lw_at lw_m7 167 rfl) rfl
theorem q1725 : (Jvm.Cond.lays "java/util/NoSuchElementException" "java/lang/Throwable" "depth" "I") ∈ lw_all := lw_g (lw_at lw_m7 171 rfl) rfl
theorem q1726 : (Jvm.Cond.superclass "java/util/NoSuchElementException" "java/lang/RuntimeException") ∈ lw_all := lw_g (lw_at lw_m7 172 rfl) rfl
theorem q2440 : (Jvm.Cond.castable "java/util/NoSuchElementException" "java/lang/Object") ∈ lw_tbl := lw_at lw_m10 166 rfl
theorem in_J18 : ∀ w ∈ wsJ180, w ∈ lw_all := lw_in wsJ180 [1713, 1714, 1715, 1716, 1717, 1725] (by decide +kernel) (by decide +kernel)

/-! OrdinaryStalk$Mark -/
def RX32 : String := "OrdinaryStalk$Mark"
def TX32 : u_T := fun k => match k with
  | 0 => ("OrdinaryStalk$Mark", "hunt", "LOrdinaryStalk$Hunt;", true)
  | 1 => ("OrdinaryStalk$Mark", "lines", "Ljava/util/ArrayList;", true)
  | _ => ("OrdinaryStalk$Mark", "said", "Ljava/util/ArrayList;", true)
def tyX32 : Nat → FieldType := fun k => match k with
  | 0 => .object "OrdinaryStalk$Hunt"
  | 1 => .object "java/util/ArrayList"
  | _ => .object "java/util/ArrayList"
abbrev wsX320 : List Cond := u_ws RX32 TX32 3
theorem nmX32 : ∀ a, a < 3 → ∀ b, b < 3 → a ≠ b → (TX32 a).2.1 ≠ (TX32 b).2.1 := by decide +kernel
theorem tyX32_ok : ∀ k, k < 3 → parseFieldDescriptor (TX32 k).2.2.1 = some (tyX32 k) := by decide +kernel
abbrev cX32_init : ByteArray := prog_15_method_1_code
def yX32_init : MethodName := ⟨RX32, "<init>", "(LOrdinaryStalk$Hunt;Ljava/util/ArrayList;Ljava/util/ArrayList;)V"⟩
theorem q168 : (Jvm.Cond.initialized "OrdinaryStalk$Mark") ∈ lw_all := lw_g (lw_at lw_m1 54 rfl) rfl
theorem q911 : (Jvm.Cond.selects "OrdinaryStalk$Mark" ({ cls := "java/lang/Object", name := "getClass", desc := "()Ljava/lang/Class;" } : Jvm.MethodName) ({ cls := "java/lang/Object", name := "getClass", desc := "()Ljava/lang/Class;" } : Jvm.MethodName)) ∈ lw_all := lw_g (lw_at lw_m4 77 rfl) rfl
theorem q1667 : (Jvm.Cond.instantiable "OrdinaryStalk$Mark" (3 : Nat)) ∈ lw_all := lw_g (lw_at lw_m7 113 rfl) rfl
theorem q1672 : (Jvm.Cond.instanceMethod ({ cls := "OrdinaryStalk$Mark", name := "<init>", desc := "(LOrdinaryStalk$Hunt;Ljava/util/ArrayList;Ljava/util/ArrayList;)V" } : Jvm.MethodName)) ∈ lw_all := lw_g (lw_at lw_m7 118 rfl) rfl
theorem q1673 : (Jvm.Cond.code ({ cls := "OrdinaryStalk$Mark", name := "<init>", desc := "(LOrdinaryStalk$Hunt;Ljava/util/ArrayList;Ljava/util/ArrayList;)V" } : Jvm.MethodName) prog_15_method_1_code (4 : Nat) (Option.none : Option Jvm.ClassFile.FieldType)) ∈ lw_all := lw_g (lw_at lw_m7 119 rfl) rfl
theorem q1674 : (Jvm.Cond.methodLink "OrdinaryStalk$Mark" (1 : Nat) ({ cls := "java/lang/Object", name := "<init>", desc := "()V" } : Jvm.MethodName)) ∈ lw_all := lw_g (lw_at lw_m7 120 rfl) rfl
theorem q1675 : (Jvm.Cond.fieldLink "OrdinaryStalk$Mark" (7 : Nat) "OrdinaryStalk$Mark" "hunt" "LOrdinaryStalk$Hunt;") ∈ lw_all := lw_g (lw_at lw_m7 121 rfl) rfl
theorem q1677 : (Jvm.Cond.fieldLink "OrdinaryStalk$Mark" (13 : Nat) "OrdinaryStalk$Mark" "lines" "Ljava/util/ArrayList;") ∈ lw_all := lw_g (lw_at lw_m7 123 rfl) rfl
theorem q1679 : (Jvm.Cond.fieldLink "OrdinaryStalk$Mark" (17 : Nat) "OrdinaryStalk$Mark" "said" "Ljava/util/ArrayList;") ∈ lw_all := lw_g (lw_at lw_m7 125 rfl) rfl
theorem q1681 : (Jvm.Cond.laysFinal "OrdinaryStalk$Mark" "OrdinaryStalk$Mark" "hunt" "LOrdinaryStalk$Hunt;") ∈ lw_all := lw_g (lw_at lw_m7 127 rfl) rfl
theorem q1682 : (Jvm.Cond.soleField "OrdinaryStalk$Mark" "hunt") ∈ lw_all := lw_g (lw_at lw_m7 128 rfl) rfl
theorem q1683 : (Jvm.Cond.laysFinal "OrdinaryStalk$Mark" "OrdinaryStalk$Mark" "lines" "Ljava/util/ArrayList;") ∈ lw_all := lw_g (lw_at lw_m7 129 rfl) rfl
theorem q1684 : (Jvm.Cond.soleField "OrdinaryStalk$Mark" "lines") ∈ lw_all := lw_g (lw_at lw_m7 130 rfl) rfl
theorem q1685 : (Jvm.Cond.laysFinal "OrdinaryStalk$Mark" "OrdinaryStalk$Mark" "said" "Ljava/util/ArrayList;") ∈ lw_all := lw_g (lw_at lw_m7 131 rfl) rfl
theorem q1686 : (Jvm.Cond.soleField "OrdinaryStalk$Mark" "said") ∈ lw_all := lw_g (lw_at lw_m7 132 rfl) rfl
theorem q1687 : (Jvm.Cond.superclass "OrdinaryStalk$Mark" "java/lang/Object") ∈ lw_all := lw_g (lw_at lw_m7 133 rfl) rfl
theorem q2409 : (Jvm.Cond.castable "OrdinaryStalk$Mark" "java/lang/Object") ∈ lw_tbl := lw_at lw_m10 135 rfl
theorem in_X32 : ∀ w ∈ wsX320, w ∈ lw_all := lw_in wsX320 [1681, 1683, 1685] (by decide +kernel) (by decide +kernel)

/-! java/lang/Object -/
def RJ19 : String := "java/lang/Object"
abbrev cJ19_init : ByteArray := object_method_1_code
def yJ19_init : MethodName := ⟨RJ19, "<init>", "()V"⟩
theorem q175 : (Jvm.Cond.instanceMethod ({ cls := "java/lang/Object", name := "<init>", desc := "()V" } : Jvm.MethodName)) ∈ lw_all := lw_g (lw_at lw_m1 61 rfl) rfl
theorem q176 : (Jvm.Cond.code ({ cls := "java/lang/Object", name := "<init>", desc := "()V" } : Jvm.MethodName) object_method_1_code (1 : Nat) (Option.none : Option Jvm.ClassFile.FieldType)) ∈ lw_all := lw_g (lw_at lw_m1 62 rfl) rfl
theorem q898 : (Jvm.Cond.instanceMethod ({ cls := "java/lang/Object", name := "getClass", desc := "()Ljava/lang/Class;" } : Jvm.MethodName)) ∈ lw_all := lw_g (lw_at lw_m4 64 rfl) rfl
theorem q899 : (Jvm.Cond.sameMethod "java/lang/Object" "java/lang/Object" "getClass" "()Ljava/lang/Class;") ∈ lw_all := lw_g (lw_at lw_m4 65 rfl) rfl
theorem q933 : (Jvm.Cond.native ({ cls := "java/lang/Object", name := "getClass", desc := "()Ljava/lang/Class;" } : Jvm.MethodName)) ∈ lw_all := lw_g (lw_at lw_m4 99 rfl) rfl
theorem q2444 : (Jvm.Cond.declares ({ cls := "java/lang/Object", name := "getClass", desc := "()Ljava/lang/Class;" } : Jvm.MethodName)) ∈ lw_tbl := lw_at lw_m10 170 rfl

/-! the law's own entry -/
abbrev cL_law : ByteArray := code

theorem q184 : (Jvm.Cond.arrayOver (Jvm.ClassFile.FieldType.object "java/lang/String")) ∈ lw_tbl := lw_at lw_m1 70 rfl
theorem q255 : (Jvm.Cond.arrayClass Jvm.ClassFile.FieldType.byte) ∈ lw_all := lw_g (lw_at lw_m1 141 rfl) rfl
theorem q256 : (Jvm.Cond.arrayClass Jvm.ClassFile.FieldType.int) ∈ lw_all := lw_g (lw_at lw_m1 142 rfl) rfl
theorem q257 : (Jvm.Cond.arrayClass Jvm.ClassFile.FieldType.long) ∈ lw_all := lw_g (lw_at lw_m1 143 rfl) rfl
theorem q318 : (Jvm.Cond.arrayClass Jvm.ClassFile.FieldType.boolean) ∈ lw_all := lw_g (lw_at lw_m1 204 rfl) rfl
theorem q338 : (Jvm.Cond.arrayOver (Jvm.ClassFile.FieldType.object "java/lang/Object")) ∈ lw_tbl := lw_at lw_m1 224 rfl
theorem q528 : (Jvm.Cond.arrayOver (Jvm.ClassFile.FieldType.object "OrdinaryStalk$Hunt")) ∈ lw_tbl := lw_at lw_m2 174 rfl
theorem q548 : (Jvm.Cond.arrayOver (Jvm.ClassFile.FieldType.object "OrdinaryStalk$Mark")) ∈ lw_tbl := lw_at lw_m2 194 rfl

theorem q139 : (Jvm.Cond.initialized "java/lang/Long$LongCache") ∈ lw_all := lw_g (lw_at lw_m1 25 rfl) rfl
theorem q856 : (Jvm.Cond.laysStatic "java/lang/Long$LongCache" "cache" "[Ljava/lang/Long;") ∈ lw_tbl := lw_at lw_m4 22 rfl

theorem q142 : (Jvm.Cond.initialized "java/lang/System") ∈ lw_all := lw_g (lw_at lw_m1 28 rfl) rfl
theorem q941 : (Jvm.Cond.static ({ cls := "java/lang/System", name := "arraycopy", desc := "(Ljava/lang/Object;ILjava/lang/Object;II)V" } : Jvm.MethodName)) ∈ lw_all := lw_g (lw_at lw_m4 107 rfl) rfl
theorem q942 : (Jvm.Cond.native ({ cls := "java/lang/System", name := "arraycopy", desc := "(Ljava/lang/Object;ILjava/lang/Object;II)V" } : Jvm.MethodName)) ∈ lw_all := lw_g (lw_at lw_m4 108 rfl) rfl

theorem q144 : (Jvm.Cond.initialized "java/lang/Integer$IntegerCache") ∈ lw_all := lw_g (lw_at lw_m1 30 rfl) rfl
theorem q948 : (Jvm.Cond.laysStatic "java/lang/Integer$IntegerCache" "high" "I") ∈ lw_tbl := lw_at lw_m4 114 rfl
theorem q950 : (Jvm.Cond.laysStatic "java/lang/Integer$IntegerCache" "cache" "[Ljava/lang/Integer;") ∈ lw_tbl := lw_at lw_m4 116 rfl

theorem q2442 : (Jvm.Cond.sameMethod "[Ljava/lang/Object;" "java/lang/Object" "getClass" "()Ljava/lang/Class;") ∈ lw_all := lw_g (lw_at lw_m10 168 rfl) rfl
theorem q2443 : (Jvm.Cond.selects "[Ljava/lang/Object;" ({ cls := "java/lang/Object", name := "getClass", desc := "()Ljava/lang/Class;" } : Jvm.MethodName) ({ cls := "java/lang/Object", name := "getClass", desc := "()Ljava/lang/Class;" } : Jvm.MethodName)) ∈ lw_all := lw_g (lw_at lw_m10 169 rfl) rfl
theorem q2450 : (Jvm.Cond.castable "[Ljava/lang/Object;" "java/lang/Object") ∈ lw_tbl := lw_at lw_m10 176 rfl

theorem q2445 : (Jvm.Cond.castable "[Ljava/lang/String;" "java/lang/Object") ∈ lw_tbl := lw_at lw_m10 171 rfl

theorem q2446 : (Jvm.Cond.castable "[B" "java/lang/Object") ∈ lw_tbl := lw_at lw_m10 172 rfl

theorem q2447 : (Jvm.Cond.castable "[I" "java/lang/Object") ∈ lw_tbl := lw_at lw_m10 173 rfl

theorem q2448 : (Jvm.Cond.castable "[J" "java/lang/Object") ∈ lw_tbl := lw_at lw_m10 174 rfl

theorem q2449 : (Jvm.Cond.castable "[Z" "java/lang/Object") ∈ lw_tbl := lw_at lw_m10 175 rfl

theorem q2451 : (Jvm.Cond.castable "[LOrdinaryStalk$Hunt;" "java/lang/Object") ∈ lw_tbl := lw_at lw_m10 177 rfl

theorem q2452 : (Jvm.Cond.castable "[LOrdinaryStalk$Mark;" "java/lang/Object") ∈ lw_tbl := lw_at lw_m10 178 rfl

