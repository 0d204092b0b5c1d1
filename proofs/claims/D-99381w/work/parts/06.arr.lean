/-! ===== arrays, new cells, returns ===== -/
section ZAR
variable {α : Type} {G : zG} {X : zX} {y : MethodName} {cc : ByteArray} {nL pc d : Nat} {ret : Option FieldType} {h0 : zHp} {L L' : List (Option zV)} {st : List zV} {h : zHp} {e eT eF : Option α} {lf : α → zRes}
/-- what lies in an array's cell -/
theorem zarr (C : zC G X y cc nL d ret h0) {H : Heap} {a : Nat} {o : zOb} (hH : zH G h H) (ha : h.2.2.2.2 a = some o) (ht : (100 ≤ o.1 ∧ o.1 < 108) ∨ (300 ≤ o.1 ∧ o.1 < 310)) : ∃ cell : Cell, H[a]? = some cell ∧ cell.vm ≠ .unknown ∧ (∀ q, cell.vm ≠ .statics q) ∧ X.2.2.2.1.isArrayOf cell (zty (o.1 % 100)) ∧ cell.slots.size = o.2.1 ∧ ∀ k, k < o.2.1 → cell.slots[k]? = some (zv (o.2.2 k)) := by
  have hz := hH.2.2.2.2.2.2 a o ha
  unfold zAt at hz
  split at hz
  · rename_i h2
    obtain ⟨-, sl, h3, h4, h5, h6⟩ := hz
    have hr : 100 ≤ o.1 ∧ o.1 < 108 := by omega
    have e1 : o.1 % 100 = o.1 - 100 := by omega
    refine ⟨_, h3, fun q => (by cases q), fun _ q => (by cases q), ?_, h4, fun k hk => ?_⟩
    · obtain ⟨q1, q2⟩ := (C.arr (k := o.1 - 100) (by omega)).1 0 (fun _ => .null)
      rw [e1]
      refine ⟨fun _ q => (by cases q), ?_⟩
      have : zCls G o.1 = G.2.2.2.2 (o.1 - 100) := by unfold zCls; rw [if_neg (by omega)]
      show ∃ k, X.2.2.2.1.vm.classes[zCls G o.1]? = some k ∧ _
      rw [this]
      exact q2
    · have h9 := h6 k hk
      unfold zSl at h9
      rw [if_neg (by omega)] at h9
      exact h9
  · rename_i h2
    obtain ⟨hlt, cell, h3, h4, h5, h6, h7⟩ := hz
    have hr : 300 ≤ o.1 ∧ o.1 < 310 := by omega
    rw [if_neg (by omega)] at h6
    have e1 : o.1 % 100 = o.1 - 300 := by omega
    refine ⟨cell, by rw [hH.2.2.1 a hlt]; exact h3, h4, h5, ?_, h6.2.1, fun k hk => ?_⟩
    · rw [e1]
      exact State.isArrayOf_alike C.2.2.2.2.2.2.2.1.2.alike h6.2.2
    · have h9 := h7 k hk
      unfold zSl at h9
      rw [if_neg (by omega)] at h9
      exact h9
theorem zal_some {ts : List Nat} {r : Option Nat} {i : Int32} {v : zV} (hz : zal ts r i h = some v) : ∃ a o, r = some a ∧ h.2.2.2.2 a = some o ∧ o.1 ∈ ts ∧ ¬ (i < 0 ∨ o.2.1 ≤ i.toNatClampNeg) ∧ v = o.2.2 i.toNatClampNeg := by
  unfold zal at hz
  cases ho : zob r h with
  | none => rw [ho] at hz; cases hz
  | some o =>
    rw [ho] at hz
    obtain ⟨a, rfl, ha⟩ := zob_some ho
    dsimp only [Option.bind] at hz
    split at hz
    · rename_i hc
      cases hz
      exact ⟨a, o, rfl, ha, hc.1, hc.2, rfl⟩
    · cases hz
theorem s_iaload (C : zC G X y cc nL d ret h0) {r : Option Nat} {i : Int32} (hd : decode cc pc = .ok (.iaload, 1)) {F : Int32 → Option α} (kk : ∀ x, zaI [100, 300] r i h = some x → zS G X nL (pc + 1) L (zI x :: st) h (F x) lf) : zS G X nL pc L (zI i :: zR r :: st) h ((zaI [100, 300] r i h).bind F) lf := by
  intro res hr ls H locs cells slots hl hH hL
  cases hz : zaI [100, 300] r i h with
  | none => rw [hz] at hr; cases hr
  | some x =>
    rw [hz] at hr
    have hz0 := hz
    unfold zaI at hz
    cases hv : zal [100, 300] r i h with
    | none => rw [hv] at hz; cases hz
    | some v =>
      rw [hv] at hz
      have hvx := zasI_v (v := v) hz
      obtain ⟨a, o, rfl, ha, hts, hin, e1⟩ := zal_some hv
      simp only [List.mem_cons, List.not_mem_nil, or_false] at hts
      obtain ⟨cell, c1, c2, c3, c4, c5, c6⟩ := zarr C hH ha (by omega)
      have e0 : zty (o.1 % 100) = .int := by rcases hts with q | q <;> rw [q] <;> rfl
      rw [e0] at c4
      have hlt : i.toNatClampNeg < o.2.1 := Nat.not_le.mp fun q => hin (Or.inr q)
      exact W.iald C.1 C.2.1 c1 c4 c2 (by rw [c5]; exact hin) (v := .int x) (by rw [c6 _ hlt, ← e1, hvx]; rfl) rfl rfl hd (kk x hz0 res hr ls H locs cells slots hl hH hL)
theorem s_laload (C : zC G X y cc nL d ret h0) {r : Option Nat} {i : Int32} (hd : decode cc pc = .ok (.laload, 1)) {F : Int64 → Option α} (kk : ∀ x, zaJ [101] r i h = some x → zS G X nL (pc + 1) L (zJ x :: st) h (F x) lf) : zS G X nL pc L (zI i :: zR r :: st) h ((zaJ [101] r i h).bind F) lf := by
  intro res hr ls H locs cells slots hl hH hL
  cases hz : zaJ [101] r i h with
  | none => rw [hz] at hr; cases hr
  | some x =>
    rw [hz] at hr
    have hz0 := hz
    unfold zaJ at hz
    cases hv : zal [101] r i h with
    | none => rw [hv] at hz; cases hz
    | some v =>
      rw [hv] at hz
      have hvx := zasJ_v (v := v) hz
      obtain ⟨a, o, rfl, ha, hts, hin, e1⟩ := zal_some hv
      simp only [List.mem_cons, List.not_mem_nil, or_false] at hts
      obtain ⟨cell, c1, c2, c3, c4, c5, c6⟩ := zarr C hH ha (by omega)
      have e0 : zty (o.1 % 100) = .long := by rw [hts]; rfl
      rw [e0] at c4
      have hlt : i.toNatClampNeg < o.2.1 := Nat.not_le.mp fun q => hin (Or.inr q)
      exact W.lald C.1 C.2.1 c1 c4 c2 (by rw [c5]; exact hin) (v := .long x) (by rw [c6 _ hlt, ← e1, hvx]; rfl) rfl rfl hd (kk x hz0 res hr ls H locs cells slots hl hH hL)
theorem s_zaload (C : zC G X y cc nL d ret h0) {r : Option Nat} {i : Int32} (hd : decode cc pc = .ok (.baload, 1)) {F : Int32 → Option α} (kk : ∀ x, zaI [102] r i h = some x → zS G X nL (pc + 1) L (zI x :: st) h (F x) lf) : zS G X nL pc L (zI i :: zR r :: st) h ((zaI [102] r i h).bind F) lf := by
  intro res hr ls H locs cells slots hl hH hL
  cases hz : zaI [102] r i h with
  | none => rw [hz] at hr; cases hr
  | some x =>
    rw [hz] at hr
    have hz0 := hz
    unfold zaI at hz
    cases hv : zal [102] r i h with
    | none => rw [hv] at hz; cases hz
    | some v =>
      rw [hv] at hz
      have hvx := zasI_v (v := v) hz
      obtain ⟨a, o, rfl, ha, hts, hin, e1⟩ := zal_some hv
      simp only [List.mem_cons, List.not_mem_nil, or_false] at hts
      obtain ⟨cell, c1, c2, c3, c4, c5, c6⟩ := zarr C hH ha (by omega)
      have e0 : zty (o.1 % 100) = .boolean := by rw [hts]; rfl
      rw [e0] at c4
      have hlt : i.toNatClampNeg < o.2.1 := Nat.not_le.mp fun q => hin (Or.inr q)
      exact W.zald C.1 C.2.1 c1 c4 c2 (by rw [c5]; exact hin) (v := .int x) (by rw [c6 _ hlt, ← e1, hvx]; rfl) rfl rfl hd (kk x hz0 res hr ls H locs cells slots hl hH hL)
theorem s_baload (C : zC G X y cc nL d ret h0) {r : Option Nat} {i : Int32} (hd : decode cc pc = .ok (.baload, 1)) {F : Int32 → Option α} (kk : ∀ x, zaI [303] r i h = some x → zS G X nL (pc + 1) L (zI x :: st) h (F x) lf) : zS G X nL pc L (zI i :: zR r :: st) h ((zaI [303] r i h).bind F) lf := by
  intro res hr ls H locs cells slots hl hH hL
  cases hz : zaI [303] r i h with
  | none => rw [hz] at hr; cases hr
  | some x =>
    rw [hz] at hr
    have hz0 := hz
    unfold zaI at hz
    cases hv : zal [303] r i h with
    | none => rw [hv] at hz; cases hz
    | some v =>
      rw [hv] at hz
      have hvx := zasI_v (v := v) hz
      obtain ⟨a, o, rfl, ha, hts, hin, e1⟩ := zal_some hv
      simp only [List.mem_cons, List.not_mem_nil, or_false] at hts
      obtain ⟨cell, c1, c2, c3, c4, c5, c6⟩ := zarr C hH ha (by omega)
      have e0 : zty (o.1 % 100) = .byte := by rw [hts]; rfl
      rw [e0] at c4
      have hlt : i.toNatClampNeg < o.2.1 := Nat.not_le.mp fun q => hin (Or.inr q)
      exact W.bald C.1 C.2.1 c1 c4 c2 (by rw [c5]; exact hin) (v := .int x) (by rw [c6 _ hlt, ← e1, hvx]; rfl) rfl rfl hd (kk x hz0 res hr ls H locs cells slots hl hH hL)
abbrev zra : List Nat := [104, 105, 106, 107, 304, 308, 309]
theorem s_aaload (C : zC G X y cc nL d ret h0) {r : Option Nat} {i : Int32} (hd : decode cc pc = .ok (.aaload, 1)) {F : Option Nat → Option α} (kk : ∀ x, zaR zra r i h = some x → zS G X nL (pc + 1) L (zR x :: st) h (F x) lf) : zS G X nL pc L (zI i :: zR r :: st) h ((zaR zra r i h).bind F) lf := by
  intro res hr ls H locs cells slots hl hH hL
  cases hz : zaR zra r i h with
  | none => rw [hz] at hr; cases hr
  | some x =>
    rw [hz] at hr
    have hz0 := hz
    unfold zaR at hz
    cases hv : zal zra r i h with
    | none => rw [hv] at hz; cases hz
    | some v =>
      rw [hv] at hz
      have hvx := zasR_v (v := v) hz
      obtain ⟨a, o, rfl, ha, hts, hin, e1⟩ := zal_some hv
      simp only [zra, List.mem_cons, List.not_mem_nil, or_false] at hts
      obtain ⟨cell, c1, c2, c3, c4, c5, c6⟩ := zarr C hH ha (by omega)
      have e0 : (zty (o.1 % 100)).isReference = true := by rcases hts with q | q | q | q | q | q | q <;> rw [q] <;> rfl
      have hlt : i.toNatClampNeg < o.2.1 := Nat.not_le.mp fun q => hin (Or.inr q)
      exact W.aald C.1 C.2.1 c1 c4 e0 c2 (by rw [c5]; exact hin) (v := va_rf x) (by rw [c6 _ hlt, ← e1, hvx]; rfl) rfl rfl hd (kk x hz0 res hr ls H locs cells slots hl hH hL)
theorem s_alen (C : zC G X y cc nL d ret h0) {r : Option Nat} (hd : decode cc pc = .ok (.arraylength, 1)) {F : Int32 → Option α} (kk : ∀ x, zlen r h = some x → zS G X nL (pc + 1) L (zI x :: st) h (F x) lf) : zS G X nL pc L (zR r :: st) h ((zlen r h).bind F) lf := by
  intro res hr ls H locs cells slots hl hH hL
  cases hz : zlen r h with
  | none => rw [hz] at hr; cases hr
  | some x =>
    rw [hz] at hr
    have hz0 := hz
    unfold zlen at hz
    cases ho : zob r h with
    | none => rw [ho] at hz; cases hz
    | some o =>
      rw [ho] at hz
      obtain ⟨a, rfl, ha⟩ := zob_some ho
      dsimp only [Option.bind] at hz
      split at hz
      · rename_i hc
        have hx : Int32.ofNat o.2.1 = x := Option.some.inj hz
        have hzA := hH.2.2.2.2.2.2 a o ha
        have ht : (100 ≤ o.1 ∧ o.1 < 108) ∨ (300 ≤ o.1 ∧ o.1 < 310) := by
          rcases hc with hc | hc
          · unfold zAt at hzA
            rw [if_pos (by omega)] at hzA
            obtain ⟨-, sl, -, -, h5, -⟩ := hzA
            rw [if_neg (by omega)] at h5
            exact Or.inl ⟨hc.1, h5⟩
          · exact Or.inr hc
        obtain ⟨cell, c1, c2, c3, c4, c5, c6⟩ := zarr C hH ha ht
        exact W.alen C.1 C.2.1 c1 c4 (n := x) (by rw [c5, ← hx]) rfl rfl hd (kk x hz0 res hr ls H locs cells slots hl hH hL)
      · cases hz
/-- a place of a new array written -/
theorem zast_set {H H' : Heap} {a : Nat} {o : zOb} {i : Nat} {v : zV} {cell : Cell} (hH : zH G h H) (ha : h.2.2.2.2 a = some o) (ht : 100 ≤ o.1 ∧ o.1 < 108) (hi : i < o.2.1) (hc : H[a]? = some cell) (e : H'[a]? = some (cell.setSlot i (zv v))) (z : H'.size = H.size) (oq : ∀ q, q ≠ a → H'[q]? = H[q]?) : zB G ≤ a ∧ zH G (zput a (o.1, o.2.1, va_up o.2.2 i v) h) H' := by
  have hzA := hH.2.2.2.2.2.2 a o ha
  unfold zAt at hzA
  rw [if_pos (by omega)] at hzA
  obtain ⟨hB, hN⟩ := hzA
  obtain ⟨sl, q1, q2, q3, q4⟩ := id hN
  rw [hc] at q1
  cases q1
  have hsl : ∀ j, zSl G o.1 j = j := fun j => by unfold zSl; rw [if_neg (by omega)]
  refine ⟨hB, hH.set ha (by omega) rfl z oq (fun c hc' => ?_) ?_⟩
  · rw [hc] at hc'
    cases hc'
    exact ⟨_, e, by simp [Cell.setSlot]⟩
  · refine zNew.set (sl := sl) hN hc hi (fun x y _ _ hne => by rw [hsl, hsl]; exact hne) ?_
    rw [e, hsl]
    rfl
theorem zas_some {ts : List Nat} {r : Option Nat} {i : Int32} {v : zV} {h1 : zHp} (hz : zas ts r i v h = some h1) : ∃ a o, r = some a ∧ h.2.2.2.2 a = some o ∧ o.1 ∈ ts ∧ ¬ (i < 0 ∨ o.2.1 ≤ i.toNatClampNeg) ∧ h1 = zput a (o.1, o.2.1, va_up o.2.2 i.toNatClampNeg v) h := by
  unfold zas at hz
  cases r with
  | none => cases hz
  | some a =>
    cases ha : h.2.2.2.2 a with
    | none => simp [ha] at hz
    | some o =>
      simp only [Option.bind_some, ha] at hz
      split at hz
      · rename_i hc
        cases hz
        exact ⟨a, o, rfl, ha, hc.1, hc.2, rfl⟩
      · cases hz
theorem zlocs {G : zG} {locs : List Loc} {a i : Nat} (hL : ∀ q ∈ locs, zB G ≤ q.base) (hB : zB G ≤ a) : ∀ q ∈ locs ++ [⟨a, i⟩], zB G ≤ q.base := fun q hq => by
  rcases List.mem_append.mp hq with z | z
  · exact hL q z
  · simp at z; rw [z]; exact hB
theorem s_iastore (C : zC G X y cc nL d ret h0) {r : Option Nat} {i x : Int32} (hd : decode cc pc = .ok (.iastore, 1)) {F : zHp → Option α} (kk : ∀ h1, zas [100] r i (zI x) h = some h1 → zS G X nL (pc + 1) L st h1 (F h1) lf) : zS G X nL pc L (zI x :: zI i :: zR r :: st) h ((zas [100] r i (zI x) h).bind F) lf := by
  intro res hr ls H locs cells slots hl hH hL
  cases hz : zas [100] r i (zI x) h with
  | none => rw [hz] at hr; cases hr
  | some h1 =>
    rw [hz] at hr
    obtain ⟨a, o, rfl, ha, hts, hin, e1⟩ := zas_some hz
    simp only [List.mem_cons, List.not_mem_nil, or_false] at hts
    obtain ⟨cell, c1, c2, c3, c4, c5, c6⟩ := zarr C hH ha (by omega)
    have e0 : zty (o.1 % 100) = .int := by rw [hts]; rfl
    rw [e0] at c4
    have hlt : i.toNatClampNeg < o.2.1 := Nat.not_le.mp fun q => hin (Or.inr q)
    refine W.iast C.1 C.2.1 c1 c4 c2 (by rw [c5]; exact hin) rfl rfl hd fun H1 e z oq => ?_
    obtain ⟨hB, hset⟩ := zast_set (v := zI x) hH ha (by omega) hlt c1 e z oq
    rw [← e1] at hset
    exact kk h1 hz res hr ls H1 _ cells slots hl hset (zlocs hL hB)
theorem s_lastore (C : zC G X y cc nL d ret h0) {r : Option Nat} {i : Int32} {x : Int64} (hd : decode cc pc = .ok (.lastore, 1)) {F : zHp → Option α} (kk : ∀ h1, zas [101] r i (zJ x) h = some h1 → zS G X nL (pc + 1) L st h1 (F h1) lf) : zS G X nL pc L (zJ x :: zI i :: zR r :: st) h ((zas [101] r i (zJ x) h).bind F) lf := by
  intro res hr ls H locs cells slots hl hH hL
  cases hz : zas [101] r i (zJ x) h with
  | none => rw [hz] at hr; cases hr
  | some h1 =>
    rw [hz] at hr
    obtain ⟨a, o, rfl, ha, hts, hin, e1⟩ := zas_some hz
    simp only [List.mem_cons, List.not_mem_nil, or_false] at hts
    obtain ⟨cell, c1, c2, c3, c4, c5, c6⟩ := zarr C hH ha (by omega)
    have e0 : zty (o.1 % 100) = .long := by rw [hts]; rfl
    rw [e0] at c4
    have hlt : i.toNatClampNeg < o.2.1 := Nat.not_le.mp fun q => hin (Or.inr q)
    refine W.last C.1 C.2.1 c1 c4 c2 (by rw [c5]; exact hin) rfl rfl hd fun H1 e z oq => ?_
    obtain ⟨hB, hset⟩ := zast_set (v := zJ x) hH ha (by omega) hlt c1 e z oq
    rw [← e1] at hset
    exact kk h1 hz res hr ls H1 _ cells slots hl hset (zlocs hL hB)
theorem s_zastore (C : zC G X y cc nL d ret h0) {r : Option Nat} {i x : Int32} (hd : decode cc pc = .ok (.bastore, 1)) {F : zHp → Option α} (kk : ∀ h1, zas [102] r i (zI x) h = some h1 → zS G X nL (pc + 1) L st h1 (F h1) lf) : zS G X nL pc L (zI x :: zI i :: zR r :: st) h (if x = 0 ∨ x = 1 then (zas [102] r i (zI x) h).bind F else none) lf := by
  by_cases hx : x = 0 ∨ x = 1
  · rw [if_pos hx]
    intro res hr ls H locs cells slots hl hH hL
    cases hz : zas [102] r i (zI x) h with
    | none => rw [hz] at hr; cases hr
    | some h1 =>
      rw [hz] at hr
      obtain ⟨a, o, rfl, ha, hts, hin, e1⟩ := zas_some hz
      simp only [List.mem_cons, List.not_mem_nil, or_false] at hts
      obtain ⟨cell, c1, c2, c3, c4, c5, c6⟩ := zarr C hH ha (by omega)
      have e0 : zty (o.1 % 100) = .boolean := by rw [hts]; rfl
      rw [e0] at c4
      have hlt : i.toNatClampNeg < o.2.1 := Nat.not_le.mp fun q => hin (Or.inr q)
      refine W.zast C.1 C.2.1 c1 c4 c2 (by rw [c5]; exact hin) rfl rfl hd fun H1 e z oq => ?_
      have hn : narrow .boolean (.int x) = zv (zI x) := (zfitZ hx).1
      rw [hn] at e
      obtain ⟨hB, hset⟩ := zast_set (v := zI x) hH ha (by omega) hlt c1 e z oq
      rw [← e1] at hset
      exact kk h1 hz res hr ls H1 _ cells slots hl hset (zlocs hL hB)
  · rw [if_neg hx]
    exact zS.none_
/-! new cells -/
def zdv : FieldType → zV
  | .long => zJ 0
  | .object _ => zR none
  | .array _ => zR none
  | _ => zI 0
def zNk (own : String) (idx t N : Nat) (ty : Nat → FieldType) : Prop := ∃ (K : String) (T : u_T), zcl[t]? = some (K, T, N) ∧ (∀ w ∈ u_ws K T N, w ∈ lw_all) ∧ (∀ j, j < N → parseFieldDescriptor (T j).2.2.1 = some (ty j) ∧ zv (zdv (ty j)) = defaultValue (ty j)) ∧ Cond.classLink own idx K ∈ lw_all ∧ Cond.instantiable K N ∈ lw_all ∧ Cond.initialized K ∈ lw_all
theorem znew_some {t n : Nat} {f : Nat → zV} {r : Nat × zHp} (hz : znew t n f h = some r) : 1 ≤ h.2.1 ∧ n ≤ h.2.2.1 ∧ r = (h.1, (h.1 + 1, h.2.1 - 1, h.2.2.1 - n, h.2.2.2.1, va_up h.2.2.2.2 h.1 (some (t, n, f)))) := by
  unfold znew at hz
  split at hz
  · rename_i hc
    cases hz
    exact ⟨hc.1, hc.2, rfl⟩
  · cases hz
theorem s_new (C : zC G X y cc nL d ret h0) {idx t N : Nat} {ty : Nat → FieldType} (hN : zNk y.cls idx t N ty) (hd : decode cc pc = .ok (.new idx, 3)) {F : Nat → zHp → Option α} (kk : ∀ a h1, znew t N (fun k => zdv (ty k)) h = some (a, h1) → zS G X nL (pc + 3) L (zR (some a) :: st) h1 (F a h1) lf) : zS G X nL pc L st h (bN (znew t N (fun k => zdv (ty k)) h) F) lf := by
  intro res hr ls H locs cells slots hl hH hL
  cases hz : znew t N (fun k => zdv (ty k)) h with
  | none => rw [hz] at hr; cases hr
  | some r =>
    obtain ⟨a, h1⟩ := r
    rw [hz] at hr
    obtain ⟨n1, n2, e⟩ := znew_some hz
    obtain ⟨K, T, hq, hin, hty, hcl, hins, hini⟩ := hN
    have h33 := zcl_lt hq
    have hkn := C.kn hq
    cases e
    refine zW_tight C hH fun r1 r2 => ?_
    refine W.newc C.1 C.2.1 C.2.2.2.1 (C.2.2.2.2.1 _ hcl) (C.2.2.2.2.1 _ hins) (C.2.2.2.2.1 _ hini) rfl hd (by omega) (by omega) fun cC kC f1 f2 f3 f4 => ?_
    have hcC : cC = G.2.2.2.1.1 t := Option.some.inj (f1.symm.trans hkn.2.1)
    subst hcC
    have hsz : H.size = h.1 := hH.1
    have hcell : (H.push (blank (G.2.2.2.1.1 t) kC))[H.size]? = some (blank (G.2.2.2.1.1 t) kC) := Array.getElem?_push_size
    have hb := u_born (ty := ty) C.2.2.2.2.1 hin hkn f2 hcell (fun k hk => (hty k hk).1)
    obtain ⟨cell, b1, -, -, b4⟩ := hb
    rw [hcell] at b1
    cases b1
    have hslots : (blank (G.2.2.2.1.1 t) kC).slots.size = N := by simp [blank, f4]
    have hpush := hH.push (c := blank (G.2.2.2.1.1 t) kC) (t := t) (n := N) (f := fun k => zdv (ty k)) n1 n2 hslots (by omega) ⟨_, by
        rw [hcell]
        have : zCls G t = G.2.2.2.1.1 t := by unfold zCls; rw [if_pos (by omega)]
        show _ = some ({ cls := zCls G t, slots := _, vm := .none } : Cell)
        rw [this]
        rfl, hslots, by rw [if_pos (show t < 100 by omega)]; exact ⟨_, hq, rfl⟩, fun k hk => by
        have := b4 k hk
        show _ = some (zv (zdv (ty k)))
        rw [(hty k hk).2]
        unfold zSl
        rw [if_pos (show t < 100 by omega)]
        exact this⟩
    have hgo := kk _ _ hz res hr ls _ locs (H.size - X.2.2.2.1.heap.size + 1) (zsum X.2.2.2.1.heap.size H + N) hl hpush hL
    rw [← hsz] at hgo
    exact hgo
theorem zclsA {t : Nat} (ht : 100 ≤ t) : zCls G t = G.2.2.2.2 (t - 100) := by unfold zCls; rw [if_neg (by omega)]
/-- a fresh array pushed -/
theorem zpushA {H : Heap} {t : Nat} {v : zV} {n : Nat} (hH : zH G h H) (ht : 100 ≤ t ∧ t < 108) (n1 : 1 ≤ h.2.1) (n2 : n ≤ h.2.2.1) : zH G (h.1 + 1, h.2.1 - 1, h.2.2.1 - n, h.2.2.2.1, va_up h.2.2.2.2 h.1 (some (t, n, fun _ => v))) (H.push { cls := G.2.2.2.2 (t - 100), slots := Array.replicate n (zv v), vm := .none }) := by
  refine hH.push n1 n2 (by simp) (by omega) ⟨Array.replicate n (zv v), ?_, by simp, by rw [if_neg (show ¬ t < 100 by omega)]; exact ht.2, fun k hk => ?_⟩
  · rw [Array.getElem?_push_size]
    show _ = some ({ cls := zCls G t, slots := _, vm := .none } : Cell)
    rw [zclsA ht.1]
  · unfold zSl
    rw [if_neg (show ¬ t < 100 by omega)]
    have hk : k < n := hk
    simp [hk]
theorem znewa_some {t : Nat} {v : zV} {n : Int32} {r : Nat × zHp} (hz : znewa t v n h = some r) : ¬ n < 0 ∧ n.toNatClampNeg ≤ 1000000 ∧ znew t n.toNatClampNeg (fun _ => v) h = some r := by
  unfold znewa at hz
  split at hz
  · cases hz
  · rename_i hc
    exact ⟨fun q => hc (Or.inl q), by omega, hz⟩
theorem s_newarr (C : zC G X y cc nL d ret h0) {k : Nat} {at_ : ArrayType} {v : zV} {n : Int32} (hk : k < 4) (hty : newarray.typeOf at_ = zty k) (hv : defaultValue (zty k) = zv v) (hb : componentBytes (zty k) ≤ 8) (hw : Cond.arrayClass (newarray.typeOf at_) ∈ lw_all) (hnm : va_RA X.2.2.2.1 (G.2.2.2.2 k) (zty k) → X.2.2.2.1.vm.findClass ("[" ++ (zty k).toString) = some (G.2.2.2.2 k)) (hd : decode cc pc = .ok (.newarray at_, 2)) {F : Nat → zHp → Option α} (kk : ∀ a h1, znewa (100 + k) v n h = some (a, h1) → zS G X nL (pc + 2) L (zR (some a) :: st) h1 (F a h1) lf) : zS G X nL pc L (zI n :: st) h (bN (znewa (100 + k) v n h) F) lf := by
  intro res hr ls H locs cells slots hl hH hL
  cases hz : znewa (100 + k) v n h with
  | none => rw [hz] at hr; cases hr
  | some r =>
    obtain ⟨a, h1⟩ := r
    rw [hz] at hr
    obtain ⟨m1, m2, hz2⟩ := znewa_some hz
    obtain ⟨n1, n2, e⟩ := znew_some hz2
    cases e
    refine zW_tight C hH fun r1 r2 => ?_
    refine W.newa C.1 C.2.1 (C.2.2.2.2.1 _ hw) rfl hd rfl m1 (by rw [hty]; exact Nat.le_trans (Nat.mul_le_mul m2 hb) (by decide)) (by omega) (by omega) fun cA kA comp f1 f2 f3 => ?_
    rw [hty] at f1
    have hcA : cA = G.2.2.2.2 k := Option.some.inj (f1.symm.trans (hnm (C.arr (by omega)).2))
    subst hcA
    have hsz : H.size = h.1 := hH.1
    have hpush := zpushA (t := 100 + k) (v := v) (n := n.toNatClampNeg) hH (by omega) n1 n2
    rw [show 100 + k - 100 = k by omega, ← hv, ← hty] at hpush
    have hgo := kk _ _ hz res hr ls _ locs (H.size - X.2.2.2.1.heap.size + 1) (zsum X.2.2.2.1.heap.size H + n.toNatClampNeg) hl hpush hL
    rw [← hsz] at hgo
    exact hgo
theorem s_newI (C : zC G X y cc nL d ret h0) {n : Int32} (hd : decode cc pc = .ok (.newarray .int, 2)) {F : Nat → zHp → Option α} (kk : ∀ a h1, znewa 100 (zI 0) n h = some (a, h1) → zS G X nL (pc + 2) L (zR (some a) :: st) h1 (F a h1) lf) : zS G X nL pc L (zI n :: st) h (bN (znewa 100 (zI 0) n h) F) lf := s_newarr (k := 0) (at_ := .int) C (by decide) rfl rfl (by decide) q256 (fun h => h) hd kk
theorem s_newJ (C : zC G X y cc nL d ret h0) {n : Int32} (hd : decode cc pc = .ok (.newarray .long, 2)) {F : Nat → zHp → Option α} (kk : ∀ a h1, znewa 101 (zJ 0) n h = some (a, h1) → zS G X nL (pc + 2) L (zR (some a) :: st) h1 (F a h1) lf) : zS G X nL pc L (zI n :: st) h (bN (znewa 101 (zJ 0) n h) F) lf := s_newarr (k := 1) (at_ := .long) C (by decide) rfl rfl (by decide) q257 (fun h => h) hd kk
theorem s_newZ (C : zC G X y cc nL d ret h0) {n : Int32} (hd : decode cc pc = .ok (.newarray .boolean, 2)) {F : Nat → zHp → Option α} (kk : ∀ a h1, znewa 102 (zI 0) n h = some (a, h1) → zS G X nL (pc + 2) L (zR (some a) :: st) h1 (F a h1) lf) : zS G X nL pc L (zI n :: st) h (bN (znewa 102 (zI 0) n h) F) lf := s_newarr (k := 2) (at_ := .boolean) C (by decide) rfl rfl (by decide) q318 (fun h => h) hd kk
theorem s_anewarr (C : zC G X y cc nL d ret h0) {idx k : Nat} {n : Int32} {K : String} (hk : k < 8) (hty : zty k = .object K) (hcl : Cond.classLink y.cls idx K ∈ lw_all) (hov : Cond.arrayOver (.object K) ∈ lw_tbl) (hd : decode cc pc = .ok (.anewarray idx, 3)) {F : Nat → zHp → Option α} (kk : ∀ a h1, znewa (100 + k) (zR none) n h = some (a, h1) → zS G X nL (pc + 3) L (zR (some a) :: st) h1 (F a h1) lf) : zS G X nL pc L (zI n :: st) h (bN (znewa (100 + k) (zR none) n h) F) lf := by
  intro res hr ls H locs cells slots hl hH hL
  cases hz : znewa (100 + k) (zR none) n h with
  | none => rw [hz] at hr; cases hr
  | some r =>
    obtain ⟨a, h1⟩ := r
    rw [hz] at hr
    obtain ⟨m1, m2, hz2⟩ := znewa_some hz
    obtain ⟨n1, n2, e⟩ := znew_some hz2
    cases e
    have hov2 : va_AO K X.2.2.2.1 := va_AO.moved C.2.2.2.2.2.2.2.1.2.alike (va_AO.of (C.2.2.2.2.2.2.2.1.1.1 _ hov))
    refine zW_tight C hH fun r1 r2 => ?_
    refine W.anew C.1 C.2.1 C.2.2.2.1 (C.2.2.2.2.1 _ hcl) (va_AO.use hov2) rfl hd rfl m1 (by omega) (by omega) (by omega) fun cA kA comp f1 f2 f3 f4 => ?_
    have hra := (C.arr hk).2
    rw [hty] at hra
    obtain ⟨kA', comp', g1, g2, g3, g4⟩ := hra
    have hcA : cA = G.2.2.2.2 k := Option.some.inj (f1.symm.trans g4)
    subst hcA
    have hsz : H.size = h.1 := hH.1
    have hpush := zpushA (t := 100 + k) (v := zR none) (n := n.toNatClampNeg) hH (by omega) n1 n2
    rw [show 100 + k - 100 = k by omega] at hpush
    have hgo := kk _ _ hz res hr ls _ locs (H.size - X.2.2.2.1.heap.size + 1) (zsum X.2.2.2.1.heap.size H + n.toNatClampNeg) hl hpush hL
    rw [← hsz] at hgo
    exact hgo
/-! returns -/
theorem zW_mono {p : Program} {l : Launch} {e : Env} {R : Room} {s : State} {m : MethodId} {args : Array Value} {below : List Frame} {meth : Method} {c : Code} {H : Heap} {locs : List Loc} {cells slots : Nat} {Q Q' : State → Prop} {g : JFrame} (k : W p l e R s m args below meth c H locs cells slots Q g) (hq : ∀ t, Q t → Q' t) : W p l e R s m args below meth c H locs cells slots Q' g := by
  intro T hT S
  obtain ⟨t, a, b⟩ := k T hT S
  exact ⟨t, a, hq t b⟩
def zQc (v : Option Value) (H : Heap) : Array Value → State → Outcome → State → Prop := fun _ _ o t => o = .returned v ∧ t.heap = H
theorem zQc_to {H : Heap} {locs : List Loc} {cells slots : Nat} {v : Option zV} (hH : zH G h H) (t : State) (hq : MQ X.2.2.2.2.2.2.1 (zQc (v.map zv) H) X.2.2.2.2.2.1 X.2.2.2.1 cells slots (fun q => zB G ≤ q) t) : zQ G X (.inl v, h) t := by
  obtain ⟨o, h1, h2, ⟨rfl, h3⟩, L, ⟨-, hW, hs⟩, hf⟩ := hq
  exact ⟨_, h1, h2, rfl, by rw [h3]; exact hH, hW, L, cells, slots, hf, hs⟩
theorem s_ireturn (C : zC G X y cc nL d (some .int) h0) {x : Int32} (hd : decode cc pc = .ok (.ireturn, 1)) : zS G X nL pc L [zI x] h (some (x, h)) (li lvI) := by
  intro res hr ls H locs cells slots hl hH hL
  cases hr
  exact zW_mono (W.iret (Qc := zQc (some (.int x)) H) (free := fun q => zB G ≤ q) C.1 C.2.1 C.2.2.2.2.2.1 (fun t ht _ => ⟨rfl, ht⟩) hL hd C.2.2.2.2.2.2.1) (zQc_to (locs := locs) (v := some (zI x)) hH)
theorem s_ireturnT (C : zC G X y cc nL d (some .int) h0) {x : Int32} (hd : decode cc pc = .ok (.ireturn, 1)) : zS G X nL pc L [zI x] h (some (.inl x, h)) (lt lvI) := by
  intro res hr ls H locs cells slots hl hH hL
  cases hr
  exact zW_mono (W.iret (Qc := zQc (some (.int x)) H) (free := fun q => zB G ≤ q) C.1 C.2.1 C.2.2.2.2.2.1 (fun t ht _ => ⟨rfl, ht⟩) hL hd C.2.2.2.2.2.2.1) (zQc_to (locs := locs) (v := some (zI x)) hH)
theorem s_zreturn (C : zC G X y cc nL d (some .boolean) h0) {x : Int32} (hd : decode cc pc = .ok (.ireturn, 1)) : zS G X nL pc L [zI x] h (if x = 0 ∨ x = 1 then some (x, h) else none) (li lvI) := by
  by_cases hx : x = 0 ∨ x = 1
  · rw [if_pos hx]
    intro res hr ls H locs cells slots hl hH hL
    cases hr
    exact zW_mono (W.zret (Qc := zQc (some (.int x)) H) (free := fun q => zB G ≤ q) C.1 C.2.1 C.2.2.2.2.2.1 (zfitZ hx).1 (fun t ht _ => ⟨rfl, ht⟩) hL hd C.2.2.2.2.2.2.1) (zQc_to (locs := locs) (v := some (zI x)) hH)
  · rw [if_neg hx]
    exact zS.none_
theorem s_zreturnT (C : zC G X y cc nL d (some .boolean) h0) {x : Int32} (hd : decode cc pc = .ok (.ireturn, 1)) : zS G X nL pc L [zI x] h (if x = 0 ∨ x = 1 then some (.inl x, h) else none) (lt lvI) := by
  by_cases hx : x = 0 ∨ x = 1
  · rw [if_pos hx]
    intro res hr ls H locs cells slots hl hH hL
    cases hr
    exact zW_mono (W.zret (Qc := zQc (some (.int x)) H) (free := fun q => zB G ≤ q) C.1 C.2.1 C.2.2.2.2.2.1 (zfitZ hx).1 (fun t ht _ => ⟨rfl, ht⟩) hL hd C.2.2.2.2.2.2.1) (zQc_to (locs := locs) (v := some (zI x)) hH)
  · rw [if_neg hx]
    exact zS.none_
theorem zfitC {x : Int32} (hx : ¬ x < 0 ∧ x < 65536) : narrow .char (.int x) = .int x := by
  have h1 : 0 ≤ x.toInt := by have := Int32.not_lt.mp hx.1; simpa [Int32.le_iff_toInt_le] using this
  have h2 : x.toInt < 65536 := by have := hx.2; simpa [Int32.lt_iff_toInt_lt] using this
  show Value.int (x.toUInt32.toUInt16.toUInt32.toInt32) = _
  rw [lg_i2c_small h1 h2]
theorem s_creturn (C : zC G X y cc nL d (some .char) h0) {x : Int32} (hd : decode cc pc = .ok (.ireturn, 1)) : zS G X nL pc L [zI x] h (if ¬ x < 0 ∧ x < 65536 then some (x, h) else none) (li lvI) := by
  by_cases hx : ¬ x < 0 ∧ x < 65536
  · rw [if_pos hx]
    intro res hr ls H locs cells slots hl hH hL
    cases hr
    exact zW_mono (W.zret (Qc := zQc (some (.int x)) H) (free := fun q => zB G ≤ q) C.1 C.2.1 C.2.2.2.2.2.1 (zfitC hx) (fun t ht _ => ⟨rfl, ht⟩) hL hd C.2.2.2.2.2.2.1) (zQc_to (locs := locs) (v := some (zI x)) hH)
  · rw [if_neg hx]
    exact zS.none_
theorem s_lreturn (C : zC G X y cc nL d (some .long) h0) {x : Int64} (hd : decode cc pc = .ok (.lreturn, 1)) : zS G X nL pc L [zJ x] h (some (x, h)) (li lvJ) := by
  intro res hr ls H locs cells slots hl hH hL
  cases hr
  exact zW_mono (W.lret (Qc := zQc (some (.long x)) H) (free := fun q => zB G ≤ q) C.1 C.2.1 C.2.2.2.2.2.1 (fun t ht _ => ⟨rfl, ht⟩) hL hd C.2.2.2.2.2.2.1) (zQc_to (locs := locs) (v := some (zJ x)) hH)
theorem zrf_or (x : Option Nat) : va_rf x = .null ∨ ∃ a, va_rf x = .ref a := by
  cases x with
  | none => exact Or.inl rfl
  | some a => exact Or.inr ⟨a, rfl⟩
theorem s_areturn (C : zC G X y cc nL d ret h0) {rt : FieldType} (hrt : ret = some rt) (hk : (∃ n, rt = .object n) ∨ ∃ t, rt = .array t) {x : Option Nat} (hd : decode cc pc = .ok (.areturn, 1)) : zS G X nL pc L [zR x] h (some (x, h)) (li lvR) := by
  subst hrt
  intro res hr ls H locs cells slots hl hH hL
  cases hr
  exact zW_mono (W.aret (Qc := zQc (some (va_rf x)) H) (free := fun q => zB G ≤ q) C.1 C.2.1 C.2.2.2.2.2.1 hk (zrf_or x) (fun t ht _ => ⟨rfl, ht⟩) hL hd C.2.2.2.2.2.2.1) (zQc_to (locs := locs) (v := some (zR x)) hH)
theorem s_areturnT (C : zC G X y cc nL d ret h0) {rt : FieldType} (hrt : ret = some rt) (hk : (∃ n, rt = .object n) ∨ ∃ t, rt = .array t) {x : Option Nat} (hd : decode cc pc = .ok (.areturn, 1)) : zS G X nL pc L [zR x] h (some (.inl x, h)) (lt lvR) := by
  subst hrt
  intro res hr ls H locs cells slots hl hH hL
  cases hr
  exact zW_mono (W.aret (Qc := zQc (some (va_rf x)) H) (free := fun q => zB G ≤ q) C.1 C.2.1 C.2.2.2.2.2.1 hk (zrf_or x) (fun t ht _ => ⟨rfl, ht⟩) hL hd C.2.2.2.2.2.2.1) (zQc_to (locs := locs) (v := some (zR x)) hH)
theorem s_return (C : zC G X y cc nL d none h0) (hd : decode cc pc = .ok (.return_, 1)) : zS G X nL pc L [] h (some ((), h)) (li lvU) := by
  intro res hr ls H locs cells slots hl hH hL
  cases hr
  exact zW_mono (W.vret (Qc := zQc none H) (free := fun q => zB G ≤ q) C.1 C.2.1 C.2.2.2.2.2.1 (fun t ht _ => ⟨rfl, ht⟩) hL hd C.2.2.2.2.2.2.1) (zQc_to (locs := locs) (v := none) hH)
theorem s_returnT (C : zC G X y cc nL d none h0) (hd : decode cc pc = .ok (.return_, 1)) : zS G X nL pc L [] h (some (.inl (), h)) (lt lvU) := by
  intro res hr ls H locs cells slots hl hH hL
  cases hr
  exact zW_mono (W.vret (Qc := zQc none H) (free := fun q => zB G ≤ q) C.1 C.2.1 C.2.2.2.2.2.1 (fun t ht _ => ⟨rfl, ht⟩) hL hd C.2.2.2.2.2.2.1) (zQc_to (locs := locs) (v := none) hH)
end ZAR
