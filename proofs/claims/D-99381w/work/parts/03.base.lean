/-! ===== typed values, the abstract heap ===== -/
abbrev zV : Type := Int32 ⊕ Int64 ⊕ Option Nat
abbrev zI (x : Int32) : zV := .inl x
abbrev zJ (x : Int64) : zV := .inr (.inl x)
abbrev zR (r : Option Nat) : zV := .inr (.inr r)
def zv : zV → Value
  | .inl x => .int x
  | .inr (.inl x) => .long x
  | .inr (.inr r) => va_rf r
/-- a cell: its tag, its length, what it holds -/
abbrev zOb : Type := Nat × Nat × (Nat → zV)
/-- a heap: its size, cells left, slots left, statics, the map -/
abbrev zHp : Type := Nat × Nat × Nat × (Nat → zV) × (Nat → Option zOb)
abbrev zRes : Type := (Option zV ⊕ Nat) × zHp
def zOut : Option zV ⊕ Nat → Outcome
  | .inl v => .returned (v.map zv)
  | .inr a => .threw a
def zput (a : Nat) (o : zOb) (h : zHp) : zHp := (h.1, h.2.1, h.2.2.1, h.2.2.2.1, va_up h.2.2.2.2 a (some o))
def zob (r : Option Nat) (h : zHp) : Option zOb := r.bind h.2.2.2.2
def zasI : zV → Option Int32
  | .inl x => some x
  | _ => none
def zasJ : zV → Option Int64
  | .inr (.inl x) => some x
  | _ => none
def zasR : zV → Option (Option Nat)
  | .inr (.inr x) => some x
  | _ => none
def zfld (ts : List Nat) (k : Nat) (r : Option Nat) (h : zHp) : Option zV := (zob r h).bind fun o => if o.1 ∈ ts then some (o.2.2 k) else none
def zfI (ts : List Nat) (k : Nat) (r : Option Nat) (h : zHp) : Option Int32 := (zfld ts k r h).bind zasI
def zfJ (ts : List Nat) (k : Nat) (r : Option Nat) (h : zHp) : Option Int64 := (zfld ts k r h).bind zasJ
def zfR (ts : List Nat) (k : Nat) (r : Option Nat) (h : zHp) : Option (Option Nat) := (zfld ts k r h).bind zasR
def zpf (ts : List Nat) (k : Nat) (r : Option Nat) (v : zV) (h : zHp) : Option zHp := r.bind fun a => (h.2.2.2.2 a).bind fun o => if o.1 ∈ ts then some (zput a (o.1, o.2.1, va_up o.2.2 k v) h) else none
def zal (ts : List Nat) (r : Option Nat) (i : Int32) (h : zHp) : Option zV := (zob r h).bind fun o => if o.1 ∈ ts ∧ ¬ (i < 0 ∨ o.2.1 ≤ i.toNatClampNeg) then some (o.2.2 i.toNatClampNeg) else none
def zaI (ts : List Nat) (r : Option Nat) (i : Int32) (h : zHp) : Option Int32 := (zal ts r i h).bind zasI
def zaJ (ts : List Nat) (r : Option Nat) (i : Int32) (h : zHp) : Option Int64 := (zal ts r i h).bind zasJ
def zaR (ts : List Nat) (r : Option Nat) (i : Int32) (h : zHp) : Option (Option Nat) := (zal ts r i h).bind zasR
def zas (ts : List Nat) (r : Option Nat) (i : Int32) (v : zV) (h : zHp) : Option zHp := r.bind fun a => (h.2.2.2.2 a).bind fun o => if o.1 ∈ ts ∧ ¬ (i < 0 ∨ o.2.1 ≤ i.toNatClampNeg) then some (zput a (o.1, o.2.1, va_up o.2.2 i.toNatClampNeg v) h) else none
def zlen (r : Option Nat) (h : zHp) : Option Int32 := (zob r h).bind fun o => if (100 ≤ o.1 ∧ o.1 < 110) ∨ (300 ≤ o.1 ∧ o.1 < 310) then some (Int32.ofNat o.2.1) else none
/-- a new cell -/
def znew (t n : Nat) (f : Nat → zV) (h : zHp) : Option (Nat × zHp) := if 1 ≤ h.2.1 ∧ n ≤ h.2.2.1 then some (h.1, (h.1 + 1, h.2.1 - 1, h.2.2.1 - n, h.2.2.2.1, va_up h.2.2.2.2 h.1 (some (t, n, f)))) else none
def znewa (t : Nat) (v : zV) (n : Int32) (h : zHp) : Option (Nat × zHp) := if n < 0 ∨ 1000000 < n.toNatClampNeg then none else znew t n.toNatClampNeg (fun _ => v) h
/-- the receiver: no null, of one of these classes -/
def zrc (ts : List Nat) (r : Option Nat) (h : zHp) : Option Nat := r.bind fun a => (h.2.2.2.2 a).bind fun o => if o.1 ∈ ts then some a else none
def ztag (r : Option Nat) (h : zHp) : Option Nat := (zob r h).map (·.1)
def bN {α β : Type} (o : Option (α × zHp)) (F : α → zHp → Option β) : Option β := o.bind fun r => F r.1 r.2
def bT {α β : Type} (o : Option ((α ⊕ Nat) × zHp)) (F : α → zHp → Option ((β ⊕ Nat) × zHp)) : Option ((β ⊕ Nat) × zHp) := o.bind fun r => match r.1 with
  | .inl x => F x r.2
  | .inr a => some (.inr a, r.2)
def lvI (x : Int32) : Option zV := some (zI x)
def lvJ (x : Int64) : Option zV := some (zJ x)
def lvR (x : Option Nat) : Option zV := some (zR x)
def lvA (x : Nat) : Option zV := some (zR (some x))
def lvU (_ : Unit) : Option zV := none
def li {α : Type} (lv : α → Option zV) (r : α × zHp) : zRes := (.inl (lv r.1), r.2)
def lt {α : Type} (lv : α → Option zV) (r : (α ⊕ Nat) × zHp) : zRes := ((match r.1 with
  | .inl x => .inl (lv x)
  | .inr a => .inr a), r.2)
/-! ===== classes and arrays by tags ===== -/
def zcl : List vw_C := [(RX1, TX1, 11), (RX2, TX2, 14), (RX3, TX3, 11), (RX4, TX4, 10), (RX5, TX5, 1), (RX6, TX6, 6), (RX7, TX7, 6), (RX8, TX8, 5), (RX9, TX9, 69), (RX10, TX10, 7), (RX11, TX11, 4), (RX12, TX12, 4), (RX13, TX13, 4), (RX14, TX14, 4), (RX16, TX16, 1), (RX17, TX17, 1), (RX18, TX18, 1), (RX19, TX19, 2), (RX21, TX21, 1), (RX22, TX22, 1), (RX23, TX23, 1), (RX24, TX24, 1), (RX25, TX25, 1), (RX26, TX26, 1), (RX27, TX27, 1), (RX29, TX3, 0), (RX30, TX30, 2), (RX31, TX31, 1), (RX32, TX32, 3), (RJ2, TJ2, 3), (RJ13, TJ13, 1), (RJ16, TJ16, 1), (RJ18, TJ18, 6)]
def zty : Nat → FieldType
  | 0 => .int
  | 1 => .long
  | 2 => .boolean
  | 3 => .byte
  | 4 => .object "java/lang/Object"
  | 5 => .object "java/lang/String"
  | 6 => .object "OrdinaryStalk$Hunt"
  | 7 => .object "OrdinaryStalk$Mark"
  | 8 => .object "java/lang/Integer"
  | _ => .object "java/lang/Long"
/-- static fields that are read, by number -/
def zstat : List (String × String × String) := [("java/util/ArrayList", "EMPTY_ELEMENTDATA", "[Ljava/lang/Object;"), ("java/util/ArrayList", "DEFAULTCAPACITY_EMPTY_ELEMENTDATA", "[Ljava/lang/Object;"), ("java/lang/Integer$IntegerCache", "high", "I"), ("java/lang/Integer$IntegerCache", "cache", "[Ljava/lang/Integer;"), ("java/lang/Long$LongCache", "cache", "[Ljava/lang/Long;"), ("java/lang/String", "COMPACT_STRINGS", "Z"), ("jdk/internal/util/Preconditions", "SIOOBE_FORMATTER", "Ljava/util/function/BiFunction;"), ("java/lang/Throwable", "UNASSIGNED_STACK", "[Ljava/lang/StackTraceElement;"), ("java/lang/Throwable", "SUPPRESSED_SENTINEL", "Ljava/util/List;")]
/-- the class's String constants: the entry, the text -/
def zstr : List (Nat × String) := [(11, "far"), (13, "hidden"), (15, "still"), (17, "upwind"), (19, "ear"), (27, "plain"), (29, "postman"), (31, "stag"), (33, "clerk"), (38, "field"), (40, "by"), (42, "bush"), (44, "person"), (46, "at"), (48, "ears"), (50, "marks"), (52, "walks"), (54, "scout"), (56, "wind"), (58, "hears"), (60, "creep"), (62, "off"), (64, "step"), (66, "not"), (68, "and"), (70, "or"), (128, "()<=+-*;")]
/-- launch, the law's start, the script's cell, class numbers and slots, array classes -/
abbrev zG : Type := Launch × State × Nat × va_G × (Nat → ClassId)
def zB (G : zG) : Nat := G.2.1.heap.size
def zCls (G : zG) (t : Nat) : ClassId := if t < 100 then G.2.2.2.1.1 t else G.2.2.2.2 (t - 100)
def zSl (G : zG) (t k : Nat) : Nat := if t < 100 then G.2.2.2.1.2 t k else k
def zNew (G : zG) (a : Nat) (o : zOb) (H : Heap) : Prop :=
  ∃ sl : Array Value, H[a]? = some { cls := zCls G o.1, slots := sl, vm := .none } ∧ sl.size = o.2.1 ∧ (if o.1 < 100 then ∃ q, zcl[o.1]? = some q ∧ q.2.2 = o.2.1 else o.1 < 108) ∧ ∀ k, k < o.2.1 → sl[zSl G o.1 k]? = some (zv (o.2.2 k))
def zOld (G : zG) (a : Nat) (o : zOb) : Prop :=
  ∃ cell : Cell, G.2.1.heap[a]? = some cell ∧ cell.vm ≠ .unknown ∧ (∀ k, cell.vm ≠ .statics k) ∧ (if o.1 < 300 then cell.cls = zCls G (o.1 - 200) else o.1 < 310 ∧ cell.slots.size = o.2.1 ∧ G.2.1.isArrayOf cell (zty (o.1 - 300))) ∧ ∀ k, k < o.2.1 → cell.slots[zSl G (o.1 - 200) k]? = some (zv (o.2.2 k))
def zAt (G : zG) (H : Heap) (a : Nat) (o : zOb) : Prop := if o.1 < 200 then zB G ≤ a ∧ zNew G a o H else a < zB G ∧ zOld G a o
def zSt (G : zG) (st : Nat → zV) : Prop := (∀ (k : Nat) (q : String × String × String), zstat[k]? = some q → va_Z q.1 q.2.1 q.2.2 (zv (st k)) (fun a => zB G ≤ a) G.2.1 G.2.1.heap) ∧ (∀ (j : Nat) (q : Nat × String), zstr[j]? = some q → ∃ a, st (100 + j) = zR (some a) ∧ vk_R "OrdinaryStalk$Reader" q.1 q.2 a G.2.1) ∧ ∃ mi, st 50 = zR (some mi) ∧ va_Mi "[Ljava/lang/Object;" mi G.2.1
def zsum (b : Nat) (H : Heap) : Nat := ((H.toList.drop b).map (·.slots.size)).sum
/-- the machine's heap is as the abstract one says -/
def zH (G : zG) (h : zHp) (H : Heap) : Prop :=
  H.size = h.1 ∧ zB G ≤ h.1 ∧ (∀ q, q < zB G → H[q]? = G.2.1.heap[q]?) ∧ h.1 + h.2.1 = zB G + 860086 ∧ zsum (zB G) H + h.2.2.1 = 6515845 ∧ zSt G h.2.2.2.1 ∧ ∀ (a : Nat) (o : zOb), h.2.2.2.2 a = some o → zAt G H a o
/-- what is known at the law's start -/
def zFa (G : zG) : Prop :=
  (∀ w ∈ lw_tbl, w.before #[Value.ref G.2.2.1] G.2.1 = true) ∧ (∀ (c : Nat) (q : vw_C), zcl[c]? = some q → u_Kn G.2.1 q.1 q.2.1 q.2.2 (G.2.2.2.1.1 c) (G.2.2.2.1.2 c)) ∧ (∀ k, k < 8 → ArrOfT G.2.1 (G.2.2.2.2 k) (zty k) ∧ va_RA G.2.1 (G.2.2.2.2 k) (zty k)) ∧ G.2.1.vm.findClass "java/lang/String" = some (G.2.2.2.1.1 40) ∧ (∀ k, k < 2 → ∃ cf kf fi fd, G.2.1.fieldFound? "java/lang/String" (if k = 0 then "value" else "coder") (if k = 0 then "[B" else "B") = some (cf, kf, fi, fd) ∧ fd.isStatic = false ∧ fd.slot = G.2.2.2.1.2 40 k) ∧ ∀ e : Env, G.1.admits e → e.platform.stackTraces = false
def zK (G : zG) (s : State) : Prop := zFa G ∧ G.2.1.WarmedH s.vm
/-- the room of a call at depth d, from the heap h on: all that is left -/
def zRm (d : Nat) (h : zHp) : Room := { frames := d, cells := h.2.1, slots := h.2.2.1, locals := 60 * d }
abbrev zX : Type := Program × Env × Room × State × MethodId × Array Value × List Frame × Method × Code
def zEnd (G : zG) (s : State) (res : zRes) (o : Outcome) (t : State) : Prop :=
  o = zOut res.1 ∧ zH G res.2 t.heap ∧ s.WarmedH t.vm ∧ ∃ (L : List Loc) (k n : Nat), (∀ q ∈ L, zB G ≤ q.base) ∧ s.sameButNew ({ t with vm := s.vm } : State) L k n
def zQ (G : zG) (X : zX) (res : zRes) : State → Prop := fun t => ∃ o, t.status = .running ∧ Ended t X.2.2.2.2.2.2.1 o ∧ zEnd G X.2.2.2.1 res o t
/-- method y's contract at one abstract heap -/
def zTr (G : zG) (d : Nat) (y : MethodName) (ws : List Cond) (av : List Value) (h : zHp) (res : zRes) : Prop :=
  MetFree G.1 y (headSpec ws (zRm d h)) (fun args s => args = av.toArray ∧ zK G s ∧ zH G h s.heap) (fun _ _ _ _ _ => True) (fun _ s o t => zEnd G s res o t)
def zT {α : Type} (G : zG) (d : Nat) (y : MethodName) (ws : List Cond) (av : List zV) (h : zHp) (e : Option α) (lf : α → zRes) : Prop := ∀ r, e = some r → zTr G d y ws (av.map zv) h (lf r)
/-- locals by place -/
def zLo (ls : Array Slot) (nL : Nat) (L : List (Option zV)) : Prop := ls.size = nL ∧ lv_wf ls ∧ ∀ (i : Nat) (v : zV), L[i]? = some (some v) → ls[i]? = some (.val (zv v))
def zGo (G : zG) (X : zX) (nL pc : Nat) (L : List (Option zV)) (st : List zV) (h : zHp) (res : zRes) : Prop :=
  ∀ (ls : Array Slot) (H : Heap) (locs : List Loc) (cells slots : Nat), zLo ls nL L → zH G h H → (∀ q ∈ locs, zB G ≤ q.base) →
    W X.1 G.1 X.2.1 X.2.2.1 X.2.2.2.1 X.2.2.2.2.1 X.2.2.2.2.2.1 X.2.2.2.2.2.2.1 X.2.2.2.2.2.2.2.1 X.2.2.2.2.2.2.2.2 H locs cells slots (zQ G X res) (F0 X.2.2.2.2.1 pc ls (st.map zv))
/-- the machine at pc does what the pure expression says -/
def zS {α : Type} (G : zG) (X : zX) (nL pc : Nat) (L : List (Option zV)) (st : List zV) (h : zHp) (e : Option α) (lf : α → zRes) : Prop := ∀ r, e = some r → zGo G X nL pc L st h (lf r)
/-- a method's frame: what holds all through its walk -/
def zC (G : zG) (X : zX) (y : MethodName) (cc : ByteArray) (nL d : Nat) (ret : Option FieldType) (h0 : zHp) : Prop :=
  X.1.tables.exec = Jvm.exec ∧ X.2.2.2.2.2.2.2.2.code = cc ∧ X.2.2.2.2.2.2.2.2.maxLocals = nL ∧ X.2.2.2.1.vm.findClass y.cls = some X.2.2.2.2.1.cls ∧ (∀ w ∈ lw_all, w.before X.2.2.2.2.2.1 X.2.2.2.1 = true) ∧ X.2.2.2.2.2.2.2.1.sig.returnType = ret ∧ X.2.2.2.2.2.2.2.1.locks = false ∧ zK G X.2.2.2.1 ∧ X.2.2.1 = zRm d h0 ∧ zH G h0 X.2.2.2.1.heap ∧ X.2.2.2.2.2.2.2.1.name = y.name
/-! ===== locals ===== -/
def zclr (i : Nat) (L : List (Option zV)) : List (Option zV) := match i with
  | 0 => L
  | j + 1 => match L[j]? with
    | some (some (.inr (.inl _))) => L.set j none
    | _ => L
def zst1 (i : Nat) (v : zV) (L : List (Option zV)) : List (Option zV) := (zclr i L).set i (some v)
def zst2 (i : Nat) (v : zV) (L : List (Option zV)) : List (Option zV) := ((zclr i L).set i (some v)).set (i + 1) none
def zpr (L : List (Option zV)) : List (Nat × Value) := (List.range L.length).filterMap fun i => match L[i]? with
  | some (some v) => some (i, zv v)
  | _ => none
theorem zpr_mem {L : List (Option zV)} {q : Nat × Value} : q ∈ zpr L ↔ ∃ v, L[q.1]? = some (some v) ∧ q.2 = zv v := by
  unfold zpr
  rw [List.mem_filterMap]
  constructor
  · rintro ⟨i, -, h⟩
    split at h
    · rename_i v hv
      cases h
      exact ⟨v, hv, rfl⟩
    · cases h
  · rintro ⟨v, hv, e⟩
    refine ⟨q.1, List.mem_range.mpr (List.getElem?_eq_some_iff.mp hv).1, ?_⟩
    rw [hv]
    simp [← e]
theorem zLo.has {ls : Array Slot} {nL : Nat} {L : List (Option zV)} (h : zLo ls nL L) : lv_has ls nL (zpr L) := by
  refine ⟨h.1, h.2.1, fun q hq => ?_⟩
  obtain ⟨v, hv, e⟩ := zpr_mem.mp hq
  rw [e]
  exact h.2.2 _ _ hv
theorem zclr_get {i j : Nat} {L : List (Option zV)} {w : zV} (h : (zclr i L)[j]? = some (some w)) : L[j]? = some (some w) ∧ ¬ (j + 1 = i ∧ (zv w).category = 2) := by
  unfold zclr at h
  split at h
  · exact ⟨h, fun q => by omega⟩
  · rename_i k
    split at h
    · rename_i x hx
      by_cases hk : k = j
      · subst hk
        rw [List.getElem?_set] at h
        split at h <;> simp_all
      · rw [List.getElem?_set_ne hk] at h
        exact ⟨h, fun q => hk (by omega)⟩
    · rename_i hx
      refine ⟨h, fun q => ?_⟩
      have hk : j = k := by omega
      subst hk
      match w, h, q with
      | .inl x, _, q => simp [zv, Value.category] at q
      | .inr (.inl x), h, _ => exact hx x h
      | .inr (.inr none), _, q => simp [zv, va_rf, Value.category] at q
      | .inr (.inr (some x)), _, q => simp [zv, va_rf, Value.category] at q
theorem zst1_of {ls : Array Slot} {nL i : Nat} {v : zV} {L : List (Option zV)} (h : lv_has ls nL ((i, zv v) :: (zpr L).filter (fun q => !(q.1 == i) && !(q.1 + 1 == i && q.2.category == 2)))) : zLo ls nL (zst1 i v L) := by
  refine ⟨h.1, h.2.1, fun j w hj => ?_⟩
  unfold zst1 at hj
  by_cases hij : i = j
  · subst hij
    rw [List.getElem?_set] at hj
    simp at hj
    obtain ⟨-, rfl⟩ := hj
    exact h.2.2 (i, zv v) List.mem_cons_self
  · rw [List.getElem?_set_ne hij] at hj
    obtain ⟨h1, h2⟩ := zclr_get hj
    refine h.2.2 (j, zv w) (List.mem_cons_of_mem _ (List.mem_filter.mpr ⟨zpr_mem.mpr ⟨w, h1, rfl⟩, ?_⟩))
    have hji : ¬ j = i := fun q => hij q.symm
    by_cases hc : (zv w).category = 2
    · have : ¬ j + 1 = i := fun q => h2 ⟨q, hc⟩
      simp [hji, this]
    · simp [hji, hc]
theorem zst2_of {ls : Array Slot} {nL i : Nat} {v : zV} {L : List (Option zV)} (h : lv_has ls nL ((i, zv v) :: (zpr L).filter (fun q => !(q.1 == i) && (!(q.1 == i + 1) && !(q.1 + 1 == i && q.2.category == 2))))) : zLo ls nL (zst2 i v L) := by
  refine ⟨h.1, h.2.1, fun j w hj => ?_⟩
  unfold zst2 at hj
  by_cases hij2 : i + 1 = j
  · subst hij2
    rw [List.getElem?_set] at hj
    split at hj <;> simp_all
  rw [List.getElem?_set_ne hij2] at hj
  by_cases hij : i = j
  · subst hij
    rw [List.getElem?_set] at hj
    simp at hj
    obtain ⟨-, rfl⟩ := hj
    exact h.2.2 (i, zv v) List.mem_cons_self
  · rw [List.getElem?_set_ne hij] at hj
    obtain ⟨h1, h2⟩ := zclr_get hj
    refine h.2.2 (j, zv w) (List.mem_cons_of_mem _ (List.mem_filter.mpr ⟨zpr_mem.mpr ⟨w, h1, rfl⟩, ?_⟩))
    have hji : ¬ j = i := fun q => hij q.symm
    have hji2 : ¬ j = i + 1 := fun q => hij2 q.symm
    by_cases hc : (zv w).category = 2
    · have : ¬ j + 1 = i := fun q => h2 ⟨q, hc⟩
      simp [hji, hji2, this]
    · simp [hji, hji2, hc]
/-- the locals at a method's start -/
def zent : List zV → List (Option zV)
  | [] => []
  | .inr (.inl x) :: vs => some (.inr (.inl x)) :: none :: zent vs
  | v :: vs => some v :: zent vs
theorem zent_arg : ∀ (vs : List zV) (k i : Nat) (v : zV), (zent vs)[i]? = some (some v) → (k + i, zv v) ∈ lv_args k (vs.map zv)
  | [], k, i, v, h => by simp [zent] at h
  | .inr (.inl x) :: vs, k, 0, v, h => by
    simp [zent] at h
    subst h
    exact List.mem_cons_self
  | .inr (.inl x) :: vs, k, 1, v, h => by simp [zent] at h
  | .inr (.inl x) :: vs, k, i + 2, v, h => by
    have h1 : (zent vs)[i]? = some (some v) := by simpa [zent] using h
    have h2 := zent_arg vs (k + 2) i v h1
    refine List.mem_cons_of_mem _ ?_
    have : k + (i + 2) = k + 2 + i := by omega
    rw [this]
    exact h2
  | .inl x :: vs, k, 0, v, h => by
    simp [zent] at h
    subst h
    exact List.mem_cons_self
  | .inl x :: vs, k, i + 1, v, h => by
    have h1 : (zent vs)[i]? = some (some v) := by simpa [zent] using h
    have h2 := zent_arg vs (k + 1) i v h1
    refine List.mem_cons_of_mem _ ?_
    have : k + (i + 1) = k + 1 + i := by omega
    rw [this]
    exact h2
  | .inr (.inr x) :: vs, k, 0, v, h => by
    simp [zent] at h
    subst h
    exact List.mem_cons_self
  | .inr (.inr x) :: vs, k, i + 1, v, h => by
    have h1 : (zent vs)[i]? = some (some v) := by simpa [zent] using h
    have h2 := zent_arg vs (k + 1) i v h1
    refine List.mem_cons_of_mem _ ?_
    have : k + (i + 1) = k + 1 + i := by omega
    rw [this]
    cases x <;> exact h2
/-- fewer locals: by a mask -/
def zmask : List Bool → List (Option zV) → List (Option zV)
  | b :: bs, v :: vs => (if b then v else none) :: zmask bs vs
  | _, _ => []
theorem zmask_get : ∀ (bs : List Bool) (L : List (Option zV)) (i : Nat) (v : zV), (zmask bs L)[i]? = some (some v) → L[i]? = some (some v)
  | [], L, i, v, h => by simp [zmask] at h
  | _ :: _, [], i, v, h => by simp [zmask] at h
  | b :: bs, w :: L, 0, v, h => by
    cases b <;> simp [zmask] at h
    simp [h]
  | b :: bs, w :: L, i + 1, v, h => by
    have h1 : (zmask bs L)[i]? = some (some v) := by simpa [zmask] using h
    have h2 := zmask_get bs L i v h1
    simpa using h2
section ZS
variable {α : Type} {G : zG} {X : zX} {nL pc : Nat} {L L' : List (Option zV)} {st : List zV} {h : zHp} {e : Option α} {lf : α → zRes}
theorem zS.weak (bs : List Bool) (hb : zmask bs L = L') (k : zS G X nL pc L' st h e lf) : zS G X nL pc L st h e lf := fun r hr ls H locs cells slots hl hH hL =>
  k r hr ls H locs cells slots ⟨hl.1, hl.2.1, fun i v hi => hl.2.2 i v (zmask_get bs L i v (by rw [hb]; exact hi))⟩ hH hL
theorem zS.none_ : zS G X nL pc L st h (none : Option α) lf := fun r hr => by cases hr
end ZS
