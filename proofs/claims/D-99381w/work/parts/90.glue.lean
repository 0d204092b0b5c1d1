set_option maxRecDepth 100000
/-! ===== the law's start: the abstract heap out of the Statement's words ===== -/
def zval : Value → zV
  | .int x => zI x
  | .long x => zJ x
  | .ref a => zR (some a)
  | _ => zR none
def zdesc (G : zG) (t : Nat) (c : Cell) : zOb := (t, (if t < 300 then (if t = 240 then 2 else 1) else c.slots.size), fun k => zval ((c.slots[zSl G (t - 200) k]?).getD .null))
def ztags : List Nat := [240, 230, 231, 300, 303, 304, 308, 309]
noncomputable def zmap0 (G : zG) (a : Nat) : Option zOb := (G.2.1.heap[a]?).bind fun c => (ztags.find? (fun t => @decide (zOld G a (zdesc G t c)) (Classical.propDecidable _))).map fun t => zdesc G t c
theorem zmap0_at {G : zG} {a : Nat} {o : zOb} (h : zmap0 G a = some o) : a < zB G ∧ zOld G a o ∧ 200 ≤ o.1 := by
  unfold zmap0 at h
  cases hc : G.2.1.heap[a]? with
  | none => rw [hc] at h; cases h
  | some c =>
    rw [hc] at h
    obtain ⟨t, ht, rfl⟩ := Option.map_eq_some_iff.mp h
    have h1 := List.find?_some ht
    have h2 := List.mem_of_find?_eq_some ht
    refine ⟨(Array.getElem?_eq_some_iff.mp hc).1, by simpa using h1, ?_⟩
    show 200 ≤ t
    simp [ztags] at h2
    omega
/-- cells of the old heap are of one kind -/
def zEx (G : zG) : Prop := (G.2.2.2.1.1 40 ≠ G.2.2.2.1.1 30 ∧ G.2.2.2.1.1 40 ≠ G.2.2.2.1.1 31 ∧ G.2.2.2.1.1 30 ≠ G.2.2.2.1.1 31) ∧ ∀ t, (t = 40 ∨ t = 30 ∨ t = 31) → ∀ k comp ty, G.2.1.vm.classes[G.2.2.2.1.1 t]? = some k → k.kind ≠ .array comp ty
theorem zOld.cls {G : zG} {a : Nat} {c : Cell} {t : Nat} (hc : G.2.1.heap[a]? = some c) (h : zOld G a (zdesc G t c)) : (t < 300 → t < 300 ∧ c.cls = zCls G (t - 200)) ∧ (300 ≤ t → G.2.1.isArrayOf c (zty (t - 300))) := by
  obtain ⟨cell, h1, h2, h3, h4, -⟩ := h
  cases hc.symm.trans h1
  constructor
  · intro ht
    have h4 : if t < 300 then c.cls = zCls G (t - 200) else _ := h4
    rw [if_pos ht] at h4
    exact ⟨ht, h4⟩
  · intro ht
    have h4 : if t < 300 then c.cls = zCls G (t - 200) else t < 310 ∧ c.slots.size = _ ∧ G.2.1.isArrayOf c (zty (t - 300)) := h4
    rw [if_neg (by omega)] at h4
    exact h4.2.2
theorem zEx.one {G : zG} (hE : zEx G) {a : Nat} {c : Cell} (hc : G.2.1.heap[a]? = some c) {t t' : Nat} (ht : t ∈ ztags) (ht' : t' ∈ ztags) (h : zOld G a (zdesc G t c)) (h' : zOld G a (zdesc G t' c)) : t = t' := by
  obtain ⟨⟨e1, e2, e3⟩, e4⟩ := hE
  have q := h.cls hc
  have q' := h'.cls hc
  have key : ∀ u v, (u = 240 ∨ u = 230 ∨ u = 231) → (300 ≤ v) → (u < 300 → u < 300 ∧ c.cls = zCls G (u - 200)) → (300 ≤ v → G.2.1.isArrayOf c (zty (v - 300))) → False := by
    intro u v hu hv f1 f2
    obtain ⟨-, f1⟩ := f1 (by omega)
    obtain ⟨-, k, f3, comp, f4⟩ := f2 hv
    rw [f1] at f3
    have : zCls G (u - 200) = G.2.2.2.1.1 (u - 200) := by unfold zCls; rw [if_pos (by omega)]
    rw [this] at f3
    exact e4 (u - 200) (by omega) k comp _ f3 f4
  have hA : ∀ v v', 300 ≤ v → 300 ≤ v' → (300 ≤ v → G.2.1.isArrayOf c (zty (v - 300))) → (300 ≤ v' → G.2.1.isArrayOf c (zty (v' - 300))) → zty (v - 300) = zty (v' - 300) := by
    intro v v' hv hv' f1 f2
    obtain ⟨-, k, g1, comp, g2⟩ := f1 hv
    obtain ⟨-, k', g1', comp', g2'⟩ := f2 hv'
    cases g1.symm.trans g1'
    have e := g2.symm.trans g2'
    injection e
  have hC : ∀ u, u < 300 → (u < 300 → u < 300 ∧ c.cls = zCls G (u - 200)) → c.cls = zCls G (u - 200) := fun u hu f => (f hu).2
  have z40 : zCls G 40 = G.2.2.2.1.1 40 := by unfold zCls; rw [if_pos (by omega)]
  have z30 : zCls G 30 = G.2.2.2.1.1 30 := by unfold zCls; rw [if_pos (by omega)]
  have z31 : zCls G 31 = G.2.2.2.1.1 31 := by unfold zCls; rw [if_pos (by omega)]
  simp only [ztags, List.mem_cons, List.not_mem_nil, or_false] at ht ht'
  by_cases hu : t < 300
  · by_cases hv : t' < 300
    · have f1 := hC t hu q.1
      have f2 := hC t' hv q'.1
      rw [f1] at f2
      rcases (show t = 240 ∨ t = 230 ∨ t = 231 by omega) with rfl | rfl | rfl <;> rcases (show t' = 240 ∨ t' = 230 ∨ t' = 231 by omega) with rfl | rfl | rfl <;> first | rfl | (exfalso; simp only [Nat.reduceSub, z40, z30, z31] at f2; first | exact e1 f2 | exact e2 f2 | exact e3 f2 | exact e1 f2.symm | exact e2 f2.symm | exact e3 f2.symm)
    · exact (key t t' (by omega) (by omega) q.1 q'.2).elim
  · by_cases hv : t' < 300
    · exact (key t' t (by omega) (by omega) q'.1 q.2).elim
    · have f := hA t t' (by omega) (by omega) q.2 q'.2
      rcases (show t = 300 ∨ t = 303 ∨ t = 304 ∨ t = 308 ∨ t = 309 by omega) with rfl | rfl | rfl | rfl | rfl <;> rcases (show t' = 300 ∨ t' = 303 ∨ t' = 304 ∨ t' = 308 ∨ t' = 309 by omega) with rfl | rfl | rfl | rfl | rfl <;> first | rfl | (exfalso; revert f; simp [zty])
theorem zmap0_of {G : zG} (hE : zEx G) {a t : Nat} {c : Cell} (hc : G.2.1.heap[a]? = some c) (ht : t ∈ ztags) (ho : zOld G a (zdesc G t c)) : zmap0 G a = some (zdesc G t c) := by
  unfold zmap0
  rw [hc]
  show (ztags.find? _).map _ = _
  cases hf : ztags.find? (fun t => @decide (zOld G a (zdesc G t c)) (Classical.propDecidable _)) with
  | none =>
    have := List.find?_eq_none.mp hf t ht
    simp at this
    exact absurd ho this
  | some u =>
    have h1 := List.find?_some hf
    have h2 := List.mem_of_find?_eq_some hf
    have h1 : zOld G a (zdesc G u c) := by simpa using h1
    rw [hE.one hc h2 ht h1 ho]
    rfl
theorem zv_zval {v : Value} (h : (∃ x, v = .int x) ∨ (∃ x, v = .long x) ∨ v.isRef = true) : zv (zval v) = v := by
  rcases h with ⟨x, rfl⟩ | ⟨x, rfl⟩ | h
  · rfl
  · rfl
  · cases v <;> first | rfl | (simp [Value.isRef] at h)
/-- every slot of a cell holds what its class says: so an object with a number and a reference is no array -/
theorem zfits_kind {s : State} (hf : heapFits s = true) {a : Nat} {c : Cell} (hc : s.heap[a]? = some c) {i : Nat} {v : Value} (hv : c.slots[i]? = some v) : s.fitsSlot c.cls c.vm i v = true := by
  unfold heapFits at hf
  rw [Array.all_eq_true'] at hf
  have h1 := hf c (Array.mem_of_getElem? hc)
  unfold cellFits at h1
  have h2 := (List.all_eq_true.mp h1) i (List.mem_range.mpr (Array.getElem?_eq_some_iff.mp hv).1)
  rw [hv] at h2
  exact h2
theorem zfits_arr {s : State} {c : Cell} {ty : FieldType} (h : s.isArrayOf c ty) {i : Nat} {v : Value} (hv : s.fitsSlot c.cls c.vm i v = true) : fits ty v = true := by
  obtain ⟨h1, k, h2, comp, h3⟩ := h
  unfold State.fitsSlot State.slotType? at hv
  rw [h2] at hv
  cases hd : c.vm with
  | statics q => exact absurd hd (h1 q)
  | _ => simpa [hd, h3] using hv
theorem zrepr {s : State} {c : Cell} {t : Nat} (ht : t ∈ ztags) (ht3 : 300 ≤ t) (h : s.isArrayOf c (zty (t - 300))) {i : Nat} {v : Value} (hv : s.fitsSlot c.cls c.vm i v = true) : (∃ x, v = .int x) ∨ (∃ x, v = .long x) ∨ v.isRef = true := by
  have h1 := zfits_arr h hv
  simp only [ztags, List.mem_cons, List.not_mem_nil, or_false] at ht
  rcases (show t = 300 ∨ t = 303 ∨ t = 304 ∨ t = 308 ∨ t = 309 by omega) with rfl | rfl | rfl | rfl | rfl <;> cases v <;> simp [zty, fits, Value.isRef] at h1 ⊢
/-- an array of the old heap -/
theorem zmap0_arr {G : zG} (hE : zEx G) {a t N : Nat} {f : Nat → Value} (ht : t ∈ ztags) (ht3 : 300 ≤ t) (ht4 : t < 310) (h : va_T (zty (t - 300)) a N f (fun _ => False) G.2.1 G.2.1.heap) (hf : heapFits G.2.1 = true) : ∃ (sz : Nat) (g : Nat → zV), zmap0 G a = some (t, sz, g) ∧ N ≤ sz ∧ Int32.ofNat sz = Int32.ofNat N ∧ (∀ k, k < N → g k = zval (f k)) ∧ a < zB G ∧ ∀ c, G.2.1.heap[a]? = some c → sz = c.slots.size := by
  obtain ⟨c, h1, h2, h3, h4, h5, h6, -⟩ := h
  have hd : zdesc G t c = (t, c.slots.size, fun k => zval ((c.slots[k]?).getD .null)) := by
    have hfun : (fun k => zval ((c.slots[zSl G (t - 200) k]?).getD .null)) = fun k => zval ((c.slots[k]?).getD .null) := by
      funext k
      rw [show zSl G (t - 200) k = k by unfold zSl; rw [if_neg (by omega)]]
    unfold zdesc
    rw [if_neg (by omega), hfun]
  have ho : zOld G a (zdesc G t c) := by
    rw [hd]
    refine ⟨c, h1, h3, h2.1, ?_, fun k hk => ?_⟩
    · show if t < 300 then _ else t < 310 ∧ c.slots.size = c.slots.size ∧ G.2.1.isArrayOf c (zty (t - 300))
      rw [if_neg (by omega)]
      exact ⟨ht4, rfl, h2⟩
    · show c.slots[zSl G (t - 200) k]? = some (zv (zval ((c.slots[k]?).getD .null)))
      have hk : k < c.slots.size := hk
      have e : zSl G (t - 200) k = k := by unfold zSl; rw [if_neg (by omega)]
      rw [e, Array.getElem?_eq_getElem hk, Option.getD_some, zv_zval (zrepr ht ht3 h2 (zfits_kind hf h1 (Array.getElem?_eq_getElem hk)))]
  refine ⟨c.slots.size, _, (zmap0_of hE h1 ht ho).trans (by rw [hd]), h4, h5, fun k hk => ?_, (Array.getElem?_eq_some_iff.mp h1).1, fun c' hc' => by cases h1.symm.trans hc'; rfl⟩
  show zval ((c.slots[k]?).getD .null) = _
  rw [h6 k hk]
  rfl
/-- a box of the old heap -/
theorem zmap0_box {G : zG} (hE : zEx G) {a t : Nat} {v : Value} {c : Cell} {K n d : String} (ht : t = 230 ∨ t = 231) (hc : G.2.1.heap[a]? = some c) (h1 : c.vm ≠ .unknown) (h2 : ∀ k, c.vm ≠ .statics k) (h3 : c.cls = G.2.2.2.1.1 (t - 200)) (h4 : c.slots[G.2.2.2.1.2 (t - 200) 0]? = some v) (hv : (∃ x, v = .int x) ∨ (∃ x, v = .long x) ∨ v.isRef = true) : ∃ g : Nat → zV, zmap0 G a = some (t, 1, g) ∧ g 0 = zval v ∧ a < zB G := by
  have e : ∀ k, zSl G (t - 200) k = G.2.2.2.1.2 (t - 200) k := fun k => by unfold zSl; rw [if_pos (by omega)]
  have hd : (zdesc G t c).2.1 = 1 := by
    unfold zdesc
    show (if t < 300 then (if t = 240 then 2 else 1) else c.slots.size) = 1
    rw [if_pos (by omega), if_neg (by omega)]
  have ho : zOld G a (zdesc G t c) := by
    refine ⟨c, hc, h1, h2, ?_, fun k hk => ?_⟩
    · show if t < 300 then c.cls = zCls G (t - 200) else _
      rw [if_pos (by omega), h3]
      unfold zCls
      rw [if_pos (by omega)]
    · rw [hd] at hk
      have : k = 0 := by omega
      subst this
      show c.slots[zSl G (t - 200) 0]? = some (zv (zval ((c.slots[zSl G (t - 200) 0]?).getD .null)))
      rw [e, h4, Option.getD_some, zv_zval hv]
  refine ⟨fun k => zval ((c.slots[zSl G (t - 200) k]?).getD .null), (zmap0_of hE hc (by rcases ht with rfl | rfl <;> simp [ztags]) ho).trans ?_, ?_, (Array.getElem?_eq_some_iff.mp hc).1⟩
  · rw [← hd]
    rfl
  · show zval ((c.slots[zSl G (t - 200) 0]?).getD .null) = _
    rw [e, h4]
    rfl
/-- a String of the old heap -/
theorem zmap0_str {G : zG} (hE : zEx G) {a v : Nat} {c : Cell} (hc : G.2.1.heap[a]? = some c) (h1 : c.vm ≠ .unknown) (h2 : ∀ k, c.vm ≠ .statics k) (h3 : c.cls = G.2.2.2.1.1 40) (h4 : c.slots[G.2.2.2.1.2 40 0]? = some (.ref v)) (h5 : c.slots[G.2.2.2.1.2 40 1]? = some (.int 0)) : ∃ g : Nat → zV, zmap0 G a = some (240, 2, g) ∧ g 0 = zR (some v) ∧ g 1 = zI 0 ∧ a < zB G := by
  have e : ∀ k, zSl G (240 - 200) k = G.2.2.2.1.2 40 k := fun k => by unfold zSl; rw [if_pos (by omega)]
  have ho : zOld G a (zdesc G 240 c) := by
    refine ⟨c, hc, h1, h2, ?_, fun k hk => ?_⟩
    · rw [if_pos (show (zdesc G 240 c).1 < 300 from (by decide : 240 < 300))]
      have z40 : zCls G 40 = G.2.2.2.1.1 40 := by unfold zCls; rw [if_pos (by omega)]
      show c.cls = zCls G 40
      rw [z40]
      exact h3
    · have hk : k < 2 := hk
      show c.slots[zSl G (240 - 200) k]? = some (zv (zval ((c.slots[zSl G (240 - 200) k]?).getD .null)))
      rw [e]
      rcases (show k = 0 ∨ k = 1 by omega) with rfl | rfl
      · rw [h4]; rfl
      · rw [h5]; rfl
  refine ⟨fun k => zval ((c.slots[zSl G (240 - 200) k]?).getD .null), (zmap0_of hE hc (by simp [ztags]) ho).trans rfl, ?_, ?_, (Array.getElem?_eq_some_iff.mp hc).1⟩
  · show zval ((c.slots[zSl G (240 - 200) 0]?).getD .null) = _
    rw [e, h4]
    rfl
  · show zval ((c.slots[zSl G (240 - 200) 1]?).getD .null) = _
    rw [e, h5]
    rfl
def zsb : List (Nat × List Int32) := [(11, [102, 97, 114]), (13, [104, 105, 100, 100, 101, 110]), (15, [115, 116, 105, 108, 108]), (17, [117, 112, 119, 105, 110, 100]), (19, [101, 97, 114]), (27, [112, 108, 97, 105, 110]), (29, [112, 111, 115, 116, 109, 97, 110]), (31, [115, 116, 97, 103]), (33, [99, 108, 101, 114, 107]), (38, [102, 105, 101, 108, 100]), (40, [98, 121]), (42, [98, 117, 115, 104]), (44, [112, 101, 114, 115, 111, 110]), (46, [97, 116]), (48, [101, 97, 114, 115]), (50, [109, 97, 114, 107, 115]), (52, [119, 97, 108, 107, 115]), (54, [115, 99, 111, 117, 116]), (56, [119, 105, 110, 100]), (58, [104, 101, 97, 114, 115]), (60, [99, 114, 101, 101, 112]), (62, [111, 102, 102]), (64, [115, 116, 101, 112]), (66, [110, 111, 116]), (68, [97, 110, 100]), (70, [111, 114]), (128, [40, 41, 60, 61, 43, 45, 42, 59])]
/-- the abstract heap at the law's start -/
def zIni (b L : Nat) (xs : Nat → Int32) (h : zHp) : Prop :=
  h.2.1 = 860086 ∧ h.2.2.1 = 6515845 ∧ (∀ a, h.1 ≤ a → h.2.2.2.2 a = none) ∧ (∃ f, h.2.2.2.2 b = some (300, L, f) ∧ ∀ k, k < L → f k = zI (xs k)) ∧
  (∃ e sz f, h.2.2.2.1 1 = zR (some e) ∧ h.2.2.2.2 e = some (304, sz, f) ∧ Int32.ofNat sz = 0) ∧ h.2.2.2.1 2 = zI 127 ∧
  (∃ c sz f, ∃ ad : Nat → Nat, h.2.2.2.1 3 = zR (some c) ∧ h.2.2.2.2 c = some (308, sz, f) ∧ 256 ≤ sz ∧ ∀ k, k < 256 → f k = zR (some (ad k)) ∧ ∃ g, h.2.2.2.2 (ad k) = some (231, 1, g) ∧ g 0 = zI (Int32.ofNat k - 128)) ∧
  (∃ c sz f, ∃ ad : Nat → Nat, h.2.2.2.1 4 = zR (some c) ∧ h.2.2.2.2 c = some (309, sz, f) ∧ 256 ≤ sz ∧ ∀ k, k < 256 → f k = zR (some (ad k)) ∧ ∃ g, h.2.2.2.2 (ad k) = some (230, 1, g) ∧ g 0 = zJ (Int32.ofNat k - 128).toInt64) ∧
  h.2.2.2.1 5 = zI 1 ∧ (∃ r, h.2.2.2.1 6 = zR r) ∧ (∃ r, h.2.2.2.1 7 = zR r) ∧ (∃ r, h.2.2.2.1 8 = zR r) ∧ (∃ r, h.2.2.2.1 50 = zR (some r)) ∧
  ∀ (j : Nat) (q : Nat × List Int32), zsb[j]? = some q → ∃ a v f g sz, h.2.2.2.1 (100 + j) = zR (some a) ∧ h.2.2.2.2 a = some (240, 2, f) ∧ f 0 = zR (some v) ∧ f 1 = zI 0 ∧ h.2.2.2.2 v = some (303, sz, g) ∧ q.2.length ≤ sz ∧ Int32.ofNat sz = Int32.ofNat q.2.length ∧ ∀ i, i < q.2.length → g i = zI (q.2.getD i 0)
