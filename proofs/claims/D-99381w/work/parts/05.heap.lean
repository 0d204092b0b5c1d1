/-! ===== the heap's laws ===== -/
theorem zsum_map (b : Nat) (H : Heap) : zsum b H = ((H.toList.map (·.slots.size)).drop b).sum := by
  unfold zsum
  rw [List.map_drop]
theorem zsum_congr {b : Nat} {H H' : Heap} (hs : H'.size = H.size) (hq : ∀ (q : Nat) (c : Cell), H[q]? = some c → ∃ c', H'[q]? = some c' ∧ c'.slots.size = c.slots.size) : zsum b H' = zsum b H := by
  rw [zsum_map, zsum_map]
  congr 2
  apply List.ext_getElem?
  intro i
  rw [List.getElem?_map, List.getElem?_map, Array.getElem?_toList, Array.getElem?_toList]
  cases hc : H[i]? with
  | some c =>
    obtain ⟨c', h1, h2⟩ := hq i c hc
    rw [h1]
    simp [h2]
  | none =>
    have : H'[i]? = none := by
      rw [Array.getElem?_eq_none_iff] at hc ⊢
      omega
    rw [this]
theorem zsum_push {b : Nat} {H : Heap} {c : Cell} (hb : b ≤ H.size) : zsum b (H.push c) = zsum b H + c.slots.size := by
  unfold zsum
  rw [Array.toList_push, List.drop_append_of_le_length (by simpa using hb)]
  simp
theorem zsum_split {b : Nat} {H0 H : Heap} (hb : b ≤ H0.size) (hs : H0.size ≤ H.size) (hq : ∀ (q : Nat) (c : Cell), H0[q]? = some c → ∃ c', H[q]? = some c' ∧ c'.slots.size = c.slots.size) : zsum b H = zsum b H0 + zsum H0.size H := by
  rw [zsum_map, zsum_map, zsum_map]
  have hpre : H0.toList.map (·.slots.size) = (H.toList.map (·.slots.size)).take H0.size := by
    apply List.ext_getElem?
    intro i
    rw [List.getElem?_take]
    by_cases hi : i < H0.size
    · rw [if_pos hi, List.getElem?_map, List.getElem?_map, Array.getElem?_toList, Array.getElem?_toList]
      have hc : H0[i]? = some H0[i] := Array.getElem?_eq_getElem hi
      obtain ⟨c', h1, h2⟩ := hq i _ hc
      rw [h1, hc]
      simp [h2]
    · rw [if_neg hi, List.getElem?_map, Array.getElem?_toList, Array.getElem?_eq_none_iff.mpr (by omega)]
      rfl
  rw [hpre]
  have h2 : (H.toList.map (·.slots.size)).drop b = ((H.toList.map (·.slots.size)).take H0.size).drop b ++ (H.toList.map (·.slots.size)).drop H0.size := by
    conv => lhs; rw [← List.take_append_drop H0.size (H.toList.map (·.slots.size))]
    rw [List.drop_append_of_le_length]
    simp
    omega
  rw [h2, List.sum_append]
theorem zAt.kept {G : zG} {H H' : Heap} {a : Nat} {o : zOb} (hz : zAt G H a o) (hq : H'[a]? = H[a]?) : zAt G H' a o := by
  unfold zAt at hz ⊢
  split
  · rename_i h1
    rw [if_pos h1] at hz
    obtain ⟨h2, sl, h3, h4⟩ := hz
    exact ⟨h2, sl, by rw [hq]; exact h3, h4⟩
  · rename_i h1
    rw [if_neg h1] at hz
    exact hz
theorem zH.lt {G : zG} {h : zHp} {H : Heap} {a : Nat} {o : zOb} (hH : zH G h H) (ha : h.2.2.2.2 a = some o) : a < H.size := by
  have hz := hH.2.2.2.2.2.2 a o ha
  unfold zAt at hz
  split at hz
  · obtain ⟨-, sl, h3, -⟩ := hz
    exact (Array.getElem?_eq_some_iff.mp h3).1
  · have := hz.1
    have := hH.2.1
    have := hH.1
    omega
theorem zH.set {G : zG} {h : zHp} {H H' : Heap} {a : Nat} {o o' : zOb} (hH : zH G h H) (ha : h.2.2.2.2 a = some o) (ho : o.1 < 200) (ho' : o'.1 = o.1) (e1 : H'.size = H.size) (e2 : ∀ q, q ≠ a → H'[q]? = H[q]?) (e3 : ∀ c, H[a]? = some c → ∃ c', H'[a]? = some c' ∧ c'.slots.size = c.slots.size) (hn : zNew G a o' H') : zH G (zput a o' h) H' := by
  have hz := hH.2.2.2.2.2.2 a o ha
  unfold zAt at hz
  rw [if_pos ho] at hz
  obtain ⟨h1, h2, h3, h4, h5, h6, h7⟩ := hH
  refine ⟨e1.trans h1, h2, fun q hq => (e2 q (by omega)).trans (h3 q hq), h4, ?_, h6, fun b ob hb => ?_⟩
  · have : zsum (zB G) H' = zsum (zB G) H := zsum_congr e1 (fun q c hc => by
      by_cases hqa : q = a
      · subst hqa; exact e3 c hc
      · exact ⟨c, by rw [e2 q hqa]; exact hc, rfl⟩)
    show zsum (zB G) H' + h.2.2.1 = _
    rw [this]
    exact h5
  · by_cases hba : b = a
    · subst hba
      have : ob = o' := by
        have hb' : va_up h.2.2.2.2 b (some o') b = some ob := hb
        rw [va_up_self] at hb'
        exact (Option.some.inj hb').symm
      subst this
      unfold zAt
      rw [if_pos (by omega)]
      exact ⟨hz.1, hn⟩
    · have hb' : va_up h.2.2.2.2 a (some o') b = some ob := hb
      rw [va_up_ne _ _ hba] at hb'
      exact (h7 b ob hb').kept (e2 b hba)
theorem zH.push {G : zG} {h : zHp} {H : Heap} {c : Cell} {t n : Nat} {f : Nat → zV} (hH : zH G h H) (h1 : 1 ≤ h.2.1) (h2 : n ≤ h.2.2.1) (hc : c.slots.size = n) (ht : t < 200) (hn : zNew G H.size (t, n, f) (H.push c)) : zH G (h.1 + 1, h.2.1 - 1, h.2.2.1 - n, h.2.2.2.1, va_up h.2.2.2.2 h.1 (some (t, n, f))) (H.push c) := by
  have hlt := @zH.lt G h H
  obtain ⟨g1, g2, g3, g4, g5, g6, g7⟩ := id hH
  refine ⟨by simp [g1], by show zB G ≤ h.1 + 1; omega, fun q hq => ?_, by show h.1 + 1 + (h.2.1 - 1) = _; omega, ?_, g6, fun b ob hb => ?_⟩
  · rw [Array.getElem?_push, if_neg (by omega)]
    exact g3 q hq
  · show zsum (zB G) (H.push c) + (h.2.2.1 - n) = _
    rw [zsum_push (by omega), hc]
    omega
  · by_cases hba : b = h.1
    · subst hba
      have hb' : va_up h.2.2.2.2 h.1 (some (t, n, f)) h.1 = some ob := hb
      rw [va_up_self] at hb'
      have := Option.some.inj hb'
      subst this
      unfold zAt
      rw [if_pos ht]
      rw [g1] at hn
      exact ⟨g2, hn⟩
    · have hb' : va_up h.2.2.2.2 h.1 (some (t, n, f)) b = some ob := hb
      rw [va_up_ne _ _ hba] at hb'
      have := hlt hH hb'
      exact (g7 b ob hb').kept (by rw [Array.getElem?_push, if_neg (by omega)])
section ZHR
variable {α : Type} {G : zG} {X : zX} {y : MethodName} {cc : ByteArray} {nL pc d : Nat} {ret : Option FieldType} {h0 : zHp} {L L' : List (Option zV)} {st : List zV} {h : zHp} {e eT eF : Option α} {lf : α → zRes}
theorem zC.kn (C : zC G X y cc nL d ret h0) {c : Nat} {q : vw_C} (hq : zcl[c]? = some q) : u_Kn X.2.2.2.1 q.1 q.2.1 q.2.2 (G.2.2.2.1.1 c) (G.2.2.2.1.2 c) := by
  obtain ⟨-, -, -, -, -, -, -, hK, -⟩ := C
  exact u_Kn_moved hK.2.alike (hK.1.2.1 c q hq)
theorem zC.vaK (C : zC G X y cc nL d ret h0) : va_K G.2.2.2.1 zcl [] X.2.2.2.1 := ⟨fun _ _ hq => C.kn hq, fun k q hk => by simp at hk⟩
theorem zC.arr (C : zC G X y cc nL d ret h0) {k : Nat} (hk : k < 8) : ArrOfT X.2.2.2.1 (G.2.2.2.2 k) (zty k) ∧ va_RA X.2.2.2.1 (G.2.2.2.2 k) (zty k) := by
  obtain ⟨-, -, -, -, -, -, -, hK, -⟩ := C
  exact ⟨arrOfT_moved hK.2.alike (hK.1.2.2.1 k hk).1, (hK.1.2.2.1 k hk).2.moved hK.2.alike⟩
/-- the room, as the abstract heap has it -/
theorem zW_tight (C : zC G X y cc nL d ret h0) {H : Heap} {locs : List Loc} {cells slots : Nat} {Q : State → Prop} {g : JFrame} (hH : zH G h H)
    (k : (H.size - X.2.2.2.1.heap.size) + h.2.1 ≤ X.2.2.1.cells → zsum X.2.2.2.1.heap.size H + h.2.2.1 ≤ X.2.2.1.slots → W X.1 G.1 X.2.1 X.2.2.1 X.2.2.2.1 X.2.2.2.2.1 X.2.2.2.2.2.1 X.2.2.2.2.2.2.1 X.2.2.2.2.2.2.2.1 X.2.2.2.2.2.2.2.2 H locs (H.size - X.2.2.2.1.heap.size) (zsum X.2.2.2.1.heap.size H) Q g) :
    W X.1 G.1 X.2.1 X.2.2.1 X.2.2.2.1 X.2.2.2.2.1 X.2.2.2.2.2.1 X.2.2.2.2.2.2.1 X.2.2.2.2.2.2.2.1 X.2.2.2.2.2.2.2.2 H locs cells slots Q g := by
  intro T hT S
  obtain ⟨-, -, -, -, -, -, -, hK, hR, hH0, -⟩ := C
  obtain ⟨s1, s2, s3, s4, s5, s6⟩ := id S.same
  have hTh : (T.setVm X.2.2.2.1.vm).heap = H := hT
  rw [hTh] at s2 s3 s4 s5 s6
  have hsp : zsum (zB G) H = zsum (zB G) X.2.2.2.1.heap + zsum X.2.2.2.1.heap.size H := zsum_split (by have := hH0.2.1; have := hH0.1; omega) s2 (fun q c hc => by
    obtain ⟨c', a1, -, a3, -⟩ := s6 q c hc
    exact ⟨c', a1, a3⟩)
  obtain ⟨g1, g2, g3, g4, g5, -⟩ := hH
  obtain ⟨f1, f2, f3, f4, f5, -⟩ := hH0
  refine k ?_ ?_ T hT { S with same := ⟨s1, by rw [hTh]; exact s2, by rw [hTh]; omega, by rw [hTh]; exact s4, by rw [hTh]; exact Nat.le_refl _, by rw [hTh]; exact s6⟩ }
  · rw [hR]
    show _ ≤ h0.2.1
    omega
  · rw [hR]
    show _ ≤ h0.2.2.1
    omega
/-! ===== fields ===== -/
def zFL (own : String) (idx : Nat) (ref n ds : String) : Prop := Cond.fieldLink own idx ref n ds ∈ lw_all ∨ ∃ host, Cond.fieldLinkNest own idx ref n ds host ∈ lw_tbl
def zFk (own : String) (idx : Nat) (ts : List Nat) (k : Nat) : Prop := ∀ t ∈ ts, t < 300 ∧ ∃ (K : String) (T : u_T) (N : Nat) (ref : String), zcl[t % 200]? = some (K, T, N) ∧ k < N ∧ (∀ w ∈ u_ws K T N, w ∈ lw_all) ∧ zFL own idx ref (T k).2.1 (T k).2.2.1 ∧ (ref = (T k).1 ∨ Cond.sameField ref (T k).1 (T k).2.1 (T k).2.2.1 ∈ lw_all)
def zPk (y : MethodName) (idx : Nat) (ts : List Nat) (k : Nat) (ty : FieldType) : Prop := ∀ t ∈ ts, ∃ (K : String) (T : u_T) (N : Nat) (ref : String) (ty0 : Nat → FieldType), zcl[t]? = some (K, T, N) ∧ k < N ∧ (∀ w ∈ u_ws K T N, w ∈ lw_all) ∧ (∀ j, j < N → parseFieldDescriptor (T j).2.2.1 = some (ty0 j)) ∧ (∀ a, a < N → ∀ b, b < N → a ≠ b → (T a).2.1 ≠ (T b).2.1) ∧ zFL y.cls idx ref (T k).2.1 (T k).2.2.1 ∧ (ref = (T k).1 ∨ Cond.sameField ref (T k).1 (T k).2.1 (T k).2.2.1 ∈ lw_all) ∧ ty0 k = ty ∧ ((T k).2.2.2 = false ∨ ((T k).2.2.2 = true ∧ y.name = "<init>" ∧ (T k).1 = y.cls))
theorem zcl_lt {t : Nat} {q : vw_C} (hq : zcl[t]? = some q) : t < 33 := (List.getElem?_eq_some_iff.mp hq).1
theorem zob_some {r : Option Nat} {o : zOb} (hz : zob r h = some o) : ∃ a, r = some a ∧ h.2.2.2.2 a = some o := by
  cases r with
  | none => cases hz
  | some a => exact ⟨a, rfl, hz⟩
/-- what lies at an object's field -/
theorem zfield {H : Heap} {a t k : Nat} {o : zOb} {K : String} {T : u_T} {N : Nat} (hH : zH G h H) (ha : h.2.2.2.2 a = some o) (ht : o.1 < 300) (hq : zcl[o.1 % 200]? = some (K, T, N)) (hk : k < N) (ho2 : 200 ≤ o.1 → k < o.2.1) : ∃ cell : Cell, H[a]? = some cell ∧ cell.vm ≠ .unknown ∧ (∀ q, cell.vm ≠ .statics q) ∧ cell.cls = G.2.2.2.1.1 (o.1 % 200) ∧ cell.slots[G.2.2.2.1.2 (o.1 % 200) k]? = some (zv (o.2.2 k)) := by
  have hz := hH.2.2.2.2.2.2 a o ha
  have h33 := zcl_lt hq
  unfold zAt at hz
  split at hz
  · rename_i h2
    have e : o.1 % 200 = o.1 := Nat.mod_eq_of_lt h2
    rw [e] at h33 hq ⊢
    obtain ⟨-, sl, h3, h4, h5, h6⟩ := hz
    rw [if_pos (by omega)] at h5
    obtain ⟨q, h7, h8⟩ := h5
    rw [hq] at h7
    cases h7
    have h9 := h6 k (by rw [← h8]; exact hk)
    refine ⟨_, h3, fun q => (by cases q), fun _ q => (by cases q), ?_, ?_⟩
    · show zCls G o.1 = _
      unfold zCls
      rw [if_pos (by omega)]
    · unfold zSl at h9
      rw [if_pos (by omega)] at h9
      exact h9
  · rename_i h2
    obtain ⟨hlt, cell, h3, h4, h5, h6, h7⟩ := hz
    have e : o.1 % 200 = o.1 - 200 := by omega
    rw [if_pos ht] at h6
    have h9 := h7 k (ho2 (by omega))
    refine ⟨cell, by rw [hH.2.2.1 a hlt]; exact h3, h4, h5, ?_, ?_⟩
    · rw [h6, e]
      unfold zCls
      rw [if_pos (by omega)]
    · unfold zSl at h9
      rw [if_pos (by omega)] at h9
      rw [e]
      exact h9
theorem s_get (C : zC G X y cc nL d ret h0) {idx k : Nat} {ts : List Nat} {r : Option Nat} (hF : zFk y.cls idx ts k) (hd : decode cc pc = .ok (.getfield idx, 3)) {F : zV → Option α} (ho2 : ∀ o, zob r h = some o → 200 ≤ o.1 → k < o.2.1) (kk : ∀ v, zfld ts k r h = some v → zS G X nL (pc + 3) L (v :: st) h (F v) lf) : zS G X nL pc L (zR r :: st) h ((zfld ts k r h).bind F) lf := by
  intro res hr ls H locs cells slots hl hH hL
  cases hz : zfld ts k r h with
  | none => rw [hz] at hr; cases hr
  | some v =>
    rw [hz] at hr
    have hz0 := hz
    unfold zfld at hz
    cases ho : zob r h with
    | none => rw [ho] at hz; cases hz
    | some o =>
      rw [ho] at hz
      have ho3 := ho2 o ho
      obtain ⟨a, rfl, ha⟩ := zob_some ho
      dsimp only [Option.bind] at hz
      split at hz
      · rename_i hts
        cases hz
        obtain ⟨h300, K, T, N, ref, hq, hk, hin, hfl, hsame⟩ := hF _ hts
        obtain ⟨cell, c1, c2, c3, c4, c5⟩ := zfield (t := 0) hH ha h300 hq hk ho3
        obtain ⟨hS, hfc, kC, hkC, hkind⟩ := C.kn hq
        obtain ⟨cf, kf, fi, f, hi, hsl⟩ := hS k hk
        have hst := (u_facts hfc hkC (u_lays C.2.2.2.2.1 hin hk) hi).1
        have hi2 : X.2.2.2.1.fieldFound? ref (T k).2.1 (T k).2.2.1 = some (cf, kf, fi, f) := by
          rcases hsame with e | e
          · rw [e]; exact hi
          · exact u_same (C.2.2.2.2.1 _ e) _ hi
        have hgo := kk _ hz0 res hr ls H locs cells slots hl hH hL
        rcases hfl with e | ⟨host, e⟩
        · exact W.getf C.1 C.2.1 C.2.2.2.1 (C.2.2.2.2.1 _ e) hi2 hst c1 c2 (v := zv (o.2.2 k)) (by rw [hsl]; exact c5) rfl rfl hd hgo
        · have hn := va_Nw.use rfl (A := X.2.2.2.2.2.1) (va_Nw.warmF C.2.2.2.2.2.2.2.1.2 (va_Nw.of rfl (C.2.2.2.2.2.2.2.1.1.1 _ e)))
          exact va_Wgetf C.1 C.2.1 C.2.2.2.1 hn hi2 hst c1 c2 (v := zv (o.2.2 k)) (by rw [hsl]; exact c5) rfl rfl hd hgo
      · cases hz
theorem zbb {β : Type} (o : Option zV) (g : zV → Option β) (F : β → Option α) : (o.bind g).bind F = o.bind fun v => (g v).bind F := by cases o <;> rfl
theorem zasI_v {v : zV} {x : Int32} (hv : zasI v = some x) : v = zI x := by
  match v, hv with
  | .inl _, hv => cases hv; rfl
theorem zasJ_v {v : zV} {x : Int64} (hv : zasJ v = some x) : v = zJ x := by
  match v, hv with
  | .inr (.inl _), hv => cases hv; rfl
theorem zasR_v {v : zV} {x : Option Nat} (hv : zasR v = some x) : v = zR x := by
  match v, hv with
  | .inr (.inr _), hv => cases hv; rfl
theorem zold_none {r : Option Nat} {ts : List Nat} {k : Nat} (hts : ∀ t ∈ ts, t < 200) (hx : ∀ o, zob r h = some o → o.1 ∈ ts) : ∀ o, zob r h = some o → 200 ≤ o.1 → k < o.2.1 := fun o ho h2 => by have := hts _ (hx o ho); omega
theorem s_getI (C : zC G X y cc nL d ret h0) {idx k : Nat} {ts : List Nat} {r : Option Nat} (hF : zFk y.cls idx ts k) (hd : decode cc pc = .ok (.getfield idx, 3)) {F : Int32 → Option α} (hts : ∀ t ∈ ts, t < 200) (kk : ∀ x, zfI ts k r h = some x → zS G X nL (pc + 3) L (zI x :: st) h (F x) lf) : zS G X nL pc L (zR r :: st) h ((zfI ts k r h).bind F) lf := by
  unfold zfI
  rw [zbb]
  by_cases hx : ∀ o, zob r h = some o → o.1 ∈ ts
  · refine s_get C hF hd (zold_none hts hx) fun v hv => ?_
    cases hx2 : zasI v with
    | none => exact zS.none_
    | some x =>
      rw [zasI_v hx2]
      exact kk x (by unfold zfI; rw [hv]; exact hx2)
  · have : zfld ts k r h = none := by
      unfold zfld
      cases ho : zob r h with
      | none => rfl
      | some o =>
        refine if_neg (fun q => hx ?_)
        intro o2 ho2
        rw [ho] at ho2
        cases ho2
        exact q
    rw [this]
    exact zS.none_
theorem s_getJ (C : zC G X y cc nL d ret h0) {idx k : Nat} {ts : List Nat} {r : Option Nat} (hF : zFk y.cls idx ts k) (hd : decode cc pc = .ok (.getfield idx, 3)) {F : Int64 → Option α} (hts : ∀ t ∈ ts, t < 200) (kk : ∀ x, zfJ ts k r h = some x → zS G X nL (pc + 3) L (zJ x :: st) h (F x) lf) : zS G X nL pc L (zR r :: st) h ((zfJ ts k r h).bind F) lf := by
  unfold zfJ
  rw [zbb]
  by_cases hx : ∀ o, zob r h = some o → o.1 ∈ ts
  · refine s_get C hF hd (zold_none hts hx) fun v hv => ?_
    cases hx2 : zasJ v with
    | none => exact zS.none_
    | some x =>
      rw [zasJ_v hx2]
      exact kk x (by unfold zfJ; rw [hv]; exact hx2)
  · have : zfld ts k r h = none := by
      unfold zfld
      cases ho : zob r h with
      | none => rfl
      | some o =>
        refine if_neg (fun q => hx ?_)
        intro o2 ho2
        rw [ho] at ho2
        cases ho2
        exact q
    rw [this]
    exact zS.none_
theorem s_getR (C : zC G X y cc nL d ret h0) {idx k : Nat} {ts : List Nat} {r : Option Nat} (hF : zFk y.cls idx ts k) (hd : decode cc pc = .ok (.getfield idx, 3)) {F : Option Nat → Option α} (hts : ∀ t ∈ ts, t < 200) (kk : ∀ x, zfR ts k r h = some x → zS G X nL (pc + 3) L (zR x :: st) h (F x) lf) : zS G X nL pc L (zR r :: st) h ((zfR ts k r h).bind F) lf := by
  unfold zfR
  rw [zbb]
  by_cases hx : ∀ o, zob r h = some o → o.1 ∈ ts
  · refine s_get C hF hd (zold_none hts hx) fun v hv => ?_
    cases hx2 : zasR v with
    | none => exact zS.none_
    | some x =>
      rw [zasR_v hx2]
      exact kk x (by unfold zfR; rw [hv]; exact hx2)
  · have : zfld ts k r h = none := by
      unfold zfld
      cases ho : zob r h with
      | none => rfl
      | some o =>
        refine if_neg (fun q => hx ?_)
        intro o2 ho2
        rw [ho] at ho2
        cases ho2
        exact q
    rw [this]
    exact zS.none_
/-- a slot of a new cell written -/
theorem zNew.set {H H' : Heap} {a k : Nat} {t n : Nat} {f : Nat → zV} {v : zV} {sl : Array Value} (hn : zNew G a (t, n, f) H) (hc : H[a]? = some { cls := zCls G t, slots := sl, vm := .none }) (hk : k < n) (hi : ∀ x y, x < n → y < n → x ≠ y → zSl G t x ≠ zSl G t y) (h' : H'[a]? = some { cls := zCls G t, slots := sl.setIfInBounds (zSl G t k) (zv v), vm := .none }) : zNew G a (t, n, va_up f k v) H' := by
  obtain ⟨sl', q1, q2, q3, q4⟩ := hn
  rw [hc] at q1
  cases q1
  refine ⟨_, h', by simpa using q2, q3, fun j hj => ?_⟩
  have hlt : zSl G t k < sl.size := (Array.getElem?_eq_some_iff.mp (q4 k hk)).1
  by_cases hjk : j = k
  · subst hjk
    rw [Array.getElem?_setIfInBounds_self_of_lt hlt]
    show _ = some (zv (va_up f j v j))
    rw [va_up_self]
  · rw [Array.getElem?_setIfInBounds_ne (hi k j hk hj (fun q => hjk q.symm))]
    show _ = some (zv (va_up f k v j))
    rw [va_up_ne _ _ hjk]
    exact q4 j hj
theorem s_put (C : zC G X y cc nL d ret h0) {idx k : Nat} {ts : List Nat} {r : Option Nat} {ty : FieldType} {v : zV} (hP : zPk y idx ts k ty) (hn : narrow ty (zv v) = zv v) (hft : fits ty (zv v) = true) (hd : decode cc pc = .ok (.putfield idx, 3)) {F : zHp → Option α} (kk : ∀ h1, zpf ts k r v h = some h1 → zS G X nL (pc + 3) L st h1 (F h1) lf) : zS G X nL pc L (v :: zR r :: st) h ((zpf ts k r v h).bind F) lf := by
  intro res hr ls H locs cells slots hl hH hL
  cases hz : zpf ts k r v h with
  | none => rw [hz] at hr; cases hr
  | some h1 =>
    rw [hz] at hr
    have hz0 := hz
    unfold zpf at hz
    cases r with
    | none => cases hz
    | some a =>
      cases ha : h.2.2.2.2 a with
      | none => simp [ha] at hz
      | some o =>
        simp only [Option.bind_some, ha] at hz
        split at hz
        · rename_i hts
          obtain ⟨t, n, f⟩ := o
          cases hz
          obtain ⟨K, T, N, ref, ty0, hq, hk, hin, hty, hnm, hfl, hsame, e0, hfin⟩ := hP _ hts
          have h33 := zcl_lt hq
          have hzA := hH.2.2.2.2.2.2 a _ ha
          unfold zAt at hzA
          rw [if_pos (show t < 200 by exact Nat.lt_trans h33 (by decide))] at hzA
          obtain ⟨hB, hNew⟩ := hzA
          obtain ⟨sl, q1, q2, q3, q4⟩ := id hNew
          have h100 : t < 100 := Nat.lt_trans h33 (by decide)
          rw [if_pos (show (t, n, f).1 < 100 from h100)] at q3
          obtain ⟨q, q5, q6⟩ := q3
          rw [hq] at q5
          cases q5
          have q6 : N = n := q6
          subst q6
          have hap := va_apart (own := y.cls) C.2.2.2.2.1 hin ty0 hty hnm C.vaK hq
          have hsl0 : ∀ j, zSl G t j = G.2.2.2.1.2 t j := fun j => by unfold zSl; rw [if_pos h100]
          have hcl0 : zCls G t = G.2.2.2.1.1 t := by unfold zCls; rw [if_pos h100]
          obtain ⟨hS, hfc, kC, hkC, hkind⟩ := C.kn hq
          obtain ⟨cf, kf, fi, fd, hi, hsl⟩ := hS k hk
          have hst := (u_facts hfc hkC (u_lays C.2.2.2.2.1 hin hk) hi).1
          have hi2 : X.2.2.2.1.fieldFound? ref (T k).2.1 (T k).2.2.1 = some (cf, kf, fi, fd) := by
            rcases hsame with e | e
            · rw [e]; exact hi
            · exact u_same (C.2.2.2.2.1 _ e) _ hi
          have hlay := C.2.2.2.2.1 _ (hin _ (u_in_lay hk))
          have hdty : parseFieldDescriptor (T k).2.2.1 = some ty := by rw [hty k hk, e0]
          have hlays := u_lays C.2.2.2.2.1 hin hk
          have h6 := u_fits hfc hkC hkind hlays hi hdty hn hft
          have hfin2 : hasFlag fd.accessFlags Acc.final = false ∨ (X.2.2.2.2.1.cls = cf ∧ X.2.2.2.2.2.2.2.1.name = "<init>") := by
            rcases hfin with g1 | ⟨g1, g2, g3⟩
            · left
              unfold u_lay at hlay
              rw [if_neg (by rw [g1]; decide)] at hlay
              exact (u_store hfc hkC hkind hlay hi hdty hn hft).1
            · right
              unfold u_lay at hlay
              rw [if_pos g1] at hlay
              obtain ⟨_, _, c', _, _, _, -, -, hf', -, -, -, hown2, -⟩ := Cond.laysFinal_spec hlay
              have e1 : c' = cf := by have := hi.symm.trans hf'; simp at this; exact this.1.symm
              rw [g3] at hown2
              refine ⟨?_, by rw [C.2.2.2.2.2.2.2.2.2.2]; exact g2⟩
              rw [← e1]
              exact Option.some.inj (C.2.2.2.1.symm.trans hown2)
          have hlt : fd.slot < sl.size := by
            have := (Array.getElem?_eq_some_iff.mp (q4 k hk)).1
            rw [hsl0] at this
            rw [hsl]
            exact this
          have hasz : a < H.size := (Array.getElem?_eq_some_iff.mp q1).1
          have hset : zH G (zput a (t, N, va_up f k v) h) (H.setIfInBounds a (Cell.setSlot { cls := zCls G t, slots := sl, vm := .none } fd.slot (zv v))) := by
            refine hH.set ha (Nat.lt_trans h33 (by decide)) rfl (by simp) (fun q hq => Array.getElem?_setIfInBounds_ne (fun z => hq z.symm)) (fun c hc => ?_) ?_
            · rw [q1] at hc
              cases hc
              exact ⟨_, Array.getElem?_setIfInBounds_self_of_lt hasz, by simp [Cell.setSlot]⟩
            · refine hNew.set q1 hk (fun x y hx hy hne => by rw [hsl0, hsl0]; exact hap x y hx hy hne) ?_
              rw [Array.getElem?_setIfInBounds_self_of_lt hasz, hsl0, hsl]
              rfl
          have hgo := kk _ hz0 res hr ls _ (locs ++ [⟨a, fd.slot⟩]) cells slots hl hset (fun q hq => by
            rcases List.mem_append.mp hq with z | z
            · exact hL q z
            · simp at z; rw [z]; exact hB)
          rcases hfl with e | ⟨host, e⟩
          · exact W.putf C.1 C.2.1 C.2.2.2.1 (C.2.2.2.2.1 _ e) hi2 hst hfin2 q1 (fun z => by cases z) hlt h6.1 (by rw [← hcl0] at h6; exact h6.2) rfl rfl hd hgo
          · have hnw := va_Nw.use rfl (A := X.2.2.2.2.2.1) (va_Nw.warmF C.2.2.2.2.2.2.2.1.2 (va_Nw.of rfl (C.2.2.2.2.2.2.2.1.1.1 _ e)))
            exact va_Wputf C.1 C.2.1 C.2.2.2.1 hnw hi2 hst hfin2 q1 (fun z => by cases z) hlt h6.1 (by rw [← hcl0] at h6; exact h6.2) rfl rfl hd hgo
        · cases hz
theorem zfitR (ty : FieldType) (hty : (∃ n, ty = .object n) ∨ ∃ t, ty = .array t) (r : Option Nat) : narrow ty (zv (zR r)) = zv (zR r) ∧ fits ty (zv (zR r)) = true := by
  rcases hty with ⟨n, rfl⟩ | ⟨t, rfl⟩ <;> cases r <;> exact ⟨rfl, rfl⟩
theorem zfitZ {x : Int32} (hx : x = 0 ∨ x = 1) : narrow .boolean (zv (zI x)) = zv (zI x) ∧ fits .boolean (zv (zI x)) = true := by
  rcases hx with rfl | rfl <;> exact ⟨by decide, by decide⟩
theorem s_putI (C : zC G X y cc nL d ret h0) {idx k : Nat} {ts : List Nat} {r : Option Nat} {x : Int32} (hP : zPk y idx ts k .int) (hd : decode cc pc = .ok (.putfield idx, 3)) {F : zHp → Option α} (kk : ∀ h1, zpf ts k r (zI x) h = some h1 → zS G X nL (pc + 3) L st h1 (F h1) lf) : zS G X nL pc L (zI x :: zR r :: st) h ((zpf ts k r (zI x) h).bind F) lf := s_put C hP rfl rfl hd kk
theorem s_putJ (C : zC G X y cc nL d ret h0) {idx k : Nat} {ts : List Nat} {r : Option Nat} {x : Int64} (hP : zPk y idx ts k .long) (hd : decode cc pc = .ok (.putfield idx, 3)) {F : zHp → Option α} (kk : ∀ h1, zpf ts k r (zJ x) h = some h1 → zS G X nL (pc + 3) L st h1 (F h1) lf) : zS G X nL pc L (zJ x :: zR r :: st) h ((zpf ts k r (zJ x) h).bind F) lf := s_put C hP rfl rfl hd kk
theorem s_putR (C : zC G X y cc nL d ret h0) {idx k : Nat} {ts : List Nat} {r x : Option Nat} {ty : FieldType} (hty : (∃ n, ty = .object n) ∨ ∃ t, ty = .array t) (hP : zPk y idx ts k ty) (hd : decode cc pc = .ok (.putfield idx, 3)) {F : zHp → Option α} (kk : ∀ h1, zpf ts k r (zR x) h = some h1 → zS G X nL (pc + 3) L st h1 (F h1) lf) : zS G X nL pc L (zR x :: zR r :: st) h ((zpf ts k r (zR x) h).bind F) lf := s_put C hP (zfitR ty hty x).1 (zfitR ty hty x).2 hd kk
/-- a flag written: 0 or 1 -/
theorem s_putZ (C : zC G X y cc nL d ret h0) {idx k : Nat} {ts : List Nat} {r : Option Nat} {x : Int32} (hP : zPk y idx ts k .boolean) (hd : decode cc pc = .ok (.putfield idx, 3)) {F : zHp → Option α} (kk : ∀ h1, zpf ts k r (zI x) h = some h1 → zS G X nL (pc + 3) L st h1 (F h1) lf) : zS G X nL pc L (zI x :: zR r :: st) h (if x = 0 ∨ x = 1 then (zpf ts k r (zI x) h).bind F else none) lf := by
  by_cases hx : x = 0 ∨ x = 1
  · rw [if_pos hx]
    exact s_put C hP (zfitZ hx).1 (zfitZ hx).2 hd kk
  · rw [if_neg hx]
    exact zS.none_
end ZHR
