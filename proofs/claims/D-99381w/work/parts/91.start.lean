set_option maxRecDepth 100000
/-! ===== the law's start ===== -/
theorem zkn_all {s : State} {args : Array Value} (hts : ∀ w ∈ lw_all, w.before args s = true) : ∀ q ∈ zcl, ∃ (cC : ClassId) (iS : Nat → Nat), u_Kn s q.1 q.2.1 q.2.2 cC iS := by
  intro q hq
  simp only [zcl, List.mem_cons, List.not_mem_nil, or_false] at hq
  rcases hq with rfl | rfl | rfl | rfl | rfl | rfl | rfl | rfl | rfl | rfl | rfl | rfl | rfl | rfl | rfl | rfl | rfl | rfl | rfl | rfl | rfl | rfl | rfl | rfl | rfl | rfl | rfl | rfl | rfl | rfl | rfl | rfl | rfl
  · exact u_known hts in_X1 (hts _ q170)
  · exact u_known hts in_X2 (hts _ q178)
  · exact u_known hts in_X3 (hts _ q259)
  · exact u_known hts in_X4 (hts _ q320)
  · exact u_known hts in_X5 (hts _ q354)
  · exact u_known hts in_X6 (hts _ q470)
  · exact u_known hts in_X7 (hts _ q495)
  · exact u_known hts in_X8 (hts _ q522)
  · exact u_known hts in_X9 (hts _ q1734)
  · exact u_known hts in_X10 (hts _ q756)
  · exact u_known hts in_X11 (hts _ q1021)
  · exact u_known hts in_X12 (hts _ q970)
  · exact u_known hts in_X13 (hts _ q999)
  · exact u_known hts in_X14 (hts _ q1010)
  · exact u_known hts in_X16 (hts _ q1068)
  · exact u_known hts in_X17 (hts _ q1081)
  · exact u_known hts in_X18 (hts _ q1091)
  · exact u_known hts in_X19 (hts _ q1112)
  · exact u_known hts in_X21 (hts _ q1128)
  · exact u_known hts in_X22 (hts _ q1141)
  · exact u_known hts in_X23 (hts _ q1149)
  · exact u_known hts in_X24 (hts _ q1157)
  · exact u_known hts in_X25 (hts _ q1165)
  · exact u_known hts in_X26 (hts _ q1173)
  · exact u_known hts in_X27 (hts _ q1181)
  · exact u_known hts (fun _ h_ => absurd h_ List.not_mem_nil) (hts _ q1211)
  · exact u_known hts in_X30 (hts _ q1225)
  · exact u_known hts in_X31 (hts _ q1238)
  · exact u_known hts in_X32 (hts _ q1667)
  · exact u_known hts in_J2 (hts _ q326)
  · exact u_known hts in_J13 (hts _ q858)
  · exact u_known hts in_J16 (hts _ q952)
  · exact u_known hts in_J18 (hts _ q1708)
theorem zarrp {s : State} {args : Array Value} {ty : FieldType} (h : (Cond.arrayClass ty).before args s = true) (hty : ∀ C, ty ≠ .object C) : ∃ cA, ArrOfT s cA ty ∧ va_RA s cA ty := by
  obtain ⟨c, k, comp, h1, h2, h3⟩ := Cond.arrayClass_spec h
  refine ⟨c, fun N z => ⟨(fun k h => by cases h), k, h2, comp, h3⟩, ?_⟩
  unfold va_RA
  split
  · exact absurd rfl (hty _)
  · exact h1
theorem zarro {s : State} {args : Array Value} {C : String} (h : (Cond.arrayOver (.object C)).before args s = true) : ∃ cA, ArrOfT s cA (.object C) ∧ va_RA s cA (.object C) := by
  obtain ⟨comp, c, k, h1, h2, h3, h4, h5⟩ := Cond.arrayOver_spec h
  exact ⟨c, fun N z => ⟨(fun k h => by cases h), k, h3, comp, h4⟩, k, comp, h3, h4, h1, h5⟩
theorem zarr_all {s : State} {args : Array Value} (hts : ∀ w ∈ lw_tbl, w.before args s = true) : ∀ k, ∃ cA, k < 8 → ArrOfT s cA (zty k) ∧ va_RA s cA (zty k) := by
  intro k
  by_cases hk : k < 8
  · have : ∃ cA, ArrOfT s cA (zty k) ∧ va_RA s cA (zty k) := by
      rcases (show k = 0 ∨ k = 1 ∨ k = 2 ∨ k = 3 ∨ k = 4 ∨ k = 5 ∨ k = 6 ∨ k = 7 by omega) with rfl | rfl | rfl | rfl | rfl | rfl | rfl | rfl
      · exact zarrp (hts _ (lw_all_tbl q256)) (fun C e => by cases e)
      · exact zarrp (hts _ (lw_all_tbl q257)) (fun C e => by cases e)
      · exact zarrp (hts _ (lw_all_tbl q318)) (fun C e => by cases e)
      · exact zarrp (hts _ (lw_all_tbl q255)) (fun C e => by cases e)
      · exact zarro (hts _ q338)
      · exact zarro (hts _ q184)
      · exact zarro (hts _ q528)
      · exact zarro (hts _ q548)
    obtain ⟨cA, h⟩ := this
    exact ⟨cA, fun _ => h⟩
  · exact ⟨0, fun h => absurd h hk⟩
/-- a static that holds a number or a reference -/
theorem zstat_all {s : State} {args : Array Value} (hts : ∀ w ∈ lw_tbl, w.before args s = true) (hs : ∀ w ∈ flatC (Jvm.Cond.and given_1 narrow_1), w.before args s = true) : ∀ q ∈ zstat, ∃ v, (Term.static q.1 q.2.1 q.2.2).eval args s none [] s = some v ∧ ((∃ x, v = .int x) ∨ (∃ x, v = .long x) ∨ v.isRef = true) ∧ va_Z q.1 q.2.1 q.2.2 v (fun a => s.heap.size ≤ a) s s.heap := by
  have hA : ∀ a : Nat, a < s.heap.size → ¬ (s.heap.size ≤ a) := fun a h => by omega
  have key : ∀ C n d, (Cond.laysStatic C n d).before args s = true → (Cond.initialized C).before args s = true → (Cond.isRef (.static C n d)).before args s = true → ∃ v, (Term.static C n d).eval args s none [] s = some v ∧ ((∃ x, v = .int x) ∨ (∃ x, v = .long x) ∨ v.isRef = true) ∧ va_Z C n d v (fun a => s.heap.size ≤ a) s s.heap := by
    intro C n d h1 h2 h3
    obtain ⟨v, hv, hr⟩ := Cond.isRef_spec h3
    exact ⟨v, hv, Or.inr (Or.inr hr), va_Zof h1 h2 hv hA⟩
  have keyI : ∀ C n d x, (Cond.laysStatic C n d).before args s = true → (Cond.initialized C).before args s = true → (Cond.eq (.static C n d) (.int x)).before args s = true → ∃ v, (Term.static C n d).eval args s none [] s = some v ∧ ((∃ x, v = .int x) ∨ (∃ x, v = .long x) ∨ v.isRef = true) ∧ va_Z C n d v (fun a => s.heap.size ≤ a) s s.heap := by
    intro C n d x h1 h2 h3
    exact ⟨_, va_eqt h3, Or.inl ⟨_, rfl⟩, va_Zof h1 h2 (va_eqt h3) hA⟩
  intro q hq
  simp only [zstat, List.mem_cons, List.not_mem_nil, or_false] at hq
  rcases hq with rfl | rfl | rfl | rfl | rfl | rfl | rfl | rfl | rfl
  · exact key _ _ _ (hts _ q340) (hts _ (lw_all_tbl q121)) (hs _ (by decide +kernel))
  · exact key _ _ _ (hts _ q468) (hts _ (lw_all_tbl q121)) (hs _ (by decide +kernel))
  · exact keyI _ _ _ 127 (hts _ q948) (hts _ (lw_all_tbl q144)) (hs _ (by decide +kernel))
  · exact key _ _ _ (hts _ q950) (hts _ (lw_all_tbl q144)) (hs _ (by decide +kernel))
  · exact key _ _ _ (hts _ q856) (hts _ (lw_all_tbl q139)) (hs _ (by decide +kernel))
  · exact keyI _ _ _ 1 (hts _ q636) (hts _ (lw_all_tbl q130)) (hs _ (by decide +kernel))
  · exact key _ _ _ (hts _ q677) (hts _ (lw_all_tbl q124)) (hs _ (by decide +kernel))
  · exact key _ _ _ (hts _ q780) (hts _ (lw_all_tbl q134)) (hs _ (by decide +kernel))
  · exact key _ _ _ (hts _ q782) (hts _ (lw_all_tbl q134)) (hs _ (by decide +kernel))
/-- the Strings' words stand in the Statement -/
abbrev ztS (i : Nat) : Term := .string "OrdinaryStalk$Reader" i
abbrev ztV (i : Nat) : Term := .field (ztS i) "java/lang/String" "value" "[B"
def zsw (q : Nat × List Int32) : List Cond := Cond.exactly (ztS q.1) "java/lang/String" :: Cond.eq (.field (ztS q.1) "java/lang/String" "coder" "B") (.int 0) :: Cond.arrayOf (ztV q.1) .byte :: Cond.eq (.length (ztV q.1)) (.int (Int32.ofNat q.2.length)) :: (List.range q.2.length).map fun j => Cond.eq (.elem (ztV q.1) (.int (Int32.ofNat j))) (.int (q.2.getD j 0))
theorem zsb_drop : (flatC (Jvm.Cond.and given_1 narrow_1)).drop 162 = zsb.flatMap zsw := by decide +kernel
theorem zsb_in {q : Nat × List Int32} (hq : q ∈ zsb) {w : Cond} (hw : w ∈ zsw q) : w ∈ flatC (Jvm.Cond.and given_1 narrow_1) := by
  have h : w ∈ zsb.flatMap zsw := List.mem_flatMap.mpr ⟨q, hq, hw⟩
  rw [← zsb_drop] at h
  exact List.mem_of_mem_drop h
theorem zsb_words : ∀ q ∈ zsb, Cond.exactly (ztS q.1) "java/lang/String" ∈ flatC (Jvm.Cond.and given_1 narrow_1) ∧ Cond.eq (.field (ztS q.1) "java/lang/String" "coder" "B") (.int 0) ∈ flatC (Jvm.Cond.and given_1 narrow_1) ∧ Cond.arrayOf (ztV q.1) .byte ∈ flatC (Jvm.Cond.and given_1 narrow_1) ∧ Cond.eq (.length (ztV q.1)) (.int (Int32.ofNat q.2.length)) ∈ flatC (Jvm.Cond.and given_1 narrow_1) ∧ ∀ j, j < q.2.length → Cond.eq (.elem (ztV q.1) (.int (Int32.ofNat j))) (.int (q.2.getD j 0)) ∈ flatC (Jvm.Cond.and given_1 narrow_1) := by
  intro q hq
  refine ⟨zsb_in hq (by simp [zsw]), zsb_in hq (by simp [zsw]), zsb_in hq (by simp [zsw]), zsb_in hq (by simp [zsw]), fun j hj => zsb_in hq ?_⟩
  unfold zsw
  refine List.mem_cons_of_mem _ (List.mem_cons_of_mem _ (List.mem_cons_of_mem _ (List.mem_cons_of_mem _ (List.mem_map.mpr ⟨j, List.mem_range.mpr hj, rfl⟩))))
theorem zstr_all {s : State} {args : Array Value} (hs : ∀ w ∈ flatC (Jvm.Cond.and given_1 narrow_1), w.before args s = true) : ∀ q ∈ zsb, ∃ a v, (ztS q.1).eval args s none [] s = some (.ref a) ∧ va_O "java/lang/String" a (fun _ => False) s s.heap ∧ va_OF "java/lang/String" "coder" "B" (.int 0) a (fun _ => False) s s.heap ∧ va_OF "java/lang/String" "value" "[B" (.ref v) a (fun _ => False) s s.heap ∧ va_T .byte v q.2.length (fun j => .int (q.2.getD j 0)) (fun _ => False) s s.heap := by
  intro q hq
  obtain ⟨w1, w2, w3, w4, w5⟩ := zsb_words q hq
  have hlen : q.2.length < 2 ^ 31 := by
    have : ∀ q ∈ zsb, q.2.length < 100 := by decide
    have := this q hq
    omega
  obtain ⟨a, c, cA, kA, q1, q2, q3, q4, q5, q6, -⟩ := Cond.exactly_spec (args := args) (first := s) (o := none) (s := s) (idx := []) (t := ztS q.1) (cls := "java/lang/String") (hs _ w1)
  obtain ⟨t, ht, hT⟩ := va_Tof (f := fun j => .int (q.2.getD j 0)) (A := fun _ => False) hlen (hs _ w3) (va_eqt (hs _ w4)) (fun j hj => va_eqt (hs _ (w5 j hj))) (fun _ _ h => h)
  exact ⟨a, t, q1, ⟨cA, q3, q5, by rw [q6]; exact q2, fun h => h⟩, vk_OFof q1 (va_eqt (hs _ w2)) (fun _ _ h => h), vk_OFof q1 ht (fun _ _ h => h), hT⟩
theorem zstr_words : ∀ q ∈ zstr, Cond.stringRef "OrdinaryStalk$Reader" q.1 q.2 ∈ lw_tbl := by
  intro q hq
  simp only [zstr, List.mem_cons, List.not_mem_nil, or_false] at hq
  rcases hq with rfl | rfl | rfl | rfl | rfl | rfl | rfl | rfl | rfl | rfl | rfl | rfl | rfl | rfl | rfl | rfl | rfl | rfl | rfl | rfl | rfl | rfl | rfl | rfl | rfl | rfl | rfl
  · exact q185
  · exact q186
  · exact q187
  · exact q188
  · exact q189
  · exact q190
  · exact q191
  · exact q192
  · exact q193
  · exact q194
  · exact q195
  · exact q196
  · exact q197
  · exact q198
  · exact q199
  · exact q200
  · exact q201
  · exact q202
  · exact q203
  · exact q204
  · exact q205
  · exact q206
  · exact q207
  · exact q208
  · exact q209
  · exact q210
  · exact q622
