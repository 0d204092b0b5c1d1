/-! ===== the model: worked ===== -/
/-- only arrays at places of S differ -/
def Kp (S : List Nat) (m m' : mS) : Prop := (∀ q, q ∉ S → m'.2.2.1 q = m.2.2.1 q) ∧ m'.1 = m.1 ∧ m'.2.1 = m.2.1 ∧ m'.2.2.2 = m.2.2.2
theorem Kp.refl (S : List Nat) (m : mS) : Kp S m m := ⟨fun _ _ => rfl, rfl, rfl, rfl⟩
theorem Kp.trans {S : List Nat} {m m' m'' : mS} (h : Kp S m m') (h' : Kp S m' m'') : Kp S m m'' := ⟨fun q hq => (h'.1 q hq).trans (h.1 q hq), h'.2.1.trans h.2.1, h'.2.2.1.trans h.2.2.1, h'.2.2.2.trans h.2.2.2⟩
theorem Kp.mono {S T : List Nat} {m m' : mS} (h : Kp S m m') (hs : ∀ q ∈ S, q ∈ T) : Kp T m m' := ⟨fun q hq => h.1 q (fun z => hq (hs q z)), h.2⟩
theorem Kp.mA {S : List Nat} {m m' : mS} (h : Kp S m m') {p i : Nat} {v : Int32} (hp : p ∈ S) : Kp S m (mA m' p i v) := by
  refine ⟨fun q hq => ?_, h.2⟩
  show va_up m'.2.2.1 p _ q = _
  rw [va_up_ne _ _ (fun e => hq (by rw [e]; exact hp))]
  exact h.1 q hq
abbrev wSc : List Nat := [19, 20, 21, 22, 23, 24, 25, 26, 27]
theorem wO_kp {m m' : mS} {d : Nat} (h : Kp wSc m m') : Kp wSc m (wO m' d) := (((((h.mA (by decide)).mA (by decide)).mA (by decide)).mA (by decide)).mA (by decide))
theorem wS_kp {m m' : mS} {d : Nat} (h : Kp wSc m m') : Kp wSc m (wS m' d) := (h.mA (by decide)).mA (by decide)
theorem wT_kp {m m' : mS} {d : Nat} (h : Kp wSc m m') : Kp wSc m (wT m' d) := ((((wS_kp h).mA (by decide)).mA (by decide)).mA (by decide)).mA (by decide)
theorem wD_kp {m m' : mS} {d : Nat} {v : Int32} (h : Kp wSc m m') : Kp wSc m (wD m' d v).1 := by
  induction d generalizing v with
  | zero => exact h.mA (by decide)
  | succ d ih =>
    unfold wD
    split
    · exact ih
    · exact h.mA (by decide)
theorem wK_kp {vals : Nat → Int32} {m : mS} {s : mS × Nat} {c : Nat} (h : Kp wSc m s.1) : Kp wSc m (wK vals s c).1 := by
  unfold wK
  split
  · exact wO_kp (h.mA (by decide))
  · split
    · exact (wS_kp h).mA (by decide)
    · split
      · exact h.mA (by decide)
      · split
        · exact ((((wS_kp h).mA (by decide)).mA (by decide)).mA (by decide)).mA (by decide)
        · split
          · exact (wT_kp h).mA (by decide)
          · split
            · exact wD_kp (wT_kp h)
            · exact wD_kp h
theorem wF_kp {vals : Nat → Int32} {m : mS} {L : List Nat} {s : mS × Nat} (h : Kp wSc m s.1) : Kp wSc m (L.foldl (wK vals) s).1 := by
  induction L generalizing s with
  | nil => exact h
  | cons c L ih => exact ih (wK_kp h)
section MWK
variable {n a : Nat} {m : mS} {h : zHp} {c : Cp}
theorem x9_wD {c14 : Int32 → Int32 → Int32 → zHp → Option (Int32 × zHp)} {l1 l3 v : Int32} {d k : Nat} (hd : d < 7) (hk : d < k) : f_X9_worked_L268 n a c14 k l1 (nn d) l3 v (mH a m h) = c14 l1 (nn (wD m d v).2) (l3 + 1) (mH a (wD m d v).1 h) := by
  have fin : ∀ (d : Nat) (v : Int32), d < 7 → f_X9_worked_L300 n a c14 l1 (nn d) l3 v (mH a m h) = c14 l1 (nn d) (l3 + 1) (mH a (mA m 25 d (if m.2.2.1 26 d = 0 then v else m.2.2.1 25 d * v)) h) := by
    intro d v hd
    unfold f_X9_worked_L300 f_X9_worked_L328 f_X9_worked_L329
    simp (disch := first | decide | omega | (refine inb_nn ?_ ?_ <;> first | decide | (simp only [ml_1, ml_2, ml_3, ml_4, ml_5, ml_6, ml_7, ml_8, ml_9, ml_10, ml_11, ml_12, ml_13, ml_14, ml_15, ml_16, ml_17, ml_18, ml_19, ml_20, ml_21, ml_22, ml_23, ml_24, ml_25, ml_26, ml_27, ml_28, ml_29, ml_30, ml_31, ml_32, ml_33, ml_34, ml_35, ml_36, ml_37, ml_38, ml_39, ml_40, ml_41, ml_42, ml_43, ml_44, ml_45, ml_46, ml_47, ml_48, ml_49, ml_50]; omega))) only [bN, bT, Option.bind_some, zlet, mH_rc, mH_fI, mH_fJ, mH_aI, mH_aZ, mH_aJ, mH_as, mH_asZ, mH_asJ, mH_pI, mH_pJ, lit_add, add_lit, lit_mul, nn_add, nn_mul, nn_nat, Int32.reduceToNatClampNeg, mr_2, mr_10, mr_11, mr_12, mr_13, mr_14, mr_15, mr_16, mr_17, mr_18, mr_19, mr_20, mr_21, mr_22, mr_23, mr_24, mr_27, mr_28, mr_29, mr_30, mr_31, mr_32, mr_33, mr_34, mr_35, mr_36, mr_37, mr_38, mr_41, mr_42, mr_43, mr_44, mr_45, mr_46, mr_47, mr_48, mr_49, mr_50, mr_51, mr_52, mr_53, mr_54, mr_57, mr_58, mr_59, mr_61, mr_62, mr_63, mr_65, mr_67]
    split <;> simp (disch := first | decide | omega | (refine inb_nn ?_ ?_ <;> first | decide | (simp only [ml_1, ml_2, ml_3, ml_4, ml_5, ml_6, ml_7, ml_8, ml_9, ml_10, ml_11, ml_12, ml_13, ml_14, ml_15, ml_16, ml_17, ml_18, ml_19, ml_20, ml_21, ml_22, ml_23, ml_24, ml_25, ml_26, ml_27, ml_28, ml_29, ml_30, ml_31, ml_32, ml_33, ml_34, ml_35, ml_36, ml_37, ml_38, ml_39, ml_40, ml_41, ml_42, ml_43, ml_44, ml_45, ml_46, ml_47, ml_48, ml_49, ml_50]; omega))) only [bN, bT, Option.bind_some, zlet, mH_rc, mH_fI, mH_fJ, mH_aI, mH_aZ, mH_aJ, mH_as, mH_asZ, mH_asJ, mH_pI, mH_pJ, lit_add, add_lit, lit_mul, nn_add, nn_mul, nn_nat, Int32.reduceToNatClampNeg, mr_2, mr_10, mr_11, mr_12, mr_13, mr_14, mr_15, mr_16, mr_17, mr_18, mr_19, mr_20, mr_21, mr_22, mr_23, mr_24, mr_27, mr_28, mr_29, mr_30, mr_31, mr_32, mr_33, mr_34, mr_35, mr_36, mr_37, mr_38, mr_41, mr_42, mr_43, mr_44, mr_45, mr_46, mr_47, mr_48, mr_49, mr_50, mr_51, mr_52, mr_53, mr_54, mr_57, mr_58, mr_59, mr_61, mr_62, mr_63, mr_65, mr_67]
  induction d generalizing k v with
  | zero =>
    obtain ⟨k', rfl⟩ : ∃ k', k = k' + 1 := ⟨k - 1, by omega⟩
    show f_X9_worked_L268_b n a c14 (f_X9_worked_L268 n a c14 k') l1 (nn 0) l3 v (mH a m h) = _
    unfold f_X9_worked_L268_b wD
    simp (disch := first | decide | omega | (refine inb_nn ?_ ?_ <;> first | decide | (simp only [ml_1, ml_2, ml_3, ml_4, ml_5, ml_6, ml_7, ml_8, ml_9, ml_10, ml_11, ml_12, ml_13, ml_14, ml_15, ml_16, ml_17, ml_18, ml_19, ml_20, ml_21, ml_22, ml_23, ml_24, ml_25, ml_26, ml_27, ml_28, ml_29, ml_30, ml_31, ml_32, ml_33, ml_34, ml_35, ml_36, ml_37, ml_38, ml_39, ml_40, ml_41, ml_42, ml_43, ml_44, ml_45, ml_46, ml_47, ml_48, ml_49, ml_50]; omega))) only [bN, bT, Option.bind_some, zlet, mH_rc, mH_fI, mH_fJ, mH_aI, mH_aZ, mH_aJ, mH_as, mH_asZ, mH_asJ, mH_pI, mH_pJ, lit_add, add_lit, lit_mul, nn_add, nn_mul, nn_nat, Int32.reduceToNatClampNeg, mr_2, mr_10, mr_11, mr_12, mr_13, mr_14, mr_15, mr_16, mr_17, mr_18, mr_19, mr_20, mr_21, mr_22, mr_23, mr_24, mr_27, mr_28, mr_29, mr_30, mr_31, mr_32, mr_33, mr_34, mr_35, mr_36, mr_37, mr_38, mr_41, mr_42, mr_43, mr_44, mr_45, mr_46, mr_47, mr_48, mr_49, mr_50, mr_51, mr_52, mr_53, mr_54, mr_57, mr_58, mr_59, mr_61, mr_62, mr_63, mr_65, mr_67, fin, lit_lt_nn, Nat.lt_irrefl, if_false]
  | succ d ih =>
    obtain ⟨k', rfl⟩ : ∃ k', k = k' + 1 := ⟨k - 1, by omega⟩
    show f_X9_worked_L268_b n a c14 (f_X9_worked_L268 n a c14 k') l1 (nn (d + 1)) l3 v (mH a m h) = _
    unfold f_X9_worked_L268_b wD
    simp (disch := first | decide | omega | (refine inb_nn ?_ ?_ <;> first | decide | (simp only [ml_1, ml_2, ml_3, ml_4, ml_5, ml_6, ml_7, ml_8, ml_9, ml_10, ml_11, ml_12, ml_13, ml_14, ml_15, ml_16, ml_17, ml_18, ml_19, ml_20, ml_21, ml_22, ml_23, ml_24, ml_25, ml_26, ml_27, ml_28, ml_29, ml_30, ml_31, ml_32, ml_33, ml_34, ml_35, ml_36, ml_37, ml_38, ml_39, ml_40, ml_41, ml_42, ml_43, ml_44, ml_45, ml_46, ml_47, ml_48, ml_49, ml_50]; omega))) only [bN, bT, Option.bind_some, zlet, mH_rc, mH_fI, mH_fJ, mH_aI, mH_aZ, mH_aJ, mH_as, mH_asZ, mH_asJ, mH_pI, mH_pJ, lit_add, add_lit, lit_mul, nn_add, nn_mul, nn_nat, Int32.reduceToNatClampNeg, mr_2, mr_10, mr_11, mr_12, mr_13, mr_14, mr_15, mr_16, mr_17, mr_18, mr_19, mr_20, mr_21, mr_22, mr_23, mr_24, mr_27, mr_28, mr_29, mr_30, mr_31, mr_32, mr_33, mr_34, mr_35, mr_36, mr_37, mr_38, mr_41, mr_42, mr_43, mr_44, mr_45, mr_46, mr_47, mr_48, mr_49, mr_50, mr_51, mr_52, mr_53, mr_54, mr_57, mr_58, mr_59, mr_61, mr_62, mr_63, mr_65, mr_67, fin, lit_lt_nn, show (0 < d + 1) = True by simp, if_true]
    split
    · rw [show nn (d + 1) + (-1 : Int32) = nn d from by rw [← nn_add]; show nn d + 1 + (-1) = nn d; rw [Int32.add_assoc]; exact Int32.add_zero _]
      exact ih (by omega) (by omega)
    · rfl
theorem x9_wK {self : Int32 → Int32 → Int32 → zHp → Option (Int32 × zHp)} {s : mS × Nat} {i x : Nat} (hn : 7 < n) (hs : s.2 ≤ 5) (h29 : x = 29 → 1 ≤ s.2) (hx : x < 20000) (hi : i < 2000) (hx2 : s.1.2.2.1 16 i = nn x) {len : Nat} (hl : s.1.2.2.1 15 0 = nn len) (hlen : len ≤ 2000) (hil : i < len) : f_X9_worked_L14_b n a self 0 (nn s.2) (nn i) (mH a s.1 h) = self 0 (nn (wK (s.1.2.2.1 28) s x).2) (nn (i + 1)) (mH a (wK (s.1.2.2.1 28) s x).1 h) := by
  have e1 : nn i + 1 = nn (i + 1) := nn_add i 1
  have e2 : nn s.2 + 1 = nn (s.2 + 1) := nn_add s.2 1
  have hs1 : s.2 + 1 < 7 := by omega
  have hs0 : s.2 < 7 := by omega
  unfold f_X9_worked_L14_b
  refine st_bind mr_23 ?_
  refine st_bind (mH_aI (by decide) (by decide)) ?_
  refine st_pos _ (by show nn i < s.1.2.2.1 15 0; rw [hl, nn_lt (by omega) (by omega)]; exact hil) ?_
  refine st_bind mr_24 ?_
  refine st_bind (mH_aI (by decide) (inb_nn (by show i < 2000; omega) (by decide))) ?_
  rw [nn_nat (by omega), hx2]
  simp only [nn_eq_lit (show x < 2147483648 by omega) (show 28 < 2147483648 by decide), nn_eq_lit (show x < 2147483648 by omega) (show 30 < 2147483648 by decide), nn_eq_lit (show x < 2147483648 by omega) (show 20 < 2147483648 by decide), nn_eq_lit (show x < 2147483648 by omega) (show 21 < 2147483648 by decide), nn_eq_lit (show x < 2147483648 by omega) (show 22 < 2147483648 by decide), nn_eq_lit (show x < 2147483648 by omega) (show 24 < 2147483648 by decide), nn_eq_lit (show x < 2147483648 by omega) (show 25 < 2147483648 by decide), nn_eq_lit (show x < 2147483648 by omega) (show 26 < 2147483648 by decide), nn_eq_lit (show x < 2147483648 by omega) (show 27 < 2147483648 by decide)]
  unfold wK
  by_cases c1 : x = 28 ∨ x = 30
  · rw [if_pos c1]
    have : f_X9_worked_L46 n a self 0 (nn s.2) (nn i) (nn x) (mH a s.1 h) = self 0 (nn (s.2 + 1)) (nn (i + 1)) (mH a (wO (mA s.1 27 (s.2 + 1) (if x = 30 then 1 else 0)) (s.2 + 1)) h) := by
      unfold f_X9_worked_L46 f_X9_worked_L329
      simp (disch := first | decide | omega | (refine inb_nn ?_ ?_ <;> first | decide | (simp only [ml_1, ml_2, ml_3, ml_4, ml_5, ml_6, ml_7, ml_8, ml_9, ml_10, ml_11, ml_12, ml_13, ml_14, ml_15, ml_16, ml_17, ml_18, ml_19, ml_20, ml_21, ml_22, ml_23, ml_24, ml_25, ml_26, ml_27, ml_28, ml_29, ml_30, ml_31, ml_32, ml_33, ml_34, ml_35, ml_36, ml_37, ml_38, ml_39, ml_40, ml_41, ml_42, ml_43, ml_44, ml_45, ml_46, ml_47, ml_48, ml_49, ml_50]; omega))) only [bN, bT, Option.bind_some, zlet, mH_rc, mH_fI, mH_fJ, mH_aI, mH_aZ, mH_aJ, mH_as, mH_asZ, mH_asJ, mH_pI, mH_pJ, lit_add, add_lit, lit_mul, nn_add, nn_mul, nn_nat, Int32.reduceToNatClampNeg, mr_2, mr_10, mr_11, mr_12, mr_13, mr_14, mr_15, mr_16, mr_17, mr_18, mr_19, mr_20, mr_21, mr_22, mr_23, mr_24, mr_27, mr_28, mr_29, mr_30, mr_31, mr_32, mr_33, mr_34, mr_35, mr_36, mr_37, mr_38, mr_41, mr_42, mr_43, mr_44, mr_45, mr_46, mr_47, mr_48, mr_49, mr_50, mr_51, mr_52, mr_53, mr_54, mr_57, mr_58, mr_59, mr_61, mr_62, mr_63, mr_65, mr_67, e2, x9_opens hs1, nn_eq_lit, e1]
    rcases c1 with c1 | c1
    · simp only [c1, if_true] at this ⊢
      exact this
    · simp only [c1, show (30 : Nat) = 28 ↔ False by simp, if_false, if_true] at this ⊢
      exact this
  rw [if_neg c1]
  have c1a : x ≠ 28 := fun e => c1 (Or.inl e)
  have c1b : x ≠ 30 := fun e => c1 (Or.inr e)
  simp only [c1a, c1b, if_false]
  by_cases c2 : x = 20 ∨ x = 21
  · rw [if_pos c2]
    have : f_X9_worked_L89 n a self 0 (nn s.2) (nn i) (nn x) (mH a s.1 h) = self 0 (nn s.2) (nn (i + 1)) (mH a (mA (wS s.1 s.2) 24 s.2 (nn x)) h) := by
      unfold f_X9_worked_L89 f_X9_worked_L329
      simp (disch := first | decide | omega | (refine inb_nn ?_ ?_ <;> first | decide | (simp only [ml_1, ml_2, ml_3, ml_4, ml_5, ml_6, ml_7, ml_8, ml_9, ml_10, ml_11, ml_12, ml_13, ml_14, ml_15, ml_16, ml_17, ml_18, ml_19, ml_20, ml_21, ml_22, ml_23, ml_24, ml_25, ml_26, ml_27, ml_28, ml_29, ml_30, ml_31, ml_32, ml_33, ml_34, ml_35, ml_36, ml_37, ml_38, ml_39, ml_40, ml_41, ml_42, ml_43, ml_44, ml_45, ml_46, ml_47, ml_48, ml_49, ml_50]; omega))) only [bN, bT, Option.bind_some, zlet, mH_rc, mH_fI, mH_fJ, mH_aI, mH_aZ, mH_aJ, mH_as, mH_asZ, mH_asJ, mH_pI, mH_pJ, lit_add, add_lit, lit_mul, nn_add, nn_mul, nn_nat, Int32.reduceToNatClampNeg, mr_2, mr_10, mr_11, mr_12, mr_13, mr_14, mr_15, mr_16, mr_17, mr_18, mr_19, mr_20, mr_21, mr_22, mr_23, mr_24, mr_27, mr_28, mr_29, mr_30, mr_31, mr_32, mr_33, mr_34, mr_35, mr_36, mr_37, mr_38, mr_41, mr_42, mr_43, mr_44, mr_45, mr_46, mr_47, mr_48, mr_49, mr_50, mr_51, mr_52, mr_53, mr_54, mr_57, mr_58, mr_59, mr_61, mr_62, mr_63, mr_65, mr_67, x9_sums hs0, e1]
    rcases c2 with c2 | c2
    · simp only [c2, if_true] at this ⊢
      exact this
    · simp only [c2, show (21 : Nat) = 20 ↔ False by simp, if_false, if_true] at this ⊢
      exact this
  rw [if_neg c2]
  have c2a : x ≠ 20 := fun e => c2 (Or.inl e)
  have c2b : x ≠ 21 := fun e => c2 (Or.inr e)
  simp only [c2a, c2b, if_false]
  by_cases c3 : x = 22
  · rw [if_pos c3, if_pos c3]
    unfold f_X9_worked_L329
    simp (disch := first | decide | omega | (refine inb_nn ?_ ?_ <;> first | decide | (simp only [ml_1, ml_2, ml_3, ml_4, ml_5, ml_6, ml_7, ml_8, ml_9, ml_10, ml_11, ml_12, ml_13, ml_14, ml_15, ml_16, ml_17, ml_18, ml_19, ml_20, ml_21, ml_22, ml_23, ml_24, ml_25, ml_26, ml_27, ml_28, ml_29, ml_30, ml_31, ml_32, ml_33, ml_34, ml_35, ml_36, ml_37, ml_38, ml_39, ml_40, ml_41, ml_42, ml_43, ml_44, ml_45, ml_46, ml_47, ml_48, ml_49, ml_50]; omega))) only [bN, bT, Option.bind_some, zlet, mH_rc, mH_fI, mH_fJ, mH_aI, mH_aZ, mH_aJ, mH_as, mH_asZ, mH_asJ, mH_pI, mH_pJ, lit_add, add_lit, lit_mul, nn_add, nn_mul, nn_nat, Int32.reduceToNatClampNeg, mr_2, mr_10, mr_11, mr_12, mr_13, mr_14, mr_15, mr_16, mr_17, mr_18, mr_19, mr_20, mr_21, mr_22, mr_23, mr_24, mr_27, mr_28, mr_29, mr_30, mr_31, mr_32, mr_33, mr_34, mr_35, mr_36, mr_37, mr_38, mr_41, mr_42, mr_43, mr_44, mr_45, mr_46, mr_47, mr_48, mr_49, mr_50, mr_51, mr_52, mr_53, mr_54, mr_57, mr_58, mr_59, mr_61, mr_62, mr_63, mr_65, mr_67, e1]
  rw [if_neg c3, if_neg c3]
  by_cases c4 : x = 24 ∨ x = 25
  · rw [if_pos c4]
    have : f_X9_worked_L137 n a self 0 (nn s.2) (nn i) (nn x) (mH a s.1 h) = self 0 (nn s.2) (nn (i + 1)) (mH a (mA (mA (mA (mA (wS s.1 s.2) 21 s.2 ((wS s.1 s.2).2.2.1 23 s.2)) 22 s.2 (nn x)) 23 s.2 0) 24 s.2 20) h) := by
      unfold f_X9_worked_L137 f_X9_worked_L329
      simp (disch := first | decide | omega | (refine inb_nn ?_ ?_ <;> first | decide | (simp only [ml_1, ml_2, ml_3, ml_4, ml_5, ml_6, ml_7, ml_8, ml_9, ml_10, ml_11, ml_12, ml_13, ml_14, ml_15, ml_16, ml_17, ml_18, ml_19, ml_20, ml_21, ml_22, ml_23, ml_24, ml_25, ml_26, ml_27, ml_28, ml_29, ml_30, ml_31, ml_32, ml_33, ml_34, ml_35, ml_36, ml_37, ml_38, ml_39, ml_40, ml_41, ml_42, ml_43, ml_44, ml_45, ml_46, ml_47, ml_48, ml_49, ml_50]; omega))) only [bN, bT, Option.bind_some, zlet, mH_rc, mH_fI, mH_fJ, mH_aI, mH_aZ, mH_aJ, mH_as, mH_asZ, mH_asJ, mH_pI, mH_pJ, lit_add, add_lit, lit_mul, nn_add, nn_mul, nn_nat, Int32.reduceToNatClampNeg, mr_2, mr_10, mr_11, mr_12, mr_13, mr_14, mr_15, mr_16, mr_17, mr_18, mr_19, mr_20, mr_21, mr_22, mr_23, mr_24, mr_27, mr_28, mr_29, mr_30, mr_31, mr_32, mr_33, mr_34, mr_35, mr_36, mr_37, mr_38, mr_41, mr_42, mr_43, mr_44, mr_45, mr_46, mr_47, mr_48, mr_49, mr_50, mr_51, mr_52, mr_53, mr_54, mr_57, mr_58, mr_59, mr_61, mr_62, mr_63, mr_65, mr_67, x9_sums hs0, e1]
    rcases c4 with c4 | c4
    · simp only [c4, if_true] at this ⊢
      exact this
    · simp only [c4, show (25 : Nat) = 24 ↔ False by simp, if_false, if_true] at this ⊢
      exact this
  rw [if_neg c4]
  have c4a : x ≠ 24 := fun e => c4 (Or.inl e)
  have c4b : x ≠ 25 := fun e => c4 (Or.inr e)
  simp only [c4a, c4b, if_false]
  by_cases c5 : x = 26 ∨ x = 27
  · rw [if_pos c5]
    have : f_X9_worked_L194 n a self 0 (nn s.2) (nn i) (nn x) (mH a s.1 h) = self 0 (nn s.2) (nn (i + 1)) (mH a (mA (wT s.1 s.2) 20 s.2 (nn x)) h) := by
      unfold f_X9_worked_L194 f_X9_worked_L329
      simp (disch := first | decide | omega | (refine inb_nn ?_ ?_ <;> first | decide | (simp only [ml_1, ml_2, ml_3, ml_4, ml_5, ml_6, ml_7, ml_8, ml_9, ml_10, ml_11, ml_12, ml_13, ml_14, ml_15, ml_16, ml_17, ml_18, ml_19, ml_20, ml_21, ml_22, ml_23, ml_24, ml_25, ml_26, ml_27, ml_28, ml_29, ml_30, ml_31, ml_32, ml_33, ml_34, ml_35, ml_36, ml_37, ml_38, ml_39, ml_40, ml_41, ml_42, ml_43, ml_44, ml_45, ml_46, ml_47, ml_48, ml_49, ml_50]; omega))) only [bN, bT, Option.bind_some, zlet, mH_rc, mH_fI, mH_fJ, mH_aI, mH_aZ, mH_aJ, mH_as, mH_asZ, mH_asJ, mH_pI, mH_pJ, lit_add, add_lit, lit_mul, nn_add, nn_mul, nn_nat, Int32.reduceToNatClampNeg, mr_2, mr_10, mr_11, mr_12, mr_13, mr_14, mr_15, mr_16, mr_17, mr_18, mr_19, mr_20, mr_21, mr_22, mr_23, mr_24, mr_27, mr_28, mr_29, mr_30, mr_31, mr_32, mr_33, mr_34, mr_35, mr_36, mr_37, mr_38, mr_41, mr_42, mr_43, mr_44, mr_45, mr_46, mr_47, mr_48, mr_49, mr_50, mr_51, mr_52, mr_53, mr_54, mr_57, mr_58, mr_59, mr_61, mr_62, mr_63, mr_65, mr_67, x9_tests hs0, e1]
    rcases c5 with c5 | c5
    · simp only [c5, if_true] at this ⊢
      exact this
    · simp only [c5, show (27 : Nat) = 26 ↔ False by simp, if_false, if_true] at this ⊢
      exact this
  rw [if_neg c5]
  have c5a : x ≠ 26 := fun e => c5 (Or.inl e)
  have c5b : x ≠ 27 := fun e => c5 (Or.inr e)
  simp only [c5a, c5b, if_false]
  have key : ∀ v, f_X9_worked_L243 n a self 0 (nn s.2) (nn i) (nn x) v (mH a s.1 h) = (if x = 29 then self 0 (nn (wD (wT s.1 s.2) (s.2 - 1) ((wT s.1 s.2).2.2.1 19 s.2)).2) (nn (i + 1)) (mH a (wD (wT s.1 s.2) (s.2 - 1) ((wT s.1 s.2).2.2.1 19 s.2)).1 h) else self 0 (nn (wD s.1 s.2 v).2) (nn (i + 1)) (mH a (wD s.1 s.2 v).1 h)) := by
    intro v
    unfold f_X9_worked_L243
    simp (disch := first | decide | omega | (refine inb_nn ?_ ?_ <;> first | decide | (simp only [ml_1, ml_2, ml_3, ml_4, ml_5, ml_6, ml_7, ml_8, ml_9, ml_10, ml_11, ml_12, ml_13, ml_14, ml_15, ml_16, ml_17, ml_18, ml_19, ml_20, ml_21, ml_22, ml_23, ml_24, ml_25, ml_26, ml_27, ml_28, ml_29, ml_30, ml_31, ml_32, ml_33, ml_34, ml_35, ml_36, ml_37, ml_38, ml_39, ml_40, ml_41, ml_42, ml_43, ml_44, ml_45, ml_46, ml_47, ml_48, ml_49, ml_50]; omega))) only [bN, bT, Option.bind_some, zlet, mH_rc, mH_fI, mH_fJ, mH_aI, mH_aZ, mH_aJ, mH_as, mH_asZ, mH_asJ, mH_pI, mH_pJ, lit_add, add_lit, lit_mul, nn_add, nn_mul, nn_nat, Int32.reduceToNatClampNeg, mr_2, mr_10, mr_11, mr_12, mr_13, mr_14, mr_15, mr_16, mr_17, mr_18, mr_19, mr_20, mr_21, mr_22, mr_23, mr_24, mr_27, mr_28, mr_29, mr_30, mr_31, mr_32, mr_33, mr_34, mr_35, mr_36, mr_37, mr_38, mr_41, mr_42, mr_43, mr_44, mr_45, mr_46, mr_47, mr_48, mr_49, mr_50, mr_51, mr_52, mr_53, mr_54, mr_57, mr_58, mr_59, mr_61, mr_62, mr_63, mr_65, mr_67, nn_eq_lit]
    by_cases c6 : x = 29
    · have := h29 c6
      simp only [c6, if_true]
      have e3 : nn s.2 + (-1 : Int32) = nn (s.2 - 1) := by
        obtain ⟨q, hq⟩ : ∃ q, s.2 = q + 1 := ⟨s.2 - 1, by omega⟩
        rw [hq, Nat.add_sub_cancel, ← nn_add]
        show nn q + 1 + (-1) = nn q
        rw [Int32.add_assoc]
        exact Int32.add_zero _
      simp (disch := first | decide | omega | (refine inb_nn ?_ ?_ <;> first | decide | (simp only [ml_1, ml_2, ml_3, ml_4, ml_5, ml_6, ml_7, ml_8, ml_9, ml_10, ml_11, ml_12, ml_13, ml_14, ml_15, ml_16, ml_17, ml_18, ml_19, ml_20, ml_21, ml_22, ml_23, ml_24, ml_25, ml_26, ml_27, ml_28, ml_29, ml_30, ml_31, ml_32, ml_33, ml_34, ml_35, ml_36, ml_37, ml_38, ml_39, ml_40, ml_41, ml_42, ml_43, ml_44, ml_45, ml_46, ml_47, ml_48, ml_49, ml_50]; omega))) only [bN, bT, Option.bind_some, zlet, mH_rc, mH_fI, mH_fJ, mH_aI, mH_aZ, mH_aJ, mH_as, mH_asZ, mH_asJ, mH_pI, mH_pJ, lit_add, add_lit, lit_mul, nn_add, nn_mul, nn_nat, Int32.reduceToNatClampNeg, mr_2, mr_10, mr_11, mr_12, mr_13, mr_14, mr_15, mr_16, mr_17, mr_18, mr_19, mr_20, mr_21, mr_22, mr_23, mr_24, mr_27, mr_28, mr_29, mr_30, mr_31, mr_32, mr_33, mr_34, mr_35, mr_36, mr_37, mr_38, mr_41, mr_42, mr_43, mr_44, mr_45, mr_46, mr_47, mr_48, mr_49, mr_50, mr_51, mr_52, mr_53, mr_54, mr_57, mr_58, mr_59, mr_61, mr_62, mr_63, mr_65, mr_67, x9_tests hs0]
      rw [e3, x9_wD (by omega) (by omega), e1]
    · simp only [c6, if_false]
      rw [x9_wD hs0 (by omega), e1]
  simp only [key, nn_lt_lit (show x < 2147483648 by omega) (show 100 < 2147483648 by omega), nn_lt_lit (show x < 2147483648 by omega) (show 20 < 2147483648 by omega)]
  by_cases c6 : x = 29
  · simp [c6]
  · simp only [c6, if_false]
    by_cases c7 : x < 100
    · simp only [c7, if_true]
      by_cases c8 : x < 20
      · simp only [c8, if_true]
        simp (disch := first | decide | omega | (refine inb_nn ?_ ?_ <;> first | decide | (simp only [ml_1, ml_2, ml_3, ml_4, ml_5, ml_6, ml_7, ml_8, ml_9, ml_10, ml_11, ml_12, ml_13, ml_14, ml_15, ml_16, ml_17, ml_18, ml_19, ml_20, ml_21, ml_22, ml_23, ml_24, ml_25, ml_26, ml_27, ml_28, ml_29, ml_30, ml_31, ml_32, ml_33, ml_34, ml_35, ml_36, ml_37, ml_38, ml_39, ml_40, ml_41, ml_42, ml_43, ml_44, ml_45, ml_46, ml_47, ml_48, ml_49, ml_50]; omega))) only [bN, bT, Option.bind_some, zlet, mH_rc, mH_fI, mH_fJ, mH_aI, mH_aZ, mH_aJ, mH_as, mH_asZ, mH_asJ, mH_pI, mH_pJ, lit_add, add_lit, lit_mul, nn_add, nn_mul, nn_nat, Int32.reduceToNatClampNeg, mr_2, mr_10, mr_11, mr_12, mr_13, mr_14, mr_15, mr_16, mr_17, mr_18, mr_19, mr_20, mr_21, mr_22, mr_23, mr_24, mr_27, mr_28, mr_29, mr_30, mr_31, mr_32, mr_33, mr_34, mr_35, mr_36, mr_37, mr_38, mr_41, mr_42, mr_43, mr_44, mr_45, mr_46, mr_47, mr_48, mr_49, mr_50, mr_51, mr_52, mr_53, mr_54, mr_57, mr_58, mr_59, mr_61, mr_62, mr_63, mr_65, mr_67]
      · simp only [c8, if_false]
    · simp only [c7, if_false]
      rw [show nn x - 100 = nn (x - 100) from @nn_sub x 100 (by omega)]
theorem x9_worked {L : List Nat} {E : Ex} (hn : 2000 < n) (h1 : m.2.2.1 14 0 = 0) (h2 : m.2.2.1 15 0 = nn L.length) (h3 : L.length ≤ 1000) (h4 : ∀ i, i < L.length → m.2.2.1 16 i = nn (L.getD i 0)) (h5 : ∀ x ∈ L, x < 20000) (h6 : wkOk L E) : ∃ m', f_X9_worked n a 0 (mH a m h) = some (E (m.2.2.1 28), mH a m' h) ∧ Kp wSc m m' := by
  have loop : ∀ j i k, i + j = L.length → j < k → f_X9_worked_L14 n a k 0 (nn ((L.take i).foldl (wK (m.2.2.1 28)) (wO m 0, 0)).2) (nn i) (mH a ((L.take i).foldl (wK (m.2.2.1 28)) (wO m 0, 0)).1 h) = some (E (m.2.2.1 28), mH a (wT (L.foldl (wK (m.2.2.1 28)) (wO m 0, 0)).1 0) h) := by
    intro j
    induction j with
    | zero =>
      intro i k hij hk
      obtain ⟨k', rfl⟩ : ∃ k', k = k' + 1 := ⟨k - 1, by omega⟩
      have hi : i = L.length := by omega
      subst hi
      rw [List.take_length]
      have hK : Kp wSc m (L.foldl (wK (m.2.2.1 28)) (wO m 0, 0)).1 := wF_kp (s := (wO m 0, 0)) (wO_kp (Kp.refl _ _))
      have hd := h6.1 L.length (Nat.le_refl _) (m.2.2.1 28) m
      rw [List.take_length] at hd
      generalize hs : L.foldl (wK (m.2.2.1 28)) (wO m 0, 0) = s at hK hd ⊢
      show f_X9_worked_L14_b n a (f_X9_worked_L14 n a k') 0 (nn s.2) (nn L.length) (mH a s.1 h) = _
      unfold f_X9_worked_L14_b
      have e15 : s.1.2.2.1 15 0 = nn L.length := by rw [hK.1 15 (by decide)]; exact h2
      refine st_bind mr_23 ?_
      refine st_bind (mH_aI (by decide) (by decide)) ?_
      refine st_neg _ (by show ¬ nn L.length < s.1.2.2.1 15 0; rw [e15, nn_lt (by omega) (by omega)]; omega) ?_
      simp (disch := first | decide | omega | (refine inb_nn ?_ ?_ <;> first | decide | (simp only [ml_1, ml_2, ml_3, ml_4, ml_5, ml_6, ml_7, ml_8, ml_9, ml_10, ml_11, ml_12, ml_13, ml_14, ml_15, ml_16, ml_17, ml_18, ml_19, ml_20, ml_21, ml_22, ml_23, ml_24, ml_25, ml_26, ml_27, ml_28, ml_29, ml_30, ml_31, ml_32, ml_33, ml_34, ml_35, ml_36, ml_37, ml_38, ml_39, ml_40, ml_41, ml_42, ml_43, ml_44, ml_45, ml_46, ml_47, ml_48, ml_49, ml_50]; omega))) only [bN, bT, Option.bind_some, zlet, mH_rc, mH_fI, mH_fJ, mH_aI, mH_aZ, mH_aJ, mH_as, mH_asZ, mH_asJ, mH_pI, mH_pJ, lit_add, add_lit, lit_mul, nn_add, nn_mul, nn_nat, Int32.reduceToNatClampNeg, mr_2, mr_10, mr_11, mr_12, mr_13, mr_14, mr_15, mr_16, mr_17, mr_18, mr_19, mr_20, mr_21, mr_22, mr_23, mr_24, mr_27, mr_28, mr_29, mr_30, mr_31, mr_32, mr_33, mr_34, mr_35, mr_36, mr_37, mr_38, mr_41, mr_42, mr_43, mr_44, mr_45, mr_46, mr_47, mr_48, mr_49, mr_50, mr_51, mr_52, mr_53, mr_54, mr_57, mr_58, mr_59, mr_61, mr_62, mr_63, mr_65, mr_67, show f_X9_tests n a 0 (mH a s.1 h) = _ from x9_tests (d := 0) (by decide)]
      have := h6.2.2 (m.2.2.1 28) m
      rw [hs] at this
      rw [this]
    | succ j ih =>
      intro i k hij hk
      obtain ⟨k', rfl⟩ : ∃ k', k = k' + 1 := ⟨k - 1, by omega⟩
      have hi : i < L.length := by omega
      have hK : Kp wSc m ((L.take i).foldl (wK (m.2.2.1 28)) (wO m 0, 0)).1 := wF_kp (s := (wO m 0, 0)) (wO_kp (Kp.refl _ _))
      have hd := h6.1 i (by omega) (m.2.2.1 28) m
      have hgi : L[i]? = some L[i] := List.getElem?_eq_getElem hi
      have h29 := h6.2.1 i (m.2.2.1 28) m
      have hxe : L.getD i 0 = L[i] := by rw [List.getD_eq_getElem?_getD, hgi]; rfl
      have hx := h5 L[i] (List.getElem_mem hi)
      have nxt := ih (i + 1) k' (by omega) (by omega)
      rw [List.take_succ, hgi, Option.toList_some, List.foldl_append] at nxt
      generalize hs : (L.take i).foldl (wK (m.2.2.1 28)) (wO m 0, 0) = s at hK hd h29 nxt ⊢
      show f_X9_worked_L14_b n a (f_X9_worked_L14 n a k') 0 (nn s.2) (nn i) (mH a s.1 h) = _
      have e28 : s.1.2.2.1 28 = m.2.2.1 28 := hK.1 28 (by decide)
      rw [x9_wK (x := L[i]) (by omega) hd (fun e => h29 (by rw [hgi, e])) hx (by omega) (by rw [hK.1 16 (by decide), h4 i hi, hxe]) (by rw [hK.1 15 (by decide)]; exact h2) (by omega) hi, e28]
      exact nxt
  refine ⟨_, ?_, wT_kp (d := 0) (wF_kp (L := L) (vals := m.2.2.1 28) (s := (wO m 0, 0)) (wO_kp (Kp.refl _ m)))⟩
  unfold f_X9_worked
  have e14 : (wO m 0).2.2.1 14 0 = nn 0 := by rw [(wO_kp (d := 0) (Kp.refl wSc m)).1 14 (by decide)]; exact h1
  simp (disch := first | decide | omega | (refine inb_nn ?_ ?_ <;> first | decide | (simp only [ml_1, ml_2, ml_3, ml_4, ml_5, ml_6, ml_7, ml_8, ml_9, ml_10, ml_11, ml_12, ml_13, ml_14, ml_15, ml_16, ml_17, ml_18, ml_19, ml_20, ml_21, ml_22, ml_23, ml_24, ml_25, ml_26, ml_27, ml_28, ml_29, ml_30, ml_31, ml_32, ml_33, ml_34, ml_35, ml_36, ml_37, ml_38, ml_39, ml_40, ml_41, ml_42, ml_43, ml_44, ml_45, ml_46, ml_47, ml_48, ml_49, ml_50]; omega))) only [bN, bT, Option.bind_some, zlet, mH_rc, mH_fI, mH_fJ, mH_aI, mH_aZ, mH_aJ, mH_as, mH_asZ, mH_asJ, mH_pI, mH_pJ, lit_add, add_lit, lit_mul, nn_add, nn_mul, nn_nat, Int32.reduceToNatClampNeg, mr_2, mr_10, mr_11, mr_12, mr_13, mr_14, mr_15, mr_16, mr_17, mr_18, mr_19, mr_20, mr_21, mr_22, mr_23, mr_24, mr_27, mr_28, mr_29, mr_30, mr_31, mr_32, mr_33, mr_34, mr_35, mr_36, mr_37, mr_38, mr_41, mr_42, mr_43, mr_44, mr_45, mr_46, mr_47, mr_48, mr_49, mr_50, mr_51, mr_52, mr_53, mr_54, mr_57, mr_58, mr_59, mr_61, mr_62, mr_63, mr_65, mr_67, show f_X9_opens n a 0 (mH a m h) = _ from x9_opens (d := 0) (by decide), e14]
  exact loop L.length 0 n (by omega) (by omega)
end MWK
