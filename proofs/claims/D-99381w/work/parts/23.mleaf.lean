/-! ===== the model: a camp, leaves ===== -/
theorem j5_abs {n i j : Nat} {h : zHp} (hi : i < 1000000000) (hj : j < 1000000000) : f_J5_abs n (nn i - nn j) h = some (nn (adf i j), h) := by
  unfold f_J5_abs adf
  simp only [nn_sub_neg hi hj]
  by_cases hl : i < j
  · rw [if_pos hl, nn_neg_sub, nn_sub_ge (by omega), show i - j + (j - i) = j - i by omega]
  · rw [if_neg hl, nn_sub_ge (by omega), show i - j + (j - i) = i - j by omega]
/-! the law of hearing, worked out code by code -/
def wO (m : mS) (d : Nat) : mS := mA (mA (mA (mA (mA m 20 d 0) 22 d 0) 23 d 0) 24 d 20) 26 d 0
def wS (m : mS) (d : Nat) : mS := mA (mA m 23 d (if m.2.2.1 24 d = 21 then m.2.2.1 23 d - m.2.2.1 25 d else m.2.2.1 23 d + m.2.2.1 25 d)) 26 d 0
def wV (m : mS) (d : Nat) : Int32 :=
  let v0 := m.2.2.1 23 d
  let v1 := if m.2.2.1 22 d = 24 then (if m.2.2.1 21 d < m.2.2.1 23 d then 1 else 0) else v0
  let v2 := if m.2.2.1 22 d = 25 then (if m.2.2.1 21 d = m.2.2.1 23 d then 1 else 0) else v1
  let v3 := if m.2.2.1 20 d = 26 then (if m.2.2.1 19 d = 0 then 0 else if v2 = 0 then 0 else 1) else v2
  if m.2.2.1 20 d = 27 then (if m.2.2.1 19 d = 0 then (if v3 = 0 then 0 else 1) else 1) else v3
def wT (m : mS) (d : Nat) : mS := mA (mA (mA (mA (wS m d) 19 d (wV (wS m d) d)) 22 d 0) 23 d 0) 24 d 20
/-- a value is there: through the nots, into the term -/
def wD (m : mS) : Nat → Int32 → mS × Nat
  | 0, v => (mA m 25 0 (if m.2.2.1 26 0 = 0 then v else m.2.2.1 25 0 * v), 0)
  | d + 1, v => if m.2.2.1 27 (d + 1) = 1 then wD m d (if v = 0 then 1 else 0) else (mA m 25 (d + 1) (if m.2.2.1 26 (d + 1) = 0 then v else m.2.2.1 25 (d + 1) * v), d + 1)
def wK (vals : Nat → Int32) (s : mS × Nat) (c : Nat) : mS × Nat :=
  if c = 28 ∨ c = 30 then (wO (mA s.1 27 (s.2 + 1) (if c = 30 then 1 else 0)) (s.2 + 1), s.2 + 1)
  else if c = 20 ∨ c = 21 then (mA (wS s.1 s.2) 24 s.2 (nn c), s.2)
  else if c = 22 then (mA s.1 26 s.2 (nn c), s.2)
  else if c = 24 ∨ c = 25 then (mA (mA (mA (mA (wS s.1 s.2) 21 s.2 ((wS s.1 s.2).2.2.1 23 s.2)) 22 s.2 (nn c)) 23 s.2 0) 24 s.2 20, s.2)
  else if c = 26 ∨ c = 27 then (mA (wT s.1 s.2) 20 s.2 (nn c), s.2)
  else if c = 29 then wD (wT s.1 s.2) (s.2 - 1) ((wT s.1 s.2).2.2.1 19 s.2)
  else wD s.1 s.2 (if c < 100 then (if c < 20 then vals c else 0) else nn (c - 100))
def wkOk (L : List Nat) (E : Ex) : Prop := (∀ k, k ≤ L.length → ∀ vals m, ((L.take k).foldl (wK vals) (wO m 0, 0)).2 ≤ 5) ∧ (∀ k vals m, L[k]? = some 29 → 1 ≤ ((L.take k).foldl (wK vals) (wO m 0, 0)).2) ∧ ∀ vals m, (wT (L.foldl (wK vals) (wO m 0, 0)).1 0).2.2.1 19 0 = E vals
def mCa (m : mS) (c : Cp) : Prop :=
  (m.2.2.1 2 0 = nn (cw c) ∧ m.2.2.1 2 1 = nn (chi c) ∧ m.2.2.1 2 2 = nn (cnp c) ∧ m.2.2.1 2 3 = nn (cns c) ∧ m.2.2.1 2 4 = nn (cnw c)) ∧
  (∀ p, p < cnp c → m.2.2.1 5 p = nn (ckd c p) ∧ m.2.2.1 6 p = nn (ctl c p) ∧ m.2.2.1 7 p = nn (cea c p) ∧ m.2.2.1 8 p = nn (cmk c p) ∧ m.2.2.1 9 p = nn (cwl c p) ∧ ∀ i, i < cwl c p → m.2.2.1 10 (8 * p + i) = nn (cwy c p i)) ∧
  (∀ s, s < cns c → m.2.2.1 11 s = nn (csa c s)) ∧ (∀ i, i < cnw c → m.2.2.1 12 i = nn (cwi c i)) ∧
  (∀ q, q < 36 → (zshrJ (m.2.2.2 13 0) (nn q) &&& 1 = 1) = (cbu c q = true)) ∧
  m.2.2.1 14 0 = 0 ∧ ∃ L : List Nat, m.2.2.1 15 0 = nn L.length ∧ L.length ≤ 1000 ∧ (∀ i, i < L.length → m.2.2.1 16 i = nn (L.getD i 0)) ∧ (∀ x ∈ L, x < 20000) ∧ (cex c = none → L = []) ∧ ∀ E, cex c = some E → L ≠ [] ∧ wkOk L E
def oi : Option Nat → Int32
  | some y => nn y
  | none => -1
def beyI (W H X D : Int32) : Int32 :=
  let x7 := zrem X W + (if D = 1 then 1 else if D = 3 then -1 else 0)
  let x14 := X / W + (if D = 2 then 1 else if D = 4 then -1 else 0)
  if (if x7 < 0 then (0 : Int32) else if W - 1 < x7 then 0 else 1) = 0 then -1 else if (if x14 < 0 then (0 : Int32) else if H - 1 < x14 then 0 else 1) = 0 then -1 else W * x14 + x7
theorem bey_tab0 : ((List.range 7).all fun w => (List.range 7).all fun hi => (List.range 36).all fun x => (List.range 5).all fun d => (w < 2 || hi < 2 || w * hi ≤ x || beyI (nn w) (nn hi) (nn x) (nn d) == oi (beyw w hi x d))) = true := by decide +kernel
theorem all_range {n : Nat} {f : Nat → Bool} (h : (List.range n).all f = true) {k : Nat} (hk : k < n) : f k = true := List.all_eq_true.mp h k (List.mem_range.mpr hk)
theorem bey_tab {w hi x d : Nat} (h1 : w < 7) (h2 : hi < 7) (h3 : x < 36) (h4 : d < 5) (h5 : 2 ≤ w) (h6 : 2 ≤ hi) (h7 : x < w * hi) : beyI (nn w) (nn hi) (nn x) (nn d) = oi (beyw w hi x d) := by
  have h := all_range (all_range (all_range (all_range bey_tab0 h1) h2) h3) h4
  simp only [Bool.or_eq_true, decide_eq_true_eq, beq_iff_eq] at h
  rcases h with ((h | h) | h) | h
  · omega
  · omega
  · omega
  · exact h
section MLF
variable {n a : Nat} {m : mS} {h : zHp} {c : Cp}
theorem x9_isUsual {p : Int32} : f_X9_isUsual n a p (mH a m h) = some ((if (zshr (m.2.2.1 37 1) p &&& 1) = 1 then 1 else 0), mH a m h) := by
  unfold f_X9_isUsual
  simp (disch := first | decide | omega | (refine inb_nn ?_ ?_ <;> first | decide | (simp only [ml_1, ml_2, ml_3, ml_4, ml_5, ml_6, ml_7, ml_8, ml_9, ml_10, ml_11, ml_12, ml_13, ml_14, ml_15, ml_16, ml_17, ml_18, ml_19, ml_20, ml_21, ml_22, ml_23, ml_24, ml_25, ml_26, ml_27, ml_28, ml_29, ml_30, ml_31, ml_32, ml_33, ml_34, ml_35, ml_36, ml_37, ml_38, ml_39, ml_40, ml_41, ml_42, ml_43, ml_44, ml_45, ml_46, ml_47, ml_48, ml_49, ml_50]; omega))) only [bN, bT, Option.bind_some, zlet, mH_rc, mH_fI, mH_fJ, mH_aI, mH_aZ, mH_aJ, mH_as, mH_asZ, mH_asJ, mH_pI, mH_pJ, lit_add, add_lit, lit_mul, nn_add, nn_mul, nn_nat, Int32.reduceToNatClampNeg, mr_2, mr_10, mr_11, mr_12, mr_13, mr_14, mr_15, mr_16, mr_17, mr_18, mr_19, mr_20, mr_21, mr_22, mr_23, mr_24, mr_27, mr_28, mr_29, mr_30, mr_31, mr_32, mr_33, mr_34, mr_35, mr_36, mr_37, mr_38, mr_41, mr_42, mr_43, mr_44, mr_45, mr_46, mr_47, mr_48, mr_49, mr_50, mr_51, mr_52, mr_53, mr_54, mr_57, mr_58, mr_59, mr_61, mr_62, mr_63, mr_65, mr_67]
theorem x9_isOff {p : Int32} : f_X9_isOff n a p (mH a m h) = some ((if (zshr (m.2.2.1 37 3) p &&& 1) = 1 then 1 else 0), mH a m h) := by
  unfold f_X9_isOff
  simp (disch := first | decide | omega | (refine inb_nn ?_ ?_ <;> first | decide | (simp only [ml_1, ml_2, ml_3, ml_4, ml_5, ml_6, ml_7, ml_8, ml_9, ml_10, ml_11, ml_12, ml_13, ml_14, ml_15, ml_16, ml_17, ml_18, ml_19, ml_20, ml_21, ml_22, ml_23, ml_24, ml_25, ml_26, ml_27, ml_28, ml_29, ml_30, ml_31, ml_32, ml_33, ml_34, ml_35, ml_36, ml_37, ml_38, ml_39, ml_40, ml_41, ml_42, ml_43, ml_44, ml_45, ml_46, ml_47, ml_48, ml_49, ml_50]; omega))) only [bN, bT, Option.bind_some, zlet, mH_rc, mH_fI, mH_fJ, mH_aI, mH_aZ, mH_aJ, mH_as, mH_asZ, mH_asJ, mH_pI, mH_pJ, lit_add, add_lit, lit_mul, nn_add, nn_mul, nn_nat, Int32.reduceToNatClampNeg, mr_2, mr_10, mr_11, mr_12, mr_13, mr_14, mr_15, mr_16, mr_17, mr_18, mr_19, mr_20, mr_21, mr_22, mr_23, mr_24, mr_27, mr_28, mr_29, mr_30, mr_31, mr_32, mr_33, mr_34, mr_35, mr_36, mr_37, mr_38, mr_41, mr_42, mr_43, mr_44, mr_45, mr_46, mr_47, mr_48, mr_49, mr_50, mr_51, mr_52, mr_53, mr_54, mr_57, mr_58, mr_59, mr_61, mr_62, mr_63, mr_65, mr_67]
theorem x9_hasCrept {p : Int32} : f_X9_hasCrept n a p (mH a m h) = some ((if (zshr (m.2.2.1 37 2) p &&& 1) = 1 then 1 else 0), mH a m h) := by
  unfold f_X9_hasCrept
  simp (disch := first | decide | omega | (refine inb_nn ?_ ?_ <;> first | decide | (simp only [ml_1, ml_2, ml_3, ml_4, ml_5, ml_6, ml_7, ml_8, ml_9, ml_10, ml_11, ml_12, ml_13, ml_14, ml_15, ml_16, ml_17, ml_18, ml_19, ml_20, ml_21, ml_22, ml_23, ml_24, ml_25, ml_26, ml_27, ml_28, ml_29, ml_30, ml_31, ml_32, ml_33, ml_34, ml_35, ml_36, ml_37, ml_38, ml_39, ml_40, ml_41, ml_42, ml_43, ml_44, ml_45, ml_46, ml_47, ml_48, ml_49, ml_50]; omega))) only [bN, bT, Option.bind_some, zlet, mH_rc, mH_fI, mH_fJ, mH_aI, mH_aZ, mH_aJ, mH_as, mH_asZ, mH_asJ, mH_pI, mH_pJ, lit_add, add_lit, lit_mul, nn_add, nn_mul, nn_nat, Int32.reduceToNatClampNeg, mr_2, mr_10, mr_11, mr_12, mr_13, mr_14, mr_15, mr_16, mr_17, mr_18, mr_19, mr_20, mr_21, mr_22, mr_23, mr_24, mr_27, mr_28, mr_29, mr_30, mr_31, mr_32, mr_33, mr_34, mr_35, mr_36, mr_37, mr_38, mr_41, mr_42, mr_43, mr_44, mr_45, mr_46, mr_47, mr_48, mr_49, mr_50, mr_51, mr_52, mr_53, mr_54, mr_57, mr_58, mr_59, mr_61, mr_62, mr_63, mr_65, mr_67]
theorem x9_cells (hm : mCa m c) : f_X9_cells n a (mH a m h) = some (nn (cn c), mH a m h) := by
  unfold f_X9_cells
  simp (disch := first | decide | omega | (refine inb_nn ?_ ?_ <;> first | decide | (simp only [ml_1, ml_2, ml_3, ml_4, ml_5, ml_6, ml_7, ml_8, ml_9, ml_10, ml_11, ml_12, ml_13, ml_14, ml_15, ml_16, ml_17, ml_18, ml_19, ml_20, ml_21, ml_22, ml_23, ml_24, ml_25, ml_26, ml_27, ml_28, ml_29, ml_30, ml_31, ml_32, ml_33, ml_34, ml_35, ml_36, ml_37, ml_38, ml_39, ml_40, ml_41, ml_42, ml_43, ml_44, ml_45, ml_46, ml_47, ml_48, ml_49, ml_50]; omega))) only [bN, bT, Option.bind_some, zlet, mH_rc, mH_fI, mH_fJ, mH_aI, mH_aZ, mH_aJ, mH_as, mH_asZ, mH_asJ, mH_pI, mH_pJ, lit_add, add_lit, lit_mul, nn_add, nn_mul, nn_nat, Int32.reduceToNatClampNeg, mr_2, mr_10, mr_11, mr_12, mr_13, mr_14, mr_15, mr_16, mr_17, mr_18, mr_19, mr_20, mr_21, mr_22, mr_23, mr_24, mr_27, mr_28, mr_29, mr_30, mr_31, mr_32, mr_33, mr_34, mr_35, mr_36, mr_37, mr_38, mr_41, mr_42, mr_43, mr_44, mr_45, mr_46, mr_47, mr_48, mr_49, mr_50, mr_51, mr_52, mr_53, mr_54, mr_57, mr_58, mr_59, mr_61, mr_62, mr_63, mr_65, mr_67, hm.1.1, hm.1.2.1]
  rfl
theorem x9_within {v l u : Int32} {h : zHp} : f_X9_within n v l u h = some ((if v < l then 0 else if u < v then 0 else 1), h) := rfl
theorem lg_eq {x y : Int64} : (lg_cmp x y = 0) = (x = y) := propext (lg_cmp_eq x y)
theorem x9_farFrom (hc : cok c) (hm : mCa m c) {x y : Nat} (hx : x < 1000) (hy : y < 1000) : f_X9_farFrom n a (nn x) (nn y) (mH a m h) = some (nn (far c x y), mH a m h) := by
  have h1 := hc.1.1
  have h2 := hc.1.2.1
  have hx2 : x % cw c < 1000 := Nat.lt_of_le_of_lt (Nat.mod_le _ _) hx
  have hy2 : y % cw c < 1000 := Nat.lt_of_le_of_lt (Nat.mod_le _ _) hy
  have hx3 : x / cw c < 1000 := Nat.lt_of_le_of_lt (Nat.div_le_self _ _) hx
  have hy3 : y / cw c < 1000 := Nat.lt_of_le_of_lt (Nat.div_le_self _ _) hy
  unfold f_X9_farFrom far
  simp (disch := first | decide | omega | (refine inb_nn ?_ ?_ <;> first | decide | (simp only [ml_1, ml_2, ml_3, ml_4, ml_5, ml_6, ml_7, ml_8, ml_9, ml_10, ml_11, ml_12, ml_13, ml_14, ml_15, ml_16, ml_17, ml_18, ml_19, ml_20, ml_21, ml_22, ml_23, ml_24, ml_25, ml_26, ml_27, ml_28, ml_29, ml_30, ml_31, ml_32, ml_33, ml_34, ml_35, ml_36, ml_37, ml_38, ml_39, ml_40, ml_41, ml_42, ml_43, ml_44, ml_45, ml_46, ml_47, ml_48, ml_49, ml_50]; omega))) only [bN, bT, Option.bind_some, zlet, mH_rc, mH_fI, mH_fJ, mH_aI, mH_aZ, mH_aJ, mH_as, mH_asZ, mH_asJ, mH_pI, mH_pJ, lit_add, add_lit, lit_mul, nn_add, nn_mul, nn_nat, Int32.reduceToNatClampNeg, mr_2, mr_10, mr_11, mr_12, mr_13, mr_14, mr_15, mr_16, mr_17, mr_18, mr_19, mr_20, mr_21, mr_22, mr_23, mr_24, mr_27, mr_28, mr_29, mr_30, mr_31, mr_32, mr_33, mr_34, mr_35, mr_36, mr_37, mr_38, mr_41, mr_42, mr_43, mr_44, mr_45, mr_46, mr_47, mr_48, mr_49, mr_50, mr_51, mr_52, mr_53, mr_54, mr_57, mr_58, mr_59, mr_61, mr_62, mr_63, mr_65, mr_67, hm.1.1, nn_eq0, show (cw c = 0) = False by simp; omega, if_false, nn_rem, nn_div, j5_abs]
theorem x9_beyond (hc : cok c) (hm : mCa m c) {x d : Nat} (hx : x < cn c) (hd : d < 5) : f_X9_beyond n a (nn x) (nn d) (mH a m h) = some (oi (bey c x d), mH a m h) := by
  have h1 := hc.1.1
  have h2 := hc.1.2.1
  have h3 := hc.n36
  unfold bey
  rw [← bey_tab (show cw c < 7 by omega) (show chi c < 7 by have := hc.1.2.2.2; omega) (show x < 36 by omega) hd hc.1.1 hc.1.2.2.1 hx]
  unfold f_X9_beyond beyI
  simp (disch := first | decide | omega | (refine inb_nn ?_ ?_ <;> first | decide | (simp only [ml_1, ml_2, ml_3, ml_4, ml_5, ml_6, ml_7, ml_8, ml_9, ml_10, ml_11, ml_12, ml_13, ml_14, ml_15, ml_16, ml_17, ml_18, ml_19, ml_20, ml_21, ml_22, ml_23, ml_24, ml_25, ml_26, ml_27, ml_28, ml_29, ml_30, ml_31, ml_32, ml_33, ml_34, ml_35, ml_36, ml_37, ml_38, ml_39, ml_40, ml_41, ml_42, ml_43, ml_44, ml_45, ml_46, ml_47, ml_48, ml_49, ml_50]; omega))) only [bN, bT, Option.bind_some, mH_rc, mH_fI, mH_fJ, mH_aI, mH_aZ, mH_aJ, mH_as, mH_asZ, mH_asJ, mH_pI, mH_pJ, lit_add, add_lit, lit_mul, nn_add, nn_mul, nn_nat, Int32.reduceToNatClampNeg, mr_2, mr_10, mr_11, mr_12, mr_13, mr_14, mr_15, mr_16, mr_17, mr_18, mr_19, mr_20, mr_21, mr_22, mr_23, mr_24, mr_27, mr_28, mr_29, mr_30, mr_31, mr_32, mr_33, mr_34, mr_35, mr_36, mr_37, mr_38, mr_41, mr_42, mr_43, mr_44, mr_45, mr_46, mr_47, mr_48, mr_49, mr_50, mr_51, mr_52, mr_53, mr_54, mr_57, mr_58, mr_59, mr_61, mr_62, mr_63, mr_65, mr_67, hm.1.1, hm.1.2.1, nn_eq0, show (cw c = 0) = False by simp; omega, if_false, x9_within]
  generalize hE : zrem (nn x) (nn (cw c)) + (if nn d = 1 then 1 else if nn d = 3 then -1 else 0) = x7
  generalize hF : nn x / nn (cw c) + (if nn d = 2 then 1 else if nn d = 4 then -1 else 0) = x14
  unfold zlet
  dsimp only
  generalize hA : (if x7 < 0 then (0 : Int32) else if nn (cw c) - 1 < x7 then 0 else 1) = A
  generalize hB : (if x14 < 0 then (0 : Int32) else if nn (chi c) - 1 < x14 then 0 else 1) = B
  split
  · rfl
  · split
    · rfl
    · rfl
theorem oi_neg {o : Option Nat} (h : ∀ y, o = some y → y < 1000) : (oi o < 0) = (o = none) := by
  cases o with
  | none => simp [oi]
  | some y =>
    have := h y rfl
    simp only [oi, nn_neg (show y < 2147483648 by omega)]
    simp
theorem x9_walked (hc : cok c) (hm : mCa m c) {p x t : Nat} (hp : p < cnp c) (hx : x < cn c) (ht : t < 1000000) : f_X9_walked n a (nn p) (nn x) (nn t) (mH a m h) = some (nn (walk1 c p x t), mH a m h) := by
  have hp5 := hc.2.1.1
  obtain ⟨k1, k2, k3, k4, k5, k6⟩ := hc.2.2.1 p hp
  obtain ⟨e1, e2, e3, e4, e5, e6⟩ := hm.2.1 p hp
  have hmod : t % cwl c p < cwl c p := Nat.mod_lt _ (by omega)
  have hd := k6 _ hmod
  have h36 := hc.n36
  have b1 : ∀ y, bey c x (cwy c p (t % cwl c p)) = some y → y < cn c := fun y hy => bey_lt hc hx hy
  unfold f_X9_walked walk1
  simp (disch := first | decide | omega | (refine inb_nn ?_ ?_ <;> first | decide | (simp only [ml_1, ml_2, ml_3, ml_4, ml_5, ml_6, ml_7, ml_8, ml_9, ml_10, ml_11, ml_12, ml_13, ml_14, ml_15, ml_16, ml_17, ml_18, ml_19, ml_20, ml_21, ml_22, ml_23, ml_24, ml_25, ml_26, ml_27, ml_28, ml_29, ml_30, ml_31, ml_32, ml_33, ml_34, ml_35, ml_36, ml_37, ml_38, ml_39, ml_40, ml_41, ml_42, ml_43, ml_44, ml_45, ml_46, ml_47, ml_48, ml_49, ml_50]; omega))) only [bN, bT, Option.bind_some, zlet, mH_rc, mH_fI, mH_fJ, mH_aI, mH_aZ, mH_aJ, mH_as, mH_asZ, mH_asJ, mH_pI, mH_pJ, lit_add, add_lit, lit_mul, nn_add, nn_mul, nn_nat, Int32.reduceToNatClampNeg, mr_2, mr_10, mr_11, mr_12, mr_13, mr_14, mr_15, mr_16, mr_17, mr_18, mr_19, mr_20, mr_21, mr_22, mr_23, mr_24, mr_27, mr_28, mr_29, mr_30, mr_31, mr_32, mr_33, mr_34, mr_35, mr_36, mr_37, mr_38, mr_41, mr_42, mr_43, mr_44, mr_45, mr_46, mr_47, mr_48, mr_49, mr_50, mr_51, mr_52, mr_53, mr_54, mr_57, mr_58, mr_59, mr_61, mr_62, mr_63, mr_65, mr_67, e5, nn_eq0, show (cwl c p = 0) = False by simp; omega, if_false, nn_rem, e6 _ hmod]
  by_cases h0 : cwy c p (t % cwl c p) = 0
  · simp only [h0, if_true]
    unfold f_X9_walked_L36 nxt bey beyw
    simp
  · simp only [h0, if_false]
    simp (disch := first | decide | omega | (refine inb_nn ?_ ?_ <;> first | decide | (simp only [ml_1, ml_2, ml_3, ml_4, ml_5, ml_6, ml_7, ml_8, ml_9, ml_10, ml_11, ml_12, ml_13, ml_14, ml_15, ml_16, ml_17, ml_18, ml_19, ml_20, ml_21, ml_22, ml_23, ml_24, ml_25, ml_26, ml_27, ml_28, ml_29, ml_30, ml_31, ml_32, ml_33, ml_34, ml_35, ml_36, ml_37, ml_38, ml_39, ml_40, ml_41, ml_42, ml_43, ml_44, ml_45, ml_46, ml_47, ml_48, ml_49, ml_50]; omega))) only [bN, bT, Option.bind_some, zlet, mH_rc, mH_fI, mH_fJ, mH_aI, mH_aZ, mH_aJ, mH_as, mH_asZ, mH_asJ, mH_pI, mH_pJ, lit_add, add_lit, lit_mul, nn_add, nn_mul, nn_nat, Int32.reduceToNatClampNeg, mr_2, mr_10, mr_11, mr_12, mr_13, mr_14, mr_15, mr_16, mr_17, mr_18, mr_19, mr_20, mr_21, mr_22, mr_23, mr_24, mr_27, mr_28, mr_29, mr_30, mr_31, mr_32, mr_33, mr_34, mr_35, mr_36, mr_37, mr_38, mr_41, mr_42, mr_43, mr_44, mr_45, mr_46, mr_47, mr_48, mr_49, mr_50, mr_51, mr_52, mr_53, mr_54, mr_57, mr_58, mr_59, mr_61, mr_62, mr_63, mr_65, mr_67, x9_beyond hc hm hx (show cwy c p (t % cwl c p) < 5 by omega)]
    unfold f_X9_walked_L36
    simp only [oi_neg (fun y hy => by have := b1 y hy; omega)]
    unfold nxt
    cases hb : bey c x (cwy c p (t % cwl c p)) with
    | none => simp [hb]
    | some y =>
      have hy := b1 y hb
      have b2 : ∀ z, bey c y (cwy c p (t % cwl c p)) = some z → z < cn c := fun z hz => bey_lt hc hy hz
      simp only [oi, reduceCtorEq, if_false, Option.getD_some]
      simp (disch := first | decide | omega | (refine inb_nn ?_ ?_ <;> first | decide | (simp only [ml_1, ml_2, ml_3, ml_4, ml_5, ml_6, ml_7, ml_8, ml_9, ml_10, ml_11, ml_12, ml_13, ml_14, ml_15, ml_16, ml_17, ml_18, ml_19, ml_20, ml_21, ml_22, ml_23, ml_24, ml_25, ml_26, ml_27, ml_28, ml_29, ml_30, ml_31, ml_32, ml_33, ml_34, ml_35, ml_36, ml_37, ml_38, ml_39, ml_40, ml_41, ml_42, ml_43, ml_44, ml_45, ml_46, ml_47, ml_48, ml_49, ml_50]; omega))) only [bN, bT, Option.bind_some, zlet, mH_rc, mH_fI, mH_fJ, mH_aI, mH_aZ, mH_aJ, mH_as, mH_asZ, mH_asJ, mH_pI, mH_pJ, lit_add, add_lit, lit_mul, nn_add, nn_mul, nn_nat, Int32.reduceToNatClampNeg, mr_2, mr_10, mr_11, mr_12, mr_13, mr_14, mr_15, mr_16, mr_17, mr_18, mr_19, mr_20, mr_21, mr_22, mr_23, mr_24, mr_27, mr_28, mr_29, mr_30, mr_31, mr_32, mr_33, mr_34, mr_35, mr_36, mr_37, mr_38, mr_41, mr_42, mr_43, mr_44, mr_45, mr_46, mr_47, mr_48, mr_49, mr_50, mr_51, mr_52, mr_53, mr_54, mr_57, mr_58, mr_59, mr_61, mr_62, mr_63, mr_65, mr_67, e1, nn_eq_lit]
      by_cases hk : ckd c p = 1
      · simp only [hk, if_true]
        simp (disch := first | decide | omega | (refine inb_nn ?_ ?_ <;> first | decide | (simp only [ml_1, ml_2, ml_3, ml_4, ml_5, ml_6, ml_7, ml_8, ml_9, ml_10, ml_11, ml_12, ml_13, ml_14, ml_15, ml_16, ml_17, ml_18, ml_19, ml_20, ml_21, ml_22, ml_23, ml_24, ml_25, ml_26, ml_27, ml_28, ml_29, ml_30, ml_31, ml_32, ml_33, ml_34, ml_35, ml_36, ml_37, ml_38, ml_39, ml_40, ml_41, ml_42, ml_43, ml_44, ml_45, ml_46, ml_47, ml_48, ml_49, ml_50]; omega))) only [bN, bT, Option.bind_some, zlet, mH_rc, mH_fI, mH_fJ, mH_aI, mH_aZ, mH_aJ, mH_as, mH_asZ, mH_asJ, mH_pI, mH_pJ, lit_add, add_lit, lit_mul, nn_add, nn_mul, nn_nat, Int32.reduceToNatClampNeg, mr_2, mr_10, mr_11, mr_12, mr_13, mr_14, mr_15, mr_16, mr_17, mr_18, mr_19, mr_20, mr_21, mr_22, mr_23, mr_24, mr_27, mr_28, mr_29, mr_30, mr_31, mr_32, mr_33, mr_34, mr_35, mr_36, mr_37, mr_38, mr_41, mr_42, mr_43, mr_44, mr_45, mr_46, mr_47, mr_48, mr_49, mr_50, mr_51, mr_52, mr_53, mr_54, mr_57, mr_58, mr_59, mr_61, mr_62, mr_63, mr_65, mr_67, x9_beyond hc hm hy (show cwy c p (t % cwl c p) < 5 by omega)]
        unfold f_X9_walked_L67
        simp only [oi_neg (fun z hz => by have := b2 z hz; omega)]
        cases hb2 : bey c y (cwy c p (t % cwl c p)) with
        | none => simp
        | some z => simp [oi]
      · simp only [hk, if_false]
        unfold f_X9_walked_L67
        simp
theorem x9_windOf (hc : cok c) (hm : mCa m c) {t : Nat} (ht : t < 1000000) : f_X9_windOf n a (nn t) (mH a m h) = some (nn (wnd c t), mH a m h) := by
  have h1 := hc.2.1.2.2
  unfold f_X9_windOf wnd
  simp (disch := first | decide | omega | (refine inb_nn ?_ ?_ <;> first | decide | (simp only [ml_1, ml_2, ml_3, ml_4, ml_5, ml_6, ml_7, ml_8, ml_9, ml_10, ml_11, ml_12, ml_13, ml_14, ml_15, ml_16, ml_17, ml_18, ml_19, ml_20, ml_21, ml_22, ml_23, ml_24, ml_25, ml_26, ml_27, ml_28, ml_29, ml_30, ml_31, ml_32, ml_33, ml_34, ml_35, ml_36, ml_37, ml_38, ml_39, ml_40, ml_41, ml_42, ml_43, ml_44, ml_45, ml_46, ml_47, ml_48, ml_49, ml_50]; omega))) only [bN, bT, Option.bind_some, zlet, mH_rc, mH_fI, mH_fJ, mH_aI, mH_aZ, mH_aJ, mH_as, mH_asZ, mH_asJ, mH_pI, mH_pJ, lit_add, add_lit, lit_mul, nn_add, nn_mul, nn_nat, Int32.reduceToNatClampNeg, mr_2, mr_10, mr_11, mr_12, mr_13, mr_14, mr_15, mr_16, mr_17, mr_18, mr_19, mr_20, mr_21, mr_22, mr_23, mr_24, mr_27, mr_28, mr_29, mr_30, mr_31, mr_32, mr_33, mr_34, mr_35, mr_36, mr_37, mr_38, mr_41, mr_42, mr_43, mr_44, mr_45, mr_46, mr_47, mr_48, mr_49, mr_50, mr_51, mr_52, mr_53, mr_54, mr_57, mr_58, mr_59, mr_61, mr_62, mr_63, mr_65, mr_67, hm.1.2.2.2.2, nn_eq0]
  by_cases h0 : cnw c = 0
  · simp only [h0, if_true]
    rfl
  · simp only [h0, if_false]
    have hmod : t % cnw c < cnw c := Nat.mod_lt _ (by omega)
    simp (disch := first | decide | omega | (refine inb_nn ?_ ?_ <;> first | decide | (simp only [ml_1, ml_2, ml_3, ml_4, ml_5, ml_6, ml_7, ml_8, ml_9, ml_10, ml_11, ml_12, ml_13, ml_14, ml_15, ml_16, ml_17, ml_18, ml_19, ml_20, ml_21, ml_22, ml_23, ml_24, ml_25, ml_26, ml_27, ml_28, ml_29, ml_30, ml_31, ml_32, ml_33, ml_34, ml_35, ml_36, ml_37, ml_38, ml_39, ml_40, ml_41, ml_42, ml_43, ml_44, ml_45, ml_46, ml_47, ml_48, ml_49, ml_50]; omega))) only [bN, bT, Option.bind_some, zlet, mH_rc, mH_fI, mH_fJ, mH_aI, mH_aZ, mH_aJ, mH_as, mH_asZ, mH_asJ, mH_pI, mH_pJ, lit_add, add_lit, lit_mul, nn_add, nn_mul, nn_nat, Int32.reduceToNatClampNeg, mr_2, mr_10, mr_11, mr_12, mr_13, mr_14, mr_15, mr_16, mr_17, mr_18, mr_19, mr_20, mr_21, mr_22, mr_23, mr_24, mr_27, mr_28, mr_29, mr_30, mr_31, mr_32, mr_33, mr_34, mr_35, mr_36, mr_37, mr_38, mr_41, mr_42, mr_43, mr_44, mr_45, mr_46, mr_47, mr_48, mr_49, mr_50, mr_51, mr_52, mr_53, mr_54, mr_57, mr_58, mr_59, mr_61, mr_62, mr_63, mr_65, mr_67, nn_rem, hm.2.2.2.1 _ hmod]
theorem x9_isBush (hm : mCa m c) {q : Nat} (hq : q < 36) : f_X9_isBush n a (nn q) (mH a m h) = some (b2i (cbu c q), mH a m h) := by
  unfold f_X9_isBush
  simp (disch := first | decide | omega | (refine inb_nn ?_ ?_ <;> first | decide | (simp only [ml_1, ml_2, ml_3, ml_4, ml_5, ml_6, ml_7, ml_8, ml_9, ml_10, ml_11, ml_12, ml_13, ml_14, ml_15, ml_16, ml_17, ml_18, ml_19, ml_20, ml_21, ml_22, ml_23, ml_24, ml_25, ml_26, ml_27, ml_28, ml_29, ml_30, ml_31, ml_32, ml_33, ml_34, ml_35, ml_36, ml_37, ml_38, ml_39, ml_40, ml_41, ml_42, ml_43, ml_44, ml_45, ml_46, ml_47, ml_48, ml_49, ml_50]; omega))) only [bN, bT, Option.bind_some, zlet, mH_rc, mH_fI, mH_fJ, mH_aI, mH_aZ, mH_aJ, mH_as, mH_asZ, mH_asJ, mH_pI, mH_pJ, lit_add, add_lit, lit_mul, nn_add, nn_mul, nn_nat, Int32.reduceToNatClampNeg, mr_2, mr_10, mr_11, mr_12, mr_13, mr_14, mr_15, mr_16, mr_17, mr_18, mr_19, mr_20, mr_21, mr_22, mr_23, mr_24, mr_27, mr_28, mr_29, mr_30, mr_31, mr_32, mr_33, mr_34, mr_35, mr_36, mr_37, mr_38, mr_41, mr_42, mr_43, mr_44, mr_45, mr_46, mr_47, mr_48, mr_49, mr_50, mr_51, mr_52, mr_53, mr_54, mr_57, mr_58, mr_59, mr_61, mr_62, mr_63, mr_65, mr_67, lg_eq]
  unfold b2i
  simp only [hm.2.2.2.2.1 q hq]
theorem x9_isUpwind (hc : cok c) (hm : mCa m c) {x y b : Nat} (hx : x < 1000) (hy : y < 1000) (hb : b < 5) : f_X9_isUpwind n a (nn x) (nn y) (nn b) (mH a m h) = some (b2i (upw c x y b), mH a m h) := by
  have h1 := hc.1.1
  have h2 := hc.1.2.1
  have hx2 : x % cw c < 1000 := Nat.lt_of_le_of_lt (Nat.mod_le _ _) hx
  have hy2 : y % cw c < 1000 := Nat.lt_of_le_of_lt (Nat.mod_le _ _) hy
  have hx3 : x / cw c < 1000 := Nat.lt_of_le_of_lt (Nat.div_le_self _ _) hx
  have hy3 : y / cw c < 1000 := Nat.lt_of_le_of_lt (Nat.div_le_self _ _) hy
  unfold f_X9_isUpwind upw b2i
  simp (disch := first | decide | omega | (refine inb_nn ?_ ?_ <;> first | decide | (simp only [ml_1, ml_2, ml_3, ml_4, ml_5, ml_6, ml_7, ml_8, ml_9, ml_10, ml_11, ml_12, ml_13, ml_14, ml_15, ml_16, ml_17, ml_18, ml_19, ml_20, ml_21, ml_22, ml_23, ml_24, ml_25, ml_26, ml_27, ml_28, ml_29, ml_30, ml_31, ml_32, ml_33, ml_34, ml_35, ml_36, ml_37, ml_38, ml_39, ml_40, ml_41, ml_42, ml_43, ml_44, ml_45, ml_46, ml_47, ml_48, ml_49, ml_50]; omega))) only [bN, bT, Option.bind_some, zlet, mH_rc, mH_fI, mH_fJ, mH_aI, mH_aZ, mH_aJ, mH_as, mH_asZ, mH_asJ, mH_pI, mH_pJ, lit_add, add_lit, lit_mul, nn_add, nn_mul, nn_nat, Int32.reduceToNatClampNeg, mr_2, mr_10, mr_11, mr_12, mr_13, mr_14, mr_15, mr_16, mr_17, mr_18, mr_19, mr_20, mr_21, mr_22, mr_23, mr_24, mr_27, mr_28, mr_29, mr_30, mr_31, mr_32, mr_33, mr_34, mr_35, mr_36, mr_37, mr_38, mr_41, mr_42, mr_43, mr_44, mr_45, mr_46, mr_47, mr_48, mr_49, mr_50, mr_51, mr_52, mr_53, mr_54, mr_57, mr_58, mr_59, mr_61, mr_62, mr_63, mr_65, mr_67, hm.1.1, nn_eq0, show (cw c = 0) = False by simp; omega, if_false, nn_rem, nn_div, nn_sub_pos, nn_sub_neg, nn_eq_lit]
  rcases (show b = 0 ∨ b = 1 ∨ b = 2 ∨ b = 3 ∨ b = 4 by omega) with rfl | rfl | rfl | rfl | rfl <;> simp <;> (repeat' split) <;> first | rfl | omega
theorem x9_opens {d : Nat} (hd : d < 7) : f_X9_opens n a (nn d) (mH a m h) = some ((), mH a (wO m d) h) := by
  unfold f_X9_opens wO
  simp (disch := first | decide | omega | (refine inb_nn ?_ ?_ <;> first | decide | (simp only [ml_1, ml_2, ml_3, ml_4, ml_5, ml_6, ml_7, ml_8, ml_9, ml_10, ml_11, ml_12, ml_13, ml_14, ml_15, ml_16, ml_17, ml_18, ml_19, ml_20, ml_21, ml_22, ml_23, ml_24, ml_25, ml_26, ml_27, ml_28, ml_29, ml_30, ml_31, ml_32, ml_33, ml_34, ml_35, ml_36, ml_37, ml_38, ml_39, ml_40, ml_41, ml_42, ml_43, ml_44, ml_45, ml_46, ml_47, ml_48, ml_49, ml_50]; omega))) only [bN, bT, Option.bind_some, zlet, mH_rc, mH_fI, mH_fJ, mH_aI, mH_aZ, mH_aJ, mH_as, mH_asZ, mH_asJ, mH_pI, mH_pJ, lit_add, add_lit, lit_mul, nn_add, nn_mul, nn_nat, Int32.reduceToNatClampNeg, mr_2, mr_10, mr_11, mr_12, mr_13, mr_14, mr_15, mr_16, mr_17, mr_18, mr_19, mr_20, mr_21, mr_22, mr_23, mr_24, mr_27, mr_28, mr_29, mr_30, mr_31, mr_32, mr_33, mr_34, mr_35, mr_36, mr_37, mr_38, mr_41, mr_42, mr_43, mr_44, mr_45, mr_46, mr_47, mr_48, mr_49, mr_50, mr_51, mr_52, mr_53, mr_54, mr_57, mr_58, mr_59, mr_61, mr_62, mr_63, mr_65, mr_67]
theorem x9_sums {d : Nat} (hd : d < 7) : f_X9_sums n a (nn d) (mH a m h) = some ((), mH a (wS m d) h) := by
  unfold f_X9_sums f_X9_sums_L45 wS
  simp (disch := first | decide | omega | (refine inb_nn ?_ ?_ <;> first | decide | (simp only [ml_1, ml_2, ml_3, ml_4, ml_5, ml_6, ml_7, ml_8, ml_9, ml_10, ml_11, ml_12, ml_13, ml_14, ml_15, ml_16, ml_17, ml_18, ml_19, ml_20, ml_21, ml_22, ml_23, ml_24, ml_25, ml_26, ml_27, ml_28, ml_29, ml_30, ml_31, ml_32, ml_33, ml_34, ml_35, ml_36, ml_37, ml_38, ml_39, ml_40, ml_41, ml_42, ml_43, ml_44, ml_45, ml_46, ml_47, ml_48, ml_49, ml_50]; omega))) only [bN, bT, Option.bind_some, zlet, mH_rc, mH_fI, mH_fJ, mH_aI, mH_aZ, mH_aJ, mH_as, mH_asZ, mH_asJ, mH_pI, mH_pJ, lit_add, add_lit, lit_mul, nn_add, nn_mul, nn_nat, Int32.reduceToNatClampNeg, mr_2, mr_10, mr_11, mr_12, mr_13, mr_14, mr_15, mr_16, mr_17, mr_18, mr_19, mr_20, mr_21, mr_22, mr_23, mr_24, mr_27, mr_28, mr_29, mr_30, mr_31, mr_32, mr_33, mr_34, mr_35, mr_36, mr_37, mr_38, mr_41, mr_42, mr_43, mr_44, mr_45, mr_46, mr_47, mr_48, mr_49, mr_50, mr_51, mr_52, mr_53, mr_54, mr_57, mr_58, mr_59, mr_61, mr_62, mr_63, mr_65, mr_67]
  split
  · simp (disch := first | decide | omega | (refine inb_nn ?_ ?_ <;> first | decide | (simp only [ml_1, ml_2, ml_3, ml_4, ml_5, ml_6, ml_7, ml_8, ml_9, ml_10, ml_11, ml_12, ml_13, ml_14, ml_15, ml_16, ml_17, ml_18, ml_19, ml_20, ml_21, ml_22, ml_23, ml_24, ml_25, ml_26, ml_27, ml_28, ml_29, ml_30, ml_31, ml_32, ml_33, ml_34, ml_35, ml_36, ml_37, ml_38, ml_39, ml_40, ml_41, ml_42, ml_43, ml_44, ml_45, ml_46, ml_47, ml_48, ml_49, ml_50]; omega))) only [bN, bT, Option.bind_some, zlet, mH_rc, mH_fI, mH_fJ, mH_aI, mH_aZ, mH_aJ, mH_as, mH_asZ, mH_asJ, mH_pI, mH_pJ, lit_add, add_lit, lit_mul, nn_add, nn_mul, nn_nat, Int32.reduceToNatClampNeg, mr_2, mr_10, mr_11, mr_12, mr_13, mr_14, mr_15, mr_16, mr_17, mr_18, mr_19, mr_20, mr_21, mr_22, mr_23, mr_24, mr_27, mr_28, mr_29, mr_30, mr_31, mr_32, mr_33, mr_34, mr_35, mr_36, mr_37, mr_38, mr_41, mr_42, mr_43, mr_44, mr_45, mr_46, mr_47, mr_48, mr_49, mr_50, mr_51, mr_52, mr_53, mr_54, mr_57, mr_58, mr_59, mr_61, mr_62, mr_63, mr_65, mr_67]
  · simp (disch := first | decide | omega | (refine inb_nn ?_ ?_ <;> first | decide | (simp only [ml_1, ml_2, ml_3, ml_4, ml_5, ml_6, ml_7, ml_8, ml_9, ml_10, ml_11, ml_12, ml_13, ml_14, ml_15, ml_16, ml_17, ml_18, ml_19, ml_20, ml_21, ml_22, ml_23, ml_24, ml_25, ml_26, ml_27, ml_28, ml_29, ml_30, ml_31, ml_32, ml_33, ml_34, ml_35, ml_36, ml_37, ml_38, ml_39, ml_40, ml_41, ml_42, ml_43, ml_44, ml_45, ml_46, ml_47, ml_48, ml_49, ml_50]; omega))) only [bN, bT, Option.bind_some, zlet, mH_rc, mH_fI, mH_fJ, mH_aI, mH_aZ, mH_aJ, mH_as, mH_asZ, mH_asJ, mH_pI, mH_pJ, lit_add, add_lit, lit_mul, nn_add, nn_mul, nn_nat, Int32.reduceToNatClampNeg, mr_2, mr_10, mr_11, mr_12, mr_13, mr_14, mr_15, mr_16, mr_17, mr_18, mr_19, mr_20, mr_21, mr_22, mr_23, mr_24, mr_27, mr_28, mr_29, mr_30, mr_31, mr_32, mr_33, mr_34, mr_35, mr_36, mr_37, mr_38, mr_41, mr_42, mr_43, mr_44, mr_45, mr_46, mr_47, mr_48, mr_49, mr_50, mr_51, mr_52, mr_53, mr_54, mr_57, mr_58, mr_59, mr_61, mr_62, mr_63, mr_65, mr_67]
theorem x9_tests {d : Nat} (hd : d < 7) : f_X9_tests n a (nn d) (mH a m h) = some ((), mH a (wT m d) h) := by
  unfold f_X9_tests wT
  simp (disch := first | decide | omega | (refine inb_nn ?_ ?_ <;> first | decide | (simp only [ml_1, ml_2, ml_3, ml_4, ml_5, ml_6, ml_7, ml_8, ml_9, ml_10, ml_11, ml_12, ml_13, ml_14, ml_15, ml_16, ml_17, ml_18, ml_19, ml_20, ml_21, ml_22, ml_23, ml_24, ml_25, ml_26, ml_27, ml_28, ml_29, ml_30, ml_31, ml_32, ml_33, ml_34, ml_35, ml_36, ml_37, ml_38, ml_39, ml_40, ml_41, ml_42, ml_43, ml_44, ml_45, ml_46, ml_47, ml_48, ml_49, ml_50]; omega))) only [bN, bT, Option.bind_some, zlet, mH_rc, mH_fI, mH_fJ, mH_aI, mH_aZ, mH_aJ, mH_as, mH_asZ, mH_asJ, mH_pI, mH_pJ, lit_add, add_lit, lit_mul, nn_add, nn_mul, nn_nat, Int32.reduceToNatClampNeg, mr_2, mr_10, mr_11, mr_12, mr_13, mr_14, mr_15, mr_16, mr_17, mr_18, mr_19, mr_20, mr_21, mr_22, mr_23, mr_24, mr_27, mr_28, mr_29, mr_30, mr_31, mr_32, mr_33, mr_34, mr_35, mr_36, mr_37, mr_38, mr_41, mr_42, mr_43, mr_44, mr_45, mr_46, mr_47, mr_48, mr_49, mr_50, mr_51, mr_52, mr_53, mr_54, mr_57, mr_58, mr_59, mr_61, mr_62, mr_63, mr_65, mr_67, x9_sums hd]
  generalize wS m d = m1
  have t4 : ∀ v, f_X9_tests_L136 n a (nn d) v (mH a m1 h) = some ((), mH a (mA (mA (mA (mA m1 19 d v) 22 d 0) 23 d 0) 24 d 20) h) := by
    intro v
    unfold f_X9_tests_L136
    simp (disch := first | decide | omega | (refine inb_nn ?_ ?_ <;> first | decide | (simp only [ml_1, ml_2, ml_3, ml_4, ml_5, ml_6, ml_7, ml_8, ml_9, ml_10, ml_11, ml_12, ml_13, ml_14, ml_15, ml_16, ml_17, ml_18, ml_19, ml_20, ml_21, ml_22, ml_23, ml_24, ml_25, ml_26, ml_27, ml_28, ml_29, ml_30, ml_31, ml_32, ml_33, ml_34, ml_35, ml_36, ml_37, ml_38, ml_39, ml_40, ml_41, ml_42, ml_43, ml_44, ml_45, ml_46, ml_47, ml_48, ml_49, ml_50]; omega))) only [bN, bT, Option.bind_some, zlet, mH_rc, mH_fI, mH_fJ, mH_aI, mH_aZ, mH_aJ, mH_as, mH_asZ, mH_asJ, mH_pI, mH_pJ, lit_add, add_lit, lit_mul, nn_add, nn_mul, nn_nat, Int32.reduceToNatClampNeg, mr_2, mr_10, mr_11, mr_12, mr_13, mr_14, mr_15, mr_16, mr_17, mr_18, mr_19, mr_20, mr_21, mr_22, mr_23, mr_24, mr_27, mr_28, mr_29, mr_30, mr_31, mr_32, mr_33, mr_34, mr_35, mr_36, mr_37, mr_38, mr_41, mr_42, mr_43, mr_44, mr_45, mr_46, mr_47, mr_48, mr_49, mr_50, mr_51, mr_52, mr_53, mr_54, mr_57, mr_58, mr_59, mr_61, mr_62, mr_63, mr_65, mr_67]
  have t3 : ∀ v, f_X9_tests_L106 n a (nn d) v (mH a m1 h) = some ((), mH a (mA (mA (mA (mA m1 19 d (if m1.2.2.1 20 d = 27 then (if m1.2.2.1 19 d = 0 then (if v = 0 then 0 else 1) else 1) else v)) 22 d 0) 23 d 0) 24 d 20) h) := by
    intro v
    unfold f_X9_tests_L106
    simp (disch := first | decide | omega | (refine inb_nn ?_ ?_ <;> first | decide | (simp only [ml_1, ml_2, ml_3, ml_4, ml_5, ml_6, ml_7, ml_8, ml_9, ml_10, ml_11, ml_12, ml_13, ml_14, ml_15, ml_16, ml_17, ml_18, ml_19, ml_20, ml_21, ml_22, ml_23, ml_24, ml_25, ml_26, ml_27, ml_28, ml_29, ml_30, ml_31, ml_32, ml_33, ml_34, ml_35, ml_36, ml_37, ml_38, ml_39, ml_40, ml_41, ml_42, ml_43, ml_44, ml_45, ml_46, ml_47, ml_48, ml_49, ml_50]; omega))) only [bN, bT, Option.bind_some, zlet, mH_rc, mH_fI, mH_fJ, mH_aI, mH_aZ, mH_aJ, mH_as, mH_asZ, mH_asJ, mH_pI, mH_pJ, lit_add, add_lit, lit_mul, nn_add, nn_mul, nn_nat, Int32.reduceToNatClampNeg, mr_2, mr_10, mr_11, mr_12, mr_13, mr_14, mr_15, mr_16, mr_17, mr_18, mr_19, mr_20, mr_21, mr_22, mr_23, mr_24, mr_27, mr_28, mr_29, mr_30, mr_31, mr_32, mr_33, mr_34, mr_35, mr_36, mr_37, mr_38, mr_41, mr_42, mr_43, mr_44, mr_45, mr_46, mr_47, mr_48, mr_49, mr_50, mr_51, mr_52, mr_53, mr_54, mr_57, mr_58, mr_59, mr_61, mr_62, mr_63, mr_65, mr_67, t4]
    split <;> rfl
  have t2 : ∀ v, f_X9_tests_L76 n a (nn d) v (mH a m1 h) = f_X9_tests_L106 n a (nn d) (if m1.2.2.1 20 d = 26 then (if m1.2.2.1 19 d = 0 then 0 else if v = 0 then 0 else 1) else v) (mH a m1 h) := by
    intro v
    unfold f_X9_tests_L76
    simp (disch := first | decide | omega | (refine inb_nn ?_ ?_ <;> first | decide | (simp only [ml_1, ml_2, ml_3, ml_4, ml_5, ml_6, ml_7, ml_8, ml_9, ml_10, ml_11, ml_12, ml_13, ml_14, ml_15, ml_16, ml_17, ml_18, ml_19, ml_20, ml_21, ml_22, ml_23, ml_24, ml_25, ml_26, ml_27, ml_28, ml_29, ml_30, ml_31, ml_32, ml_33, ml_34, ml_35, ml_36, ml_37, ml_38, ml_39, ml_40, ml_41, ml_42, ml_43, ml_44, ml_45, ml_46, ml_47, ml_48, ml_49, ml_50]; omega))) only [bN, bT, Option.bind_some, zlet, mH_rc, mH_fI, mH_fJ, mH_aI, mH_aZ, mH_aJ, mH_as, mH_asZ, mH_asJ, mH_pI, mH_pJ, lit_add, add_lit, lit_mul, nn_add, nn_mul, nn_nat, Int32.reduceToNatClampNeg, mr_2, mr_10, mr_11, mr_12, mr_13, mr_14, mr_15, mr_16, mr_17, mr_18, mr_19, mr_20, mr_21, mr_22, mr_23, mr_24, mr_27, mr_28, mr_29, mr_30, mr_31, mr_32, mr_33, mr_34, mr_35, mr_36, mr_37, mr_38, mr_41, mr_42, mr_43, mr_44, mr_45, mr_46, mr_47, mr_48, mr_49, mr_50, mr_51, mr_52, mr_53, mr_54, mr_57, mr_58, mr_59, mr_61, mr_62, mr_63, mr_65, mr_67]
    split <;> rfl
  have t1 : ∀ v, f_X9_tests_L44 n a (nn d) v (mH a m1 h) = f_X9_tests_L76 n a (nn d) (if m1.2.2.1 22 d = 25 then (if m1.2.2.1 21 d = m1.2.2.1 23 d then 1 else 0) else v) (mH a m1 h) := by
    intro v
    unfold f_X9_tests_L44
    simp (disch := first | decide | omega | (refine inb_nn ?_ ?_ <;> first | decide | (simp only [ml_1, ml_2, ml_3, ml_4, ml_5, ml_6, ml_7, ml_8, ml_9, ml_10, ml_11, ml_12, ml_13, ml_14, ml_15, ml_16, ml_17, ml_18, ml_19, ml_20, ml_21, ml_22, ml_23, ml_24, ml_25, ml_26, ml_27, ml_28, ml_29, ml_30, ml_31, ml_32, ml_33, ml_34, ml_35, ml_36, ml_37, ml_38, ml_39, ml_40, ml_41, ml_42, ml_43, ml_44, ml_45, ml_46, ml_47, ml_48, ml_49, ml_50]; omega))) only [bN, bT, Option.bind_some, zlet, mH_rc, mH_fI, mH_fJ, mH_aI, mH_aZ, mH_aJ, mH_as, mH_asZ, mH_asJ, mH_pI, mH_pJ, lit_add, add_lit, lit_mul, nn_add, nn_mul, nn_nat, Int32.reduceToNatClampNeg, mr_2, mr_10, mr_11, mr_12, mr_13, mr_14, mr_15, mr_16, mr_17, mr_18, mr_19, mr_20, mr_21, mr_22, mr_23, mr_24, mr_27, mr_28, mr_29, mr_30, mr_31, mr_32, mr_33, mr_34, mr_35, mr_36, mr_37, mr_38, mr_41, mr_42, mr_43, mr_44, mr_45, mr_46, mr_47, mr_48, mr_49, mr_50, mr_51, mr_52, mr_53, mr_54, mr_57, mr_58, mr_59, mr_61, mr_62, mr_63, mr_65, mr_67]
    split <;> rfl
  have t0 : (if m1.2.2.1 22 d = 24 then f_X9_tests_L44 n a (nn d) (if m1.2.2.1 21 d < m1.2.2.1 23 d then 1 else 0) (mH a m1 h) else f_X9_tests_L44 n a (nn d) (m1.2.2.1 23 d) (mH a m1 h)) = f_X9_tests_L44 n a (nn d) (if m1.2.2.1 22 d = 24 then (if m1.2.2.1 21 d < m1.2.2.1 23 d then 1 else 0) else m1.2.2.1 23 d) (mH a m1 h) := by
    split <;> rfl
  rw [t0, t1, t2, t3]
  rfl
end MLF
