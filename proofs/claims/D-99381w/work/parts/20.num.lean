/-! ===== small numbers ===== -/
abbrev nn (k : Nat) : Int32 := Int32.ofNat k
theorem nn_nat {k : Nat} (h : k < 2147483648) : (nn k).toNatClampNeg = k := Int32.toNatClampNeg_ofNat_of_lt h
theorem nn_lt {j k : Nat} (hj : j < 2147483648) (hk : k < 2147483648) : (nn j < nn k) = (j < k) := propext (Int32.ofNat_lt_iff_lt hj hk)
theorem nn_int {k : Nat} (h : k < 2147483648) : (nn k).toInt = (k : Int) := Int32.toInt_ofNat_of_lt h
theorem nn_eq {j k : Nat} (hj : j < 2147483648) (hk : k < 2147483648) : (nn j = nn k) = (j = k) := by
  refine propext ⟨fun h => ?_, fun h => by rw [h]⟩
  have := congrArg Int32.toInt h
  rw [nn_int hj, nn_int hk] at this
  omega
theorem nn_neg {k : Nat} (h : k < 2147483648) : (nn k < 0) = False := by
  have := @nn_lt k 0 h (by decide)
  rw [show (0 : Int32) = nn 0 from rfl, this]
  simp
theorem nn_add (j k : Nat) : nn j + nn k = nn (j + k) := (Int32.ofNat_add j k).symm
theorem nn_mul (j k : Nat) : nn j * nn k = nn (j * k) := (Int32.ofNat_mul j k).symm
theorem nn_sub {j k : Nat} (h : k ≤ j) : nn j - nn k = nn (j - k) := (Int32.ofNat_sub j k h).symm
theorem nn_div {j k : Nat} (hj : j < 2147483648) (hk : k < 2147483648) : nn j / nn k = nn (j / k) := by
  apply Int32.toInt_inj.mp
  have hd : j / k ≤ j := Nat.div_le_self j k
  rw [Int32.toInt_div, nn_int hj, nn_int hk, nn_int (by omega), Int.tdiv_eq_ediv_of_nonneg (by omega)]
  have e : (j : Int) / (k : Int) = ((j / k : Nat) : Int) := rfl
  rw [e]
  generalize j / k = q at hd
  rw [Int.bmod_eq_of_le (by omega) (by omega)]
theorem nn_rem {j k : Nat} (hj : j < 2147483648) (hk : k < 2147483648) : zrem (nn j) (nn k) = nn (j % k) := by
  unfold zrem
  rw [nn_div hj hk, nn_mul, nn_sub (Nat.div_mul_le_self j k)]
  congr 1
  have := Nat.mod_add_div j k
  rw [Nat.mul_comm] at this
  omega
theorem nn_of {x : Int32} (h : ¬ x < 0) : ∃ k, k < 2147483648 ∧ x = nn k := by
  refine ⟨x.toNatClampNeg, ?_, ?_⟩
  · have := x.toInt_lt
    unfold Int32.toNatClampNeg
    omega
  · apply Int32.toInt_inj.mp
    have h1 : 0 ≤ x.toInt := by
      have := Int32.not_lt.mp h
      exact Int32.le_iff_toInt_le.mp this
    have h2 := x.toInt_lt
    rw [nn_int (by unfold Int32.toNatClampNeg; omega)]
    unfold Int32.toNatClampNeg
    omega
theorem nn_eq0 {k : Nat} (h : k < 2147483648) : (nn k = 0) = (k = 0) := nn_eq h (by decide)
theorem nn_lt_lit {k n : Nat} (hk : k < 2147483648) (hn : n < 2147483648) : (nn k < no_index (OfNat.ofNat n : Int32)) = (k < n) := nn_lt hk hn
theorem lit_lt_nn {k n : Nat} (hn : n < 2147483648) (hk : k < 2147483648) : (no_index (OfNat.ofNat n : Int32) < nn k) = (n < k) := nn_lt hn hk
theorem nn_eq_lit {k n : Nat} (hk : k < 2147483648) (hn : n < 2147483648) : (nn k = no_index (OfNat.ofNat n : Int32)) = (k = n) := nn_eq hk hn
theorem nn_sub_int {i j : Nat} (hi : i < 1000000000) (hj : j < 1000000000) : (nn i - nn j).toInt = (i : Int) - (j : Int) := by
  rw [Int32.toInt_sub, nn_int (by omega), nn_int (by omega)]
  exact Int.bmod_eq_of_le (by omega) (by omega)
theorem nn_sub_neg {i j : Nat} (hi : i < 1000000000) (hj : j < 1000000000) : (nn i - nn j < 0) = (i < j) := by
  rw [Int32.lt_iff_toInt_lt, nn_sub_int hi hj]
  show ((i : Int) - (j : Int) < 0) = _
  apply propext
  omega
theorem nn_sub_pos {i j : Nat} (hi : i < 1000000000) (hj : j < 1000000000) : (0 < nn i - nn j) = (j < i) := by
  rw [Int32.lt_iff_toInt_lt, nn_sub_int hi hj]
  show (0 < (i : Int) - (j : Int)) = _
  apply propext
  omega
theorem nn_sub_ge {i j : Nat} (h : j ≤ i) : nn i - nn j = nn (i - j) := nn_sub h
theorem nn_neg_sub (i j : Nat) : -(nn i - nn j) = nn j - nn i := by rw [Int32.neg_sub]
