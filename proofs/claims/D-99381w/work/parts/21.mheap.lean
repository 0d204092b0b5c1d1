theorem lit_add (n k : Nat) : no_index (OfNat.ofNat n : Int32) + Int32.ofNat k = Int32.ofNat (n + k) := (Int32.ofNat_add n k).symm
theorem add_lit (n k : Nat) : Int32.ofNat k + no_index (OfNat.ofNat n : Int32) = Int32.ofNat (k + n) := (Int32.ofNat_add k n).symm
theorem lit_mul (n k : Nat) : no_index (OfNat.ofNat n : Int32) * Int32.ofNat k = Int32.ofNat (n * k) := (Int32.ofNat_mul n k).symm
theorem st_bind {α β : Type} {o : Option α} {v : α} {F : α → Option β} {R : Option β} (h : o = some v) (k : F v = R) : o.bind F = R := by rw [h]; exact k
theorem st_bN {α β : Type} {o : Option (α × zHp)} {v : α} {h1 : zHp} {F : α → zHp → Option β} {R : Option β} (h : o = some (v, h1)) (k : F v h1 = R) : bN o F = R := by rw [h]; exact k
theorem st_pos {β : Type} {c : Prop} {x y R : β} (i : Decidable c) (h : c) (k : x = R) : (@ite β c i x y) = R := by rw [if_pos h]; exact k
theorem st_neg {β : Type} {c : Prop} {x y R : β} (i : Decidable c) (h : ¬ c) (k : y = R) : (@ite β c i x y) = R := by rw [if_neg h]; exact k
/-! ===== the model's heap ===== -/
abbrev inb (i : Int32) (n : Nat) : Prop := ¬ (i < 0 ∨ n ≤ i.toNatClampNeg)
theorem inb_nn {k n : Nat} (h : k < n) (hn : n ≤ 2147483648) : inb (nn k) n := by
  unfold inb
  rw [nn_neg (by omega), nn_nat (by omega)]
  simp
  omega
abbrev mS : Type := (Nat → Int32) × (Nat → Int64) × (Nat → Nat → Int32) × (Nat → Nat → Int64)
def mtab : List (Nat × Nat) := [(0, 0), (100, 1000), (100, 10), (101, 10), (101, 8), (100, 10), (100, 10), (100, 10), (100, 10), (100, 10), (100, 80), (100, 8), (100, 24), (101, 2), (100, 2), (100, 2), (100, 2000), (100, 7), (102, 7), (100, 7), (100, 7), (100, 7), (100, 7), (100, 7), (100, 7), (100, 7), (100, 7), (100, 7), (100, 20), (100, 6), (100, 240), (100, 240), (100, 240), (100, 5), (100, 40), (100, 40), (102, 40), (100, 18), (100, 18), (100, 18), (100, 72), (100, 288), (102, 4), (100, 5), (100, 4), (101, 5), (100, 20), (100, 4), (100, 4), (100, 105), (100, 90)]
def mtag (p : Nat) : Nat := (mtab.getD p (0, 0)).1
def mlen (p : Nat) : Nat := (mtab.getD p (0, 0)).2
def mflds : List Nat := [2, 10, 11, 12, 13, 14, 15, 16, 17, 18, 19, 20, 21, 22, 23, 24, 27, 28, 29, 30, 31, 32, 33, 34, 35, 36, 37, 38, 41, 42, 43, 44, 45, 46, 47, 48, 49, 50, 51, 52, 53, 54, 57, 58, 59, 61, 62, 63, 65, 67]
def mpos (k : Nat) : Nat := if k ∈ mflds then mflds.idxOf k + 1 else 0
def mlong (k : Nat) : Bool := k = 7 || k = 40 || k = 68
def mFld (a : Nat) (m : mS) (k : Nat) : zV := if mpos k = 0 then (if mlong k then zJ (m.2.1 k) else zI (m.1 k)) else zR (some (a + mpos k))
def mArr (m : mS) (p : Nat) : zOb := (mtag p, mlen p, if mtag p = 101 then fun i => zJ (m.2.2.2 p i) else fun i => zI (m.2.2.1 p i))
def mH (a : Nat) (m : mS) (h : zHp) : zHp := (h.1, h.2.1, h.2.2.1, h.2.2.2.1, fun x => if x = a then some (8, 69, mFld a m) else if a < x ∧ x ≤ a + 50 then some (mArr m (x - a)) else h.2.2.2.2 x)
def mA (m : mS) (p i : Nat) (v : Int32) : mS := (m.1, m.2.1, va_up m.2.2.1 p (va_up (m.2.2.1 p) i v), m.2.2.2)
def mJ (m : mS) (p i : Nat) (v : Int64) : mS := (m.1, m.2.1, m.2.2.1, va_up m.2.2.2 p (va_up (m.2.2.2 p) i v))
def mI (m : mS) (k : Nat) (v : Int32) : mS := (va_up m.1 k v, m.2)
def mK (m : mS) (k : Nat) (v : Int64) : mS := (m.1, va_up m.2.1 k v, m.2.2)
theorem mA_get (m : mS) (p i q j : Nat) (v : Int32) : (mA m p i v).2.2.1 q j = if q = p ∧ j = i then v else m.2.2.1 q j := by
  unfold mA va_up
  show (if q = p then (fun j => if j = i then v else m.2.2.1 p j) else m.2.2.1 q) j = _
  by_cases h1 : q = p
  · subst h1
    by_cases h2 : j = i
    · simp [h2]
    · simp [h2]
  · simp [h1]
theorem mA_1 (m : mS) (p i : Nat) (v : Int32) : (mA m p i v).1 = m.1 := rfl
theorem mA_2 (m : mS) (p i : Nat) (v : Int32) : (mA m p i v).2.1 = m.2.1 := rfl
theorem mA_4 (m : mS) (p i : Nat) (v : Int32) : (mA m p i v).2.2.2 = m.2.2.2 := rfl
theorem mI_get (m : mS) (k q : Nat) (v : Int32) : (mI m k v).1 q = if q = k then v else m.1 q := rfl
theorem mI_2 (m : mS) (k : Nat) (v : Int32) : (mI m k v).2 = m.2 := rfl
section MH
variable {a p k : Nat} {m : mS} {h : zHp} {i : Int32}
theorem mH_a : (mH a m h).2.2.2.2 a = some (8, 69, mFld a m) := by simp [mH]
theorem mH_p (hp : (1 ≤ p && p ≤ 50) = true) : (mH a m h).2.2.2.2 (a + p) = some (mArr m p) := by
  simp at hp
  show (if a + p = a then _ else if a < a + p ∧ a + p ≤ a + 50 then some (mArr m (a + p - a)) else _) = _
  rw [if_neg (by omega), if_pos (by omega), Nat.add_sub_cancel_left]
theorem mH_rc : zrc [8] (some a) (mH a m h) = some a := by simp [zrc, mH_a]
theorem mH_fI (hk : (mpos k = 0 ∧ mlong k = false)) : zfI [8] k (some a) (mH a m h) = some (m.1 k) := by
  simp [zfI, zfld, zob, mH_a, mFld, hk.1, hk.2, zasI]
theorem mH_fJ (hk : (mpos k = 0 ∧ mlong k = true)) : zfJ [8] k (some a) (mH a m h) = some (m.2.1 k) := by
  simp [zfJ, zfld, zob, mH_a, mFld, hk.1, hk.2, zasJ]
theorem mH_fR (hk : mpos k = p) (hp : p ≠ 0) : zfR [8] k (some a) (mH a m h) = some (some (a + p)) := by
  subst hk
  simp [zfR, zfld, zob, mH_a, mFld, hp, zasR]
def mok (p t : Nat) : Bool := 1 ≤ p && p ≤ 50 && mtag p == t
theorem mok_p {t : Nat} (hp : mok p t = true) : (1 ≤ p && p ≤ 50) = true ∧ mtag p = t := by
  unfold mok at hp
  rw [Bool.and_eq_true] at hp
  exact ⟨hp.1, by simpa using hp.2⟩
theorem mH_aI (hp : mok p 100 = true) (hi : inb i (mlen p)) : zaI [100, 300] (some (a + p)) i (mH a m h) = some (m.2.2.1 p i.toNatClampNeg) := by
  obtain ⟨h1, h2⟩ := mok_p hp
  unfold inb at hi
  simp only [zaI, zal, zob, Option.bind_some, mH_p h1, mArr, h2]
  rw [if_pos ⟨by decide, hi⟩]
  simp [zasI]
theorem mH_aZ (hp : mok p 102 = true) (hi : inb i (mlen p)) : zaI [102] (some (a + p)) i (mH a m h) = some (m.2.2.1 p i.toNatClampNeg) := by
  obtain ⟨h1, h2⟩ := mok_p hp
  unfold inb at hi
  simp only [zaI, zal, zob, Option.bind_some, mH_p h1, mArr, h2]
  rw [if_pos ⟨by decide, hi⟩]
  simp [zasI]
theorem mH_aJ (hp : mok p 101 = true) (hi : inb i (mlen p)) : zaJ [101] (some (a + p)) i (mH a m h) = some (m.2.2.2 p i.toNatClampNeg) := by
  obtain ⟨h1, h2⟩ := mok_p hp
  unfold inb at hi
  simp only [zaJ, zal, zob, Option.bind_some, mH_p h1, mArr, h2]
  rw [if_pos ⟨by decide, hi⟩]
  simp [zasJ]
theorem mH_put {o : zOb} (m' : mS) (hp : (1 ≤ p && p ≤ 50) = true) (ho : mArr m' p = o) (h1 : m'.1 = m.1) (h2 : m'.2.1 = m.2.1) (h3 : ∀ q, q ≠ p → mArr m' q = mArr m q) : zput (a + p) o (mH a m h) = mH a m' h := by
  simp at hp
  unfold zput mH
  congr 4
  funext x
  unfold va_up
  have hf : mFld a m' = mFld a m := by unfold mFld; rw [h1, h2]
  by_cases hx : x = a + p
  · rw [if_pos hx, hx, if_neg (by omega), if_pos (by omega), Nat.add_sub_cancel_left, ho]
  · rw [if_neg hx]
    show (if x = a then some (8, 69, mFld a m) else if a < x ∧ x ≤ a + 50 then some (mArr m (x - a)) else h.2.2.2.2 x) = _
    by_cases hx2 : x = a
    · rw [if_pos hx2, if_pos hx2, hf]
    · rw [if_neg hx2, if_neg hx2]
      by_cases hx3 : a < x ∧ x ≤ a + 50
      · rw [if_pos hx3, if_pos hx3, h3 (x - a) (by omega)]
      · rw [if_neg hx3, if_neg hx3]
theorem mArr_A {j : Nat} {v : Int32} (ht : mtag p ≠ 101) : mArr (mA m p j v) p = (mtag p, mlen p, va_up (mArr m p).2.2 j (zI v)) := by
  unfold mArr mA
  simp only [if_neg ht, va_up_self]
  congr 2
  funext q
  unfold va_up
  split <;> rfl
theorem mArr_ne {j q : Nat} {v : Int32} (hq : q ≠ p) : mArr (mA m p j v) q = mArr m q := by
  unfold mArr mA
  simp only [va_up_ne _ _ hq]
theorem mArr_J {j : Nat} {v : Int64} (ht : mtag p = 101) : mArr (mJ m p j v) p = (mtag p, mlen p, va_up (mArr m p).2.2 j (zJ v)) := by
  unfold mArr mJ
  simp only [if_pos ht, va_up_self]
  congr 2
  funext q
  unfold va_up
  split <;> rfl
theorem mArr_Jne {j q : Nat} {v : Int64} (hq : q ≠ p) : mArr (mJ m p j v) q = mArr m q := by
  unfold mArr mJ
  simp only [va_up_ne _ _ hq]
theorem mH_as {v : Int32} (hp : mok p 100 = true) (hi : inb i (mlen p)) : zas [100] (some (a + p)) i (zI v) (mH a m h) = some (mH a (mA m p i.toNatClampNeg v) h) := by
  obtain ⟨h1, h2⟩ := mok_p hp
  unfold inb at hi
  simp only [zas, Option.bind_some, mH_p h1]
  have e : (mArr m p).1 = 100 ∧ (mArr m p).2.1 = mlen p := ⟨h2, rfl⟩
  rw [e.1, e.2, if_pos ⟨by decide, hi⟩, mH_put (m := m) (mA m p i.toNatClampNeg v) h1 (by rw [mArr_A (by rw [h2]; decide), h2]) rfl rfl (fun q hq => mArr_ne hq)]
theorem mH_asZ {v : Int32} (hp : mok p 102 = true) (hi : inb i (mlen p)) : zas [102] (some (a + p)) i (zI v) (mH a m h) = some (mH a (mA m p i.toNatClampNeg v) h) := by
  obtain ⟨h1, h2⟩ := mok_p hp
  unfold inb at hi
  simp only [zas, Option.bind_some, mH_p h1]
  have e : (mArr m p).1 = 102 ∧ (mArr m p).2.1 = mlen p := ⟨h2, rfl⟩
  rw [e.1, e.2, if_pos ⟨by decide, hi⟩, mH_put (m := m) (mA m p i.toNatClampNeg v) h1 (by rw [mArr_A (by rw [h2]; decide), h2]) rfl rfl (fun q hq => mArr_ne hq)]
theorem mH_asJ {v : Int64} (hp : mok p 101 = true) (hi : inb i (mlen p)) : zas [101] (some (a + p)) i (zJ v) (mH a m h) = some (mH a (mJ m p i.toNatClampNeg v) h) := by
  obtain ⟨h1, h2⟩ := mok_p hp
  unfold inb at hi
  simp only [zas, Option.bind_some, mH_p h1]
  have e : (mArr m p).1 = 101 ∧ (mArr m p).2.1 = mlen p := ⟨h2, rfl⟩
  rw [e.1, e.2, if_pos ⟨by decide, hi⟩, mH_put (m := m) (mJ m p i.toNatClampNeg v) h1 (by rw [mArr_J h2, h2]) rfl rfl (fun q hq => mArr_Jne hq)]
theorem mH_own (m' : mS) {f : Nat → zV} (hf : mFld a m' = f) (h3 : m'.2.2 = m.2.2) : zput a (8, 69, f) (mH a m h) = mH a m' h := by
  unfold zput mH
  congr 4
  funext x
  unfold va_up
  have hA : ∀ q, mArr m' q = mArr m q := fun q => by unfold mArr; rw [h3]
  by_cases hx : x = a
  · rw [if_pos hx, if_pos hx, hf]
  · rw [if_neg hx]
    show (if x = a then some (8, 69, mFld a m) else if a < x ∧ x ≤ a + 50 then some (mArr m (x - a)) else h.2.2.2.2 x) = _
    rw [if_neg hx, if_neg hx]
    by_cases hx3 : a < x ∧ x ≤ a + 50
    · rw [if_pos hx3, if_pos hx3, hA]
    · rw [if_neg hx3, if_neg hx3]
theorem mH_pI {v : Int32} (hk : (mpos k = 0 ∧ mlong k = false)) : zpf [8] k (some a) (zI v) (mH a m h) = some (mH a (mI m k v) h) := by
  simp only [zpf, Option.bind_some, mH_a]
  rw [if_pos (by decide), mH_own (m := m) (mI m k v) ?_ rfl]
  funext q
  unfold mFld mI va_up
  by_cases hq : q = k
  · subst hq; simp [hk.1, hk.2]
  · simp [hq]
theorem mH_pJ {v : Int64} (hk : (mpos k = 0 ∧ mlong k = true)) : zpf [8] k (some a) (zJ v) (mH a m h) = some (mH a (mK m k v) h) := by
  simp only [zpf, Option.bind_some, mH_a]
  rw [if_pos (by decide), mH_own (m := m) (mK m k v) ?_ rfl]
  funext q
  unfold mFld mK va_up
  by_cases hq : q = k
  · subst hq; simp [hk.1, hk.2]
  · simp [hq]
end MH
theorem ml_1 : mlen 1 = 1000 := rfl
theorem ml_2 : mlen 2 = 10 := rfl
theorem ml_3 : mlen 3 = 10 := rfl
theorem ml_4 : mlen 4 = 8 := rfl
theorem ml_5 : mlen 5 = 10 := rfl
theorem ml_6 : mlen 6 = 10 := rfl
theorem ml_7 : mlen 7 = 10 := rfl
theorem ml_8 : mlen 8 = 10 := rfl
theorem ml_9 : mlen 9 = 10 := rfl
theorem ml_10 : mlen 10 = 80 := rfl
theorem ml_11 : mlen 11 = 8 := rfl
theorem ml_12 : mlen 12 = 24 := rfl
theorem ml_13 : mlen 13 = 2 := rfl
theorem ml_14 : mlen 14 = 2 := rfl
theorem ml_15 : mlen 15 = 2 := rfl
theorem ml_16 : mlen 16 = 2000 := rfl
theorem ml_17 : mlen 17 = 7 := rfl
theorem ml_18 : mlen 18 = 7 := rfl
theorem ml_19 : mlen 19 = 7 := rfl
theorem ml_20 : mlen 20 = 7 := rfl
theorem ml_21 : mlen 21 = 7 := rfl
theorem ml_22 : mlen 22 = 7 := rfl
theorem ml_23 : mlen 23 = 7 := rfl
theorem ml_24 : mlen 24 = 7 := rfl
theorem ml_25 : mlen 25 = 7 := rfl
theorem ml_26 : mlen 26 = 7 := rfl
theorem ml_27 : mlen 27 = 7 := rfl
theorem ml_28 : mlen 28 = 20 := rfl
theorem ml_29 : mlen 29 = 6 := rfl
theorem ml_30 : mlen 30 = 240 := rfl
theorem ml_31 : mlen 31 = 240 := rfl
theorem ml_32 : mlen 32 = 240 := rfl
theorem ml_33 : mlen 33 = 5 := rfl
theorem ml_34 : mlen 34 = 40 := rfl
theorem ml_35 : mlen 35 = 40 := rfl
theorem ml_36 : mlen 36 = 40 := rfl
theorem ml_37 : mlen 37 = 18 := rfl
theorem ml_38 : mlen 38 = 18 := rfl
theorem ml_39 : mlen 39 = 18 := rfl
theorem ml_40 : mlen 40 = 72 := rfl
theorem ml_41 : mlen 41 = 288 := rfl
theorem ml_42 : mlen 42 = 4 := rfl
theorem ml_43 : mlen 43 = 5 := rfl
theorem ml_44 : mlen 44 = 4 := rfl
theorem ml_45 : mlen 45 = 5 := rfl
theorem ml_46 : mlen 46 = 20 := rfl
theorem ml_47 : mlen 47 = 4 := rfl
theorem ml_48 : mlen 48 = 4 := rfl
theorem ml_49 : mlen 49 = 105 := rfl
theorem ml_50 : mlen 50 = 90 := rfl
section MR
variable {a : Nat} {m : mS} {h : zHp}
theorem mr_2 : zfR [8] 2 (some a) (mH a m h) = some (some (a + 1)) := mH_fR (by decide) (by decide)
theorem mr_10 : zfR [8] 10 (some a) (mH a m h) = some (some (a + 2)) := mH_fR (by decide) (by decide)
theorem mr_11 : zfR [8] 11 (some a) (mH a m h) = some (some (a + 3)) := mH_fR (by decide) (by decide)
theorem mr_12 : zfR [8] 12 (some a) (mH a m h) = some (some (a + 4)) := mH_fR (by decide) (by decide)
theorem mr_13 : zfR [8] 13 (some a) (mH a m h) = some (some (a + 5)) := mH_fR (by decide) (by decide)
theorem mr_14 : zfR [8] 14 (some a) (mH a m h) = some (some (a + 6)) := mH_fR (by decide) (by decide)
theorem mr_15 : zfR [8] 15 (some a) (mH a m h) = some (some (a + 7)) := mH_fR (by decide) (by decide)
theorem mr_16 : zfR [8] 16 (some a) (mH a m h) = some (some (a + 8)) := mH_fR (by decide) (by decide)
theorem mr_17 : zfR [8] 17 (some a) (mH a m h) = some (some (a + 9)) := mH_fR (by decide) (by decide)
theorem mr_18 : zfR [8] 18 (some a) (mH a m h) = some (some (a + 10)) := mH_fR (by decide) (by decide)
theorem mr_19 : zfR [8] 19 (some a) (mH a m h) = some (some (a + 11)) := mH_fR (by decide) (by decide)
theorem mr_20 : zfR [8] 20 (some a) (mH a m h) = some (some (a + 12)) := mH_fR (by decide) (by decide)
theorem mr_21 : zfR [8] 21 (some a) (mH a m h) = some (some (a + 13)) := mH_fR (by decide) (by decide)
theorem mr_22 : zfR [8] 22 (some a) (mH a m h) = some (some (a + 14)) := mH_fR (by decide) (by decide)
theorem mr_23 : zfR [8] 23 (some a) (mH a m h) = some (some (a + 15)) := mH_fR (by decide) (by decide)
theorem mr_24 : zfR [8] 24 (some a) (mH a m h) = some (some (a + 16)) := mH_fR (by decide) (by decide)
theorem mr_27 : zfR [8] 27 (some a) (mH a m h) = some (some (a + 17)) := mH_fR (by decide) (by decide)
theorem mr_28 : zfR [8] 28 (some a) (mH a m h) = some (some (a + 18)) := mH_fR (by decide) (by decide)
theorem mr_29 : zfR [8] 29 (some a) (mH a m h) = some (some (a + 19)) := mH_fR (by decide) (by decide)
theorem mr_30 : zfR [8] 30 (some a) (mH a m h) = some (some (a + 20)) := mH_fR (by decide) (by decide)
theorem mr_31 : zfR [8] 31 (some a) (mH a m h) = some (some (a + 21)) := mH_fR (by decide) (by decide)
theorem mr_32 : zfR [8] 32 (some a) (mH a m h) = some (some (a + 22)) := mH_fR (by decide) (by decide)
theorem mr_33 : zfR [8] 33 (some a) (mH a m h) = some (some (a + 23)) := mH_fR (by decide) (by decide)
theorem mr_34 : zfR [8] 34 (some a) (mH a m h) = some (some (a + 24)) := mH_fR (by decide) (by decide)
theorem mr_35 : zfR [8] 35 (some a) (mH a m h) = some (some (a + 25)) := mH_fR (by decide) (by decide)
theorem mr_36 : zfR [8] 36 (some a) (mH a m h) = some (some (a + 26)) := mH_fR (by decide) (by decide)
theorem mr_37 : zfR [8] 37 (some a) (mH a m h) = some (some (a + 27)) := mH_fR (by decide) (by decide)
theorem mr_38 : zfR [8] 38 (some a) (mH a m h) = some (some (a + 28)) := mH_fR (by decide) (by decide)
theorem mr_41 : zfR [8] 41 (some a) (mH a m h) = some (some (a + 29)) := mH_fR (by decide) (by decide)
theorem mr_42 : zfR [8] 42 (some a) (mH a m h) = some (some (a + 30)) := mH_fR (by decide) (by decide)
theorem mr_43 : zfR [8] 43 (some a) (mH a m h) = some (some (a + 31)) := mH_fR (by decide) (by decide)
theorem mr_44 : zfR [8] 44 (some a) (mH a m h) = some (some (a + 32)) := mH_fR (by decide) (by decide)
theorem mr_45 : zfR [8] 45 (some a) (mH a m h) = some (some (a + 33)) := mH_fR (by decide) (by decide)
theorem mr_46 : zfR [8] 46 (some a) (mH a m h) = some (some (a + 34)) := mH_fR (by decide) (by decide)
theorem mr_47 : zfR [8] 47 (some a) (mH a m h) = some (some (a + 35)) := mH_fR (by decide) (by decide)
theorem mr_48 : zfR [8] 48 (some a) (mH a m h) = some (some (a + 36)) := mH_fR (by decide) (by decide)
theorem mr_49 : zfR [8] 49 (some a) (mH a m h) = some (some (a + 37)) := mH_fR (by decide) (by decide)
theorem mr_50 : zfR [8] 50 (some a) (mH a m h) = some (some (a + 38)) := mH_fR (by decide) (by decide)
theorem mr_51 : zfR [8] 51 (some a) (mH a m h) = some (some (a + 39)) := mH_fR (by decide) (by decide)
theorem mr_52 : zfR [8] 52 (some a) (mH a m h) = some (some (a + 40)) := mH_fR (by decide) (by decide)
theorem mr_53 : zfR [8] 53 (some a) (mH a m h) = some (some (a + 41)) := mH_fR (by decide) (by decide)
theorem mr_54 : zfR [8] 54 (some a) (mH a m h) = some (some (a + 42)) := mH_fR (by decide) (by decide)
theorem mr_57 : zfR [8] 57 (some a) (mH a m h) = some (some (a + 43)) := mH_fR (by decide) (by decide)
theorem mr_58 : zfR [8] 58 (some a) (mH a m h) = some (some (a + 44)) := mH_fR (by decide) (by decide)
theorem mr_59 : zfR [8] 59 (some a) (mH a m h) = some (some (a + 45)) := mH_fR (by decide) (by decide)
theorem mr_61 : zfR [8] 61 (some a) (mH a m h) = some (some (a + 46)) := mH_fR (by decide) (by decide)
theorem mr_62 : zfR [8] 62 (some a) (mH a m h) = some (some (a + 47)) := mH_fR (by decide) (by decide)
theorem mr_63 : zfR [8] 63 (some a) (mH a m h) = some (some (a + 48)) := mH_fR (by decide) (by decide)
theorem mr_65 : zfR [8] 65 (some a) (mH a m h) = some (some (a + 49)) := mH_fR (by decide) (by decide)
theorem mr_67 : zfR [8] 67 (some a) (mH a m h) = some (some (a + 50)) := mH_fR (by decide) (by decide)
end MR
/-! what a call does to the model's heap: its answer r and the new state m' are as P says -/
def Gv {α : Type} (P : α → mS → Prop) (a : Nat) (h : zHp) (o : Option (α × zHp)) : Prop := ∃ r m', o = some (r, mH a m' h) ∧ P r m'
section GV
variable {α β γ : Type} {P : α → mS → Prop} {a : Nat} {h : zHp}
theorem g_bind {o : Option β} {v : β} {F : β → Option (α × zHp)} (e : o = some v) (k : Gv P a h (F v)) : Gv P a h (o.bind F) := by rw [e]; exact k
theorem g_bN {o : Option (β × zHp)} {v : β} {h1 : zHp} {F : β → zHp → Option (α × zHp)} (e : o = some (v, h1)) (k : Gv P a h (F v h1)) : Gv P a h (bN o F) := by rw [e]; exact k
theorem g_call {P1 : β → mS → Prop} {o : Option (β × zHp)} {F : β → zHp → Option (α × zHp)} (e : Gv P1 a h o) (k : ∀ r m1, P1 r m1 → Gv P a h (F r (mH a m1 h))) : Gv P a h (bN o F) := by
  obtain ⟨r, m1, e, hp⟩ := e
  rw [e]
  exact k r m1 hp
theorem g_pos {c : Prop} {x y : Option (α × zHp)} (i : Decidable c) (e : c) (k : Gv P a h x) : Gv P a h (@ite _ c i x y) := by rw [if_pos e]; exact k
theorem g_neg {c : Prop} {x y : Option (α × zHp)} (i : Decidable c) (e : ¬ c) (k : Gv P a h y) : Gv P a h (@ite _ c i x y) := by rw [if_neg e]; exact k
theorem g_ret {r : α} {m : mS} (e : P r m) : Gv P a h (some (r, mH a m h)) := ⟨r, m, rfl, e⟩
theorem g_eq {o : Option (α × zHp)} {r : α} {m : mS} (e : o = some (r, mH a m h)) (hp : P r m) : Gv P a h o := ⟨r, m, e, hp⟩
theorem g_mono {Q : α → mS → Prop} {o : Option (α × zHp)} (e : Gv Q a h o) (k : ∀ r m1, Q r m1 → P r m1) : Gv P a h o := by
  obtain ⟨r, m1, e, hp⟩ := e
  exact ⟨r, m1, e, k r m1 hp⟩
end GV
