/-! ===== the specification ===== -/
/-- a camp: numbers (0 wide, 1 high, 2 people, 3 scouts, 4 winds), rows (0 kind, 1 told cell, 2 ears, 3 marks, 4 how many ways, 5 scouts' told cells, 6 winds, 10 + p ways of p), bushes, the law of hearing -/
abbrev Ex : Type := (Nat → Int32) → Int32
abbrev Cp : Type := (Nat → Nat) × (Nat → Nat → Nat) × (Nat → Bool) × Option Ex
abbrev cw (c : Cp) : Nat := c.1 0
abbrev chi (c : Cp) : Nat := c.1 1
abbrev cnp (c : Cp) : Nat := c.1 2
abbrev cns (c : Cp) : Nat := c.1 3
abbrev cnw (c : Cp) : Nat := c.1 4
abbrev ckd (c : Cp) (p : Nat) : Nat := c.2.1 0 p
abbrev ctl (c : Cp) (p : Nat) : Nat := c.2.1 1 p
abbrev cea (c : Cp) (p : Nat) : Nat := c.2.1 2 p
abbrev cmk (c : Cp) (p : Nat) : Nat := c.2.1 3 p
abbrev cwl (c : Cp) (p : Nat) : Nat := c.2.1 4 p
abbrev cwy (c : Cp) (p i : Nat) : Nat := c.2.1 (10 + p) i
abbrev csa (c : Cp) (s : Nat) : Nat := c.2.1 5 s
abbrev cwi (c : Cp) (i : Nat) : Nat := c.2.1 6 i
abbrev cbu (c : Cp) (q : Nat) : Bool := c.2.2.1 q
abbrev cex (c : Cp) : Option Ex := c.2.2.2
def cok (c : Cp) : Prop := (2 ≤ cw c ∧ cw c ≤ 6 ∧ 2 ≤ chi c ∧ chi c ≤ 6) ∧ (cnp c ≤ 5 ∧ cns c ≤ 4 ∧ cnw c ≤ 12) ∧ (∀ p, p < cnp c → ckd c p ≤ 3 ∧ ctl c p ≤ 35 ∧ cea c p ≤ 4 ∧ (1 ≤ cmk c p ∧ cmk c p ≤ 9) ∧ (1 ≤ cwl c p ∧ cwl c p ≤ 8) ∧ ∀ i, i < cwl c p → cwy c p i ≤ 4) ∧ (∀ s, s < cns c → csa c s ≤ 35) ∧ (∀ i, i < cnw c → cwi c i ≤ 4) ∧ (∀ q, q < 36 ∨ cbu c q = false) ∧ ∀ E, cex c = some E → ∀ v v' : Nat → Int32, (∀ k, 1 ≤ k → k ≤ 5 → v k = v' k) → E v = E v'
def cn (c : Cp) : Nat := cw c * chi c
theorem cok.n36 {c : Cp} (h : cok c) : cn c ≤ 36 := Nat.mul_le_mul h.1.2.1 h.1.2.2.2
def adf (i j : Nat) : Nat := (i - j) + (j - i)
/-- the next cell that way; none -/
def beyw (w hi x d : Nat) : Option Nat :=
  if d = 0 then some x
  else if d = 1 then (if x % w + 1 < w then some (x + 1) else none)
  else if d = 2 then (if x / w + 1 < hi then some (x + w) else none)
  else if d = 3 then (if 0 < x % w then some (x - 1) else none)
  else (if 0 < x / w then some (x - w) else none)
def bey (c : Cp) (x d : Nat) : Option Nat := beyw (cw c) (chi c) x d
def nxt (c : Cp) (x d : Nat) : Nat := (bey c x d).getD x
def far (c : Cp) (x y : Nat) : Nat := adf (x % cw c) (y % cw c) + adf (x / cw c) (y / cw c)
/-- the wind blows from the scout's cell x to the person's cell y -/
def upw (c : Cp) (x y b : Nat) : Bool :=
  if b = 1 then x % cw c ≤ y % cw c else if b = 2 then x / cw c ≤ y / cw c else if b = 3 then y % cw c ≤ x % cw c else if b = 4 then y / cw c ≤ x / cw c else false
def walk1 (c : Cp) (p x t : Nat) : Nat :=
  let d := cwy c p (t % cwl c p)
  if ckd c p = 1 then nxt c (nxt c x d) d else nxt c x d
def wnd (c : Cp) (t : Nat) : Nat := if cnw c = 0 then 0 else cwi c (t % cnw c)
theorem nxt_lt {c : Cp} (hc : cok c) {x d : Nat} (hx : x < cn c) : nxt c x d < cn c := by
  have h2 := hc.1.1
  have h3 := hc.1.2.2.1
  unfold nxt bey beyw
  unfold cn at *
  have hdm := Nat.div_add_mod x (cw c)
  have hml := Nat.mod_lt x (show 0 < cw c by omega)
  split
  · exact hx
  · split
    · split
      · rename_i h1
        show x + 1 < _
        have hq : x / cw c < chi c := Nat.div_lt_of_lt_mul hx
        have : cw c * (x / cw c) + cw c ≤ cw c * chi c := by
          calc cw c * (x / cw c) + cw c = cw c * (x / cw c + 1) := by rw [Nat.mul_add, Nat.mul_one]
            _ ≤ cw c * chi c := Nat.mul_le_mul_left _ hq
        omega
      · exact hx
    · split
      · split
        · rename_i h1
          show x + cw c < _
          have : cw c * (x / cw c + 1 + 1) ≤ cw c * chi c := Nat.mul_le_mul_left _ h1
          rw [Nat.mul_add, Nat.mul_add] at this
          omega
        · exact hx
      · split
        · split
          · show x - 1 < _; omega
          · exact hx
        · split
          · show x - cw c < _; omega
          · exact hx
theorem bey_lt {c : Cp} (hc : cok c) {x d y : Nat} (hx : x < cn c) (h : bey c x d = some y) : y < cn c := by
  have := nxt_lt hc (d := d) hx
  unfold nxt at this
  rw [h] at this
  exact this
theorem walk1_lt {c : Cp} (hc : cok c) {p x t : Nat} (hx : x < cn c) : walk1 c p x t < cn c := by
  unfold walk1
  simp only
  split
  · exact nxt_lt hc (nxt_lt hc hx)
  · exact nxt_lt hc hx
def b2i (b : Bool) : Int32 := if b then 1 else 0
/-- sets of small numbers -/
def hasb (s : Int32) (k : Nat) : Bool := (zshr s (nn k) &&& 1) = 1
def bits : Nat → (Nat → Bool) → Int32
  | 0, _ => 0
  | n + 1, P => bits n P ||| (if P n then zshl 1 (nn n) else 0)
theorem adf_comm (i j : Nat) : adf i j = adf j i := by unfold adf; omega
theorem far_comm (c : Cp) (x y : Nat) : far c x y = far c y x := by unfold far; rw [adf_comm, adf_comm (x / cw c)]
/-- the five facts -/
def fv (f hd st up ea : Int32) : Nat → Int32 := fun k => if k = 1 then f else if k = 2 then hd else if k = 3 then st else if k = 4 then up else if k = 5 then ea else 0
/-- whether person p in cell x, who stayed or not, hears a scout in cell y, who lies still or not, by a wind -/
def heard (c : Cp) (p x : Nat) (stayed : Bool) (y : Nat) (still : Bool) (b : Nat) : Bool :=
  if ckd c p = 3 ∧ stayed = false then false
  else match cex c with
    | none => decide (nn (far c x y) < nn (cea c p) + 1 + b2i (upw c y x b) - b2i (cbu c y) - b2i still)
    | some E => decide (E (fv (nn (far c x y)) (b2i (cbu c y)) (b2i still) (b2i (upw c y x b)) (nn (cea c p))) ≠ 0)
