/-! ===== joins, names, branches that come together ===== -/
def zlet {σ β : Type} (v : σ) (F : σ → β) : β := F v
theorem zb_ite {c : Prop} [Decidable c] {x w : Int32} (hx : x = 0 ∨ x = 1) (hw : w = 0 ∨ w = 1) : (if c then x else w) = 0 ∨ (if c then x else w) = 1 := by
  split
  · exact hx
  · exact hw
theorem zcov {lo hi : Int} {ks : List Int32} (n : Nat) (hn : hi = lo + n - 1) (hc : (List.range n).all (fun (i : Nat) => ks.any (fun k => k.toInt == lo + i)) = true) : ∀ z : Int, lo ≤ z → z ≤ hi → ∃ k ∈ ks, k.toInt = z := by
  intro z h1 h2
  have h3 := List.all_eq_true.mp hc (z - lo).toNat (List.mem_range.mpr (by omega))
  obtain ⟨k, hk, e⟩ := List.any_eq_true.mp h3
  refine ⟨k, hk, ?_⟩
  have := eq_of_beq e
  omega
section ZR2
variable {α : Type} {G : zG} {X : zX} {y : MethodName} {cc : ByteArray} {nL pc d : Nat} {ret : Option FieldType} {h0 : zHp} {L L' : List (Option zV)} {st : List zV} {h : zHp} {e eT eF : Option α} {lf : α → zRes}
theorem zjS {σ : Type} (v0 : σ) (pc' : Nat) (fL : σ → List (Option zV)) (fs : σ → List zV) (j : zS G X nL pc' (fL v0) (fs v0) h e lf) (k : (∀ v, v = v0 → zS G X nL pc' (fL v) (fs v) h e lf) → zS G X nL pc L st h e lf) : zS G X nL pc L st h e lf := k (fun v hv => hv ▸ j)
theorem s_let {σ : Type} (v0 : σ) (fL : σ → List (Option zV)) {F : σ → Option α} (k : ∀ x, x = v0 → zS G X nL pc (fL x) st h (F x) lf) : zS G X nL pc (fL v0) st h (zlet v0 F) lf := k v0 rfl
theorem s_zret1 (C : zC G X y cc nL d (some .boolean) h0) {x : Int32} (hx : x = 0 ∨ x = 1) (hd : decode cc pc = .ok (.ireturn, 1)) : zS G X nL pc L [zI x] h (some (x, h)) (li lvI) := by
  have := s_zreturn (L := L) (h := h) (x := x) C hd
  rw [if_pos hx] at this
  exact this
theorem s_zret1T (C : zC G X y cc nL d (some .boolean) h0) {x : Int32} (hx : x = 0 ∨ x = 1) (hd : decode cc pc = .ok (.ireturn, 1)) : zS G X nL pc L [zI x] h (some (.inl x, h)) (lt lvI) := by
  have := s_zreturnT (L := L) (h := h) (x := x) C hd
  rw [if_pos hx] at this
  exact this
theorem s_putZ1 (C : zC G X y cc nL d ret h0) {idx k : Nat} {ts : List Nat} {r : Option Nat} {x : Int32} (hx : x = 0 ∨ x = 1) (hP : zPk y idx ts k .boolean) (hd : decode cc pc = .ok (.putfield idx, 3)) {F : zHp → Option α} (kk : ∀ h1, zpf ts k r (zI x) h = some h1 → zS G X nL (pc + 3) L st h1 (F h1) lf) : zS G X nL pc L (zI x :: zR r :: st) h ((zpf ts k r (zI x) h).bind F) lf := s_put C hP (zfitZ hx).1 (zfitZ hx).2 hd kk
theorem s_zastore1 (C : zC G X y cc nL d ret h0) {r : Option Nat} {i x : Int32} (hx : x = 0 ∨ x = 1) (hd : decode cc pc = .ok (.bastore, 1)) {F : zHp → Option α} (kk : ∀ h1, zas [102] r i (zI x) h = some h1 → zS G X nL (pc + 1) L st h1 (F h1) lf) : zS G X nL pc L (zI x :: zI i :: zR r :: st) h ((zas [102] r i (zI x) h).bind F) lf := by
  have := s_zastore C hd kk
  rw [if_pos hx] at this
  exact this
theorem b_if_eq (C : zC G X y cc nL d ret h0) {x : Int32} {off : Int} {tgt : Nat} (hd : decode cc pc = .ok (.ifCond .eq off, 3)) (ht : (pc : Int) + off = (tgt : Int)) (kt : x = 0 → zS G X nL tgt L st h e lf) (kf : ¬ x = 0 → zS G X nL (pc + 3) L st h e lf) : zS G X nL pc L (zI x :: st) h e lf := fun r hr => s_if_eq (eT := e) (eF := e) C hd ht kt kf r (by rw [ite_self]; exact hr)
theorem b_if_ne (C : zC G X y cc nL d ret h0) {x : Int32} {off : Int} {tgt : Nat} (hd : decode cc pc = .ok (.ifCond .ne off, 3)) (ht : (pc : Int) + off = (tgt : Int)) (kt : ¬ x = 0 → zS G X nL tgt L st h e lf) (kf : x = 0 → zS G X nL (pc + 3) L st h e lf) : zS G X nL pc L (zI x :: st) h e lf := fun r hr => s_if_ne (eT := e) (eF := e) C hd ht kt kf r (by rw [ite_self]; exact hr)
theorem b_if_lt (C : zC G X y cc nL d ret h0) {x : Int32} {off : Int} {tgt : Nat} (hd : decode cc pc = .ok (.ifCond .lt off, 3)) (ht : (pc : Int) + off = (tgt : Int)) (kt : x < 0 → zS G X nL tgt L st h e lf) (kf : ¬ x < 0 → zS G X nL (pc + 3) L st h e lf) : zS G X nL pc L (zI x :: st) h e lf := fun r hr => s_if_lt (eT := e) (eF := e) C hd ht kt kf r (by rw [ite_self]; exact hr)
theorem b_if_ge (C : zC G X y cc nL d ret h0) {x : Int32} {off : Int} {tgt : Nat} (hd : decode cc pc = .ok (.ifCond .ge off, 3)) (ht : (pc : Int) + off = (tgt : Int)) (kt : ¬ x < 0 → zS G X nL tgt L st h e lf) (kf : x < 0 → zS G X nL (pc + 3) L st h e lf) : zS G X nL pc L (zI x :: st) h e lf := fun r hr => s_if_ge (eT := e) (eF := e) C hd ht kt kf r (by rw [ite_self]; exact hr)
theorem b_if_gt (C : zC G X y cc nL d ret h0) {x : Int32} {off : Int} {tgt : Nat} (hd : decode cc pc = .ok (.ifCond .gt off, 3)) (ht : (pc : Int) + off = (tgt : Int)) (kt : 0 < x → zS G X nL tgt L st h e lf) (kf : ¬ 0 < x → zS G X nL (pc + 3) L st h e lf) : zS G X nL pc L (zI x :: st) h e lf := fun r hr => s_if_gt (eT := e) (eF := e) C hd ht kt kf r (by rw [ite_self]; exact hr)
theorem b_if_le (C : zC G X y cc nL d ret h0) {x : Int32} {off : Int} {tgt : Nat} (hd : decode cc pc = .ok (.ifCond .le off, 3)) (ht : (pc : Int) + off = (tgt : Int)) (kt : ¬ 0 < x → zS G X nL tgt L st h e lf) (kf : 0 < x → zS G X nL (pc + 3) L st h e lf) : zS G X nL pc L (zI x :: st) h e lf := fun r hr => s_if_le (eT := e) (eF := e) C hd ht kt kf r (by rw [ite_self]; exact hr)
theorem b_icmp_eq (C : zC G X y cc nL d ret h0) {x w : Int32} {off : Int} {tgt : Nat} (hd : decode cc pc = .ok (.if_icmp .eq off, 3)) (ht : (pc : Int) + off = (tgt : Int)) (kt : x = w → zS G X nL tgt L st h e lf) (kf : ¬ x = w → zS G X nL (pc + 3) L st h e lf) : zS G X nL pc L (zI w :: zI x :: st) h e lf := fun r hr => s_icmp_eq (eT := e) (eF := e) C hd ht kt kf r (by rw [ite_self]; exact hr)
theorem b_icmp_ne (C : zC G X y cc nL d ret h0) {x w : Int32} {off : Int} {tgt : Nat} (hd : decode cc pc = .ok (.if_icmp .ne off, 3)) (ht : (pc : Int) + off = (tgt : Int)) (kt : ¬ x = w → zS G X nL tgt L st h e lf) (kf : x = w → zS G X nL (pc + 3) L st h e lf) : zS G X nL pc L (zI w :: zI x :: st) h e lf := fun r hr => s_icmp_ne (eT := e) (eF := e) C hd ht kt kf r (by rw [ite_self]; exact hr)
theorem b_icmp_lt (C : zC G X y cc nL d ret h0) {x w : Int32} {off : Int} {tgt : Nat} (hd : decode cc pc = .ok (.if_icmp .lt off, 3)) (ht : (pc : Int) + off = (tgt : Int)) (kt : x < w → zS G X nL tgt L st h e lf) (kf : ¬ x < w → zS G X nL (pc + 3) L st h e lf) : zS G X nL pc L (zI w :: zI x :: st) h e lf := fun r hr => s_icmp_lt (eT := e) (eF := e) C hd ht kt kf r (by rw [ite_self]; exact hr)
theorem b_icmp_ge (C : zC G X y cc nL d ret h0) {x w : Int32} {off : Int} {tgt : Nat} (hd : decode cc pc = .ok (.if_icmp .ge off, 3)) (ht : (pc : Int) + off = (tgt : Int)) (kt : ¬ x < w → zS G X nL tgt L st h e lf) (kf : x < w → zS G X nL (pc + 3) L st h e lf) : zS G X nL pc L (zI w :: zI x :: st) h e lf := fun r hr => s_icmp_ge (eT := e) (eF := e) C hd ht kt kf r (by rw [ite_self]; exact hr)
theorem b_icmp_gt (C : zC G X y cc nL d ret h0) {x w : Int32} {off : Int} {tgt : Nat} (hd : decode cc pc = .ok (.if_icmp .gt off, 3)) (ht : (pc : Int) + off = (tgt : Int)) (kt : w < x → zS G X nL tgt L st h e lf) (kf : ¬ w < x → zS G X nL (pc + 3) L st h e lf) : zS G X nL pc L (zI w :: zI x :: st) h e lf := fun r hr => s_icmp_gt (eT := e) (eF := e) C hd ht kt kf r (by rw [ite_self]; exact hr)
theorem b_icmp_le (C : zC G X y cc nL d ret h0) {x w : Int32} {off : Int} {tgt : Nat} (hd : decode cc pc = .ok (.if_icmp .le off, 3)) (ht : (pc : Int) + off = (tgt : Int)) (kt : ¬ w < x → zS G X nL tgt L st h e lf) (kf : w < x → zS G X nL (pc + 3) L st h e lf) : zS G X nL pc L (zI w :: zI x :: st) h e lf := fun r hr => s_icmp_le (eT := e) (eF := e) C hd ht kt kf r (by rw [ite_self]; exact hr)
theorem b_acmp_eq (C : zC G X y cc nL d ret h0) {x w : Option Nat} {off : Int} {tgt : Nat} (hd : decode cc pc = .ok (.if_acmp .eq off, 3)) (ht : (pc : Int) + off = (tgt : Int)) (kt : x = w → zS G X nL tgt L st h e lf) (kf : ¬ x = w → zS G X nL (pc + 3) L st h e lf) : zS G X nL pc L (zR w :: zR x :: st) h e lf := fun r hr => s_acmp_eq (eT := e) (eF := e) C hd ht kt kf r (by rw [ite_self]; exact hr)
theorem b_acmp_ne (C : zC G X y cc nL d ret h0) {x w : Option Nat} {off : Int} {tgt : Nat} (hd : decode cc pc = .ok (.if_acmp .ne off, 3)) (ht : (pc : Int) + off = (tgt : Int)) (kt : ¬ x = w → zS G X nL tgt L st h e lf) (kf : x = w → zS G X nL (pc + 3) L st h e lf) : zS G X nL pc L (zR w :: zR x :: st) h e lf := fun r hr => s_acmp_ne (eT := e) (eF := e) C hd ht kt kf r (by rw [ite_self]; exact hr)
theorem b_ifnull (C : zC G X y cc nL d ret h0) {x : Option Nat} {off : Int} {tgt : Nat} (hd : decode cc pc = .ok (.ifnull off, 3)) (ht : (pc : Int) + off = (tgt : Int)) (kt : x = none → zS G X nL tgt L st h e lf) (kf : ¬ x = none → zS G X nL (pc + 3) L st h e lf) : zS G X nL pc L (zR x :: st) h e lf := fun r hr => s_ifnull (eT := e) (eF := e) C hd ht kt kf r (by rw [ite_self]; exact hr)
theorem b_ifnonnull (C : zC G X y cc nL d ret h0) {x : Option Nat} {off : Int} {tgt : Nat} (hd : decode cc pc = .ok (.ifnonnull off, 3)) (ht : (pc : Int) + off = (tgt : Int)) (kt : ¬ x = none → zS G X nL tgt L st h e lf) (kf : x = none → zS G X nL (pc + 3) L st h e lf) : zS G X nL pc L (zR x :: st) h e lf := fun r hr => s_ifnonnull (eT := e) (eF := e) C hd ht kt kf r (by rw [ite_self]; exact hr)
end ZR2
