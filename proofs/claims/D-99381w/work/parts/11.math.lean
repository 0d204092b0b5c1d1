set_option maxRecDepth 100000
def dkwJ5_min_0 : List UInt8 := [26, 27, 163, 0, 7, 26, 167, 0, 4, 27, 172]
abbrev dktJ5_min_0 : List UInt8 := dkwJ5_min_0 ++ []
theorem dksJ5_min_0 : cJ5_min.data.toList.drop 0 = dktJ5_min_0 := by decide +kernel
theorem dJ5_min_0 : decode cJ5_min 0 = .ok (.iload_n 0, 1) := dk_26 (dk_at dksJ5_min_0 0 rfl rfl)
theorem dJ5_min_1 : decode cJ5_min 1 = .ok (.iload_n 1, 1) := dk_27 (dk_at dksJ5_min_0 1 rfl rfl)
theorem dJ5_min_2 : decode cJ5_min 2 = .ok (.if_icmp .gt 7, 3) := dk_163 0 7 (dk_at dksJ5_min_0 2 rfl rfl)
theorem dJ5_min_5 : decode cJ5_min 5 = .ok (.iload_n 0, 1) := dk_26 (dk_at dksJ5_min_0 5 rfl rfl)
theorem dJ5_min_6 : decode cJ5_min 6 = .ok (.goto 4, 3) := dk_167 0 4 (dk_at dksJ5_min_0 6 rfl rfl)
theorem dJ5_min_9 : decode cJ5_min 9 = .ok (.iload_n 1, 1) := dk_27 (dk_at dksJ5_min_0 9 rfl rfl)
theorem dJ5_min_10 : decode cJ5_min 10 = .ok (.ireturn, 1) := dk_172 (dk_at dksJ5_min_0 10 rfl rfl)
def dkwJ5_max_0 : List UInt8 := [26, 27, 161, 0, 7, 26, 167, 0, 4, 27, 172]
abbrev dktJ5_max_0 : List UInt8 := dkwJ5_max_0 ++ []
theorem dksJ5_max_0 : cJ5_max.data.toList.drop 0 = dktJ5_max_0 := by decide +kernel
theorem dJ5_max_0 : decode cJ5_max 0 = .ok (.iload_n 0, 1) := dk_26 (dk_at dksJ5_max_0 0 rfl rfl)
theorem dJ5_max_1 : decode cJ5_max 1 = .ok (.iload_n 1, 1) := dk_27 (dk_at dksJ5_max_0 1 rfl rfl)
theorem dJ5_max_2 : decode cJ5_max 2 = .ok (.if_icmp .lt 7, 3) := dk_161 0 7 (dk_at dksJ5_max_0 2 rfl rfl)
theorem dJ5_max_5 : decode cJ5_max 5 = .ok (.iload_n 0, 1) := dk_26 (dk_at dksJ5_max_0 5 rfl rfl)
theorem dJ5_max_6 : decode cJ5_max 6 = .ok (.goto 4, 3) := dk_167 0 4 (dk_at dksJ5_max_0 6 rfl rfl)
theorem dJ5_max_9 : decode cJ5_max 9 = .ok (.iload_n 1, 1) := dk_27 (dk_at dksJ5_max_0 9 rfl rfl)
theorem dJ5_max_10 : decode cJ5_max 10 = .ok (.ireturn, 1) := dk_172 (dk_at dksJ5_max_0 10 rfl rfl)
def dkwJ5_abs_0 : List UInt8 := [26, 156, 0, 8, 26, 116, 167, 0, 4, 26, 172]
abbrev dktJ5_abs_0 : List UInt8 := dkwJ5_abs_0 ++ []
theorem dksJ5_abs_0 : cJ5_abs.data.toList.drop 0 = dktJ5_abs_0 := by decide +kernel
theorem dJ5_abs_0 : decode cJ5_abs 0 = .ok (.iload_n 0, 1) := dk_26 (dk_at dksJ5_abs_0 0 rfl rfl)
theorem dJ5_abs_1 : decode cJ5_abs 1 = .ok (.ifCond .ge 8, 3) := dk_156 0 8 (dk_at dksJ5_abs_0 1 rfl rfl)
theorem dJ5_abs_4 : decode cJ5_abs 4 = .ok (.iload_n 0, 1) := dk_26 (dk_at dksJ5_abs_0 4 rfl rfl)
theorem dJ5_abs_5 : decode cJ5_abs 5 = .ok (.ineg, 1) := dk_116 (dk_at dksJ5_abs_0 5 rfl rfl)
theorem dJ5_abs_6 : decode cJ5_abs 6 = .ok (.goto 4, 3) := dk_167 0 4 (dk_at dksJ5_abs_0 6 rfl rfl)
theorem dJ5_abs_9 : decode cJ5_abs 9 = .ok (.iload_n 0, 1) := dk_26 (dk_at dksJ5_abs_0 9 rfl rfl)
theorem dJ5_abs_10 : decode cJ5_abs 10 = .ok (.ireturn, 1) := dk_172 (dk_at dksJ5_abs_0 10 rfl rfl)
set_option maxRecDepth 100000

/-! java/lang/Math.min(II)I -/
def f_J5_min (n : Nat) (l0 : Int32) (l1 : Int32) (h : zHp) : Option (Int32 × zHp) :=
  some ((if l1 < l0 then l1 else l0), h)
theorem w_J5_min {G : zG} {X : zX} {d : Nat} {h0 : zHp} (C : zC G X yJ5_min cJ5_min 2 d (some .int) h0) (hd : 1 ≤ d) (n : Nat) (l0 : Int32) (l1 : Int32) (h : zHp) : zS G X 2 0 [some (zI l0), some (zI l1)] [] h (f_J5_min n  l0 l1 h) (li lvI) := by
  unfold f_J5_min
  refine s_iload_n (pc := 0) C dJ5_min_0 rfl ?_
  refine s_iload_n (pc := 1) C dJ5_min_1 rfl ?_
  refine zjS (σ := Int32) (if l1 < l0 then l1 else l0) 10 (fun v2 => [none, none]) (fun v2 => [zI v2]) ?_ (fun j => ?_)
  · exact s_ireturn (pc := 10) C dJ5_min_10
  · refine b_icmp_gt (pc := 2) (tgt := 9) C dJ5_min_2 (by decide) (fun cn1 => ?_) (fun cn1 => ?_)
    · refine s_iload_n (pc := 9) C dJ5_min_9 rfl ?_
      refine zS.weak [false, false] rfl (j _ (if_pos cn1).symm)
    · refine s_iload_n (pc := 5) C dJ5_min_5 rfl ?_
      refine s_goto (pc := 6) (tgt := 10) C dJ5_min_6 (by decide) ?_
      refine zS.weak [false, false] rfl (j _ (if_neg cn1).symm)
theorem t_J5_min {G : zG} {d : Nat} (hd : 1 ≤ d) (n : Nat) (l0 : Int32) (l1 : Int32) (h : zHp) : zT G d yJ5_min (ws_ yJ5_min cJ5_min 2 (some .int)) [zI l0, zI l1] h (f_J5_min n l0 l1 h) (li lvI) := zT.of (by decide +kernel) 0 (L0 := [some (zI l0), some (zI l1)]) rfl (Nat.le_of_ble_eq_true rfl) (fun X C => w_J5_min C hd n l0 l1 h)
/-! java/lang/Math.max(II)I -/
def f_J5_max (n : Nat) (l0 : Int32) (l1 : Int32) (h : zHp) : Option (Int32 × zHp) :=
  some ((if l0 < l1 then l1 else l0), h)
theorem w_J5_max {G : zG} {X : zX} {d : Nat} {h0 : zHp} (C : zC G X yJ5_max cJ5_max 2 d (some .int) h0) (hd : 1 ≤ d) (n : Nat) (l0 : Int32) (l1 : Int32) (h : zHp) : zS G X 2 0 [some (zI l0), some (zI l1)] [] h (f_J5_max n  l0 l1 h) (li lvI) := by
  unfold f_J5_max
  refine s_iload_n (pc := 0) C dJ5_max_0 rfl ?_
  refine s_iload_n (pc := 1) C dJ5_max_1 rfl ?_
  refine zjS (σ := Int32) (if l0 < l1 then l1 else l0) 10 (fun v2 => [none, none]) (fun v2 => [zI v2]) ?_ (fun j => ?_)
  · exact s_ireturn (pc := 10) C dJ5_max_10
  · refine b_icmp_lt (pc := 2) (tgt := 9) C dJ5_max_2 (by decide) (fun cn1 => ?_) (fun cn1 => ?_)
    · refine s_iload_n (pc := 9) C dJ5_max_9 rfl ?_
      refine zS.weak [false, false] rfl (j _ (if_pos cn1).symm)
    · refine s_iload_n (pc := 5) C dJ5_max_5 rfl ?_
      refine s_goto (pc := 6) (tgt := 10) C dJ5_max_6 (by decide) ?_
      refine zS.weak [false, false] rfl (j _ (if_neg cn1).symm)
theorem t_J5_max {G : zG} {d : Nat} (hd : 1 ≤ d) (n : Nat) (l0 : Int32) (l1 : Int32) (h : zHp) : zT G d yJ5_max (ws_ yJ5_max cJ5_max 2 (some .int)) [zI l0, zI l1] h (f_J5_max n l0 l1 h) (li lvI) := zT.of (by decide +kernel) 0 (L0 := [some (zI l0), some (zI l1)]) rfl (Nat.le_of_ble_eq_true rfl) (fun X C => w_J5_max C hd n l0 l1 h)
/-! java/lang/Math.abs(I)I -/
def f_J5_abs (n : Nat) (l0 : Int32) (h : zHp) : Option (Int32 × zHp) :=
  some ((if l0 < 0 then (-l0) else l0), h)
theorem w_J5_abs {G : zG} {X : zX} {d : Nat} {h0 : zHp} (C : zC G X yJ5_abs cJ5_abs 1 d (some .int) h0) (hd : 1 ≤ d) (n : Nat) (l0 : Int32) (h : zHp) : zS G X 1 0 [some (zI l0)] [] h (f_J5_abs n  l0 h) (li lvI) := by
  unfold f_J5_abs
  refine s_iload_n (pc := 0) C dJ5_abs_0 rfl ?_
  refine zjS (σ := Int32) (if l0 < 0 then (-l0) else l0) 10 (fun v2 => [none]) (fun v2 => [zI v2]) ?_ (fun j => ?_)
  · exact s_ireturn (pc := 10) C dJ5_abs_10
  · refine b_if_ge (pc := 1) (tgt := 9) C dJ5_abs_1 (by decide) (fun cn1 => ?_) (fun cn1 => ?_)
    · refine s_iload_n (pc := 9) C dJ5_abs_9 rfl ?_
      refine zS.weak [false] rfl (j _ (if_neg cn1).symm)
    · refine s_iload_n (pc := 4) C dJ5_abs_4 rfl ?_
      refine s_ineg (pc := 5) C dJ5_abs_5 ?_
      refine s_goto (pc := 6) (tgt := 10) C dJ5_abs_6 (by decide) ?_
      refine zS.weak [false] rfl (j _ (if_pos cn1).symm)
theorem t_J5_abs {G : zG} {d : Nat} (hd : 1 ≤ d) (n : Nat) (l0 : Int32) (h : zHp) : zT G d yJ5_abs (ws_ yJ5_abs cJ5_abs 1 (some .int)) [zI l0] h (f_J5_abs n l0 h) (li lvI) := zT.of (by decide +kernel) 0 (L0 := [some (zI l0)]) rfl (Nat.le_of_ble_eq_true rfl) (fun X C => w_J5_abs C hd n l0 h)
