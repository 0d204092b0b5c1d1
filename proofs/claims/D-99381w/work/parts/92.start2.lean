set_option maxRecDepth 100000
/-- the boxes of a cache -/
theorem zcache {args : Array Value} {s : State} {st u : Term} {K D : String} {vf : Nat → Value} (hc : st.closed = true) (hu : ∀ k : Nat, u.eval args s none [k] s = some (vf k)) (harr : (Cond.arrayOf st (.object K)).before args s = true) (hlen : (Term.length st).eval args s none [] s = some (.int (Int32.ofNat 256)))
    (hall : (Cond.all st (.and (.exactly (.elem st (.index 0)) K) (.eq (.field (.elem st (.index 0)) K "value" D) u))).before args s = true) :
    ∃ (t : Nat) (ad : Nat → Nat), st.eval args s none [] s = some (.ref t) ∧ va_T (.object K) t 256 (fun k => .ref (ad k)) (fun _ => False) s s.heap ∧ ∀ k : Nat, k < 256 → va_O K (ad k) (fun _ => False) s s.heap ∧ va_OF K "value" D (vf k) (ad k) (fun _ => False) s s.heap := by
  obtain ⟨b, cell, ht, hat, hv⟩ := Term.length_spec hlen
  have hsz : ∀ k : Nat, k < 256 → k < cell.slots.size := by
    intro k hk
    apply Nat.not_le.mp
    intro hle
    have e : Int32.ofNat cell.slots.size = Int32.ofNat 256 := (Value.int.inj hv).symm
    have h1 : (Int32.ofNat cell.slots.size).toNatClampNeg = cell.slots.size := Int32.toNatClampNeg_ofNat_of_lt (by omega)
    have h2 : (Int32.ofNat 256).toNatClampNeg = 256 := Int32.toNatClampNeg_ofNat_of_lt (by omega)
    rw [e, h2] at h1
    omega
  have hall' := Cond.all_elim ht hat (by simpa [Cond.before, Cond.holds] using hall)
  have h0 : ∀ k : Nat, ∃ a : Nat, k < 256 → (Term.elem st (.int (Int32.ofNat k))).eval args s none [] s = some (.ref a) ∧ va_O K a (fun _ => False) s s.heap ∧ va_OF K "value" D (vf k) a (fun _ => False) s s.heap := by
    intro k
    by_cases hk : k < 256
    · obtain ⟨hE, hF⟩ := va_andE (hall' k (hsz k hk))
      obtain ⟨a, c, cA, kA, q1, q2, q3, q4, q5, q6, -⟩ := Cond.exactly_spec (args := args) (first := s) (o := none) (s := s) (idx := [k]) (t := .elem st (.index 0)) (cls := K) (by simp [Cond.holds, hE])
      have hfv := va_eqI hF (hu k)
      refine ⟨a, fun _ => ⟨?_, ⟨cA, q3, q5, by rw [q6]; exact q2, fun h => h⟩, ?_⟩⟩
      · rw [← q1]
        simp only [Term.eval, Term.eval_closed none [k] st s hc]
        rfl
      · cases hfo : s.fieldFound? K "value" D with
        | none =>
          rw [va_fe q1] at hfv
          simp [State.fieldOf?, State.fieldNamed?, hfo] at hfv
        | some x =>
          obtain ⟨cf, kf, fi, f⟩ := x
          obtain ⟨g1, cell2, g2, g3, -, -, g6⟩ := Term.field_spec hfo q1 hfv
          exact ⟨cf, kf, fi, f, cell2, hfo, g1, g2, g3, g6, fun h => h⟩
    · exact ⟨0, fun h => absurd h hk⟩
  obtain ⟨ad, had⟩ := Classical.axiomOfChoice h0
  obtain ⟨t, ht2, hT⟩ := va_Tof (f := fun k => .ref (ad k)) (A := fun _ => False) (by decide) harr hlen (fun j hj => (had j hj).1) (fun _ _ h => h)
  exact ⟨t, ad, ht2, hT, fun k hk => (had k hk).2⟩
theorem zname_ne {s : State} {A B : String} {c : ClassId} (hA : s.vm.findClass A = some c) (hB : s.vm.findClass B = some c) : A = B := by
  obtain ⟨k, hk, hn⟩ := Vm.findClass_spec hA
  obtain ⟨k', hk', hn'⟩ := Vm.findClass_spec hB
  cases hk.symm.trans hk'
  exact hn.symm.trans hn'
/-- the law's start, as an abstract heap -/
theorem zstart {l : Launch} {s : State} {b L : Nat} {xs : Nat → Int32} (hflag : l.flags = flags0) (hfit : heapFits s = true) (hts : ∀ w ∈ lw_tbl, w.before #[Value.ref b] s = true) (hX : va_X b L xs s s.heap) (hgv : (Jvm.Cond.and given_1 narrow_1).before #[Value.ref b] s = true) : ∃ (G : zG) (h : zHp), G.1 = l ∧ G.2.1 = s ∧ zFa G ∧ zH G h s.heap ∧ zIni b L xs h := by
  have hs := flat_of_before _ hgv
  have hts' : ∀ w ∈ lw_all, w.before #[Value.ref b] s = true := fun w hw => hts w (lw_all_tbl hw)
  have hkn : ∀ c : Nat, ∃ (p : ClassId × (Nat → Nat)), ∀ q : vw_C, zcl[c]? = some q → u_Kn s q.1 q.2.1 q.2.2 p.1 p.2 := by
    intro c
    cases hc : zcl[c]? with
    | none => exact ⟨(0, fun _ => 0), fun q h => by cases h⟩
    | some q =>
      obtain ⟨cC, iS, h⟩ := zkn_all hts' q (List.mem_of_getElem? hc)
      exact ⟨(cC, iS), fun q' h' => by cases h'; exact h⟩
  obtain ⟨kn, hkn⟩ := Classical.axiomOfChoice hkn
  obtain ⟨ar, har⟩ := Classical.axiomOfChoice (zarr_all hts)
  have hstr := zstr_all hs
  have hst0 : ∀ j : Nat, ∃ p : Nat × Nat, ∀ q : Nat × List Int32, zsb[j]? = some q → (ztS q.1).eval #[Value.ref b] s none [] s = some (.ref p.1) ∧ va_O "java/lang/String" p.1 (fun _ => False) s s.heap ∧ va_OF "java/lang/String" "coder" "B" (.int 0) p.1 (fun _ => False) s s.heap ∧ va_OF "java/lang/String" "value" "[B" (.ref p.2) p.1 (fun _ => False) s s.heap ∧ va_T .byte p.2 q.2.length (fun j => .int (q.2.getD j 0)) (fun _ => False) s s.heap := by
    intro j
    cases hj : zsb[j]? with
    | none => exact ⟨(0, 0), fun q h => by cases h⟩
    | some q =>
      obtain ⟨a, v, h⟩ := hstr q (List.mem_of_getElem? hj)
      exact ⟨(a, v), fun q' h' => by cases h'; exact h⟩
  obtain ⟨sa, hsa⟩ := Classical.axiomOfChoice hst0
  -- the class of Strings
  obtain ⟨-, ⟨cellS, o1, o2, o3, -⟩, ⟨cfC, kC, iC, fC, cellC, f1, f2, f3, f4, f5, -⟩, ⟨cfV, kV, iV, fV, cellV, g1, g2, g3, g4, g5, -⟩, -⟩ := hsa 0 _ rfl
  cases o1.symm.trans f3
  cases o1.symm.trans g3
  generalize hcS : cellS.cls = cS at o3
  -- G
  let D : va_G := (fun c => if c = 40 then cS else (kn c).1, fun c k => if c = 40 then (if k = 0 then fV.slot else fC.slot) else (kn c).2 k)
  let G : zG := (l, s, b, D, ar)
  have hD : ∀ c, c ≠ 40 → D.1 c = (kn c).1 ∧ D.2 c = (kn c).2 := fun c hc => ⟨if_neg hc, by funext k; exact if_neg hc⟩
  have d40 : D.1 40 = cS := by
    show (if (40 : Nat) = 40 then cS else (kn 40).1) = cS
    rw [if_pos rfl]
  have s400 : D.2 40 0 = fV.slot := rfl
  have s401 : D.2 40 1 = fC.slot := rfl
  have hKn : ∀ (c : Nat) (q : vw_C), zcl[c]? = some q → u_Kn s q.1 q.2.1 q.2.2 (D.1 c) (D.2 c) := by
    intro c q hq
    have h33 := zcl_lt hq
    rw [(hD c (by omega)).1, (hD c (by omega)).2]
    exact hkn c q hq
  have k30 := hKn 30 _ rfl
  have k31 := hKn 31 _ rfl
  have hFa : zFa G := by
    refine ⟨hts, hKn, har, ?_, ?_, ?_⟩
    · show s.vm.findClass "java/lang/String" = some (D.1 40)
      rw [d40]
      exact o3
    · intro k hk
      rcases (show k = 0 ∨ k = 1 by omega) with rfl | rfl
      · exact ⟨cfV, kV, iV, fV, g1, g2, rfl⟩
      · exact ⟨cfC, kC, iC, fC, f1, f2, rfl⟩
    · intro e ha
      have ha : l.admits e := ha
      rw [ha.platform]
      show l.stackTraces = false
      unfold Launch.stackTraces
      rw [hflag]
      decide +kernel
  have hEx : zEx G := by
    have n40 := o3
    have n30 := k30.2.1
    have n31 := k31.2.1
    refine ⟨⟨fun e => ?_, fun e => ?_, fun e => ?_⟩, ?_⟩
    · have e : D.1 40 = D.1 30 := e
      rw [d40] at e
      rw [e] at n40
      exact absurd (zname_ne n40 n30) (by decide)
    · have e : D.1 40 = D.1 31 := e
      rw [d40] at e
      rw [e] at n40
      exact absurd (zname_ne n40 n31) (by decide)
    · have e : D.1 30 = D.1 31 := e
      rw [e] at n30
      exact absurd (zname_ne n30 n31) (by decide)
    · intro t ht k comp ty hk hkd
      rcases ht with rfl | rfl | rfl
      · have hk : s.vm.classes[D.1 40]? = some k := hk
        rw [d40] at hk
        have hA : s.isArrayOf cellS ty := ⟨fun q e => (by rw [e] at o2; cases o2), k, (by rw [hcS]; exact hk), comp, hkd⟩
        have t1 := zfits_arr hA (zfits_kind hfit o1 f5)
        have t2 := zfits_arr hA (zfits_kind hfit o1 g5)
        cases ty <;> simp [fits] at t1 t2
      · obtain ⟨-, -, k', h1, h2⟩ := k30
        have hk : s.vm.classes[D.1 30]? = some k := hk
        cases hk.symm.trans h1
        rw [h2] at hkd
        cases hkd
      · obtain ⟨-, -, k', h1, h2⟩ := k31
        have hk : s.vm.classes[D.1 31]? = some k := hk
        cases hk.symm.trans h1
        rw [h2] at hkd
        cases hkd
  -- statics
  have hstat := zstat_all hts hs
  obtain ⟨mi, hmi⟩ := va_Mi.of (C := "[Ljava/lang/Object;") (hs (.isRef (.mirror "[Ljava/lang/Object;")) (by decide +kernel))
  let sv : Nat → Value := fun k => ((zstat[k]?).bind fun q => (Term.static q.1 q.2.1 q.2.2).eval #[Value.ref b] s none [] s).getD .null
  let st : Nat → zV := fun k => if k = 50 then zR (some mi) else if 100 ≤ k then zR (some (sa (k - 100)).1) else zval (sv k)
  have hsv : ∀ (k : Nat) (q : String × String × String) (v : Value), zstat[k]? = some q → (Term.static q.1 q.2.1 q.2.2).eval #[Value.ref b] s none [] s = some v → st k = zval v := by
    intro k q v hk hv
    have hk9 : k < 9 := (List.getElem?_eq_some_iff.mp hk).1
    show (if k = 50 then zR (some mi) else if 100 ≤ k then zR (some (sa (k - 100)).1) else zval (sv k)) = _
    rw [if_neg (by omega), if_neg (by omega)]
    show zval (((zstat[k]?).bind fun q => (Term.static q.1 q.2.1 q.2.2).eval #[Value.ref b] s none [] s).getD .null) = _
    rw [hk, Option.bind_some, hv]
    rfl
  have hSt : zSt G st := by
    refine ⟨fun k q hk => ?_, fun j q hj => ?_, mi, rfl, hmi⟩
    · obtain ⟨v, hv, hr, hz⟩ := hstat q (List.mem_of_getElem? hk)
      rw [hsv k q v hk hv, zv_zval hr]
      exact hz
    · have hj27 : j < 27 := (List.getElem?_eq_some_iff.mp hj).1
      have hall : ∀ j : Nat, j < 27 → ∀ q : Nat × String, zstr[j]? = some q → ∃ q', zsb[j]? = some q' ∧ q'.1 = q.1 ∧ Cond.stringRef "OrdinaryStalk$Reader" q.1 q.2 ∈ lw_tbl := by
        intro j hj q hq
        have := zstr_words q (List.mem_of_getElem? hq)
        have hz : (zsb[j]?).map (·.1) = (zstr[j]?).map (·.1) := by
          rw [← List.getElem?_map, ← List.getElem?_map]
          rw [show zsb.map (·.1) = zstr.map (·.1) from by decide]
        rw [hq] at hz
        obtain ⟨q', h1, h2⟩ := Option.map_eq_some_iff.mp hz
        exact ⟨q', h1, h2, this⟩
      obtain ⟨q', h1, h2, h3⟩ := hall j hj27 q hj
      refine ⟨(sa j).1, ?_, vk_R.of (hts _ h3) (by rw [← h2]; exact (hsa j q' h1).1)⟩
      show (if 100 + j = 50 then zR (some mi) else if 100 ≤ 100 + j then zR (some (sa (100 + j - 100)).1) else zval (sv (100 + j))) = _
      rw [if_neg (by omega), if_pos (by omega), Nat.add_sub_cancel_left]
  let h : zHp := (s.heap.size, 860086, 6515845, st, zmap0 G)
  have hH : zH G h s.heap := by
    refine ⟨rfl, Nat.le_refl _, fun _ _ => rfl, rfl, ?_, hSt, fun a o ha => ?_⟩
    · have : zsum (zB G) s.heap = 0 := by
        show ((s.heap.toList.drop s.heap.size).map (·.slots.size)).sum = 0
        rw [List.drop_of_length_le (by simp)]
        rfl
      show zsum (zB G) s.heap + 6515845 = 6515845
      omega
    · obtain ⟨q1, q2, q3⟩ := zmap0_at ha
      unfold zAt
      rw [if_neg (by omega)]
      exact ⟨q1, q2⟩
  refine ⟨G, h, rfl, rfl, hFa, hH, rfl, rfl, fun a ha => ?_, ?_, ?_, ?_, ?_, ?_, ?_, ?_, ?_, ?_, ⟨mi, rfl⟩, fun j q hj => ?_⟩
  · show zmap0 G a = none
    unfold zmap0
    have : G.2.1.heap[a]? = none := Array.getElem?_eq_none_iff.mpr ha
    rw [this]
    rfl
  · obtain ⟨scr, x1, x2, x3, x4, x5⟩ := hX
    obtain ⟨sz, g, y1, y2, y3, y4, y5, y6⟩ := zmap0_arr (t := 300) (N := L) (f := fun j => .int (xs j)) hEx (by decide) (by decide) (by decide) ⟨scr, x1, x2, x3, Nat.le_of_eq x4.symm, by rw [x4], x5, fun h => h⟩ hfit
    have := y6 scr x1
    rw [x4] at this
    subst this
    exact ⟨g, y1, fun k hk => y4 k hk⟩
  · have hv : ∃ v, (Term.static "java/util/ArrayList" "DEFAULTCAPACITY_EMPTY_ELEMENTDATA" "[Ljava/lang/Object;").eval #[Value.ref b] s none [] s = some (.ref v) ∧ va_T (.object "java/lang/Object") v 0 (fun _ => .null) (fun _ => False) s s.heap := va_Tof (tm := Term.static "java/util/ArrayList" "DEFAULTCAPACITY_EMPTY_ELEMENTDATA" "[Ljava/lang/Object;") (N := 0) (f := fun _ => .null) (A := fun _ => False) (by decide) (hs _ (by decide +kernel)) (va_eqt (hs _ (by decide +kernel))) (fun j hj => by omega) (fun _ _ h => h)
    obtain ⟨v, hv, hT⟩ := hv
    obtain ⟨sz, g, y1, y2, y3, y4, y5, y6⟩ := zmap0_arr (t := 304) (N := 0) (f := fun _ => .null) hEx (by decide) (by decide) (by decide) hT hfit
    exact ⟨v, sz, g, hsv 1 _ _ rfl hv, y1, y3⟩
  · exact hsv 2 _ _ rfl (va_eqt (hs _ (by decide +kernel)))
  · obtain ⟨t, ad, c1, c2, c3⟩ := zcache (s := s) (args := #[Value.ref b]) (K := "java/lang/Integer") (D := "I") (st := Term.static "java/lang/Integer$IntegerCache" "cache" "[Ljava/lang/Integer;") (u := .sub (.index 0) (.int 128)) (vf := fun k => .int (Int32.ofNat k - 128)) (by decide) (fun k => by simp [Term.eval]) (hs _ (by decide +kernel)) (va_eqt (hs _ (by decide +kernel))) (hs _ (by decide +kernel))
    obtain ⟨sz, g, y1, y2, y3, y4, y5, y6⟩ := zmap0_arr (t := 308) (N := 256) hEx (by decide) (by decide) (by decide) c2 hfit
    refine ⟨t, sz, g, ad, hsv 3 _ _ rfl c1, y1, y2, fun k hk => ⟨y4 k hk, ?_⟩⟩
    obtain ⟨⟨cl, p1, p2, p3, -⟩, ⟨cf, kf, i, f, cl', r1, r2, r3, r4, r5, -⟩⟩ := c3 k hk
    cases p1.symm.trans r3
    obtain ⟨q1, q2, q3⟩ := k31
    obtain ⟨cf', kf', i', f', w1, w2⟩ := q1 0 (by decide)
    have w1 : s.fieldFound? "java/lang/Integer" "value" "I" = some (cf', kf', i', f') := w1
    cases r1.symm.trans w1
    obtain ⟨g2, z1, z2, -⟩ := zmap0_box (K := "") (n := "") (d := "") (t := 231) hEx (Or.inr rfl) p1 r4 (fun q e => by rw [e] at p2; cases p2) (Option.some.inj (p3.symm.trans q2)) (by rw [← w2]; exact r5) (Or.inl ⟨_, rfl⟩)
    exact ⟨g2, z1, z2⟩
  · obtain ⟨t, ad, c1, c2, c3⟩ := zcache (s := s) (args := #[Value.ref b]) (K := "java/lang/Long") (D := "J") (st := Term.static "java/lang/Long$LongCache" "cache" "[Ljava/lang/Long;") (u := .op1 .i2l (.sub (.index 0) (.int 128))) (vf := fun k => .long (Int32.ofNat k - 128).toInt64) (by decide) (fun k => by simp [Term.eval, Unary.apply]) (hs _ (by decide +kernel)) (va_eqt (hs _ (by decide +kernel))) (hs _ (by decide +kernel))
    obtain ⟨sz, g, y1, y2, y3, y4, y5, y6⟩ := zmap0_arr (t := 309) (N := 256) hEx (by decide) (by decide) (by decide) c2 hfit
    refine ⟨t, sz, g, ad, hsv 4 _ _ rfl c1, y1, y2, fun k hk => ⟨y4 k hk, ?_⟩⟩
    obtain ⟨⟨cl, p1, p2, p3, -⟩, ⟨cf, kf, i, f, cl', r1, r2, r3, r4, r5, -⟩⟩ := c3 k hk
    cases p1.symm.trans r3
    obtain ⟨q1, q2, q3⟩ := k30
    obtain ⟨cf', kf', i', f', w1, w2⟩ := q1 0 (by decide)
    have w1 : s.fieldFound? "java/lang/Long" "value" "J" = some (cf', kf', i', f') := w1
    cases r1.symm.trans w1
    obtain ⟨g2, z1, z2, -⟩ := zmap0_box (K := "") (n := "") (d := "") (t := 230) hEx (Or.inl rfl) p1 r4 (fun q e => by rw [e] at p2; cases p2) (Option.some.inj (p3.symm.trans q2)) (by rw [← w2]; exact r5) (Or.inr (Or.inl ⟨_, rfl⟩))
    exact ⟨g2, z1, z2⟩
  · exact hsv 5 _ _ rfl (va_eqt (hs _ (by decide +kernel)))
  · obtain ⟨v, hv, hr⟩ := Cond.isRef_spec (hs (.isRef (.static "jdk/internal/util/Preconditions" "SIOOBE_FORMATTER" "Ljava/util/function/BiFunction;")) (by decide +kernel))
    rw [show h.2.2.2.1 6 = zval v from hsv 6 _ _ rfl hv]
    cases v <;> first | exact ⟨_, rfl⟩ | (simp [Value.isRef] at hr)
  · obtain ⟨v, hv, hr⟩ := Cond.isRef_spec (hs (.isRef (.static "java/lang/Throwable" "UNASSIGNED_STACK" "[Ljava/lang/StackTraceElement;")) (by decide +kernel))
    rw [show h.2.2.2.1 7 = zval v from hsv 7 _ _ rfl hv]
    cases v <;> first | exact ⟨_, rfl⟩ | (simp [Value.isRef] at hr)
  · obtain ⟨v, hv, hr⟩ := Cond.isRef_spec (hs (.isRef (.static "java/lang/Throwable" "SUPPRESSED_SENTINEL" "Ljava/util/List;")) (by decide +kernel))
    rw [show h.2.2.2.1 8 = zval v from hsv 8 _ _ rfl hv]
    cases v <;> first | exact ⟨_, rfl⟩ | (simp [Value.isRef] at hr)
  · obtain ⟨e1, ⟨cl, p1, p2, p3, -⟩, ⟨cfC', kC', iC', fC', cl', r1, r2, r3, r4, r5, -⟩, ⟨cfV', kV', iV', fV', cl'', t1, t2, t3, t4, t5, -⟩, hT⟩ := hsa j q hj
    cases p1.symm.trans r3
    cases p1.symm.trans t3
    cases f1.symm.trans r1
    cases g1.symm.trans t1
    obtain ⟨g, z1, z2, z3, -⟩ := zmap0_str (G := G) hEx p1 t4 (fun q e => by rw [e] at p2; cases p2) (by
      show cl.cls = D.1 40
      rw [d40]
      exact Option.some.inj (p3.symm.trans o3)) t5 r5
    obtain ⟨sz, g', y1, y2, y3, y4, y5, y6⟩ := zmap0_arr (G := G) (t := 303) hEx (by decide) (by decide) (by decide) hT hfit
    refine ⟨(sa j).1, (sa j).2, g, g', sz, ?_, z1, z2, z3, y1, y2, y3, y4⟩
    show (if 100 + j = 50 then zR (some mi) else if 100 ≤ 100 + j then zR (some (sa (100 + j - 100)).1) else zval (sv (100 + j))) = _
    rw [if_neg (by omega), if_pos (by omega), Nat.add_sub_cancel_left]
