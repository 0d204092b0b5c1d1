/-! ===== Throwable's <init>, under a launch without stack traces ===== -/
def zthr (a : Nat) (h : zHp) : Option zHp := (h.2.2.2.2 a).bind fun o => if (o.1 = 9 ∨ o.1 = 32) ∧ o.2.2 4 = zR none then (zgR 7 h).bind fun u => (zgR 8 h).bind fun w => some (zput a (o.1, o.2.1, va_up (va_up (va_up (va_up o.2.2 0 (zR (some a))) 1 (zR u)) 2 (zR w)) 1 (zR u)) h) else none
def bH {α β : Type} (o : Option ((α ⊕ Nat) × zHp)) (F : α → zHp → Option β) (K : Nat → zHp → Option β) : Option β := o.bind fun r => match r.1 with
  | .inl x => F x r.2
  | .inr a => K a r.2
theorem zthr_cls {t : Nat} (ht : t = 9 ∨ t = 32) : ∃ (K : String) (T : u_T) (N : Nat) (ty0 : Nat → FieldType), zcl[t]? = some (K, T, N) ∧ 6 ≤ N ∧ (∀ w ∈ u_ws K T N, w ∈ lw_all) ∧ (∀ j, j < N → parseFieldDescriptor (T j).2.2.1 = some (ty0 j)) ∧ (∀ a, a < N → ∀ b, b < N → a ≠ b → (T a).2.1 ≠ (T b).2.1) ∧ (T 0 = ("java/lang/Throwable", "cause", "Ljava/lang/Throwable;", false) ∧ T 1 = ("java/lang/Throwable", "stackTrace", "[Ljava/lang/StackTraceElement;", false) ∧ T 2 = ("java/lang/Throwable", "suppressedExceptions", "Ljava/util/List;", false) ∧ T 4 = ("java/lang/Throwable", "backtrace", "Ljava/lang/Object;", false)) ∧ Cond.selects K Bundle.tFill0 Bundle.tFill0 ∈ lw_all ∧ Cond.selects K Bundle.tFill Bundle.tFill ∈ lw_all := by
  rcases ht with rfl | rfl
  · exact ⟨RX10, TX10, 7, tyX10, rfl, by decide, in_X10, tyX10_ok, nmX10, ⟨rfl, rfl, rfl, rfl⟩, q762, q763⟩
  · exact ⟨RJ18, TJ18, 6, tyJ18, rfl, by decide, in_J18, tyJ18_ok, nmJ18, ⟨rfl, rfl, rfl, rfl⟩, q1712, q786⟩
theorem zcell_eta (c : Cell) (cl : ClassId) (sl : Array Value) (h : c = { cls := cl, slots := sl, vm := .none }) (k : Nat) (v : Value) : c.setSlot k v = { cls := cl, slots := sl.setIfInBounds k v, vm := .none } := by
  subst h
  rfl
section ZTH
variable {α β : Type} {G : zG} {X : zX} {y : MethodName} {cc : ByteArray} {nL pc d : Nat} {ret : Option FieldType} {h0 : zHp} {L L' : List (Option zV)} {st : List zV} {h : zHp} {e eT eF : Option α} {lf : α → zRes}
/-- a word on a static field, moved on -/
theorem zC.laysS (C : zC G X y cc nL d ret h0) {o n ds : String} (hw : Cond.laysStatic o n ds ∈ lw_tbl) : (Cond.laysStatic o n ds).before X.2.2.2.2.2.1 X.2.2.2.1 = true := by
  obtain ⟨-, -, -, -, -, -, -, hK, -, hH0, -⟩ := C
  have h1 := Cond.laysStatic_setVm hK.2.alike (hK.1.1 _ hw)
  obtain ⟨c, k, i, f, a, cell, e1, e2, e3, e4, e5, e6, e7, e8, e9⟩ := Cond.laysStatic_spec h1
  have ha : a < zB G := (Array.getElem?_eq_some_iff.mp e5).1
  exact Cond.laysStatic_of (s := X.2.2.2.1) e1 e2 e3 e4 ((hH0.2.2.1 a ha).trans e5) e6 e7 e8 e9
theorem zC.thrAtoms (C : zC G X y cc nL d ret h0) : ∀ c ∈ Bundle.throwableAtoms, c.before X.2.2.2.2.2.1 X.2.2.2.1 = true := by
  have hts := C.2.2.2.2.1
  intro c hc
  simp only [Bundle.throwableAtoms, List.mem_cons, List.not_mem_nil, or_false] at hc
  rcases hc with rfl | rfl | rfl | rfl | rfl | rfl | rfl | rfl | rfl | rfl | rfl | rfl | rfl | rfl | rfl | rfl | rfl | rfl | rfl | rfl | rfl | rfl | rfl | rfl
  · exact hts _ q134
  · exact hts _ q775
  · exact hts _ q784
  · exact hts _ q787
  · exact hts _ q790
  · exact hts _ q792
  · exact hts _ q776
  · exact hts _ q777
  · exact hts _ q175
  · exact hts _ q176
  · exact hts _ q778
  · exact hts _ q783
  · exact hts _ q788
  · exact hts _ q803
  · exact hts _ q765
  · exact hts _ q804
  · exact hts _ q767
  · exact hts _ q805
  · exact hts _ q769
  · exact hts _ q779
  · exact C.laysS q780
  · exact hts _ q781
  · exact C.laysS q782
  · exact hts _ q771
/-- a static's value, by the abstract heap -/
theorem zC.stat (C : zC G X y cc nL d ret h0) {H : Heap} (hH : zH G h H) {k : Nat} {q : String × String × String} (hk : zstat[k]? = some q) : va_Z q.1 q.2.1 q.2.2 (zv (h.2.2.2.1 k)) (fun a => zB G ≤ a) X.2.2.2.1 H := by
  have h1 := hH.2.2.2.2.2.1.1 k q hk
  obtain ⟨-, -, -, -, -, -, -, hK, -⟩ := C
  refine (h1.moved hK.2.alike).kept fun a ha _ => hH.2.2.1 a ha
theorem s_thr (C : zC G X y cc nL d ret h0) {idx a : Nat} (hd3 : 3 ≤ d) (hl : Cond.methodLink y.cls idx ⟨"java/lang/Throwable", "<init>", "()V"⟩ ∈ lw_all) (hd : decode cc pc = .ok (.invokespecial idx, 3)) (hs : zcats st ≤ 8) {F : zHp → Option α} (kk : ∀ h1, zthr a h = some h1 → zS G X nL (pc + 3) L st h1 (F h1) lf) : zS G X nL pc L (zR (some a) :: st) h ((zthr a h).bind F) lf := by
  intro res hr ls H locs cells slots hl2 hH hL
  cases hz : zthr a h with
  | none => rw [hz] at hr; cases hr
  | some h1 =>
    rw [hz] at hr
    have hz0 := hz
    unfold zthr at hz
    cases ha : h.2.2.2.2 a with
    | none => rw [ha] at hz; cases hz
    | some o =>
      obtain ⟨t, n, f⟩ := o
      rw [ha] at hz
      simp only [Option.bind_some] at hz
      split at hz
      · rename_i htf
        obtain ⟨ht, hback⟩ := htf
        cases hu : zgR 7 h with
        | none => rw [hu] at hz; cases hz
        | some u =>
          cases hw : zgR 8 h with
          | none => rw [hu, hw] at hz; cases hz
          | some w =>
            rw [hu, hw] at hz
            have hz : some _ = some h1 := hz
            have hz := Option.some.inj hz
            subst hz
            have hu2 := zasR_v hu
            have hw2 := zasR_v hw
            obtain ⟨K, TT, N, ty0, hq, hN, hin, hty, hnm, ⟨hT0, hT1, hT2, hT4⟩, hselw0, hselwF⟩ := zthr_cls ht
            have h33 := zcl_lt hq
            have hzA := hH.2.2.2.2.2.2 a _ ha
            unfold zAt at hzA
            rw [if_pos (show t < 200 by exact Nat.lt_trans h33 (by decide))] at hzA
            obtain ⟨hB, hNew⟩ := hzA
            obtain ⟨sl, q1, q2, q3, q4⟩ := id hNew
            have h100 : t < 100 := Nat.lt_trans h33 (by decide)
            rw [if_pos (show (t, n, f).1 < 100 from h100)] at q3
            obtain ⟨q, q5, q6⟩ := q3
            rw [hq] at q5
            cases q5
            have q6 : N = n := q6
            subst q6
            have hap := va_apart (own := y.cls) C.2.2.2.2.1 hin ty0 hty hnm C.vaK hq
            have hsl0 : ∀ j, zSl G t j = G.2.2.2.1.2 t j := fun j => by unfold zSl; rw [if_pos h100]
            have hcl0 : zCls G t = G.2.2.2.1.1 t := by unfold zCls; rw [if_pos h100]
            obtain ⟨hS, hfc, kC, hkC, hkind⟩ := C.kn hq
            intro T hT S
            have howns : X.2.1.platform.frameOwnsMonitors = true := by rw [S.admits.platform]
            have hfin : X.2.1.platform.finalization = false := by rw [S.admits.platform]
            have hpl : X.2.1.platform.magicAccessors = ({} : Platform).magicAccessors := by rw [S.admits.platform]
            obtain ⟨TC, Z, Lk, LZ, Y⟩ := ThrowableC.of_atoms (args := X.2.2.2.2.2.1) (s := X.2.2.2.1) howns hfin hpl C.thrAtoms
            have hsel0 : selectMethod X.2.1.platform X.2.2.2.1.vm (zCls G t) TC.fill0 = .method TC.fill0 := by
              obtain ⟨c2, r2, m2, p1, p2, p3, p4, -⟩ := Cond.selects_spec (C.2.2.2.2.1 _ hselw0)
              cases Option.some.inj (p1.symm.trans hfc)
              cases Option.some.inj (p2.symm.trans (State.methodFound?_of_named Y.fill0 (by decide)))
              cases Option.some.inj (p3.symm.trans Y.fill0)
              rw [Launch.admits_selectMethod S.admits, hcl0]; exact p4
            have hselF : selectMethod X.2.1.platform X.2.2.2.1.vm (zCls G t) TC.fill = .method TC.fill := by
              obtain ⟨c2, r2, m2, p1, p2, p3, p4, -⟩ := Cond.selects_spec (C.2.2.2.2.1 _ hselwF)
              cases Option.some.inj (p1.symm.trans hfc)
              cases Option.some.inj (p2.symm.trans (State.methodFound?_of_named Y.fill (by decide)))
              cases Option.some.inj (p3.symm.trans Y.fill)
              rw [Launch.admits_selectMethod S.admits, hcl0]; exact p4
            obtain ⟨ci198, i198, fB, hk198, hg198, ha198, hsB, -, hnB, htB, hffB⟩ := Cond.ownField (t := .object "java/lang/Object") Y.found Lk.cls (by decide +kernel) (C.2.2.2.2.1 _ q802) (C.2.2.2.2.1 _ q773) X.2.1.platform hpl
            obtain ⟨cf7, kf7, fi7, fd7, a7, cell7, g1, g2, g3, g4, g5, g6, g7, g8⟩ := C.stat hH (k := 7) rfl
            obtain ⟨cf8, kf8, fi8, fd8, a8, cell8, j1, j2, j3, j4, j5, j6, j7, j8⟩ := C.stat hH (k := 8) rfl
            cases Option.some.inj (g1.symm.trans Y.unassigned)
            cases Option.some.inj (j1.symm.trans Y.sentinel)
            cases Option.some.inj (g4.symm.trans Lk.statics)
            cases Option.some.inj (j4.symm.trans Lk.statics)
            cases Option.some.inj (g5.symm.trans j5)
            rw [hu2] at g7
            rw [hw2] at j7
            have hneS : TC.aS ≠ a := fun z => g8 (by rw [z]; exact hB)
            have hslot : ∀ (k : Nat) (O n' ds : String) (fl : Bool) (cf : ClassId) (kf : Class) (fi : Nat) (fd : Field), k < N → TT k = (O, n', ds, fl) → X.2.2.2.1.fieldFound? O n' ds = some (cf, kf, fi, fd) → fd.slot = zSl G t k := by
              intro k O n' ds fl cf kf fi fd hk he hff
              obtain ⟨cf', kf', fi', fd', hi, hsl⟩ := hS k hk
              have hi : X.2.2.2.1.fieldFound? (TT k).1 (TT k).2.1 (TT k).2.2.1 = some (cf', kf', fi', fd') := hi
              rw [he] at hi
              cases Option.some.inj (hi.symm.trans hff)
              rw [hsl0]
              exact hsl
            have sC := hslot 0 _ _ _ _ _ _ _ _ (by omega) hT0 Y.cause
            have sS := hslot 1 _ _ _ _ _ _ _ _ (by omega) hT1 Y.stack
            have sP := hslot 2 _ _ _ _ _ _ _ _ (by omega) hT2 Y.supp
            have sB := hslot 4 _ _ _ _ _ _ _ _ (by omega) hT4 hffB
            have htk : ∀ (k : Nat) (O n' ds : String) (fl : Bool) (cf : ClassId) (kf : Class) (fi : Nat) (fd : Field) (r : Option Nat), k < N → TT k = (O, n', ds, fl) → X.2.2.2.1.fieldFound? O n' ds = some (cf, kf, fi, fd) → ((∃ n, ty0 k = .object n) ∨ ∃ t, ty0 k = .array t) → Takes X.2.2.2.1 { cls := zCls G t, slots := sl, vm := .none } fd (zv (zR r)) := by
              intro k O n' ds fl cf kf fi fd r hk he hff hob
              refine ⟨?_, ?_⟩
              · rw [hslot k O n' ds fl cf kf fi fd hk he hff]
                exact (Array.getElem?_eq_some_iff.mp (q4 k hk)).1
              · have hlays := u_lays C.2.2.2.2.1 hin hk
                have hty2 := hty k hk
                rw [he] at hlays hty2
                have h6 := u_fits hfc hkC hkind hlays hff hty2 (zfitR _ hob r).1 (zfitR _ hob r).2
                rw [← hcl0] at h6
                exact h6.2
            have hty0' : ∀ k, k < N → ∀ O n' ds fl, TT k = (O, n', ds, fl) → parseFieldDescriptor ds = some (ty0 k) := fun k hk O n' ds fl he => by
              have := hty k hk
              rw [he] at this
              exact this
            have tC : ty0 0 = .object "java/lang/Throwable" := Option.some.inj ((hty0' 0 (by omega) _ _ _ _ hT0).symm.trans (by decide +kernel))
            have tS : ty0 1 = .array (.object "java/lang/StackTraceElement") := Option.some.inj ((hty0' 1 (by omega) _ _ _ _ hT1).symm.trans (by decide +kernel))
            have tP : ty0 2 = .object "java/util/List" := Option.some.inj ((hty0' 2 (by omega) _ _ _ _ hT2).symm.trans (by decide +kernel))
            have ap : ∀ x y, x < N → y < N → x ≠ y → zSl G t x ≠ zSl G t y := fun x y hx hy hne => by rw [hsl0, hsl0]; exact hap x y hx hy hne
            have hru : ∀ r, (zv (zR r)).isRef = true := fun r => by cases r <;> rfl
            have hTa : T.heap[a]? = some { cls := zCls G t, slots := sl, vm := .none } := by rw [hT]; exact q1
            have hskip : SkipFacts TC X.2.1.platform X.2.2.2.1 (fun u => u) ⟨zv (zR u), hru u⟩ ((preparedCellV TC.toThrowableT { cls := zCls G t, slots := sl, vm := .none } a ⟨zv (zR u), hru u⟩ ⟨zv (zR w), hru w⟩).withEntry T.cur) := by
              refine ⟨{ ci198 := ci198, i198 := i198, fBack := fB }, ⟨hk198, hg198, ha198, hsB⟩, ?_, fun _ _ => rfl⟩
              have b4 : sl[zSl G t 4]? = some (zv (f 4)) := q4 4 (show 4 < N by omega)
              have hback : f 4 = zR none := hback
              rw [hback] at b4
              have n0 := ap 0 4 (by omega) (by omega) (by decide)
              have n1 := ap 1 4 (by omega) (by omega) (by decide)
              have n2 := ap 2 4 (by omega) (by omega) (by decide)
              show (((sl.setIfInBounds TC.fCause.slot _).setIfInBounds TC.fStack.slot _).setIfInBounds TC.fSupp.slot _)[fB.slot]? = _
              rw [sB, sC, sS, sP, Array.getElem?_setIfInBounds_ne n2, Array.getElem?_setIfInBounds_ne n1, Array.getElem?_setIfInBounds_ne n0]
              exact b4
            obtain ⟨mk, methM, cM, kP, vm₁, hnamed, hmethM, hcodeM, -, hlocalsM, -, hkP, -, hW₁, hstep₁⟩ := Steps.initColdArgs (e := X.2.1) S.here C.1 S.warmed hpl C.2.2.2.1 (t := ⟨"java/lang/Throwable", "<init>", "()V"⟩) rfl (by decide) (C.2.2.2.2.1 _ hl) (C.2.2.2.2.1 _ q776) (C.2.2.2.2.1 _ q777) (f := F0 X.2.2.2.2.1 pc ls ((zR (some a) :: st).map zv)) rfl (argsL := []) (a := a) (rest := st.map zv) (fun sig hs => by
              have : parseMethodDescriptor "()V" = some sig := hs
              exact (zlen_of (y' := ⟨"java/lang/Throwable", "<init>", "()V"⟩) (n := 0) (by decide +kernel) hs).symm) rfl (by rw [C.2.1]; exact hd)
            cases Option.some.inj (hnamed.symm.trans Y.init0)
            have S₁ := S.noted hW₁
            obtain ⟨vm₂, S₂, st2⟩ := S₁.ctorPlainOffV C.1 (g := F0 X.2.2.2.2.1 pc ls (st.map zv)) rfl (hl2.1.trans C.2.2.1.symm) TC Lk Z LZ [] (fun P hP => by cases hP) trivial (u0 := ⟨zv (zR u), hru u⟩) (sen := ⟨zv (zR w), hru w⟩) (self := a) (cell := { cls := zCls G t, slots := sl, vm := .none }) (cellS := cell7)
              hTa (fun _ z => by cases z) (fun z => by cases z) rfl rfl hsel0 hselF (by show T.heap[TC.aS]? = _; rw [hT]; exact g5) hneS (fun z => by rw [z] at g6; cases g6) g7 j7 (htk 0 _ _ _ _ _ _ _ _ (some a) (by omega) hT0 Y.cause (Or.inl ⟨_, tC⟩)) (htk 1 _ _ _ _ _ _ _ _ u (by omega) hT1 Y.stack (Or.inr ⟨_, tS⟩)) (htk 2 _ _ _ _ _ _ _ _ w (by omega) hT2 Y.supp (Or.inl ⟨_, tP⟩)) Y.objLocals hskip (C.2.2.2.2.2.2.2.1.1.2.2.2.2.2 _ S.admits) [] (ig := .invokespecial idx) (len := 3) (by rw [C.2.1]; exact hd)
              (by rw [C.2.2.2.2.2.2.2.2.1]; exact hd3) (by
                rw [C.2.2.2.2.2.2.2.2.1, zcats_eq]
                have : (F0 X.2.2.2.2.1 pc ls (st.map zv)).monitorRoom = 0 := rfl
                show 2 * _ + zcats st + (13 * 0 + 41) ≤ 60 * d
                omega)
            have hlt : a < T.heap.size := (Array.getElem?_eq_some_iff.mp hTa).1
            have hasz : a < H.size := (Array.getElem?_eq_some_iff.mp q1).1
            have stp : ∀ (k : Nat) (v : zV) (f' : Nat → zV) (sl' : Array Value), k < N → zNew G a (t, N, f') (H.setIfInBounds a { cls := zCls G t, slots := sl', vm := .none }) → zNew G a (t, N, va_up f' k v) (H.setIfInBounds a { cls := zCls G t, slots := sl'.setIfInBounds (zSl G t k) (zv v), vm := .none }) := fun k v f' sl' hk hn => hn.set (Array.getElem?_setIfInBounds_self_of_lt hasz) hk ap (Array.getElem?_setIfInBounds_self_of_lt hasz)
            have n0 : zNew G a (t, N, f) (H.setIfInBounds a { cls := zCls G t, slots := sl, vm := .none }) := ⟨sl, Array.getElem?_setIfInBounds_self_of_lt hasz, q2, by rw [if_pos (show (t, N, f).1 < 100 from h100)]; exact ⟨_, hq, rfl⟩, q4⟩
            have n4 := stp 1 (zR u) _ _ (by omega) (stp 2 (zR w) _ _ (by omega) (stp 1 (zR u) _ _ (by omega) (stp 0 (zR (some a)) _ _ (by omega) n0)))
            rw [← sC, ← sS, ← sP] at n4
            have hset : zH G (zput a (t, N, va_up (va_up (va_up (va_up f 0 (zR (some a))) 1 (zR u)) 2 (zR w)) 1 (zR u)) h) (H.setIfInBounds a ((preparedCellV TC.toThrowableT { cls := zCls G t, slots := sl, vm := .none } a ⟨zv (zR u), hru u⟩ ⟨zv (zR w), hru w⟩).setSlot TC.fStack.slot (zv (zR u)))) := by
              refine hH.set ha (Nat.lt_trans h33 (by decide)) rfl (by simp) (fun q hq => Array.getElem?_setIfInBounds_ne (fun z => hq z.symm)) (fun c hc => ?_) n4
              rw [q1] at hc
              cases hc
              exact ⟨_, Array.getElem?_setIfInBounds_self_of_lt hasz, by simp [preparedCellV, Cell.setSlot]⟩
            have hgo := kk _ hz0 res hr ls _ (locs ++ [⟨a, TC.fCause.slot⟩, ⟨a, TC.fStack.slot⟩, ⟨a, TC.fSupp.slot⟩, ⟨a, TC.fStack.slot⟩]) cells slots hl2 hset (fun q hq => by
              rcases List.mem_append.mp hq with z | z
              · exact hL q z
              · simp only [List.mem_cons, List.not_mem_nil, or_false] at z
                rcases z with rfl | rfl | rfl | rfl <;> exact hB)
            obtain ⟨tt, b1, b2⟩ := hgo _ (by
              show (T.heap.setIfInBounds a _) = _
              rw [hT]) S₂
            refine ⟨tt, hstep₁ tt fun acts => ?_, b2⟩
            rw [doInvoke_state]
            exact st2 _ b1
      · cases hz
end ZTH
