/-! ===== handlers: a method whose table has one row ===== -/
abbrev zTab (X : zX) : List (Nat × Nat × Nat × Nat) := X.2.2.2.2.2.2.2.2.exceptionTable.toList.map (fun h => (h.startPc, h.endPc, h.handlerPc, h.catchType))
theorem zT.ofW {α : Type} {G : zG} {d : Nat} {y : MethodName} {cc : ByteArray} {nL : Nat} {ret : Option FieldType} {hh : List (Nat × Nat × Nat × Nat)} {av : List zV} {h : zHp} {e : Option α} {lf : α → zRes} (hy : plainFor y = true) (k : Nat) {L0 : List (Option zV)} (hL0 : zent av ++ List.replicate k none = L0) (hlen : zcats av ≤ nL)
    (body : ∀ X : zX, zC G X y cc nL d ret h → zTab X = hh → zS G X nL 0 L0 [] h e lf) : zT G d y (wsW_ y cc nL ret hh) av h e lf := by
  intro r hr
  refine MetFree.of_bodySF (code := cc) (maxLocals := nL) (ret := ret) hy ?_ ?_
  · intro args s m h hn
    obtain ⟨m', meth, c, h0, h1, h2, h3, h4, -, h5, h6, -⟩ := Cond.codeWith_spec (atoms_spec (ws := wsW_ y cc nL ret hh) h _ List.mem_cons_self)
    cases hn.symm.trans h0
    exact ⟨meth, c, h1, h2, h3, h4, h5, h6⟩
  · intro p e' s m args below meth c s₁ B hml hP _
    obtain ⟨rfl, hK, hH⟩ := hP
    have hh0 : s₁.heap = s.heap := by rw [B.state]; rfl
    have hts := atoms_spec (ws := wsW_ y cc nL ret hh) B.pre
    have hE : zTab (p, e', zRm d h, s, m, (av.map zv).toArray, below, meth, c) = hh := by
      obtain ⟨m', meth', c', g0, g1, g2, g3, g4, g5, g6, g7, -⟩ := Cond.codeWith_spec (hts _ List.mem_cons_self)
      cases B.named.symm.trans g0
      cases B.method.symm.trans g1
      cases (Stand.of_body B).code.symm.trans g2
      exact g5
    have C : zC G (p, e', zRm d h, s, m, (av.map zv).toArray, below, meth, c) y cc nL d ret h := ⟨B.exec, B.bytes, hml, findClass_of_methodNamed B.named, fun w hw => hts w (List.mem_cons_of_mem _ hw), B.returns, B.notSynchronized, hK, rfl, hH, (name_of_methodNamed B.named B.method).1⟩
    have hl := lv_entry (av.map zv) (n := nL) (by rw [zlg]; exact hlen)
    have hgo := body _ C hE r hr _ s.heap [] 0 0 ⟨hl.1, hl.2.1, fun i v hi => by
      have hi2 : (zent av)[i]? = some (some v) := by
        rw [← hL0] at hi
        by_cases hlt : i < (zent av).length
        · rw [List.getElem?_append_left hlt] at hi
          exact hi
        · rw [List.getElem?_append_right (by omega)] at hi
          have := List.eq_of_mem_replicate (List.mem_of_getElem? hi)
          cases this
      have := zent_arg av 0 i v hi2
      rw [Nat.zero_add] at this
      exact hl.2.2 (i, zv v) this⟩ hH (fun q hq => by cases hq)
    obtain ⟨t, a1, o, b1, b2, b3⟩ := hgo s₁ hh0 (Stand.of_body B)
    refine ⟨t, o, ?_, b1, b2, b3⟩
    rw [lg_entry_eq]
    exact a1
/-- the search through a table of one row, whose class is the object's own: resolved or not yet -/
theorem zfind1 {e : Env} {s : State} {f : JFrame} {a : Addr} {meth : Method} {code : Code} {x : ExceptionTableEntry} (hm : s.vm.method? f.method = some meth) (hc : meth.code = some code) (hT : code.exceptionTable.toList = [x]) (hx : covers x f.pc = true) (h0 : x.catchType ≠ 0) {cell : Cell}
    (hl : s.vm.ClassLinks e.platform f.method.cls x.catchType cell.cls) (hcell : s.heap[a]? = some cell) (hobj : ∀ k, cell.vm ≠ .statics k) (hk : ∃ k, s.vm.classes[cell.cls]? = some k) (Q : Handler → Pre) (E : CtlPost) (d : Bool) (acts : List Action) :
    wp (findHandler f a) Q E e d acts s ↔ Q (.found x.handlerPc) d acts (s.setVm (s.vm.noted f.method.cls x.catchType (.cls cell.cls))) := by
  rw [W.findHandler_eq hm hc, hT]
  simp only [covers] at hx
  obtain ⟨ha, ht⟩ := (resolveClass_links e.toSetting hl).op (op := VmOp.resolveClass f.method.cls x.catchType) rfl
  have hal : s.vm.Alike (s.vm.noted f.method.cls x.catchType (.cls cell.cls)) := (Vm.Alike.refl s.vm).noted _ _ _
  obtain ⟨k1, hk1⟩ := hk
  obtain ⟨k1', hk1', -⟩ := hal.2.2 _ _ hk1
  have hfit : (s.vm.noted f.method.cls x.catchType (.cls cell.cls)).assignable cell.cls cell.cls = true := by
    show Vm.assignableAux _ (255 + 1) _ _ = true
    rw [Vm.assignableAux, Bool.or_eq_true, beq_iff_eq]
    exact Or.inl rfl
  simp [findHandler.go, hx, h0, ha, ht, hcell, hobj, hk1', hfit, VmOp.dirties, VmOp.acts]
section ZCA
variable {α β : Type} {G : zG} {X : zX} {y : MethodName} {cc : ByteArray} {nL pc d : Nat} {ret : Option FieldType} {h0 : zHp} {L L' : List (Option zV)} {st : List zV} {h : zHp} {e eT eF : Option α} {lf : α → zRes}
/-- caught in the walked method -/
theorem zcaught (C : zC G X y cc nL d ret h0) {b0 b1 hp ct t a : Nat} {K : String} {T0 : u_T} {N : Nat} (hT : zTab X = [(b0, b1, hp, ct)]) (hpc : b0 ≤ pc ∧ pc < b1) (hct : ct ≠ 0) (hq : zcl[t]? = some (K, T0, N)) (hlink : Cond.classLink y.cls ct K ∈ lw_all) (hz : ∃ o, h.2.2.2.2 a = some o ∧ o.1 = t)
    {T : State} {locs : List Loc} {cells slots : Nat} (hH : zH G h T.heap) (S : zSd G X T locs cells slots) {ls : Array Slot} {stk : List Value} : ∃ vm', zSd G X (T.setVm vm') locs cells slots ∧
      ∀ target, Steps X.1.tables X.2.1 X.2.2.2.2.2.2.1 ((T.setVm vm').setTop (F0 X.2.2.2.2.1 hp ls [.ref a])) target → Steps X.1.tables X.2.1 X.2.2.2.2.2.2.1 ((T.setTop (F0 X.2.2.2.2.1 pc ls stk)).pushFrame (.throwing a)) target := by
  obtain ⟨cell, c1, c2, c3⟩ := zrecv C hH hz hq
  have hpl : X.2.1.platform.magicAccessors = ({} : Platform).magicAccessors := by rw [S.admits.platform]
  obtain ⟨c', hc', hcl⟩ := Cond.classLink_spec C.2.2.2.1 (C.2.2.2.2.1 _ hlink) X.2.1.platform hpl
  cases c3.symm.trans hc'
  obtain ⟨dk, _, _, kt, hd, _, _, _, _, hkt, _, hopen⟩ := hcl.here
  have hcl2 := S.warmed.classLinks hcl
  have hW' : X.2.2.2.1.WarmedH (T.vm.noted X.2.2.2.2.1.cls ct (.cls cell.cls)) := S.warmed.noted hd hopen (State.rightAt_cls hcl)
  obtain ⟨kt', hkt', -⟩ := S.warmed.alike.2.2 _ _ hkt
  obtain ⟨x, hx⟩ : ∃ x, X.2.2.2.2.2.2.2.2.exceptionTable.toList = [x] := by
    have := congrArg List.length hT
    rw [List.length_map] at this
    exact List.length_eq_one_iff.mp this
  have hx2 := hT
  unfold zTab at hx2
  rw [hx] at hx2
  simp only [List.map_cons, List.map_nil, List.cons.injEq, Prod.mk.injEq, and_true] at hx2
  obtain ⟨e1, e2, e3, e4⟩ := hx2
  refine ⟨_, S.noted hW', fun target hrest => ?_⟩
  have hA : At T (F0 X.2.2.2.2.1 pc ls stk).method X.2.2.2.2.2.2.2.2 X.2.2.2.2.2.2.1 := S.here
  obtain ⟨hgo, hw⟩ := hA.throwing a
  have hcov : covers x (F0 X.2.2.2.2.1 pc ls stk).pc = true := by
    show covers x pc = true
    simp [covers, e1, e2, hpc.1, hpc.2]
  have hfind := @zfind1 X.2.1 ((T.setTop (F0 X.2.2.2.2.1 pc ls stk)).pushFrame (.throwing a)) (F0 X.2.2.2.2.1 pc ls stk) a X.2.2.2.2.2.2.2.1 X.2.2.2.2.2.2.2.2 x S.method' S.code hx hcov (by rw [e4]; exact hct) cell (by rw [e4]; exact hcl2) c1 c2 ⟨kt', hkt'⟩
  have hstep : (stepThrowing X.2.1 ((T.setTop (F0 X.2.2.2.2.1 pc ls stk)).pushFrame (.throwing a)) a (.java (F0 X.2.2.2.2.1 pc ls stk) :: T.frames.tail)).Is ((((T.setTop (F0 X.2.2.2.2.1 pc ls stk)).pushFrame (.throwing a)).setVm (T.vm.noted X.2.2.2.2.1.cls ct (.cls cell.cls))).setFrames (.java (F0 X.2.2.2.2.1 hp ls [.ref a]) :: T.frames.tail)) [] := by
    simp only [stepThrowing, searchFrame, vmDo]
    generalize hr : Sem.go _ X.2.1 false [] _ = res
    obtain ⟨as, rfl, ha⟩ := Sem.eq_ok_of hr (a := Handler.found hp) (s' := ((T.setTop (F0 X.2.2.2.2.1 pc ls stk)).pushFrame (.throwing a)).setVm (T.vm.noted X.2.2.2.2.1.cls ct (.cls cell.cls))) (acts' := []) (by
      have hvm : ((T.setTop (F0 X.2.2.2.2.1 pc ls stk)).pushFrame (.throwing a)).vm = T.vm := Stand.throwing_vm T _ a
      have hmm : (F0 X.2.2.2.2.1 pc ls stk).method = X.2.2.2.2.1 := rfl
      simp [hfind, e3, e4, hvm, hmm])
    exact ⟨rfl, ha⟩
  refine Steps.head hgo hw ?_
  rw [stepThread_throwing (frames_entered hA.top _), hstep.1]
  obtain ⟨g₀, hg⟩ := Option.isSome_iff_exists.mp hA.top
  obtain ⟨r, hr⟩ := State.topJava?_eq_some.mp hg
  have hr' : (T.setVm (T.vm.noted X.2.2.2.2.1.cls ct (.cls cell.cls))).frames = .java g₀ :: r := hr
  rw [State.setTop_of_frames _ hr'] at hrest
  have key : ∀ (F1 F2 : List Frame), (((T.setFrames F1).setFrames F2).setVm (T.vm.noted X.2.2.2.2.1.cls ct (.cls cell.cls))) = (T.setVm (T.vm.noted X.2.2.2.2.1.cls ct (.cls cell.cls))).setFrames F2 := fun F1 F2 => by
    rw [State.setFrames_setFrames]
    rfl
  rw [hr, List.tail_cons, State.pushFrame, State.setTop_of_frames _ hr, key, State.setFrames_setFrames]
  exact hrest
theorem s_callH (C : zC G X y cc nL d ret h0) {b0 b1 hp ct t : Nat} {K : String} {T0 : u_T} {N : Nat} (hT : zTab X = [(b0, b1, hp, ct)]) (hpc : b0 ≤ pc ∧ pc < b1) (hct : ct ≠ 0) (hq : zcl[t]? = some (K, T0, N)) (hlink : Cond.classLink y.cls ct K ∈ lw_all) (lv : β → Option zV) {d' nL' : Nat} {y' : MethodName} {ws' : List Cond} {av stk : List zV} {e1 : Option ((β ⊕ Nat) × zHp)} {ig : Instr} (hM : zT G d' y' ws' av h e1 (lt lv)) (hc : zCe X d d' nL' y' ws') (hk : zLk G X pc h stk st y' av) (hd : decode cc pc = .ok (ig, 3)) (hs : zcats st ≤ 8) {F : β → zHp → Option α} {KK : Nat → zHp → Option α} (kk : ∀ x h1, e1 = some (.inl x, h1) → zS G X nL (pc + 3) L ((lv x).toList ++ st) h1 (F x h1) lf) (kh : ∀ a h1, zS G X nL hp L [zR (some a)] h1 (KK a h1) lf) : zS G X nL pc L stk h (bH e1 F (fun a h1 => (zrc [t] (some a) h1).bind fun a => KK a h1)) lf := by
  intro res hr ls H locs cells slots hl hH hL
  cases he : e1 with
  | none => rw [he] at hr; cases hr
  | some r1 =>
    obtain ⟨x, h1⟩ := r1
    rw [he] at hr
    refine zW_tight C hH fun r1 r2 => ?_
    intro T hT2 S
    obtain ⟨vm₁, mk, S₁, hn, hst⟩ := hk ls H locs _ _ T hH hT2 S
    obtain ⟨U', locs', k, n, S2, hH2, hL2, hsteps⟩ := zrun C (hM _ he) hc.1 hc.2.1 hc.2.2.1 hc.2.2.2.1 hc.2.2.2.2 S₁ (by show zH G h T.heap; rw [hT2]; exact hH) hL (g := F0 X.2.2.2.2.1 pc ls (st.map zv)) rfl (hl.1.trans C.2.2.1.symm) (by rw [C.2.1]; exact hd) (lv_room (by rw [zcats_eq]; exact hs)) hn r1 r2
    cases x with
    | inl x =>
      obtain ⟨t, a1, b1⟩ := kk x h1 he res hr ls U'.heap locs' k n hl hH2 hL2 U' rfl S2
      refine ⟨t, hst t (hsteps.trans ?_), b1⟩
      have : (((lv x).toList ++ st).map zv) = ((lv x).map zv).toList ++ st.map zv := by
        cases lv x <;> rfl
      rw [this] at a1
      exact a1
    | inr a =>
      have hr2 : ((zrc [t] (some a) h1).bind fun a => KK a h1) = some res := hr
      unfold zrc at hr2
      rw [Option.bind_some] at hr2
      cases ho : h1.2.2.2.2 a with
      | none => rw [ho] at hr2; cases hr2
      | some o =>
        rw [ho, Option.bind_some] at hr2
        by_cases hto : o.1 ∈ [t]
        · rw [if_pos hto, Option.bind_some] at hr2
          have hto2 : o.1 = t := by simpa using hto
          obtain ⟨vm', S3, hst3⟩ := zcaught C hT hpc hct hq hlink ⟨o, ho, hto2⟩ (T := U') (h := h1) hH2 S2 (ls := ls) (stk := st.map zv)
          obtain ⟨tt, a1, b1⟩ := kh a h1 res hr2 ls U'.heap locs' k n hl hH2 hL2 (U'.setVm vm') rfl S3
          exact ⟨tt, hst tt (hsteps.trans (hst3 tt a1)), b1⟩
        · rw [if_neg hto] at hr2
          cases hr2
def zKcW (y' : MethodName) (cc' : ByteArray) (nL' : Nat) (ret' : Option FieldType) (hh : List (Nat × Nat × Nat × Nat)) : Prop := zNH y' ∧ Cond.codeWith y' cc' nL' ret' hh ∈ lw_all ∧ Cond.initialized y'.cls ∈ lw_all ∧ nL' ≤ 41
theorem zceW (C : zC G X y cc nL d ret h0) {d' nL' : Nat} {y' : MethodName} {cc' : ByteArray} {ret' : Option FieldType} {hh : List (Nat × Nat × Nat × Nat)} (kc : zKcW y' cc' nL' ret' hh) (hd' : d' + 1 ≤ d) : zCe X d d' nL' y' (wsW_ y' cc' nL' ret' hh) := zCe.ofW C hd' kc.2.2.2 kc.2.1 kc.2.2.1
theorem zlkSW (C : zC G X y cc nL d ret h0) {nL' : Nat} {y' : MethodName} {cc' : ByteArray} {ret' : Option FieldType} {hh : List (Nat × Nat × Nat × Nat)} (kc : zKcW y' cc' nL' ret' hh) {idx np : Nat} (kb : zKS y.cls idx y' np) (hd : decode cc pc = .ok (.invokestatic idx, 3)) (av : List zV) (hn : av.length = np) {stk : List zV} (hs : stk = av.reverse ++ st) : zLk G X pc h stk st y' av := by
  subst hn
  rcases kb.1 with e | ⟨host, e⟩
  · exact lk_S C (zMs.ofW (C.2.2.2.2.1 _ kc.2.1)) e kb.2.1 kc.2.2.1 kc.1 hd av kb.2.2 hs
  · exact lk_SN C (zMs.ofW (C.2.2.2.2.1 _ kc.2.1)) e kb.2.1 kc.2.2.1 kc.1 hd av kb.2.2 hs
theorem zlkVW (C : zC G X y cc nL d ret h0) {nL' : Nat} {y' : MethodName} {cc' : ByteArray} {ret' : Option FieldType} {hh : List (Nat × Nat × Nat × Nat)} (kc : zKcW y' cc' nL' ret' hh) {idx t a np : Nat} (kb : zKV y.cls idx t y' np) (hd : decode cc pc = .ok (.invokevirtual idx, 3)) (hz : ∃ o, h.2.2.2.2 a = some o ∧ o.1 = t) (av : List zV) (hn : av.length = np) {stk : List zV} (hs : stk = av.reverse ++ zR (some a) :: st) : zLk G X pc h stk st y' (zR (some a) :: av) := by
  subst hn
  obtain ⟨k1, k2, k3, K, T0, N, hq, hsel⟩ := kb
  rcases k1 with e | ⟨host, e⟩
  · exact lk_V C (zMs.ofW (C.2.2.2.2.1 _ kc.2.1)) hq e k2 hsel kc.1 hd hz av k3 hs
  · exact lk_VN C (zMs.ofW (C.2.2.2.2.1 _ kc.2.1)) hq e k2 hsel kc.1 hd hz av k3 hs
end ZCA
