/-! ===== calls ===== -/
def zcats (st : List zV) : Nat := (st.map zcat).sum
theorem zcats_eq (st : List zV) : ((st.map zv).map fun v => v.category).sum = zcats st := by
  unfold zcats
  congr 1
  rw [List.map_map]
  apply List.map_congr_left
  intro v _
  exact zcat_eq v
theorem zlg : ∀ vs : List zV, (lg_sl (vs.map zv)).length = zcats vs
  | [] => rfl
  | v :: vs => by
    have ih := zlg vs
    unfold lg_sl at ih ⊢
    rw [List.map_cons, List.flatMap_cons, List.length_append, ih]
    show _ + zcats vs = zcat v + zcats vs
    congr 1
    rw [zcat_eq]
    match v with
    | .inl x => rfl
    | .inr (.inl x) => rfl
    | .inr (.inr x) => rfl
theorem zT.ofE {α : Type} {G : zG} {d : Nat} {y : MethodName} {cc : ByteArray} {nL : Nat} {ret : Option FieldType} {av : List zV} {h : zHp} {e : Option α} {lf : α → zRes} (hy : plainFor y = true) (k : Nat) {L0 : List (Option zV)} (hL0 : zent av ++ List.replicate k none = L0) (hlen : zcats av ≤ nL)
    (body : ∀ X : zX, zC G X y cc nL d ret h → X.2.2.2.2.2.2.2.2.exceptionTable.isEmpty = true → zS G X nL 0 L0 [] h e lf) : zT G d y (ws_ y cc nL ret) av h e lf := by
  intro r hr
  refine MetFree.of_bodySF (code := cc) (maxLocals := nL) (ret := ret) hy ?_ ?_
  · intro args s m h hn
    obtain ⟨meth, c, h1, h2, h3, h4, h5, h6, -, -⟩ := Cond.code_spec hn (atoms_spec (ws := ws_ y cc nL ret) h _ List.mem_cons_self)
    exact ⟨meth, c, h1, h2, h3, h4, h5, h6⟩
  · intro p e' s m args below meth c s₁ B hml hP _
    obtain ⟨rfl, hK, hH⟩ := hP
    have hh0 : s₁.heap = s.heap := by rw [B.state]; rfl
    have hts := atoms_spec (ws := ws_ y cc nL ret) B.pre
    have hE := B.noHandlers (hts _ List.mem_cons_self)
    have C : zC G (p, e', zRm d h, s, m, (av.map zv).toArray, below, meth, c) y cc nL d ret h := ⟨B.exec, B.bytes, hml, findClass_of_methodNamed B.named, fun w hw => hts w (List.mem_cons_of_mem _ hw), B.returns, B.notSynchronized, hK, rfl, hH, (name_of_methodNamed B.named B.method).1⟩
    have hl := lv_entry (av.map zv) (n := nL) (by rw [zlg]; exact hlen)
    have hgo := body _ C hE r hr _ s.heap [] 0 0 ⟨hl.1, hl.2.1, fun i v hi => by
      have hi2 : (zent av)[i]? = some (some v) := by
        rw [← hL0] at hi
        by_cases hlt : i < (zent av).length
        · rw [List.getElem?_append_left hlt] at hi
          exact hi
        · rw [List.getElem?_append_right (by omega)] at hi
          have := List.eq_of_mem_replicate (List.mem_of_getElem? hi)
          cases this
      have := zent_arg av 0 i v hi2
      rw [Nat.zero_add] at this
      exact hl.2.2 (i, zv v) this⟩ hH (fun q hq => by cases hq)
    obtain ⟨t, a1, o, b1, b2, b3⟩ := hgo s₁ hh0 (Stand.of_body B)
    refine ⟨t, o, ?_, b1, b2, b3⟩
    rw [lg_entry_eq]
    exact a1
theorem zT.of {α : Type} {G : zG} {d : Nat} {y : MethodName} {cc : ByteArray} {nL : Nat} {ret : Option FieldType} {av : List zV} {h : zHp} {e : Option α} {lf : α → zRes} (hy : plainFor y = true) (k : Nat) {L0 : List (Option zV)} (hL0 : zent av ++ List.replicate k none = L0) (hlen : zcats av ≤ nL)
    (body : ∀ X : zX, zC G X y cc nL d ret h → zS G X nL 0 L0 [] h e lf) : zT G d y (ws_ y cc nL ret) av h e lf := zT.ofE hy k hL0 hlen fun X C _ => body X C
def zMs (s : State) (y : MethodName) (nL : Nat) : Prop := ∃ (mk : MethodId) (meth : Method) (c : Code), s.methodNamed? y = some mk ∧ s.vm.method? mk = some meth ∧ meth.code = some c ∧ c.maxLocals = nL ∧ parseMethodDescriptor y.desc = some meth.sig
theorem zMs.of {s : State} {args : Array Value} {y : MethodName} {cc : ByteArray} {nL : Nat} {ret : Option FieldType} (hc : (Cond.code y cc nL ret).before args s = true) : zMs s y nL := by
  obtain ⟨mk, hn⟩ := Cond.code_named hc
  obtain ⟨meth, c, h1, h2, -, h4, -, -, -, h5⟩ := Cond.code_spec hn hc
  exact ⟨mk, meth, c, hn, h1, h2, h4, h5⟩
theorem zMs.ofW {s : State} {args : Array Value} {y : MethodName} {cc : ByteArray} {nL : Nat} {ret : Option FieldType} {hh : List (Nat × Nat × Nat × Nat)} (hc : (Cond.codeWith y cc nL ret hh).before args s = true) : zMs s y nL := by
  obtain ⟨mk, meth, c, hn, h1, h2, -, h4, -, -, -, h5⟩ := Cond.codeWith_spec hc
  exact ⟨mk, meth, c, hn, h1, h2, h4, h5⟩
section ZCL
variable {α β : Type} {G : zG} {X : zX} {y : MethodName} {cc : ByteArray} {nL pc d : Nat} {ret : Option FieldType} {h0 : zHp} {L L' : List (Option zV)} {st : List zV} {h : zHp} {e eT eF : Option α} {lf : α → zRes}
abbrev zSd (G : zG) (X : zX) (T : State) (locs : List Loc) (cells slots : Nat) : Prop := Stand X.1 G.1 X.2.1 X.2.2.1 X.2.2.2.1 X.2.2.2.2.1 X.2.2.2.2.2.1 X.2.2.2.2.2.2.1 X.2.2.2.2.2.2.2.1 X.2.2.2.2.2.2.2.2 T locs cells slots
/-- the callee runs: it comes back, or throws -/
theorem zrun (C : zC G X y cc nL d ret h0) {d' nL' : Nat} {y' : MethodName} {ws' : List Cond} {av : List Value} {res : zRes} (hM : zTr G d' y' ws' av h res) (hd' : d' + 1 ≤ d) (hnl : nL' ≤ 41) (hms : zMs X.2.2.2.1 y' nL') (hws : GoodIn lw_all ws') (hini : Cond.initialized y'.cls ∈ lw_all)
    {U : State} {locs : List Loc} {cells slots : Nat} (S : zSd G X U locs cells slots) (hH : zH G h U.heap) (hL : ∀ q ∈ locs, zB G ≤ q.base) {g : JFrame} (hg : g.method = X.2.2.2.2.1) (hsize : g.locals.size = X.2.2.2.2.2.2.2.2.maxLocals) {ig : Instr} (hdg : decode X.2.2.2.2.2.2.2.2.code g.pc = .ok (ig, 3))
    (hW : 2 * g.monitorRoom + (g.stack.map fun v => v.category).sum ≤ 8) {mk : MethodId} (hn : X.2.2.2.1.methodNamed? y' = some mk) (hr1 : cells + h.2.1 ≤ X.2.2.1.cells) (hr2 : slots + h.2.2.1 ≤ X.2.2.1.slots) :
    ∃ (U' : State) (locs' : List Loc) (k n : Nat), zSd G X U' locs' k n ∧ zH G res.2 U'.heap ∧ (∀ q ∈ locs', zB G ≤ q.base) ∧
      Steps X.1.tables X.2.1 X.2.2.2.2.2.2.1 (doInvoke X.2.1 (U.setTop g) [] mk av.toArray).1 (match res.1 with
        | .inl v => U'.setTop { g with pc := g.pc + 3, stack := (v.map zv).toList ++ g.stack }
        | .inr a => (U'.setTop g).pushFrame (.throwing a)) := by
  obtain ⟨mk', methY, cY, hn', hmY, hcY, hlY, -⟩ := hms
  cases hn.symm.trans hn'
  have hal := S.warmed.alike
  have hn2 : U.methodNamed? y' = some mk := S.named hn
  have hmY2 : U.vm.method? mk = some methY := by rw [hal.method?]; exact hmY
  have hpay : ∀ w ∈ ws', ∀ (a' : Array Value) (V : State), X.2.2.2.1.WarmedH V.vm → w.before a' V = true := pay_in C.2.2.2.2.1 hws
  have h1 : (headSpec ws' (zRm d' h)).pre.before av.toArray U = true := atoms_intro fun w hw => hpay w hw _ _ S.warmed
  have h3 : (Cond.initialized y'.cls).before av.toArray U = true := word_at S.warmed (Or.inl (by first | rfl | simp [Cond.onTables, Cond.keeps, Cond.steady])) (C.2.2.2.2.1 _ hini)
  obtain ⟨kY, hkY, -⟩ := className_of_methodNamed hn2
  have hinitY : kY.init = .initialized := Cond.initialized_spec (findClass_of_methodNamed hn2) hkY h3
  have hA : At U g.method X.2.2.2.2.2.2.2.2 X.2.2.2.2.2.2.1 := by rw [hg]; exact S.here
  have hR := C.2.2.2.2.2.2.2.2.1
  have happ : (headSpec ws' (zRm d' h)).appliesLoose y' X.2.1.platform (U.calling g mk av.toArray) = true :=
    Spec.appliesLoose_calling (g := g) hA hdg hn2 hkY hinitY
      (S.room_calling (g := g) (R' := zRm d' h) hsize hmY2 hcY (by rw [hR]; exact hd') (by rw [hlY, hR]; show _ + _ + (nL' + 11) + 60 * d' ≤ 60 * d; omega) (by exact hr1) (by exact hr2)) h1
  obtain ⟨mid, hmid⟩ := hA.above
  have hfr : (U.setTop g).frames = (.java g :: mid) ++ X.2.2.2.2.2.2.1 := by rw [State.frames_setTop' g hA.top, hmid]; rfl
  have hkU : zK G (U.calling g mk av.toArray) := ⟨C.2.2.2.2.2.2.2.1.1, State.WarmedH.trans C.2.2.2.2.2.2.2.1.2 S.warmed⟩
  obtain ⟨o, s₂, hsteps, -, hend, hq⟩ := Steps.callFree hM X.1 S.admits S.cas S.clock (acts := []) hfr happ ⟨rfl, hkU, hH⟩ trivial
  obtain ⟨rfl, hH2, hW2, L2, k2, n2, hL2, e2, q2, q3, q4, q5, q6⟩ := hq
  rw [State.frames_setTop' g hA.top] at hend
  have e3 : s₂ = ({ (U.calling g mk av.toArray).setFrames s₂.frames with heap := s₂.heap, slotsUsed := s₂.slotsUsed } : State).setVm s₂.vm := by
    have : s₂ = ({ s₂ with vm := (U.calling g mk av.toArray).vm } : State).setVm s₂.vm := rfl
    rw [show ({ s₂ with vm := (U.calling g mk av.toArray).vm } : State) = ({ (U.calling g mk av.toArray).setFrames s₂.frames with heap := s₂.heap, slotsUsed := s₂.slotsUsed } : State) from e2] at this
    exact this
  have hW' : U.WarmedH s₂.vm := hW2
  obtain ⟨g₀, hg0⟩ := Option.isSome_iff_exists.mp hA.top
  obtain ⟨r, hr⟩ := State.topJava?_eq_some.mp hg0
  have hr' : (({ U with heap := s₂.heap, slotsUsed := s₂.slotsUsed } : State).setVm s₂.vm).frames = .java g₀ :: r := hr
  have hsame : U.sameButNew ({ U with heap := s₂.heap, slotsUsed := s₂.slotsUsed } : State) L2 k2 n2 := by
    refine ⟨?_, q2, q3, q4, q5, q6⟩
    obtain ⟨t, ht, -⟩ := State.frames_cons hr
    show ({ U with heap := s₂.heap, slotsUsed := s₂.slotsUsed } : State) = { U.setFrames U.frames with heap := s₂.heap, slotsUsed := s₂.slotsUsed }
    rw [State.setFrames_self ht]
  refine ⟨({ U with heap := s₂.heap, slotsUsed := s₂.slotsUsed } : State).setVm s₂.vm, locs ++ L2, cells + k2, slots + n2,
    ⟨S.admits, S.cas, S.clock, S.frames, S.room, S.hears, S.method, S.code, (S.here.setHeapUsed s₂.heap s₂.slotsUsed).setVm hW'.alike, S.tail, State.WarmedH.trans S.warmed hW', S.limits, S.bytes, S.same.trans (hsame.setVm X.2.2.2.1.vm)⟩, hH2, fun q hq => ?_, ?_⟩
  · rcases List.mem_append.mp hq with z | z
    · exact hL q z
    · exact hL2 q z
  · obtain ⟨rv, hp⟩ := res
    cases rv with
    | inl v =>
      obtain ⟨c₂, i₂, len₂, hc₂, hd₂, hf₂⟩ := hend
      have hcc : c₂ = X.2.2.2.2.2.2.2.2 := by
        have h1 : s₂.code? g.method = U.code? g.method := by
          rw [State.code?_eq, State.code?_eq, hW'.alike.method?]
        exact Option.some.inj (hc₂.symm.trans (h1.trans hA.code))
      subst hcc
      have hlen : len₂ = 3 := by rw [hdg] at hd₂; cases hd₂; rfl
      subst hlen
      have hs₂ : s₂ = (({ U with heap := s₂.heap, slotsUsed := s₂.slotsUsed } : State).setVm s₂.vm).setTop { g with pc := g.pc + 3, stack := (v.map zv).toList ++ g.stack } := by
        refine e3.trans ?_
        rw [hf₂, State.calling_eq hA.top, State.setFrames_setFrames, State.setTop_of_frames _ hr', hr]
        rfl
      show Steps _ _ _ _ ((({ U with heap := s₂.heap, slotsUsed := s₂.slotsUsed } : State).setVm s₂.vm).setTop { g with pc := g.pc + 3, stack := (v.map zv).toList ++ g.stack })
      rw [← hs₂]
      exact hsteps
    | inr a =>
      have hf₂ : s₂.frames = .throwing a :: .java g :: U.frames.tail := hend
      have hs₂ : s₂ = ((({ U with heap := s₂.heap, slotsUsed := s₂.slotsUsed } : State).setVm s₂.vm).setTop g).pushFrame (.throwing a) := by
        refine e3.trans ?_
        rw [hf₂, State.calling_eq hA.top, State.setFrames_setFrames, State.pushFrame, State.frames_setTop _ hr', State.setTop_of_frames _ hr', State.setFrames_setFrames, hr]
        rfl
      show Steps _ _ _ _ (((({ U with heap := s₂.heap, slotsUsed := s₂.slotsUsed } : State).setVm s₂.vm).setTop g).pushFrame (.throwing a))
      rw [← hs₂]
      exact hsteps
/-- how a call gets to its callee y' -/
def zLk (G : zG) (X : zX) (pc : Nat) (h : zHp) (stk rest : List zV) (y' : MethodName) (av : List zV) : Prop :=
  ∀ (ls : Array Slot) (H : Heap) (locs : List Loc) (cells slots : Nat) (T : State), zH G h H → T.heap = H → zSd G X T locs cells slots → ∃ (vm₁ : Vm) (mk : MethodId), zSd G X (T.setVm vm₁) locs cells slots ∧ X.2.2.2.1.methodNamed? y' = some mk ∧
    ∀ target, Steps X.1.tables X.2.1 X.2.2.2.2.2.2.1 (doInvoke X.2.1 ((T.setVm vm₁).setTop (F0 X.2.2.2.2.1 pc ls (rest.map zv))) [] mk (av.map zv).toArray).1 target → Steps X.1.tables X.2.1 X.2.2.2.2.2.2.1 (T.setTop (F0 X.2.2.2.2.1 pc ls (stk.map zv))) target
/-- what every call asks of its callee -/
def zCe (X : zX) (d d' nL' : Nat) (y' : MethodName) (ws' : List Cond) : Prop := d' + 1 ≤ d ∧ nL' ≤ 41 ∧ zMs X.2.2.2.1 y' nL' ∧ GoodIn lw_all ws' ∧ Cond.initialized y'.cls ∈ lw_all
theorem s_callN (C : zC G X y cc nL d ret h0) (lv : β → Option zV) {d' nL' : Nat} {y' : MethodName} {ws' : List Cond} {av stk : List zV} {e1 : Option (β × zHp)} {ig : Instr} (hM : zT G d' y' ws' av h e1 (li lv)) (hc : zCe X d d' nL' y' ws') (hk : zLk G X pc h stk st y' av) (hd : decode cc pc = .ok (ig, 3)) (hs : zcats st ≤ 8) {F : β → zHp → Option α} (kk : ∀ x h1, e1 = some (x, h1) → zS G X nL (pc + 3) L ((lv x).toList ++ st) h1 (F x h1) lf) : zS G X nL pc L stk h (bN e1 F) lf := by
  intro res hr ls H locs cells slots hl hH hL
  cases he : e1 with
  | none => rw [he] at hr; cases hr
  | some r1 =>
    obtain ⟨x, h1⟩ := r1
    rw [he] at hr
    refine zW_tight C hH fun r1 r2 => ?_
    intro T hT S
    obtain ⟨vm₁, mk, S₁, hn, hst⟩ := hk ls H locs _ _ T hH hT S
    obtain ⟨U', locs', k, n, S2, hH2, hL2, hsteps⟩ := zrun C (hM _ he) hc.1 hc.2.1 hc.2.2.1 hc.2.2.2.1 hc.2.2.2.2 S₁ (by show zH G h T.heap; rw [hT]; exact hH) hL (g := F0 X.2.2.2.2.1 pc ls (st.map zv)) rfl (hl.1.trans C.2.2.1.symm) (by rw [C.2.1]; exact hd) (lv_room (by rw [zcats_eq]; exact hs)) hn r1 r2
    obtain ⟨t, a1, b1⟩ := kk x h1 he res hr ls U'.heap locs' k n hl hH2 hL2 U' rfl S2
    refine ⟨t, hst t (hsteps.trans ?_), b1⟩
    have : (((lv x).toList ++ st).map zv) = ((lv x).map zv).toList ++ st.map zv := by
      cases lv x <;> rfl
    rw [this] at a1
    exact a1
/-- a callee that may throw; nobody catches here -/
theorem s_callT (C : zC G X y cc nL d ret h0) (hE : X.2.2.2.2.2.2.2.2.exceptionTable.isEmpty = true) {γ : Type} (lv : β → Option zV) (lw : γ → Option zV) {d' nL' : Nat} {y' : MethodName} {ws' : List Cond} {av stk : List zV} {e1 : Option ((β ⊕ Nat) × zHp)} {ig : Instr} (hM : zT G d' y' ws' av h e1 (lt lv)) (hc : zCe X d d' nL' y' ws') (hk : zLk G X pc h stk st y' av) (hd : decode cc pc = .ok (ig, 3)) (hs : zcats st ≤ 8) {F : β → zHp → Option ((γ ⊕ Nat) × zHp)} (kk : ∀ x h1, e1 = some (.inl x, h1) → zS G X nL (pc + 3) L ((lv x).toList ++ st) h1 (F x h1) (lt lw)) : zS G X nL pc L stk h (bT e1 F) (lt lw) := by
  intro res hr ls H locs cells slots hl hH hL
  cases he : e1 with
  | none => rw [he] at hr; cases hr
  | some r1 =>
    obtain ⟨x, h1⟩ := r1
    rw [he] at hr
    refine zW_tight C hH fun r1 r2 => ?_
    intro T hT S
    obtain ⟨vm₁, mk, S₁, hn, hst⟩ := hk ls H locs _ _ T hH hT S
    obtain ⟨U', locs', k, n, S2, hH2, hL2, hsteps⟩ := zrun C (hM _ he) hc.1 hc.2.1 hc.2.2.1 hc.2.2.2.1 hc.2.2.2.2 S₁ (by show zH G h T.heap; rw [hT]; exact hH) hL (g := F0 X.2.2.2.2.1 pc ls (st.map zv)) rfl (hl.1.trans C.2.2.1.symm) (by rw [C.2.1]; exact hd) (lv_room (by rw [zcats_eq]; exact hs)) hn r1 r2
    cases x with
    | inl x =>
      obtain ⟨t, a1, b1⟩ := kk x h1 he res hr ls U'.heap locs' k n hl hH2 hL2 U' rfl S2
      refine ⟨t, hst t (hsteps.trans ?_), b1⟩
      have : (((lv x).toList ++ st).map zv) = ((lv x).map zv).toList ++ st.map zv := by
        cases lv x <;> rfl
      rw [this] at a1
      exact a1
    | inr a =>
      have hr2 : some ((.inr a, h1) : (γ ⊕ Nat) × zHp) = some res := hr
      cases hr2
      obtain ⟨w1, w2, w3, w4, w5⟩ := S2.leaveThrown a (g := F0 X.2.2.2.2.1 pc ls (st.map zv)) rfl rfl rfl (fun x hx => by
        have : X.2.2.2.2.2.2.2.2.exceptionTable.toList = [] := by
          simpa [Array.isEmpty_iff] using hE
        rw [this] at hx
        cases hx) C.2.2.2.2.2.2.1
      exact ⟨_, hst _ (hsteps.trans w1), _, w2, w3, rfl, hH2, w4, locs', k, n, hL2, w5⟩
/-- the method throws what lies on the stack -/
theorem s_athrow (C : zC G X y cc nL d ret h0) (hE : X.2.2.2.2.2.2.2.2.exceptionTable.isEmpty = true) {γ : Type} (lw : γ → Option zV) {a : Nat} (hd : decode cc pc = .ok (.athrow, 1)) : zS G X nL pc L (zR (some a) :: st) h (some ((.inr a, h) : (γ ⊕ Nat) × zHp)) (lt lw) := by
  intro res hr ls H locs cells slots hl hH hL
  cases hr
  intro T hT S
  obtain ⟨w1, w2, w3, w4, w5⟩ := S.athrowLeaves C.1 (g := F0 X.2.2.2.2.1 pc ls ((zR (some a) :: st).map zv)) rfl rfl rfl (fun x hx => by
    have : X.2.2.2.2.2.2.2.2.exceptionTable.toList = [] := by
      simpa [Array.isEmpty_iff] using hE
    rw [this] at hx
    cases hx) (a := a) (rest := st.map zv) rfl (by rw [C.2.1]; exact hd) C.2.2.2.2.2.2.1
  exact ⟨_, w1, _, w2, w3, rfl, by show zH G h T.heap; rw [hT]; exact hH, w4, locs, cells, slots, hL, w5⟩
/-! the links -/
theorem zCe.of (C : zC G X y cc nL d ret h0) {d' nL' : Nat} {y' : MethodName} {cc' : ByteArray} {ret' : Option FieldType} (hd' : d' + 1 ≤ d) (hn : nL' ≤ 41) (hcode : Cond.code y' cc' nL' ret' ∈ lw_all) (hini : Cond.initialized y'.cls ∈ lw_all) : zCe X d d' nL' y' (ws_ y' cc' nL' ret') := ⟨hd', hn, zMs.of (C.2.2.2.2.1 _ hcode), lw_meth hcode, hini⟩
theorem zCe.ofW (C : zC G X y cc nL d ret h0) {d' nL' : Nat} {y' : MethodName} {cc' : ByteArray} {ret' : Option FieldType} {hh : List (Nat × Nat × Nat × Nat)} (hd' : d' + 1 ≤ d) (hn : nL' ≤ 41) (hcode : Cond.codeWith y' cc' nL' ret' hh ∈ lw_all) (hini : Cond.initialized y'.cls ∈ lw_all) : zCe X d d' nL' y' (wsW_ y' cc' nL' ret' hh) := ⟨hd', hn, zMs.ofW (C.2.2.2.2.1 _ hcode), lw_methW hcode, hini⟩
theorem zmaprev (As : List zV) (r : List zV) : (As.reverse ++ r).map zv = (As.map zv).reverse ++ r.map zv := by rw [List.map_append, List.map_reverse]
theorem zlen_of {y' : MethodName} {n : Nat} (hp : (parseMethodDescriptor y'.desc).map (fun d => d.parameters.length) = some n) {sig : MethodDescriptor} (hs : parseMethodDescriptor y'.desc = some sig) : sig.parameters.length = n := by
  rw [hs] at hp
  exact Option.some.inj hp
theorem lk_S (C : zC G X y cc nL d ret h0) {idx : Nat} {y' : MethodName} {nL' : Nat} (hms : zMs X.2.2.2.1 y' nL') (hl : Cond.methodLink y.cls idx y' ∈ lw_all) (hst : Cond.static y' ∈ lw_all) (hini : Cond.initialized y'.cls ∈ lw_all) (hy : y'.cls ≠ "java/lang/invoke/MethodHandle" ∧ y'.cls ≠ "java/lang/invoke/VarHandle") (hd : decode cc pc = .ok (.invokestatic idx, 3)) (av : List zV) (hp : (parseMethodDescriptor y'.desc).map (fun d => d.parameters.length) = some av.length) {stk : List zV} (hs : stk = av.reverse ++ st) : zLk G X pc h stk st y' av := by
  subst hs
  intro ls H locs cells slots T hH hT S
  obtain ⟨mk, meth, c, hn, hm, -, -, hsig⟩ := hms
  have hstatic : meth.isStatic = true := Cond.static_spec hn hm (C.2.2.2.2.1 _ hst)
  obtain ⟨kP, hkP, -⟩ := className_of_methodNamed hn
  have hinitP : kP.init = .initialized := Cond.initialized_spec (findClass_of_methodNamed hn) hkP (C.2.2.2.2.1 _ hini)
  obtain ⟨vm₁, S₁, hstep⟩ := S.invokestatic C.1 C.2.2.2.1 (C.2.2.2.2.1 _ hl) hn hm hstatic hkP hinitP hy (g := F0 X.2.2.2.2.1 pc ls ((av.reverse ++ st).map zv)) rfl (argsL := av.map zv) (rest := st.map zv) (by rw [List.length_map]; exact (zlen_of hp hsig).symm) (zmaprev av st) (by rw [C.2.1]; exact hd)
  exact ⟨vm₁, mk, S₁, hn, fun target ht => hstep _ fun acts => by rw [doInvoke_state]; exact ht⟩
theorem lk_SN (C : zC G X y cc nL d ret h0) {idx : Nat} {host : String} {y' : MethodName} {nL' : Nat} (hms : zMs X.2.2.2.1 y' nL') (hl : Cond.methodLinkNest y.cls idx y' host ∈ lw_tbl) (hst : Cond.static y' ∈ lw_all) (hini : Cond.initialized y'.cls ∈ lw_all) (hy : y'.cls ≠ "java/lang/invoke/MethodHandle" ∧ y'.cls ≠ "java/lang/invoke/VarHandle") (hd : decode cc pc = .ok (.invokestatic idx, 3)) (av : List zV) (hp : (parseMethodDescriptor y'.desc).map (fun d => d.parameters.length) = some av.length) {stk : List zV} (hs : stk = av.reverse ++ st) : zLk G X pc h stk st y' av := by
  subst hs
  intro ls H locs cells slots T hH hT S
  obtain ⟨mk, meth, c, hn, hm, -, -, hsig⟩ := hms
  have hstatic : meth.isStatic = true := Cond.static_spec hn hm (C.2.2.2.2.1 _ hst)
  obtain ⟨kP, hkP, -⟩ := className_of_methodNamed hn
  have hinitP : kP.init = .initialized := Cond.initialized_spec (findClass_of_methodNamed hn) hkP (C.2.2.2.2.1 _ hini)
  have hl2 := va_Nw.use rfl (A := X.2.2.2.2.2.1) (va_Nw.warmM C.2.2.2.2.2.2.2.1.2 (va_Nw.of rfl (C.2.2.2.2.2.2.2.1.1.1 _ hl)))
  obtain ⟨vm₁, S₁, hstep⟩ := S.invokestaticNest C.1 C.2.2.2.1 hl2 hn hm hstatic hkP hinitP hy (g := F0 X.2.2.2.2.1 pc ls ((av.reverse ++ st).map zv)) rfl (argsL := av.map zv) (rest := st.map zv) (by rw [List.length_map]; exact (zlen_of hp hsig).symm) (zmaprev av st) (by rw [C.2.1]; exact hd)
  exact ⟨vm₁, mk, S₁, hn, fun target ht => hstep _ fun acts => by rw [doInvoke_state]; exact ht⟩
/-- the receiver's cell -/
theorem zrecv (C : zC G X y cc nL d ret h0) {H : Heap} {a t : Nat} {K : String} {T : u_T} {N : Nat} (hH : zH G h H) (hz : ∃ o, h.2.2.2.2 a = some o ∧ o.1 = t) (hq : zcl[t]? = some (K, T, N)) : ∃ cell : Cell, H[a]? = some cell ∧ (∀ q, cell.vm ≠ .statics q) ∧ X.2.2.2.1.vm.findClass K = some cell.cls := by
  obtain ⟨o, ha, rfl⟩ := hz
  have h33 := zcl_lt hq
  have hz := hH.2.2.2.2.2.2 a o ha
  unfold zAt at hz
  rw [if_pos (by omega)] at hz
  obtain ⟨-, sl, h3, -⟩ := hz
  refine ⟨_, h3, fun _ q => (by cases q), ?_⟩
  rw [(C.kn hq).2.1]
  show some _ = some (zCls G o.1)
  unfold zCls
  rw [if_pos (by omega)]
theorem lk_V (C : zC G X y cc nL d ret h0) {idx a t : Nat} {y' : MethodName} {nL' : Nat} {K : String} {T0 : u_T} {N : Nat} (hms : zMs X.2.2.2.1 y' nL') (hq : zcl[t]? = some (K, T0, N)) (hl : Cond.methodLink y.cls idx y' ∈ lw_all) (hin : Cond.instanceMethod y' ∈ lw_all) (hsel : Cond.selects K y' y' ∈ lw_all) (hy : y'.cls ≠ "java/lang/invoke/MethodHandle" ∧ y'.cls ≠ "java/lang/invoke/VarHandle") (hd : decode cc pc = .ok (.invokevirtual idx, 3)) (hz : ∃ o, h.2.2.2.2 a = some o ∧ o.1 = t) (av : List zV) (hp : (parseMethodDescriptor y'.desc).map (fun d => d.parameters.length) = some av.length) {stk : List zV} (hs : stk = av.reverse ++ zR (some a) :: st) : zLk G X pc h stk st y' (zR (some a) :: av) := by
  subst hs
  intro ls H locs cells slots T hH hT S
  obtain ⟨mk, meth, c, hn, hm, -, -, hsig⟩ := hms
  obtain ⟨cell, c1, c2, c3⟩ := zrecv C hH hz hq
  obtain ⟨mk', methM, hnamed, hmethM, hstM, habM⟩ := Cond.instanceMethod_spec (C.2.2.2.2.1 _ hin)
  cases hn.symm.trans hnamed
  cases hm.symm.trans hmethM
  obtain ⟨c2', r2, m2, q1, q2, q3, q4, kP, hkP, hkPi⟩ := Cond.selects_spec (C.2.2.2.2.1 _ hsel)
  cases c3.symm.trans q1
  cases (State.methodFound?_of_named hnamed hy).symm.trans q2
  cases hnamed.symm.trans q3
  have hselP : selectMethod X.2.1.platform X.2.2.2.1.vm cell.cls mk = .method mk := by rw [Launch.admits_selectMethod S.admits]; exact q4
  obtain ⟨vm₁, S₁, hstep⟩ := S.invokevirtual C.1 C.2.2.2.1 (C.2.2.2.2.1 _ hl) hnamed hmethM hstM hkP hkPi hy (a := a) (cell := cell) (by rw [hT]; exact c1) c2 hselP hmethM habM hkP hkPi (g := F0 X.2.2.2.2.1 pc ls ((av.reverse ++ zR (some a) :: st).map zv)) rfl (argsL := av.map zv) (rest := st.map zv) (by rw [List.length_map]; exact (zlen_of hp hsig).symm) (zmaprev av _) (by rw [C.2.1]; exact hd)
  exact ⟨vm₁, mk, S₁, hn, fun target ht => hstep _ fun acts => by rw [doInvoke_state]; exact ht⟩
theorem lk_VN (C : zC G X y cc nL d ret h0) {idx a t : Nat} {host : String} {y' : MethodName} {nL' : Nat} {K : String} {T0 : u_T} {N : Nat} (hms : zMs X.2.2.2.1 y' nL') (hq : zcl[t]? = some (K, T0, N)) (hl : Cond.methodLinkNest y.cls idx y' host ∈ lw_tbl) (hin : Cond.instanceMethod y' ∈ lw_all) (hsel : Cond.selects K y' y' ∈ lw_all) (hy : y'.cls ≠ "java/lang/invoke/MethodHandle" ∧ y'.cls ≠ "java/lang/invoke/VarHandle") (hd : decode cc pc = .ok (.invokevirtual idx, 3)) (hz : ∃ o, h.2.2.2.2 a = some o ∧ o.1 = t) (av : List zV) (hp : (parseMethodDescriptor y'.desc).map (fun d => d.parameters.length) = some av.length) {stk : List zV} (hs : stk = av.reverse ++ zR (some a) :: st) : zLk G X pc h stk st y' (zR (some a) :: av) := by
  subst hs
  intro ls H locs cells slots T hH hT S
  obtain ⟨mk, meth, c, hn, hm, -, -, hsig⟩ := hms
  obtain ⟨cell, c1, c2, c3⟩ := zrecv C hH hz hq
  obtain ⟨mk', methM, hnamed, hmethM, hstM, habM⟩ := Cond.instanceMethod_spec (C.2.2.2.2.1 _ hin)
  cases hn.symm.trans hnamed
  cases hm.symm.trans hmethM
  obtain ⟨c2', r2, m2, q1, q2, q3, q4, kP, hkP, hkPi⟩ := Cond.selects_spec (C.2.2.2.2.1 _ hsel)
  cases c3.symm.trans q1
  cases (State.methodFound?_of_named hnamed hy).symm.trans q2
  cases hnamed.symm.trans q3
  have hselP : selectMethod X.2.1.platform X.2.2.2.1.vm cell.cls mk = .method mk := by rw [Launch.admits_selectMethod S.admits]; exact q4
  have hl2 := va_Nw.use rfl (A := X.2.2.2.2.2.1) (va_Nw.warmM C.2.2.2.2.2.2.2.1.2 (va_Nw.of rfl (C.2.2.2.2.2.2.2.1.1.1 _ hl)))
  obtain ⟨vm₁, S₁, hstep⟩ := S.invokevirtualNest C.1 C.2.2.2.1 hl2 hnamed hmethM hstM hkP hkPi hy (a := a) (cell := cell) (by rw [hT]; exact c1) c2 hselP hmethM habM hkP hkPi (g := F0 X.2.2.2.2.1 pc ls ((av.reverse ++ zR (some a) :: st).map zv)) rfl (argsL := av.map zv) (rest := st.map zv) (by rw [List.length_map]; exact (zlen_of hp hsig).symm) (zmaprev av _) (by rw [C.2.1]; exact hd)
  exact ⟨vm₁, mk, S₁, hn, fun target ht => hstep _ fun acts => by rw [doInvoke_state]; exact ht⟩
/-- a method found above: x is named, y' is selected -/
theorem lk_U (C : zC G X y cc nL d ret h0) {idx a t : Nat} {owner : String} {x y' : MethodName} {nL' : Nat} {K : String} {T0 : u_T} {N : Nat} (hms : zMs X.2.2.2.1 y' nL') (hq : zcl[t]? = some (K, T0, N)) (hl : Cond.methodLink y.cls idx x ∈ lw_all) (hsame : Cond.sameMethod x.cls owner x.name x.desc ∈ lw_all) (hdc : Cond.declares ⟨owner, x.name, x.desc⟩ ∈ lw_tbl ∨ Cond.instanceMethod ⟨owner, x.name, x.desc⟩ ∈ lw_all ∧ ∃ cc2 nL2 ret2, Cond.code ⟨owner, x.name, x.desc⟩ cc2 nL2 ret2 ∈ lw_all) (hin : Cond.instanceMethod y' ∈ lw_all) (hsel : Cond.selects K x y' ∈ lw_all) (hy : owner ≠ "java/lang/invoke/MethodHandle" ∧ owner ≠ "java/lang/invoke/VarHandle") (hd : decode cc pc = .ok (.invokevirtual idx, 3)) (hz : ∃ o, h.2.2.2.2 a = some o ∧ o.1 = t) (av : List zV) (hp : (parseMethodDescriptor x.desc).map (fun d => d.parameters.length) = some av.length) {stk : List zV} (hs : stk = av.reverse ++ zR (some a) :: st) : zLk G X pc h stk st y' (zR (some a) :: av) := by
  subst hs
  intro ls H locs cells slots T hH hT S
  obtain ⟨mk, meth, c, hn, hm, -, -, hsig⟩ := hms
  obtain ⟨cell, c1, c2, c3⟩ := zrecv C hH hz hq
  have hdec : va_Decl X.2.2.2.1 ⟨owner, x.name, x.desc⟩ := by
    rcases hdc with e | ⟨e, cc2, nL2, ret2, e2⟩
    · exact va_Decl.abs (va_Nw.warmD C.2.2.2.2.2.2.2.1.2 (va_Nw.of rfl (C.2.2.2.2.2.2.2.1.1.1 _ e)))
    · exact va_Decl.of (C.2.2.2.2.1 _ e) (C.2.2.2.2.1 _ e2)
  obtain ⟨r0, r, hn0, hrm, hstR, hsigR⟩ := hdec
  obtain ⟨cn, ck, r1, hcn, hck, hni, hf, hn1⟩ := Cond.sameMethod_found (C.2.2.2.2.1 _ hsame)
  cases hn0.symm.trans hn1
  obtain ⟨mk', methM, hnamed, hmethM, -, habM⟩ := Cond.instanceMethod_spec (C.2.2.2.2.1 _ hin)
  cases hn.symm.trans hnamed
  obtain ⟨c2', r2, m2, q1, q2, q3, q4, kP, hkP, hkPi⟩ := Cond.selects_spec (C.2.2.2.2.1 _ hsel)
  cases c3.symm.trans q1
  cases hf.symm.trans q2
  cases hnamed.symm.trans q3
  have hselP : selectMethod X.2.1.platform X.2.2.2.1.vm cell.cls r0 = .method mk := by rw [Launch.admits_selectMethod S.admits]; exact q4
  obtain ⟨vm₁, S₁, hstep⟩ := S.invokevirtualUp C.1 C.2.2.2.1 (C.2.2.2.2.1 _ hl) (C.2.2.2.2.1 _ hsame) hy hn0 hrm hstR (a := a) (cell := cell) (by rw [hT]; exact c1) c2 hselP hmethM habM hkP hkPi (g := F0 X.2.2.2.2.1 pc ls ((av.reverse ++ zR (some a) :: st).map zv)) rfl (argsL := av.map zv) (rest := st.map zv) (by rw [List.length_map]; exact (zlen_of (y' := x) hp hsigR).symm) (zmaprev av _) (by rw [C.2.1]; exact hd)
  exact ⟨vm₁, mk, S₁, hn, fun target ht => hstep _ fun acts => by rw [doInvoke_state]; exact ht⟩
theorem lk_I (C : zC G X y cc nL d ret h0) {idx a : Nat} {y' : MethodName} {cc' : ByteArray} {nL' : Nat} (hcode : Cond.code y' cc' nL' none ∈ lw_all) (hl : Cond.methodLink y.cls idx y' ∈ lw_all) (hin : Cond.instanceMethod y' ∈ lw_all) (hy1 : y'.name = "<init>") (hy : y'.cls ≠ "java/lang/invoke/MethodHandle" ∧ y'.cls ≠ "java/lang/invoke/VarHandle") (hd : decode cc pc = .ok (.invokespecial idx, 3)) (av : List zV) (hp : (parseMethodDescriptor y'.desc).map (fun d => d.parameters.length) = some av.length) {stk : List zV} (hs : stk = av.reverse ++ zR (some a) :: st) : zLk G X pc h stk st y' (zR (some a) :: av) := by
  subst hs
  intro ls H locs cells slots T hH hT S
  have hpl : X.2.1.platform.magicAccessors = ({} : Platform).magicAccessors := by rw [S.admits.platform]
  obtain ⟨mk, methM, cM, kP, vm₁, hnamed, hmethM, hcodeM, -, hlocalsM, -, hkP, -, hW₁, hstep₁⟩ := Steps.initColdArgs (e := X.2.1) S.here C.1 S.warmed hpl C.2.2.2.1 hy1 hy (C.2.2.2.2.1 _ hl) (C.2.2.2.2.1 _ hin) (C.2.2.2.2.1 _ hcode) (f := F0 X.2.2.2.2.1 pc ls ((av.reverse ++ zR (some a) :: st).map zv)) rfl (fun sig hs => by rw [List.length_map]; exact (zlen_of hp hs).symm) (zmaprev av _) (by rw [C.2.1]; exact hd)
  exact ⟨vm₁, mk, S.noted hW₁, hnamed, fun target ht => hstep₁ _ fun acts => by rw [doInvoke_state]; exact ht⟩
theorem lk_IN (C : zC G X y cc nL d ret h0) {idx a : Nat} {host : String} {y' : MethodName} {cc' : ByteArray} {nL' : Nat} (hcode : Cond.code y' cc' nL' none ∈ lw_all) (hl : Cond.methodLinkNest y.cls idx y' host ∈ lw_tbl) (hin : Cond.instanceMethod y' ∈ lw_all) (hy1 : y'.name = "<init>") (hy : y'.cls ≠ "java/lang/invoke/MethodHandle" ∧ y'.cls ≠ "java/lang/invoke/VarHandle") (hd : decode cc pc = .ok (.invokespecial idx, 3)) (av : List zV) (hp : (parseMethodDescriptor y'.desc).map (fun d => d.parameters.length) = some av.length) {stk : List zV} (hs : stk = av.reverse ++ zR (some a) :: st) : zLk G X pc h stk st y' (zR (some a) :: av) := by
  subst hs
  intro ls H locs cells slots T hH hT S
  have hpl : X.2.1.platform.magicAccessors = ({} : Platform).magicAccessors := by rw [S.admits.platform]
  have hl2 := va_Nw.use rfl (A := X.2.2.2.2.2.1) (va_Nw.warmM C.2.2.2.2.2.2.2.1.2 (va_Nw.of rfl (C.2.2.2.2.2.2.2.1.1.1 _ hl)))
  obtain ⟨mk, methM, cM, kP, vm₁, hnamed, hmethM, hcodeM, -, hlocalsM, -, hkP, -, hW₁, hstep₁⟩ := Steps.initColdArgsNest (e := X.2.1) S.here C.1 S.warmed hpl C.2.2.2.1 hy1 hy hl2 (C.2.2.2.2.1 _ hin) (C.2.2.2.2.1 _ hcode) (f := F0 X.2.2.2.2.1 pc ls ((av.reverse ++ zR (some a) :: st).map zv)) rfl (fun sig hs => by rw [List.length_map]; exact (zlen_of hp hs).symm) (zmaprev av _) (by rw [C.2.1]; exact hd)
  exact ⟨vm₁, mk, S.noted hW₁, hnamed, fun target ht => hstep₁ _ fun acts => by rw [doInvoke_state]; exact ht⟩
/-- Object's own <init> -/
theorem s_objInit (C : zC G X y cc nL d ret h0) {idx a : Nat} (hd1 : 1 ≤ d) (hl : Cond.methodLink y.cls idx objectInit ∈ lw_all) (hin : Cond.instanceMethod objectInit ∈ lw_all) (hcd : Cond.code objectInit ⟨#[0xb1]⟩ 1 none ∈ lw_all) (hd : decode cc pc = .ok (.invokespecial idx, 3)) (hs : zcats st ≤ 8) (k : zS G X nL (pc + 3) L st h e lf) : zS G X nL pc L (zR (some a) :: st) h e lf := by
  intro res hr ls H locs cells slots hl2 hH hL
  have hR := C.2.2.2.2.2.2.2.2.1
  exact W.objInit C.1 C.2.1 C.2.2.2.1 (C.2.2.2.2.1 _ hl) (C.2.2.2.2.1 _ hin) (C.2.2.2.2.1 _ hcd) rfl (hl2.1.trans C.2.2.1.symm) (a := a) (rest := st.map zv) rfl hd (by rw [hR]; exact hd1) (by
    rw [hR]
    show 2 * (F0 X.2.2.2.2.1 pc ls ((zR (some a) :: st).map zv)).monitorRoom + _ + 12 ≤ 60 * d
    rw [zcats_eq]
    have : (F0 X.2.2.2.2.1 pc ls ((zR (some a) :: st).map zv)).monitorRoom = 0 := rfl
    omega) (k res hr ls H locs cells slots hl2 hH hL)
/-- the receiver, taken off the abstract heap -/
theorem s_rc {ts : List Nat} {r : Option Nat} {stk : List zV} {F : Nat → Option α} (kk : ∀ a, r = some a → (∃ o, h.2.2.2.2 a = some o ∧ o.1 ∈ ts) → zS G X nL pc L stk h (F a) lf) : zS G X nL pc L stk h ((zrc ts r h).bind F) lf := by
  cases r with
  | none => exact zS.none_
  | some a =>
    unfold zrc
    cases ha : h.2.2.2.2 a with
    | none => simp only [Option.bind_some, ha]; exact zS.none_
    | some o =>
      simp only [Option.bind_some, ha]
      by_cases hts : o.1 ∈ ts
      · rw [if_pos hts]
        exact kk a rfl ⟨o, ha, hts⟩
      · rw [if_neg hts]
        exact zS.none_
theorem zmem1 {a t : Nat} (hz : ∃ o, h.2.2.2.2 a = some o ∧ o.1 ∈ [t]) : ∃ o, h.2.2.2.2 a = some o ∧ o.1 = t := by
  obtain ⟨o, h1, h2⟩ := hz
  exact ⟨o, h1, by simpa using h2⟩
/-- by the receiver's class -/
theorem s_tag {r : Option Nat} {stk : List zV} {F : Nat → Option α} (kk : ∀ t a, r = some a → (∃ o, h.2.2.2.2 a = some o ∧ o.1 = t) → zS G X nL pc L stk h (F t) lf) : zS G X nL pc L stk h ((ztag r h).bind F) lf := by
  unfold ztag
  cases ho : zob r h with
  | none => exact zS.none_
  | some o =>
    obtain ⟨a, rfl, ha⟩ := zob_some ho
    exact kk o.1 a rfl ⟨o, ha, rfl⟩
end ZCL
