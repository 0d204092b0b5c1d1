/-! ===== the claim out of the pure law ===== -/
theorem law_pure {b L : Nat} {xs : Nat → Int32} {h : zHp} (hL : L ≤ 448) (hI : zIni b L xs h) : ∃ (n : Nat) (h1 : zHp), f_L_law n (some b) h = some ((1 : Int32), h1) := by
  sorry
def R_law : String := "OrdinaryStalkLaw"
def lw_P (l : Launch) (b : Addr) (xs : List Int32) (args : Array Value) (s : State) : Prop := args = #[.ref b] ∧ s.IntsAt b xs ∧ xs.length ≤ 448 ∧ (Jvm.Cond.and given_1 narrow_1).before args s = true ∧ heapFits s = true ∧ l.flags = flags0
def lw_Q (_ : Array Value) (s : State) (o : Outcome) (t : State) : Prop := o = .returned (some (.int 1)) ∧ Framed s o t [] 860086 6515845
def lw_Z (below : List Frame) (a : Array Value) (s : State) : State → Prop := fun t => ∃ o, t.status = .running ∧ Ended t below o ∧ lw_Q a s o t
/-- less room asked, the same walk -/
theorem zStand_room {p : Program} {l : Launch} {e : Env} {R R' : Room} {s : State} {m : MethodId} {args : Array Value} {below : List Frame} {meth : Method} {c : Code} {T : State} {locs : List Loc} {cells slots : Nat} (X : Stand p l e R s m args below meth c T locs cells slots) (h1 : R'.frames ≤ R.frames) (h2 : R'.locals ≤ R.locals) (h3 : R'.cells ≤ R.cells) (h4 : R'.slots ≤ R.slots) : Stand p l e R' s m args below meth c T locs cells slots := by
  have hr := X.room
  refine { X with room := ?_ }
  unfold State.hasRoom at hr ⊢
  simp only [Bool.and_eq_true, decide_eq_true_eq] at hr ⊢
  obtain ⟨⟨⟨⟨a1, a2, a3, a4, a5, a6⟩, a7⟩, a8⟩, a9⟩ := hr
  exact ⟨⟨⟨⟨by omega, by omega, by omega, by omega, by omega, a6⟩, by omega⟩, by omega⟩, a9⟩
def lw_At (p : Program) (s : State) (m : MethodId) (meth : Method) (c : Code) (b L : Nat) (xs : Nat → Int32) : Prop :=
  p.tables.exec = Jvm.exec ∧ c.code = code ∧ meth.sig.returnType = ret ∧ c.maxLocals = 7 ∧ s.vm.findClass R_law = some m.cls ∧ (∀ w ∈ lw_tbl, w.before #[Value.ref b] s = true) ∧ va_X b L xs s s.heap ∧ b < s.heap.size ∧ meth.locks = false ∧ (Jvm.Cond.and given_1 narrow_1).before #[Value.ref b] s = true
theorem whole_start {p : Program} {e : Env} {s : State} {m : MethodId} {below : List Frame} {meth : Method} {c : Code} (l : Launch) {b L : Nat} {xs : Nat → Int32} (hL : L ≤ 448) (C0 : lw_At p s m meth c b L xs) (hfit : heapFits s = true) (hflag : l.flags = flags0) (hname : meth.name = x.name) : W p l e room_1 s m #[Value.ref b] below meth c s.heap [] 0 0 (lw_Z below #[Value.ref b] s) (entryFrame m ([Value.ref b] : List Value).toArray 7) := by
  obtain ⟨hx, hb, hr, hml, hown, hts, hX, hbl, hlk, hgv⟩ := C0
  obtain ⟨G, h, e1, e2, hFa, hH, hI⟩ := zstart hflag hfit hts hX hgv
  obtain ⟨n, h1, hp⟩ := law_pure hL hI
  obtain ⟨l', s', b', D, ar⟩ := G
  have e1 : l' = l := e1
  have e2 : s' = s := e2
  subst e1
  subst e2
  intro T hT S
  have hc1 : h.2.1 = 860086 := hI.1
  have hc2 : h.2.2.1 = 6515845 := hI.2.1
  have S2 : zSd (l', s', b', D, ar) (p, e, zRm 1400 h, s', m, #[Value.ref b], below, meth, c) T [] 0 0 := zStand_room S (by show 1400 ≤ 2048; decide) (by show 60 * 1400 ≤ 84000; decide) (by show h.2.1 ≤ 860086; omega) (by show h.2.2.1 ≤ 6515845; omega)
  have C : zC (l', s', b', D, ar) (p, e, zRm 1400 h, s', m, #[Value.ref b], below, meth, c) x cL_law 7 1400 (some .boolean) h := ⟨hx, hb, hml, hown, fun w hw => hts w (lw_all_tbl hw), hr, hlk, ⟨hFa, State.WarmedH.refl _⟩, rfl, hH, hname⟩
  have hl := lv_entry [Value.ref b] (n := 7) (Nat.le_of_ble_eq_true rfl)
  obtain ⟨t, a1, o, b1, b2, b3⟩ := w_L_law C (by decide) n (some b) h _ hp _ s'.heap [] 0 0 ⟨hl.1, hl.2.1, fun i v hi => by
    have hi : ([some (zR (some b)), none, none, none, none, none, none] : List (Option zV))[i]? = some (some v) := hi
    match i, hi with
    | 0, hi =>
      simp at hi
      subst hi
      exact hl.2.2 (0, .ref b) List.mem_cons_self
    | i + 1, hi =>
      exfalso
      rw [List.getElem?_cons_succ] at hi
      have := List.mem_of_getElem? hi
      simp at this⟩ hH (fun q hq => by cases hq) T hT S2
  refine ⟨t, ?_, o, b1, b2, ?_⟩
  · rw [lg_entry_eq]
    exact a1
  · obtain ⟨c1, c2, c3, locs, k, n', c4, c5⟩ := b3
    refine ⟨c1, ⟨_, c1⟩, c3, ?_⟩
    obtain ⟨s1, s2, s3, s4, s5, s6⟩ := id c5
    obtain ⟨g1, g2, g3, g4, g5, -⟩ := c2
    have c4 : ∀ q ∈ locs, s'.heap.size ≤ q.base := c4
    have g1 : t.heap.size = h1.1 := g1
    have g4 : h1.1 + h1.2.1 = s'.heap.size + 860086 := g4
    have g5 : zsum s'.heap.size t.heap + h1.2.2.1 = 6515845 := g5
    refine ⟨s1, s2, ?_, s4, ?_, ?_⟩
    · show t.heap.size ≤ s'.heap.size + 860086
      omega
    · show _ ≤ 6515845
      have : zsum s'.heap.size t.heap ≤ 6515845 := by omega
      exact this
    · intro a cell ha
      obtain ⟨c', q1, q2, q3, q4⟩ := s6 a cell ha
      refine ⟨c', q1, q2, q3, fun i hi => q4 i ?_⟩
      intro hmem
      have w1 : s'.heap.size ≤ a := c4 _ hmem
      have w2 : a < s'.heap.size := (Array.getElem?_eq_some_iff.mp ha).1
      exact Nat.not_le.mpr w2 w1
set_option maxHeartbeats 4000000 in
theorem lw_walk (l : Launch) (b : Addr) (xs : List Int32) : MetFree l x (headSpec (Jvm.Cond.code x code maxLocals ret :: tables_1) room_1) (lw_P l b xs) (fun _ _ _ _ _ => True) lw_Q := by
  refine MetFree.of_bodyS (code := code) (maxLocals := maxLocals) (ret := ret) (by decide) ?_ ?_
  · intro args s m h hn
    obtain ⟨meth, c, h1, h2, h3, h4, h5, h6, -, -⟩ := Cond.code_spec hn (atoms_spec (ws := Jvm.Cond.code x code maxLocals ret :: tables_1) h _ List.mem_cons_self)
    exact ⟨meth, c, h1, h2, h3, h4, h5, h6⟩
  · intro p e s m args below meth c s₁ B hml0 hP _
    obtain ⟨rfl, hx, hbd, hgv, hfit, hflag⟩ := hP
    obtain ⟨scr, harrAt, hlist, hof, hsmall⟩ := hx
    obtain ⟨hcb, hkn, -, -⟩ := State.arrayAt?_spec harrAt
    have hown : s.vm.findClass R_law = some m.cls := findClass_of_methodNamed B.named
    have hts0 : ∀ c ∈ (Jvm.Cond.code x code maxLocals ret :: tables_1), c.before #[Value.ref b] s = true := atoms_spec (ws := Jvm.Cond.code x code maxLocals ret :: tables_1) B.pre
    have hts : ∀ w ∈ lw_tbl, w.before #[Value.ref b] s = true := k2_hts_sels lw_privs (fun w hw => hts0 w (List.mem_cons_of_mem _ hw)) lw_privs_ok
    have hml : c.maxLocals = 7 := B.maxLocals_eq (hts0 _ List.mem_cons_self)
    have X₀ : Stand p l e room_1 s m #[Value.ref b] below meth c s₁ [] 0 0 := Stand.of_body B
    have hh0 : s₁.heap = s.heap := by rw [B.state]; rfl
    have hsz : scr.slots.size = xs.length := by rw [← Array.length_toList, hlist, List.length_map]
    have hval : ∀ j : Nat, j < xs.length → scr.slots[j]? = some (.int (xs.getD j 0)) := fun j hj => by
      rw [← Array.getElem?_toList, hlist]
      simp [hj]
    have hbl : b < s.heap.size := (Array.getElem?_eq_some_iff.mp hcb).1
    have hX : va_X b xs.length (fun j => xs.getD j 0) s s.heap := ⟨scr, hcb, hof, hkn, hsz, hval⟩
    have K : W p l e room_1 s m #[Value.ref b] below meth c s₁.heap [] 0 0 (lw_Z below #[Value.ref b] s) (entryFrame m ([Value.ref b] : List Value).toArray 7) := by
      rw [hh0]
      exact whole_start l hbd ⟨B.exec, B.bytes, B.returns, hml, hown, hts, hX, hbl, B.notSynchronized, hgv⟩ hfit hflag (name_of_methodNamed B.named B.method).1
    obtain ⟨t, a1, o, b1, b2, b3⟩ := K s₁ rfl X₀
    exact ⟨t, o, a1, b1, b2, b3⟩
theorem lw_pre_spec {args : Array Value} {s : State} (h : (Jvm.Cond.and given_1 narrow_1).before args s = true) (hr : rest_1_c.before args s = true) {l : Launch} (hfit : heapFits s = true) (hflag : l.flags = flags0) : ∃ (b : Addr) (xs : List Int32), lw_P l b xs args s := by
  have hs := flat_of_before _ h
  have hq := flat_of_before _ hr
  have hc : (Cond.count 1).before args s = true := hs _ (by decide +kernel)
  have harr : (Cond.arrayOf (.arg 0) .int).before args s = true := hs _ (by decide +kernel)
  have hle : (Cond.le (.length (.arg 0)) (.int 448)).before args s = true := hs _ (by decide +kernel)
  have hlen : (Cond.isInt (.length (.arg 0))).before args s = true := hq _ (by decide +kernel)
  have hall : (Cond.all (.arg 0) (.isInt (.elem (.arg 0) (.index 0)))).before args s = true := hq _ (by decide +kernel)
  obtain ⟨b, xs, hb, hx⟩ := State.ints_of_pre rfl harr hlen hall
  have hsm : xs.length < 2 ^ 31 := hx.choose_spec.2.2.2
  have hev : (Term.length (.arg 0)).eval args s none [] s = some (.int xs.length.toInt32) := hx.length_eval hb
  have hv := Cond.le_ints hev (show (Term.int 448).eval args s none [] s = some (.int 448) from rfl)
  have hd : xs.length.toInt32 ≤ 448 := by
    simpa [Cond.before, Cond.holds, hv] using hle
  have hN : xs.length ≤ 448 := (Int32.ofNat_le_ofNat hsm (by decide)).mp (show Int32.ofNat xs.length ≤ Int32.ofNat 448 from hd)
  exact ⟨b, xs, Cond.one_arg hc (show args[0]? = some (.ref b) from hb), hx, hN, h, hfit, hflag⟩
theorem lw_comes (l : Launch) (hflag : l.flags = flags0) : Comes l x (Jvm.Cond.code x code maxLocals ret :: tables_1) room_1 (fun tb e args s => Calls_1 tb e args s ∧ rest_1 tb e args s ∧ Pre_1 tb e args s)
    (fun _ _ args s o t => lw_Q args s o t) := by
  intro p e ha hc hk s m args below hf hfit hheap happ hpre
  obtain ⟨b, xs, hP⟩ := lw_pre_spec hpre.2.2 hpre.2.1 hheap hflag
  obtain ⟨k, o, h1, h2, h3, hQ⟩ := lw_walk l b xs p e ha hc hk s m args below hf ((Spec.applies_iff_loose hf).mp happ).1 hP trivial
  exact ⟨k, o, h1, h2, h3, hQ⟩
theorem lw_frame {s t : State} {o : Outcome} {args : Array Value} (h : Framed s o t [] 860086 6515845) :
    Framed s o t (fieldLocs frame_1_writes args s ++ arrayLocs frame_1_arrays args s ++ staticLocs frame_1_statics s) 860086 6515845 := h
theorem lw_limb (L : Cond) (hL : ∀ (args : Array Value) (s t : State), L.after args s (.returned (some (.int 1))) t = true) :
    ArmFor flags0 classFile x code maxLocals ret World_1 tables_1 room_1 Calls_1 rest_1 Pre_1
      (fun tb e a s o t => postC L tb e a s o t ∧ Framed s o t (fieldLocs frame_1_writes a s ++ arrayLocs frame_1_arrays a s ++ staticLocs frame_1_statics s) 860086 6515845) := by
  intro l hflag _ _ p e ha hc hk s m args below hf hfit hheap happ hpre
  obtain ⟨k, o, h1, h2, h3, rfl, hF⟩ := lw_comes l hflag p e ha hc hk s m args below hf hfit hheap happ hpre
  exact ⟨k, _, h1, h2, h3, hL args s _, lw_frame hF⟩
theorem i_vc : Claimed_1_1 ∧ Claimed_1_2 := ⟨lw_limb limb_1_1 (fun args s t => by simp [limb_1_1, Cond.after, Cond.holds, Cond.value]), lw_limb limb_1_2 (fun args s t => Cond.after_iff.mpr (by
  first | (rw [show limb_1_2 = Cond.eq .result (.int 1) from rfl, Cond.eq_ints (x := 1) (y := 1) rfl rfl]; simp; done) | (simp [limb_1_2, Cond.value, Term.eval]; done)))⟩
