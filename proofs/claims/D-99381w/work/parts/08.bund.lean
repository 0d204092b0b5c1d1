/-! ===== calls by bundles of words ===== -/
abbrev zNH (y : MethodName) : Prop := y.cls ≠ "java/lang/invoke/MethodHandle" ∧ y.cls ≠ "java/lang/invoke/VarHandle"
def zML (own : String) (idx : Nat) (y' : MethodName) : Prop := Cond.methodLink own idx y' ∈ lw_all ∨ ∃ host, Cond.methodLinkNest own idx y' host ∈ lw_tbl
abbrev zNp (y' : MethodName) (np : Nat) : Prop := (parseMethodDescriptor y'.desc).map (fun d => d.parameters.length) = some np
/-- the callee: its code, its class -/
def zKc (y' : MethodName) (cc' : ByteArray) (nL' : Nat) (ret' : Option FieldType) : Prop := zNH y' ∧ Cond.code y' cc' nL' ret' ∈ lw_all ∧ Cond.initialized y'.cls ∈ lw_all ∧ nL' ≤ 41
def zKS (own : String) (idx : Nat) (y' : MethodName) (np : Nat) : Prop := zML own idx y' ∧ Cond.static y' ∈ lw_all ∧ zNp y' np
def zKV (own : String) (idx t : Nat) (y' : MethodName) (np : Nat) : Prop := zML own idx y' ∧ Cond.instanceMethod y' ∈ lw_all ∧ zNp y' np ∧ ∃ (K : String) (T0 : u_T) (N : Nat), zcl[t]? = some (K, T0, N) ∧ Cond.selects K y' y' ∈ lw_all
def zKI (own : String) (idx : Nat) (y' : MethodName) (np : Nat) : Prop := zML own idx y' ∧ Cond.instanceMethod y' ∈ lw_all ∧ zNp y' np ∧ y'.name = "<init>"
def zKU (own : String) (idx t : Nat) (x y' : MethodName) (np : Nat) : Prop := Cond.methodLink own idx x ∈ lw_all ∧ Cond.instanceMethod y' ∈ lw_all ∧ zNp x np ∧ ∃ (owner : String) (K : String) (T0 : u_T) (N : Nat), zcl[t]? = some (K, T0, N) ∧ Cond.selects K x y' ∈ lw_all ∧ Cond.sameMethod x.cls owner x.name x.desc ∈ lw_all ∧ (owner ≠ "java/lang/invoke/MethodHandle" ∧ owner ≠ "java/lang/invoke/VarHandle") ∧ (Cond.declares ⟨owner, x.name, x.desc⟩ ∈ lw_tbl ∨ Cond.instanceMethod ⟨owner, x.name, x.desc⟩ ∈ lw_all ∧ ∃ cc2 nL2 ret2, Cond.code ⟨owner, x.name, x.desc⟩ cc2 nL2 ret2 ∈ lw_all)
section ZBU
variable {α β : Type} {G : zG} {X : zX} {y : MethodName} {cc : ByteArray} {nL pc d : Nat} {ret : Option FieldType} {h0 : zHp} {L L' : List (Option zV)} {st : List zV} {h : zHp} {e eT eF : Option α} {lf : α → zRes} {d' nL' : Nat} {y' : MethodName} {cc' : ByteArray} {ret' : Option FieldType}
theorem zce (C : zC G X y cc nL d ret h0) (kc : zKc y' cc' nL' ret') (hd' : d' + 1 ≤ d) : zCe X d d' nL' y' (ws_ y' cc' nL' ret') := zCe.of C hd' kc.2.2.2 kc.2.1 kc.2.2.1
theorem zlkS (C : zC G X y cc nL d ret h0) (kc : zKc y' cc' nL' ret') {idx np : Nat} (kb : zKS y.cls idx y' np) (hd : decode cc pc = .ok (.invokestatic idx, 3)) (av : List zV) (hn : av.length = np) {stk : List zV} (hs : stk = av.reverse ++ st) : zLk G X pc h stk st y' av := by
  subst hn
  rcases kb.1 with e | ⟨host, e⟩
  · exact lk_S C (zMs.of (C.2.2.2.2.1 _ kc.2.1)) e kb.2.1 kc.2.2.1 kc.1 hd av kb.2.2 hs
  · exact lk_SN C (zMs.of (C.2.2.2.2.1 _ kc.2.1)) e kb.2.1 kc.2.2.1 kc.1 hd av kb.2.2 hs
theorem zlkV (C : zC G X y cc nL d ret h0) (kc : zKc y' cc' nL' ret') {idx t a np : Nat} (kb : zKV y.cls idx t y' np) (hd : decode cc pc = .ok (.invokevirtual idx, 3)) (hz : ∃ o, h.2.2.2.2 a = some o ∧ o.1 = t) (av : List zV) (hn : av.length = np) {stk : List zV} (hs : stk = av.reverse ++ zR (some a) :: st) : zLk G X pc h stk st y' (zR (some a) :: av) := by
  subst hn
  obtain ⟨k1, k2, k3, K, T0, N, hq, hsel⟩ := kb
  rcases k1 with e | ⟨host, e⟩
  · exact lk_V C (zMs.of (C.2.2.2.2.1 _ kc.2.1)) hq e k2 hsel kc.1 hd hz av k3 hs
  · exact lk_VN C (zMs.of (C.2.2.2.2.1 _ kc.2.1)) hq e k2 hsel kc.1 hd hz av k3 hs
theorem zlkI (C : zC G X y cc nL d ret h0) (kc : zKc y' cc' nL' none) {idx a np : Nat} (kb : zKI y.cls idx y' np) (hd : decode cc pc = .ok (.invokespecial idx, 3)) (av : List zV) (hn : av.length = np) {stk : List zV} (hs : stk = av.reverse ++ zR (some a) :: st) : zLk G X pc h stk st y' (zR (some a) :: av) := by
  subst hn
  obtain ⟨k1, k2, k3, k4⟩ := kb
  rcases k1 with e | ⟨host, e⟩
  · exact lk_I C kc.2.1 e k2 k4 kc.1 hd av k3 hs
  · exact lk_IN C kc.2.1 e k2 k4 kc.1 hd av k3 hs
theorem zlkU (C : zC G X y cc nL d ret h0) (kc : zKc y' cc' nL' ret') {idx t a np : Nat} {x : MethodName} (kb : zKU y.cls idx t x y' np) (hd : decode cc pc = .ok (.invokevirtual idx, 3)) (hz : ∃ o, h.2.2.2.2 a = some o ∧ o.1 = t) (av : List zV) (hn : av.length = np) {stk : List zV} (hs : stk = av.reverse ++ zR (some a) :: st) : zLk G X pc h stk st y' (zR (some a) :: av) := by
  subst hn
  obtain ⟨k1, k2, k3, owner, K, T0, N, hq, hsel, hsm, hoh, hdc⟩ := kb
  exact lk_U C (zMs.of (C.2.2.2.2.1 _ kc.2.1)) hq k1 hsm hdc k2 hsel hoh hd hz av k3 hs
/-- one of several classes -/
theorem ztcons {a t : Nat} {ts : List Nat} {P : Prop} (hz : ∃ o, h.2.2.2.2 a = some o ∧ o.1 ∈ t :: ts) (k1 : (∃ o, h.2.2.2.2 a = some o ∧ o.1 = t) → P) (k2 : (∃ o, h.2.2.2.2 a = some o ∧ o.1 ∈ ts) → P) : P := by
  obtain ⟨o, h1, h2⟩ := hz
  rcases List.mem_cons.mp h2 with e | e
  · exact k1 ⟨o, h1, e⟩
  · exact k2 ⟨o, h1, e⟩
/-- a call whose callee is chosen by the receiver's class -/
theorem s_callD (C : zC G X y cc nL d ret h0) (lv : β → Option zV) {stk : List zV} {e1 : Option (β × zHp)} {ig : Instr} (hM : ∀ r, e1 = some r → ∃ (d' nL' : Nat) (y' : MethodName) (ws' : List Cond) (av : List zV), zTr G d' y' ws' (av.map zv) h (li lv r) ∧ zCe X d d' nL' y' ws' ∧ zLk G X pc h stk st y' av) (hd : decode cc pc = .ok (ig, 3)) (hs : zcats st ≤ 8) {F : β → zHp → Option α} (kk : ∀ x h1, e1 = some (x, h1) → zS G X nL (pc + 3) L ((lv x).toList ++ st) h1 (F x h1) lf) : zS G X nL pc L stk h (bN e1 F) lf := by
  cases he : e1 with
  | none => exact zS.none_
  | some r1 =>
    obtain ⟨d', nL', y', ws', av, h1, h2, h3⟩ := hM r1 he
    rw [← he]
    exact s_callN C lv (fun r hr => by rw [he] at hr; cases hr; exact h1) h2 h3 hd hs kk
end ZBU
/-! loops -/
def zloop {γ : Type} (body : γ → γ) (bot : γ) : Nat → γ
  | 0 => bot
  | k + 1 => body (zloop body bot k)
