/-! ===== statics, String constants, casts, arrays of references, copying ===== -/
def zgI (k : Nat) (h : zHp) : Option Int32 := zasI (h.2.2.2.1 k)
def zgR (k : Nat) (h : zHp) : Option (Option Nat) := zasR (h.2.2.2.1 k)
def zfo (ts : List Nat) (k : Nat) (r : Option Nat) (h : zHp) : Option zV := (zob r h).bind fun o => if o.1 ∈ ts ∧ k < o.2.1 then some (o.2.2 k) else none
def zfIo (ts : List Nat) (k : Nat) (r : Option Nat) (h : zHp) : Option Int32 := (zfo ts k r h).bind zasI
def zfJo (ts : List Nat) (k : Nat) (r : Option Nat) (h : zHp) : Option Int64 := (zfo ts k r h).bind zasJ
def zfRo (ts : List Nat) (k : Nat) (r : Option Nat) (h : zHp) : Option (Option Nat) := (zfo ts k r h).bind zasR
/-- a class's name by its tag -/
def zcn (t : Nat) : String := if t < 33 then (zcl.getD t ("", TX3, 0)).1 else if t = 100 then "[I" else if t = 104 then "[Ljava/lang/Object;" else "java/lang/String"
/-- what may lie in an Object[] -/
def zobs : List Nat := [2, 10, 11, 12, 13, 18, 19, 20, 21, 22, 23, 24, 25, 26, 27, 30, 31, 100, 230, 231]
def zisa (ts : List Nat) (r : Option Nat) (h : zHp) : Bool := match r with
  | none => true
  | some a => match h.2.2.2.2 a with
    | some o => decide (o.1 ∈ ts)
    | none => false
def zokA (r x : Option Nat) (h : zHp) : Bool := match x with
  | none => true
  | some _ => match ztag r h with
    | some t => if t = 104 then zisa zobs x h else if t = 105 then zisa [240] x h else if t = 106 then zisa [2] x h else if t = 107 then zisa [28] x h else false
    | none => false
def zasO (r : Option Nat) (i : Int32) (x : Option Nat) (h : zHp) : Option zHp := if zokA r x h = true then zas [104, 105, 106, 107] r i (zR x) h else none
def zelok (t : Nat) (v : zV) (h : zHp) : Bool := if t = 100 then (zasI v).isSome else match zasR v with
  | some r => zisa zobs r h
  | none => false
/-- System.arraycopy -/
def zcopy (src : Option Nat) (sp : Int32) (dst : Option Nat) (dp n : Int32) (h : zHp) : Option zHp := dst.bind fun a => (zob src h).bind fun o => (h.2.2.2.2 a).bind fun o' =>
  if (o.1 = 100 ∨ o.1 = 104) ∧ o'.1 = o.1 ∧ ¬ sp < 0 ∧ ¬ dp < 0 ∧ ¬ n < 0 ∧ sp.toNatClampNeg + n.toNatClampNeg ≤ o.2.1 ∧ dp.toNatClampNeg + n.toNatClampNeg ≤ o'.2.1 ∧ (List.range n.toNatClampNeg).all (fun i => zelok o.1 (o.2.2 (sp.toNatClampNeg + i)) h) = true
  then some (zput a (o'.1, o'.2.1, va_cpy o.2.2 o'.2.2 sp.toNatClampNeg dp.toNatClampNeg n.toNatClampNeg) h) else none
def zGk (own : String) (idx k : Nat) : Prop := ∃ (K n ds : String), zstat[k]? = some (K, n, ds) ∧ Cond.fieldLink own idx K n ds ∈ lw_all
def zFs (own : String) (idx k : Nat) : Prop := own = "java/lang/String" ∧ Cond.fieldLink own idx "java/lang/String" (if k = 0 then "value" else "coder") (if k = 0 then "[B" else "B") ∈ lw_all
section ZR3
variable {α β : Type} {G : zG} {X : zX} {y : MethodName} {cc : ByteArray} {nL pc d : Nat} {ret : Option FieldType} {h0 : zHp} {L L' : List (Option zV)} {st : List zV} {h : zHp} {e eT eF : Option α} {lf : α → zRes}
theorem s_gets (C : zC G X y cc nL d ret h0) {idx k : Nat} (hG : zGk y.cls idx k) (hd : decode cc pc = .ok (.getstatic idx, 3)) (kk : zS G X nL (pc + 3) L (h.2.2.2.1 k :: st) h e lf) : zS G X nL pc L st h e lf := by
  intro res hr ls H locs cells slots hl hH hL
  obtain ⟨K, n, ds, hq, hlk⟩ := hG
  have hz := (hH.2.2.2.2.2.1.1 k _ hq).moved C.2.2.2.2.2.2.2.1.2.alike
  obtain ⟨cf, kf, fi, f, a, cell, z1, z2, z3, z4, z5, z6, z7, z8⟩ := hz
  have ha : a < zB G := Nat.not_le.mp z8
  exact W.gets C.1 C.2.1 C.2.2.2.1 (C.2.2.2.2.1 _ hlk) z1 z2 z3 z4 (by rw [hH.2.2.1 a ha]; exact z5) (fun q => by rw [q] at z6; cases z6) z7 rfl hd (kk res hr ls H locs cells slots hl hH hL)
theorem s_getsI (C : zC G X y cc nL d ret h0) {idx k : Nat} (hG : zGk y.cls idx k) (hd : decode cc pc = .ok (.getstatic idx, 3)) {F : Int32 → Option α} (kk : ∀ x, zgI k h = some x → zS G X nL (pc + 3) L (zI x :: st) h (F x) lf) : zS G X nL pc L st h ((zgI k h).bind F) lf := by
  cases hx : zgI k h with
  | none => exact zS.none_
  | some x =>
    refine s_gets C hG hd ?_
    rw [zasI_v hx]
    exact kk x hx
theorem s_getsR (C : zC G X y cc nL d ret h0) {idx k : Nat} (hG : zGk y.cls idx k) (hd : decode cc pc = .ok (.getstatic idx, 3)) {F : Option Nat → Option α} (kk : ∀ x, zgR k h = some x → zS G X nL (pc + 3) L (zR x :: st) h (F x) lf) : zS G X nL pc L st h ((zgR k h).bind F) lf := by
  cases hx : zgR k h with
  | none => exact zS.none_
  | some x =>
    refine s_gets C hG hd ?_
    rw [zasR_v hx]
    exact kk x hx
theorem s_ldcS (C : zC G X y cc nL d ret h0) {idx k : Nat} {tx : String} (hy : y.cls = "OrdinaryStalk$Reader") (hk : zstr[k]? = some (idx, tx)) (hd : decode cc pc = .ok (.ldc idx, 2)) {F : Option Nat → Option α} (kk : ∀ x, zgR (100 + k) h = some x → zS G X nL (pc + 2) L (zR x :: st) h (F x) lf) : zS G X nL pc L st h ((zgR (100 + k) h).bind F) lf := by
  cases hx : zgR (100 + k) h with
  | none => exact zS.none_
  | some x =>
    intro res hr ls H locs cells slots hl hH hL
    obtain ⟨a, e1, hv⟩ := hH.2.2.2.2.2.1.2.1 k _ hk
    have hxa : zR (some a) = zR x := by rw [← e1]; exact zasR_v hx
    cases hxa
    have hv2 := vk_R.warm C.2.2.2.2.2.2.2.1.2 hv
    rw [← hy] at hv2
    exact va_ldcS C.1 C.2.1 C.2.2.2.1 hv2 hd (kk (some a) hx res hr ls H locs cells slots hl hH hL)
theorem s_ldcM (C : zC G X y cc nL d ret h0) {idx : Nat} (hw : Cond.classLink y.cls idx "[Ljava/lang/Object;" ∈ lw_all) (hd : decode cc pc = .ok (.ldc idx, 2)) {F : Option Nat → Option α} (kk : ∀ x, zgR 50 h = some x → zS G X nL (pc + 2) L (zR x :: st) h (F x) lf) : zS G X nL pc L st h ((zgR 50 h).bind F) lf := by
  cases hx : zgR 50 h with
  | none => exact zS.none_
  | some x =>
    intro res hr ls H locs cells slots hl hH hL
    obtain ⟨mi, e1, hv⟩ := hH.2.2.2.2.2.1.2.2
    have hxa : zR (some mi) = zR x := by rw [← e1]; exact zasR_v hx
    cases hxa
    exact va_ldcM C.1 C.2.1 C.2.2.2.1 (C.2.2.2.2.1 _ hw) (va_Mi.moved C.2.2.2.2.2.2.2.1.2.alike hv) hd (kk (some mi) hx res hr ls H locs cells slots hl hH hL)
/-- the class of a cell by its tag -/
theorem zcell (C : zC G X y cc nL d ret h0) {H : Heap} {a : Nat} {o : zOb} (hH : zH G h H) (ha : h.2.2.2.2 a = some o) (ho : o.1 < 33 ∨ o.1 = 100 ∨ o.1 = 104 ∨ o.1 = 240 ∨ (200 ≤ o.1 ∧ o.1 < 233)) : ∃ cell : Cell, H[a]? = some cell ∧ (∀ q, cell.vm ≠ .statics q) ∧ X.2.2.2.1.vm.findClass (zcn (o.1 % 200)) = some cell.cls := by
  have hz := hH.2.2.2.2.2.2 a o ha
  have hkn : ∀ t, t < 33 → X.2.2.2.1.vm.findClass (zcn t) = some (G.2.2.2.1.1 t) := by
    intro t ht
    have hlt : t < zcl.length := ht
    have hq : zcl[t]? = some zcl[t] := List.getElem?_eq_getElem hlt
    have := (C.kn hq).2.1
    unfold zcn
    rw [if_pos ht, List.getD_eq_getElem?_getD, hq]
    exact this
  unfold zAt at hz
  by_cases h2 : o.1 < 200
  · rw [if_pos h2] at hz
    obtain ⟨-, sl, h3, h4, h5, h6⟩ := hz
    have e : o.1 % 200 = o.1 := Nat.mod_eq_of_lt h2
    refine ⟨_, h3, fun _ q => (by cases q), ?_⟩
    show _ = some (zCls G o.1)
    rw [e]
    by_cases h33 : o.1 < 33
    · rw [hkn _ h33]
      unfold zCls
      rw [if_pos (by omega)]
    · have h100 : o.1 = 100 ∨ o.1 = 104 := by omega
      rcases h100 with q | q
      · rw [q]
        exact (C.arr (k := 0) (by decide)).2
      · rw [q]
        obtain ⟨kA, comp, -, -, -, g4⟩ := (C.arr (k := 4) (by decide)).2
        exact g4
  · rw [if_neg h2] at hz
    obtain ⟨hlt, cell, h3, h4, h5, h6, h7⟩ := hz
    rw [if_pos (by omega)] at h6
    refine ⟨cell, by rw [hH.2.2.1 a hlt]; exact h3, h5, ?_⟩
    rw [h6]
    by_cases h40 : o.1 = 240
    · rw [h40]
      have := C.2.2.2.2.2.2.2.1.1.2.2.2.1
      rw [C.2.2.2.2.2.2.2.1.2.alike.findClass]
      exact this
    · have e : o.1 % 200 = o.1 - 200 := by omega
      rw [e, hkn _ (by omega)]
      unfold zCls
      rw [if_pos (by omega)]
theorem zcast_of (C : zC G X y cc nL d ret h0) {K E : String} (hw : Cond.castable K E ∈ lw_tbl) : ∃ c t, X.2.2.2.1.vm.findClass K = some c ∧ X.2.2.2.1.vm.findClass E = some t ∧ X.2.2.2.1.vm.assignable c t = true :=
  Cond.castable_spec (va_Nw.use (A := X.2.2.2.2.2.1) rfl (va_Nw.warmC C.2.2.2.2.2.2.2.1.2 (va_Nw.of rfl (C.2.2.2.2.2.2.2.1.1.1 _ hw))))
/-- every cell of such a tag goes for an E -/
def zCk (ts : List Nat) (E : String) : Prop := ∀ t ∈ ts, (t < 33 ∨ t = 100 ∨ t = 104 ∨ t = 240 ∨ (200 ≤ t ∧ t < 233)) ∧ (Cond.castable (zcn (t % 200)) E ∈ lw_tbl ∨ zcn (t % 200) = E)
theorem zcast (C : zC G X y cc nL d ret h0) {H : Heap} {a : Nat} {ts : List Nat} {E : String} (hk : zCk ts E) (hH : zH G h H) (hz : zisa ts (some a) h = true) : ∃ cell : Cell, H[a]? = some cell ∧ (∀ q, cell.vm ≠ .statics q) ∧ (∃ kC, X.2.2.2.1.vm.classes[cell.cls]? = some kC) ∧ (∀ t, X.2.2.2.1.vm.findClass E = some t → X.2.2.2.1.vm.assignable cell.cls t = true) ∧ ∃ t, X.2.2.2.1.vm.findClass E = some t := by
  unfold zisa at hz
  dsimp only at hz
  cases ha : h.2.2.2.2 a with
  | none => rw [ha] at hz; cases hz
  | some o =>
    rw [ha] at hz
    have hmem : o.1 ∈ ts := by simpa using hz
    obtain ⟨k1, k2⟩ := hk _ hmem
    obtain ⟨cell, c1, c2, c3⟩ := zcell C hH ha k1
    obtain ⟨kC, hkC, -⟩ := Vm.findClass_spec c3
    rcases k2 with k2 | k2
    · obtain ⟨c, t', g1, g2, g3⟩ := zcast_of C k2
      cases c3.symm.trans g1
      refine ⟨cell, c1, c2, ⟨kC, hkC⟩, fun t ht => ?_, t', g2⟩
      cases ht.symm.trans g2
      exact g3
    · rw [k2] at c3
      refine ⟨cell, c1, c2, ⟨kC, hkC⟩, fun t ht => ?_, _, c3⟩
      cases c3.symm.trans ht
      exact va_asg _ _
theorem s_cast (C : zC G X y cc nL d ret h0) {idx : Nat} {ts : List Nat} {E : String} {r : Option Nat} (hk : zCk ts E) (hw : Cond.classLink y.cls idx E ∈ lw_all) (hd : decode cc pc = .ok (.checkcast idx, 3)) (kk : zS G X nL (pc + 3) L (zR r :: st) h e lf) : zS G X nL pc L (zR r :: st) h (if zisa ts r h = false then none else e) lf := by
  by_cases hz : zisa ts r h = false
  · rw [if_pos hz]; exact zS.none_
  · rw [if_neg hz]
    have hz : zisa ts r h = true := by simpa using hz
    intro res hr ls H locs cells slots hl hH hL
    have hgo := kk res hr ls H locs cells slots hl hH hL
    cases r with
    | none => exact lv_castN C.1 C.2.1 hd hgo
    | some a =>
      obtain ⟨cell, c1, c2, -, c4, t, ht⟩ := zcast C hk hH hz
      intro T hT S
      obtain ⟨vm', S', st'⟩ := S.checkcastYes C.1 C.2.2.2.1 (C.2.2.2.2.1 _ hw) (by rw [hT]; exact c1) (by cases hv : cell.vm <;> first | rfl | exact absurd hv (c2 _)) ht (c4 t ht) (g := F0 X.2.2.2.2.1 pc ls ((zR (some a) :: st).map zv)) rfl rfl (by rw [C.2.1]; exact hd)
      obtain ⟨t2, a1, b1⟩ := hgo (T.setVm vm') hT S'
      exact ⟨t2, st' t2 a1, b1⟩
theorem zckobs : zCk zobs "java/lang/Object" := List.forall_mem_cons.mpr ⟨⟨by decide, Or.inl q2408⟩, List.forall_mem_cons.mpr ⟨⟨by decide, Or.inl q2425⟩, List.forall_mem_cons.mpr ⟨⟨by decide, Or.inl q2422⟩, List.forall_mem_cons.mpr ⟨⟨by decide, Or.inl q2423⟩, List.forall_mem_cons.mpr ⟨⟨by decide, Or.inl q2424⟩, List.forall_mem_cons.mpr ⟨⟨by decide, Or.inl q2430⟩, List.forall_mem_cons.mpr ⟨⟨by decide, Or.inl q2431⟩, List.forall_mem_cons.mpr ⟨⟨by decide, Or.inl q2432⟩, List.forall_mem_cons.mpr ⟨⟨by decide, Or.inl q2433⟩, List.forall_mem_cons.mpr ⟨⟨by decide, Or.inl q2434⟩, List.forall_mem_cons.mpr ⟨⟨by decide, Or.inl q2435⟩, List.forall_mem_cons.mpr ⟨⟨by decide, Or.inl q2436⟩, List.forall_mem_cons.mpr ⟨⟨by decide, Or.inl q2437⟩, List.forall_mem_cons.mpr ⟨⟨by decide, Or.inl q2438⟩, List.forall_mem_cons.mpr ⟨⟨by decide, Or.inl q2439⟩, List.forall_mem_cons.mpr ⟨⟨by decide, Or.inl q2420⟩, List.forall_mem_cons.mpr ⟨⟨by decide, Or.inl q2421⟩, List.forall_mem_cons.mpr ⟨⟨by decide, Or.inl q2447⟩, List.forall_mem_cons.mpr ⟨⟨by decide, Or.inl q2420⟩, List.forall_mem_cons.mpr ⟨⟨by decide, Or.inl q2421⟩, fun _ h_ => absurd h_ List.not_mem_nil⟩⟩⟩⟩⟩⟩⟩⟩⟩⟩⟩⟩⟩⟩⟩⟩⟩⟩⟩⟩
theorem zck1 {t : Nat} {E : String} (h1 : t < 33 ∨ t = 100 ∨ t = 104 ∨ t = 240 ∨ (200 ≤ t ∧ t < 233)) (h2 : zcn (t % 200) = E) : zCk [t] E := fun x hx => by
  have : x = t := by simpa using hx
  subst this
  exact ⟨h1, Or.inr h2⟩
/-- an array's new cell, as the kit has it -/
theorem zarrV {H : Heap} {a : Nat} {o : zOb} (hH : zH G h H) (ha : h.2.2.2.2 a = some o) (ht : 100 ≤ o.1 ∧ o.1 < 108) : zB G ≤ a ∧ H[a]? = some (arrV (G.2.2.2.2 (o.1 - 100)) o.2.1 (fun j => zv (o.2.2 j))) := by
  have hz := hH.2.2.2.2.2.2 a o ha
  unfold zAt at hz
  rw [if_pos (by omega)] at hz
  obtain ⟨hB, sl, h3, h4, h5, h6⟩ := hz
  refine ⟨hB, ?_⟩
  rw [h3, zclsA ht.1]
  unfold arrV
  congr 2
  apply Array.ext_getElem?
  intro i
  by_cases hi : i < o.2.1
  · have h9 := h6 i hi
    unfold zSl at h9
    rw [if_neg (by omega)] at h9
    rw [h9]
    simp [hi]
  · rw [Array.getElem?_eq_none_iff.mpr (by omega), Array.getElem?_eq_none_iff.mpr (by simp; omega)]
theorem s_aastore (C : zC G X y cc nL d ret h0) {r x : Option Nat} {i : Int32} (hd : decode cc pc = .ok (.aastore, 1)) {F : zHp → Option α} (kk : ∀ h1, zasO r i x h = some h1 → zS G X nL (pc + 1) L st h1 (F h1) lf) : zS G X nL pc L (zR x :: zI i :: zR r :: st) h ((zasO r i x h).bind F) lf := by
  intro res hr ls H locs cells slots hl hH hL
  cases hz : zasO r i x h with
  | none => rw [hz] at hr; cases hr
  | some h1 =>
    rw [hz] at hr
    have hz0 := hz
    unfold zasO at hz
    split at hz
    · rename_i hok
      obtain ⟨a, o, rfl, ha, hts, hin, e1⟩ := zas_some hz
      simp only [List.mem_cons, List.not_mem_nil, or_false] at hts
      have ht : 100 ≤ o.1 ∧ o.1 < 108 := by omega
      obtain ⟨cell, c1, c2, c3, c4, c5, c6⟩ := zarr C hH ha (by omega)
      have hlt : i.toNatClampNeg < o.2.1 := Nat.not_le.mp fun q => hin (Or.inr q)
      have hK : ∃ K, zty (o.1 % 100) = .object K ∧ zty (o.1 - 100) = .object K := by
        rcases hts with q | q | q | q <;> rw [q] <;> exact ⟨_, rfl, rfl⟩
      obtain ⟨K, hK1, hK2⟩ := hK
      rw [hK1] at c4
      cases x with
      | none =>
        refine va_WaastN C.1 C.2.1 c1 c4 c2 (by rw [c5]; exact hin) rfl rfl hd fun H1 e z oq => ?_
        obtain ⟨hB, hset⟩ := zast_set (v := zR none) hH ha ht hlt c1 e z oq
        rw [← e1] at hset
        exact kk h1 hz0 res hr ls H1 _ cells slots hl hset (zlocs hL hB)
      | some v =>
        obtain ⟨hB, hA⟩ := zarrV hH ha ht
        have hra := (C.arr (k := o.1 - 100) (by omega)).2
        rw [hK2] at hra
        obtain ⟨kA, comp, k1, k2, k3, -⟩ := hra
        obtain ⟨kE, hkE, -⟩ := Vm.findClass_spec k3
        have hcst : ∃ cellV : Cell, H[v]? = some cellV ∧ (∀ q, cellV.vm ≠ .statics q) ∧ (∃ kC, X.2.2.2.1.vm.classes[cellV.cls]? = some kC) ∧ X.2.2.2.1.vm.assignable cellV.cls comp = true := by
          have htag : ztag (some a) h = some o.1 := by simp [ztag, zob, ha]
          unfold zokA at hok
          dsimp only at hok
          rw [htag] at hok
          dsimp only at hok
          rcases hts with q | q | q | q
          · rw [q] at hok hK2
            cases hK2
            obtain ⟨cv, w1, w2, w3, w4, -⟩ := zcast C zckobs hH (by simpa using hok)
            exact ⟨cv, w1, w2, w3, w4 comp k3⟩
          · rw [q] at hok hK2
            cases hK2
            obtain ⟨cv, w1, w2, w3, w4, -⟩ := zcast C (zck1 (t := 240) (by decide) rfl) hH (by simpa using hok)
            exact ⟨cv, w1, w2, w3, w4 comp k3⟩
          · rw [q] at hok hK2
            cases hK2
            obtain ⟨cv, w1, w2, w3, w4, -⟩ := zcast C (zck1 (t := 2) (by decide) rfl) hH (by simpa using hok)
            exact ⟨cv, w1, w2, w3, w4 comp k3⟩
          · rw [q] at hok hK2
            cases hK2
            obtain ⟨cv, w1, w2, w3, w4, -⟩ := zcast C (zck1 (t := 28) (by decide) rfl) hH (by simpa using hok)
            exact ⟨cv, w1, w2, w3, w4 comp k3⟩
        obtain ⟨cellV, v1, v2, ⟨kC, hkC⟩, v4⟩ := hcst
        refine W.aast C.1 C.2.1 hA (fun q z => by cases z) (fun z => by cases z) k1 k2 rfl hkE ⟨fun q => hin (Or.inl q), by rw [arrV_size]; exact hlt⟩ v1 v2 hkC v4 rfl rfl hd fun H1 e z oq => ?_
        obtain ⟨-, hset⟩ := zast_set (v := zR (some v)) hH ha ht hlt hA e z oq
        rw [← e1] at hset
        exact kk h1 hz0 res hr ls H1 _ cells slots hl hset (zlocs hL hB)
    · cases hz
theorem znn (z : Int32) (hz : ¬ z < 0) : z.toInt = (z.toNatClampNeg : Int) := by
  have hz0 : (0 : Int) ≤ z.toInt := by
    have := Int32.not_lt.mp hz
    simpa using Int32.le_iff_toInt_le.mp this
  show z.toInt = ((z.toInt.toNat : Nat) : Int)
  omega
theorem zcopy_some {src dst : Option Nat} {sp dp n : Int32} {h1 : zHp} (hz : zcopy src sp dst dp n h = some h1) : ∃ a0 a o o', src = some a0 ∧ dst = some a ∧ h.2.2.2.2 a0 = some o ∧ h.2.2.2.2 a = some o' ∧ ((o.1 = 100 ∨ o.1 = 104) ∧ o'.1 = o.1 ∧ ¬ sp < 0 ∧ ¬ dp < 0 ∧ ¬ n < 0 ∧ sp.toNatClampNeg + n.toNatClampNeg ≤ o.2.1 ∧ dp.toNatClampNeg + n.toNatClampNeg ≤ o'.2.1 ∧ (List.range n.toNatClampNeg).all (fun i => zelok o.1 (o.2.2 (sp.toNatClampNeg + i)) h) = true) ∧ h1 = zput a (o'.1, o'.2.1, va_cpy o.2.2 o'.2.2 sp.toNatClampNeg dp.toNatClampNeg n.toNatClampNeg) h := by
  unfold zcopy at hz
  cases dst with
  | none => cases hz
  | some a =>
    cases ho : zob src h with
    | none => simp [ho] at hz
    | some o =>
      obtain ⟨a0, rfl, ha0⟩ := zob_some ho
      cases ha : h.2.2.2.2 a with
      | none => simp [ho, ha] at hz
      | some o' =>
        simp only [Option.bind_some, ho, ha] at hz
        split at hz
        · rename_i hc
          cases hz
          exact ⟨a0, a, o, o', rfl, rfl, ha0, ha, hc, rfl⟩
        · cases hz
theorem s_copy (C : zC G X y cc nL d ret h0) {idx : Nat} {src dst : Option Nat} {sp dp n : Int32} (hd1 : 1 ≤ d) (hl : Cond.methodLink y.cls idx arraycopyName ∈ lw_all) (hnat : Cond.native arraycopyName ∈ lw_all) (hst : Cond.static arraycopyName ∈ lw_all) (hini : Cond.initialized "java/lang/System" ∈ lw_all) (hd : decode cc pc = .ok (.invokestatic idx, 3)) (hs : zcats st ≤ 8) {F : zHp → Option α} (kk : ∀ h1, zcopy src sp dst dp n h = some h1 → zS G X nL (pc + 3) L st h1 (F h1) lf) : zS G X nL pc L (zI n :: zI dp :: zR dst :: zI sp :: zR src :: st) h ((zcopy src sp dst dp n h).bind F) lf := by
  intro res hr ls H locs cells slots hl2 hH hL
  cases hz : zcopy src sp dst dp n h with
  | none => rw [hz] at hr; cases hr
  | some h1 =>
    rw [hz] at hr
    obtain ⟨a0, a, o, o', rfl, rfl, ha0, ha, ⟨t1, t2, h1', h2', h3', h4', h5', hel⟩, e1⟩ := zcopy_some hz
    have htt : 100 ≤ o.1 ∧ o.1 < 108 := by omega
    obtain ⟨hB0, hc0⟩ := zarrV hH ha0 htt
    obtain ⟨hB, hc1⟩ := zarrV hH ha (by omega)
    rw [t2] at hc1
    obtain ⟨q1, k0, hk0, cm0, hkk0⟩ := (C.arr (k := o.1 - 100) (by omega)).1 0 (fun _ => .null)
    have hk0 : X.2.2.2.1.vm.classes[G.2.2.2.2 (o.1 - 100)]? = some k0 := hk0
    have hR := C.2.2.2.2.2.2.2.2.1
    intro T hT S
    obtain ⟨vm', S', step⟩ := S.arraycopy C.1 C.2.2.2.1 (C.2.2.2.2.1 _ hl) (C.2.2.2.2.1 _ hnat) (C.2.2.2.2.1 _ hst) (C.2.2.2.2.1 _ hini) (src := a0) (dst := a) (srcPos := sp) (destPos := dp) (n := n) (by rw [hT]; exact hc0) (by rw [hT]; exact hc1)
      (fun _ z => by cases z) (fun _ z => by cases z) (fun z => by cases z) (fun z => by cases z) hk0 hk0 hkk0 hkk0 (by
        rcases t1 with q | q <;> rw [q] <;> rfl) h1' h2' h3'
      (by rw [znn sp h1', znn n h3', arrV_size]; omega)
      (by rw [znn dp h2', znn n h3', arrV_size]; omega)
      (fun vm₁ hal i hi => by
        have e : (arrV (G.2.2.2.2 (o.1 - 100)) o.2.1 (fun j => zv (o.2.2 j))).slots.getD (sp.toNatClampNeg + i) .null = zv (o.2.2 (sp.toNatClampNeg + i)) := by
          rw [Array.getD_eq_getD_getElem?, arrV_read _ _ (by omega)]
          rfl
        rw [e]
        have hei := List.all_eq_true.mp hel i (List.mem_range.mpr hi)
        unfold zelok at hei
        rcases t1 with q | q
        · rw [if_pos q] at hei
          rw [q]
          obtain ⟨x, hx⟩ := Option.isSome_iff_exists.mp hei
          rw [zasI_v hx]
          exact ⟨rfl, trivial⟩
        · rw [if_neg (by omega)] at hei
          cases hv : zasR (o.2.2 (sp.toNatClampNeg + i)) with
          | none => rw [hv] at hei; cases hei
          | some x =>
            rw [hv] at hei
            rw [zasR_v hv]
            have hra := (C.arr (k := o.1 - 100) (by omega)).2
            rw [q] at hra hkk0 hk0 ⊢
            cases x with
            | none => exact ⟨rfl, trivial⟩
            | some v =>
              obtain ⟨cellV, v1, v2, ⟨kC, hkC⟩, v4, -⟩ := zcast C zckobs hH hei
              obtain ⟨kA, comp, r1, r2, r3, -⟩ := hra
              cases hk0.symm.trans r1
              cases hkk0.symm.trans r2
              obtain ⟨kE, hkE, -⟩ := Vm.findClass_spec r3
              obtain ⟨kC', hkC', -⟩ := hal.2.2 _ _ hkC
              obtain ⟨kE', hkE', -⟩ := hal.2.2 _ _ hkE
              refine ⟨rfl, cellV, (show T.heap[v]? = some cellV by rw [hT]; exact v1), v2, ⟨kC', hkC'⟩, ?_, ?_⟩
              · exact ⟨kE', hkE'⟩
              · show vm₁.assignable _ _ = true
                rw [hal.assignable]
                exact v4 _ r3)
      (g := F0 X.2.2.2.2.1 pc ls ((zI n :: zI dp :: zR (some a) :: zI sp :: zR (some a0) :: st).map zv)) rfl (hl2.1.trans C.2.2.1.symm) (rest := st.map zv) rfl (by rw [C.2.1]; exact hd) (by rw [hR]; exact hd1) (by
        rw [hR, zcats_eq]
        show 2 * 0 + _ + (7 + 11) ≤ 60 * d
        omega)
    have e2 : copied (arrV (G.2.2.2.2 (o.1 - 100)) o.2.1 (fun j => zv (o.2.2 j))) (arrV (G.2.2.2.2 (o.1 - 100)) o'.2.1 (fun j => zv (o'.2.2 j))) sp dp n = arrV (G.2.2.2.2 (o.1 - 100)) o'.2.1 (fun j => zv (va_cpy o.2.2 o'.2.2 sp.toNatClampNeg dp.toNatClampNeg n.toNatClampNeg j)) := va_copied zv _ _ o.2.2 o'.2.2 h4'
    rw [e2] at S' step
    have hlt : a < H.size := (Array.getElem?_eq_some_iff.mp hc1).1
    have hset : zH G h1 (H.setIfInBounds a (arrV (G.2.2.2.2 (o.1 - 100)) o'.2.1 (fun j => zv (va_cpy o.2.2 o'.2.2 sp.toNatClampNeg dp.toNatClampNeg n.toNatClampNeg j)))) := by
      rw [e1]
      refine hH.set ha (by omega) rfl (by simp) (fun q hq => Array.getElem?_setIfInBounds_ne (fun z => hq z.symm)) (fun c hc => ?_) ?_
      · rw [hc1] at hc
        cases hc
        exact ⟨_, Array.getElem?_setIfInBounds_self_of_lt hlt, by rw [arrV_size, arrV_size]⟩
      · refine ⟨_, by
          rw [Array.getElem?_setIfInBounds_self_of_lt hlt]
          show _ = some ({ cls := zCls G o'.1, slots := _, vm := .none } : Cell)
          rw [zclsA (by omega), t2]
          rfl, by simp, by rw [if_neg (show ¬ o'.1 < 100 by omega)]; show o'.1 < 108; omega, fun k hk => ?_⟩
        have hk : k < o'.2.1 := hk
        unfold zSl
        rw [if_neg (show ¬ o'.1 < 100 by omega)]
        simp [hk]
    obtain ⟨t, a1, b1⟩ := kk h1 hz res hr ls _ _ cells slots hl2 hset (fun q hq => by
      rcases List.mem_append.mp hq with z | z
      · exact hL q z
      · obtain ⟨w, -, hw⟩ := List.mem_map.mp z
        rw [← hw]
        exact hB) _ (by rw [← hT]; rfl) S'
    exact ⟨t, step t a1, b1⟩
theorem s_getClass (C : zC G X y cc nL d ret h0) {idx : Nat} {r : Option Nat} (hd1 : 1 ≤ d) (hl : Cond.methodLink y.cls idx ⟨"java/lang/Object", "getClass", "()Ljava/lang/Class;"⟩ ∈ lw_all) (hsel : Cond.selects "[Ljava/lang/Object;" ⟨"java/lang/Object", "getClass", "()Ljava/lang/Class;"⟩ ⟨"java/lang/Object", "getClass", "()Ljava/lang/Class;"⟩ ∈ lw_all) (hinst : Cond.instanceMethod ⟨"java/lang/Object", "getClass", "()Ljava/lang/Class;"⟩ ∈ lw_all) (hnat : Cond.native ⟨"java/lang/Object", "getClass", "()Ljava/lang/Class;"⟩ ∈ lw_all) (hd : decode cc pc = .ok (.invokevirtual idx, 3)) (hs : zcats st ≤ 8) {F : Option Nat → Option α} (kk : ∀ x, zgR 50 h = some x → zS G X nL (pc + 3) L (zR x :: st) h (F x) lf) : zS G X nL pc L (zR r :: st) h ((zrc [104] r h).bind fun _ => (zgR 50 h).bind F) lf := by
  refine s_rc fun a e_ hz => ?_
  subst e_
  cases hx : zgR 50 h with
  | none => exact zS.none_
  | some x =>
    intro res hr ls H locs cells slots hl2 hH hL
    obtain ⟨mi, e1, hv⟩ := hH.2.2.2.2.2.1.2.2
    have hxa : zR (some mi) = zR x := by rw [← e1]; exact zasR_v hx
    cases hxa
    obtain ⟨o, ha, ho⟩ := zmem1 hz
    obtain ⟨cell, c1, c2, c3⟩ := zcell C hH ha (by omega)
    have hR := C.2.2.2.2.2.2.2.2.1
    rw [ho] at c3
    have hdc := va_Dc.use (A := X.2.2.2.2.2.1) (va_Dc.moved C.2.2.2.2.2.2.2.1.2.alike (va_Dc.of (C.2.2.2.2.2.2.2.1.1.1 _ q2444)))
    exact va_getC C.1 C.2.1 (C.2.2.1.trans hl2.1.symm) C.2.2.2.1 (C.2.2.2.2.1 _ hl) hdc (C.2.2.2.2.1 _ hsel) (C.2.2.2.2.1 _ hinst) (C.2.2.2.2.1 _ hnat) (va_Mi.moved C.2.2.2.2.2.2.2.1.2.alike hv) ⟨cell, c1, by cases hv : cell.vm <;> first | rfl | exact absurd hv (c2 _), c3⟩ (by rw [hR]; exact hd1) (by
      rw [hR, zcats_eq]
      show _ + 14 ≤ 60 * d
      omega) hd (kk (some mi) hx res hr ls H locs cells slots hl2 hH hL)
theorem zfo_some {ts : List Nat} {k : Nat} {r : Option Nat} {v : zV} (hz : zfo ts k r h = some v) : ∃ a o, r = some a ∧ h.2.2.2.2 a = some o ∧ o.1 ∈ ts ∧ k < o.2.1 ∧ v = o.2.2 k := by
  unfold zfo at hz
  cases ho : zob r h with
  | none => rw [ho] at hz; cases hz
  | some o =>
    rw [ho] at hz
    obtain ⟨a, rfl, ha⟩ := zob_some ho
    dsimp only [Option.bind] at hz
    split at hz
    · rename_i hc
      cases hz
      exact ⟨a, o, rfl, ha, hc.1, hc.2, rfl⟩
    · cases hz
theorem s_geto (C : zC G X y cc nL d ret h0) {idx k : Nat} {ts : List Nat} {r : Option Nat} (hF : zFk y.cls idx ts k) (hd : decode cc pc = .ok (.getfield idx, 3)) {F : zV → Option α} (kk : ∀ v, zfo ts k r h = some v → zS G X nL (pc + 3) L (v :: st) h (F v) lf) : zS G X nL pc L (zR r :: st) h ((zfo ts k r h).bind F) lf := by
  cases hz : zfo ts k r h with
  | none => exact zS.none_
  | some v =>
    obtain ⟨a, o, rfl, ha, hts, hlt, e1⟩ := zfo_some hz
    have hfl : zfld ts k (some a) h = some v := by
      unfold zfld zob
      simp [ha, hts, e1]
    have := s_get (L := L) (st := st) (lf := lf) C (r := some a) hF hd (F := F) (fun o' ho' _ => by
      have : h.2.2.2.2 a = some o' := ho'
      rw [ha] at this
      cases this
      exact hlt) (fun w hw => by rw [hfl] at hw; cases hw; exact kk v hz)
    rw [hfl] at this
    exact this
theorem s_getIo (C : zC G X y cc nL d ret h0) {idx k : Nat} {ts : List Nat} {r : Option Nat} (hF : zFk y.cls idx ts k) (hd : decode cc pc = .ok (.getfield idx, 3)) {F : Int32 → Option α} (kk : ∀ x, zfIo ts k r h = some x → zS G X nL (pc + 3) L (zI x :: st) h (F x) lf) : zS G X nL pc L (zR r :: st) h ((zfIo ts k r h).bind F) lf := by
  unfold zfIo
  rw [zbb]
  refine s_geto C hF hd fun v hv => ?_
  cases hx2 : zasI v with
  | none => exact zS.none_
  | some x =>
    rw [zasI_v hx2]
    exact kk x (by unfold zfIo; rw [hv]; exact hx2)
theorem s_getJo (C : zC G X y cc nL d ret h0) {idx k : Nat} {ts : List Nat} {r : Option Nat} (hF : zFk y.cls idx ts k) (hd : decode cc pc = .ok (.getfield idx, 3)) {F : Int64 → Option α} (kk : ∀ x, zfJo ts k r h = some x → zS G X nL (pc + 3) L (zJ x :: st) h (F x) lf) : zS G X nL pc L (zR r :: st) h ((zfJo ts k r h).bind F) lf := by
  unfold zfJo
  rw [zbb]
  refine s_geto C hF hd fun v hv => ?_
  cases hx2 : zasJ v with
  | none => exact zS.none_
  | some x =>
    rw [zasJ_v hx2]
    exact kk x (by unfold zfJo; rw [hv]; exact hx2)
/-- a String's fields -/
theorem s_gets40 (C : zC G X y cc nL d ret h0) {idx k : Nat} {r : Option Nat} (hk2 : k < 2) (hF : zFs y.cls idx k) (hd : decode cc pc = .ok (.getfield idx, 3)) {F : zV → Option α} (kk : ∀ v, zfo [240] k r h = some v → zS G X nL (pc + 3) L (v :: st) h (F v) lf) : zS G X nL pc L (zR r :: st) h ((zfo [240] k r h).bind F) lf := by
  cases hz : zfo [240] k r h with
  | none => exact zS.none_
  | some v =>
    intro res hr ls H locs cells slots hl hH hL
    obtain ⟨a, o, rfl, ha, hts, hlt, e1⟩ := zfo_some hz
    have hts : o.1 = 240 := by simpa using hts
    have hzA := hH.2.2.2.2.2.2 a o ha
    unfold zAt at hzA
    rw [if_neg (by omega)] at hzA
    obtain ⟨hab, cell, h3, h4, h5, h6, h7⟩ := hzA
    obtain ⟨cf, kf, fi, fd, f1, f2, f3⟩ := C.2.2.2.2.2.2.2.1.1.2.2.2.2.1 k hk2
    obtain ⟨kf', g1, -⟩ := State.fieldFound?_setVm (s := G.2.1) C.2.2.2.2.2.2.2.1.2.alike f1
    have g1 : X.2.2.2.1.fieldFound? "java/lang/String" (if k = 0 then "value" else "coder") (if k = 0 then "[B" else "B") = some (cf, kf', fi, fd) := by simpa only [State.fieldFound?, State.vm_setVm] using g1
    have h9 := h7 k hlt
    unfold zSl at h9
    rw [if_pos (by omega), hts] at h9
    exact W.getf C.1 C.2.1 C.2.2.2.1 (C.2.2.2.2.1 _ hF.2) g1 f2 (by rw [hH.2.2.1 a hab]; exact h3) h4 (v := zv v) (by rw [f3, e1]; exact h9) rfl rfl hd (kk v hz res hr ls H locs cells slots hl hH hL)
theorem s_getRs (C : zC G X y cc nL d ret h0) {idx k : Nat} {r : Option Nat} (hk2 : k < 2) (hF : zFs y.cls idx k) (hd : decode cc pc = .ok (.getfield idx, 3)) {F : Option Nat → Option α} (kk : ∀ x, zfRo [240] k r h = some x → zS G X nL (pc + 3) L (zR x :: st) h (F x) lf) : zS G X nL pc L (zR r :: st) h ((zfRo [240] k r h).bind F) lf := by
  unfold zfRo
  rw [zbb]
  refine s_gets40 C hk2 hF hd fun v hv => ?_
  cases hx2 : zasR v with
  | none => exact zS.none_
  | some x =>
    rw [zasR_v hx2]
    exact kk x (by unfold zfRo; rw [hv]; exact hx2)
theorem s_getIs (C : zC G X y cc nL d ret h0) {idx k : Nat} {r : Option Nat} (hk2 : k < 2) (hF : zFs y.cls idx k) (hd : decode cc pc = .ok (.getfield idx, 3)) {F : Int32 → Option α} (kk : ∀ x, zfIo [240] k r h = some x → zS G X nL (pc + 3) L (zI x :: st) h (F x) lf) : zS G X nL pc L (zR r :: st) h ((zfIo [240] k r h).bind F) lf := by
  unfold zfIo
  rw [zbb]
  refine s_gets40 C hk2 hF hd fun v hv => ?_
  cases hx2 : zasI v with
  | none => exact zS.none_
  | some x =>
    rw [zasI_v hx2]
    exact kk x (by unfold zfIo; rw [hv]; exact hx2)
theorem zfitB {x : Int32} (hx : ¬ x < -128 ∧ ¬ 127 < x) : narrow .byte (.int x) = .int x := by
  have h1 : -128 ≤ x.toInt := by have := Int32.not_lt.mp hx.1; simpa [Int32.le_iff_toInt_le] using this
  have h2 : x.toInt ≤ 127 := by have := Int32.not_lt.mp hx.2; simpa [Int32.le_iff_toInt_le] using this
  show Value.int (x.toInt8.toInt32) = _
  rw [lg_i2b_small h1 (by omega)]
theorem s_breturn (C : zC G X y cc nL d (some .byte) h0) {x : Int32} (hd : decode cc pc = .ok (.ireturn, 1)) : zS G X nL pc L [zI x] h (if ¬ x < -128 ∧ ¬ 127 < x then some (x, h) else none) (li lvI) := by
  by_cases hx : ¬ x < -128 ∧ ¬ 127 < x
  · rw [if_pos hx]
    intro res hr ls H locs cells slots hl hH hL
    cases hr
    exact zW_mono (W.zret (Qc := zQc (some (.int x)) H) (free := fun q => zB G ≤ q) C.1 C.2.1 C.2.2.2.2.2.1 (zfitB hx) (fun t ht _ => ⟨rfl, ht⟩) hL hd C.2.2.2.2.2.2.1) (zQc_to (locs := locs) (v := some (zI x)) hH)
  · rw [if_neg hx]
    exact zS.none_
/-- calls of a String's methods -/
def zK40 (t : Nat) (own : String) (idx : Nat) (y' : MethodName) (np : Nat) : Prop := (t = 240 ∨ (200 ≤ t ∧ t < 233)) ∧ Cond.methodLink own idx y' ∈ lw_all ∧ Cond.instanceMethod y' ∈ lw_all ∧ zNp y' np ∧ Cond.selects (zcn (t % 200)) y' y' ∈ lw_all
theorem zlk40 (C : zC G X y cc nL d ret h0) {y' : MethodName} {cc' : ByteArray} {nL' : Nat} {ret' : Option FieldType} (kc : zKc y' cc' nL' ret') {t idx a np : Nat} (kb : zK40 t y.cls idx y' np) (hd : decode cc pc = .ok (.invokevirtual idx, 3)) (hz : ∃ o, h.2.2.2.2 a = some o ∧ o.1 = t) (av : List zV) (hnp : av.length = np) {stk : List zV} (hs : stk = av.reverse ++ zR (some a) :: st) : zLk G X pc h stk st y' (zR (some a) :: av) := by
  subst hs
  subst hnp
  intro ls H locs cells slots T hH hT S
  obtain ⟨ht, hl, hin, hp, hsel⟩ := kb
  obtain ⟨mk, meth, c, hn, hm, -, -, hsig⟩ := zMs.of (C.2.2.2.2.1 _ kc.2.1)
  obtain ⟨o, ha, ho⟩ := hz
  obtain ⟨cell, c1, c2, c3⟩ := zcell C hH ha (by omega)
  rw [ho] at c3
  obtain ⟨mk', methM, hnamed, hmethM, hstM, habM⟩ := Cond.instanceMethod_spec (C.2.2.2.2.1 _ hin)
  cases hn.symm.trans hnamed
  cases hm.symm.trans hmethM
  obtain ⟨c2', r2, m2, q1, q2, q3, q4, kP, hkP, hkPi⟩ := Cond.selects_spec (C.2.2.2.2.1 _ hsel)
  cases c3.symm.trans q1
  cases (State.methodFound?_of_named hnamed kc.1).symm.trans q2
  cases hnamed.symm.trans q3
  have hselP : selectMethod X.2.1.platform X.2.2.2.1.vm cell.cls mk = .method mk := by rw [Launch.admits_selectMethod S.admits]; exact q4
  obtain ⟨vm₁, S₁, hstep⟩ := S.invokevirtual C.1 C.2.2.2.1 (C.2.2.2.2.1 _ hl) hnamed hmethM hstM hkP hkPi kc.1 (a := a) (cell := cell) (by rw [hT]; exact c1) c2 hselP hmethM habM hkP hkPi (g := F0 X.2.2.2.2.1 pc ls ((av.reverse ++ zR (some a) :: st).map zv)) rfl (argsL := av.map zv) (rest := st.map zv) (by rw [List.length_map]; exact (zlen_of hp hsig).symm) (zmaprev av _) (by rw [C.2.1]; exact hd)
  exact ⟨vm₁, mk, S₁, hn, fun target ht => hstep _ fun acts => by rw [doInvoke_state]; exact ht⟩
end ZR3
