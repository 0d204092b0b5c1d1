/-! ===== rows: an instruction each ===== -/
def zrem (x y : Int32) : Int32 := x - x / y * y
def zremJ (x y : Int64) : Int64 := x - x / y * y
def zshl (x y : Int32) : Int32 := x <<< (y &&& 31)
def zshr (x y : Int32) : Int32 := x >>> (y &&& 31)
def zushr (x y : Int32) : Int32 := (x.toUInt32 >>> (y.toUInt32 &&& Int32.toUInt32 31)).toInt32
def zshlJ (x : Int64) (y : Int32) : Int64 := x <<< (y.toInt64 &&& 63)
def zshrJ (x : Int64) (y : Int32) : Int64 := x >>> (y.toInt64 &&& 63)
def zushrJ (x : Int64) (y : Int32) : Int64 := (x.toUInt64 >>> (y.toInt64.toUInt64 &&& Int64.toUInt64 63)).toInt64
def zi2c (x : Int32) : Int32 := (x.toUInt32 % 65536).toInt32
def zcat : zV → Nat
  | .inl _ => 1
  | .inr (.inl _) => 2
  | .inr (.inr _) => 1
theorem zcat_eq (v : zV) : (zv v).category = zcat v := by
  match v with
  | .inl x => rfl
  | .inr (.inl x) => rfl
  | .inr (.inr none) => rfl
  | .inr (.inr (some x)) => rfl
section ZR
variable {α : Type} {G : zG} {X : zX} {y : MethodName} {cc : ByteArray} {nL pc d : Nat} {ret : Option FieldType} {h0 : zHp} {L L' : List (Option zV)} {st : List zV} {h : zHp} {e eT eF : Option α} {lf : α → zRes}
theorem zS.ite {c : Prop} [Decidable c] (k1 : c → zS G X nL pc L st h eT lf) (k2 : ¬ c → zS G X nL pc L st h eF lf) : zS G X nL pc L st h (if c then eT else eF) lf := by
  by_cases hc : c
  · rw [if_pos hc]; exact k1 hc
  · rw [if_neg hc]; exact k2 hc
theorem s_iconst (C : zC G X y cc nL d ret h0) {n : Int} {v : Int32} (hd : decode cc pc = .ok (.iconst n, 1)) (hv : Int32.ofInt n = v) (k : zS G X nL (pc + 1) L (zI v :: st) h e lf) : zS G X nL pc L st h e lf := fun r hr ls H locs cells slots hl hH hL => lv_iconst C.1 C.2.1 hd hv (k r hr ls H locs cells slots hl hH hL)
theorem s_bipush (C : zC G X y cc nL d ret h0) {n : Int} {v : Int32} (hd : decode cc pc = .ok (.bipush n, 2)) (hv : (Int8.ofInt n).toInt32 = v) (k : zS G X nL (pc + 2) L (zI v :: st) h e lf) : zS G X nL pc L st h e lf := fun r hr ls H locs cells slots hl hH hL => lv_bipush C.1 C.2.1 hd hv (k r hr ls H locs cells slots hl hH hL)
theorem s_sipush (C : zC G X y cc nL d ret h0) {n : Int} {v : Int32} (hd : decode cc pc = .ok (.sipush n, 3)) (hv : (Int16.ofInt n).toInt32 = v) (k : zS G X nL (pc + 3) L (zI v :: st) h e lf) : zS G X nL pc L st h e lf := fun r hr ls H locs cells slots hl hH hL => lv_sipush C.1 C.2.1 hd hv (k r hr ls H locs cells slots hl hH hL)
theorem s_lconst (C : zC G X y cc nL d ret h0) {n : Fin 2} {v : Int64} (hd : decode cc pc = .ok (.lconst n, 1)) (hv : Int64.ofNat (n : Nat) = v) (k : zS G X nL (pc + 1) L (zJ v :: st) h e lf) : zS G X nL pc L st h e lf := fun r hr ls H locs cells slots hl hH hL => lv_lconst C.1 C.2.1 hd hv (k r hr ls H locs cells slots hl hH hL)
theorem s_iload_n (C : zC G X y cc nL d ret h0) {k : Fin 4} {x : Int32} (hd : decode cc pc = .ok (.iload_n k, 1)) (hx : L[(k : Nat)]? = some (some (zI x))) (kk : zS G X nL (pc + 1) L (zI x :: st) h e lf) : zS G X nL pc L st h e lf := fun r hr ls H locs cells slots hl hH hL => lv_iload_n C.1 C.2.1 hd rfl (hl.2.2 _ _ hx) (kk r hr ls H locs cells slots hl hH hL)
theorem s_iload (C : zC G X y cc nL d ret h0) {i : Nat} {x : Int32} (hd : decode cc pc = .ok (.iload i, 2)) (hx : L[i]? = some (some (zI x))) (kk : zS G X nL (pc + 2) L (zI x :: st) h e lf) : zS G X nL pc L st h e lf := fun r hr ls H locs cells slots hl hH hL => lv_iload C.1 C.2.1 hd (hl.2.2 _ _ hx) (kk r hr ls H locs cells slots hl hH hL)
theorem s_lload_n (C : zC G X y cc nL d ret h0) {k : Fin 4} {x : Int64} (hd : decode cc pc = .ok (.lload_n k, 1)) (hx : L[(k : Nat)]? = some (some (zJ x))) (kk : zS G X nL (pc + 1) L (zJ x :: st) h e lf) : zS G X nL pc L st h e lf := fun r hr ls H locs cells slots hl hH hL => lv_lload_n C.1 C.2.1 hd rfl (hl.2.2 _ _ hx) (kk r hr ls H locs cells slots hl hH hL)
theorem s_lload (C : zC G X y cc nL d ret h0) {i : Nat} {x : Int64} (hd : decode cc pc = .ok (.lload i, 2)) (hx : L[i]? = some (some (zJ x))) (kk : zS G X nL (pc + 2) L (zJ x :: st) h e lf) : zS G X nL pc L st h e lf := fun r hr ls H locs cells slots hl hH hL => lv_lload C.1 C.2.1 hd (hl.2.2 _ _ hx) (kk r hr ls H locs cells slots hl hH hL)
theorem s_aload_n (C : zC G X y cc nL d ret h0) {k : Fin 4} {x : Option Nat} (hd : decode cc pc = .ok (.aload_n k, 1)) (hx : L[(k : Nat)]? = some (some (zR x))) (kk : zS G X nL (pc + 1) L (zR x :: st) h e lf) : zS G X nL pc L st h e lf := by
  intro r hr ls H locs cells slots hl hH hL
  cases x with
  | none => exact lv_aload_nN C.1 C.2.1 hd rfl (hl.2.2 _ _ hx) (kk r hr ls H locs cells slots hl hH hL)
  | some x => exact lv_aload_n C.1 C.2.1 hd rfl (hl.2.2 _ _ hx) (kk r hr ls H locs cells slots hl hH hL)
theorem s_aload (C : zC G X y cc nL d ret h0) {i : Nat} {x : Option Nat} (hd : decode cc pc = .ok (.aload i, 2)) (hx : L[i]? = some (some (zR x))) (kk : zS G X nL (pc + 2) L (zR x :: st) h e lf) : zS G X nL pc L st h e lf := by
  intro r hr ls H locs cells slots hl hH hL
  cases x with
  | none => exact lv_aloadN C.1 C.2.1 hd (hl.2.2 _ _ hx) (kk r hr ls H locs cells slots hl hH hL)
  | some x => exact lv_aload C.1 C.2.1 hd (hl.2.2 _ _ hx) (kk r hr ls H locs cells slots hl hH hL)
theorem s_istore_n (C : zC G X y cc nL d ret h0) {k : Fin 4} {x : Int32} (hd : decode cc pc = .ok (.istore_n k, 1)) (hn : (k : Nat) < nL) (hs : zst1 k (zI x) L = L') (kk : zS G X nL (pc + 1) L' st h e lf) : zS G X nL pc L (zI x :: st) h e lf := by
  subst hs
  intro r hr ls H locs cells slots hl hH hL
  exact lv_istore_n C.1 C.2.1 hd rfl hl.has hn rfl (fun ls' h' => kk r hr ls' H locs cells slots (zst1_of h') hH hL)
theorem s_istore (C : zC G X y cc nL d ret h0) {i : Nat} {x : Int32} (hd : decode cc pc = .ok (.istore i, 2)) (hn : i < nL) (hs : zst1 i (zI x) L = L') (kk : zS G X nL (pc + 2) L' st h e lf) : zS G X nL pc L (zI x :: st) h e lf := by
  subst hs
  intro r hr ls H locs cells slots hl hH hL
  exact lv_istore C.1 C.2.1 hd hl.has hn rfl (fun ls' h' => kk r hr ls' H locs cells slots (zst1_of h') hH hL)
theorem s_lstore_n (C : zC G X y cc nL d ret h0) {k : Fin 4} {x : Int64} (hd : decode cc pc = .ok (.lstore_n k, 1)) (hn : (k : Nat) + 1 < nL) (hs : zst2 k (zJ x) L = L') (kk : zS G X nL (pc + 1) L' st h e lf) : zS G X nL pc L (zJ x :: st) h e lf := by
  subst hs
  intro r hr ls H locs cells slots hl hH hL
  exact lv_lstore_n C.1 C.2.1 hd rfl hl.has hn rfl (fun ls' h' => kk r hr ls' H locs cells slots (zst2_of h') hH hL)
theorem s_lstore (C : zC G X y cc nL d ret h0) {i : Nat} {x : Int64} (hd : decode cc pc = .ok (.lstore i, 2)) (hn : i + 1 < nL) (hs : zst2 i (zJ x) L = L') (kk : zS G X nL (pc + 2) L' st h e lf) : zS G X nL pc L (zJ x :: st) h e lf := by
  subst hs
  intro r hr ls H locs cells slots hl hH hL
  exact lv_lstore C.1 C.2.1 hd hl.has hn rfl (fun ls' h' => kk r hr ls' H locs cells slots (zst2_of h') hH hL)
theorem s_astore_n (C : zC G X y cc nL d ret h0) {k : Fin 4} {x : Option Nat} (hd : decode cc pc = .ok (.astore_n k, 1)) (hn : (k : Nat) < nL) (hs : zst1 k (zR x) L = L') (kk : zS G X nL (pc + 1) L' st h e lf) : zS G X nL pc L (zR x :: st) h e lf := by
  subst hs
  intro r hr ls H locs cells slots hl hH hL
  cases x with
  | none => exact lv_astore_nN C.1 C.2.1 hd rfl hl.has hn rfl (fun ls' h' => kk r hr ls' H locs cells slots (zst1_of h') hH hL)
  | some x => exact lv_astore_n C.1 C.2.1 hd rfl hl.has hn rfl (fun ls' h' => kk r hr ls' H locs cells slots (zst1_of h') hH hL)
theorem s_astore (C : zC G X y cc nL d ret h0) {i : Nat} {x : Option Nat} (hd : decode cc pc = .ok (.astore i, 2)) (hn : i < nL) (hs : zst1 i (zR x) L = L') (kk : zS G X nL (pc + 2) L' st h e lf) : zS G X nL pc L (zR x :: st) h e lf := by
  subst hs
  intro r hr ls H locs cells slots hl hH hL
  cases x with
  | none => exact lv_astoreN C.1 C.2.1 hd hl.has hn rfl (fun ls' h' => kk r hr ls' H locs cells slots (zst1_of h') hH hL)
  | some x => exact lv_astore C.1 C.2.1 hd hl.has hn rfl (fun ls' h' => kk r hr ls' H locs cells slots (zst1_of h') hH hL)
theorem s_iinc (C : zC G X y cc nL d ret h0) {i : Nat} {n : Int} {x v : Int32} (hd : decode cc pc = .ok (.iinc i n, 3)) (hx : L[i]? = some (some (zI x))) (hv : Int32.ofInt n = v) (hn : i < nL) (hs : zst1 i (zI (x + v)) L = L') (kk : zS G X nL (pc + 3) L' st h e lf) : zS G X nL pc L st h e lf := by
  subst hs
  subst hv
  intro r hr ls H locs cells slots hl hH hL
  obtain ⟨k, hk⟩ := List.getElem?_of_mem (zpr_mem.mpr ⟨zI x, hx, rfl⟩ : (i, Value.int x) ∈ zpr L)
  exact lv_iinc C.1 C.2.1 hd hl.has hk rfl hn rfl (fun ls' h' => kk r hr ls' H locs cells slots (zst1_of h') hH hL)
theorem s_iadd (C : zC G X y cc nL d ret h0) {x w : Int32} (hd : decode cc pc = .ok (.iadd, 1)) (k : zS G X nL (pc + 1) L (zI (x + w) :: st) h e lf) : zS G X nL pc L (zI w :: zI x :: st) h e lf := fun r hr ls H locs cells slots hl hH hL => lv_iadd C.1 C.2.1 hd (k r hr ls H locs cells slots hl hH hL)
theorem s_isub (C : zC G X y cc nL d ret h0) {x w : Int32} (hd : decode cc pc = .ok (.isub, 1)) (k : zS G X nL (pc + 1) L (zI (x - w) :: st) h e lf) : zS G X nL pc L (zI w :: zI x :: st) h e lf := fun r hr ls H locs cells slots hl hH hL => lv_isub C.1 C.2.1 hd (k r hr ls H locs cells slots hl hH hL)
theorem s_imul (C : zC G X y cc nL d ret h0) {x w : Int32} (hd : decode cc pc = .ok (.imul, 1)) (k : zS G X nL (pc + 1) L (zI (x * w) :: st) h e lf) : zS G X nL pc L (zI w :: zI x :: st) h e lf := fun r hr ls H locs cells slots hl hH hL => lv_imul C.1 C.2.1 hd (k r hr ls H locs cells slots hl hH hL)
theorem s_iand (C : zC G X y cc nL d ret h0) {x w : Int32} (hd : decode cc pc = .ok (.iand, 1)) (k : zS G X nL (pc + 1) L (zI (x &&& w) :: st) h e lf) : zS G X nL pc L (zI w :: zI x :: st) h e lf := fun r hr ls H locs cells slots hl hH hL => lv_iand C.1 C.2.1 hd (k r hr ls H locs cells slots hl hH hL)
theorem s_ior (C : zC G X y cc nL d ret h0) {x w : Int32} (hd : decode cc pc = .ok (.ior, 1)) (k : zS G X nL (pc + 1) L (zI (x ||| w) :: st) h e lf) : zS G X nL pc L (zI w :: zI x :: st) h e lf := fun r hr ls H locs cells slots hl hH hL => lv_ior C.1 C.2.1 hd (k r hr ls H locs cells slots hl hH hL)
theorem s_ixor (C : zC G X y cc nL d ret h0) {x w : Int32} (hd : decode cc pc = .ok (.ixor, 1)) (k : zS G X nL (pc + 1) L (zI (x ^^^ w) :: st) h e lf) : zS G X nL pc L (zI w :: zI x :: st) h e lf := fun r hr ls H locs cells slots hl hH hL => lv_ixor C.1 C.2.1 hd (k r hr ls H locs cells slots hl hH hL)
theorem s_ishl (C : zC G X y cc nL d ret h0) {x w : Int32} (hd : decode cc pc = .ok (.ishl, 1)) (k : zS G X nL (pc + 1) L (zI (zshl x w) :: st) h e lf) : zS G X nL pc L (zI w :: zI x :: st) h e lf := fun r hr ls H locs cells slots hl hH hL => lv_ishl C.1 C.2.1 hd (k r hr ls H locs cells slots hl hH hL)
theorem s_ishr (C : zC G X y cc nL d ret h0) {x w : Int32} (hd : decode cc pc = .ok (.ishr, 1)) (k : zS G X nL (pc + 1) L (zI (zshr x w) :: st) h e lf) : zS G X nL pc L (zI w :: zI x :: st) h e lf := fun r hr ls H locs cells slots hl hH hL => lv_ishr C.1 C.2.1 hd (k r hr ls H locs cells slots hl hH hL)
theorem s_ladd (C : zC G X y cc nL d ret h0) {x w : Int64} (hd : decode cc pc = .ok (.ladd, 1)) (k : zS G X nL (pc + 1) L (zJ (x + w) :: st) h e lf) : zS G X nL pc L (zJ w :: zJ x :: st) h e lf := fun r hr ls H locs cells slots hl hH hL => lv_ladd C.1 C.2.1 hd (k r hr ls H locs cells slots hl hH hL)
theorem s_lsub (C : zC G X y cc nL d ret h0) {x w : Int64} (hd : decode cc pc = .ok (.lsub, 1)) (k : zS G X nL (pc + 1) L (zJ (x - w) :: st) h e lf) : zS G X nL pc L (zJ w :: zJ x :: st) h e lf := fun r hr ls H locs cells slots hl hH hL => lv_lsub C.1 C.2.1 hd (k r hr ls H locs cells slots hl hH hL)
theorem s_lmul (C : zC G X y cc nL d ret h0) {x w : Int64} (hd : decode cc pc = .ok (.lmul, 1)) (k : zS G X nL (pc + 1) L (zJ (x * w) :: st) h e lf) : zS G X nL pc L (zJ w :: zJ x :: st) h e lf := fun r hr ls H locs cells slots hl hH hL => lv_lmul C.1 C.2.1 hd (k r hr ls H locs cells slots hl hH hL)
theorem s_land (C : zC G X y cc nL d ret h0) {x w : Int64} (hd : decode cc pc = .ok (.land, 1)) (k : zS G X nL (pc + 1) L (zJ (x &&& w) :: st) h e lf) : zS G X nL pc L (zJ w :: zJ x :: st) h e lf := fun r hr ls H locs cells slots hl hH hL => lv_land C.1 C.2.1 hd (k r hr ls H locs cells slots hl hH hL)
theorem s_lor (C : zC G X y cc nL d ret h0) {x w : Int64} (hd : decode cc pc = .ok (.lor, 1)) (k : zS G X nL (pc + 1) L (zJ (x ||| w) :: st) h e lf) : zS G X nL pc L (zJ w :: zJ x :: st) h e lf := fun r hr ls H locs cells slots hl hH hL => lv_lor C.1 C.2.1 hd (k r hr ls H locs cells slots hl hH hL)
theorem s_idiv (C : zC G X y cc nL d ret h0) {x w : Int32} (hd : decode cc pc = .ok (.idiv, 1)) (k : ¬ w = 0 → zS G X nL (pc + 1) L (zI (x / w) :: st) h e lf) : zS G X nL pc L (zI w :: zI x :: st) h (if w = 0 then none else e) lf := by
  by_cases hw : w = 0
  · rw [if_pos hw]; exact zS.none_
  · rw [if_neg hw]; exact fun r hr ls H locs cells slots hl hH hL => lv_idiv C.1 C.2.1 hd hw (k hw r hr ls H locs cells slots hl hH hL)
theorem s_irem (C : zC G X y cc nL d ret h0) {x w : Int32} (hd : decode cc pc = .ok (.irem, 1)) (k : ¬ w = 0 → zS G X nL (pc + 1) L (zI (zrem x w) :: st) h e lf) : zS G X nL pc L (zI w :: zI x :: st) h (if w = 0 then none else e) lf := by
  by_cases hw : w = 0
  · rw [if_pos hw]; exact zS.none_
  · rw [if_neg hw]; exact fun r hr ls H locs cells slots hl hH hL => lv_irem C.1 C.2.1 hd hw (k hw r hr ls H locs cells slots hl hH hL)
theorem s_ldiv (C : zC G X y cc nL d ret h0) {x w : Int64} (hd : decode cc pc = .ok (.ldiv, 1)) (k : ¬ w = 0 → zS G X nL (pc + 1) L (zJ (x / w) :: st) h e lf) : zS G X nL pc L (zJ w :: zJ x :: st) h (if w = 0 then none else e) lf := by
  by_cases hw : w = 0
  · rw [if_pos hw]; exact zS.none_
  · rw [if_neg hw]; exact fun r hr ls H locs cells slots hl hH hL => lv_ldiv C.1 C.2.1 hd hw (k hw r hr ls H locs cells slots hl hH hL)
theorem s_lrem (C : zC G X y cc nL d ret h0) {x w : Int64} (hd : decode cc pc = .ok (.lrem, 1)) (k : ¬ w = 0 → zS G X nL (pc + 1) L (zJ (zremJ x w) :: st) h e lf) : zS G X nL pc L (zJ w :: zJ x :: st) h (if w = 0 then none else e) lf := by
  by_cases hw : w = 0
  · rw [if_pos hw]; exact zS.none_
  · rw [if_neg hw]; exact fun r hr ls H locs cells slots hl hH hL => lv_lrem C.1 C.2.1 hd hw (k hw r hr ls H locs cells slots hl hH hL)
theorem s_ineg (C : zC G X y cc nL d ret h0) {x : Int32} (hd : decode cc pc = .ok (.ineg, 1)) (k : zS G X nL (pc + 1) L (zI (-x) :: st) h e lf) : zS G X nL pc L (zI x :: st) h e lf := fun r hr ls H locs cells slots hl hH hL => lv_ineg C.1 C.2.1 hd (k r hr ls H locs cells slots hl hH hL)
theorem s_lneg (C : zC G X y cc nL d ret h0) {x : Int64} (hd : decode cc pc = .ok (.lneg, 1)) (k : zS G X nL (pc + 1) L (zJ (-x) :: st) h e lf) : zS G X nL pc L (zJ x :: st) h e lf := fun r hr ls H locs cells slots hl hH hL => lv_lneg C.1 C.2.1 hd (k r hr ls H locs cells slots hl hH hL)
theorem s_i2l (C : zC G X y cc nL d ret h0) {x : Int32} (hd : decode cc pc = .ok (.i2l, 1)) (k : zS G X nL (pc + 1) L (zJ (x.toInt64) :: st) h e lf) : zS G X nL pc L (zI x :: st) h e lf := fun r hr ls H locs cells slots hl hH hL => lv_i2l C.1 C.2.1 hd rfl (k r hr ls H locs cells slots hl hH hL)
theorem s_l2i (C : zC G X y cc nL d ret h0) {x : Int64} (hd : decode cc pc = .ok (.l2i, 1)) (k : zS G X nL (pc + 1) L (zI (x.toInt32) :: st) h e lf) : zS G X nL pc L (zJ x :: st) h e lf := fun r hr ls H locs cells slots hl hH hL => lv_l2i C.1 C.2.1 hd rfl (k r hr ls H locs cells slots hl hH hL)
theorem s_i2b (C : zC G X y cc nL d ret h0) {x : Int32} (hd : decode cc pc = .ok (.i2b, 1)) (k : zS G X nL (pc + 1) L (zI (x.toInt8.toInt32) :: st) h e lf) : zS G X nL pc L (zI x :: st) h e lf := fun r hr ls H locs cells slots hl hH hL => lv_i2b C.1 C.2.1 hd rfl (k r hr ls H locs cells slots hl hH hL)
theorem s_i2c (C : zC G X y cc nL d ret h0) {x : Int32} (hd : decode cc pc = .ok (.i2c, 1)) (k : zS G X nL (pc + 1) L (zI (zi2c x) :: st) h e lf) : zS G X nL pc L (zI x :: st) h e lf := fun r hr ls H locs cells slots hl hH hL => lv_i2c C.1 C.2.1 hd rfl (k r hr ls H locs cells slots hl hH hL)
theorem s_iushr (C : zC G X y cc nL d ret h0) {x w : Int32} (hd : decode cc pc = .ok (.iushr, 1)) (k : zS G X nL (pc + 1) L (zI (zushr x w) :: st) h e lf) : zS G X nL pc L (zI w :: zI x :: st) h e lf := fun r hr ls H locs cells slots hl hH hL => lv_iushr C.1 C.2.1 hd rfl (k r hr ls H locs cells slots hl hH hL)
theorem s_lshl (C : zC G X y cc nL d ret h0) {x : Int64} {w : Int32} (hd : decode cc pc = .ok (.lshl, 1)) (k : zS G X nL (pc + 1) L (zJ (zshlJ x w) :: st) h e lf) : zS G X nL pc L (zI w :: zJ x :: st) h e lf := fun r hr ls H locs cells slots hl hH hL => lv_lshl C.1 C.2.1 hd rfl (k r hr ls H locs cells slots hl hH hL)
theorem s_lshr (C : zC G X y cc nL d ret h0) {x : Int64} {w : Int32} (hd : decode cc pc = .ok (.lshr, 1)) (k : zS G X nL (pc + 1) L (zJ (zshrJ x w) :: st) h e lf) : zS G X nL pc L (zI w :: zJ x :: st) h e lf := fun r hr ls H locs cells slots hl hH hL => lv_lshr C.1 C.2.1 hd rfl (k r hr ls H locs cells slots hl hH hL)
theorem s_lushr (C : zC G X y cc nL d ret h0) {x : Int64} {w : Int32} (hd : decode cc pc = .ok (.lushr, 1)) (k : zS G X nL (pc + 1) L (zJ (zushrJ x w) :: st) h e lf) : zS G X nL pc L (zI w :: zJ x :: st) h e lf := fun r hr ls H locs cells slots hl hH hL => lv_lushr C.1 C.2.1 hd rfl (k r hr ls H locs cells slots hl hH hL)
theorem s_lcmp (C : zC G X y cc nL d ret h0) {x w : Int64} (hd : decode cc pc = .ok (.lcmp, 1)) (k : zS G X nL (pc + 1) L (zI (lg_cmp x w) :: st) h e lf) : zS G X nL pc L (zJ w :: zJ x :: st) h e lf := fun r hr ls H locs cells slots hl hH hL => W.lcmp C.1 C.2.1 hd (k r hr ls H locs cells slots hl hH hL)
theorem s_dup (C : zC G X y cc nL d ret h0) {a : zV} (hd : decode cc pc = .ok (.dup, 1)) (ca : zcat a = 1) (k : zS G X nL (pc + 1) L (a :: a :: st) h e lf) : zS G X nL pc L (a :: st) h e lf := fun r hr ls H locs cells slots hl hH hL => lv_dup C.1 C.2.1 hd ((zcat_eq _).trans ca) (k r hr ls H locs cells slots hl hH hL)
theorem s_pop (C : zC G X y cc nL d ret h0) {a : zV} (hd : decode cc pc = .ok (.pop, 1)) (ca : zcat a = 1) (k : zS G X nL (pc + 1) L (st) h e lf) : zS G X nL pc L (a :: st) h e lf := fun r hr ls H locs cells slots hl hH hL => lv_pop C.1 C.2.1 hd ((zcat_eq _).trans ca) (k r hr ls H locs cells slots hl hH hL)
theorem s_dup_x1 (C : zC G X y cc nL d ret h0) {a b : zV} (hd : decode cc pc = .ok (.dup_x1, 1)) (ca : zcat a = 1) (cb : zcat b = 1) (k : zS G X nL (pc + 1) L (a :: b :: a :: st) h e lf) : zS G X nL pc L (a :: b :: st) h e lf := fun r hr ls H locs cells slots hl hH hL => lv_dup_x1 C.1 C.2.1 hd ((zcat_eq _).trans ca) ((zcat_eq _).trans cb) (k r hr ls H locs cells slots hl hH hL)
theorem s_dup_x2 (C : zC G X y cc nL d ret h0) {a b f : zV} (hd : decode cc pc = .ok (.dup_x2, 1)) (ca : zcat a = 1) (cb : zcat b = 1) (cf : zcat f = 1) (k : zS G X nL (pc + 1) L (a :: b :: f :: a :: st) h e lf) : zS G X nL pc L (a :: b :: f :: st) h e lf := fun r hr ls H locs cells slots hl hH hL => lv_dup_x2 C.1 C.2.1 hd ((zcat_eq _).trans ca) ((zcat_eq _).trans cb) ((zcat_eq _).trans cf) (k r hr ls H locs cells slots hl hH hL)
theorem s_dup2 (C : zC G X y cc nL d ret h0) {a b : zV} (hd : decode cc pc = .ok (.dup2, 1)) (ca : zcat a = 1) (cb : zcat b = 1) (k : zS G X nL (pc + 1) L (a :: b :: a :: b :: st) h e lf) : zS G X nL pc L (a :: b :: st) h e lf := fun r hr ls H locs cells slots hl hH hL => lv_dup2_11 C.1 C.2.1 hd ((zcat_eq _).trans ca) ((zcat_eq _).trans cb) (k r hr ls H locs cells slots hl hH hL)
theorem s_dup2J (C : zC G X y cc nL d ret h0) {a : zV} (hd : decode cc pc = .ok (.dup2, 1)) (ca : zcat a = 2) (k : zS G X nL (pc + 1) L (a :: a :: st) h e lf) : zS G X nL pc L (a :: st) h e lf := fun r hr ls H locs cells slots hl hH hL => lv_dup2_2 C.1 C.2.1 hd ((zcat_eq _).trans ca) (k r hr ls H locs cells slots hl hH hL)
theorem s_if_eq (C : zC G X y cc nL d ret h0) {x : Int32} {off : Int} {tgt : Nat} (hd : decode cc pc = .ok (.ifCond .eq off, 3)) (ht : (pc : Int) + off = (tgt : Int)) (kt : x = 0 → zS G X nL tgt L st h eT lf) (kf : ¬ x = 0 → zS G X nL (pc + 3) L st h eF lf) : zS G X nL pc L (zI x :: st) h (if x = 0 then eT else eF) lf := by
  intro r hr ls H locs cells slots hl hH hL
  refine lv_if_eq C.1 C.2.1 hd ht (fun q => kt (q) r ?_ ls H locs cells slots hl hH hL) (fun q => kf (q) r ?_ ls H locs cells slots hl hH hL)
  · rw [if_pos (q)] at hr; exact hr
  · rw [if_neg (q)] at hr; exact hr
theorem s_if_ne (C : zC G X y cc nL d ret h0) {x : Int32} {off : Int} {tgt : Nat} (hd : decode cc pc = .ok (.ifCond .ne off, 3)) (ht : (pc : Int) + off = (tgt : Int)) (kt : ¬ x = 0 → zS G X nL tgt L st h eT lf) (kf : x = 0 → zS G X nL (pc + 3) L st h eF lf) : zS G X nL pc L (zI x :: st) h (if x = 0 then eF else eT) lf := by
  intro r hr ls H locs cells slots hl hH hL
  refine lv_if_ne C.1 C.2.1 hd ht (fun q => kt (q) r ?_ ls H locs cells slots hl hH hL) (fun q => kf (q) r ?_ ls H locs cells slots hl hH hL)
  · rw [if_neg (q)] at hr; exact hr
  · rw [if_pos (q)] at hr; exact hr
theorem s_if_lt (C : zC G X y cc nL d ret h0) {x : Int32} {off : Int} {tgt : Nat} (hd : decode cc pc = .ok (.ifCond .lt off, 3)) (ht : (pc : Int) + off = (tgt : Int)) (kt : x < 0 → zS G X nL tgt L st h eT lf) (kf : ¬ x < 0 → zS G X nL (pc + 3) L st h eF lf) : zS G X nL pc L (zI x :: st) h (if x < 0 then eT else eF) lf := by
  intro r hr ls H locs cells slots hl hH hL
  refine lv_if_lt C.1 C.2.1 hd ht (fun q => kt (q) r ?_ ls H locs cells slots hl hH hL) (fun q => kf (q) r ?_ ls H locs cells slots hl hH hL)
  · rw [if_pos (q)] at hr; exact hr
  · rw [if_neg (q)] at hr; exact hr
theorem s_if_ge (C : zC G X y cc nL d ret h0) {x : Int32} {off : Int} {tgt : Nat} (hd : decode cc pc = .ok (.ifCond .ge off, 3)) (ht : (pc : Int) + off = (tgt : Int)) (kt : ¬ x < 0 → zS G X nL tgt L st h eT lf) (kf : x < 0 → zS G X nL (pc + 3) L st h eF lf) : zS G X nL pc L (zI x :: st) h (if x < 0 then eF else eT) lf := by
  intro r hr ls H locs cells slots hl hH hL
  refine lv_if_ge C.1 C.2.1 hd ht (fun q => kt (Int32.not_lt.mpr q) r ?_ ls H locs cells slots hl hH hL) (fun q => kf (Int32.not_le.mp q) r ?_ ls H locs cells slots hl hH hL)
  · rw [if_neg (Int32.not_lt.mpr q)] at hr; exact hr
  · rw [if_pos (Int32.not_le.mp q)] at hr; exact hr
theorem s_if_gt (C : zC G X y cc nL d ret h0) {x : Int32} {off : Int} {tgt : Nat} (hd : decode cc pc = .ok (.ifCond .gt off, 3)) (ht : (pc : Int) + off = (tgt : Int)) (kt : 0 < x → zS G X nL tgt L st h eT lf) (kf : ¬ 0 < x → zS G X nL (pc + 3) L st h eF lf) : zS G X nL pc L (zI x :: st) h (if 0 < x then eT else eF) lf := by
  intro r hr ls H locs cells slots hl hH hL
  refine lv_if_gt C.1 C.2.1 hd ht (fun q => kt (q) r ?_ ls H locs cells slots hl hH hL) (fun q => kf (q) r ?_ ls H locs cells slots hl hH hL)
  · rw [if_pos (q)] at hr; exact hr
  · rw [if_neg (q)] at hr; exact hr
theorem s_if_le (C : zC G X y cc nL d ret h0) {x : Int32} {off : Int} {tgt : Nat} (hd : decode cc pc = .ok (.ifCond .le off, 3)) (ht : (pc : Int) + off = (tgt : Int)) (kt : ¬ 0 < x → zS G X nL tgt L st h eT lf) (kf : 0 < x → zS G X nL (pc + 3) L st h eF lf) : zS G X nL pc L (zI x :: st) h (if 0 < x then eF else eT) lf := by
  intro r hr ls H locs cells slots hl hH hL
  refine lv_if_le C.1 C.2.1 hd ht (fun q => kt (Int32.not_lt.mpr q) r ?_ ls H locs cells slots hl hH hL) (fun q => kf (Int32.not_le.mp q) r ?_ ls H locs cells slots hl hH hL)
  · rw [if_neg (Int32.not_lt.mpr q)] at hr; exact hr
  · rw [if_pos (Int32.not_le.mp q)] at hr; exact hr
theorem s_icmp_eq (C : zC G X y cc nL d ret h0) {x w : Int32} {off : Int} {tgt : Nat} (hd : decode cc pc = .ok (.if_icmp .eq off, 3)) (ht : (pc : Int) + off = (tgt : Int)) (kt : x = w → zS G X nL tgt L st h eT lf) (kf : ¬ x = w → zS G X nL (pc + 3) L st h eF lf) : zS G X nL pc L (zI w :: zI x :: st) h (if x = w then eT else eF) lf := by
  intro r hr ls H locs cells slots hl hH hL
  refine lv_icmp_eq C.1 C.2.1 hd ht (fun q => kt (q) r ?_ ls H locs cells slots hl hH hL) (fun q => kf (q) r ?_ ls H locs cells slots hl hH hL)
  · rw [if_pos (q)] at hr; exact hr
  · rw [if_neg (q)] at hr; exact hr
theorem s_icmp_ne (C : zC G X y cc nL d ret h0) {x w : Int32} {off : Int} {tgt : Nat} (hd : decode cc pc = .ok (.if_icmp .ne off, 3)) (ht : (pc : Int) + off = (tgt : Int)) (kt : ¬ x = w → zS G X nL tgt L st h eT lf) (kf : x = w → zS G X nL (pc + 3) L st h eF lf) : zS G X nL pc L (zI w :: zI x :: st) h (if x = w then eF else eT) lf := by
  intro r hr ls H locs cells slots hl hH hL
  refine lv_icmp_ne C.1 C.2.1 hd ht (fun q => kt (q) r ?_ ls H locs cells slots hl hH hL) (fun q => kf (q) r ?_ ls H locs cells slots hl hH hL)
  · rw [if_neg (q)] at hr; exact hr
  · rw [if_pos (q)] at hr; exact hr
theorem s_icmp_lt (C : zC G X y cc nL d ret h0) {x w : Int32} {off : Int} {tgt : Nat} (hd : decode cc pc = .ok (.if_icmp .lt off, 3)) (ht : (pc : Int) + off = (tgt : Int)) (kt : x < w → zS G X nL tgt L st h eT lf) (kf : ¬ x < w → zS G X nL (pc + 3) L st h eF lf) : zS G X nL pc L (zI w :: zI x :: st) h (if x < w then eT else eF) lf := by
  intro r hr ls H locs cells slots hl hH hL
  refine lv_icmp_lt C.1 C.2.1 hd ht (fun q => kt (q) r ?_ ls H locs cells slots hl hH hL) (fun q => kf (q) r ?_ ls H locs cells slots hl hH hL)
  · rw [if_pos (q)] at hr; exact hr
  · rw [if_neg (q)] at hr; exact hr
theorem s_icmp_ge (C : zC G X y cc nL d ret h0) {x w : Int32} {off : Int} {tgt : Nat} (hd : decode cc pc = .ok (.if_icmp .ge off, 3)) (ht : (pc : Int) + off = (tgt : Int)) (kt : ¬ x < w → zS G X nL tgt L st h eT lf) (kf : x < w → zS G X nL (pc + 3) L st h eF lf) : zS G X nL pc L (zI w :: zI x :: st) h (if x < w then eF else eT) lf := by
  intro r hr ls H locs cells slots hl hH hL
  refine lv_icmp_ge C.1 C.2.1 hd ht (fun q => kt (Int32.not_lt.mpr q) r ?_ ls H locs cells slots hl hH hL) (fun q => kf (Int32.not_le.mp q) r ?_ ls H locs cells slots hl hH hL)
  · rw [if_neg (Int32.not_lt.mpr q)] at hr; exact hr
  · rw [if_pos (Int32.not_le.mp q)] at hr; exact hr
theorem s_icmp_gt (C : zC G X y cc nL d ret h0) {x w : Int32} {off : Int} {tgt : Nat} (hd : decode cc pc = .ok (.if_icmp .gt off, 3)) (ht : (pc : Int) + off = (tgt : Int)) (kt : w < x → zS G X nL tgt L st h eT lf) (kf : ¬ w < x → zS G X nL (pc + 3) L st h eF lf) : zS G X nL pc L (zI w :: zI x :: st) h (if w < x then eT else eF) lf := by
  intro r hr ls H locs cells slots hl hH hL
  refine lv_icmp_gt C.1 C.2.1 hd ht (fun q => kt (q) r ?_ ls H locs cells slots hl hH hL) (fun q => kf (q) r ?_ ls H locs cells slots hl hH hL)
  · rw [if_pos (q)] at hr; exact hr
  · rw [if_neg (q)] at hr; exact hr
theorem s_icmp_le (C : zC G X y cc nL d ret h0) {x w : Int32} {off : Int} {tgt : Nat} (hd : decode cc pc = .ok (.if_icmp .le off, 3)) (ht : (pc : Int) + off = (tgt : Int)) (kt : ¬ w < x → zS G X nL tgt L st h eT lf) (kf : w < x → zS G X nL (pc + 3) L st h eF lf) : zS G X nL pc L (zI w :: zI x :: st) h (if w < x then eF else eT) lf := by
  intro r hr ls H locs cells slots hl hH hL
  refine lv_icmp_le C.1 C.2.1 hd ht (fun q => kt (Int32.not_lt.mpr q) r ?_ ls H locs cells slots hl hH hL) (fun q => kf (Int32.not_le.mp q) r ?_ ls H locs cells slots hl hH hL)
  · rw [if_neg (Int32.not_lt.mpr q)] at hr; exact hr
  · rw [if_pos (Int32.not_le.mp q)] at hr; exact hr
theorem s_acmp_eq (C : zC G X y cc nL d ret h0) {x w : Option Nat} {off : Int} {tgt : Nat} (hd : decode cc pc = .ok (.if_acmp .eq off, 3)) (ht : (pc : Int) + off = (tgt : Int)) (kt : x = w → zS G X nL tgt L st h eT lf) (kf : ¬ x = w → zS G X nL (pc + 3) L st h eF lf) : zS G X nL pc L (zR w :: zR x :: st) h (if x = w then eT else eF) lf := by
  intro r hr ls H locs cells slots hl hH hL
  refine lv_acmp_eq C.1 C.2.1 hd ht (fun q => kt q r ?_ ls H locs cells slots hl hH hL) (fun q => kf q r ?_ ls H locs cells slots hl hH hL)
  · rw [if_pos q] at hr; exact hr
  · rw [if_neg q] at hr; exact hr
theorem s_acmp_ne (C : zC G X y cc nL d ret h0) {x w : Option Nat} {off : Int} {tgt : Nat} (hd : decode cc pc = .ok (.if_acmp .ne off, 3)) (ht : (pc : Int) + off = (tgt : Int)) (kt : ¬ x = w → zS G X nL tgt L st h eT lf) (kf : x = w → zS G X nL (pc + 3) L st h eF lf) : zS G X nL pc L (zR w :: zR x :: st) h (if x = w then eF else eT) lf := by
  intro r hr ls H locs cells slots hl hH hL
  refine lv_acmp_ne C.1 C.2.1 hd ht (fun q => kt q r ?_ ls H locs cells slots hl hH hL) (fun q => kf q r ?_ ls H locs cells slots hl hH hL)
  · rw [if_neg q] at hr; exact hr
  · rw [if_pos q] at hr; exact hr
theorem s_ifnull (C : zC G X y cc nL d ret h0) {x : Option Nat} {off : Int} {tgt : Nat} (hd : decode cc pc = .ok (.ifnull off, 3)) (ht : (pc : Int) + off = (tgt : Int)) (kt : x = none → zS G X nL tgt L st h eT lf) (kf : ¬ x = none → zS G X nL (pc + 3) L st h eF lf) : zS G X nL pc L (zR x :: st) h (if x = none then eT else eF) lf := by
  intro r hr ls H locs cells slots hl hH hL
  cases x with
  | none => exact lv_ifnullN C.1 C.2.1 hd ht (kt rfl r (by rw [if_pos rfl] at hr; exact hr) ls H locs cells slots hl hH hL)
  | some x => exact lv_ifnull C.1 C.2.1 hd (kf (by simp) r (by rw [if_neg (by simp)] at hr; exact hr) ls H locs cells slots hl hH hL)
theorem s_ifnonnull (C : zC G X y cc nL d ret h0) {x : Option Nat} {off : Int} {tgt : Nat} (hd : decode cc pc = .ok (.ifnonnull off, 3)) (ht : (pc : Int) + off = (tgt : Int)) (kt : ¬ x = none → zS G X nL tgt L st h eT lf) (kf : x = none → zS G X nL (pc + 3) L st h eF lf) : zS G X nL pc L (zR x :: st) h (if x = none then eF else eT) lf := by
  intro r hr ls H locs cells slots hl hH hL
  cases x with
  | none => exact lv_ifnonnullN C.1 C.2.1 hd (kf rfl r (by rw [if_pos rfl] at hr; exact hr) ls H locs cells slots hl hH hL)
  | some x => exact lv_ifnonnull C.1 C.2.1 hd ht (kt (by simp) r (by rw [if_neg (by simp)] at hr; exact hr) ls H locs cells slots hl hH hL)
theorem s_goto (C : zC G X y cc nL d ret h0) {off : Int} {tgt : Nat} (hd : decode cc pc = .ok (.goto off, 3)) (ht : (pc : Int) + off = (tgt : Int)) (k : zS G X nL tgt L st h e lf) : zS G X nL pc L st h e lf := fun r hr ls H locs cells slots hl hH hL => lv_goto C.1 C.2.1 hd ht (k r hr ls H locs cells slots hl hH hL)
theorem s_null (C : zC G X y cc nL d ret h0) (hd : decode cc pc = .ok (.aconst_null, 1)) (k : zS G X nL (pc + 1) L (zR none :: st) h e lf) : zS G X nL pc L st h e lf := fun r hr ls H locs cells slots hl hH hL => lv_null C.1 C.2.1 hd (k r hr ls H locs cells slots hl hH hL)
theorem s_ldc (C : zC G X y cc nL d ret h0) {index : Nat} {v : Int32} (hw : Cond.constant y.cls index v ∈ lw_all) (hd : decode cc pc = .ok (.ldc index, 2)) (k : zS G X nL (pc + 2) L (zI v :: st) h e lf) : zS G X nL pc L st h e lf := fun r hr ls H locs cells slots hl hH hL => lv_ldc C.1 C.2.1 C.2.2.2.1 (C.2.2.2.2.1 _ hw) hd (k r hr ls H locs cells slots hl hH hL)
theorem s_ldc2 (C : zC G X y cc nL d ret h0) {index : Nat} {v : Int64} (hw : Cond.constantLong y.cls index v ∈ lw_all) (hd : decode cc pc = .ok (.ldc2_w index, 3)) (k : zS G X nL (pc + 3) L (zJ v :: st) h e lf) : zS G X nL pc L st h e lf := fun r hr ls H locs cells slots hl hH hL => lv_ldc2 C.1 C.2.1 C.2.2.2.1 (C.2.2.2.2.1 _ hw) hd (k r hr ls H locs cells slots hl hH hL)
/-- a switch: one of its cases, none of them -/
theorem s_tin (C : zC G X y cc nL d ret h0) {dflt lo hi : Int} {offs : Array Int} {len : Nat} {x : Int32} {off : Int} {tgt : Nat} (c : Int32) (hd : decode cc pc = .ok (.tableswitch dflt lo hi offs, len)) (hx : x = c) (h1 : ¬ c.toInt < lo) (h2 : ¬ hi < c.toInt) (ho : offs[(c.toInt - lo).toNat]? = some off) (ht : (pc : Int) + off = (tgt : Int)) (k : zS G X nL tgt L st h e lf) : zS G X nL pc L (zI x :: st) h e lf := by
  subst hx
  exact fun r hr ls H locs cells slots hl hH hL => lv_tableIn C.1 C.2.1 hd h1 h2 ho ht (k r hr ls H locs cells slots hl hH hL)
theorem s_tout (C : zC G X y cc nL d ret h0) {dflt lo hi : Int} {offs : Array Int} {len : Nat} {x : Int32} {tgt : Nat} (hd : decode cc pc = .ok (.tableswitch dflt lo hi offs, len)) (hx : x.toInt < lo ∨ hi < x.toInt) (ht : (pc : Int) + dflt = (tgt : Int)) (k : zS G X nL tgt L st h e lf) : zS G X nL pc L (zI x :: st) h e lf := fun r hr ls H locs cells slots hl hH hL => lv_tableOut C.1 C.2.1 hd hx ht (k r hr ls H locs cells slots hl hH hL)
theorem s_lin (C : zC G X y cc nL d ret h0) {dflt : Int} {ps : Array (Int × Int)} {len : Nat} {x : Int32} {off : Int} {tgt : Nat} (hd : decode cc pc = .ok (.lookupswitch dflt ps, len)) (hp : (ps.toList.zip (ps.toList.drop 1)).all (fun (a, next) => a.1 < next.1) = true) (ho : Op.lookupswitch.offset ps.toList dflt x.toInt = off) (ht : (pc : Int) + off = (tgt : Int)) (k : zS G X nL tgt L st h e lf) : zS G X nL pc L (zI x :: st) h e lf := fun r hr ls H locs cells slots hl hH hL => lv_lookup C.1 C.2.1 hd hp ho ht (k r hr ls H locs cells slots hl hH hL)
theorem ztout {x : Int32} {lo hi : Int} (ks : List Int32) (hc : ∀ z : Int, lo ≤ z → z ≤ hi → ∃ k ∈ ks, k.toInt = z) (hx : ∀ k ∈ ks, ¬ x = k) : x.toInt < lo ∨ hi < x.toInt := by
  by_cases h1 : x.toInt < lo
  · exact Or.inl h1
  · by_cases h2 : hi < x.toInt
    · exact Or.inr h2
    · obtain ⟨k, hk, e⟩ := hc x.toInt (by omega) (by omega)
      exact absurd (Int32.toInt_inj.mp e).symm (hx k hk)
end ZR
