/-! ===== soundness of the plain instructions (printed by print_sx.py) ===== -/
section SX8
variable {l : Launch} {dC : Nat → ClassId} {dI : Nat → Nat → Nat} {dA : Nat → ClassId} {b0 d M pc : Nat} {ls st : List AV} {h : AH} {P : PT}
theorem sx_null (hd : decode (mB M) pc = .ok (.aconst_null, 1)) (k : SX l dC dI dA b0 d M (pc + 1) ls (vR none :: st) h P) : SX l dC dI dA b0 d M pc ls (st) h P := by
  intro p e R s m args below meth c H locs cells slots LS Q hF hW hR hRp ho hl hL hQ
  exact lv_null hF.1 hF.2.1 hd (k p e R s m args below meth c H locs cells slots LS Q hF hW hR hRp ho hl hL hQ)
theorem sx_iconst {n : Int} {v : Int32} (hd : decode (mB M) pc = .ok (.iconst n, 1)) (hv : Int32.ofInt n = v) (k : SX l dC dI dA b0 d M (pc + 1) ls (vI v :: st) h P) : SX l dC dI dA b0 d M pc ls (st) h P := by
  intro p e R s m args below meth c H locs cells slots LS Q hF hW hR hRp ho hl hL hQ
  exact lv_iconst hF.1 hF.2.1 hd hv (k p e R s m args below meth c H locs cells slots LS Q hF hW hR hRp ho hl hL hQ)
theorem sx_bipush {n : Int} {v : Int32} (hd : decode (mB M) pc = .ok (.bipush n, 2)) (hv : (Int8.ofInt n).toInt32 = v) (k : SX l dC dI dA b0 d M (pc + 2) ls (vI v :: st) h P) : SX l dC dI dA b0 d M pc ls (st) h P := by
  intro p e R s m args below meth c H locs cells slots LS Q hF hW hR hRp ho hl hL hQ
  exact lv_bipush hF.1 hF.2.1 hd hv (k p e R s m args below meth c H locs cells slots LS Q hF hW hR hRp ho hl hL hQ)
theorem sx_sipush {n : Int} {v : Int32} (hd : decode (mB M) pc = .ok (.sipush n, 3)) (hv : (Int16.ofInt n).toInt32 = v) (k : SX l dC dI dA b0 d M (pc + 3) ls (vI v :: st) h P) : SX l dC dI dA b0 d M pc ls (st) h P := by
  intro p e R s m args below meth c H locs cells slots LS Q hF hW hR hRp ho hl hL hQ
  exact lv_sipush hF.1 hF.2.1 hd hv (k p e R s m args below meth c H locs cells slots LS Q hF hW hR hRp ho hl hL hQ)
theorem sx_lconst {n : Fin 2} {v : Int64} (hd : decode (mB M) pc = .ok (.lconst n, 1)) (hv : Int64.ofNat (n : Nat) = v) (k : SX l dC dI dA b0 d M (pc + 1) ls (vL v :: st) h P) : SX l dC dI dA b0 d M pc ls (st) h P := by
  intro p e R s m args below meth c H locs cells slots LS Q hF hW hR hRp ho hl hL hQ
  exact lv_lconst hF.1 hF.2.1 hd hv (k p e R s m args below meth c H locs cells slots LS Q hF hW hR hRp ho hl hL hQ)
theorem sx_ldc {i : Nat} {v : Int32} (hd : decode (mB M) pc = .ok (.ldc i, 2)) (hw : Jvm.Cond.constant (oN (mO M)) i v ∈ lw_tbl) (k : SX l dC dI dA b0 d M (pc + 2) ls (vI v :: st) h P) : SX l dC dI dA b0 d M pc ls (st) h P := by
  intro p e R s m args below meth c H locs cells slots LS Q hF hW hR hRp ho hl hL hQ
  exact lv_ldc hF.1 hF.2.1 hF.2.2.2.2.2.1 (wok_move (U := s) rfl (State.WarmedH.refl s) (hW.1 _ hw rfl)) hd (k p e R s m args below meth c H locs cells slots LS Q hF hW hR hRp ho hl hL hQ)
theorem sx_ldc2 {i : Nat} {v : Int64} (hd : decode (mB M) pc = .ok (.ldc2_w i, 3)) (hw : Jvm.Cond.constantLong (oN (mO M)) i v ∈ lw_tbl) (k : SX l dC dI dA b0 d M (pc + 3) ls (vL v :: st) h P) : SX l dC dI dA b0 d M pc ls (st) h P := by
  intro p e R s m args below meth c H locs cells slots LS Q hF hW hR hRp ho hl hL hQ
  exact lv_ldc2 hF.1 hF.2.1 hF.2.2.2.2.2.1 (wok_move (U := s) rfl (State.WarmedH.refl s) (hW.1 _ hw rfl)) hd (k p e R s m args below meth c H locs cells slots LS Q hF hW hR hRp ho hl hL hQ)
theorem sx_iload {i : Nat} {x : Int32} (hd : decode (mB M) pc = .ok (.iload i, 2)) (hg : lg ls i = vI x) (k : SX l dC dI dA b0 d M (pc + 2) ls (vI x :: st) h P) : SX l dC dI dA b0 d M pc ls (st) h P := by
  intro p e R s m args below meth c H locs cells slots LS Q hF hW hR hRp ho hl hL hQ
  exact lv_iload hF.1 hF.2.1 hd (hL.get hg (by simp)) (k p e R s m args below meth c H locs cells slots LS Q hF hW hR hRp ho hl hL hQ)
theorem sx_iload_n {n : Fin 4} {x : Int32} (hd : decode (mB M) pc = .ok (.iload_n n, 1)) (hg : lg ls (n : Nat) = vI x) (k : SX l dC dI dA b0 d M (pc + 1) ls (vI x :: st) h P) : SX l dC dI dA b0 d M pc ls (st) h P := by
  intro p e R s m args below meth c H locs cells slots LS Q hF hW hR hRp ho hl hL hQ
  exact lv_iload_n hF.1 hF.2.1 hd rfl (hL.get hg (by simp)) (k p e R s m args below meth c H locs cells slots LS Q hF hW hR hRp ho hl hL hQ)
theorem sx_lload {i : Nat} {x : Int64} (hd : decode (mB M) pc = .ok (.lload i, 2)) (hg : lg ls i = vL x) (k : SX l dC dI dA b0 d M (pc + 2) ls (vL x :: st) h P) : SX l dC dI dA b0 d M pc ls (st) h P := by
  intro p e R s m args below meth c H locs cells slots LS Q hF hW hR hRp ho hl hL hQ
  exact lv_lload hF.1 hF.2.1 hd (hL.get hg (by simp)) (k p e R s m args below meth c H locs cells slots LS Q hF hW hR hRp ho hl hL hQ)
theorem sx_lload_n {n : Fin 4} {x : Int64} (hd : decode (mB M) pc = .ok (.lload_n n, 1)) (hg : lg ls (n : Nat) = vL x) (k : SX l dC dI dA b0 d M (pc + 1) ls (vL x :: st) h P) : SX l dC dI dA b0 d M pc ls (st) h P := by
  intro p e R s m args below meth c H locs cells slots LS Q hF hW hR hRp ho hl hL hQ
  exact lv_lload_n hF.1 hF.2.1 hd rfl (hL.get hg (by simp)) (k p e R s m args below meth c H locs cells slots LS Q hF hW hR hRp ho hl hL hQ)
theorem sx_aload {i : Nat} {x : Option Nat} (hd : decode (mB M) pc = .ok (.aload i, 2)) (hg : lg ls i = vR x) (k : SX l dC dI dA b0 d M (pc + 2) ls (vR x :: st) h P) : SX l dC dI dA b0 d M pc ls (st) h P := by
  intro p e R s m args below meth c H locs cells slots LS Q hF hW hR hRp ho hl hL hQ
  cases x with
  | none => exact lv_aloadN hF.1 hF.2.1 hd (hL.get hg (by simp)) (k p e R s m args below meth c H locs cells slots LS Q hF hW hR hRp ho hl hL hQ)
  | some a => exact lv_aload hF.1 hF.2.1 hd (hL.get hg (by simp)) (k p e R s m args below meth c H locs cells slots LS Q hF hW hR hRp ho hl hL hQ)
theorem sx_aload_n {n : Fin 4} {x : Option Nat} (hd : decode (mB M) pc = .ok (.aload_n n, 1)) (hg : lg ls (n : Nat) = vR x) (k : SX l dC dI dA b0 d M (pc + 1) ls (vR x :: st) h P) : SX l dC dI dA b0 d M pc ls (st) h P := by
  intro p e R s m args below meth c H locs cells slots LS Q hF hW hR hRp ho hl hL hQ
  cases x with
  | none => exact lv_aload_nN hF.1 hF.2.1 hd rfl (hL.get hg (by simp)) (k p e R s m args below meth c H locs cells slots LS Q hF hW hR hRp ho hl hL hQ)
  | some a => exact lv_aload_n hF.1 hF.2.1 hd rfl (hL.get hg (by simp)) (k p e R s m args below meth c H locs cells slots LS Q hF hW hR hRp ho hl hL hQ)
theorem sx_istore {i : Nat} {x : Int32} (hd : decode (mB M) pc = .ok (.istore i, 2)) (hi : i < mL M) (k : SX l dC dI dA b0 d M (pc + 2) (st1 ls i (vI x)) st h P) : SX l dC dI dA b0 d M pc ls (vI x :: st) h P := by
  intro p e R s m args below meth c H locs cells slots LS Q hF hW hR hRp ho hl hL hQ
  exact lv_istore hF.1 hF.2.1 hd hL.has hi rfl (fun LS hL => k p e R s m args below meth c H locs cells slots LS Q hF hW hR hRp ho hl (sn_L.st1 (v := vI x) hL) hQ)
theorem sx_istore_n {n : Fin 4} {x : Int32} (hd : decode (mB M) pc = .ok (.istore_n n, 1)) (hi : (n : Nat) < mL M) (k : SX l dC dI dA b0 d M (pc + 1) (st1 ls (n : Nat) (vI x)) st h P) : SX l dC dI dA b0 d M pc ls (vI x :: st) h P := by
  intro p e R s m args below meth c H locs cells slots LS Q hF hW hR hRp ho hl hL hQ
  exact lv_istore_n hF.1 hF.2.1 hd rfl hL.has hi rfl (fun LS hL => k p e R s m args below meth c H locs cells slots LS Q hF hW hR hRp ho hl (sn_L.st1 (v := vI x) hL) hQ)
theorem sx_lstore {i : Nat} {x : Int64} (hd : decode (mB M) pc = .ok (.lstore i, 2)) (hi : i + 1 < mL M) (k : SX l dC dI dA b0 d M (pc + 2) (st2 ls i (vL x)) st h P) : SX l dC dI dA b0 d M pc ls (vL x :: st) h P := by
  intro p e R s m args below meth c H locs cells slots LS Q hF hW hR hRp ho hl hL hQ
  exact lv_lstore hF.1 hF.2.1 hd hL.has hi rfl (fun LS hL => k p e R s m args below meth c H locs cells slots LS Q hF hW hR hRp ho hl (sn_L.st2 (v := vL x) hL) hQ)
theorem sx_lstore_n {n : Fin 4} {x : Int64} (hd : decode (mB M) pc = .ok (.lstore_n n, 1)) (hi : (n : Nat) + 1 < mL M) (k : SX l dC dI dA b0 d M (pc + 1) (st2 ls (n : Nat) (vL x)) st h P) : SX l dC dI dA b0 d M pc ls (vL x :: st) h P := by
  intro p e R s m args below meth c H locs cells slots LS Q hF hW hR hRp ho hl hL hQ
  exact lv_lstore_n hF.1 hF.2.1 hd rfl hL.has hi rfl (fun LS hL => k p e R s m args below meth c H locs cells slots LS Q hF hW hR hRp ho hl (sn_L.st2 (v := vL x) hL) hQ)
theorem sx_astore {i : Nat} {x : Option Nat} (hd : decode (mB M) pc = .ok (.astore i, 2)) (hi : i < mL M) (k : SX l dC dI dA b0 d M (pc + 2) (st1 ls i (vR x)) st h P) : SX l dC dI dA b0 d M pc ls (vR x :: st) h P := by
  intro p e R s m args below meth c H locs cells slots LS Q hF hW hR hRp ho hl hL hQ
  cases x with
  | none => exact lv_astoreN hF.1 hF.2.1 hd hL.has hi rfl (fun LS hL => k p e R s m args below meth c H locs cells slots LS Q hF hW hR hRp ho hl (sn_L.st1 (v := vR none) hL) hQ)
  | some a => exact lv_astore hF.1 hF.2.1 hd hL.has hi rfl (fun LS hL => k p e R s m args below meth c H locs cells slots LS Q hF hW hR hRp ho hl (sn_L.st1 (v := vR (some a)) hL) hQ)
theorem sx_astore_n {n : Fin 4} {x : Option Nat} (hd : decode (mB M) pc = .ok (.astore_n n, 1)) (hi : (n : Nat) < mL M) (k : SX l dC dI dA b0 d M (pc + 1) (st1 ls (n : Nat) (vR x)) st h P) : SX l dC dI dA b0 d M pc ls (vR x :: st) h P := by
  intro p e R s m args below meth c H locs cells slots LS Q hF hW hR hRp ho hl hL hQ
  cases x with
  | none => exact lv_astore_nN hF.1 hF.2.1 hd rfl hL.has hi rfl (fun LS hL => k p e R s m args below meth c H locs cells slots LS Q hF hW hR hRp ho hl (sn_L.st1 (v := vR none) hL) hQ)
  | some a => exact lv_astore_n hF.1 hF.2.1 hd rfl hL.has hi rfl (fun LS hL => k p e R s m args below meth c H locs cells slots LS Q hF hW hR hRp ho hl (sn_L.st1 (v := vR (some a)) hL) hQ)
theorem sx_iinc {i : Nat} {n : Int} {x v : Int32} (hd : decode (mB M) pc = .ok (.iinc i n, 3)) (hi : i < mL M) (hg : lg ls i = vI x) (hv : Int32.ofInt n = v) (k : SX l dC dI dA b0 d M (pc + 3) (st1 ls i (vI (x + v))) st h P) : SX l dC dI dA b0 d M pc ls st h P := by
  intro p e R s m args below meth c H locs cells slots LS Q hF hW hR hRp ho hl hL hQ
  have hm : (i, Value.int x) ∈ prs ls := mem_prs.mpr ⟨vI x, by
    unfold lg at hg
    rw [List.getD_eq_getElem?_getD] at hg
    cases he : ls[i]? with
    | none => rw [he] at hg; cases hg
    | some w => rw [he] at hg; simpa using hg, by simp, rfl⟩
  obtain ⟨j, hj⟩ := List.getElem?_of_mem hm
  exact lv_iinc hF.1 hF.2.1 hd hL.has hj (by rw [hv]) hi rfl (fun LS hL => k p e R s m args below meth c H locs cells slots LS Q hF hW hR hRp ho hl (sn_L.st1 (v := vI (x + v)) hL) hQ)
theorem sx_iadd {x y : Int32} (hd : decode (mB M) pc = .ok (.iadd, 1)) (k : SX l dC dI dA b0 d M (pc + 1) ls (vI (x + y) :: st) h P) : SX l dC dI dA b0 d M pc ls (vI y :: vI x :: st) h P := by
  intro p e R s m args below meth c H locs cells slots LS Q hF hW hR hRp ho hl hL hQ
  exact lv_iadd hF.1 hF.2.1 hd (k p e R s m args below meth c H locs cells slots LS Q hF hW hR hRp ho hl hL hQ)
theorem sx_isub {x y : Int32} (hd : decode (mB M) pc = .ok (.isub, 1)) (k : SX l dC dI dA b0 d M (pc + 1) ls (vI (x - y) :: st) h P) : SX l dC dI dA b0 d M pc ls (vI y :: vI x :: st) h P := by
  intro p e R s m args below meth c H locs cells slots LS Q hF hW hR hRp ho hl hL hQ
  exact lv_isub hF.1 hF.2.1 hd (k p e R s m args below meth c H locs cells slots LS Q hF hW hR hRp ho hl hL hQ)
theorem sx_imul {x y : Int32} (hd : decode (mB M) pc = .ok (.imul, 1)) (k : SX l dC dI dA b0 d M (pc + 1) ls (vI (x * y) :: st) h P) : SX l dC dI dA b0 d M pc ls (vI y :: vI x :: st) h P := by
  intro p e R s m args below meth c H locs cells slots LS Q hF hW hR hRp ho hl hL hQ
  exact lv_imul hF.1 hF.2.1 hd (k p e R s m args below meth c H locs cells slots LS Q hF hW hR hRp ho hl hL hQ)
theorem sx_iand {x y : Int32} (hd : decode (mB M) pc = .ok (.iand, 1)) (k : SX l dC dI dA b0 d M (pc + 1) ls (vI (x &&& y) :: st) h P) : SX l dC dI dA b0 d M pc ls (vI y :: vI x :: st) h P := by
  intro p e R s m args below meth c H locs cells slots LS Q hF hW hR hRp ho hl hL hQ
  exact lv_iand hF.1 hF.2.1 hd (k p e R s m args below meth c H locs cells slots LS Q hF hW hR hRp ho hl hL hQ)
theorem sx_idiv {x y : Int32} (hd : decode (mB M) pc = .ok (.idiv, 1)) (hne : ¬ y = 0) (k : SX l dC dI dA b0 d M (pc + 1) ls (vI (x / y) :: st) h P) : SX l dC dI dA b0 d M pc ls (vI y :: vI x :: st) h P := by
  intro p e R s m args below meth c H locs cells slots LS Q hF hW hR hRp ho hl hL hQ
  exact lv_idiv hF.1 hF.2.1 hd hne (k p e R s m args below meth c H locs cells slots LS Q hF hW hR hRp ho hl hL hQ)
theorem sx_ladd {x y : Int64} (hd : decode (mB M) pc = .ok (.ladd, 1)) (k : SX l dC dI dA b0 d M (pc + 1) ls (vL (x + y) :: st) h P) : SX l dC dI dA b0 d M pc ls (vL y :: vL x :: st) h P := by
  intro p e R s m args below meth c H locs cells slots LS Q hF hW hR hRp ho hl hL hQ
  exact lv_ladd hF.1 hF.2.1 hd (k p e R s m args below meth c H locs cells slots LS Q hF hW hR hRp ho hl hL hQ)
theorem sx_lor {x y : Int64} (hd : decode (mB M) pc = .ok (.lor, 1)) (k : SX l dC dI dA b0 d M (pc + 1) ls (vL (x ||| y) :: st) h P) : SX l dC dI dA b0 d M pc ls (vL y :: vL x :: st) h P := by
  intro p e R s m args below meth c H locs cells slots LS Q hF hW hR hRp ho hl hL hQ
  exact lv_lor hF.1 hF.2.1 hd (k p e R s m args below meth c H locs cells slots LS Q hF hW hR hRp ho hl hL hQ)
theorem sx_lshl {x : Int64} {y : Int32} (hd : decode (mB M) pc = .ok (.lshl, 1)) (k : SX l dC dI dA b0 d M (pc + 1) ls (vL (x <<< (y.toInt64 &&& 63)) :: st) h P) : SX l dC dI dA b0 d M pc ls (vI y :: vL x :: st) h P := by
  intro p e R s m args below meth c H locs cells slots LS Q hF hW hR hRp ho hl hL hQ
  exact lv_lshl hF.1 hF.2.1 hd rfl (k p e R s m args below meth c H locs cells slots LS Q hF hW hR hRp ho hl hL hQ)
theorem sx_lcmp {x y : Int64} (hd : decode (mB M) pc = .ok (.lcmp, 1)) (k : SX l dC dI dA b0 d M (pc + 1) ls (vI (lg_cmp x y) :: st) h P) : SX l dC dI dA b0 d M pc ls (vL y :: vL x :: st) h P := by
  intro p e R s m args below meth c H locs cells slots LS Q hF hW hR hRp ho hl hL hQ
  exact W.lcmp hF.1 hF.2.1 hd (k p e R s m args below meth c H locs cells slots LS Q hF hW hR hRp ho hl hL hQ)
theorem sx_i2l {x : Int32} (hd : decode (mB M) pc = .ok (.i2l, 1)) (k : SX l dC dI dA b0 d M (pc + 1) ls (vL x.toInt64 :: st) h P) : SX l dC dI dA b0 d M pc ls (vI x :: st) h P := by
  intro p e R s m args below meth c H locs cells slots LS Q hF hW hR hRp ho hl hL hQ
  exact lv_i2l hF.1 hF.2.1 hd rfl (k p e R s m args below meth c H locs cells slots LS Q hF hW hR hRp ho hl hL hQ)
theorem av_cI (x : Int32) : (av_V (vI x)).category = 1 := rfl
theorem av_cR (x : Option Nat) : (av_V (vR x)).category = 1 := by cases x <;> rfl
theorem sx_popvI {x : Int32} (hd : decode (mB M) pc = .ok (.pop, 1)) (k : SX l dC dI dA b0 d M (pc + 1) ls st h P) : SX l dC dI dA b0 d M pc ls (vI x :: st) h P := by
  intro p e R s m args below meth c H locs cells slots LS Q hF hW hR hRp ho hl hL hQ
  exact lv_pop (va := av_V (vI x)) hF.1 hF.2.1 hd (av_cI x) (k p e R s m args below meth c H locs cells slots LS Q hF hW hR hRp ho hl hL hQ)
theorem sx_dupvI {x : Int32} (hd : decode (mB M) pc = .ok (.dup, 1)) (k : SX l dC dI dA b0 d M (pc + 1) ls (vI x :: vI x :: st) h P) : SX l dC dI dA b0 d M pc ls (vI x :: st) h P := by
  intro p e R s m args below meth c H locs cells slots LS Q hF hW hR hRp ho hl hL hQ
  exact lv_dup (va := av_V (vI x)) hF.1 hF.2.1 hd (av_cI x) (k p e R s m args below meth c H locs cells slots LS Q hF hW hR hRp ho hl hL hQ)
theorem sx_popvR {x : Option Nat} (hd : decode (mB M) pc = .ok (.pop, 1)) (k : SX l dC dI dA b0 d M (pc + 1) ls st h P) : SX l dC dI dA b0 d M pc ls (vR x :: st) h P := by
  intro p e R s m args below meth c H locs cells slots LS Q hF hW hR hRp ho hl hL hQ
  exact lv_pop (va := av_V (vR x)) hF.1 hF.2.1 hd (av_cR x) (k p e R s m args below meth c H locs cells slots LS Q hF hW hR hRp ho hl hL hQ)
theorem sx_dupvR {x : Option Nat} (hd : decode (mB M) pc = .ok (.dup, 1)) (k : SX l dC dI dA b0 d M (pc + 1) ls (vR x :: vR x :: st) h P) : SX l dC dI dA b0 d M pc ls (vR x :: st) h P := by
  intro p e R s m args below meth c H locs cells slots LS Q hF hW hR hRp ho hl hL hQ
  exact lv_dup (va := av_V (vR x)) hF.1 hF.2.1 hd (av_cR x) (k p e R s m args below meth c H locs cells slots LS Q hF hW hR hRp ho hl hL hQ)
theorem sx_dup_x1 {x : Int32} {y : Option Nat} (hd : decode (mB M) pc = .ok (.dup_x1, 1)) (k : SX l dC dI dA b0 d M (pc + 1) ls (vI x :: vR y :: vI x :: st) h P) : SX l dC dI dA b0 d M pc ls (vI x :: vR y :: st) h P := by
  intro p e R s m args below meth c H locs cells slots LS Q hF hW hR hRp ho hl hL hQ
  exact lv_dup_x1 (va := av_V (vI x)) (vb := av_V (vR y)) hF.1 hF.2.1 hd (av_cI x) (av_cR y) (k p e R s m args below meth c H locs cells slots LS Q hF hW hR hRp ho hl hL hQ)
theorem sx_dup2 {x : Int32} {y : Option Nat} (hd : decode (mB M) pc = .ok (.dup2, 1)) (k : SX l dC dI dA b0 d M (pc + 1) ls (vI x :: vR y :: vI x :: vR y :: st) h P) : SX l dC dI dA b0 d M pc ls (vI x :: vR y :: st) h P := by
  intro p e R s m args below meth c H locs cells slots LS Q hF hW hR hRp ho hl hL hQ
  exact lv_dup2_11 (va := av_V (vI x)) (vb := av_V (vR y)) hF.1 hF.2.1 hd (av_cI x) (av_cR y) (k p e R s m args below meth c H locs cells slots LS Q hF hW hR hRp ho hl hL hQ)
theorem sx_if {co : ClassFile.Cond} {off : Int} {tgt : Nat} {x : Int32} (hd : decode (mB M) pc = .ok (.ifCond co off, 3)) (ht : (pc : Int) + off = (tgt : Int)) (k1 : cQ co x 0 → SX l dC dI dA b0 d M tgt ls st h P) (k2 : ¬ cQ co x 0 → SX l dC dI dA b0 d M (pc + 3) ls st h P) : SX l dC dI dA b0 d M pc ls (vI x :: st) h P := by
  intro p e R s m args below meth c H locs cells slots LS Q hF hW hR hRp ho hl hL hQ
  cases co with
  | eq => exact lv_if_eq hF.1 hF.2.1 hd ht (fun q => k1 q p e R s m args below meth c H locs cells slots LS Q hF hW hR hRp ho hl hL hQ) (fun q => k2 q p e R s m args below meth c H locs cells slots LS Q hF hW hR hRp ho hl hL hQ)
  | ne => exact lv_if_ne hF.1 hF.2.1 hd ht (fun q => k1 q p e R s m args below meth c H locs cells slots LS Q hF hW hR hRp ho hl hL hQ) (fun q => k2 (fun z => z q) p e R s m args below meth c H locs cells slots LS Q hF hW hR hRp ho hl hL hQ)
  | lt => exact lv_if_lt hF.1 hF.2.1 hd ht (fun q => k1 q p e R s m args below meth c H locs cells slots LS Q hF hW hR hRp ho hl hL hQ) (fun q => k2 q p e R s m args below meth c H locs cells slots LS Q hF hW hR hRp ho hl hL hQ)
  | ge => exact lv_if_ge hF.1 hF.2.1 hd ht (fun q => k1 q p e R s m args below meth c H locs cells slots LS Q hF hW hR hRp ho hl hL hQ) (fun q => k2 q p e R s m args below meth c H locs cells slots LS Q hF hW hR hRp ho hl hL hQ)
  | gt => exact lv_if_gt hF.1 hF.2.1 hd ht (fun q => k1 q p e R s m args below meth c H locs cells slots LS Q hF hW hR hRp ho hl hL hQ) (fun q => k2 q p e R s m args below meth c H locs cells slots LS Q hF hW hR hRp ho hl hL hQ)
  | le => exact lv_if_le hF.1 hF.2.1 hd ht (fun q => k1 q p e R s m args below meth c H locs cells slots LS Q hF hW hR hRp ho hl hL hQ) (fun q => k2 q p e R s m args below meth c H locs cells slots LS Q hF hW hR hRp ho hl hL hQ)
theorem sx_icmp {co : ClassFile.Cond} {off : Int} {tgt : Nat} {x y : Int32} (hd : decode (mB M) pc = .ok (.if_icmp co off, 3)) (ht : (pc : Int) + off = (tgt : Int)) (k1 : cQ co x y → SX l dC dI dA b0 d M tgt ls st h P) (k2 : ¬ cQ co x y → SX l dC dI dA b0 d M (pc + 3) ls st h P) : SX l dC dI dA b0 d M pc ls (vI y :: vI x :: st) h P := by
  intro p e R s m args below meth c H locs cells slots LS Q hF hW hR hRp ho hl hL hQ
  cases co with
  | eq => exact lv_icmp_eq hF.1 hF.2.1 hd ht (fun q => k1 q p e R s m args below meth c H locs cells slots LS Q hF hW hR hRp ho hl hL hQ) (fun q => k2 q p e R s m args below meth c H locs cells slots LS Q hF hW hR hRp ho hl hL hQ)
  | ne => exact lv_icmp_ne hF.1 hF.2.1 hd ht (fun q => k1 q p e R s m args below meth c H locs cells slots LS Q hF hW hR hRp ho hl hL hQ) (fun q => k2 (fun z => z q) p e R s m args below meth c H locs cells slots LS Q hF hW hR hRp ho hl hL hQ)
  | lt => exact lv_icmp_lt hF.1 hF.2.1 hd ht (fun q => k1 q p e R s m args below meth c H locs cells slots LS Q hF hW hR hRp ho hl hL hQ) (fun q => k2 q p e R s m args below meth c H locs cells slots LS Q hF hW hR hRp ho hl hL hQ)
  | ge => exact lv_icmp_ge hF.1 hF.2.1 hd ht (fun q => k1 q p e R s m args below meth c H locs cells slots LS Q hF hW hR hRp ho hl hL hQ) (fun q => k2 q p e R s m args below meth c H locs cells slots LS Q hF hW hR hRp ho hl hL hQ)
  | gt => exact lv_icmp_gt hF.1 hF.2.1 hd ht (fun q => k1 q p e R s m args below meth c H locs cells slots LS Q hF hW hR hRp ho hl hL hQ) (fun q => k2 q p e R s m args below meth c H locs cells slots LS Q hF hW hR hRp ho hl hL hQ)
  | le => exact lv_icmp_le hF.1 hF.2.1 hd ht (fun q => k1 q p e R s m args below meth c H locs cells slots LS Q hF hW hR hRp ho hl hL hQ) (fun q => k2 q p e R s m args below meth c H locs cells slots LS Q hF hW hR hRp ho hl hL hQ)
theorem sx_ifnull {off : Int} {tgt : Nat} {x : Option Nat} (hd : decode (mB M) pc = .ok (.ifnull off, 3)) (ht : (pc : Int) + off = (tgt : Int)) (k1 : x = none → SX l dC dI dA b0 d M tgt ls st h P) (k2 : ¬ x = none → SX l dC dI dA b0 d M (pc + 3) ls st h P) : SX l dC dI dA b0 d M pc ls (vR x :: st) h P := by
  intro p e R s m args below meth c H locs cells slots LS Q hF hW hR hRp ho hl hL hQ
  cases x with
  | none => exact lv_ifnullN hF.1 hF.2.1 hd ht (k1 rfl p e R s m args below meth c H locs cells slots LS Q hF hW hR hRp ho hl hL hQ)
  | some a => exact lv_ifnull hF.1 hF.2.1 hd (k2 (by simp) p e R s m args below meth c H locs cells slots LS Q hF hW hR hRp ho hl hL hQ)
theorem sx_ifnonnull {off : Int} {tgt : Nat} {x : Option Nat} (hd : decode (mB M) pc = .ok (.ifnonnull off, 3)) (ht : (pc : Int) + off = (tgt : Int)) (k1 : x = none → SX l dC dI dA b0 d M (pc + 3) ls st h P) (k2 : ¬ x = none → SX l dC dI dA b0 d M tgt ls st h P) : SX l dC dI dA b0 d M pc ls (vR x :: st) h P := by
  intro p e R s m args below meth c H locs cells slots LS Q hF hW hR hRp ho hl hL hQ
  cases x with
  | none => exact lv_ifnonnullN hF.1 hF.2.1 hd (k1 rfl p e R s m args below meth c H locs cells slots LS Q hF hW hR hRp ho hl hL hQ)
  | some a => exact lv_ifnonnull hF.1 hF.2.1 hd ht (k2 (by simp) p e R s m args below meth c H locs cells slots LS Q hF hW hR hRp ho hl hL hQ)
theorem sx_goto {off : Int} {tgt : Nat} (hd : decode (mB M) pc = .ok (.goto off, 3)) (ht : (pc : Int) + off = (tgt : Int)) (k : SX l dC dI dA b0 d M tgt ls st h P) : SX l dC dI dA b0 d M pc ls st h P := by
  intro p e R s m args below meth c H locs cells slots LS Q hF hW hR hRp ho hl hL hQ
  exact lv_goto hF.1 hF.2.1 hd ht (k p e R s m args below meth c H locs cells slots LS Q hF hW hR hRp ho hl hL hQ)
theorem swQ_at {x lo : Int32} {K : Nat → Prop} : ∀ (L : List Nat) (lo : Int32) (j : Nat), swQ x K lo L → j < L.length → x = lo + nI j → ∃ t, L[j]? = some t ∧ K t
  | [], _, j, _, hj, _ => absurd hj (Nat.not_lt_zero j)
  | t :: r, lo, 0, h, _, hx => ⟨t, rfl, h.1 (by rw [hx, nI_0]; simp)⟩
  | t :: r, lo, j + 1, h, hj, hx => by
    obtain ⟨t', e1, e2⟩ := swQ_at (x := x) (lo := lo) r (lo + 1) j h.2 (by simpa using hj) (by rw [hx, nI_succ]; rw [Int32.add_assoc, Int32.add_comm 1])
    exact ⟨t', by simpa using e1, e2⟩
theorem sx_switch {df lo hi : Int} {offs : Array Int} {len : Nat} {x lo' : Int32} {tgt : Nat} {L : List Nat} (hd : decode (mB M) pc = .ok (.tableswitch df lo hi offs, len)) (hlo : lo'.toInt = lo) (hhi : hi = lo + L.length - 1) (hof : offs.toList.map (fun o => (pc : Int) + o) = L.map (fun t : Nat => (t : Int))) (ht : (pc : Int) + df = (tgt : Int)) (hb : lo + L.length < 2 ^ 31) (hb2 : L.length < 2 ^ 31)
    (k1 : swQ x (fun t => SX l dC dI dA b0 d M t ls st h P) lo' L) (k2 : x.toInt < lo'.toInt ∨ lo'.toInt + L.length ≤ x.toInt → SX l dC dI dA b0 d M tgt ls st h P) : SX l dC dI dA b0 d M pc ls (vI x :: st) h P := by
  by_cases hx : x.toInt < lo'.toInt ∨ lo'.toInt + L.length ≤ x.toInt
  · have k := k2 hx
    intro p e R s m args below meth c H locs cells slots LS Q hF hW hR hRp ho hl hL hQ
    exact lv_tableOut hF.1 hF.2.1 hd (by rw [hlo] at hx; rcases hx with q | q <;> omega) ht (k p e R s m args below meth c H locs cells slots LS Q hF hW hR hRp ho hl hL hQ)
  · have hx1 : ¬ x.toInt < lo'.toInt := fun q => hx (Or.inl q)
    have hx2 : ¬ lo'.toInt + L.length ≤ x.toInt := fun q => hx (Or.inr q)
    have hm := Int32.le_toInt lo'
    have hj : (x.toInt - lo).toNat < L.length := by omega
    obtain ⟨t, e1, k⟩ := swQ_at (x := x) (lo := lo') L lo' (x.toInt - lo).toNat k1 hj (by
      apply Int32.toInt_inj.mp
      rw [Int32.toInt_add, nI_toInt (by omega)]
      have h3 : lo'.toInt + ((x.toInt - lo).toNat : Int) = x.toInt := by omega
      rw [h3]
      have h1 := Int32.le_toInt x
      have h2 := Int32.toInt_lt x
      rw [Int.bmod_eq_of_le (by omega) (by omega)])
    have hlen : offs.toList.length = L.length := by have := congrArg List.length hof; simpa using this
    have h9 : (offs.toList.map (fun o => (pc : Int) + o))[(x.toInt - lo).toNat]? = some (t : Int) := by rw [hof, List.getElem?_map, e1]; rfl
    rw [List.getElem?_map] at h9
    cases ho9 : offs.toList[(x.toInt - lo).toNat]? with
    | none => rw [ho9] at h9; cases h9
    | some o =>
      rw [ho9] at h9
      intro p e R s m args below meth c H locs cells slots LS Q hF hW hR hRp ho hl hL hQ
      exact lv_tableIn (off := o) (tgt := t) hF.1 hF.2.1 hd (by omega) (by omega) (by rw [← Array.getElem?_toList]; exact ho9) (Option.some.inj h9) (k p e R s m args below meth c H locs cells slots LS Q hF hW hR hRp ho hl hL hQ)
end SX8
