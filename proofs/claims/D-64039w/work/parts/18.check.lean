/-! ===== every instruction of the tables is the machine's: decided ===== -/
def prB (f : Nat → Nat → Bool) : List Nat → Bool
  | c :: m :: r => f c m && prB f r
  | [] => true
  | [_] => false
theorem prB_at {f : Nat → Nat → Bool} : ∀ {L : List Nat} {c M' : Nat}, prB f L = true → dsp L c = some M' → f c M' = true
  | [], _, _, _, h => by cases h
  | [_], _, _, h, _ => by cases h
  | a :: m :: r, c, M', h, hd => by
    simp only [prB, Bool.and_eq_true] at h
    unfold dsp at hd
    split at hd
    · rename_i e; cases hd; rw [e]; exact h.1
    · exact prB_at h.2 hd
def isO (t : Option FieldType) : Bool := match t with
  | some (.object _) => true
  | _ => false
def isI (v : AV) (p : Int32 → Bool) : Bool := match v with
  | .inl x => p x
  | _ => false
def isL (v : AV) (p : Int64 → Bool) : Bool := match v with
  | .inr (.inl x) => p x
  | _ => false
def ckN (M pc i aux : Nat) : Bool := match fetch M (pc + 4), fetch M (pc + 6) with
  | some (.ldc j, _), some (.invokespecial ic, _) => decide (60 ≤ aux) && decide (decode (mB M) (pc + 3) = .ok (.dup, 1)) && decide (decode (mB M) (pc + 4) = .ok (.ldc j, 2)) && decide (decode (mB M) (pc + 6) = .ok (.invokespecial ic, 3)) && decide (decode (mB M) (pc + 9) = .ok (.athrow, 1)) &&
      lk_X.any (fun r => r.1 == mO M && r.2.1 == i && r.2.2.1 == aux - 60 && r.2.2.2.1 == j && r.2.2.2.2.1 == ic) && (mX M).all (fun x => !(Nat.ble x.1 (pc + 9) && Nat.blt (pc + 9) x.2.1))
  | _, _ => false
def ckI (M pc : Nat) (e : EI) : Bool := match e.1 with
  | .aconst_null | .iadd | .isub | .imul | .iand | .idiv | .ladd | .lor | .lshl | .lcmp | .i2l | .pop | .dup | .dup_x1 | .dup2 | .iaload | .baload | .laload | .aaload | .iastore | .bastore | .lastore | .aastore | .arraylength => e.2.1 == 1
  | .iconst n => e.2.1 == 1 && decide (e.2.2.2.1 = vI (Int32.ofInt n))
  | .bipush n => e.2.1 == 2 && decide (e.2.2.2.1 = vI (Int8.ofInt n).toInt32)
  | .sipush n => e.2.1 == 3 && decide (e.2.2.2.1 = vI (Int16.ofInt n).toInt32)
  | .lconst n => e.2.1 == 1 && decide (e.2.2.2.1 = vL (Int64.ofNat (n : Nat)))
  | .ldc i => e.2.1 == 2 && (e.2.2.1 == 1 || isI e.2.2.2.1 (fun v => lk_Ki.any (fun r => r.1 == mO M && r.2.1 == i && decide (r.2.2.1 = v))))
  | .ldc2_w i => e.2.1 == 3 && isL e.2.2.2.1 (fun v => lk_Kl.any (fun r => r.1 == mO M && r.2.1 == i && decide (r.2.2.1 = v)))
  | .iload i | .lload i | .aload i => e.2.1 == 2 && e.2.2.1 == i
  | .iload_n n | .lload_n n | .aload_n n => e.2.1 == 1 && e.2.2.1 == (n : Nat)
  | .istore i | .astore i => e.2.1 == 2 && e.2.2.1 == i && decide (i < mL M)
  | .istore_n n | .astore_n n => e.2.1 == 1 && e.2.2.1 == (n : Nat) && decide ((n : Nat) < mL M)
  | .lstore i => e.2.1 == 2 && e.2.2.1 == i && decide (i + 1 < mL M)
  | .lstore_n n => e.2.1 == 1 && e.2.2.1 == (n : Nat) && decide ((n : Nat) + 1 < mL M)
  | .iinc i n => e.2.1 == 3 && e.2.2.1 == i && decide (i < mL M) && decide (e.2.2.2.1 = vI (Int32.ofInt n))
  | .ifCond _ off | .if_icmp _ off | .ifnull off | .ifnonnull off | .goto off => e.2.1 == 3 && decide ((pc : Int) + off = (e.2.2.1 : Int))
  | .tableswitch df lo hi offs => decide ((pc : Int) + df = (e.2.2.1 : Int)) && isI e.2.2.2.1 (fun v => decide (v.toInt = lo)) && decide (hi = lo + e.2.2.2.2.length - 1) && decide (offs.toList.map (fun o => (pc : Int) + o) = e.2.2.2.2.map (fun t : Nat => (t : Int))) && decide (lo + e.2.2.2.2.length < 2 ^ 31) && decide (e.2.2.2.2.length < 2 ^ 31)
  | .getfield i => e.2.1 == 3 && lk_F.any (fun r => r.1 == mO M && r.2.1 == i && r.2.2.1 == e.2.2.1)
  | .putfield i => e.2.1 == 3 && lk_F.any (fun r => r.1 == mO M && r.2.1 == i && r.2.2.1 == e.2.2.1) && (decide ((fD e.2.2.1).2.2.2 = false) || (decide ((mY M).name = "<init>") && decide ((fD e.2.2.1).1 = oN (mO M)))) && kOK e.2.2.1
  | .newarray a => e.2.1 == 2 && decide (e.2.2.1 < 3) && decide (newarray.typeOf a = aty e.2.2.1)
  | .anewarray i => e.2.1 == 3 && lk_A.any (fun r => r.1 == mO M && r.2.1 == i && r.2.2.1 == e.2.2.1)
  | .new i => e.2.1 == 3 && (match decide (e.2.2.1 < 50) with
    | true => lk_N.any (fun r => r.1 == mO M && r.2.1 == i && r.2.2.1 == e.2.2.1)
    | false => ckN M pc i e.2.2.1)
  | .invokevirtual i => e.2.1 == 3 && prB (fun c m => decide (m < 142) && lk_V.any (fun r => r.1 == mO M && r.2.1 == i && r.2.2.1 == e.2.2.1 && r.2.2.2.1 == c && r.2.2.2.2.1 == m)) e.2.2.2.2
  | .invokestatic i => e.2.1 == 3 && (match e.2.2.2.2 with
    | [m] => (match decide (m = 9998) with
      | true => lk_C.any (fun r => r.1 == mO M && r.2.1 == i)
      | false => decide (m < 142) && lk_S.any (fun r => r.1 == mO M && r.2.1 == i && r.2.2.1 == m && r.2.2.2.1 == e.2.2.1))
    | _ => true)
  | .invokespecial i => e.2.1 == 3 && (match e.2.2.2.2 with
    | [m] => (match decide (m = 9999) with
      | true => lk_O.any (fun r => r.1 == mO M && r.2.1 == i)
      | false => decide (m < 142) && decide (1 ≤ e.2.2.1) && lk_I.any (fun r => r.1 == mO M && r.2.1 == i && r.2.2.1 == m && r.2.2.2.1 == e.2.2.1 - 1))
    | _ => true)
  | .ireturn => e.2.1 == 1 && (decide (mR M = some .int) || (decide (mR M = some .boolean) && mZ M))
  | .lreturn => e.2.1 == 1 && decide (mR M = some .long)
  | .areturn => e.2.1 == 1 && isO (mR M)
  | .return_ => e.2.1 == 1 && decide (mR M = none)
  | .athrow => true
  | _ => false
def ckB (M : Nat) (q : Nat × EI) : Bool := decide (decode (mB M) q.1 = .ok (q.2.1, q.2.2.1)) && ckI M q.1 q.2
