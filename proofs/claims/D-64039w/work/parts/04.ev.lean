/-! ===== THE INTERPRETER AS A PREDICATE TRANSFORMER ===== -/
abbrev PT : Type := (Option AV ⊕ Nat) → AH → Prop
/-- depth, method, pc, locals, stack, heap, post -/
abbrev FT : Type := Nat → Nat → Nat → List AV → List AV → AH → PT → Prop
def pI (st : List AV) (f : Int32 → List AV → Prop) : Prop := match st with
  | .inl x :: r => f x r
  | _ => False
def pL (st : List AV) (f : Int64 → List AV → Prop) : Prop := match st with
  | .inr (.inl x) :: r => f x r
  | _ => False
def pR (st : List AV) (f : Option Nat → List AV → Prop) : Prop := match st with
  | .inr (.inr (.inl x)) :: r => f x r
  | _ => False
def pA (st : List AV) (f : Nat → List AV → Prop) : Prop := match st with
  | .inr (.inr (.inl (some x))) :: r => f x r
  | _ => False
theorem pI_inv {st : List AV} {f : Int32 → List AV → Prop} (h : pI st f) : ∃ x r, st = vI x :: r ∧ f x r := by
  unfold pI at h; split at h
  · exact ⟨_, _, rfl, h⟩
  · exact h.elim
theorem pL_inv {st : List AV} {f : Int64 → List AV → Prop} (h : pL st f) : ∃ x r, st = vL x :: r ∧ f x r := by
  unfold pL at h; split at h
  · exact ⟨_, _, rfl, h⟩
  · exact h.elim
theorem pR_inv {st : List AV} {f : Option Nat → List AV → Prop} (h : pR st f) : ∃ x r, st = vR x :: r ∧ f x r := by
  unfold pR at h; split at h
  · exact ⟨_, _, rfl, h⟩
  · exact h.elim
theorem pA_inv {st : List AV} {f : Nat → List AV → Prop} (h : pA st f) : ∃ x r, st = vR (some x) :: r ∧ f x r := by
  unfold pA at h; split at h
  · exact ⟨_, _, rfl, h⟩
  · exact h.elim
theorem pI_mono {st : List AV} {f g : Int32 → List AV → Prop} (h : ∀ x r, f x r → g x r) (k : pI st f) : pI st g := by
  obtain ⟨x, r, rfl, k⟩ := pI_inv k; exact h x r k
theorem pL_mono {st : List AV} {f g : Int64 → List AV → Prop} (h : ∀ x r, f x r → g x r) (k : pL st f) : pL st g := by
  obtain ⟨x, r, rfl, k⟩ := pL_inv k; exact h x r k
theorem pR_mono {st : List AV} {f g : Option Nat → List AV → Prop} (h : ∀ x r, f x r → g x r) (k : pR st f) : pR st g := by
  obtain ⟨x, r, rfl, k⟩ := pR_inv k; exact h x r k
theorem pA_mono {st : List AV} {f g : Nat → List AV → Prop} (h : ∀ x r, f x r → g x r) (k : pA st f) : pA st g := by
  obtain ⟨x, r, rfl, k⟩ := pA_inv k; exact h x r k
def lg (ls : List AV) (k : Nat) : AV := ls.getD k vU
/-- a store in the locals: a long at the place before falls -/
def kl (v : AV) : AV := match v with
  | .inr (.inl _) => vU
  | w => w
def st1 : List AV → Nat → AV → List AV
  | [], _, _ => []
  | _ :: xs, 0, v => v :: xs
  | x :: xs, 1, v => kl x :: st1 xs 0 v
  | x :: xs, n + 2, v => x :: st1 xs (n + 1) v
def st2 : List AV → Nat → AV → List AV
  | [], _, _ => []
  | _ :: xs, 0, v => v :: xs.set 0 vU
  | x :: xs, 1, v => kl x :: st2 xs 0 v
  | x :: xs, n + 2, v => x :: st2 xs (n + 1) v
def cQ (c : ClassFile.Cond) (x y : Int32) : Prop := match c with
  | .eq => x = y
  | .ne => ¬ x = y
  | .lt => x < y
  | .ge => y ≤ x
  | .gt => y < x
  | .le => x ≤ y
def brQ (c A B : Prop) : Prop := (c → A) ∧ (¬ c → B)
def idsOf (c : Nat) : List Nat := x_ids.getD c []
def fok (h : AH) (a f : Nat) : Prop := (match hT h a with
  | some t => (idsOf t.1).contains f
  | none => false) = true
/-- an index within an array of the type ty -/
def ain (h : AH) (a ty : Nat) (i : Int32) : Prop := ∃ n, hT h a = some (100 + ty, n) ∧ vp_in i n
def aIn (h : AH) (a : Nat) (i : Int32) : Prop := ∃ n, (hT h a = some (100, n) ∨ hT h a = some (107, n)) ∧ vp_in i n
/-- the class of the elements of an array of references -/
def cmpC (ty : Nat) : Nat := if ty = 3 then 9 else if ty = 4 then 7 else if ty = 5 then 14 else 12
def aRf (h : AH) (a : Nat) (i : Int32) : Prop := ∃ ty n, 3 ≤ ty ∧ ty ≤ 6 ∧ hT h a = some (100 + ty, n) ∧ vp_in i n
def aRs (h : AH) (a : Nat) (i : Int32) (r : Option Nat) : Prop := ∃ ty n, 3 ≤ ty ∧ ty ≤ 6 ∧ hT h a = some (100 + ty, n) ∧ vp_in i n ∧ ∀ b, r = some b → ∃ k, hT h b = some (cmpC ty, k)
def isB (x : Int32) : Prop := x = 0 ∨ x = 1
def fgt (h : AH) (a f : Nat) : AV := match f % 4 with
  | 1 => vL (hL h a f)
  | 2 => vR (hR h a f)
  | _ => vI (hI h a f)
/-- a switch: the targets from lo on -/
def swQ (x : Int32) (K : Nat → Prop) : Int32 → List Nat → Prop
  | _, [] => True
  | lo, t :: r => (x = lo → K t) ∧ swQ x K (lo + 1) r
def dsp : List Nat → Nat → Option Nat
  | c :: m :: r, k => if k = c then some m else dsp r k
  | _, _ => none
def sl2 (v : AV) : List AV := match v with
  | .inr (.inl x) => [vL x, vU]
  | w => [w]
def ent (n : Nat) (args : List AV) : List AV := args.flatMap sl2 ++ List.replicate (n - (args.flatMap sl2).length) vU
def hfnd (hs : List (Nat × Nat × Nat × Nat)) (pc e : Nat) : Option Nat := (hs.find? (fun x => Nat.ble x.1 pc && Nat.blt pc x.2.1 && Nat.beq (50 + x.2.2.2) e)).map (fun x => x.2.2.1)
/-- an exception a has come up at pc -/
def thrQ (F : FT) (d M : Nat) (P : PT) (pc : Nat) (ls : List AV) (a : Nat) (h : AH) : Prop :=
  ∃ e n, hT h a = some (e, n) ∧ (50 ≤ e ∧ e < 55) ∧ (match hfnd (mH M) pc e with
    | some hp => F d M hp ls [vR (some a)] h P
    | none => P (.inr a) h)
/-- arguments that fit into so many locals -/
def aokB : List AV → Nat → Bool
  | [], _ => true
  | .inl _ :: r, n + 1 => aokB r n
  | .inr (.inl _) :: r, n + 2 => aokB r n
  | .inr (.inr (.inl _)) :: r, n + 1 => aokB r n
  | _, _ => false
def calQ (F : FT) (d M : Nat) (P : PT) (pc : Nat) (ls rest : List AV) (M' : Nat) (args : List AV) (h : AH) : Prop := match d with
  | 0 => False
  | d' + 1 => rest.length ≤ 4 ∧ aokB args (mL M') = true ∧ F d' M' 0 (ent (mL M') args) [] h (fun o h' => match o with
    | .inl v => F (d' + 1) M (pc + 3) ls (v.toList ++ rest) h' P
    | .inr a => thrQ F (d' + 1) M P pc ls a h')
def nSlots (c : Nat) : Nat := (idsOf c).length
def stepQ (F : FT) (d M : Nat) (P : PT) (pc : Nat) (e : EI) (ls st : List AV) (h : AH) : Prop := match e.1 with
  | .aconst_null => F d M (pc + 1) ls (vR none :: st) h P
  | .iconst _ => F d M (pc + 1) ls (e.2.2.2.1 :: st) h P
  | .bipush _ => F d M (pc + 2) ls (e.2.2.2.1 :: st) h P
  | .sipush _ => F d M (pc + 3) ls (e.2.2.2.1 :: st) h P
  | .lconst _ => F d M (pc + 1) ls (e.2.2.2.1 :: st) h P
  | .ldc _ => e.2.2.1 = 0 ∧ F d M (pc + 2) ls (e.2.2.2.1 :: st) h P
  | .ldc2_w _ => F d M (pc + 3) ls (e.2.2.2.1 :: st) h P
  | .iload _ => pI [lg ls e.2.2.1] fun x _ => F d M (pc + 2) ls (vI x :: st) h P
  | .iload_n _ => pI [lg ls e.2.2.1] fun x _ => F d M (pc + 1) ls (vI x :: st) h P
  | .lload _ => pL [lg ls e.2.2.1] fun x _ => F d M (pc + 2) ls (vL x :: st) h P
  | .lload_n _ => pL [lg ls e.2.2.1] fun x _ => F d M (pc + 1) ls (vL x :: st) h P
  | .aload _ => pR [lg ls e.2.2.1] fun x _ => F d M (pc + 2) ls (vR x :: st) h P
  | .aload_n _ => pR [lg ls e.2.2.1] fun x _ => F d M (pc + 1) ls (vR x :: st) h P
  | .istore _ => pI st fun x st => F d M (pc + 2) (st1 ls e.2.2.1 (vI x)) st h P
  | .istore_n _ => pI st fun x st => F d M (pc + 1) (st1 ls e.2.2.1 (vI x)) st h P
  | .lstore _ => pL st fun x st => F d M (pc + 2) (st2 ls e.2.2.1 (vL x)) st h P
  | .lstore_n _ => pL st fun x st => F d M (pc + 1) (st2 ls e.2.2.1 (vL x)) st h P
  | .astore _ => pR st fun x st => F d M (pc + 2) (st1 ls e.2.2.1 (vR x)) st h P
  | .astore_n _ => pR st fun x st => F d M (pc + 1) (st1 ls e.2.2.1 (vR x)) st h P
  | .iinc _ _ => pI [lg ls e.2.2.1] fun x _ => pI [e.2.2.2.1] fun c _ => F d M (pc + 3) (st1 ls e.2.2.1 (vI (x + c))) st h P
  | .iadd => pI st fun y st => pI st fun x st => F d M (pc + 1) ls (vI (x + y) :: st) h P
  | .isub => pI st fun y st => pI st fun x st => F d M (pc + 1) ls (vI (x - y) :: st) h P
  | .imul => pI st fun y st => pI st fun x st => F d M (pc + 1) ls (vI (x * y) :: st) h P
  | .iand => pI st fun y st => pI st fun x st => F d M (pc + 1) ls (vI (x &&& y) :: st) h P
  | .idiv => pI st fun y st => pI st fun x st => ¬ y = 0 ∧ F d M (pc + 1) ls (vI (x / y) :: st) h P
  | .ladd => pL st fun y st => pL st fun x st => F d M (pc + 1) ls (vL (x + y) :: st) h P
  | .lor => pL st fun y st => pL st fun x st => F d M (pc + 1) ls (vL (x ||| y) :: st) h P
  | .lshl => pI st fun y st => pL st fun x st => F d M (pc + 1) ls (vL (x <<< (y.toInt64 &&& 63)) :: st) h P
  | .lcmp => pL st fun y st => pL st fun x st => F d M (pc + 1) ls (vI (lg_cmp x y) :: st) h P
  | .i2l => pI st fun x st => F d M (pc + 1) ls (vL x.toInt64 :: st) h P
  | .pop => (pI st fun _ st => F d M (pc + 1) ls st h P) ∨ (pR st fun _ st => F d M (pc + 1) ls st h P)
  | .dup => (pI st fun x st => F d M (pc + 1) ls (vI x :: vI x :: st) h P) ∨ (pR st fun x st => F d M (pc + 1) ls (vR x :: vR x :: st) h P)
  | .dup_x1 => pI st fun x st => pR st fun y st => F d M (pc + 1) ls (vI x :: vR y :: vI x :: st) h P
  | .dup2 => pI st fun x st => pR st fun y st => F d M (pc + 1) ls (vI x :: vR y :: vI x :: vR y :: st) h P
  | .ifCond c _ => pI st fun x st => brQ (cQ c x 0) (F d M e.2.2.1 ls st h P) (F d M (pc + 3) ls st h P)
  | .if_icmp c _ => pI st fun y st => pI st fun x st => brQ (cQ c x y) (F d M e.2.2.1 ls st h P) (F d M (pc + 3) ls st h P)
  | .ifnull _ => pR st fun x st => brQ (x = none) (F d M e.2.2.1 ls st h P) (F d M (pc + 3) ls st h P)
  | .ifnonnull _ => pR st fun x st => brQ (x = none) (F d M (pc + 3) ls st h P) (F d M e.2.2.1 ls st h P)
  | .goto _ => F d M e.2.2.1 ls st h P
  | .tableswitch _ _ _ _ => pI st fun x st => pI [e.2.2.2.1] fun lo _ => swQ x (fun t => F d M t ls st h P) lo e.2.2.2.2 ∧ (x.toInt < lo.toInt ∨ lo.toInt + e.2.2.2.2.length ≤ x.toInt → F d M e.2.2.1 ls st h P)
  | .getfield _ => pA st fun a st => fok h a e.2.2.1 ∧ F d M (pc + 3) ls (fgt h a e.2.2.1 :: st) h P
  | .putfield _ => match e.2.2.1 % 4 with
    | 0 => pI st fun x st => pA st fun a st => fok h a e.2.2.1 ∧ F d M (pc + 3) ls st (wI h a e.2.2.1 x) P
    | 1 => pL st fun x st => pA st fun a st => fok h a e.2.2.1 ∧ F d M (pc + 3) ls st (wL h a e.2.2.1 x) P
    | 2 => pR st fun x st => pA st fun a st => fok h a e.2.2.1 ∧ F d M (pc + 3) ls st (wR h a e.2.2.1 x) P
    | _ => pI st fun x st => pA st fun a st => isB x ∧ fok h a e.2.2.1 ∧ F d M (pc + 3) ls st (wI h a e.2.2.1 x) P
  | .iaload => pI st fun i st => pA st fun a st => aIn h a i ∧ F d M (pc + 1) ls (vI (hI h a i.toNatClampNeg) :: st) h P
  | .baload => pI st fun i st => pA st fun a st => ain h a 1 i ∧ F d M (pc + 1) ls (vI (hI h a i.toNatClampNeg) :: st) h P
  | .laload => pI st fun i st => pA st fun a st => ain h a 2 i ∧ F d M (pc + 1) ls (vL (hL h a i.toNatClampNeg) :: st) h P
  | .aaload => pI st fun i st => pA st fun a st => aRf h a i ∧ F d M (pc + 1) ls (vR (hR h a i.toNatClampNeg) :: st) h P
  | .iastore => pI st fun x st => pI st fun i st => pA st fun a st => ain h a 0 i ∧ F d M (pc + 1) ls st (wI h a i.toNatClampNeg x) P
  | .bastore => pI st fun x st => pI st fun i st => pA st fun a st => isB x ∧ ain h a 1 i ∧ F d M (pc + 1) ls st (wI h a i.toNatClampNeg x) P
  | .lastore => pL st fun x st => pI st fun i st => pA st fun a st => ain h a 2 i ∧ F d M (pc + 1) ls st (wL h a i.toNatClampNeg x) P
  | .aastore => pR st fun x st => pI st fun i st => pA st fun a st => aRs h a i x ∧ F d M (pc + 1) ls st (wR h a i.toNatClampNeg x) P
  | .arraylength => pA st fun a st => ∃ ty n, ty ≤ 7 ∧ hT h a = some (100 + ty, n) ∧ F d M (pc + 1) ls (vI (nI n) :: st) h P
  | .newarray _ => pI st fun n st => ¬ n < 0 ∧ n.toNatClampNeg ≤ 1000 ∧ 1 ≤ hC h ∧ n.toNatClampNeg ≤ hS h ∧ F d M (pc + 2) ls (vR (some (hN h)) :: st) (al h (100 + e.2.2.1, n.toNatClampNeg) n.toNatClampNeg) P
  | .anewarray _ => pI st fun n st => ¬ n < 0 ∧ n.toNatClampNeg ≤ 1000 ∧ 1 ≤ hC h ∧ n.toNatClampNeg ≤ hS h ∧ F d M (pc + 3) ls (vR (some (hN h)) :: st) (al h (100 + e.2.2.1, n.toNatClampNeg) n.toNatClampNeg) P
  | .new _ => match decide (e.2.2.1 < 50) with
    | true => 1 ≤ hC h ∧ nSlots e.2.2.1 ≤ hS h ∧ F d M (pc + 3) ls (vR (some (hN h)) :: st) (al h (e.2.2.1, 0) (nSlots e.2.2.1)) P
    | false => 1 ≤ hC h ∧ 6 ≤ hS h ∧ st.length ≤ 4 ∧ P (.inr (hN h)) (al h (e.2.2.1 - 10, 0) 6)
  | .invokevirtual _ => e.2.2.1 ≤ st.length ∧ pA (st.drop e.2.2.1) fun b rest => ∃ c n M', hT h b = some (c, n) ∧ dsp e.2.2.2.2 c = some M' ∧ calQ F d M P pc ls rest M' (vR (some b) :: (st.take e.2.2.1).reverse) h
  | .invokestatic _ => match e.2.2.2.2 with
    | [m] => match decide (m = 9998) with
      | true => pI st fun n st => pI st fun dp st => pA st fun b st => pI st fun sp st => pA st fun a st => st.length ≤ 4 ∧ ¬ a = b ∧ ¬ sp < 0 ∧ ¬ dp < 0 ∧ ¬ n < 0 ∧ (∃ na nb, hT h a = some (100, na) ∧ hT h b = some (100, nb) ∧ sp.toNatClampNeg + n.toNatClampNeg ≤ na ∧ dp.toNatClampNeg + n.toNatClampNeg ≤ nb) ∧
        F d M (pc + 3) ls st (cpI h a sp.toNatClampNeg b dp.toNatClampNeg n.toNatClampNeg) P
      | false => e.2.2.1 ≤ st.length ∧ calQ F d M P pc ls (st.drop e.2.2.1) m (st.take e.2.2.1).reverse h
    | _ => False
  | .invokespecial _ => match e.2.2.2.2 with
    | [m] => match decide (m = 9999) with
      | true => pA st fun _ st => st.length ≤ 4 ∧ F d M (pc + 3) ls st h P
      | false => e.2.2.1 ≤ st.length ∧ (pA (st.drop (e.2.2.1 - 1)) fun _ _ => True) ∧ calQ F d M P pc ls (st.drop e.2.2.1) m (st.take e.2.2.1).reverse h
    | _ => False
  | .ireturn => pI st fun x r => r = [] ∧ (mZ M = true → isB x) ∧ P (.inl (some (vI x))) h
  | .lreturn => pL st fun x r => r = [] ∧ P (.inl (some (vL x))) h
  | .areturn => pR st fun x r => r = [] ∧ P (.inl (some (vR x))) h
  | .return_ => st = [] ∧ P (.inl none) h
  | _ => False
def stpQ (F : FT) (d M pc : Nat) (ls st : List AV) (h : AH) (P : PT) : Prop := match fetch M pc with
  | some e => stepQ F d M P pc e ls st h
  | none => False
/-- monotone in its post -/
def FMono (F : FT) : Prop := ∀ d M pc ls st h (P P' : PT), (∀ o h, P o h → P' o h) → F d M pc ls st h P → F d M pc ls st h P'
/-- THE SEMANTICS: the least monotone F with stpQ F ⊆ F -/
def Ev : FT := fun d M pc ls st h P => ∀ X : FT, FMono X → (∀ d M pc ls st h P, stpQ X d M pc ls st h P → X d M pc ls st h P) → X d M pc ls st h P
