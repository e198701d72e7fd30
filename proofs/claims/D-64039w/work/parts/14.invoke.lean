/-! ===== the three invoking instructions ===== -/
section INV
variable {l : Launch} {dC : Nat → ClassId} {dI : Nat → Nat → Nat} {dA : Nat → ClassId} {b0 d M pc : Nat} {ls : List AV} {h : AH} {P : PT}
theorem aOK_of {M' : Nat} : ∀ {as : List AV} {n : Nat}, aokB as n = true → (∀ v ∈ as, v ≠ vU) ∧ (lg_sl (as.map av_V)).length ≤ n
  | [], n, _ => ⟨(fun v h => by cases h), by simp [lg_sl]⟩
  | .inl x :: r, 0, h => by cases h
  | .inl x :: r, n + 1, h => by
    obtain ⟨h1, h2⟩ := aOK_of (M' := M') (as := r) (n := n) h
    refine ⟨fun v hv => ?_, ?_⟩
    · rcases List.mem_cons.mp hv with rfl | hv
      · simp
      · exact h1 v hv
    · simp only [List.map_cons, lg_sl, List.flatMap_cons, List.length_append] at h2 ⊢
      have : (av_V (.inl x)).category = 1 := rfl
      rw [if_neg (by rw [this]; decide)]
      simp only [List.length_cons, List.length_nil]; omega
  | .inr (.inl x) :: r, 0, h => by cases h
  | .inr (.inl x) :: r, 1, h => by cases h
  | .inr (.inl x) :: r, n + 2, h => by
    obtain ⟨h1, h2⟩ := aOK_of (M' := M') (as := r) (n := n) h
    refine ⟨fun v hv => ?_, ?_⟩
    · rcases List.mem_cons.mp hv with rfl | hv
      · simp
      · exact h1 v hv
    · simp only [List.map_cons, lg_sl, List.flatMap_cons, List.length_append] at h2 ⊢
      have : (av_V (.inr (.inl x))).category = 2 := rfl
      rw [if_pos this]
      simp only [List.length_cons, List.length_nil]; omega
  | .inr (.inr (.inl x)) :: r, 0, h => by cases h
  | .inr (.inr (.inl x)) :: r, n + 1, h => by
    obtain ⟨h1, h2⟩ := aOK_of (M' := M') (as := r) (n := n) h
    refine ⟨fun v hv => ?_, ?_⟩
    · rcases List.mem_cons.mp hv with rfl | hv
      · simp
      · exact h1 v hv
    · simp only [List.map_cons, lg_sl, List.flatMap_cons, List.length_append] at h2 ⊢
      have : (av_V (.inr (.inr (.inl x)))).category = 1 := by cases x <;> rfl
      rw [if_neg (by rw [this]; decide)]
      simp only [List.length_cons, List.length_nil]; omega
  | .inr (.inr (.inr x)) :: r, n, h => by cases n <;> cases h
theorem sn_callW {M' : Nat} {as rest : List AV} {stk : List Value} {ig : Instr} (hM : mOK M') (hm30 : mL M' ≤ 30) (hs : hsOK (mO M) (mX M) (mH M)) (hd : decode (mB M) pc = .ok (ig, 3)) (hq : calQ (SX l dC dI dA b0) d M P pc ls rest M' as h)
    {p : Program} {e : Env} {R : Room} {s : State} {m : MethodId} {args : Array Value} {below : List Frame} {meth : Method} {c : Code} {H : Heap} {locs : List Loc} {cells slots : Nat} {LS : Array Slot} {Q : State → Prop}
    (hF : sn_F p s m meth c M) (hW : sn_W dC dI dA b0 s) (hRm : d + 20 ≤ R.frames ∧ 60 * d + 200 ≤ R.locals ∧ cells + hC h ≤ R.cells ∧ slots + hS h ≤ R.slots) (hRp : sn_R dC dI dA b0 s h H) (ho : ∀ q, q < b0 → H[q]? = s.heap[q]?) (hl : ∀ q ∈ locs, b0 ≤ q.base) (hLc : sn_L LS (mL M) ls)
    (hQ : ∀ o h' t, P o h' → sn_E dC dI dA b0 s below (cells + hC h) (slots + hS h) t o h' → Q t)
    (hstep : ∀ T : State, T.heap = H → Stand p l e R s m args below meth c T locs cells slots → ∃ (vm₁ : Vm) (mk : MethodId), Stand p l e R s m args below meth c (T.setVm vm₁) locs cells slots ∧ s.methodNamed? (mY M') = some mk ∧
      ∀ target, (∀ acts, Steps p.tables e below (doInvoke e ((T.setVm vm₁).setTop (F0 m pc LS (rest.map av_V))) acts mk (as.map av_V).toArray).1 target) → Steps p.tables e below (T.setTop (F0 m pc LS stk)) target) :
    W p l e R s m args below meth c H locs cells slots Q (F0 m pc LS stk) := by
  cases d with
  | zero => exact hq.elim
  | succ d' =>
    obtain ⟨hr4, hab, hX⟩ := hq
    have ha := aOK_of (M' := M') hab
    intro T hT9 X
    obtain ⟨vm₁, mk, X₁, hnm, hgo⟩ := hstep T hT9 X
    have hcat := cat_sum rest 4 hr4
    have hWT : sn_W dC dI dA b0 (T.setVm vm₁) := hW.moved X₁.warmed (fun q hq => by show T.heap[q]? = _; rw [hT9]; exact ho q hq)
    have hRT : sn_R dC dI dA b0 (T.setVm vm₁) h (T.setVm vm₁).heap := by
      show sn_R dC dI dA b0 (T.setVm vm₁) h T.heap
      rw [hT9]; exact hRp.moved X₁.warmed.alike
    obtain ⟨o, h', T', L, k, n, hp, r1, r2, r3, r4, r5, X', hst⟩ := sn_enter hM ha.1 ha.2 hm30 hX X₁ (g := F0 m pc LS (rest.map av_V)) rfl (by rw [hF.2.2.1]; exact hLc.1) (by rw [hF.2.1]; exact hd) (by show 2 * 0 + ((rest.map av_V).map fun v => v.category).sum ≤ 8; omega) hnm hWT hRm hRT
    have hR' : d' + 1 + 20 ≤ R.frames ∧ 60 * (d' + 1) + 200 ≤ R.locals ∧ cells + k + hC h' ≤ R.cells ∧ slots + n + hS h' ≤ R.slots := ⟨hRm.1, hRm.2.1, by omega, by omega⟩
    have hRp' : sn_R dC dI dA b0 s h' T'.heap := r1.moved X₁.warmed.alike.symm
    have ho' : ∀ q, q < b0 → T'.heap[q]? = s.heap[q]? := fun q hq => by
      rw [r2 q hq]; show T.heap[q]? = _; rw [hT9]; exact ho q hq
    have hl' : ∀ q ∈ locs ++ L, b0 ≤ q.base := fun q hq => by
      rcases List.mem_append.mp hq with z | z
      · exact hl q z
      · exact r3 q z
    have hQ' : ∀ o h2 t, P o h2 → sn_E dC dI dA b0 s below (cells + k + hC h') (slots + n + hS h') t o h2 → Q t := fun o h2 t hp he => hQ o h2 t hp (by
      rw [show cells + hC h = cells + k + hC h' by omega, show slots + hS h = slots + n + hS h' by omega]; exact he)
    cases o with
    | inl v =>
      have hp : SX l dC dI dA b0 (d' + 1) M (pc + 3) ls (v.toList ++ rest) h' P := hp
      obtain ⟨t, a1, b1⟩ := hp p e R s m args below meth c T'.heap (locs ++ L) (cells + k) (slots + n) LS Q hF hW hR' hRp' ho' hl' hLc hQ' T' rfl X'
      refine ⟨t, hgo t (fun acts => ?_), b1⟩
      rw [doInvoke_state]
      refine hst.trans ?_
      rw [show (v.map av_V).toList ++ (F0 m pc LS (rest.map av_V)).stack = (v.toList ++ rest).map av_V by cases v <;> rfl]
      exact a1
    | inr a =>
      have hp : thrQ (SX l dC dI dA b0) (d' + 1) M P pc ls a h' := hp
      obtain ⟨t, a1, b1⟩ := sn_thr (stk := rest.map av_V) hs hp hF hW hR' hRp' ho' hl' hLc hQ' rfl X'
      exact ⟨t, hgo t (fun acts => by rw [doInvoke_state]; exact hst.trans a1), b1⟩
/-- invokestatic -/
def sOK (o i M' n : Nat) : Prop := Jvm.Cond.methodLink (oN o) i (mY M') ∈ lw_tbl ∧ Jvm.Cond.static (mY M') ∈ lw_tbl ∧ (parseMethodDescriptor (mY M').desc).map (fun d => d.parameters.length) = some n
theorem len_of {x : MethodName} {n : Nat} (h : (parseMethodDescriptor x.desc).map (fun d => d.parameters.length) = some n) {sig : MethodDescriptor} (hs : parseMethodDescriptor x.desc = some sig) : n = sig.parameters.length := by
  rw [hs] at h
  exact (Option.some.inj h).symm
theorem sx_invS {i n M' : Nat} {st : List AV} (hM : mOK M') (hm30 : mL M' ≤ 30) (hs : hsOK (mO M) (mX M) (mH M)) (hk : sOK (mO M) i M' n) (hd : decode (mB M) pc = .ok (.invokestatic i, 3)) (hn : n ≤ st.length) (hq : calQ (SX l dC dI dA b0) d M P pc ls (st.drop n) M' (st.take n).reverse h) :
    SX l dC dI dA b0 d M pc ls st h P := by
  intro p e R s m args below meth c H locs cells slots LS Q hF hW hRm hRp ho hl hLc hQ
  refine sn_callW hM hm30 hs hd hq hF hW hRm hRp ho hl hLc hQ (fun T hT9 X => ?_)
  obtain ⟨mk, methM, cM, hnamed, hmethM, -, -, -, -, -, -, hsigM⟩ := Cond.codeWith_spec (sn_code hW hM (A := args))
  have hstatic : methM.isStatic = true := Cond.static_spec hnamed hmethM (hW.use (A := args) hk.2.1 rfl)
  obtain ⟨kP, hkP, -⟩ := className_of_methodNamed hnamed
  have hinitP : kP.init = .initialized := Cond.initialized_spec (findClass_of_methodNamed hnamed) hkP (hW.use (A := args) hM.2.1 rfl)
  obtain ⟨vm₁, X₁, hstep₁⟩ := X.invokestatic hF.1 hF.2.2.2.2.2.1 (hW.use hk.1 rfl) hnamed hmethM hstatic hkP hinitP hM.2.2.2.2 (g := F0 m pc LS (st.map av_V)) rfl (argsL := (st.take n).reverse.map av_V) (rest := (st.drop n).map av_V) (by
    simp only [List.length_map, List.length_reverse, List.length_take, Nat.min_eq_left hn]
    exact len_of hk.2.2 hsigM) (by
    show st.map av_V = _
    rw [← List.map_reverse, List.reverse_reverse, ← List.map_append, List.take_append_drop]) (by rw [hF.2.1]; exact hd)
  exact ⟨vm₁, mk, X₁, hnamed, hstep₁⟩
/-- invokespecial of a constructor: through a method of its own, or of a nest mate -/
def iOK (o i M' n : Nat) : Prop := (mY M').name = "<init>" ∧ mX M' = [] ∧ mR M' = none ∧ (Jvm.Cond.methodLink (oN o) i (mY M') ∈ lw_tbl ∨ ∃ host, Jvm.Cond.methodLinkNest (oN o) i (mY M') host ∈ lw_tbl) ∧ Jvm.Cond.instanceMethod (mY M') ∈ lw_tbl ∧ (parseMethodDescriptor (mY M').desc).map (fun d => d.parameters.length) = some n
theorem sx_invI {i n M' a : Nat} {as rest : List AV} (hM : mOK M') (hm30 : mL M' ≤ 30) (hs : hsOK (mO M) (mX M) (mH M)) (hk : iOK (mO M) i M' n) (hd : decode (mB M) pc = .ok (.invokespecial i, 3)) (hn : as.length = n) (hq : calQ (SX l dC dI dA b0) d M P pc ls rest M' (vR (some a) :: as) h) :
    SX l dC dI dA b0 d M pc ls (as.reverse ++ vR (some a) :: rest) h P := by
  intro p e R s m args below meth c H locs cells slots LS Q hF hW hRm hRp ho hl hLc hQ
  refine sn_callW hM hm30 hs hd hq hF hW hRm hRp ho hl hLc hQ (fun T hT9 X => ?_)
  have hpl : e.platform.magicAccessors = ({} : Platform).magicAccessors := by rw [X.admits.platform]
  have hcode : (Cond.code (mY M') (mB M') (mL M') none).before args s = true := by
    have h1 := sn_code hW hM (A := args)
    unfold mW at h1
    rw [hk.2.1, hk.2.2.1] at h1
    simp only [Cond.before, Cond.holds] at h1 ⊢
    rw [Cond.code_iff_codeWith_nil]
    exact h1
  have hlen : ∀ sig, parseMethodDescriptor (mY M').desc = some sig → (as.map av_V).length = sig.parameters.length := fun sig hsg => by
    rw [List.length_map, hn]; exact len_of hk.2.2.2.2.2 hsg
  have hstk : (F0 m pc LS ((as.reverse ++ vR (some a) :: rest).map av_V)).stack = (as.map av_V).reverse ++ .ref a :: rest.map av_V := by
    show (as.reverse ++ vR (some a) :: rest).map av_V = _
    rw [List.map_append, List.map_reverse]; rfl
  rcases hk.2.2.2.1 with hw | ⟨host, hw⟩
  · obtain ⟨mk, methM, cM, kP, vm₁, hnamed, hmethM, hcodeM, -, hlocalsM, -, hkP, -, hW₁, hstep₁⟩ := Steps.initColdArgs (e := e) X.here hF.1 X.warmed hpl hF.2.2.2.2.2.1 hk.1 hM.2.2.2.2 (hW.use hw rfl) (hW.use hk.2.2.2.2.1 rfl) hcode (f := F0 m pc LS ((as.reverse ++ vR (some a) :: rest).map av_V)) rfl hlen hstk (by rw [hF.2.1]; exact hd)
    exact ⟨vm₁, mk, X.noted hW₁, hnamed, hstep₁⟩
  · obtain ⟨mk, methM, cM, kP, vm₁, hnamed, hmethM, hcodeM, -, hlocalsM, -, hkP, -, hW₁, hstep₁⟩ := Steps.initColdArgsNest (e := e) X.here hF.1 X.warmed hpl hF.2.2.2.2.2.1 hk.1 hM.2.2.2.2 (hW.use hw rfl) (hW.use hk.2.2.2.2.1 rfl) hcode (f := F0 m pc LS ((as.reverse ++ vR (some a) :: rest).map av_V)) rfl hlen hstk (by rw [hF.2.1]; exact hd)
    exact ⟨vm₁, mk, X.noted hW₁, hnamed, hstep₁⟩
/-- invokevirtual: the reference names x; a receiver of the class c selects M' -/
def vOK (o i n c M' : Nat) : Prop := ∃ x : MethodName, Jvm.Cond.methodLink (oN o) i x ∈ lw_tbl ∧ Jvm.Cond.selects (oN c) x (mY M') ∈ lw_tbl ∧ c < 17 ∧ Jvm.Cond.instanceMethod (mY M') ∈ lw_tbl ∧ (parseMethodDescriptor x.desc).map (fun d => d.parameters.length) = some n ∧
  (x = mY M' ∨ ∃ owner, Jvm.Cond.sameMethod x.cls owner x.name x.desc ∈ lw_tbl ∧ Jvm.Cond.declares ⟨owner, x.name, x.desc⟩ ∈ lw_tbl ∧ owner ≠ "java/lang/invoke/MethodHandle" ∧ owner ≠ "java/lang/invoke/VarHandle")
theorem sx_invV {i n M' b cc nn : Nat} {as rest : List AV} (hM : mOK M') (hm30 : mL M' ≤ 30) (hs : hsOK (mO M) (mX M) (mH M)) (hk : vOK (mO M) i n cc M') (hd : decode (mB M) pc = .ok (.invokevirtual i, 3)) (hn : as.length = n) (ht : hT h b = some (cc, nn)) (hq : calQ (SX l dC dI dA b0) d M P pc ls rest M' (vR (some b) :: as) h) :
    SX l dC dI dA b0 d M pc ls (as.reverse ++ vR (some b) :: rest) h P := by
  intro p e R s m args below meth c H locs cells slots LS Q hF hW hRm hRp ho hl hLc hQ
  refine sn_callW hM hm30 hs hd hq hF hW hRm hRp ho hl hLc hQ (fun T hT9 X => ?_)
  obtain ⟨x, w1, w2, hc17, w3, w4, w5⟩ := hk
  obtain ⟨-, cellB, hcB, hclB, hvB, -⟩ := sn_obj hc17 hRp ht
  have hfc : s.vm.findClass (oN cc) = some cellB.cls := by rw [hclB]; exact (hW.2.1.1 cc hc17).2.1
  have hobj : ∀ z, cellB.vm ≠ .statics z := fun z q => by rw [hvB] at q; cases q
  have hstk : (F0 m pc LS ((as.reverse ++ vR (some b) :: rest).map av_V)).stack = (as.map av_V).reverse ++ .ref b :: rest.map av_V := by
    show (as.reverse ++ vR (some b) :: rest).map av_V = _
    rw [List.map_append, List.map_reverse]; rfl
  obtain ⟨mk, methM, hnamed, hmethM, hstM, habM⟩ := Cond.instanceMethod_spec (hW.use (A := args) w3 rfl)
  obtain ⟨c2, r2, m2, q1, q2, q3, q4, kP, hkP, hkPi⟩ := Cond.selects_spec (hW.use (A := args) w2 rfl)
  cases hfc.symm.trans q1
  cases hnamed.symm.trans q3
  rcases w5 with rfl | ⟨owner, w6, w7, w8⟩
  · obtain ⟨mk', methM', cM', h0, h1, -, -, -, -, -, -, hsigM⟩ := Cond.codeWith_spec (sn_code hW hM (A := args))
    cases hnamed.symm.trans h0
    cases hmethM.symm.trans h1
    cases (State.methodFound?_of_named hnamed hM.2.2.2.2).symm.trans q2
    have hselP : selectMethod e.platform s.vm cellB.cls mk = .method mk := by rw [Launch.admits_selectMethod X.admits]; exact q4
    obtain ⟨vm₁, X₁, hstep₁⟩ := X.invokevirtual hF.1 hF.2.2.2.2.2.1 (hW.use w1 rfl) hnamed hmethM hstM hkP hkPi hM.2.2.2.2 (a := b) (cell := cellB) (by rw [hT9]; exact hcB) hobj hselP hmethM habM hkP hkPi (g := F0 m pc LS ((as.reverse ++ vR (some b) :: rest).map av_V)) rfl (argsL := as.map av_V) (rest := rest.map av_V) (by rw [List.length_map, hn]; exact len_of w4 hsigM) hstk (by rw [hF.2.1]; exact hd)
    exact ⟨vm₁, mk, X₁, hnamed, hstep₁⟩
  · obtain ⟨r0, r, hn0, hrm, hstR, hsigR⟩ := va_Decl.abs (va_Nw.of rfl (hW.use (A := args) w7 rfl))
    obtain ⟨cn, ck, r1, hcn, hck, hni, hf, hn1⟩ := Cond.sameMethod_found (hW.use (A := args) w6 rfl)
    cases Option.some.inj (hn0.symm.trans hn1)
    have e9 : r2 = r0 := Option.some.inj (q2.symm.trans hf)
    subst e9
    have hselP : selectMethod e.platform s.vm cellB.cls r2 = .method mk := by rw [Launch.admits_selectMethod X.admits]; exact q4
    obtain ⟨vm₁, X₁, hstep₁⟩ := X.invokevirtualUp hF.1 hF.2.2.2.2.2.1 (hW.use w1 rfl) (hW.use (A := args) w6 rfl) w8 hn0 hrm hstR (a := b) (cell := cellB) (by rw [hT9]; exact hcB) hobj hselP hmethM habM hkP hkPi (g := F0 m pc LS ((as.reverse ++ vR (some b) :: rest).map av_V)) rfl (argsL := as.map av_V) (rest := rest.map av_V) (by rw [List.length_map, hn]; exact len_of w4 hsigR) hstk (by rw [hF.2.1]; exact hd)
    exact ⟨vm₁, mk, X₁, hnamed, hstep₁⟩
end INV
