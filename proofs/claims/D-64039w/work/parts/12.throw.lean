/-! ===== an exception comes up in a frame: the search for a handler, its classes resolved or not ===== -/
def FindsV (e : Env) (s s' : State) (f : JFrame) (a : Addr) (h : Handler) : Prop :=
  ∀ (Q : Handler → Pre) (E : CtlPost) (d : Bool) (acts : List Action), wp (findHandler f a) Q E e d acts s ↔ Q h d acts s'
theorem fh_cold {E : CtlPost} {e : Env} {d : Bool} {acts : List Action} {s : State} {f : JFrame} {a : Addr} {Q : Handler → Pre} {x : ExceptionTableEntry} {t : List ExceptionTableEntry} {c : ClassId} {cell : Cell} {vm' : Vm} (hx : covers x f.pc = true) (h0 : x.catchType ≠ 0)
    (hr : (Jvm.resolveClass f.method.cls x.catchType).Gives e.toSetting s.vm (.ok c) vm') (hsz : vm'.classes.size ≤ s.vm.classes.size) (hcell : s.heap[a]? = some cell) (hobj : ∀ k, cell.vm ≠ .statics k)
    (hk : ∃ k, vm'.classes[cell.cls]? = some k) (hc : ∃ k, vm'.classes[c]? = some k) :
    wp (findHandler.go f a (x :: t)) Q E e d acts s ↔
      if vm'.assignable cell.cls c = true then Q (.found x.handlerPc) d acts (s.setVm vm') else wp (findHandler.go f a t) Q E e d acts (s.setVm vm') := by
  simp only [covers] at hx
  have hop : (VmOp.resolveClass f.method.cls x.catchType).answer e s.vm = .ok c ∧ (VmOp.resolveClass f.method.cls x.catchType).tables e s.vm = vm' := hr.op rfl
  cases hfit : vm'.assignable cell.cls c <;>
    simp [findHandler.go, hx, h0, hop, hcell, hobj, hk, hc, hfit, VmOp.dirties, VmOp.acts, State.setVm, hsz]
/-- the raw table and the resolved one -/
def hsOK (o : Nat) : List (Nat × Nat × Nat × Nat) → List (Nat × Nat × Nat × Nat) → Prop
  | [], [] => True
  | x :: r, y :: q => (x.1 = y.1 ∧ x.2.1 = y.2.1 ∧ x.2.2.1 = y.2.2.1 ∧ x.2.2.2 ≠ 0 ∧ y.2.2.2 < 5 ∧ Jvm.Cond.classLink (oN o) x.2.2.2 (eN y.2.2.2) ∈ lw_tbl) ∧ hsOK o r q
  | _, _ => False
theorem st_cast : ∀ i, i < 5 → Jvm.Cond.castable (eN i) (eN i) ∈ lw_tbl := by decide +kernel
section THR
variable {l : Launch} {dC : Nat → ClassId} {dI : Nat → Nat → Nat} {dA : Nat → ClassId} {b0 : Nat}
theorem sn_find {p : Program} {e : Env} {s : State} {m : MethodId} {a ex : Nat} {f : JFrame} {cell : Cell} {o : Nat} (hpl : e.platform.magicAccessors = ({} : Platform).magicAccessors) (hW : sn_W dC dI dA b0 s) (hown : s.vm.findClass (oN o) = some m.cls) (hf : f.method = m) (hex : ex < 5)
    (hst : cell.vm.isStatics = false) (hcls : s.vm.findClass (eN ex) = some cell.cls) :
    ∀ (E : List ExceptionTableEntry) (hs : List (Nat × Nat × Nat × Nat)), hsOK o (E.map (fun x => (x.startPc, x.endPc, x.handlerPc, x.catchType))) hs → ∀ (U : State), s.WarmedH U.vm → U.heap[a]? = some cell →
      ∃ vm', s.WarmedH vm' ∧ ∀ (Q : Handler → Pre) (Ec : CtlPost) (d : Bool) (acts : List Action), wp (findHandler.go f a E) Q Ec e d acts U ↔ Q (match hfnd hs f.pc (50 + ex) with | some hp => .found hp | none => .none) d acts (U.setVm vm')
  | [], [], _, U, hU, _ => ⟨U.vm, hU, fun Q Ec d acts => W.findHandler_go_nil⟩
  | [], _ :: _, h, _, _, _ => h.elim
  | _ :: _, [], h, _, _, _ => h.elim
  | x :: E, y :: hs, h, U, hU, hcell => by
    obtain ⟨⟨g1, g2, g3, g4, g5, g6⟩, hrest⟩ := h
    dsimp only at g1 g2 g3 g4
    cases hx : covers x f.pc with
    | false =>
      obtain ⟨vm', hw', hq⟩ := sn_find (p := p) (s := s) (m := m) (a := a) (ex := ex) (f := f) hpl hW hown hf hex hst hcls E hs hrest U hU hcell
      refine ⟨vm', hw', fun Q Ec d acts => ?_⟩
      rw [W.findHandler_go_skip hx, hq]
      have hne : (Nat.ble y.1 f.pc && Nat.blt f.pc y.2.1 && Nat.beq (50 + y.2.2.2) (50 + ex)) = false := by
        rw [← g1, ← g2]
        have : (Nat.ble x.startPc f.pc && Nat.blt f.pc x.endPc) = covers x f.pc := by
          rw [Bool.eq_iff_iff]; simp [covers, Nat.ble_eq, Nat.blt_eq]
        rw [this, hx]; rfl
      unfold hfnd
      rw [List.find?_cons, hne]
    | true =>
      obtain ⟨c', hc', hcl⟩ := Cond.classLink_spec hown (hW.use (A := #[]) g6 rfl) e.platform hpl
      obtain ⟨dk, _, _, kt, hd, _, _, _, _, hkt, _, hopen⟩ := hcl.here
      have hcl₀ := hU.classLinks hcl
      have hW' : s.WarmedH (U.vm.noted m.cls x.catchType (.cls c')) := hU.noted hd hopen (State.rightAt_cls hcl)
      obtain ⟨kt', hkt', -⟩ := hW'.alike.2.2 _ _ hkt
      obtain ⟨kc, hkc⟩ := Vm.classAt_of_findClass hcls
      obtain ⟨kc', hkc', -⟩ := hW'.alike.2.2 _ _ hkc
      have hgo := fun (Q : Handler → Pre) (Ec : CtlPost) (d : Bool) (acts : List Action) => fh_cold (E := Ec) (e := e) (d := d) (acts := acts) (s := U) (f := f) (a := a) (Q := Q) (x := x) (t := E) (c := c') (cell := cell) (vm' := U.vm.noted m.cls x.catchType (.cls c')) hx g4 (by rw [hf]; exact resolveClass_links e.toSetting hcl₀) (by no_record) hcell (VmData.ne_statics_of hst) ⟨kc', hkc'⟩ ⟨kt', hkt'⟩
      have hcov : (Nat.ble y.1 f.pc && Nat.blt f.pc y.2.1) = true := by
        rw [← g1, ← g2]
        have : (Nat.ble x.startPc f.pc && Nat.blt f.pc x.endPc) = covers x f.pc := by
          rw [Bool.eq_iff_iff]; simp [covers, Nat.ble_eq, Nat.blt_eq]
        rw [this, hx]
      by_cases he : y.2.2.2 = ex
      · subst he
        have hasg : (U.vm.noted m.cls x.catchType (.cls c')).assignable cell.cls c' = true := by
          obtain ⟨c3, c4, hc3, hc4, hasg⟩ := Cond.castable_spec (hW.use (A := #[]) (st_cast y.2.2.2 g5) rfl)
          cases Option.some.inj (hc3.symm.trans hcls)
          cases Option.some.inj (hc4.symm.trans hc')
          rw [hW'.alike.assignable]; exact hasg
        refine ⟨_, hW', fun Q Ec d acts => ?_⟩
        rw [hgo, if_pos hasg]
        unfold hfnd
        rw [List.find?_cons, hcov]
        simp [g3]
      · have hno : (U.vm.noted m.cls x.catchType (.cls c')).assignable cell.cls c' = false := by
          obtain ⟨c3, c4, hc3, hc4, hasg⟩ := hW.2.2.2.2.2 ex y.2.2.2 hex g5 (fun q => he q.symm)
          cases Option.some.inj (hc3.symm.trans hcls)
          cases Option.some.inj (hc4.symm.trans hc')
          rw [hW'.alike.assignable]; exact hasg
        obtain ⟨vm', hw', hq⟩ := sn_find (p := p) (s := s) (m := m) (a := a) (ex := ex) (f := f) hpl hW hown hf hex hst hcls E hs hrest (U.setVm (U.vm.noted m.cls x.catchType (.cls c'))) hW' hcell
        refine ⟨vm', hw', fun Q Ec d acts => ?_⟩
        rw [hgo, if_neg (by rw [hno]; decide), hq]
        have hne : (Nat.ble y.1 f.pc && Nat.blt f.pc y.2.1 && Nat.beq (50 + y.2.2.2) (50 + ex)) = false := by
          rw [hcov, Bool.true_and]
          cases hb : Nat.beq (50 + y.2.2.2) (50 + ex) with
          | false => rfl
          | true => exact absurd (Nat.eq_of_beq_eq_true hb) (by omega)
        unfold hfnd
        rw [List.find?_cons, hne]
        rfl
theorem th_catch {e : Env} {s s' : State} {a : Addr} {f : JFrame} {r : List Frame} {pc : Nat} (hfind : FindsV e s s' f a (.found pc)) :
    (stepThrowing e s a (.java f :: r)).Is (s'.setFrames (.java { f with pc := pc, stack := [.ref a] } :: r)) [] := by
  simp only [stepThrowing, searchFrame, vmDo]
  generalize hr : Sem.go _ e false [] s = res
  obtain ⟨as, rfl, ha⟩ := Sem.eq_ok_of hr (a := Handler.found pc) (s' := s') (acts' := []) (by simp [hfind _ _ _ _])
  exact ⟨rfl, ha⟩
theorem th_leave {e : Env} {s : State} {vm' : Vm} {a : Addr} {f : JFrame} {r : List Frame} {meth : Method}
    (hm : vm'.method? f.method = some meth) (hl : meth.locks = false) (hlocked : f.locked = none) (hentered : f.entered = []) (hfind : FindsV e s (s.setVm vm') f a .none) :
    (stepThrowing e s a (.java f :: r)).Is ((s.setVm vm').setFrames (.throwing a :: r)) [] := by
  simp only [stepThrowing, searchFrame, vmDo]
  generalize hr : Sem.go _ e false [] s = res
  obtain ⟨as, rfl, ha⟩ := Sem.eq_ok_of hr (a := Handler.none) (s' := s.setVm vm') (acts' := [])
    (by cases hp : e.platform.frameOwnsMonitors <;> simp [hfind _ _ _ _, hm, hl, hlocked, hentered, hp, leaveIfLocked])
  exact ⟨rfl, ha⟩
/-- an exception in a frame: to a handler of its own, or out -/
theorem sn_thr {d M pc a : Nat} {P : PT} {h : AH} {ls : List AV} (hs : hsOK (mO M) (mX M) (mH M)) (hq : thrQ (SX l dC dI dA b0) d M P pc ls a h)
    {p : Program} {e : Env} {R : Room} {s : State} {m : MethodId} {args : Array Value} {below : List Frame} {meth : Method} {c : Code} {H : Heap} {locs : List Loc} {cells slots : Nat} {LS : Array Slot} {Q : State → Prop} {stk : List Value}
    (hF : sn_F p s m meth c M) (hW : sn_W dC dI dA b0 s) (hRm : d + 20 ≤ R.frames ∧ 60 * d + 200 ≤ R.locals ∧ cells + hC h ≤ R.cells ∧ slots + hS h ≤ R.slots) (hRp : sn_R dC dI dA b0 s h H) (ho : ∀ q, q < b0 → H[q]? = s.heap[q]?) (hl : ∀ q ∈ locs, b0 ≤ q.base) (hLc : sn_L LS (mL M) ls)
    (hQ : ∀ o h' t, P o h' → sn_E dC dI dA b0 s below (cells + hC h) (slots + hS h) t o h' → Q t) {T : State} (hT9 : T.heap = H) (X : Stand p l e R s m args below meth c T locs cells slots) :
    ∃ t, Steps p.tables e below ((T.setTop (F0 m pc LS stk)).pushFrame (.throwing a)) t ∧ Q t := by
  obtain ⟨ex, n, ht, ⟨hx1, hx2⟩, hq⟩ := hq
  obtain ⟨i, rfl⟩ : ∃ i, ex = 50 + i := ⟨ex - 50, by omega⟩
  have hi : i < 5 := by omega
  obtain ⟨cell, hcell, hst, hcls⟩ : ∃ cell : Cell, H[a]? = some cell ∧ cell.vm.isStatics = false ∧ s.vm.findClass (eN i) = some cell.cls := by
    rcases hRp.2.2 a _ ht with ⟨h1, h2, h3⟩ | ⟨ty', h1, h2, h3, h4⟩ | ⟨h1, h2, h3⟩ | ⟨h1, h2, h3, cell, h4, h5, h6⟩
    · have h1 : 50 + i < 17 := h1
      omega
    · have h2 : 50 + i = 100 + ty' := h2
      omega
    · have h1 : 50 + i = 107 := h1
      omega
    · rw [show (50 + i, n).1 - 50 = i by simp] at h6
      exact ⟨cell, h4, h5, h6⟩
  have hpl : e.platform.magicAccessors = ({} : Platform).magicAccessors := by rw [X.admits.platform]
  generalize hg : F0 m pc LS stk = g
  have hgm : g.method = m := by rw [← hg]
  have hgpc : g.pc = pc := by rw [← hg]
  have hlk : g.locked = none := by rw [← hg]
  have hen : g.entered = [] := by rw [← hg]
  have hAt : At T g.method c below := by rw [hgm]; exact X.here
  have hvm : ((T.setTop g).pushFrame (.throwing a)).vm = T.vm := Stand.throwing_vm T g a
  have hhp : ((T.setTop g).pushFrame (.throwing a)).heap = T.heap := Stand.throwing_heap T g a
  obtain ⟨vm', hw', hfind⟩ := sn_find (p := p) (e := e) (s := s) (m := m) (a := a) (ex := i) (f := g) (cell := cell) (o := mO M) hpl hW hF.2.2.2.2.2.1 hgm hi hst hcls c.exceptionTable.toList (mH M) (by rw [hF.2.2.2.2.2.2.2]; exact hs) ((T.setTop g).pushFrame (.throwing a)) (by rw [hvm]; exact X.warmed) (by rw [hhp, hT9]; exact hcell)
  rw [hgpc] at hfind
  have hmeth : ((T.setTop g).pushFrame (.throwing a)).vm.method? g.method = some meth := by rw [hvm, hgm]; exact X.method'
  have hFv : ∀ r, (match hfnd (mH M) pc (50 + i) with | some hp => Handler.found hp | none => Handler.none) = r → FindsV e ((T.setTop g).pushFrame (.throwing a)) (((T.setTop g).pushFrame (.throwing a)).setVm vm') g a r := by
    rintro r rfl Q Ec d acts
    rw [W.findHandler_eq hmeth X.code]
    exact hfind Q Ec d acts
  have X' := X.noted hw'
  obtain ⟨hgo, hwi⟩ := hAt.throwing a
  obtain ⟨g₀, hg0⟩ := Option.isSome_iff_exists.mp hAt.top
  obtain ⟨r, hr⟩ := State.topJava?_eq_some.mp hg0
  cases hfd : hfnd (mH M) pc (50 + i) with
  | some hp =>
    rw [hfd] at hq
    obtain ⟨t, st, hqt⟩ := hq p e R s m args below meth c H locs cells slots LS Q hF hW hRm hRp ho hl hLc hQ (T.setVm vm') hT9 X'
    refine ⟨t, Steps.head hgo hwi ?_, hqt⟩
    rw [stepThread_throwing (frames_entered hAt.top _), (th_catch (hFv (.found hp) (by rw [hfd]))).1]
    have hr' : (T.setVm vm').frames = .java g₀ :: r := hr
    rw [State.setTop_of_frames _ hr'] at st
    have e9 : (((T.setTop g).pushFrame (.throwing a)).setVm vm').setFrames (.java { g with pc := hp, stack := [.ref a] } :: T.frames.tail) = (T.setVm vm').setFrames (.java (F0 m hp LS [.ref a]) :: r) := by
      rw [State.pushFrame, State.setTop_of_frames _ hr, hr, ← hg, State.setFrames_setFrames]
      exact State.setFrames_setFrames (T.setVm vm') _ _
    rw [e9]
    exact st
  | none =>
    rw [hfd] at hq
    have hmeth' : vm'.method? g.method = some meth := by rw [hgm]; exact X'.method'
    refine ⟨(T.setVm vm').setFrames (.throwing a :: below), Steps.head hgo hwi ?_, hQ (.inr a) h _ hq ⟨X.here.running, ?_, ?_, ?_, (X'.ends _).1, locs, cells, slots, (X'.ends _).2, hl, rfl, rfl⟩⟩
    · rw [stepThread_throwing (frames_entered hAt.top _), (th_leave hmeth' hF.2.2.2.2.1 hlk hen (hFv .none (by rw [hfd]))).1]
      have e9 : (((T.setTop g).pushFrame (.throwing a)).setVm vm').setFrames (.throwing a :: T.frames.tail) = (T.setVm vm').setFrames (.throwing a :: below) := by
        rw [State.pushFrame, State.setTop_of_frames _ hr, X.tail, State.setFrames_setFrames]
        exact State.setFrames_setFrames (T.setVm vm') _ _
      rw [e9]
      exact Steps.refl _
    · exact State.frames_setFrames _ (State.cur_lt_of_frames hr)
    · show sn_R dC dI dA b0 s h T.heap
      rw [hT9]; exact hRp
    · show ∀ q, q < b0 → T.heap[q]? = _
      rw [hT9]; exact ho
end THR
