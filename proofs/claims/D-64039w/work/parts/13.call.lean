/-! ===== calls ===== -/
def mW (M : Nat) : Jvm.Cond := .codeWith (mY M) (mB M) (mL M) (mR M) (mX M)
/-- what the tables say of a method -/
def mOK (M : Nat) : Prop := ((mX M = [] ∧ Jvm.Cond.code (mY M) (mB M) (mL M) (mR M) ∈ lw_tbl) ∨ mW M ∈ lw_tbl) ∧ Jvm.Cond.initialized (mY M).cls ∈ lw_tbl ∧ plainName (mY M).cls = true ∧ (mY M).cls = oN (mO M) ∧ ((mY M).cls ≠ "java/lang/invoke/MethodHandle" ∧ (mY M).cls ≠ "java/lang/invoke/VarHandle")
section CAL
variable {l : Launch} {dC : Nat → ClassId} {dI : Nat → Nat → Nat} {dA : Nat → ClassId} {b0 : Nat}
theorem sn_code {M : Nat} {U : State} (hW : sn_W dC dI dA b0 U) (hM : mOK M) {A : Array Value} : (mW M).before A U = true := by
  rcases hM.1 with ⟨hx, hw⟩ | hw
  · have h1 := hW.use (A := A) hw rfl
    unfold mW
    rw [hx]
    simp only [Cond.before, Cond.holds] at h1 ⊢
    rw [← Cond.code_iff_codeWith_nil]
    exact h1
  · exact hW.use hw rfl
/-- a callee's end -/
def sn_Q (dC : Nat → ClassId) (dI : Nat → Nat → Nat) (dA : Nat → ClassId) (b0 : Nat) (h : AH) (P : PT) : Array Value → State → Outcome → State → Prop := fun _ U o t =>
  ∃ o' h', P o' h' ∧ o = oc o' ∧ sn_R dC dI dA b0 U h' t.heap ∧ (∀ q, q < b0 → t.heap[q]? = U.heap[q]?) ∧ U.WarmedH t.vm ∧ ∃ L k n, U.sameButNew ({ t with vm := U.vm } : State) L k n ∧ (∀ q ∈ L, b0 ≤ q.base) ∧ k + hC h' = hC h ∧ n + hS h' = hS h
def sn_P (dC : Nat → ClassId) (dI : Nat → Nat → Nat) (dA : Nat → ClassId) (b0 : Nat) (h : AH) (as : List AV) : Array Value → State → Prop := fun a U => a = (as.map av_V).toArray ∧ sn_W dC dI dA b0 U ∧ sn_R dC dI dA b0 U h U.heap
def sn_rm (d : Nat) (h : AH) : Room := { frames := d + 20, cells := hC h, slots := hS h, locals := 60 * d + 200 }
theorem sn_met {d M : Nat} {as : List AV} {h : AH} {P : PT} (hM : mOK M) (hu : ∀ v ∈ as, v ≠ vU) (hn : (lg_sl (as.map av_V)).length ≤ mL M) (hX : SX l dC dI dA b0 d M 0 (ent (mL M) as) [] h P) :
    MetFree l (mY M) (headSpec [mW M] (sn_rm d h)) (sn_P dC dI dA b0 h as) (fun _ _ _ _ _ => True) (sn_Q dC dI dA b0 h P) := by
  refine MetFree.of_bodyS (code := mB M) (maxLocals := mL M) (ret := mR M) hM.2.2.1 ?_ ?_
  · intro args s m hp hn
    obtain ⟨m', meth, c, h0, h1, h2, h3, h4, h5, h6, h7, -⟩ := Cond.codeWith_spec (atoms_spec (ws := [mW M]) hp _ List.mem_cons_self)
    cases hn.symm.trans h0
    exact ⟨meth, c, h1, h2, h3, h4, h6, h7⟩
  · intro p e s m args below meth c s₁ B hml hP _
    obtain ⟨rfl, hW, hRp⟩ := hP
    obtain ⟨m', meth', c', h0, h1, h2, h3, h4, h5, h6, h7, -⟩ := Cond.codeWith_spec (atoms_spec (ws := [mW M]) B.pre _ List.mem_cons_self)
    cases B.named.symm.trans h0
    cases B.method.symm.trans h1
    cases (Stand.of_body B).code.symm.trans h2
    have hF : sn_F p s m meth c M := ⟨B.exec, h3, h4, h6, h7, by rw [← hM.2.2.2.1]; exact findClass_of_methodNamed B.named, (name_of_methodNamed B.named B.method).1, h5⟩
    have hh0 : s₁.heap = s.heap := by rw [B.state]; rfl
    have hk := hX p e (sn_rm d h) s m (as.map av_V).toArray below meth c s.heap [] 0 0 _ (fun t => ∃ o, t.status = .running ∧ Ended t below o ∧ sn_Q dC dI dA b0 h P (as.map av_V).toArray s o t) hF hW ⟨Nat.le_refl _, Nat.le_refl _, by simp [sn_rm], by simp [sn_rm]⟩ hRp (fun _ _ => rfl) (fun q hq => by cases hq) (sn_L_ent hu hn) ?_
    · rw [show List.map av_V [] = [] from rfl, ← lg_entry_eq] at hk
      obtain ⟨t, a1, o, b1, b2, b3⟩ := hk s₁ hh0 (Stand.of_body B)
      exact ⟨t, o, a1, b1, b2, b3⟩
    · rintro o h' t hp ⟨e1, e2, e3, e4, e5, L, k, n, e6, e7, e8, e9⟩
      exact ⟨oc o, e1, e2, o, h', hp, rfl, e3, e4, e5, L, k, n, e6, e7, by omega, by omega⟩
/-- a call, from the invocation on -/
theorem sn_enter {d M : Nat} {as : List AV} {h : AH} {P : PT} (hM : mOK M) (hu : ∀ v ∈ as, v ≠ vU) (hn : (lg_sl (as.map av_V)).length ≤ mL M) (hm30 : mL M ≤ 30) (hX : SX l dC dI dA b0 d M 0 (ent (mL M) as) [] h P)
    {p : Program} {e : Env} {R : Room} {s : State} {m : MethodId} {args : Array Value} {below : List Frame} {meth : Method} {c : Code} {T : State} {locs : List Loc} {cells slots : Nat} (X : Stand p l e R s m args below meth c T locs cells slots) {g : JFrame} (hg : g.method = m) (hsize : g.locals.size = c.maxLocals) {ig : Instr} {len : Nat} (hdg : decode c.code g.pc = .ok (ig, len))
    (hstk : 2 * g.monitorRoom + (g.stack.map fun v => v.category).sum ≤ 8) {mk : MethodId} (hnm : s.methodNamed? (mY M) = some mk) (hW : sn_W dC dI dA b0 T) (hR : d + 1 + 20 ≤ R.frames ∧ 60 * (d + 1) + 200 ≤ R.locals ∧ cells + hC h ≤ R.cells ∧ slots + hS h ≤ R.slots) (hRp : sn_R dC dI dA b0 T h T.heap) :
    ∃ (o : Option AV ⊕ Nat) (h' : AH) (T' : State) (L : List Loc) (k n : Nat), P o h' ∧ sn_R dC dI dA b0 T h' T'.heap ∧ (∀ q, q < b0 → T'.heap[q]? = T.heap[q]?) ∧ (∀ q ∈ L, b0 ≤ q.base) ∧ k + hC h' = hC h ∧ n + hS h' = hS h ∧ Stand p l e R s m args below meth c T' (locs ++ L) (cells + k) (slots + n) ∧
      (match o with
        | .inl v => Steps p.tables e below (doInvoke e (T.setTop g) [] mk (as.map av_V).toArray).1 (T'.setTop { g with pc := g.pc + len, stack := (v.map av_V).toList ++ g.stack })
        | .inr a => Steps p.tables e below (doInvoke e (T.setTop g) [] mk (as.map av_V).toArray).1 ((T'.setTop g).pushFrame (.throwing a))) := by
  have hmet := sn_met hM hu hn hX
  have hn' : T.methodNamed? (mY M) = some mk := X.named hnm
  have h1 : (mW M).before (as.map av_V).toArray T = true := sn_code hW hM
  have h3 : (Cond.initialized (mY M).cls).before (as.map av_V).toArray T = true := hW.use hM.2.1 rfl
  obtain ⟨mk', methY, cY, h0, hmY, hcY, -, hlY, -, -, -, -⟩ := Cond.codeWith_spec h1
  cases hn'.symm.trans h0
  obtain ⟨kY, hkY, -⟩ := className_of_methodNamed hn'
  have hinitY : kY.init = .initialized := Cond.initialized_spec (findClass_of_methodNamed hn') hkY h3
  have hAt : At T g.method c below := by rw [hg]; exact X.here
  have happ : (headSpec [mW M] (sn_rm d h)).appliesLoose (mY M) e.platform (T.calling g mk (as.map av_V).toArray) = true :=
    Spec.appliesLoose_calling (g := g) hAt hdg hn' hkY hinitY
      (X.room_calling (g := g) (R' := sn_rm d h) hsize hmY hcY (by show d + 20 + 1 ≤ _; omega) (by rw [hlY]; show _ + (mL M + 11) + (60 * d + 200) ≤ _; omega) hR.2.2.1 hR.2.2.2) (atoms_intro (by intro w hw; rw [List.mem_singleton.mp hw]; exact h1))
  obtain ⟨mid, hmid⟩ := hAt.above
  have hfr : (T.setTop g).frames = (.java g :: mid) ++ below := by rw [State.frames_setTop' g hAt.top, hmid]; rfl
  have hcv : (T.calling g mk (as.map av_V).toArray).vm = T.vm := by simp [State.calling, State.pushFrame, State.setFrames, State.setTop, State.modifyTopJava]
  have hch : (T.calling g mk (as.map av_V).toArray).heap = T.heap := by simp [State.calling, State.pushFrame, State.setFrames, State.setTop, State.modifyTopJava]
  have hal : T.vm.Alike (T.calling g mk (as.map av_V).toArray).vm := by rw [hcv]; exact Vm.Alike.refl _
  have hWc : sn_W dC dI dA b0 (T.calling g mk (as.map av_V).toArray) := hW.moved (by rw [hcv]; exact State.WarmedH.refl T) (fun q _ => by rw [hch])
  have hRc : sn_R dC dI dA b0 (T.calling g mk (as.map av_V).toArray) h (T.calling g mk (as.map av_V).toArray).heap := by rw [hch]; exact hRp.moved hal
  obtain ⟨o, s₂, hsteps, -, hend, hq⟩ := Steps.callFree hmet p X.admits X.cas X.clock (acts := []) hfr happ ⟨rfl, hWc, hRc⟩ trivial
  rw [State.frames_setTop' g hAt.top] at hend
  obtain ⟨o', h', hp, rfl, r1, r2, r3, L, k, n, r4, r5, r6, r7⟩ := hq
  have r1 : sn_R dC dI dA b0 (T.calling g mk (as.map av_V).toArray) h' s₂.heap := r1
  have r2 : ∀ q, q < b0 → s₂.heap[q]? = (T.calling g mk (as.map av_V).toArray).heap[q]? := r2
  have hW' : T.WarmedH s₂.vm := r3
  obtain ⟨e2, q2, q3, q4, q5, q6⟩ := r4
  have e3 : s₂ = ({ (T.calling g mk (as.map av_V).toArray).setFrames s₂.frames with heap := s₂.heap, slotsUsed := s₂.slotsUsed } : State).setVm s₂.vm := by
    have : s₂ = ({ s₂ with vm := (T.calling g mk (as.map av_V).toArray).vm } : State).setVm s₂.vm := rfl
    have e2' : ({ s₂ with vm := (T.calling g mk (as.map av_V).toArray).vm } : State) = { (T.calling g mk (as.map av_V).toArray).setFrames s₂.frames with heap := s₂.heap, slotsUsed := s₂.slotsUsed } := e2
    rw [e2'] at this
    exact this
  obtain ⟨g₀, hg0⟩ := Option.isSome_iff_exists.mp hAt.top
  obtain ⟨r, hr⟩ := State.topJava?_eq_some.mp hg0
  have hr' : (({ T with heap := s₂.heap, slotsUsed := s₂.slotsUsed } : State).setVm s₂.vm).frames = .java g₀ :: r := hr
  have hsame : T.sameButNew ({ T with heap := s₂.heap, slotsUsed := s₂.slotsUsed } : State) L k n := by
    refine ⟨?_, q2, q3, q4, q5, q6⟩
    obtain ⟨t, ht, -⟩ := State.frames_cons hr
    show ({ T with heap := s₂.heap, slotsUsed := s₂.slotsUsed } : State) = { T.setFrames T.frames with heap := s₂.heap, slotsUsed := s₂.slotsUsed }
    rw [State.setFrames_self ht]
  have X' : Stand p l e R s m args below meth c (({ T with heap := s₂.heap, slotsUsed := s₂.slotsUsed } : State).setVm s₂.vm) (locs ++ L) (cells + k) (slots + n) :=
    ⟨X.admits, X.cas, X.clock, X.frames, X.room, X.hears, X.method, X.code, (X.here.setHeapUsed s₂.heap s₂.slotsUsed).setVm hW'.alike, X.tail, State.WarmedH.trans X.warmed hW', X.limits, X.bytes, X.same.trans (hsame.setVm s.vm)⟩
  refine ⟨o', h', (({ T with heap := s₂.heap, slotsUsed := s₂.slotsUsed } : State).setVm s₂.vm), L, k, n, hp, r1.moved (by rw [hcv]; exact Vm.Alike.refl _), fun q hq => by show s₂.heap[q]? = _; rw [r2 q hq, hch], r5, r6, r7, X', ?_⟩
  cases o' with
  | inl v =>
    obtain ⟨c₂, i₂, len₂, hc₂, hd₂, hf₂⟩ := hend
    have hcc : c₂ = c := by
      have h1 : s₂.code? g.method = T.code? g.method := by rw [State.code?_eq, State.code?_eq, hW'.alike.method?]
      exact Option.some.inj (hc₂.symm.trans (h1.trans hAt.code))
    subst hcc
    have hlen : len₂ = len := by rw [hdg] at hd₂; cases hd₂; rfl
    subst hlen
    have hs₂ : s₂ = (({ T with heap := s₂.heap, slotsUsed := s₂.slotsUsed } : State).setVm s₂.vm).setTop { g with pc := g.pc + len₂, stack := (v.map av_V).toList ++ g.stack } := by
      refine e3.trans ?_
      rw [hf₂, State.calling_eq hAt.top, State.setFrames_setFrames, State.setTop_of_frames _ hr', hr]
      rfl
    show Steps p.tables e below _ _
    rw [← hs₂]
    exact hsteps
  | inr a =>
    have hf₂ : s₂.frames = .throwing a :: .java g :: T.frames.tail := hend
    have hs₂ : s₂ = ((({ T with heap := s₂.heap, slotsUsed := s₂.slotsUsed } : State).setVm s₂.vm).setTop g).pushFrame (.throwing a) := by
      refine e3.trans ?_
      rw [hf₂, State.calling_eq hAt.top, State.setFrames_setFrames, State.pushFrame, State.setTop_of_frames _ hr', hr, State.setFrames_setFrames]
      rw [State.frames_setFrames _ (State.cur_lt_of_frames hr')]
      rfl
    show Steps p.tables e below _ _
    rw [← hs₂]
    exact hsteps
end CAL
