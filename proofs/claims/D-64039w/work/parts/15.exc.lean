/-! ===== making and throwing an exception ===== -/
/-- the first link of an exception's constructors: pool index, bytes -/
def x_l1 (e : Nat) : Nat × ByteArray := if e = 4 then (13, prog_30_method_4_code) else (7, Bundle.six)
abbrev x_rte : String := "java/lang/RuntimeException"
/-- the words (all of the tables) that an exception asks -/
def x_atoms (e : Nat) : List Jvm.Cond :=
  Bundle.throwableAtoms ++ Bundle.throwableSAtoms ++ Bundle.passSAtoms (eN e) x_rte (x_l1 e).1 (x_l1 e).2 ++ Bundle.chainSAtoms x_rte ["java/lang/Exception"] ++
  [.instantiable (eN e) 6, .initialized (eN e), .selects (eN e) Bundle.tFill0 Bundle.tFill0, .selects (eN e) Bundle.tFill Bundle.tFill,
   .lays (eN e) Bundle.tN "cause" "Ljava/lang/Throwable;", .lays (eN e) Bundle.tN "stackTrace" Bundle.steD, .lays (eN e) Bundle.tN "suppressedExceptions" Bundle.listD, .lays (eN e) Bundle.tN "detailMessage" "Ljava/lang/String;",
   .fieldLink Bundle.tN 198 Bundle.tN "backtrace" "Ljava/lang/Object;", .lays Bundle.tN Bundle.tN "backtrace" "Ljava/lang/Object;", .lays (eN e) Bundle.tN "backtrace" "Ljava/lang/Object;"]
set_option maxRecDepth 100000 in
theorem st_x : ∀ e, e < 5 → ∀ w ∈ x_atoms e, w ∈ lw_tbl ∧ (wok w = true ∨ w = .laysStatic Bundle.tN "UNASSIGNED_STACK" Bundle.steD ∨ w = .laysStatic Bundle.tN "SUPPRESSED_SENTINEL" Bundle.listD) := by decide +kernel
theorem st_x2 : ∀ e, e < 5 → (Bundle.fit (eN e) = true ∧ plainName (eN e) = true ∧ decode (x_l1 e).2 0 = .ok (.aload_n 0, 1) ∧ decode (x_l1 e).2 1 = .ok (.aload_n 1, 1) ∧ decode (x_l1 e).2 2 = .ok (.invokespecial (x_l1 e).1, 3) ∧ decode (x_l1 e).2 5 = .ok (.return_, 1)) := by decide +kernel
section EXC
variable {l : Launch} {dC : Nat → ClassId} {dI : Nat → Nat → Nat} {dA : Nat → ClassId} {b0 : Nat}
theorem sn_x {U : State} (hW : sn_W dC dI dA b0 U) {ex : Nat} (hex : ex < 5) {A : Array Value} : ∀ w ∈ x_atoms ex, w.before A U = true := by
  intro w hw
  obtain ⟨h1, h2 | h2 | h2⟩ := st_x ex hex w hw
  · exact hW.use h1 h2
  · rw [h2]; exact hW.2.2.1.2
  · rw [h2]; exact hW.2.2.2.1.2
theorem sn_Zref {C n d : String} {U : State} (hZ : sn_Z C n d b0 U) {c i a : Nat} {k : Class} {f : Field} (hf : U.fieldFound? C n d = some (c, k, i, f)) (hsta : k.statics = some a) : a < b0 ∧ ∀ cell, U.heap[a]? = some cell → ∃ u : RefV, cell.slots[f.slot]? = some u.v := by
  have key : ∀ v, va_Z C n d v (fun q => b0 ≤ q) U U.heap → a < b0 ∧ ∀ cell, U.heap[a]? = some cell → cell.slots[f.slot]? = some v := by
    rintro v ⟨cf, kf, fi, fd, a', cell', g1, g2, g3, g4, g5, g6, g7, g8⟩
    cases Option.some.inj (hf.symm.trans g1)
    cases Option.some.inj (hsta.symm.trans g4)
    exact ⟨Nat.not_le.mp g8, fun cell hc => by cases Option.some.inj (g5.symm.trans hc); exact g7⟩
  rcases hZ.1 with z | ⟨t, z⟩
  · exact ⟨(key _ z).1, fun cell hc => ⟨⟨.null, rfl⟩, (key _ z).2 cell hc⟩⟩
  · exact ⟨(key _ z).1, fun cell hc => ⟨⟨.ref t, rfl⟩, (key _ z).2 cell hc⟩⟩
set_option maxHeartbeats 4000000 in
/-- the constructor of a new exception: its own cell alone changes -/
theorem sn_ctor {p : Program} {e : Env} {R : Room} {s : State} {m : MethodId} {args : Array Value} {below : List Frame} {meth : Method} {c : Code} {T : State} {locs : List Loc} {cells slots : Nat} (X : Stand p l e R s m args below meth c T locs cells slots) (hexec : p.tables.exec = Jvm.exec) (htr : e.platform.stackTraces = false)
    (hW : sn_W dC dI dA b0 s) (ho : ∀ q, q < b0 → T.heap[q]? = s.heap[q]?) {ex : Nat} (hex : ex < 5) {own : String} {ic : Nat} (hown : s.vm.findClass own = some m.cls) (hlk : (Cond.methodLink own ic (Bundle.initS (eN ex))).before args s = true)
    {a : Addr} {cX : ClassId} {kX : Class} (hfX : s.vm.findClass (eN ex) = some cX) (hkX : s.vm.classes[cX]? = some kX) (hcell : T.heap[a]? = some (freshCell cX kX)) (hnew : b0 ≤ a) {msg : Value} (hmsg : msg.isRef = true)
    {g : JFrame} (hg : g.method = m) (hsize : g.locals.size = c.maxLocals) {rest : List Value} (hstack : g.stack = msg :: .ref a :: rest) (hd6 : decode c.code g.pc = .ok (.invokespecial ic, 3))
    (hRf : 6 < R.frames) (hRl : 2 * g.monitorRoom + (rest.map fun v => v.category).sum + 100 ≤ R.locals) :
    ∃ (vm' : Vm) (cell' : Cell) (L : List Loc), (∀ q ∈ L, q.base = a) ∧ cell'.cls = cX ∧ cell'.vm = .none ∧ Stand p l e R s m args below meth c ((T.setVm vm').setCell a cell') (locs ++ L) cells slots ∧
      ∀ target, Steps p.tables e below (((T.setVm vm').setCell a cell').setTop { g with pc := g.pc + 3, stack := rest }) target → Steps p.tables e below (T.setTop g) target := by
  have howns : e.platform.frameOwnsMonitors = true := by rw [X.admits.platform]
  have hfin : e.platform.finalization = false := by rw [X.admits.platform]
  have hpl : e.platform.magicAccessors = ({} : Platform).magicAccessors := by rw [X.admits.platform]
  have ha : ∀ w ∈ x_atoms ex, w.before args s = true := sn_x hW hex
  have ha' : ∀ w, w ∈ x_atoms ex → w.holds args s none s [] = true := fun w hw => ha w hw
  obtain ⟨fitX, plX, d0, d1, d2, d5⟩ := st_x2 ex hex
  obtain ⟨Tc, Z0, L, -, Y⟩ := ThrowableC.of_atoms (args := args) howns hfin hpl (fun x hx => ha x (by simp [x_atoms, hx]))
  obtain ⟨Z, Mm, LZ, LM, hnZ⟩ := Init0T.ofS_atoms (args := args) hpl L Y (fun x hx => ha x (by simp [x_atoms, hx]))
  obtain ⟨P1, Ps, hlen, L1, hL, hP1m, hlink1, hlink⟩ := Bundle.chainS (args := args) hpl hnZ ["java/lang/Exception"] x_rte (by decide +kernel) (by decide +kernel) (fun x hx => ha x (by simp [x_atoms, hx]))
  obtain ⟨P0, L0, hP0m, hP0s⟩ := PassC.ofS_atoms (args := args) (X := eN ex) (Y := x_rte) (index := (x_l1 ex).1) (bytes := (x_l1 ex).2) hpl plX ⟨by decide, by decide⟩ d0 d1 d2 d5 (fun x hx => ha x (by simp [x_atoms, hx]))
  have hsup : P0.sup = P1.m := Option.some.inj (hP0s.symm.trans hP1m)
  have hfound : s.vm.findClass (eN ex) = some P0.m.cls := findClass_of_methodNamed hP0m
  cases Option.some.inj (hfX.symm.trans hfound)
  obtain ⟨c1, kX', hc1, hk, hord, -, -, hn6⟩ := Cond.instantiable_spec (ha' (.instantiable (eN ex) 6) (by simp [x_atoms]))
  cases Option.some.inj (hc1.symm.trans hfound)
  cases Option.some.inj (hkX.symm.trans hk)
  have hsel0 : selectMethod e.platform s.vm P0.m.cls Tc.fill0 = .method Tc.fill0 := by
    obtain ⟨c2, r2, m2, q1, q2, q3, q4, -⟩ := Cond.selects_spec (ha' (.selects (eN ex) Bundle.tFill0 Bundle.tFill0) (by simp [x_atoms]))
    cases Option.some.inj (q1.symm.trans hfound)
    cases Option.some.inj (q2.symm.trans (State.methodFound?_of_named Y.fill0 (by decide)))
    cases Option.some.inj (q3.symm.trans Y.fill0)
    rw [Launch.admits_selectMethod X.admits]; exact q4
  have hselF : selectMethod e.platform s.vm P0.m.cls Tc.fill = .method Tc.fill := by
    obtain ⟨c2, r2, m2, q1, q2, q3, q4, -⟩ := Cond.selects_spec (ha' (.selects (eN ex) Bundle.tFill Bundle.tFill) (by simp [x_atoms]))
    cases Option.some.inj (q1.symm.trans hfound)
    cases Option.some.inj (q2.symm.trans (State.methodFound?_of_named Y.fill (by decide)))
    cases Option.some.inj (q3.symm.trans Y.fill)
    rw [Launch.admits_selectMethod X.admits]; exact q4
  obtain ⟨cellS, hcS, hiss⟩ := Y.statics
  obtain ⟨haS, hu⟩ := sn_Zref hW.2.2.1 Y.unassigned L.statics
  obtain ⟨-, hse⟩ := sn_Zref hW.2.2.2.1 Y.sentinel L.statics
  obtain ⟨u0, hu0⟩ := hu cellS hcS
  obtain ⟨sen, hsen⟩ := hse cellS hcS
  have hcellS : T.heap[Tc.aS]? = some cellS := by rw [ho _ haS]; exact hcS
  have hknownS : cellS.vm ≠ .unknown := by
    intro hu
    rw [hu] at hiss
    cases hiss
  have hneS : Tc.aS ≠ a := Nat.ne_of_lt (Nat.lt_of_lt_of_le haS hnew)
  obtain ⟨ci198, i198, fB, hk198, hg198, ha198, hsB, -, hnB, htB, hffB⟩ := Cond.ownField (t := .object "java/lang/Object") Y.found L.cls (by decide +kernel) (ha' (.fieldLink Bundle.tN 198 Bundle.tN "backtrace" "Ljava/lang/Object;") (by simp [x_atoms])) (ha' (.lays Bundle.tN Bundle.tN "backtrace" "Ljava/lang/Object;") (by simp [x_atoms])) e.platform hpl
  obtain ⟨iM, hffM⟩ := Y.msg
  obtain ⟨tyC, dC9, hdC, hdnC⟩ := Cond.laysAt hfound hk Y.cause (ha' (.lays (eN ex) Bundle.tN "cause" "Ljava/lang/Throwable;") (by simp [x_atoms]))
  obtain ⟨tyS, dS, hdS, hdnS⟩ := Cond.laysAt hfound hk Y.stack (ha' (.lays (eN ex) Bundle.tN "stackTrace" Bundle.steD) (by simp [x_atoms]))
  obtain ⟨tyP, dP, hdP, hdnP⟩ := Cond.laysAt hfound hk Y.supp (ha' (.lays (eN ex) Bundle.tN "suppressedExceptions" Bundle.listD) (by simp [x_atoms]))
  obtain ⟨tyM, dM, hdM, hdnM⟩ := Cond.laysAt hfound hk hffM (ha' (.lays (eN ex) Bundle.tN "detailMessage" "Ljava/lang/String;") (by simp [x_atoms]))
  obtain ⟨tyB, dB, hdB, hdnB⟩ := Cond.laysAt hfound hk hffB (ha' (.lays (eN ex) Bundle.tN "backtrace" "Ljava/lang/Object;") (by simp [x_atoms]))
  have bC := Cond.laysApart hdB hdC hdnB hdnC (by rw [hnB, Y.causeName]; decide)
  have bS := Cond.laysApart hdB hdS hdnB hdnS (by rw [hnB, Y.stackName]; decide)
  have bP := Cond.laysApart hdB hdP hdnB hdnP (by rw [hnB, Y.suppName]; decide)
  have hskip : SkipFacts Tc e.platform s (fun u => u) u0 ((preparedCellV Tc.toThrowableT (freshCell P0.m.cls kX) a u0 sen).withEntry T.cur) :=
    ⟨{ ci198 := ci198, i198 := i198, fBack := fB }, ⟨hk198, hg198, ha198, hsB⟩, by
      have := fresh_default (c := P0.m.cls) tyB
      rw [htB] at this
      simpa [preparedCellV, Cell.setSlot, Cell.withEntry, Array.getElem?_setIfInBounds, bC, bS, bP, bC.symm, bS.symm, bP.symm, defaultValue] using this, fun _ _ => rfl⟩
  obtain ⟨tm, methC, cdC, kC, vm₁, hnC, -, -, -, -, -, -, -, hW₁, st1⟩ := Steps.initColdS (tb := p.tables) (e := e) (below := below) (s := s) (U := T) X.here hexec X.warmed hpl hown (t := Bundle.initS (eN ex)) rfl rfl (Bundle.fit_spec fitX).2
    hlk (ha (.instanceMethod (Bundle.initS (eN ex))) (by simp [x_atoms, Bundle.passSAtoms])) (bytes := (x_l1 ex).2) (maxL := 2) (ha (.code (Bundle.initS (eN ex)) (x_l1 ex).2 2 none) (by simp [x_atoms, Bundle.passSAtoms]))
    (f := g) hg (a := a) (msg := msg) (rest := rest) hstack hd6
  cases Option.some.inj (hnC.symm.trans hP0m)
  have X₁ := X.noted hW₁
  obtain ⟨vm₂, X₂, st2⟩ := X₁.ctorMessageOffV hexec (g := { g with stack := rest }) hg hsize Tc L Z LZ Mm LM (P0 :: P1 :: Ps)
    (fun P hP => by
      rcases List.mem_cons.mp hP with rfl | hP
      · exact L0
      · rcases List.mem_cons.mp hP with rfl | hP
        · exact L1
        · exact hL P hP) ⟨hsup, hlink1, hlink⟩ (u0 := u0) (sen := sen) (self := a) hmsg (cell := freshCell P0.m.cls kX) (cellS := cellS)
    hcell (fun _ => by simp) (by simp) rfl rfl hsel0 hselF hcellS hneS hknownS hu0 hsen
    (Takes.of_laid hk hord tyC (by rw [Y.causeType]; rfl)) (Takes.of_laid hk hord tyS (by rw [Y.stackType]; exact fits_refV_array _ u0)) (Takes.of_laid hk hord tyP (by rw [Y.suppType]; exact fits_refV_object _ sen))
    (Takes.of_laid hk hord tyM (by rw [Y.msgType]; exact fits_refV_object _ ⟨msg, hmsg⟩)) Y.objLocals hskip htr [] hd6
    (by simp only [List.length_cons, hlen, List.length_nil]; omega) (by simp only [List.length_cons, hlen, List.length_nil]; show 2 * g.monitorRoom + (rest.map fun v => v.category).sum + _ ≤ _; omega)
  refine ⟨vm₂, _, _, ?_, ?_, ?_, X₂, fun target ht => st1 _ (fun acts => ?_)⟩
  · intro q hq
    simp only [List.mem_cons, List.not_mem_nil, or_false] at hq
    rcases hq with rfl | rfl | rfl | rfl | rfl <;> rfl
  · simp [plainBareV, preparedCellV, Cell.setSlot]
  · simp [plainBareV, preparedCellV, Cell.setSlot]
  · rw [doInvoke_state]
    exact st2 _ ht
end EXC
