/-! ===== THE WORLD: words, classes, and how an abstract heap lies in the machine's ===== -/
def oN (o : Nat) : String := x_own.getD o ""
def eN (e : Nat) : String := x_exc.getD e ""
def fD (f : Nat) : String × String × String × Bool := x_fld.getD (f / 4) ("", "", "", false)
def cT (c : Nat) : u_T := fun k => fD ((idsOf c).getD k 0)
def aty (t : Nat) : FieldType := match t with
  | 0 => .int
  | 1 => .boolean
  | 2 => .long
  | 3 => .object "PlannedTables$Row"
  | 4 => .object "PlannedTables$Page"
  | 5 => .object "PlannedTables$Tree"
  | _ => .object "PlannedTables$Table"
/-- words that stay true as the tables get warmer -/
def wok (w : Jvm.Cond) : Bool := match w with
  | .arrayClass _ => true
  | .arrayOver (.object _) => true
  | .methodLinkNest _ _ _ _ => true
  | .declares _ => true
  | .castable _ _ => true
  | w => w.onTables && w.keeps
theorem wok_move {w : Jvm.Cond} (hw : wok w = true) {A A' : Array Value} {s U : State} (hW : s.WarmedH U.vm) (h : w.before A s = true) : w.before A' U = true := by
  unfold wok at hw
  split at hw
  · exact word_at hW (Or.inr ⟨_, rfl⟩) h
  · exact va_AO.use (va_AO.moved hW.alike (va_AO.of h))
  · exact va_Nw.use rfl (va_Nw.warmM hW (va_Nw.of rfl h))
  · exact va_Nw.use rfl (va_Nw.warmD hW (va_Nw.of rfl h))
  · exact va_Nw.use rfl (va_Nw.warmC hW (va_Nw.of rfl h))
  · exact word_at hW (Or.inl hw) h
/-- the classes, and the array classes -/
def sn_K (dC : Nat → ClassId) (dI : Nat → Nat → Nat) (dA : Nat → ClassId) (U : State) : Prop :=
  (∀ c, c < 17 → u_Kn U (oN c) (cT c) (idsOf c).length (dC c) (dI c)) ∧ ∀ t, t < 7 → ArrOfT U (dA t) (aty t) ∧ va_RA U (dA t) (aty t)
theorem sn_K.moved {dC : Nat → ClassId} {dI : Nat → Nat → Nat} {dA : Nat → ClassId} {u U : State} (hvm : u.vm.Alike U.vm) (h : sn_K dC dI dA u) : sn_K dC dI dA U :=
  ⟨fun c hc => u_Kn_moved hvm (h.1 c hc), fun t ht => ⟨arrOfT_moved hvm (h.2 t ht).1, (h.2 t ht).2.moved hvm⟩⟩
def x_str : List (Nat × Nat × String) := [(1, 25, "wrong word"), (0, 43, "no such width"), (0, 54, "no more tables"), (0, 62, "no such table"), (0, 73, "no such column"), (0, 86, "the key is there"), (0, 92, "no more rows"), (0, 118, "no such row"), (0, 142, "none from there on"), (0, 211, "no such plan"), (6, 18, "no fuel"), (0, 208, "too long"), (0, 227, "the output is too long"), (0, 229, "the fuel is at its end")]
abbrev x_steD : String := "[Ljava/lang/StackTraceElement;"
abbrev x_listD : String := "Ljava/util/List;"
/-- a static of Throwable's: a reference or null, in a cell that is never written -/
def sn_Z (C n d : String) (b0 : Nat) (U : State) : Prop := va_Zq C n d (fun q => b0 ≤ q) U U.heap ∧ (Jvm.Cond.laysStatic C n d).before #[] U = true
theorem sn_Z.moved {C n d : String} {b0 : Nat} {u U : State} (hvm : u.vm.Alike U.vm) (hh : ∀ q, q < b0 → U.heap[q]? = u.heap[q]?) (h : sn_Z C n d b0 u) : sn_Z C n d b0 U := by
  refine ⟨va_Zq.kept (va_Zq.moved hvm h.1) (fun a _ hn => hh a (Nat.not_le.mp hn)), ?_⟩
  obtain ⟨c, k, i, f, a, cell, hc, hi, hst, ha, hcell, hs, hcls, hlt, hty⟩ := Cond.laysStatic_spec h.2
  have hab : a < b0 := by
    have key : ∀ v, va_Z C n d v (fun q => b0 ≤ q) u u.heap → a < b0 := by
      rintro v ⟨cf, kf, fi, fd, a', cell', g1, g2, g3, g4, g5, g6, g7, g8⟩
      cases Option.some.inj (hi.symm.trans g1)
      cases Option.some.inj (ha.symm.trans g4)
      exact Nat.not_le.mp g8
    rcases h.1 with z | ⟨t, z⟩
    · exact key _ z
    · exact key _ z
  obtain ⟨k', hi', hek⟩ := State.fieldFound?_setVm hvm hi
  exact Cond.laysStatic_of (s := U) (by rw [hvm.findClass]; exact hc) hi' hst (by rw [hek]; exact ha) (by rw [hh a hab]; exact hcell) hs hcls hlt (by rw [hek]; exact hty)
/-- what holds at every state of the run that matters -/
def sn_W (dC : Nat → ClassId) (dI : Nat → Nat → Nat) (dA : Nat → ClassId) (b0 : Nat) (U : State) : Prop :=
  (∀ w ∈ lw_tbl, wok w = true → w.before #[] U = true) ∧ sn_K dC dI dA U ∧
  sn_Z "java/lang/Throwable" "UNASSIGNED_STACK" x_steD b0 U ∧ sn_Z "java/lang/Throwable" "SUPPRESSED_SENTINEL" x_listD b0 U ∧
  (∀ q ∈ x_str, ∃ a, vk_R (oN q.1) q.2.1 q.2.2 a U) ∧ ∀ i j, i < 5 → j < 5 → i ≠ j → va_Nc (eN i) (eN j) U
theorem sn_W.moved {dC : Nat → ClassId} {dI : Nat → Nat → Nat} {dA : Nat → ClassId} {b0 : Nat} {u U : State} (h : sn_W dC dI dA b0 u) (hW : u.WarmedH U.vm) (hh : ∀ q, q < b0 → U.heap[q]? = u.heap[q]?) : sn_W dC dI dA b0 U := by
  obtain ⟨h1, h2, h3, h4, h5, h6⟩ := h
  refine ⟨fun w hw ho => wok_move ho hW (h1 w hw ho), h2.moved hW.alike, h3.moved hW.alike hh, h4.moved hW.alike hh, fun q hq => ?_, fun i j hi hj hn => (h6 i j hi hj hn).moved hW.alike⟩
  obtain ⟨a, ha⟩ := h5 q hq
  exact ⟨a, ha.warm hW⟩
/-- a field's value, an element -/
def objV (h : AH) (a c : Nat) : Nat → Value := fun k => av_V (fgt h a ((idsOf c).getD k 0))
def arrF (h : AH) (a t : Nat) : Nat → Value := fun j => if t = 2 then .long (hL h a j) else if t < 2 then .int (hI h a j) else va_rf (hR h a j)
/-- the cell a with the tag t -/
def sn_C (dC : Nat → ClassId) (dI : Nat → Nat → Nat) (dA : Nat → ClassId) (b0 : Nat) (U : State) (h : AH) (H : Heap) (a : Nat) (t : Nat × Nat) : Prop :=
  (t.1 < 17 ∧ b0 ≤ a ∧ t_OB a (dC t.1) (idsOf t.1).length (dI t.1) H (objV h a t.1)) ∨
  (∃ ty, ty < 7 ∧ t.1 = 100 + ty ∧ b0 ≤ a ∧ H[a]? = some (arrV (dA ty) t.2 (arrF h a ty))) ∨
  (t.1 = 107 ∧ a < b0 ∧ va_X a t.2 (hI h a) U H) ∨
  (50 ≤ t.1 ∧ t.1 < 55 ∧ b0 ≤ a ∧ ∃ cell : Cell, H[a]? = some cell ∧ cell.vm.isStatics = false ∧ U.vm.findClass (eN (t.1 - 50)) = some cell.cls)
def sn_R (dC : Nat → ClassId) (dI : Nat → Nat → Nat) (dA : Nat → ClassId) (b0 : Nat) (U : State) (h : AH) (H : Heap) : Prop :=
  H.size = hN h ∧ b0 ≤ H.size ∧ ∀ a t, hT h a = some t → sn_C dC dI dA b0 U h H a t
theorem sn_C.lt {dC : Nat → ClassId} {dI : Nat → Nat → Nat} {dA : Nat → ClassId} {b0 : Nat} {U : State} {h : AH} {H : Heap} {a : Nat} {t : Nat × Nat} (k : sn_C dC dI dA b0 U h H a t) : a < H.size := by
  rcases k with ⟨-, -, cell, q, -⟩ | ⟨ty, -, -, -, q⟩ | ⟨-, -, cell, q, -⟩ | ⟨-, -, -, cell, q, -⟩ <;> exact (Array.getElem?_eq_some_iff.mp q).1
/-- a cell that neither heap has touched -/
theorem sn_C.kept {dC : Nat → ClassId} {dI : Nat → Nat → Nat} {dA : Nat → ClassId} {b0 : Nat} {u U : State} (hvm : u.vm.Alike U.vm) {h h' : AH} {H H' : Heap} {a : Nat} {t : Nat × Nat} (k : sn_C dC dI dA b0 u h H a t) (hH : H'[a]? = H[a]?) (hi : hI h' a = hI h a) (hl : hL h' a = hL h a) (hr : hR h' a = hR h a) : sn_C dC dI dA b0 U h' H' a t := by
  have hf : ∀ f, fgt h' a f = fgt h a f := by intro f; simp only [fgt, hi, hl, hr]
  have ha : ∀ ty, arrF h' a ty = arrF h a ty := by intro ty; unfold arrF; rw [hi, hl, hr]
  rcases k with ⟨h1, h2, h3⟩ | ⟨ty, h1, h2, h3, h4⟩ | ⟨h1, h2, h3⟩ | ⟨h1, h2, h3, cell, h4, h5, h6⟩
  · exact Or.inl ⟨h1, h2, (h3.kept hH).to (fun k _ => by simp only [objV, hf])⟩
  · exact Or.inr (Or.inl ⟨ty, h1, h2, h3, by rw [hH, ha]; exact h4⟩)
  · exact Or.inr (Or.inr (Or.inl ⟨h1, h2, by rw [hi]; exact (va_X.moved hvm h3).kept hH⟩))
  · exact Or.inr (Or.inr (Or.inr ⟨h1, h2, h3, cell, by rw [hH]; exact h4, h5, by rw [hvm.findClass]; exact h6⟩))
theorem sn_R.moved {dC : Nat → ClassId} {dI : Nat → Nat → Nat} {dA : Nat → ClassId} {b0 : Nat} {u U : State} (hvm : u.vm.Alike U.vm) {h : AH} {H : Heap} (k : sn_R dC dI dA b0 u h H) : sn_R dC dI dA b0 U h H :=
  ⟨k.1, k.2.1, fun a t ht => (k.2.2 a t ht).kept hvm rfl rfl rfl rfl⟩
/-- one cell has changed, in both -/
theorem sn_R.put {dC : Nat → ClassId} {dI : Nat → Nat → Nat} {dA : Nat → ClassId} {b0 : Nat} {U : State} {h h' : AH} {H H' : Heap} {a : Nat} (k : sn_R dC dI dA b0 U h H) (hz : H'.size = H.size) (hq : ∀ q, q ≠ a → H'[q]? = H[q]?) (hN' : hN h' = hN h) (hT' : hT h' = hT h)
    (hi : ∀ q, q ≠ a → hI h' q = hI h q) (hl : ∀ q, q ≠ a → hL h' q = hL h q) (hr : ∀ q, q ≠ a → hR h' q = hR h q) (hc : ∀ t, hT h a = some t → sn_C dC dI dA b0 U h' H' a t) : sn_R dC dI dA b0 U h' H' := by
  refine ⟨by rw [hz, hN']; exact k.1, by rw [hz]; exact k.2.1, fun q t ht => ?_⟩
  rw [hT'] at ht
  by_cases e : q = a
  · subst e; exact hc t ht
  · exact (k.2.2 q t ht).kept (Vm.Alike.refl _) (hq q e) (hi q e) (hl q e) (hr q e)
/-- a new cell -/
theorem sn_R.push {dC : Nat → ClassId} {dI : Nat → Nat → Nat} {dA : Nat → ClassId} {b0 : Nat} {U : State} {h : AH} {H H' : Heap} {t : Nat × Nat} {n : Nat} (k : sn_R dC dI dA b0 U h H) (hz : H'.size = H.size + 1) (hq : ∀ q, q < H.size → H'[q]? = H[q]?) (hc : sn_C dC dI dA b0 U (al h t n) H' (hN h) t) : sn_R dC dI dA b0 U (al h t n) H' := by
  refine ⟨by rw [hz, hN_al, k.1], by rw [hz]; exact Nat.le_succ_of_le k.2.1, fun q t' ht => ?_⟩
  rw [hT_al] at ht
  by_cases e : q = hN h
  · subst e
    rw [if_pos rfl] at ht
    cases ht
    exact hc
  · rw [if_neg e] at ht
    have hk := k.2.2 q t' ht
    refine hk.kept (Vm.Alike.refl _) (hq q hk.lt) ?_ ?_ ?_ <;> (funext j; simp [hI_al, hL_al, hR_al, e])
/-- locals -/
def sn_L (LS : Array Slot) (n : Nat) (ls : List AV) : Prop := LS.size = n ∧ lv_wf LS ∧ ∀ (i : Nat) (v : AV), ls[i]? = some v → v ≠ vU → LS[i]? = some (Slot.val (av_V v))
/-- an outcome -/
def oc (o : Option AV ⊕ Nat) : Outcome := match o with
  | .inl v => .returned (v.map av_V)
  | .inr a => .threw a
/-- the end of a method, from the machine's side -/
def sn_E (dC : Nat → ClassId) (dI : Nat → Nat → Nat) (dA : Nat → ClassId) (b0 : Nat) (s : State) (below : List Frame) (N0 S0 : Nat) (t : State) (o : Option AV ⊕ Nat) (h' : AH) : Prop :=
  t.status = .running ∧ Ended t below (oc o) ∧ sn_R dC dI dA b0 s h' t.heap ∧ (∀ q, q < b0 → t.heap[q]? = s.heap[q]?) ∧ s.WarmedH t.vm ∧
    ∃ L k n, s.sameButNew ({ t with vm := s.vm } : State) L k n ∧ (∀ q ∈ L, b0 ≤ q.base) ∧ k + hC h' = N0 ∧ n + hS h' = S0
/-- methods: name, bytes, answer, handlers -/
def mY (M : Nat) : MethodName := (x_name.getD M (⟨"", "", ""⟩, ⟨#[]⟩, none, [])).1
def mB (M : Nat) : ByteArray := (x_name.getD M (⟨"", "", ""⟩, ⟨#[]⟩, none, [])).2.1
def mR (M : Nat) : Option FieldType := (x_name.getD M (⟨"", "", ""⟩, ⟨#[]⟩, none, [])).2.2.1
def mX (M : Nat) : List (Nat × Nat × Nat × Nat) := (x_name.getD M (⟨"", "", ""⟩, ⟨#[]⟩, none, [])).2.2.2
/-- the frame's method is M -/
def sn_F (p : Program) (s : State) (m : MethodId) (meth : Method) (c : Code) (M : Nat) : Prop :=
  p.tables.exec = Jvm.exec ∧ c.code = mB M ∧ c.maxLocals = mL M ∧ meth.sig.returnType = mR M ∧ meth.locks = false ∧ s.vm.findClass (oN (mO M)) = some m.cls ∧ meth.name = (mY M).name ∧ c.exceptionTable.toList.map (fun x => (x.startPc, x.endPc, x.handlerPc, x.catchType)) = mX M
/-- WHAT Ev SAYS OF THE MACHINE -/
def SX (l : Launch) (dC : Nat → ClassId) (dI : Nat → Nat → Nat) (dA : Nat → ClassId) (b0 : Nat) : FT := fun d M pc ls st h P =>
  ∀ (p : Program) (e : Env) (R : Room) (s : State) (m : MethodId) (args : Array Value) (below : List Frame) (meth : Method) (c : Code) (H : Heap) (locs : List Loc) (cells slots : Nat) (LS : Array Slot) (Q : State → Prop),
    sn_F p s m meth c M → sn_W dC dI dA b0 s → (d + 20 ≤ R.frames ∧ 60 * d + 200 ≤ R.locals ∧ cells + hC h ≤ R.cells ∧ slots + hS h ≤ R.slots) →
    sn_R dC dI dA b0 s h H → (∀ q, q < b0 → H[q]? = s.heap[q]?) → (∀ q ∈ locs, b0 ≤ q.base) → sn_L LS (mL M) ls →
    (∀ o h' t, P o h' → sn_E dC dI dA b0 s below (cells + hC h) (slots + hS h) t o h' → Q t) →
    W p l e R s m args below meth c H locs cells slots Q (F0 m pc LS (st.map av_V))
theorem SX.mono {l : Launch} {dC : Nat → ClassId} {dI : Nat → Nat → Nat} {dA : Nat → ClassId} {b0 : Nat} : FMono (SX l dC dI dA b0) :=
  fun d M pc ls st h P P' hP k p e R s m args below meth c H locs cells slots LS Q h1 h2 h3 h4 h5 h6 h7 h8 => k p e R s m args below meth c H locs cells slots LS Q h1 h2 h3 h4 h5 h6 h7 (fun o h' t q => h8 o h' t (hP o h' q))
theorem W.post {p : Program} {l : Launch} {e : Env} {R : Room} {s : State} {m : MethodId} {args : Array Value} {below : List Frame} {meth : Method} {c : Code} {H : Heap} {locs : List Loc} {cells slots : Nat} {Q Q' : State → Prop} {g : JFrame} (h : W p l e R s m args below meth c H locs cells slots Q g) (hQ : ∀ t, Q t → Q' t) : W p l e R s m args below meth c H locs cells slots Q' g := by
  intro T hT X
  obtain ⟨t, a, b⟩ := h T hT X
  exact ⟨t, a, hQ t b⟩
