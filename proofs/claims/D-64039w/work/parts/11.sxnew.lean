/-! ===== soundness: new cells, returns, Object's constructor, arraycopy ===== -/
section SX11
variable {l : Launch} {dC : Nat → ClassId} {dI : Nat → Nat → Nat} {dA : Nat → ClassId} {b0 d M pc : Nat} {ls st : List AV} {h : AH} {P : PT}
theorem dv_ok {h : AH} {t : Nat × Nat} {n f : Nat} (hk : kOK f = true) : defaultValue (fty f) = av_V (fgt (al h t n) (hN h) f) := by
  have hi : hI (al h t n) (hN h) f = 0 := by simp [hI_al]
  have hl : hL (al h t n) (hN h) f = 0 := by simp [hL_al]
  have hr : hR (al h t n) (hN h) f = none := by simp [hR_al]
  unfold kOK at hk
  unfold fgt
  split at hk
  · rename_i e; rw [e]; rw [of_decide_eq_true hk]; simp only [hi]; rfl
  · rename_i e; rw [e]; rw [of_decide_eq_true hk]; simp only [hl]; rfl
  · rename_i e; rw [e]; simp only [hr]
    cases hft : fty f <;> rw [hft] at hk <;> first | rfl | cases hk
  · rename_i e1 e2 e3
    rw [of_decide_eq_true hk]
    split
    · rename_i e; exact absurd e e2
    · rename_i e; exact absurd e e3
    · simp only [hi]; rfl
theorem sx_new {i c : Nat} (hd : decode (mB M) pc = .ok (.new i, 3)) (hc : c < 17) (hw : Jvm.Cond.classLink (oN (mO M)) i (oN c) ∈ lw_tbl) (h1 : 1 ≤ hC h) (h2 : nSlots c ≤ hS h) (k : SX l dC dI dA b0 d M (pc + 3) ls (vR (some (hN h)) :: st) (al h (c, 0) (nSlots c)) P) : SX l dC dI dA b0 d M pc ls st h P := by
  intro p e R s m args below meth cd H locs cells slots LS Q hF hW hRm hRp ho hl hLc hQ
  have hKn := hW.2.1.1 c hc
  refine W.newcK hF.1 hF.2.1 hF.2.2.2.2.2.1 (hW.use hw rfl) (hW.use (st_i c hc).1 rfl) (hW.use (st_i c hc).2 rfl) rfl hd (by omega) (by unfold nSlots at h2; omega) hKn.2.1 hRp.1 (fun H' kC hkC e1 z1 o1 => ?_)
  have hbH : b0 ≤ hN h := by rw [← hRp.1]; exact hRp.2.1
  refine k p e R s m args below meth cd H' locs (cells + 1) (slots + (idsOf c).length) LS Q hF hW ⟨hRm.1, hRm.2.1, by rw [hC_al]; omega, by rw [hS_al]; unfold nSlots at h2 ⊢; omega⟩ ?_ (fun q hq => by rw [o1 q (by omega)]; exact ho q hq) hl hLc (fun o h' t hp he => hQ o h' t hp ?_)
  · refine hRp.push (by rw [z1, hRp.1]) (fun q hq => o1 q (by rw [← hRp.1]; exact hq)) (Or.inl ⟨hc, hbH, ?_⟩)
    exact (u_born (fun k => fty ((idsOf c).getD k 0)) (sn_ws hW hc (A := args)) (fun w hw => hw) hKn hkC e1 (fun k hk => (st_t c hc k hk).1)).to (fun k hk => dv_ok (st_t c hc k hk).2)
  · rw [hC_al, hS_al] at he
    rw [show cells + hC h = cells + 1 + (hC h - 1) by omega, show slots + hS h = slots + (idsOf c).length + (hS h - nSlots c) by unfold nSlots at h2 ⊢; omega]
    exact he
theorem arrF_al {h : AH} {t : Nat × Nat} {n ty : Nat} (hty : ty < 7) : arrF (al h t n) (hN h) ty = fun _ => defaultValue (aty ty) := by
  funext j
  unfold arrF
  simp only [hI_al, hL_al, hR_al, if_true]
  rcases (show ty = 0 ∨ ty = 1 ∨ ty = 2 ∨ ty = 3 ∨ ty = 4 ∨ ty = 5 ∨ ty = 6 by omega) with rfl | rfl | rfl | rfl | rfl | rfl | rfl <;> rfl
/-- behind a new array -/
theorem sx_arrnew {p : Program} {e : Env} {R : Room} {s : State} {m : MethodId} {args : Array Value} {below : List Frame} {meth : Method} {c : Code} {H H' : Heap} {locs : List Loc} {cells slots : Nat} {LS : Array Slot} {Q : State → Prop} {ty n pc' : Nat} (hty : ty < 7)
    (hF : sn_F p s m meth c M) (hW : sn_W dC dI dA b0 s) (hRm : d + 20 ≤ R.frames ∧ 60 * d + 200 ≤ R.locals ∧ cells + hC h ≤ R.cells ∧ slots + hS h ≤ R.slots) (hRp : sn_R dC dI dA b0 s h H) (ho : ∀ q, q < b0 → H[q]? = s.heap[q]?) (hl : ∀ q ∈ locs, b0 ≤ q.base) (hLc : sn_L LS (mL M) ls)
    (hQ : ∀ o h' t, P o h' → sn_E dC dI dA b0 s below (cells + hC h) (slots + hS h) t o h' → Q t) (h1 : 1 ≤ hC h) (h2 : n ≤ hS h)
    (e1 : H'[hN h]? = some (arrV (dA ty) n (fun _ => defaultValue (aty ty)))) (z1 : H'.size = hN h + 1) (o1 : ∀ q, q < hN h → H'[q]? = H[q]?)
    (k : SX l dC dI dA b0 d M pc' ls st (al h (100 + ty, n) n) P) : W p l e R s m args below meth c H' locs (cells + 1) (slots + n) Q (F0 m pc' LS (st.map av_V)) := by
  have hbH : b0 ≤ hN h := by rw [← hRp.1]; exact hRp.2.1
  refine k p e R s m args below meth c H' locs (cells + 1) (slots + n) LS Q hF hW ⟨hRm.1, hRm.2.1, by rw [hC_al]; omega, by rw [hS_al]; omega⟩ ?_ (fun q hq => by rw [o1 q (by omega)]; exact ho q hq) hl hLc (fun o h' t hp he => hQ o h' t hp ?_)
  · refine hRp.push (by rw [z1, hRp.1]) (fun q hq => o1 q (by rw [← hRp.1]; exact hq)) (Or.inr (Or.inl ⟨ty, hty, rfl, hbH, ?_⟩))
    rw [arrF_al hty]
    exact e1
  · rw [hC_al, hS_al] at he
    rw [show cells + hC h = cells + 1 + (hC h - 1) by omega, show slots + hS h = slots + n + (hS h - n) by omega]
    exact he
theorem sx_newa {at_ : ArrayType} {ty : Nat} {n : Int32} (hd : decode (mB M) pc = .ok (.newarray at_, 2)) (hty : ty < 3) (hat : newarray.typeOf at_ = aty ty) (hw : Jvm.Cond.arrayClass (aty ty) ∈ lw_tbl) (hn : ¬ n < 0) (hn2 : n.toNatClampNeg ≤ 1000) (h1 : 1 ≤ hC h) (h2 : n.toNatClampNeg ≤ hS h)
    (k : SX l dC dI dA b0 d M (pc + 2) ls (vR (some (hN h)) :: st) (al h (100 + ty, n.toNatClampNeg) n.toNatClampNeg) P) : SX l dC dI dA b0 d M pc ls (vI n :: st) h P := by
  intro p e R s m args below meth cd H locs cells slots LS Q hF hW hRm hRp ho hl hLc hQ
  refine va_newaK hF.1 hF.2.1 (atype := at_) (by rw [hat]; exact hW.use hw rfl) rfl hd rfl hn rfl ?_ (by omega) (by omega) hRp.1 (fun H' cA e1 z1 o1 hA hf => ?_)
  · rw [hat]
    have : componentBytes (aty ty) ≤ 8 := by
      rcases (show ty = 0 ∨ ty = 1 ∨ ty = 2 by omega) with rfl | rfl | rfl <;> decide
    calc n.toNatClampNeg * componentBytes (aty ty) ≤ 1000 * 8 := Nat.mul_le_mul hn2 this
      _ ≤ 536870912 := by decide
  · rw [hat] at e1 hf
    have hra := (hW.2.1.2 ty (by omega)).2
    have hcA : cA = dA ty := by
      rcases (show ty = 0 ∨ ty = 1 ∨ ty = 2 by omega) with rfl | rfl | rfl <;> exact Option.some.inj (hf.symm.trans hra)
    subst hcA
    exact sx_arrnew (st := vR (some (hN h)) :: st) (by omega) hF hW hRm hRp ho hl hLc hQ h1 h2 e1 z1 o1 k
theorem sx_anew {i ty : Nat} {n : Int32} (hd : decode (mB M) pc = .ok (.anewarray i, 3)) (t1 : 3 ≤ ty) (t2 : ty ≤ 6) (hw : Jvm.Cond.classLink (oN (mO M)) i (oN (cmpC ty)) ∈ lw_tbl) (hv : Jvm.Cond.arrayOver (.object (oN (cmpC ty))) ∈ lw_tbl) (hn : ¬ n < 0) (hn2 : n.toNatClampNeg ≤ 1000) (h1 : 1 ≤ hC h) (h2 : n.toNatClampNeg ≤ hS h)
    (k : SX l dC dI dA b0 d M (pc + 3) ls (vR (some (hN h)) :: st) (al h (100 + ty, n.toNatClampNeg) n.toNatClampNeg) P) : SX l dC dI dA b0 d M pc ls (vI n :: st) h P := by
  intro p e R s m args below meth cd H locs cells slots LS Q hF hW hRm hRp ho hl hLc hQ
  refine W.anew hF.1 hF.2.1 hF.2.2.2.2.2.1 (hW.use hw rfl) (hW.use hv rfl) rfl hd rfl hn (by omega) (by omega) (by omega) (fun cA kA comp f1 f2 f3 f4 => ?_)
  have hra := (hW.2.1.2 ty (by omega)).2
  rw [(aty_ref t1 t2).1] at hra
  obtain ⟨-, -, -, -, -, g4⟩ := hra
  have hcA : cA = dA ty := Option.some.inj (f1.symm.trans g4)
  subst hcA
  have z1 : (H.push ({ cls := dA ty, slots := Array.replicate n.toNatClampNeg .null, vm := .none } : Cell)).size = hN h + 1 := by rw [Array.size_push, hRp.1]
  have e1 : (H.push ({ cls := dA ty, slots := Array.replicate n.toNatClampNeg .null, vm := .none } : Cell))[hN h]? = some (arrV (dA ty) n.toNatClampNeg (fun _ => defaultValue (aty ty))) := by rw [← hRp.1, Array.getElem?_push_size, ← arrV_new, (aty_ref t1 t2).1]; rfl
  have o1 : ∀ q, q < hN h → (H.push ({ cls := dA ty, slots := Array.replicate n.toNatClampNeg .null, vm := .none } : Cell))[q]? = H[q]? := fun q hq => by rw [Array.getElem?_push, if_neg (by rw [hRp.1]; omega)]
  have := sx_arrnew (e := e) (args := args) (st := vR (some (hN h)) :: st) (pc' := pc + 3) (by omega) hF hW hRm hRp ho hl hLc hQ h1 h2 e1 z1 o1 k
  rw [← hRp.1] at this
  exact this
/-- behind a return -/
theorem sn_end {s : State} {below : List Frame} {H : Heap} {cells slots : Nat} {args : Array Value} {v : Option AV} (hRp : sn_R dC dI dA b0 s h H) (ho : ∀ q, q < b0 → H[q]? = s.heap[q]?) {t : State}
    (hm : MQ below (fun _ _ o t => o = .returned (v.map av_V) ∧ t.heap = H) args s cells slots (fun q => b0 ≤ q) t) : sn_E dC dI dA b0 s below (cells + hC h) (slots + hS h) t (.inl v) h := by
  obtain ⟨o, hrun, hend, ⟨rfl, hh⟩, L, ⟨-, hWm, hsame⟩, hL9⟩ := hm
  exact ⟨hrun, hend, by rw [hh]; exact hRp, by rw [hh]; exact ho, hWm, L, cells, slots, hsame, hL9, rfl, rfl⟩
theorem sx_iret {x : Int32} (hd : decode (mB M) pc = .ok (.ireturn, 1)) (hr : (mR M = some .int) ∨ (mR M = some .boolean ∧ isB x)) (k : P (.inl (some (vI x))) h) : SX l dC dI dA b0 d M pc ls [vI x] h P := by
  intro p e R s m args below meth c H locs cells slots LS Q hF hW hRm hRp ho hl hLc hQ
  rcases hr with hr | ⟨hr, hx⟩
  · exact W.post (W.zret (Qc := fun _ _ o t => o = .returned (Option.map av_V (some (vI x))) ∧ t.heap = H) (free := fun q => b0 ≤ q) (ty := .int) hF.1 hF.2.1 (hF.2.2.2.1.trans hr) rfl (fun t ht _ => ⟨rfl, ht⟩) hl hd hF.2.2.2.2.1) (fun t hm => hQ _ h t k (sn_end hRp ho hm))
  · exact W.post (W.zret (Qc := fun _ _ o t => o = .returned (Option.map av_V (some (vI x))) ∧ t.heap = H) (free := fun q => b0 ≤ q) (ty := .boolean) hF.1 hF.2.1 (hF.2.2.2.1.trans hr) (nar_B hx) (fun t ht _ => ⟨rfl, ht⟩) hl hd hF.2.2.2.2.1) (fun t hm => hQ _ h t k (sn_end hRp ho hm))
theorem sx_lret {x : Int64} (hd : decode (mB M) pc = .ok (.lreturn, 1)) (hr : mR M = some .long) (k : P (.inl (some (vL x))) h) : SX l dC dI dA b0 d M pc ls [vL x] h P := by
  intro p e R s m args below meth c H locs cells slots LS Q hF hW hRm hRp ho hl hLc hQ
  exact W.post (W.lret (Qc := fun _ _ o t => o = .returned (Option.map av_V (some (vL x))) ∧ t.heap = H) (free := fun q => b0 ≤ q) hF.1 hF.2.1 (hF.2.2.2.1.trans hr) (fun t ht _ => ⟨rfl, ht⟩) hl hd hF.2.2.2.2.1) (fun t hm => hQ _ h t k (sn_end hRp ho hm))
theorem sx_aret {x : Option Nat} {nm : String} (hd : decode (mB M) pc = .ok (.areturn, 1)) (hr : mR M = some (.object nm)) (k : P (.inl (some (vR x))) h) : SX l dC dI dA b0 d M pc ls [vR x] h P := by
  intro p e R s m args below meth c H locs cells slots LS Q hF hW hRm hRp ho hl hLc hQ
  exact W.post (W.aret (Qc := fun _ _ o t => o = .returned (Option.map av_V (some (vR x))) ∧ t.heap = H) (free := fun q => b0 ≤ q) (v := av_V (vR x)) hF.1 hF.2.1 (hF.2.2.2.1.trans hr) (Or.inl ⟨nm, rfl⟩) (by cases x with | none => exact Or.inl rfl | some a => exact Or.inr ⟨a, rfl⟩) (fun t ht _ => ⟨rfl, ht⟩) hl hd hF.2.2.2.2.1) (fun t hm => hQ _ h t k (sn_end hRp ho hm))
theorem sx_vret (hd : decode (mB M) pc = .ok (.return_, 1)) (hr : mR M = none) (k : P (.inl none) h) : SX l dC dI dA b0 d M pc ls [] h P := by
  intro p e R s m args below meth c H locs cells slots LS Q hF hW hRm hRp ho hl hLc hQ
  exact W.post (W.vret (Qc := fun _ _ o t => o = .returned (Option.map av_V none) ∧ t.heap = H) (free := fun q => b0 ≤ q) hF.1 hF.2.1 (hF.2.2.2.1.trans hr) (fun t ht _ => ⟨rfl, ht⟩) hl hd hF.2.2.2.2.1) (fun t hm => hQ _ h t k (sn_end hRp ho hm))
theorem cat_le (v : Value) : v.category ≤ 2 := by cases v <;> simp [Value.category]
theorem cat_sum : ∀ (st : List AV) (n : Nat), st.length ≤ n → ((st.map av_V).map fun v => v.category).sum ≤ 2 * n
  | [], _, _ => by simp
  | v :: r, n + 1, hl => by
    have := cat_sum r n (by simpa using hl)
    have h2 := cat_le (av_V v)
    simp only [List.map_cons, List.sum_cons]
    omega
theorem st_obj : Jvm.Cond.instanceMethod objectInit ∈ lw_tbl ∧ Jvm.Cond.code objectInit ⟨#[0xb1]⟩ 1 none ∈ lw_tbl := by decide +kernel
theorem sx_obj {i a : Nat} (hd : decode (mB M) pc = .ok (.invokespecial i, 3)) (hw : Jvm.Cond.methodLink (oN (mO M)) i objectInit ∈ lw_tbl) (hs : st.length ≤ 4) (k : SX l dC dI dA b0 d M (pc + 3) ls st h P) : SX l dC dI dA b0 d M pc ls (vR (some a) :: st) h P := by
  intro p e R s m args below meth c H locs cells slots LS Q hF hW hRm hRp ho hl hLc hQ
  have hc := cat_sum st 4 hs
  refine W.objInit hF.1 hF.2.1 hF.2.2.2.2.2.1 (hW.use hw rfl) (hW.use st_obj.1 rfl) (hW.use st_obj.2 rfl) rfl (by rw [hF.2.2.1]; exact hLc.1) rfl hd (by omega) ?_ (k p e R s m args below meth c H locs cells slots LS Q hF hW hRm hRp ho hl hLc hQ)
  show 2 * 0 + _ + 12 ≤ _
  omega
theorem st_cpy : Jvm.Cond.native arraycopyName ∈ lw_tbl ∧ Jvm.Cond.static arraycopyName ∈ lw_tbl ∧ Jvm.Cond.initialized "java/lang/System" ∈ lw_tbl := by decide +kernel
theorem clampI {z : Int32} (hz : ¬ z < 0) : z.toInt = (z.toNatClampNeg : Int) := by
  have hz0 : (0 : Int) ≤ z.toInt := by
    have := Int32.not_lt.mp hz
    simpa using Int32.le_iff_toInt_le.mp this
  show z.toInt = ((z.toInt.toNat : Nat) : Int)
  omega
theorem sx_cpy {i a b na nb : Nat} {sp dp n : Int32} (hd : decode (mB M) pc = .ok (.invokestatic i, 3)) (hw : Jvm.Cond.methodLink (oN (mO M)) i arraycopyName ∈ lw_tbl) (hs : st.length ≤ 4) (h1 : ¬ sp < 0) (h2 : ¬ dp < 0) (h3 : ¬ n < 0) (ha : hT h a = some (100, na)) (hb : hT h b = some (100, nb)) (h4 : sp.toNatClampNeg + n.toNatClampNeg ≤ na) (h5 : dp.toNatClampNeg + n.toNatClampNeg ≤ nb)
    (k : SX l dC dI dA b0 d M (pc + 3) ls st (cpI h a sp.toNatClampNeg b dp.toNatClampNeg n.toNatClampNeg) P) : SX l dC dI dA b0 d M pc ls (vI n :: vI dp :: vR (some b) :: vI sp :: vR (some a) :: st) h P := by
  intro p e R s m args below meth c H locs cells slots LS Q hF hW hRm hRp ho hl hLc hQ
  have hcat := cat_sum st 4 hs
  obtain ⟨-, hca⟩ := sn_arr (ty := 0) (by decide) hRp ha
  obtain ⟨hb0, hcb⟩ := sn_arr (ty := 0) (by decide) hRp hb
  have fa : arrF h a 0 = fun j => .int (hI h a j) := rfl
  have fb : arrF h b 0 = fun j => .int (hI h b j) := rfl
  rw [fa] at hca
  rw [fb] at hcb
  obtain ⟨-, k0, hk0, cm0, hkk0⟩ := (hW.2.1.2 0 (by decide)).1 na (fun j => .int (hI h a j))
  obtain ⟨-, k1, hk1, cm1, hkk1⟩ := (hW.2.1.2 0 (by decide)).1 nb (fun j => .int (hI h b j))
  intro T hT X
  obtain ⟨vm', X', step⟩ := X.arraycopy hF.1 hF.2.2.2.2.2.1 (hW.use hw rfl) (hW.use st_cpy.1 rfl) (hW.use st_cpy.2.1 rfl) (hW.use st_cpy.2.2 rfl) (src := a) (dst := b) (srcPos := sp) (destPos := dp) (n := n) (by rw [hT]; exact hca) (by rw [hT]; exact hcb)
    (fun _ h => by cases h) (fun _ h => by cases h) (fun h => by cases h) (fun h => by cases h) hk0 hk1 hkk0 hkk1 (by decide) h1 h2 h3
    (by rw [clampI h1, clampI h3, arrV_size]; omega)
    (by rw [clampI h2, clampI h3, arrV_size]; omega)
    (fun vm₁ _ j hj => by
      have e9 : (arrV (dA 0) na (fun j => .int (hI h a j))).slots.getD (sp.toNatClampNeg + j) .null = .int (hI h a (sp.toNatClampNeg + j)) := by
        rw [Array.getD_eq_getD_getElem?, arrV_read _ _ (by omega)]
        rfl
      refine ⟨?_, ?_⟩
      · rw [e9]
        rfl
      · rw [e9]
        exact trivial)
    (g := F0 m pc LS (.int n :: .int dp :: .ref b :: .int sp :: .ref a :: st.map av_V)) rfl (by rw [hF.2.2.1]; exact hLc.1) (rest := st.map av_V) rfl (by rw [hF.2.1]; exact hd) (by omega) (by
      show 2 * 0 + _ + _ ≤ _
      have : nativeFrameWords "java/lang/System" "arraycopy" 5 ≤ 100 := by decide +kernel
      omega)
  have e1 : copied (arrV (dA 0) na (fun j => .int (hI h a j))) (arrV (dA 0) nb (fun j => .int (hI h b j))) sp dp n = arrV (dA 0) nb (fun j => .int (va_cpy (hI h a) (hI h b) sp.toNatClampNeg dp.toNatClampNeg n.toNatClampNeg j)) := va_copied (fun z => .int z) (dA 0) (dA 0) (hI h a) (hI h b) h4
  rw [e1] at X' step
  generalize hcell : arrV (dA 0) nb (fun j => .int (va_cpy (hI h a) (hI h b) sp.toNatClampNeg dp.toNatClampNeg n.toNatClampNeg j)) = cell at X' step
  have hlt : b < H.size := (Array.getElem?_eq_some_iff.mp hcb).1
  have hheap : ((T.setVm vm').setCell b cell).heap = H.setIfInBounds b cell := by rw [← hT]; rfl
  have oq : ∀ q : Nat, q ≠ b → (H.setIfInBounds b cell)[q]? = H[q]? := fun q hq => by simp [Array.getElem?_setIfInBounds, Ne.symm hq]
  have key : ∀ L : List Loc, (∀ q ∈ L, b0 ≤ q.base) → W p l e R s m args below meth c (H.setIfInBounds b cell) (locs ++ L) cells slots Q (F0 m (pc + 3) LS (st.map av_V)) := by
    intro L hL9
    refine k p e R s m args below meth c (H.setIfInBounds b cell) (locs ++ L) cells slots LS Q hF hW hRm ?_ (fun q hq => by rw [oq q (by omega)]; exact ho q hq) ?_ hLc hQ
    · refine hRp.put (a := b) (by simp) oq rfl rfl ?_ (fun _ _ => rfl) (fun _ _ => rfl) (fun t' ht' => ?_)
      · intro q hq
        funext j
        simp [hI_cp, hq]
      · cases hb.symm.trans ht'
        refine Or.inr (Or.inl ⟨0, by decide, rfl, hb0, ?_⟩)
        rw [show (H.setIfInBounds b cell)[b]? = some cell by simp [Array.getElem?_setIfInBounds, hlt], ← hcell]
        congr 2
        funext j
        show Value.int _ = Value.int _
        congr 1
        simp [va_cpy, hI_cp]
    · intro q hq
      rcases List.mem_append.mp hq with z | z
      · exact hl q z
      · exact hL9 q z
  obtain ⟨t, a1, b1⟩ := key _ (fun q hq => by
    obtain ⟨z, -, hz⟩ := List.mem_map.mp hq
    rw [← hz]
    exact hb0) _ hheap X'
  exact ⟨t, step t a1, b1⟩
end SX11
