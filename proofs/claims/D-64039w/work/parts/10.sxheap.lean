/-! ===== soundness of the instructions on the heap, and of the returns ===== -/
/-- the field f by the pool's entry i of the class o -/
def fOK (o i f : Nat) : Prop := ∃ ref, Jvm.Cond.fieldLink (oN o) i ref (fD f).2.1 (fD f).2.2.1 ∈ lw_tbl ∧ (ref = (fD f).1 ∨ Jvm.Cond.sameField ref (fD f).1 (fD f).2.1 (fD f).2.2.1 ∈ lw_tbl)
section SX10
variable {l : Launch} {dC : Nat → ClassId} {dI : Nat → Nat → Nat} {dA : Nat → ClassId} {b0 d M pc : Nat} {ls st : List AV} {h : AH} {P : PT}
theorem sn_W.use {U : State} (hW : sn_W dC dI dA b0 U) {w : Jvm.Cond} (hw : w ∈ lw_tbl) (ho : wok w = true) {A : Array Value} : w.before A U = true := wok_move ho (State.WarmedH.refl U) (hW.1 w hw ho)
theorem sn_fok {U : State} {H : Heap} {a f : Nat} (hR : sn_R dC dI dA b0 U h H) (hf : fok h a f) : ∃ c n k, c < 17 ∧ hT h a = some (c, n) ∧ b0 ≤ a ∧ t_OB a (dC c) (idsOf c).length (dI c) H (objV h a c) ∧ k < (idsOf c).length ∧ (idsOf c).getD k 0 = f ∧ (idsOf c)[k]? = some f := by
  unfold fok at hf
  cases ht : hT h a with
  | none => rw [ht] at hf; cases hf
  | some t =>
    rw [ht] at hf
    obtain ⟨c, n⟩ := t
    have hm : f ∈ idsOf c := by simpa using hf
    have hc : c < 17 := by
      rcases Nat.lt_or_ge c 17 with q | q
      · exact q
      · rw [st_17 c q] at hm; cases hm
    obtain ⟨k, hk⟩ := List.getElem?_of_mem hm
    rcases hR.2.2 a _ ht with ⟨h1, h2, h3⟩ | ⟨ty, h1, h2, h3, h4⟩ | ⟨h1, h2, h3⟩ | ⟨h1, h2, h3, h4⟩
    · exact ⟨c, n, k, hc, rfl, h2, h3, (List.getElem?_eq_some_iff.mp hk).1, by simp [hk], hk⟩
    · have h2 : c = 100 + ty := h2
      omega
    · have h1 : c = 107 := h1
      omega
    · have h1 : 50 ≤ c := h1
      omega
theorem sn_ws {U : State} (hW : sn_W dC dI dA b0 U) {c : Nat} (hc : c < 17) {A : Array Value} : ∀ w ∈ u_ws (oN c) (cT c) (idsOf c).length, w.before A U = true :=
  fun w hw => hW.use (st_u c hc w hw).1 (st_u c hc w hw).2
theorem sx_getf {i f a : Nat} (hd : decode (mB M) pc = .ok (.getfield i, 3)) (hfk : fOK (mO M) i f) (hok : fok h a f) (k : SX l dC dI dA b0 d M (pc + 3) ls (fgt h a f :: st) h P) : SX l dC dI dA b0 d M pc ls (vR (some a) :: st) h P := by
  intro p e R s m args below meth c H locs cells slots LS Q hF hW hRm hRp ho hl hLc hQ
  obtain ⟨ci, n, j, hc, ht, hb0, ⟨cell, q1, q2, q3, q4⟩, hj, hjf, -⟩ := sn_fok hRp hok
  obtain ⟨ref, w1, w2⟩ := hfk
  obtain ⟨hS, hfc, kC, hkC, hkind⟩ := hW.2.1.1 ci hc
  obtain ⟨cf, kf, fi, fd, hi, hsl⟩ := hS j hj
  have hT : cT ci j = fD f := by show fD _ = _; rw [hjf]
  have hi' : s.fieldFound? ref (fD f).2.1 (fD f).2.2.1 = some (cf, kf, fi, fd) := by
    rw [hT] at hi
    rcases w2 with rfl | w2
    · exact hi
    · exact u_same (hW.use (A := args) w2 rfl) _ hi
  refine W.getf hF.1 hF.2.1 hF.2.2.2.2.2.1 (hW.use w1 rfl) hi' (u_facts hfc hkC (u_lays (sn_ws hW hc (A := args)) (fun w hw => hw) hj) hi).1 q1 (by rw [q3]; exact fun h => by cases h) (v := av_V (fgt h a f)) ?_ rfl rfl hd (k p e R s m args below meth c H locs cells slots LS Q hF hW hRm hRp ho hl hLc hQ)
  rw [hsl, q4 j hj]
  show some (av_V (fgt h a ((idsOf ci).getD j 0))) = _
  rw [hjf]
/-- a store into a field: what changes in the abstract heap is the field f of a alone, and it holds v -/
theorem sx_putf {i f a : Nat} {v : AV} {h' : AH} (hd : decode (mB M) pc = .ok (.putfield i, 3)) (hfk : fOK (mO M) i f) (hfin : (fD f).2.2.2 = false ∨ ((mY M).name = "<init>" ∧ (fD f).1 = oN (mO M))) (hok : fok h a f)
    (hn : narrow (fty f) (av_V v) = av_V v) (hfit : fits (fty f) (av_V v) = true)
    (hN' : hN h' = hN h) (hT' : hT h' = hT h) (hC' : hC h' = hC h) (hS' : hS h' = hS h) (hi9 : ∀ q, q ≠ a → hI h' q = hI h q) (hl9 : ∀ q, q ≠ a → hL h' q = hL h q) (hr9 : ∀ q, q ≠ a → hR h' q = hR h q) (hv : fgt h' a f = v) (ho9 : ∀ g, g ≠ f → fgt h' a g = fgt h a g)
    (k : SX l dC dI dA b0 d M (pc + 3) ls st h' P) : SX l dC dI dA b0 d M pc ls (v :: vR (some a) :: st) h P := by
  intro p e R s m args below meth c H locs cells slots LS Q hF hW hRm hRp ho hl hLc hQ
  obtain ⟨ci, n, j, hc, ht, hb0, ⟨cell, q1, q2, q3, q4⟩, hj, hjf, hjf2⟩ := sn_fok hRp hok
  obtain ⟨ref, w1, w2⟩ := hfk
  obtain ⟨hS, hfc, kC, hkC, hkind⟩ := hW.2.1.1 ci hc
  obtain ⟨cf, kf, fi, fd, hi, hsl⟩ := hS j hj
  have hT : cT ci j = fD f := by show fD _ = _; rw [hjf]
  have hi' : s.fieldFound? ref (fD f).2.1 (fD f).2.2.1 = some (cf, kf, fi, fd) := by
    rw [hT] at hi
    rcases w2 with rfl | w2
    · exact hi
    · exact u_same (hW.use (A := args) w2 rfl) _ hi
  have hlays := u_lays (sn_ws hW hc (A := args)) (fun w hw => hw) hj
  have hst := (u_facts hfc hkC hlays hi).1
  have hty := (st_t ci hc j hj).1
  rw [hjf] at hty
  have hap : ∀ x y, x < (idsOf ci).length → y < (idsOf ci).length → x ≠ y → dI ci x ≠ dI ci y := by
    intro x y hx hy hne
    obtain ⟨_, _, _, fa, hia, ea⟩ := hS x hx
    obtain ⟨_, _, _, fb, hib, eb⟩ := hS y hy
    rw [← ea, ← eb]
    refine u_apart (u_lays (sn_ws hW hc (A := args)) (fun w hw => hw) hx) (u_lays (sn_ws hW hc (A := args)) (fun w hw => hw) hy) hia hib ?_
    rw [(State.fieldFound?_type hia (st_t ci hc x hx).1).1, (State.fieldFound?_type hib (st_t ci hc y hy).1).1]
    exact st_n ci hc x hx y hy hne
  have hlay := (sn_ws hW hc (A := args)) _ (u_in_lay hj)
  have hend : ∀ H' : Heap, H'[a]? = some (cell.setSlot fd.slot (av_V v)) → H'.size = H.size → (∀ q, q ≠ a → H'[q]? = H[q]?) → W p l e R s m args below meth c H' (locs ++ [⟨a, fd.slot⟩]) cells slots Q (F0 m (pc + 3) LS (st.map av_V)) := by
    intro H' e1 e2 e3
    refine k p e R s m args below meth c H' _ cells slots LS Q hF hW (by rw [hC', hS']; exact hRm) ?_ (fun q hq => by rw [e3 q (by omega)]; exact ho q hq) (fun q hq => ?_) hLc (fun o h2 t hp he => hQ o h2 t hp (by rw [hC', hS'] at he; exact he))
    · refine hRp.put (a := a) e2 e3 hN' hT' hi9 hl9 hr9 (fun t' ht' => ?_)
      cases ht.symm.trans ht'
      refine Or.inl ⟨hc, hb0, ⟨_, e1, q2, q3, fun x hx => ?_⟩⟩
      rw [hsl, t_set q4 hap hj (av_V v) x hx]
      unfold updV
      split
      · rename_i e
        subst e
        show _ = some (av_V (fgt h' a ((idsOf ci).getD x 0)))
        rw [hjf, hv]
      · rename_i e
        show some (av_V (fgt h a ((idsOf ci).getD x 0))) = some (av_V (fgt h' a ((idsOf ci).getD x 0)))
        rw [ho9]
        intro e9
        apply e
        have hx2 : (idsOf ci)[x]? = some f := by rw [List.getElem?_eq_getElem hx]; rw [← e9]; simp [hx]
        exact (List.getElem?_inj hx (st_d ci hc)).mp (hx2.trans hjf2.symm)
    · rcases List.mem_append.mp hq with z | z
      · exact hl q z
      · rw [List.mem_singleton.mp z]; exact hb0
  by_cases hfi : (fD f).2.2.2 = false
  · unfold u_lay at hlay
    rw [if_neg (by rw [hT, hfi]; decide), hT] at hlay
    have h6 := u_store hfc hkC hkind hlay (by rw [hT] at hi; exact hi) (by rw [hT] at hty; exact hty) hn hfit
    exact W.putK hF.1 hF.2.1 (f := fd) ⟨hF.2.2.2.2.2.1, hW.use w1 rfl, ⟨_, _, _, hi'⟩, hst⟩ (by rw [q2]; exact h6) q1 q3 (by rw [hsl]; exact k2_hasslot (q4 j hj)) rfl rfl hd hend
  · have hfi : (fD f).2.2.2 = true := by cases hb9 : (fD f).2.2.2 with
      | true => rfl
      | false => exact absurd hb9 hfi
    obtain ⟨hin2, hdecl⟩ := hfin.resolve_left (by rw [hfi]; decide)
    unfold u_lay at hlay
    rw [if_pos (by rw [hT]; exact hfi), hT] at hlay
    have hi2 := hi
    rw [hT] at hi2
    have hcf : m.cls = cf := by
      obtain ⟨_, _, c', _, _, _, -, -, hf', -, -, -, hown2, -⟩ := Cond.laysFinal_spec hlay
      have e1 : c' = cf := by have := hi2.symm.trans hf'; simp at this; exact this.1.symm
      rw [hdecl] at hown2
      rw [← e1]; exact Option.some.inj (hF.2.2.2.2.2.1.symm.trans hown2)
    have h6 := u_fits hfc hkC hkind (Or.inr hlay) hi2 (by rw [hT] at hty; exact hty) hn hfit
    exact W.putFinK hF.1 hF.2.1 hF.2.2.2.2.2.1 (hW.use w1 rfl) hi' hst hcf (hF.2.2.2.2.2.2.1.trans hin2) (by rw [q2]; exact h6) q1 q3 (by rw [hsl]; exact k2_hasslot (q4 j hj)) rfl rfl hd hend
/-- an array's cell -/
theorem sn_arr {U : State} {H : Heap} {a ty n : Nat} (hty : ty < 7) (hR : sn_R dC dI dA b0 U h H) (ht : hT h a = some (100 + ty, n)) : b0 ≤ a ∧ H[a]? = some (arrV (dA ty) n (arrF h a ty)) := by
  rcases hR.2.2 a _ ht with ⟨h1, h2, h3⟩ | ⟨ty', h1, h2, h3, h4⟩ | ⟨h1, h2, h3⟩ | ⟨h1, h2, h3, h4⟩
  · have h1 : 100 + ty < 17 := h1
    omega
  · have h2 : 100 + ty = 100 + ty' := h2
    have e : ty' = ty := by omega
    subst e
    exact ⟨h3, h4⟩
  · have h1 : 100 + ty = 107 := h1
    omega
  · have h2 : 100 + ty < 55 := h2
    omega
theorem sx_iald {a : Nat} {i : Int32} (hd : decode (mB M) pc = .ok (.iaload, 1)) (hok : aIn h a i) (k : SX l dC dI dA b0 d M (pc + 1) ls (vI (hI h a i.toNatClampNeg) :: st) h P) : SX l dC dI dA b0 d M pc ls (vI i :: vR (some a) :: st) h P := by
  intro p e R s m args below meth c H locs cells slots LS Q hF hW hRm hRp ho hl hLc hQ
  obtain ⟨n, ht, hin⟩ := hok
  have hlt : i.toNatClampNeg < n := Nat.not_le.mp fun q => hin (Or.inr q)
  rcases ht with ht | ht
  · obtain ⟨-, hc⟩ := sn_arr (ty := 0) (by decide) hRp ht
    exact W.iald (v := .int (hI h a i.toNatClampNeg)) hF.1 hF.2.1 hc ((hW.2.1.2 0 (by decide)).1 n _) (fun q => by cases q) (by rw [arrV_size]; exact hin) (by rw [arrV_read _ _ hlt]; rfl) rfl rfl hd (k p e R s m args below meth c H locs cells slots LS Q hF hW hRm hRp ho hl hLc hQ)
  · rcases hRp.2.2 a _ ht with ⟨h1, h2, h3⟩ | ⟨ty', h1, h2, h3, h4⟩ | ⟨h1, h2, scr, x1, x2, x3, x4, x5⟩ | ⟨h1, h2, h3, h4⟩
    · have h1 : 107 < 17 := h1
      omega
    · have h2 : 107 = 100 + ty' := h2
      omega
    · exact W.iald (v := .int (hI h a i.toNatClampNeg)) hF.1 hF.2.1 x1 x2 x3 (by rw [x4]; exact hin) (x5 _ hlt) rfl rfl hd (k p e R s m args below meth c H locs cells slots LS Q hF hW hRm hRp ho hl hLc hQ)
    · have h2 : 107 < 55 := h2
      omega
theorem sx_bald {a : Nat} {i : Int32} (hd : decode (mB M) pc = .ok (.baload, 1)) (hok : ain h a 1 i) (k : SX l dC dI dA b0 d M (pc + 1) ls (vI (hI h a i.toNatClampNeg) :: st) h P) : SX l dC dI dA b0 d M pc ls (vI i :: vR (some a) :: st) h P := by
  intro p e R s m args below meth c H locs cells slots LS Q hF hW hRm hRp ho hl hLc hQ
  obtain ⟨n, ht, hin⟩ := hok
  have hlt : i.toNatClampNeg < n := Nat.not_le.mp fun q => hin (Or.inr q)
  obtain ⟨-, hc⟩ := sn_arr (ty := 1) (by decide) hRp ht
  exact W.zald (v := .int (hI h a i.toNatClampNeg)) hF.1 hF.2.1 hc ((hW.2.1.2 1 (by decide)).1 n _) (fun q => by cases q) (by rw [arrV_size]; exact hin) (by rw [arrV_read _ _ hlt]; rfl) rfl rfl hd (k p e R s m args below meth c H locs cells slots LS Q hF hW hRm hRp ho hl hLc hQ)
theorem sx_lald {a : Nat} {i : Int32} (hd : decode (mB M) pc = .ok (.laload, 1)) (hok : ain h a 2 i) (k : SX l dC dI dA b0 d M (pc + 1) ls (vL (hL h a i.toNatClampNeg) :: st) h P) : SX l dC dI dA b0 d M pc ls (vI i :: vR (some a) :: st) h P := by
  intro p e R s m args below meth c H locs cells slots LS Q hF hW hRm hRp ho hl hLc hQ
  obtain ⟨n, ht, hin⟩ := hok
  have hlt : i.toNatClampNeg < n := Nat.not_le.mp fun q => hin (Or.inr q)
  obtain ⟨-, hc⟩ := sn_arr (ty := 2) (by decide) hRp ht
  exact W.lald (v := .long (hL h a i.toNatClampNeg)) hF.1 hF.2.1 hc ((hW.2.1.2 2 (by decide)).1 n _) (fun q => by cases q) (by rw [arrV_size]; exact hin) (by rw [arrV_read _ _ hlt]; rfl) rfl rfl hd (k p e R s m args below meth c H locs cells slots LS Q hF hW hRm hRp ho hl hLc hQ)
theorem aty_ref {ty : Nat} (h1 : 3 ≤ ty) (h2 : ty ≤ 6) : aty ty = .object (oN (cmpC ty)) ∧ cmpC ty < 17 := by
  rcases (show ty = 3 ∨ ty = 4 ∨ ty = 5 ∨ ty = 6 by omega) with rfl | rfl | rfl | rfl <;> exact ⟨rfl, by decide⟩
theorem sx_aald {a : Nat} {i : Int32} (hd : decode (mB M) pc = .ok (.aaload, 1)) (hok : aRf h a i) (k : SX l dC dI dA b0 d M (pc + 1) ls (vR (hR h a i.toNatClampNeg) :: st) h P) : SX l dC dI dA b0 d M pc ls (vI i :: vR (some a) :: st) h P := by
  intro p e R s m args below meth c H locs cells slots LS Q hF hW hRm hRp ho hl hLc hQ
  obtain ⟨ty, n, t1, t2, ht, hin⟩ := hok
  have hlt : i.toNatClampNeg < n := Nat.not_le.mp fun q => hin (Or.inr q)
  obtain ⟨-, hc⟩ := sn_arr (ty := ty) (by omega) hRp ht
  refine W.aald (ty := aty ty) (v := va_rf (hR h a i.toNatClampNeg)) hF.1 hF.2.1 hc ((hW.2.1.2 ty (by omega)).1 n _) (by rw [(aty_ref t1 t2).1]; rfl) (fun q => by cases q) (by rw [arrV_size]; exact hin) ?_ rfl rfl hd (k p e R s m args below meth c H locs cells slots LS Q hF hW hRm hRp ho hl hLc hQ)
  rw [arrV_read _ _ hlt]
  unfold arrF
  rw [if_neg (by omega), if_neg (by omega)]
/-- behind a store into an array -/
theorem sx_ast {p : Program} {e : Env} {R : Room} {s : State} {m : MethodId} {args : Array Value} {below : List Frame} {meth : Method} {c : Code} {H H' : Heap} {locs : List Loc} {cells slots : Nat} {LS : Array Slot} {Q : State → Prop} {a ty n j pc' : Nat} {v : Value} {h' : AH} (hty : ty < 7)
    (hF : sn_F p s m meth c M) (hW : sn_W dC dI dA b0 s) (hRm : d + 20 ≤ R.frames ∧ 60 * d + 200 ≤ R.locals ∧ cells + hC h ≤ R.cells ∧ slots + hS h ≤ R.slots) (hRp : sn_R dC dI dA b0 s h H) (ho : ∀ q, q < b0 → H[q]? = s.heap[q]?) (hl : ∀ q ∈ locs, b0 ≤ q.base) (hLc : sn_L LS (mL M) ls)
    (hQ : ∀ o h' t, P o h' → sn_E dC dI dA b0 s below (cells + hC h) (slots + hS h) t o h' → Q t) (ht : hT h a = some (100 + ty, n))
    (e1 : H'[a]? = some ((arrV (dA ty) n (arrF h a ty)).setSlot j v)) (e2 : H'.size = H.size) (e3 : ∀ q, q ≠ a → H'[q]? = H[q]?)
    (hN' : hN h' = hN h) (hT' : hT h' = hT h) (hC' : hC h' = hC h) (hS' : hS h' = hS h) (hi9 : ∀ q, q ≠ a → hI h' q = hI h q) (hl9 : ∀ q, q ≠ a → hL h' q = hL h q) (hr9 : ∀ q, q ≠ a → hR h' q = hR h q) (hv : arrF h' a ty = updV (arrF h a ty) j v)
    (k : SX l dC dI dA b0 d M pc' ls st h' P) : W p l e R s m args below meth c H' (locs ++ [⟨a, j⟩]) cells slots Q (F0 m pc' LS (st.map av_V)) := by
  obtain ⟨hb0, hc⟩ := sn_arr hty hRp ht
  refine k p e R s m args below meth c H' _ cells slots LS Q hF hW (by rw [hC', hS']; exact hRm) ?_ (fun q hq => by rw [e3 q (by omega)]; exact ho q hq) (fun q hq => ?_) hLc (fun o h2 t hp he => hQ o h2 t hp (by rw [hC', hS'] at he; exact he))
  · refine hRp.put (a := a) e2 e3 hN' hT' hi9 hl9 hr9 (fun t' ht' => ?_)
    cases ht.symm.trans ht'
    exact Or.inr (Or.inl ⟨ty, hty, rfl, hb0, by rw [e1, arrV_store, hv]⟩)
  · rcases List.mem_append.mp hq with z | z
    · exact hl q z
    · rw [List.mem_singleton.mp z]; exact hb0
theorem u2_ne {α : Type} (f : Nat → Nat → α) {a k : Nat} {v : α} {q : Nat} (h : q ≠ a) : u2 f a k v q = f q := by
  funext j; simp [u2, h]
theorem u2_at {α : Type} (f : Nat → Nat → α) {a k : Nat} {v : α} (j : Nat) : u2 f a k v a j = if j = k then v else f a j := by
  simp [u2]
theorem arrF_I {h : AH} {a j : Nat} {x : Int32} {ty : Nat} (hty : ty < 2) : arrF (wI h a j x) a ty = updV (arrF h a ty) j (.int x) := by
  funext q
  unfold arrF updV
  simp only [if_neg (show ¬ ty = 2 by omega), if_pos hty, hI_wI, true_and]
  split <;> simp_all
theorem arrF_L {h : AH} {a j : Nat} {x : Int64} : arrF (wL h a j x) a 2 = updV (arrF h a 2) j (.long x) := by
  funext q
  unfold arrF updV
  simp only [if_true, hL_wL, true_and]
  split <;> simp_all
theorem arrF_R {h : AH} {a j : Nat} {x : Option Nat} {ty : Nat} (hty : 3 ≤ ty) : arrF (wR h a j x) a ty = updV (arrF h a ty) j (va_rf x) := by
  funext q
  unfold arrF updV
  simp only [if_neg (show ¬ ty = 2 by omega), if_neg (show ¬ ty < 2 by omega), hR_wR, true_and]
  split <;> simp_all
theorem wI_ne {h : AH} {a k : Nat} {v : Int32} : ∀ q, q ≠ a → hI (wI h a k v) q = hI h q := fun q hq => u2_ne _ hq
theorem wL_ne {h : AH} {a k : Nat} {v : Int64} : ∀ q, q ≠ a → hL (wL h a k v) q = hL h q := fun q hq => u2_ne _ hq
theorem wR_ne {h : AH} {a k : Nat} {v : Option Nat} : ∀ q, q ≠ a → hR (wR h a k v) q = hR h q := fun q hq => u2_ne _ hq
theorem sx_iast {a : Nat} {i x : Int32} (hd : decode (mB M) pc = .ok (.iastore, 1)) (hok : ain h a 0 i) (k : SX l dC dI dA b0 d M (pc + 1) ls st (wI h a i.toNatClampNeg x) P) : SX l dC dI dA b0 d M pc ls (vI x :: vI i :: vR (some a) :: st) h P := by
  intro p e R s m args below meth c H locs cells slots LS Q hF hW hRm hRp ho hl hLc hQ
  obtain ⟨n, ht, hin⟩ := hok
  obtain ⟨-, hc⟩ := sn_arr (ty := 0) (by decide) hRp ht
  exact W.iast hF.1 hF.2.1 hc ((hW.2.1.2 0 (by decide)).1 n _) (fun q => by cases q) (by rw [arrV_size]; exact hin) rfl rfl hd (fun H' e1 e2 e3 => sx_ast (h' := wI h a i.toNatClampNeg x) (ty := 0) (by decide) hF hW hRm hRp ho hl hLc hQ ht e1 e2 e3 rfl rfl rfl rfl wI_ne (fun _ _ => rfl) (fun _ _ => rfl) (arrF_I (by decide)) k)
theorem nar_B {x : Int32} (hx : isB x) : narrow .boolean (.int x) = .int x := by rcases hx with rfl | rfl <;> decide +kernel
theorem sx_bast {a : Nat} {i x : Int32} (hd : decode (mB M) pc = .ok (.bastore, 1)) (hx : isB x) (hok : ain h a 1 i) (k : SX l dC dI dA b0 d M (pc + 1) ls st (wI h a i.toNatClampNeg x) P) : SX l dC dI dA b0 d M pc ls (vI x :: vI i :: vR (some a) :: st) h P := by
  intro p e R s m args below meth c H locs cells slots LS Q hF hW hRm hRp ho hl hLc hQ
  obtain ⟨n, ht, hin⟩ := hok
  obtain ⟨-, hc⟩ := sn_arr (ty := 1) (by decide) hRp ht
  exact W.zast hF.1 hF.2.1 hc ((hW.2.1.2 1 (by decide)).1 n _) (fun q => by cases q) (by rw [arrV_size]; exact hin) rfl rfl hd (fun H' e1 e2 e3 => sx_ast (h' := wI h a i.toNatClampNeg x) (ty := 1) (by decide) hF hW hRm hRp ho hl hLc hQ ht (by rw [nar_B hx] at e1; exact e1) e2 e3 rfl rfl rfl rfl wI_ne (fun _ _ => rfl) (fun _ _ => rfl) (arrF_I (by decide)) k)
theorem sx_last {a : Nat} {i : Int32} {x : Int64} (hd : decode (mB M) pc = .ok (.lastore, 1)) (hok : ain h a 2 i) (k : SX l dC dI dA b0 d M (pc + 1) ls st (wL h a i.toNatClampNeg x) P) : SX l dC dI dA b0 d M pc ls (vL x :: vI i :: vR (some a) :: st) h P := by
  intro p e R s m args below meth c H locs cells slots LS Q hF hW hRm hRp ho hl hLc hQ
  obtain ⟨n, ht, hin⟩ := hok
  obtain ⟨-, hc⟩ := sn_arr (ty := 2) (by decide) hRp ht
  exact W.last hF.1 hF.2.1 hc ((hW.2.1.2 2 (by decide)).1 n _) (fun q => by cases q) (by rw [arrV_size]; exact hin) rfl rfl hd (fun H' e1 e2 e3 => sx_ast (h' := wL h a i.toNatClampNeg x) (ty := 2) (by decide) hF hW hRm hRp ho hl hLc hQ ht e1 e2 e3 rfl rfl rfl rfl (fun _ _ => rfl) wL_ne (fun _ _ => rfl) arrF_L k)
theorem sn_obj {U : State} {H : Heap} {a c n : Nat} (hc : c < 17) (hR : sn_R dC dI dA b0 U h H) (ht : hT h a = some (c, n)) : b0 ≤ a ∧ t_OB a (dC c) (idsOf c).length (dI c) H (objV h a c) := by
  rcases hR.2.2 a _ ht with ⟨h1, h2, h3⟩ | ⟨ty', h1, h2, h3, h4⟩ | ⟨h1, h2, h3⟩ | ⟨h1, h2, h3, h4⟩
  · exact ⟨h2, h3⟩
  · have h2 : c = 100 + ty' := h2
    omega
  · have h1 : c = 107 := h1
    omega
  · have h1 : 50 ≤ c := h1
    omega
theorem sx_aast {a : Nat} {i : Int32} {x : Option Nat} (hd : decode (mB M) pc = .ok (.aastore, 1)) (hok : aRs h a i x) (k : SX l dC dI dA b0 d M (pc + 1) ls st (wR h a i.toNatClampNeg x) P) : SX l dC dI dA b0 d M pc ls (vR x :: vI i :: vR (some a) :: st) h P := by
  intro p e R s m args below meth c H locs cells slots LS Q hF hW hRm hRp ho hl hLc hQ
  obtain ⟨ty, n, t1, t2, ht, hin, hx⟩ := hok
  obtain ⟨-, hc⟩ := sn_arr (ty := ty) (by omega) hRp ht
  obtain ⟨ha1, ha2⟩ := aty_ref t1 t2
  obtain ⟨hA1, hA2⟩ := hW.2.1.2 ty (by omega)
  have fin : ∀ H' : Heap, H'[a]? = some ((arrV (dA ty) n (arrF h a ty)).setSlot i.toNatClampNeg (va_rf x)) → H'.size = H.size → (∀ q, q ≠ a → H'[q]? = H[q]?) → W p l e R s m args below meth c H' (locs ++ [⟨a, i.toNatClampNeg⟩]) cells slots Q (F0 m (pc + 1) LS (st.map av_V)) :=
    fun H' e1 e2 e3 => sx_ast (h' := wR h a i.toNatClampNeg x) (ty := ty) (by omega) hF hW hRm hRp ho hl hLc hQ ht e1 e2 e3 rfl rfl rfl rfl (fun _ _ => rfl) (fun _ _ => rfl) wR_ne (arrF_R t1) k
  cases x with
  | none =>
    rw [ha1] at hA1
    exact va_WaastN (C := oN (cmpC ty)) hF.1 hF.2.1 hc (hA1 n _) (fun q => by cases q) (by rw [arrV_size]; exact hin) rfl rfl hd fin
  | some b =>
    obtain ⟨kb, hb⟩ := hx b rfl
    obtain ⟨-, cell, q1, q2, q3, q4⟩ := sn_obj ha2 hRp hb
    rw [ha1] at hA2
    obtain ⟨kA, comp, g1, g2, g3, g4⟩ := hA2
    obtain ⟨hS, hfc, kC, hkC, hkind⟩ := hW.2.1.1 (cmpC ty) ha2
    have hcomp : comp = dC (cmpC ty) := Option.some.inj (g3.symm.trans hfc)
    subst hcomp
    exact W.aast hF.1 hF.2.1 hc (fun q z => by cases z) (fun z => by cases z) g1 g2 rfl hkC ⟨fun z => hin (Or.inl z), by rw [arrV_size]; exact Nat.not_le.mp fun z => hin (Or.inr z)⟩ q1 (fun q z => by rw [q3] at z; cases z) (by rw [q2]; exact hkC) (by rw [q2]; exact va_assign ⟨hfc, kC, hkC, hkind⟩) rfl rfl hd fin
theorem sx_alen {a ty n : Nat} (hd : decode (mB M) pc = .ok (.arraylength, 1)) (hty : ty ≤ 7) (ht : hT h a = some (100 + ty, n)) (k : SX l dC dI dA b0 d M (pc + 1) ls (vI (nI n) :: st) h P) : SX l dC dI dA b0 d M pc ls (vR (some a) :: st) h P := by
  intro p e R s m args below meth c H locs cells slots LS Q hF hW hRm hRp ho hl hLc hQ
  by_cases h7 : ty = 7
  · subst h7
    rcases hRp.2.2 a _ ht with ⟨h1, h2, h3⟩ | ⟨ty', h1, h2, h3, h4⟩ | ⟨h1, h2, scr, x1, x2, x3, x4, x5⟩ | ⟨h1, h2, h3, h4⟩
    · have h1 : 107 < 17 := h1
      omega
    · have h2 : 107 = 100 + ty' := h2
      omega
    · exact W.alen (n := nI n) hF.1 hF.2.1 x1 x2 (by rw [x4]; rfl) rfl rfl hd (k p e R s m args below meth c H locs cells slots LS Q hF hW hRm hRp ho hl hLc hQ)
    · have h2 : 107 < 55 := h2
      omega
  · obtain ⟨-, hc⟩ := sn_arr (ty := ty) (by omega) hRp ht
    exact W.alen (n := nI n) hF.1 hF.2.1 hc ((hW.2.1.2 ty (by omega)).1 n _) (by rw [arrV_size]; rfl) rfl rfl hd (k p e R s m args below meth c H locs cells slots LS Q hF hW hRm hRp ho hl hLc hQ)
end SX10
