/-! deps: 25 26 27 36 37 38 39 40 41 42 43 -/
/-! ===== TREE: fromLeft, fromRight, join (records) ===== -/
theorem era_at {α : Type} (A B : List α) (x : α) : (A ++ x :: B).eraseIdx A.length = A ++ B := by
  induction A with
  | nil => simp
  | cons a A ih => simp [ih]
theorem era_at1 {α : Type} (A B : List α) (y x : α) : (A ++ y :: x :: B).eraseIdx (A.length + 1) = A ++ y :: B := by
  have := era_at (A ++ [y]) B x
  simpa using this
theorem set_at {α : Type} (A B : List α) (x y : α) : (A ++ x :: B).set A.length y = A ++ y :: B := by
  induction A with
  | nil => simp
  | cons a A ih => simp [ih]
theorem get_at1 {α : Type} (A B : List α) (x y : α) : (A ++ x :: y :: B)[A.length + 1]? = some y := by
  have := get_at (A ++ [x]) B y
  simpa using this
theorem ps_len {h : AH} {σ : PS} {a : Nat} {p : Pg} (S : PSt h σ) (hp : σ a = some p) : (pK p).length ≤ 5 ∧ (pW p).length = (pK p).length ∧ (pB p).length = (pK p).length + 1 := ⟨pg_5 S hp, pg_wl S hp, pg_bl S hp⟩
theorem gk_of {h : AH} {σ : PS} {a i : Nat} {p : Pg} {x : Int64} (S : PSt h σ) (hp : σ a = some p) (hx : (pK p)[i]? = some x) : hL h (a + 1) i = x := by
  have hi : i < (pK p).length := (List.getElem?_eq_some_iff.mp hx).1
  have := pg_k S hp hi
  rw [hx] at this; exact (Option.some.inj this).symm
theorem gw_of {h : AH} {σ : PS} {a i : Nat} {p : Pg} {x : Option Nat} (S : PSt h σ) (hp : σ a = some p) (hx : (pW p)[i]? = some x) : hR h (a + 2) i = x := by
  have hi : i < (pW p).length := (List.getElem?_eq_some_iff.mp hx).1
  have := pg_w S hp (by rw [← pg_wl S hp]; exact hi)
  rw [hx] at this; exact (Option.some.inj this).symm
/-- fromLeft, leaves -/
theorem m78l {d a l r : Nat} {h : AH} {σ : PS} {KA KB lk rk : List Int64} {k0 x : Int64} {BA BB W lw rw_ lb rb : List (Option Nat)} {w pn ln rn : Option Nat} {P : PT} (S : PSt h σ)
    (hp : σ a = some (false, KA ++ k0 :: KB, W, BA ++ some l :: some r :: BB, pn)) (hAB : BA.length = KA.length) (hl : σ l = some (true, lk ++ [x], lw ++ [w], lb, ln)) (hr : σ r = some (true, rk, rw_, rb, rn)) (h4 : rk.length < 5) (al : a ≠ l) (ar : a ≠ r) (lr : l ≠ r)
    (K : ∀ h' σ' lb' rb', PSt h' σ' → σ' a = some (false, KA ++ x :: KB, W, BA ++ some l :: some r :: BB, pn) → σ' l = some (true, lk, lw, lb', ln) → σ' r = some (true, x :: rk, w :: rw_, rb', rn) → (∀ c, c ≠ a → c ≠ l → c ≠ r → σ' c = σ c) → NP h h' 0 0 → hN h' = hN h → P (.inl none) h') :
    Ev (d + 1) 78 0 [vR (some a), vI (nI (KA.length + 1)), vU, vU, vU, vU] [] h P := by
  obtain ⟨pa1, pa2, pa3⟩ := ps_len S hp
  obtain ⟨pl1, pl2, pl3⟩ := ps_len S hl
  simp only [pK, pW, pB, List.length_append, List.length_cons, List.length_nil] at pa1 pa2 pa3 pl1 pl2 pl3
  have gl : hR h (a + 3) KA.length = some l := (pg_b S hp (i := KA.length) (by show (BA ++ some l :: some r :: BB)[KA.length]? = _; rw [← hAB]; exact get_at _ _ _)).1
  have gr : hR h (a + 3) (KA.length + 1) = some r := (pg_b S hp (i := KA.length + 1) (by show (BA ++ some l :: some r :: BB)[KA.length + 1]? = _; rw [← hAB]; exact get_at1 _ _ _ _)).1
  have lc : hI h l 96 = nI (lk.length + 1) := by rw [pg_n S hl]; simp [pK]
  refine w78_0 (pg_o S hp) ?_
  rw [nI_pred, cl (by omega), cl (by omega)]
  refine ⟨i5 (by omega) (by omega), l, gl, i5 (by omega) (by omega), r, gr, ?_⟩
  rw [lc, nI_pred, cl (by omega)]
  refine ⟨pg_o S hl, pg_o S hr, fun e => ?_, fun _ => ⟨i5 (by omega) (by omega), i5 (by omega) (by omega), ?_⟩⟩
  · rw [pg_f S hr] at e; exact absurd (show (1 : Int32) = 0 from e) (by decide)
  have gx : hL h (l + 1) lk.length = x := gk_of S hl (by show (lk ++ [x])[lk.length]? = _; exact get_at _ _ _)
  have lww : lw.length = lk.length := by omega
  have gw : hR h (l + 2) lk.length = w := gw_of S hl (by show (lw ++ [w])[lk.length]? = _; rw [← lww]; exact get_at _ _ _)
  rw [gx, gw]
  have rtw : RT h w 9 := by rw [← gw]; exact pg_rw S hl (by show lk.length < (lk ++ [x]).length; simp)
  refine m47 (i := 0) S hr (by omega) h4 rtw RT_none (fun h1 S1 N1 n1 => ?_)
  have hr1 := up_same σ r (true, rk.insertIdx 0 x, rw_.insertIdx 0 w, rb.insertIdx (0 + 1) none, rn)
  have hp1 := (up_ne (p := (true, rk.insertIdx 0 x, rw_.insertIdx 0 w, rb.insertIdx (0 + 1) none, rn)) ar).trans hp
  have hl1 := (up_ne (p := (true, rk.insertIdx 0 x, rw_.insertIdx 0 w, rb.insertIdx (0 + 1) none, rn)) lr).trans hl
  refine w78_51 (pg_o S1 hp1) (pg_o S1 hr1) (pg_o S1 hl1) ?_
  rw [nI_pred, cl (by omega)]
  refine ⟨i5 (n := 0) (by decide) (by decide), i5 (by omega) (by omega), ?_⟩
  rw [show hL h1 (r + 1) (Int32.toNatClampNeg 0) = x from gk_of (i := 0) S1 hr1 (by simp [pK])]
  obtain ⟨S2, N2⟩ := ps_wK (i := KA.length) (v := x) S1 hp1 (by simp [pK])
  have hl2 := (up_ne (p := (false, (KA ++ k0 :: KB).set KA.length x, W, BA ++ some l :: some r :: BB, pn)) (Ne.symm al)).trans hl1
  refine m48 (i := lk.length) S2 hl2 (by simp [pK]) (fun h3 S3 N3 n3 => ?_)
  refine w78_128 ?_
  refine K h3 _ (lb.eraseIdx (lk.length + 1)) (rb.insertIdx 1 none) S3 ?_ ?_ ?_ (fun c c1 c2 c3 => by rw [up_ne c2, up_ne c1, up_ne c3]) ((N1.trans N2).trans N3) (n3.trans n1)
  · rw [up_ne al, up_same, set_at]
  · rw [up_same]
    have e1 := era_at lk [] x
    have e2 := era_at lw [] w
    rw [List.append_nil] at e1 e2
    rw [lww] at e2
    simp only [pF, pK, pW, pB, pN]
    rw [e1, e2]
  · rw [up_ne (Ne.symm lr), up_ne (Ne.symm ar), hr1]; simp
/-- fromLeft, branches -/
theorem m78b {d a l r m : Nat} {h : AH} {σ : PS} {KA KB lk rk : List Int64} {k0 x : Int64} {BA BB W lw rw_ lb rb : List (Option Nat)} {b0 pn ln rn : Option Nat} {P : PT} (S : PSt h σ)
    (hp : σ a = some (false, KA ++ k0 :: KB, W, BA ++ some l :: some r :: BB, pn)) (hAB : BA.length = KA.length) (hl : σ l = some (false, lk ++ [x], lw, lb ++ [some m], ln)) (hr : σ r = some (false, rk, rw_, b0 :: rb, rn)) (h4 : rk.length < 5) (al : a ≠ l) (ar : a ≠ r) (lr : l ≠ r)
    (K : ∀ h' σ' lw' rw', PSt h' σ' → σ' a = some (false, KA ++ x :: KB, W, BA ++ some l :: some r :: BB, pn) → σ' l = some (false, lk, lw', lb, ln) → σ' r = some (false, k0 :: rk, rw', some m :: b0 :: rb, rn) → (∀ c, c ≠ a → c ≠ l → c ≠ r → σ' c = σ c) → NP h h' 0 0 → hN h' = hN h → P (.inl none) h') :
    Ev (d + 1) 78 0 [vR (some a), vI (nI (KA.length + 1)), vU, vU, vU, vU] [] h P := by
  obtain ⟨pa1, pa2, pa3⟩ := ps_len S hp
  obtain ⟨pl1, pl2, pl3⟩ := ps_len S hl
  simp only [pK, pW, pB, List.length_append, List.length_cons, List.length_nil] at pa1 pa2 pa3 pl1 pl2 pl3
  have gl : hR h (a + 3) KA.length = some l := (pg_b S hp (i := KA.length) (by show (BA ++ some l :: some r :: BB)[KA.length]? = _; rw [← hAB]; exact get_at _ _ _)).1
  have gr : hR h (a + 3) (KA.length + 1) = some r := (pg_b S hp (i := KA.length + 1) (by show (BA ++ some l :: some r :: BB)[KA.length + 1]? = _; rw [← hAB]; exact get_at1 _ _ _ _)).1
  have lc : hI h l 96 = nI (lk.length + 1) := by rw [pg_n S hl]; simp [pK]
  have lbl : lb.length = lk.length + 1 := by omega
  have gm : hR h (l + 3) (lk.length + 1) = some m := (pg_b S hl (i := lk.length + 1) (by show (lb ++ [some m])[lk.length + 1]? = _; rw [← lbl]; exact get_at _ _ _)).1
  refine w78_0 (pg_o S hp) ?_
  rw [nI_pred, cl (by omega), cl (by omega)]
  refine ⟨i5 (by omega) (by omega), l, gl, i5 (by omega) (by omega), r, gr, ?_⟩
  rw [lc, nI_pred, nI_1, cl (by omega)]
  refine ⟨pg_o S hl, pg_o S hr, fun _ => ⟨i5 (by omega) (by omega), m, gm, i5 (by omega) (by omega), i5 (n := 0) (by decide) (by decide), ?_⟩, fun e => ?_⟩
  rotate_left
  · rw [pg_f S hr] at e; exact absurd rfl e
  have gx : hL h (a + 1) KA.length = k0 := gk_of S hp (by show (KA ++ k0 :: KB)[KA.length]? = _; exact get_at _ _ _)
  have gb : hR h (r + 3) (Int32.toNatClampNeg 0) = b0 := (pg_b S hr (i := 0) rfl).1
  rw [gx, gb]
  have rtb : RT h b0 7 := by rw [← gb]; exact pg_rb S hr (i := 0) (by omega)
  have rtm : RT h (some m) 7 := by rw [← gm]; exact pg_rb S hl (by show lk.length + 1 ≤ (lk ++ [x]).length; simp)
  refine m47 (i := 0) S hr (by omega) h4 RT_none rtb (fun h1 S1 N1 n1 => ?_)
  have hr1 := up_same σ r (false, rk.insertIdx 0 k0, rw_.insertIdx 0 none, (b0 :: rb).insertIdx (0 + 1) b0, rn)
  have hp1 := (up_ne (p := (false, rk.insertIdx 0 k0, rw_.insertIdx 0 none, (b0 :: rb).insertIdx (0 + 1) b0, rn)) ar).trans hp
  have hl1 := (up_ne (p := (false, rk.insertIdx 0 k0, rw_.insertIdx 0 none, (b0 :: rb).insertIdx (0 + 1) b0, rn)) lr).trans hl
  have rtm1 := RT_T S.1 N1.2.2.2.1 rtm
  refine w78_99 (pg_o S1 hr1) ⟨i5 (n := 0) (by decide) (by decide), rtm1, ?_⟩
  obtain ⟨S2, N2⟩ := ps_wB (i := 0) (v := some m) S1 hr1 (by omega) rtm1
  have hr2 := up_same (up σ r (false, rk.insertIdx 0 k0, rw_.insertIdx 0 none, (b0 :: rb).insertIdx (0 + 1) b0, rn)) r (false, rk.insertIdx 0 k0, rw_.insertIdx 0 none, ((b0 :: rb).insertIdx (0 + 1) b0).set 0 (some m), rn)
  have hp2 := (up_ne (p := (false, rk.insertIdx 0 k0, rw_.insertIdx 0 none, ((b0 :: rb).insertIdx (0 + 1) b0).set 0 (some m), rn)) ar).trans hp1
  have hl2 := (up_ne (p := (false, rk.insertIdx 0 k0, rw_.insertIdx 0 none, ((b0 :: rb).insertIdx (0 + 1) b0).set 0 (some m), rn)) lr).trans hl1
  refine w78_107 (pg_o S2 hp2) (pg_o S2 hl2) ?_
  rw [nI_pred, cl (by omega), cl (by omega)]
  refine ⟨i5 (by omega) (by omega), i5 (by omega) (by omega), ?_⟩
  rw [show hL (wR h1 (r + 3) (Int32.toNatClampNeg 0) (some m)) (l + 1) lk.length = x from gk_of S2 hl2 (by show (lk ++ [x])[lk.length]? = _; exact get_at _ _ _)]
  obtain ⟨S3, N3⟩ := ps_wK (i := KA.length) (v := x) S2 hp2 (by simp [pK])
  have hl3 := (up_ne (p := (false, (KA ++ k0 :: KB).set KA.length x, W, BA ++ some l :: some r :: BB, pn)) (Ne.symm al)).trans hl2
  refine m48 (i := lk.length) S3 hl3 (by simp [pK]) (fun h4 S4 N4 n4 => ?_)
  refine w78_128 ?_
  refine K h4 _ (lw.eraseIdx lk.length) (rw_.insertIdx 0 none) S4 ?_ ?_ ?_ (fun c c1 c2 c3 => by rw [up_ne c2, up_ne c1, up_ne c3, up_ne c3]) (((N1.trans N2).trans N3).trans N4) (n4.trans n1)
  · rw [up_ne al, up_same, set_at]
  · rw [up_same]
    have e1 := era_at lk [] x
    have e2 := era_at lb [] (some m)
    rw [List.append_nil] at e1 e2
    rw [lbl] at e2
    simp only [pF, pK, pW, pB, pN]
    rw [e1, e2]
  · rw [up_ne (Ne.symm lr), up_ne (Ne.symm ar), hr2]; simp
/-- fromRight, leaves -/
theorem m79l {d a l r : Nat} {h : AH} {σ : PS} {KA KB lk rk : List Int64} {k0 x y : Int64} {BA BB W lw rw_ lb rb : List (Option Nat)} {w pn ln rn : Option Nat} {P : PT} (S : PSt h σ)
    (hp : σ a = some (false, KA ++ k0 :: KB, W, BA ++ some l :: some r :: BB, pn)) (hAB : BA.length = KA.length) (hl : σ l = some (true, lk, lw, lb, ln)) (hr : σ r = some (true, x :: y :: rk, w :: rw_, rb, rn)) (h4 : lk.length < 5) (al : a ≠ l) (ar : a ≠ r) (lr : l ≠ r)
    (K : ∀ h' σ' lb' rb', PSt h' σ' → σ' a = some (false, KA ++ y :: KB, W, BA ++ some l :: some r :: BB, pn) → σ' l = some (true, lk ++ [x], lw ++ [w], lb', ln) → σ' r = some (true, y :: rk, rw_, rb', rn) → (∀ c, c ≠ a → c ≠ l → c ≠ r → σ' c = σ c) → NP h h' 0 0 → hN h' = hN h → P (.inl none) h') :
    Ev (d + 1) 79 0 [vR (some a), vI (nI KA.length), vU, vU] [] h P := by
  obtain ⟨pa1, pa2, pa3⟩ := ps_len S hp
  obtain ⟨pl1, pl2, pl3⟩ := ps_len S hl
  obtain ⟨pr1, pr2, pr3⟩ := ps_len S hr
  simp only [pK, pW, pB, List.length_append, List.length_cons, List.length_nil] at pa1 pa2 pa3 pl1 pl2 pl3 pr1 pr2 pr3
  have gl : hR h (a + 3) KA.length = some l := (pg_b S hp (i := KA.length) (by show (BA ++ some l :: some r :: BB)[KA.length]? = _; rw [← hAB]; exact get_at _ _ _)).1
  have gr : hR h (a + 3) (KA.length + 1) = some r := (pg_b S hp (i := KA.length + 1) (by show (BA ++ some l :: some r :: BB)[KA.length + 1]? = _; rw [← hAB]; exact get_at1 _ _ _ _)).1
  have lc : hI h l 96 = nI lk.length := pg_n S hl
  refine w79_0 (pg_o S hp) ?_
  rw [nI_1, cl (by omega), cl (by omega)]
  refine ⟨i5 (by omega) (by omega), r, gr, i5 (by omega) (by omega), l, gl, ?_⟩
  rw [lc]
  refine ⟨pg_o S hl, fun e => ?_, fun _ => ⟨pg_o S hr, i5 (n := 0) (by decide) (by decide), i5 (n := 0) (by decide) (by decide), ?_⟩⟩
  · rw [pg_f S hl] at e; exact absurd (show (1 : Int32) = 0 from e) (by decide)
  have gx : hL h (r + 1) (Int32.toNatClampNeg 0) = x := gk_of (i := 0) S hr rfl
  have gw : hR h (r + 2) (Int32.toNatClampNeg 0) = w := gw_of (i := 0) S hr rfl
  rw [gx, gw]
  have rtw : RT h w 9 := by rw [← gw]; exact pg_rw S hr (i := 0) (by show 0 < (x :: y :: rk).length; simp)
  refine m47 (i := lk.length) S hl (Nat.le_refl _) h4 rtw RT_none (fun h1 S1 N1 n1 => ?_)
  have hl1 := up_same σ l (true, lk.insertIdx lk.length x, lw.insertIdx lk.length w, lb.insertIdx (lk.length + 1) none, ln)
  have hp1 := (up_ne (p := (true, lk.insertIdx lk.length x, lw.insertIdx lk.length w, lb.insertIdx (lk.length + 1) none, ln)) al).trans hp
  have hr1 := (up_ne (p := (true, lk.insertIdx lk.length x, lw.insertIdx lk.length w, lb.insertIdx (lk.length + 1) none, ln)) (Ne.symm lr)).trans hr
  refine w79_44 (pg_o S1 hr1) ?_
  refine m48 (i := 0) S1 hr1 (by simp [pK]) (fun h2 S2 N2 n2 => ?_)
  have hr2 := up_same (up σ l (true, lk.insertIdx lk.length x, lw.insertIdx lk.length w, lb.insertIdx (lk.length + 1) none, ln)) r (true, (x :: y :: rk).eraseIdx 0, (w :: rw_).eraseIdx 0, rb.eraseIdx (0 + 1), rn)
  have hp2 := (up_ne (p := (true, (x :: y :: rk).eraseIdx 0, (w :: rw_).eraseIdx 0, rb.eraseIdx (0 + 1), rn)) ar).trans hp1
  refine w79_49 (pg_o S2 hp2) (pg_o S2 hr2) ⟨i5 (n := 0) (by decide) (by decide), i5 (by omega) (by omega), ?_⟩
  rw [cl (by omega), show hL h2 (r + 1) (Int32.toNatClampNeg 0) = y from gk_of (i := 0) S2 hr2 rfl]
  obtain ⟨S3, N3⟩ := ps_wK (i := KA.length) (v := y) S2 hp2 (by simp [pK])
  refine w79_101 ?_
  refine K _ _ (lb.insertIdx (lk.length + 1) none) (rb.eraseIdx 1) S3 ?_ ?_ ?_ (fun c c1 c2 c3 => by rw [up_ne c1, up_ne c3, up_ne c2]) ((N1.trans N2).trans N3) (n2.trans n1)
  · rw [up_same, set_at]
  · rw [up_ne (Ne.symm al), up_ne lr, hl1]
    have e1 := ins_at lk [] x
    have e2 := ins_at lw [] w
    rw [List.append_nil] at e1 e2
    rw [show lw.length = lk.length by omega] at e2
    rw [e1, e2]
  · rw [up_ne (Ne.symm ar), hr2]; rfl
/-- fromRight, branches -/
theorem m79b {d a l r : Nat} {h : AH} {σ : PS} {KA KB lk rk : List Int64} {k0 x : Int64} {BA BB W lw rw_ lb rb : List (Option Nat)} {b0 pn ln rn : Option Nat} {P : PT} (S : PSt h σ)
    (hp : σ a = some (false, KA ++ k0 :: KB, W, BA ++ some l :: some r :: BB, pn)) (hAB : BA.length = KA.length) (hl : σ l = some (false, lk, lw, lb, ln)) (hr : σ r = some (false, x :: rk, rw_, b0 :: rb, rn)) (h4 : lk.length < 5) (al : a ≠ l) (ar : a ≠ r) (lr : l ≠ r)
    (K : ∀ h' σ' lw' rw', PSt h' σ' → σ' a = some (false, KA ++ x :: KB, W, BA ++ some l :: some r :: BB, pn) → σ' l = some (false, lk ++ [k0], lw', lb ++ [b0], ln) → σ' r = some (false, rk, rw', rb, rn) → (∀ c, c ≠ a → c ≠ l → c ≠ r → σ' c = σ c) → NP h h' 0 0 → hN h' = hN h → P (.inl none) h') :
    Ev (d + 2) 79 0 [vR (some a), vI (nI KA.length), vU, vU] [] h P := by
  obtain ⟨pa1, pa2, pa3⟩ := ps_len S hp
  obtain ⟨pl1, pl2, pl3⟩ := ps_len S hl
  obtain ⟨pr1, pr2, pr3⟩ := ps_len S hr
  simp only [pK, pW, pB, List.length_append, List.length_cons, List.length_nil] at pa1 pa2 pa3 pl1 pl2 pl3 pr1 pr2 pr3
  have gl : hR h (a + 3) KA.length = some l := (pg_b S hp (i := KA.length) (by show (BA ++ some l :: some r :: BB)[KA.length]? = _; rw [← hAB]; exact get_at _ _ _)).1
  have gr : hR h (a + 3) (KA.length + 1) = some r := (pg_b S hp (i := KA.length + 1) (by show (BA ++ some l :: some r :: BB)[KA.length + 1]? = _; rw [← hAB]; exact get_at1 _ _ _ _)).1
  have lc : hI h l 96 = nI lk.length := pg_n S hl
  refine w79_0 (pg_o S hp) ?_
  rw [nI_1, cl (by omega), cl (by omega)]
  refine ⟨i5 (by omega) (by omega), r, gr, i5 (by omega) (by omega), l, gl, ?_⟩
  rw [lc]
  refine ⟨pg_o S hl, fun _ => ⟨i5 (by omega) (by omega), pg_o S hr, i5 (n := 0) (by decide) (by decide), ?_⟩, fun e => ?_⟩
  rotate_left
  · rw [pg_f S hl] at e; exact absurd rfl e
  have gx : hL h (a + 1) KA.length = k0 := gk_of S hp (by show (KA ++ k0 :: KB)[KA.length]? = _; exact get_at _ _ _)
  have gb : hR h (r + 3) (Int32.toNatClampNeg 0) = b0 := (pg_b S hr (i := 0) rfl).1
  rw [gx, gb]
  have rtb : RT h b0 7 := by rw [← gb]; exact pg_rb S hr (i := 0) (by omega)
  refine m47 (i := lk.length) S hl (Nat.le_refl _) h4 RT_none rtb (fun h1 S1 N1 n1 => ?_)
  have hl1 := up_same σ l (false, lk.insertIdx lk.length k0, lw.insertIdx lk.length none, lb.insertIdx (lk.length + 1) b0, ln)
  have hp1 := (up_ne (p := (false, lk.insertIdx lk.length k0, lw.insertIdx lk.length none, lb.insertIdx (lk.length + 1) b0, ln)) al).trans hp
  have hr1 := (up_ne (p := (false, lk.insertIdx lk.length k0, lw.insertIdx lk.length none, lb.insertIdx (lk.length + 1) b0, ln)) (Ne.symm lr)).trans hr
  refine w79_85 (pg_o S1 hp1) (pg_o S1 hr1) ⟨i5 (n := 0) (by decide) (by decide), i5 (by omega) (by omega), ?_⟩
  rw [cl (by omega), show hL h1 (r + 1) (Int32.toNatClampNeg 0) = x from gk_of (i := 0) S1 hr1 rfl]
  obtain ⟨S2, N2⟩ := ps_wK (i := KA.length) (v := x) S1 hp1 (by simp [pK])
  have hp2 := up_same (up σ l (false, lk.insertIdx lk.length k0, lw.insertIdx lk.length none, lb.insertIdx (lk.length + 1) b0, ln)) a (false, (KA ++ k0 :: KB).set KA.length x, W, BA ++ some l :: some r :: BB, pn)
  have hr2 := (up_ne (p := (false, (KA ++ k0 :: KB).set KA.length x, W, BA ++ some l :: some r :: BB, pn)) (Ne.symm ar)).trans hr1
  have hl2 := (up_ne (p := (false, (KA ++ k0 :: KB).set KA.length x, W, BA ++ some l :: some r :: BB, pn)) (Ne.symm al)).trans hl1
  refine m49 S2 hr2 (by simp [pK]) (fun h3 σ3 S3 s3 o3 N3 n3 => ?_)
  refine w79_101 ?_
  refine K h3 σ3 (lw.insertIdx lk.length none) (rw_.eraseIdx 0) S3 ?_ ?_ (s3.trans rfl) (fun c c1 c2 c3 => by rw [o3 c c3, up_ne c1, up_ne c2]) ((N1.trans N2).trans N3) (n3.trans n1)
  · rw [o3 a ar, hp2, set_at]
  · rw [o3 l lr, hl2]
    have e1 := ins_at lk [] k0
    have e2 := ins_at lb [] b0
    rw [List.append_nil] at e1 e2
    rw [show lb.length = lk.length + 1 by omega] at e2
    rw [e1, e2]
/-- join's loop: the right page's keys, rows and pages go behind the left one's -/
theorem m80l {d a l r i : Nat} {σ0 : PS} {lf : Bool} {rk : List Int64} {rw_ rb : List (Option Nat)} {ln rn : Option Nat} {k1 : Int32} {P : PT} {h0 : AH} (lr : l ≠ r) : ∀ (m j : Nat) (h : AH) (σ : PS) (lk : List Int64) (lw lb : List (Option Nat)), PSt h σ → m + j = rk.length → σ l = some (lf, lk, lw, lb, ln) → σ r = some (lf, rk, rw_, rb, rn) → lk.length + m ≤ 5 → (∀ c, c ≠ l → σ c = σ0 c) → NP h0 h 0 0 → hN h = hN h0 →
    (∀ h' σ', PSt h' σ' → σ' l = some (lf, lk ++ rk.drop j, lw ++ rw_.drop j, lb ++ rb.drop (j + 1), rn) → (∀ c, c ≠ l → σ' c = σ0 c) → NP h0 h' 0 0 → hN h' = hN h0 → Ev (d + 1) 80 101 [vR (some a), vI k1, vR (some l), vR (some r), vI (nI rk.length)] [] h' P) →
    Ev (d + 1) 80 47 [vR (some a), vI k1, vR (some l), vR (some r), vI (nI j)] [] h P := by
  intro m
  induction m with
  | zero =>
    intro j h σ lk lw lb S hj hl hr h5 ho N0 n0 K
    obtain rfl : j = rk.length := by omega
    obtain ⟨pr1, pr2, pr3⟩ := ps_len S hr
    refine w80_47 (pg_o S hr) (pg_o S hl) ⟨fun _ => ?_, fun e => ?_⟩
    · obtain ⟨z1, z2⟩ := pg_x S hr
      rw [z1]
      obtain ⟨S1, N1⟩ := ps_wN S hl z2
      refine K _ _ S1 ?_ (fun c hc => (up_ne hc).trans (ho c hc)) (by simpa using N0.trans N1) n0
      rw [up_same, List.drop_eq_nil_of_le (Nat.le_refl _), List.drop_eq_nil_of_le (by simp only [pK, pW] at pr2; omega), List.drop_eq_nil_of_le (by simp only [pK, pB] at pr3; omega)]
      simp
    · rw [pg_n S hr, nI_ltI (by simp only [pK] at pr1 ⊢; omega) (by simp only [pK] at pr1 ⊢; omega)] at e
      simp only [pK] at e; omega
  | succ m ih =>
    intro j h σ lk lw lb S hj hl hr h5 ho N0 n0 K
    obtain ⟨pr1, pr2, pr3⟩ := ps_len S hr
    obtain ⟨pl1, pl2, pl3⟩ := ps_len S hl
    simp only [pK, pW, pB] at pr1 pr2 pr3 pl1 pl2 pl3
    refine w80_47 (pg_o S hr) (pg_o S hl) ⟨fun e => ?_, fun e => ?_⟩
    · rw [pg_n S hr, nI_leI (by simp only [pK]; omega) (by omega)] at e
      simp only [pK] at e; omega
    · rw [nI_1, cl (by omega), cl (by omega), pg_n S hl]
      refine ⟨i5 (by omega) (by omega), i5 (by omega) (by omega), i5 (by omega) (by omega), ?_⟩
      refine m47 (i := lk.length) S hl (Nat.le_refl _) (by simp only [pK]; omega) (pg_rw S hr (by simp only [pK]; omega)) (pg_rb S hr (by simp only [pK]; omega)) (fun h1 S1 N1 n1 => ?_)
      refine w80_87 ?_
      rw [nI_1]
      have e1 := ins_at lk [] (hL h (r + 1) j)
      have e2 := ins_at lw [] (hR h (r + 2) j)
      have e3 := ins_at lb [] (hR h (r + 3) (j + 1))
      rw [List.append_nil] at e1 e2 e3
      rw [pl2] at e2
      rw [pl3] at e3
      have g1 : rk[j]? = some (hL h (r + 1) j) := pg_k S hr (by simp only [pK]; omega)
      have g2 : rw_[j]? = some (hR h (r + 2) j) := pg_w S hr (by simp only [pK]; omega)
      have g3 : rb[j + 1]? = some (hR h (r + 3) (j + 1)) := pg_bb S hr (by simp only [pK]; omega)
      have dr : ∀ {α : Type} {xs : List α} {i : Nat} {x : α}, xs[i]? = some x → xs.drop i = x :: xs.drop (i + 1) := fun {α xs i x} hx => by
        have hi := (List.getElem?_eq_some_iff.mp hx).1
        rw [List.drop_eq_getElem_cons hi]
        rw [List.getElem?_eq_getElem hi] at hx
        rw [Option.some.inj hx]
      refine ih (j + 1) h1 _ (lk ++ [hL h (r + 1) j]) (lw ++ [hR h (r + 2) j]) (lb ++ [hR h (r + 3) (j + 1)]) S1 (by omega) ?_ ((up_ne (Ne.symm lr)).trans hr) (by rw [List.length_append, List.length_singleton]; omega) (fun c hc => (up_ne hc).trans (ho c hc)) (by simpa using N0.trans N1) (n1.trans n0) ?_
      · rw [up_same]
        simp only [pF, pK, pW, pB, pN]
        rw [e1, e2, e3]
      · intro h' σ' S' sl so N' n'
        refine K h' σ' S' ?_ so N' n'
        rw [sl, dr g1, dr g2, dr g3]; simp
/-- join -/
theorem m80 {d a l r : Nat} {h : AH} {σ : PS} {KA KB lk rk : List Int64} {k0 : Int64} {BA BB W lw rw_ lb rb : List (Option Nat)} {b0 pn ln rn : Option Nat} {lf : Bool} {P : PT} (S : PSt h σ)
    (hp : σ a = some (false, KA ++ k0 :: KB, W, BA ++ some l :: some r :: BB, pn)) (hAB : BA.length = KA.length) (hl : σ l = some (lf, lk, lw, lb, ln)) (hr : σ r = some (lf, rk, rw_, b0 :: rb, rn)) (h4 : lk.length + rk.length < 5) (al : a ≠ l) (ar : a ≠ r) (lr : l ≠ r)
    (K : ∀ h' σ' W' lw' lb', PSt h' σ' → σ' a = some (false, KA ++ KB, W', BA ++ some l :: BB, pn) → σ' l = some (lf, if lf then lk ++ rk else lk ++ k0 :: rk, lw', lb', rn) → (lf = true → lw' = lw ++ rw_) → (lf = false → lb' = lb ++ b0 :: rb) → (∀ c, c ≠ a → c ≠ l → c ≠ r → σ' c = σ c) → NP h h' 0 0 → hN h' = hN h → P (.inl none) h') :
    Ev (d + 1) 80 0 [vR (some a), vI (nI KA.length), vU, vU, vU] [] h P := by
  obtain ⟨pa1, pa2, pa3⟩ := ps_len S hp
  obtain ⟨pl1, pl2, pl3⟩ := ps_len S hl
  obtain ⟨pr1, pr2, pr3⟩ := ps_len S hr
  simp only [pK, pW, pB, List.length_append, List.length_cons, List.length_nil] at pa1 pa2 pa3 pl1 pl2 pl3 pr1 pr2 pr3
  have gl : hR h (a + 3) KA.length = some l := (pg_b S hp (i := KA.length) (by show (BA ++ some l :: some r :: BB)[KA.length]? = _; rw [← hAB]; exact get_at _ _ _)).1
  have gr : hR h (a + 3) (KA.length + 1) = some r := (pg_b S hp (i := KA.length + 1) (by show (BA ++ some l :: some r :: BB)[KA.length + 1]? = _; rw [← hAB]; exact get_at1 _ _ _ _)).1
  have lc : hI h l 96 = nI lk.length := pg_n S hl
  -- the end
  have E : ∀ (h1 : AH) (σ1 : PS) (lk1 : List Int64) (lw1 lb1 : List (Option Nat)), PSt h1 σ1 → σ1 l = some (lf, lk1, lw1, lb1, ln) → lk1.length + rk.length ≤ 5 → (∀ c, c ≠ l → σ1 c = σ c) → NP h h1 0 0 → hN h1 = hN h → (lk1 ++ rk = if lf then lk ++ rk else lk ++ k0 :: rk) → (lf = true → lw1 = lw) → (lf = false → lb1 = lb ++ [b0]) →
      Ev (d + 1) 80 44 [vR (some a), vI (nI KA.length), vR (some l), vR (some r), vU] [] h1 P := by
    intro h1 σ1 lk1 lw1 lb1 S1 hl1 h5 ho1 N1 n1 c1 c2 c3
    refine w80_44 ?_
    have hr1 : σ1 r = some (lf, rk, rw_, b0 :: rb, rn) := (ho1 r (Ne.symm lr)).trans hr
    refine m80l (i := 0) (j := 0) lr rk.length h1 σ1 lk1 lw1 lb1 S1 (by omega) hl1 hr1 h5 ho1 N1 n1 ?_
    intro h2 σ2 S2 sl2 so2 N2 n2
    have ha2 : σ2 a = some (false, KA ++ k0 :: KB, W, BA ++ some l :: some r :: BB, pn) := (so2 a al).trans hp
    refine w80_101 (pg_o S2 ha2) ?_
    refine m48 (i := KA.length) S2 ha2 (by simp [pK]) (fun h3 S3 N3 n3 => ?_)
    refine w80_106 ?_
    refine K h3 _ (W.eraseIdx KA.length) (lw1 ++ rw_) (lb1 ++ rb) S3 ?_ ?_ (fun q => by rw [c2 q]) (fun q => by rw [c3 q]; simp) (fun c d1 d2 d3 => (up_ne d1).trans (so2 c d2)) (by simpa using N2.trans N3) (n3.trans n2)
    · rw [up_same]
      simp only [pF, pK, pW, pB, pN]
      rw [era_at, ← hAB, era_at1]
    · rw [up_ne (Ne.symm al), sl2, ← c1]; rfl
  refine w80_0 (pg_o S hp) ?_
  rw [nI_1, cl (by omega), cl (by omega)]
  refine ⟨i5 (by omega) (by omega), l, gl, i5 (by omega) (by omega), r, gr, ?_⟩
  rw [lc]
  refine ⟨pg_o S hl, fun e => ?_, fun e => ?_⟩
  · rw [pg_f S hl, bI_0, Bool.not_eq_false] at e
    have e : lf = true := e
    exact E h σ lk lw lb S hl (by omega) (fun _ _ => rfl) (NP.refl h) rfl (by rw [e]; rfl) (fun _ => rfl) (fun q => by rw [e] at q; cases q)
  · rw [pg_f S hl, bI_0] at e
    have e : lf = false := e
    have gx : hL h (a + 1) KA.length = k0 := gk_of S hp (by show (KA ++ k0 :: KB)[KA.length]? = _; exact get_at _ _ _)
    have gb : hR h (r + 3) (Int32.toNatClampNeg 0) = b0 := (pg_b S hr (i := 0) rfl).1
    have rtb : RT h b0 7 := by rw [← gb]; exact pg_rb S hr (i := 0) (by omega)
    refine ⟨i5 (by omega) (by omega), pg_o S hr, i5 (n := 0) (by decide) (by decide), ?_⟩
    rw [gx, gb]
    refine m47 (i := lk.length) S hl (Nat.le_refl _) (by simp only [pK]; omega) RT_none rtb (fun h1 S1 N1 n1 => ?_)
    have e1 := ins_at lk [] k0
    have e3 := ins_at lb [] b0
    rw [List.append_nil] at e1 e3
    rw [pl3] at e3
    refine E h1 _ (lk ++ [k0]) (lw.insertIdx lk.length none) (lb ++ [b0]) S1 ?_ (by rw [List.length_append, List.length_singleton]; omega) (fun c hc => up_ne hc) N1 n1 (by rw [e]; simp) (fun q => by rw [e] at q; cases q) (fun _ => rfl)
    rw [up_same]
    simp only [pF, pK, pW, pB, pN]
    rw [e1, e3]
