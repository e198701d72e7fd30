/-! deps: 25 26 36 37 -/
/-! ===== PAGE: remove, removeFirst, constructor, single writes ===== -/
/-- keys, rows and pages moved down from i to k -/
def shD (h : AH) (a i k : Nat) : AH := (hT h, hI h, fun b j => if b = a + 1 ∧ i ≤ j ∧ j < k then hL h b (j + 1) else hL h b j,
  fun b j => if b = a + 2 ∧ i ≤ j ∧ j < k then hR h b (j + 1) else if b = a + 3 ∧ i + 1 ≤ j ∧ j < k + 1 then hR h b (j + 1) else hR h b j, hN h, hC h, hS h)
theorem shD_0 (h : AH) (a i : Nat) : shD h a i i = h := by
  unfold shD
  have e1 : (fun b j => if b = a + 1 ∧ i ≤ j ∧ j < i then hL h b (j + 1) else hL h b j) = hL h := by
    funext b j; rw [if_neg (by omega)]
  have e2 : (fun b j => if b = a + 2 ∧ i ≤ j ∧ j < i then hR h b (j + 1) else if b = a + 3 ∧ i + 1 ≤ j ∧ j < i + 1 then hR h b (j + 1) else hR h b j) = hR h := by
    funext b j; rw [if_neg (by omega), if_neg (by omega)]
  rw [e1, e2]; rfl
theorem shD_s (h : AH) (a i k : Nat) (hk : i ≤ k) : wR (wR (wL (shD h a i k) (a + 1) k (hL h (a + 1) (k + 1))) (a + 2) k (hR h (a + 2) (k + 1))) (a + 3) (k + 1) (hR h (a + 3) (k + 2)) = shD h a i (k + 1) := by
  refine Prod.ext rfl (Prod.ext rfl (Prod.ext ?_ (Prod.ext ?_ rfl)))
  · funext b j
    show u2 (fun b j => if b = a + 1 ∧ i ≤ j ∧ j < k then hL h b (j + 1) else hL h b j) (a + 1) k (hL h (a + 1) (k + 1)) b j = if b = a + 1 ∧ i ≤ j ∧ j < k + 1 then hL h b (j + 1) else hL h b j
    simp only [u2]
    grind (splits := 30)
  · funext b j
    show u2 (u2 (fun b j => if b = a + 2 ∧ i ≤ j ∧ j < k then hR h b (j + 1) else if b = a + 3 ∧ i + 1 ≤ j ∧ j < k + 1 then hR h b (j + 1) else hR h b j) (a + 2) k (hR h (a + 2) (k + 1))) (a + 3) (k + 1) (hR h (a + 3) (k + 2)) b j = if b = a + 2 ∧ i ≤ j ∧ j < k + 1 then hR h b (j + 1) else if b = a + 3 ∧ i + 1 ≤ j ∧ j < k + 1 + 1 then hR h b (j + 1) else hR h b j
    simp only [u2]
    grind (splits := 30)
theorem shD_PA (h : AH) (a k c : Nat) : PA h (shD h a k c) a := by
  refine ⟨rfl, rfl, rfl, rfl, fun _ _ _ => rfl, fun b j hb => ?_, fun b j h2 h3 _ => ?_⟩
  · exact if_neg (fun q => hb q.1)
  · exact (if_neg (fun q => h2 q.1)).trans (if_neg (fun q => h3 q.1))
theorem mem_eraseIdx' {α : Type} {x : α} {xs : List α} {i : Nat} (h : x ∈ xs.eraseIdx i) : x ∈ xs := (List.eraseIdx_sublist xs i).subset h
theorem m48 {d a i : Nat} {h : AH} {σ : PS} {p : Pg} {P : PT} (S : PSt h σ) (hp : σ a = some p) (hi : i < (pK p).length)
    (k : ∀ h', PSt h' (up σ a (pF p, (pK p).eraseIdx i, (pW p).eraseIdx i, (pB p).eraseIdx (i + 1), pN p)) → NP h h' 0 0 → hN h' = hN h → P (.inl none) h') : Ev d 48 0 [vR (some a), vI (nI i), vU] [] h P := by
  obtain ⟨o, c1, c2, c3, c4, c5, c6, c7, c8, c9, c10, c11, c12⟩ := S.2 a p hp
  refine w48_0 o ?_
  obtain ⟨c, hc⟩ : ∃ c, (pK p).length = c + 1 := ⟨(pK p).length - 1, by omega⟩
  rw [c2, hc, nI_pred]
  have A0 := PA.wC h a (nI c)
  have cnt : hI (wI h a 96 (nI c)) a 96 = nI c := if_pos ⟨rfl, rfl⟩
  have hget : ∀ {α : Type} {xs : List α} {f : Nat → α} {n : Nat}, (∀ i, i < n → xs[i]? = some (f i)) → ∀ i, i < n → f i ∈ xs := fun hx i hi => List.mem_of_getElem? (hx i hi)
  suffices H : ∀ m n, m + n = c → i ≤ n → Ev d 48 12 [vR (some a), vI (nI i), vI (nI n)] [] (shD (wI h a 96 (nI c)) a i n) P by
    have := H (c - i) i (by omega) (Nat.le_refl _)
    rw [shD_0] at this; exact this
  intro m
  induction m with
  | succ m ih =>
    intro n hn hl
    have A1 := A0.trans (shD_PA (wI h a 96 (nI c)) a i n)
    have o1 := A1.ob o o
    refine w48_12 o1 ⟨fun q => ?_, fun q => ?_⟩
    · rw [show hI (shD (wI h a 96 (nI c)) a i n) a 96 = nI c from cnt, nI_leI (by omega) (by omega)] at q; omega
    · rw [nI_1, cl (by omega), cl (by omega)]
      have e1 : hL (shD (wI h a 96 (nI c)) a i n) (a + 1) (n + 1) = hL h (a + 1) (n + 1) := if_neg (by omega)
      have e2 : ∀ v, hR (wL (shD (wI h a 96 (nI c)) a i n) (a + 1) n v) (a + 2) (n + 1) = hR h (a + 2) (n + 1) := fun v => (if_neg (by omega)).trans (if_neg (by omega))
      refine ⟨i5 (by omega) (by omega), i5 (by omega) (by omega), i5 (by omega) (by omega), i5 (by omega) (by omega), ?_, ?_⟩
      · rw [e2]; exact c9 _ (hget c6 (n + 1) (by omega))
      · rw [e2, e1]
        have A2 := (A1.trans (PA.wL _ a n (hL h (a + 1) (n + 1)))).trans (PA.wW _ a n (hR h (a + 2) (n + 1)))
        refine w48_48 (A2.ob o o) ?_
        rw [show nI n + 2 = nI (n + 2) from nI_add n 2, nI_1, cl (by omega), cl (by omega)]
        have e3 : hR (wR (wL (shD (wI h a 96 (nI c)) a i n) (a + 1) n (hL h (a + 1) (n + 1))) (a + 2) n (hR h (a + 2) (n + 1))) (a + 3) (n + 2) = hR h (a + 3) (n + 2) := (if_neg (by omega)).trans ((if_neg (by omega)).trans (if_neg (by omega)))
        rw [e3]
        refine ⟨i5 (by omega) (by omega), i5 (by omega) (by omega), c10 _ (hget (n := (pK p).length + 1) (fun i hi => c8 i (by omega)) (n + 2) (by omega)), ?_⟩
        have es := shD_s (wI h a 96 (nI c)) a i n hl
        rw [show hL (wI h a 96 (nI c)) = hL h from rfl, show hR (wI h a 96 (nI c)) = hR h from rfl] at es
        rw [es]
        refine w48_64 ?_
        rw [nI_1]
        exact ih (n + 1) (by omega) (by omega)
  | zero =>
    intro n hn hl
    obtain rfl : n = c := by omega
    have A1 := A0.trans (shD_PA (wI h a 96 (nI n)) a i n)
    have cn : hI (shD (wI h a 96 (nI n)) a i n) a 96 = nI n := cnt
    refine w48_12 (A1.ob o o) ⟨fun q => ?_, fun q => ?_⟩
    · rw [cn, cl (by omega)]
      refine ⟨i5 (by omega) (by omega), ?_⟩
      have A2 := A1.trans (PA.wW _ a n none)
      have cn2 : hI (wR (shD (wI h a 96 (nI n)) a i n) (a + 2) n none) a 96 = nI n := cnt
      refine w48_80 (A2.ob o o) ?_
      rw [cn2, nI_1, cl (by omega)]
      refine ⟨i5 (by omega) (by omega), ?_⟩
      have A3 := A2.trans (PA.wB _ a (n + 1) none)
      refine w48_92 ?_
      have Cn := PgC.mk (p' := (pF p, (pK p).eraseIdx i, (pW p).eraseIdx i, (pB p).eraseIdx (i + 1), pN p)) (S.2 a p hp) A3 S.1 rfl ?_ ?_ ?_ ?_ ?_ ?_ ?_ ?_ ?_ ?_ c12
      · obtain ⟨x1, x2⟩ := ps_of S hp A3 Cn
        exact k _ x1 x2 rfl
      · show _ = nI ((pK p).eraseIdx i).length
        rw [List.length_eraseIdx, if_pos hi, hc]; exact cnt
      · show ((pK p).eraseIdx i).length ≤ 5
        rw [List.length_eraseIdx]; split <;> omega
      · show ∀ j, j < ((pK p).eraseIdx i).length → ((pK p).eraseIdx i)[j]? = _
        rw [List.length_eraseIdx, if_pos hi, hc]
        intro j hj
        rw [List.getElem?_eraseIdx]
        show _ = some (if a + 1 = a + 1 ∧ i ≤ j ∧ j < n then hL h (a + 1) (j + 1) else hL h (a + 1) j)
        have x1 := c4 j
        have x2 := c4 (j + 1)
        grind (splits := 30)
      · show ((pW p).eraseIdx i).length = ((pK p).eraseIdx i).length
        rw [List.length_eraseIdx, List.length_eraseIdx, if_pos hi, if_pos (by omega)]; omega
      · show ∀ j, j < ((pK p).eraseIdx i).length → ((pW p).eraseIdx i)[j]? = _
        rw [List.length_eraseIdx, if_pos hi, hc]
        intro j hj
        rw [List.getElem?_eraseIdx]
        show _ = some (u2 (u2 (fun b j => if b = a + 2 ∧ i ≤ j ∧ j < n then hR h b (j + 1) else if b = a + 3 ∧ i + 1 ≤ j ∧ j < n + 1 then hR h b (j + 1) else hR h b j) (a + 2) n none) (a + 3) (n + 1) none (a + 2) j)
        simp only [u2]
        have x1 := c6 j
        have x2 := c6 (j + 1)
        grind (splits := 30)
      · show ((pB p).eraseIdx (i + 1)).length = ((pK p).eraseIdx i).length + 1
        rw [List.length_eraseIdx, List.length_eraseIdx, if_pos hi, if_pos (by omega)]; omega
      · show ∀ j, j ≤ ((pK p).eraseIdx i).length → ((pB p).eraseIdx (i + 1))[j]? = _
        rw [List.length_eraseIdx, if_pos hi, hc]
        intro j hj
        rw [List.getElem?_eraseIdx]
        show _ = some (u2 (u2 (fun b j => if b = a + 2 ∧ i ≤ j ∧ j < n then hR h b (j + 1) else if b = a + 3 ∧ i + 1 ≤ j ∧ j < n + 1 then hR h b (j + 1) else hR h b j) (a + 2) n none) (a + 3) (n + 1) none (a + 3) j)
        simp only [u2]
        have x1 := c8 j
        have x2 := c8 (j + 1)
        grind (splits := 30)
      · exact fun x hx => c9 x (mem_eraseIdx' hx)
      · exact fun x hx => c10 x (mem_eraseIdx' hx)
      · exact ((if_neg (by omega)).trans ((if_neg (by omega)).trans ((if_neg (by omega)).trans (if_neg (by omega))))).trans c11
    · rw [cn, nI_ltI (by omega) (by omega)] at q; omega
/-- one write in a page -/
theorem ps_wK {h : AH} {σ : PS} {a i : Nat} {p : Pg} {v : Int64} (S : PSt h σ) (hp : σ a = some p) (hi : i < (pK p).length) : PSt (wL h (a + 1) i v) (up σ a (pF p, (pK p).set i v, pW p, pB p, pN p)) ∧ NP h (wL h (a + 1) i v) 0 0 := by
  obtain ⟨o, c1, c2, c3, c4, c5, c6, c7, c8, c9, c10, c11, c12⟩ := S.2 a p hp
  refine ps_of S hp (PA.wL h a i v) (PgC.mk (S.2 a p hp) (PA.wL h a i v) S.1 rfl ?_ ?_ ?_ ?_ ?_ ?_ ?_ c9 c10 c11 c12)
  · show hI h a 96 = nI ((pK p).set i v).length
    rw [List.length_set]; exact c2
  · show ((pK p).set i v).length ≤ 5
    rw [List.length_set]; exact c3
  · show ∀ j, j < ((pK p).set i v).length → ((pK p).set i v)[j]? = _
    rw [List.length_set]
    intro j hj
    rw [hL_wL, List.getElem?_set]
    have x1 := c4 j hj
    grind
  · show (pW p).length = ((pK p).set i v).length
    rw [List.length_set]; exact c5
  · show ∀ j, j < ((pK p).set i v).length → (pW p)[j]? = some (hR h (a + 2) j)
    rw [List.length_set]; exact c6
  · show (pB p).length = ((pK p).set i v).length + 1
    rw [List.length_set]; exact c7
  · show ∀ j, j ≤ ((pK p).set i v).length → (pB p)[j]? = some (hR h (a + 3) j)
    rw [List.length_set]; exact c8
theorem ps_wB {h : AH} {σ : PS} {a i : Nat} {p : Pg} {v : Option Nat} (S : PSt h σ) (hp : σ a = some p) (hi : i ≤ (pK p).length) (hv : RT h v 7) : PSt (wR h (a + 3) i v) (up σ a (pF p, pK p, pW p, (pB p).set i v, pN p)) ∧ NP h (wR h (a + 3) i v) 0 0 := by
  obtain ⟨o, c1, c2, c3, c4, c5, c6, c7, c8, c9, c10, c11, c12⟩ := S.2 a p hp
  refine ps_of S hp (PA.wB h a i v) (PgC.mk (S.2 a p hp) (PA.wB h a i v) S.1 rfl c2 c3 c4 c5 ?_ ?_ ?_ c9 ?_ ?_ c12)
  · intro j hj; rw [hR_wR, if_neg (by omega)]; exact c6 j hj
  · show ((pB p).set i v).length = (pK p).length + 1
    rw [List.length_set]; exact c7
  · intro j hj
    show ((pB p).set i v)[j]? = _
    rw [hR_wR, List.getElem?_set]
    have x1 := c8 j hj
    grind
  · intro x hx
    rcases List.mem_or_eq_of_mem_set hx with hx | rfl
    · exact c10 x hx
    · exact hv
  · rw [hR_wR, if_neg (by omega)]; exact c11
theorem ps_wN {h : AH} {σ : PS} {a : Nat} {p : Pg} {v : Option Nat} (S : PSt h σ) (hp : σ a = some p) (hv : RT h v 7) : PSt (wR h a 102 v) (up σ a (pF p, pK p, pW p, pB p, v)) ∧ NP h (wR h a 102 v) 0 0 := by
  obtain ⟨o, c1, c2, c3, c4, c5, c6, c7, c8, c9, c10, c11, c12⟩ := S.2 a p hp
  refine ps_of S hp (PA.wN h a v) (PgC.mk (S.2 a p hp) (PA.wN h a v) S.1 rfl c2 c3 c4 c5 ?_ c7 ?_ c9 c10 ?_ hv)
  · intro j hj; rw [hR_wR, if_neg (by omega)]; exact c6 j hj
  · intro j hj; rw [hR_wR, if_neg (by omega)]; exact c8 j hj
  · rw [hR_wR, if_pos ⟨rfl, rfl⟩]
theorem m49 {d a : Nat} {h : AH} {σ : PS} {p : Pg} {P : PT} (S : PSt h σ) (hp : σ a = some p) (hi : 0 < (pK p).length)
    (k : ∀ h' σ', PSt h' σ' → σ' a = some (pF p, (pK p).eraseIdx 0, (pW p).eraseIdx 0, (pB p).eraseIdx 0, pN p) → (∀ b, b ≠ a → σ' b = σ b) → NP h h' 0 0 → hN h' = hN h → P (.inl none) h') : Ev (d + 1) 49 0 [vR (some a)] [] h P := by
  obtain ⟨o, c1, c2, c3, c4, c5, c6, c7, c8, c9, c10, c11, c12⟩ := S.2 a p hp
  have hr : RT h (hR h (a + 3) 1) 7 := c10 _ (List.mem_of_getElem? (c8 1 (by omega)))
  refine w49_0 o ⟨i5 (n := 1) (by decide) (by decide), i5 (n := 0) (by decide) (by decide), hr, ?_⟩
  obtain ⟨S1, N1⟩ := ps_wB (i := 0) S hp (by omega) hr
  refine w49_12 (S1.2 a _ (up_same _ _ _)).1 ?_
  refine m48 (i := 0) S1 (up_same _ _ _) hi (fun h' S2 N2 e2 => ?_)
  refine w49_17 ?_
  refine k h' _ S2 ?_ (fun b hb => by rw [up_ne hb, up_ne hb]) (N1.trans N2) e2
  rw [up_same]
  have : ((pB p).set 0 (hR h (a + 3) 1)).eraseIdx (0 + 1) = (pB p).eraseIdx 0 := by
    match hB : pB p, c7 with
    | [], e => simp at e
    | [x], e => exact absurd (show 1 = (pK p).length + 1 from e) (by omega)
    | x :: y :: r, _ =>
      have := c8 1 (by omega)
      rw [hB] at this
      simp at this
      simp [this]
  simp only [pB, pK, pW, pF, pN] at this ⊢
  rw [this]
/-- what is part of a page stays -/
def PU (h h' : AH) : Prop := HW h' ∧ (∀ b, b < hN h → hT h' b = hT h b) ∧ ∀ b, b < hN h → pgt (hT h b) → (∀ j, hI h' b j = hI h b j) ∧ (∀ j, hL h' b j = hL h b j) ∧ ∀ j, hR h' b j = hR h b j
theorem ps_pu {h h' : AH} {σ : PS} (S : PSt h σ) (u : PU h h') : PSt h' σ := by
  obtain ⟨u1, u2, u3⟩ := u
  refine ⟨u1, fun a p hp => ?_⟩
  obtain ⟨o, c1, c2, c3, c4, c5, c6, c7, c8, c9, c10, c11, c12⟩ := S.2 a p hp
  obtain ⟨e1, e2, e3⟩ := u3 a (S.1.lt o.1) (Or.inl o.1)
  obtain ⟨f1, f2, f3⟩ := u3 (a + 1) (S.1.lt o.t1) (Or.inr (Or.inl o.t1))
  obtain ⟨g1, g2, g3⟩ := u3 (a + 2) (S.1.lt o.t2) (Or.inr (Or.inr (Or.inl o.t2)))
  obtain ⟨i1, i2, i3⟩ := u3 (a + 3) (S.1.lt o.t3) (Or.inr (Or.inr (Or.inr o.t3)))
  refine ⟨⟨by rw [u2 _ (S.1.lt o.1)]; exact o.1, ⟨by rw [e3]; exact o.2.1.1, by rw [u2 _ (S.1.lt o.t1)]; exact o.t1⟩, ⟨by rw [e3]; exact o.2.2.1.1, by rw [u2 _ (S.1.lt o.t2)]; exact o.t2⟩, ⟨by rw [e3]; exact o.2.2.2.1.1, by rw [u2 _ (S.1.lt o.t3)]; exact o.t3⟩, trivial⟩, by rw [e1]; exact c1, by rw [e1]; exact c2, c3, fun i hi => by rw [f2]; exact c4 i hi, c5, fun i hi => by rw [g3]; exact c6 i hi, c7, fun i hi => by rw [i3]; exact c8 i hi, fun r hr => RT_T S.1 u2 (c9 r hr), fun r hr => RT_T S.1 u2 (c10 r hr), by rw [e3]; exact c11, RT_T S.1 u2 c12⟩
theorem PU.np {h h' : AH} (x : ∀ b, b < hN h → (hT h' b = hT h b) ∧ (∀ j, hI h' b j = hI h b j) ∧ (∀ j, hL h' b j = hL h b j) ∧ ∀ j, hR h' b j = hR h b j) (w : HW h') : PU h h' :=
  ⟨w, fun b hb => (x b hb).1, fun b hb _ => (x b hb).2⟩
theorem NP.np {h h' : AH} (x : ∀ b, b < hN h → (hT h' b = hT h b) ∧ (∀ j, hI h' b j = hI h b j) ∧ (∀ j, hL h' b j = hL h b j) ∧ ∀ j, hR h' b j = hR h b j) {c s : Nat} (hn : hN h ≤ hN h') (hc : hC h ≤ hC h' + c) (hs : hS h ≤ hS h' + s) : NP h h' c s :=
  ⟨hn, hc, hs, fun b hb => (x b hb).1, fun b hb _ => (x b hb).2⟩
theorem m44 {d : Nat} {b : Bool} {h : AH} {σ : PS} {P : PT} (S : PSt h σ) (h4 : 4 ≤ hC h) (h22 : 22 ≤ hS h)
    (k : ∀ h', PSt h' (up σ (hN h) (b, [], [], [none], none)) → NP h h' 4 22 → hN h' = hN h + 4 → P (.inl none) h') : Ev d 44 0 [vR (some (hN h)), vI (bI b)] [] (al h (7, 0) 6) P := by
  refine w44_0 ⟨by rw [hC_al]; omega, by rw [hS_al]; omega, ?_⟩
  have t1 : ∀ {g : AH}, hT g (hN h) = some (7, 0) → OB g (hN h) 7 kE := fun e => ⟨e, trivial⟩
  have z01 : ¬ (hN h = hN h + 1) := by omega
  have z02 : ¬ (hN h = hN h + 1 + 1) := by omega
  have z03 : ¬ (hN h = hN h + 1 + 1 + 1) := by omega
  have z10 : ¬ (hN h + 1 = hN h) := by omega
  have z12 : ¬ (hN h + 1 = hN h + 1 + 1) := by omega
  have z13 : ¬ (hN h + 1 = hN h + 1 + 1 + 1) := by omega
  have z20 : ¬ (hN h + 1 + 1 = hN h) := by omega
  have z21 : ¬ (hN h + 1 + 1 = hN h + 1) := by omega
  have z23 : ¬ (hN h + 1 + 1 = hN h + 1 + 1 + 1) := by omega
  have z30 : ¬ (hN h + 1 + 1 + 1 = hN h) := by omega
  have z31 : ¬ (hN h + 1 + 1 + 1 = hN h + 1) := by omega
  have z32 : ¬ (hN h + 1 + 1 + 1 = hN h + 1 + 1) := by omega
  refine w44_8 (t1 (by simp [hT_al, hN_al])) ?_
  refine w44_11 ⟨by simp only [hC_wR, hC_al]; omega, by simp only [hS_wR, hS_al]; omega, ?_⟩
  refine w44_16 (t1 (by simp only [hT_al, hN_al, hT_wR, hN_wR, z01, z02, z03, z10, z12, z13, z20, z21, z23, z30, z31, z32, if_true, if_false])) ?_
  refine w44_19 ⟨by simp only [hC_wR, hC_al]; omega, by simp only [hS_wR, hS_al]; omega, ?_⟩
  refine w44_25 (t1 (by simp only [hT_al, hN_al, hT_wR, hN_wR, z01, z02, z03, z10, z12, z13, z20, z21, z23, z30, z31, z32, if_true, if_false])) ?_
  refine w44_28 (t1 (by simp only [hT_al, hN_al, hT_wR, hN_wR, z01, z02, z03, z10, z12, z13, z20, z21, z23, z30, z31, z32, if_true, if_false])) ⟨by cases b <;> simp [bI, isB], ?_⟩
  simp only [hN_wR, hN_al]
  have hw : ∀ b, hN h ≤ b → hT h b = none := S.1
  have X : ∀ c, c < hN h → (hT (wI (wR (al (wR (al (wR (al (al h (7, 0) 6) (102, 5) 5) (hN h) 86 (some (hN h + 1))) (103, 5) 5) (hN h) 90 (some (hN h + 1 + 1))) (104, 6) 6) (hN h) 94 (some (hN h + 1 + 1 + 1))) (hN h) 83 (bI b)) c = hT h c) ∧ (∀ j, hI (wI (wR (al (wR (al (wR (al (al h (7, 0) 6) (102, 5) 5) (hN h) 86 (some (hN h + 1))) (103, 5) 5) (hN h) 90 (some (hN h + 1 + 1))) (104, 6) 6) (hN h) 94 (some (hN h + 1 + 1 + 1))) (hN h) 83 (bI b)) c j = hI h c j) ∧ (∀ j, hL (wI (wR (al (wR (al (wR (al (al h (7, 0) 6) (102, 5) 5) (hN h) 86 (some (hN h + 1))) (103, 5) 5) (hN h) 90 (some (hN h + 1 + 1))) (104, 6) 6) (hN h) 94 (some (hN h + 1 + 1 + 1))) (hN h) 83 (bI b)) c j = hL h c j) ∧ ∀ j, hR (wI (wR (al (wR (al (wR (al (al h (7, 0) 6) (102, 5) 5) (hN h) 86 (some (hN h + 1))) (103, 5) 5) (hN h) 90 (some (hN h + 1 + 1))) (104, 6) 6) (hN h) 94 (some (hN h + 1 + 1 + 1))) (hN h) 83 (bI b)) c j = hR h c j := by
    intro c hc
    have n0 : c ≠ hN h := by omega
    have n1 : c ≠ hN h + 1 := by omega
    have n2 : c ≠ hN h + 1 + 1 := by omega
    have n3 : c ≠ hN h + 1 + 1 + 1 := by omega
    refine ⟨?_, fun j => ?_, fun j => ?_, fun j => ?_⟩
    · simp only [hT_wI, hT_wR, hT_al, hN_al, hN_wR, if_neg n0, if_neg n1, if_neg n2, if_neg n3]
    · simp only [hI_wI, hI_wR, hI_al, hN_al, hN_wR, if_neg n0, if_neg n1, if_neg n2, if_neg n3, n0, false_and, if_false]
    · simp only [hL_wI, hL_wR, hL_al, hN_al, hN_wR, if_neg n0, if_neg n1, if_neg n2, if_neg n3]
    · simp only [hR_wI, hR_wR, hR_al, hN_al, hN_wR, if_neg n0, if_neg n1, if_neg n2, if_neg n3, n0, false_and, if_false]
  refine k _ ?_ (NP.np X (by simp [hN_wI, hN_wR, hN_al]; omega) (by simp only [hC_wI, hC_wR, hC_al]; omega) (by simp only [hS_wI, hS_wR, hS_al]; omega)) (by simp [hN_wI, hN_wR, hN_al])
  have w' : HW (wI (wR (al (wR (al (wR (al (al h (7, 0) 6) (102, 5) 5) (hN h) 86 (some (hN h + 1))) (103, 5) 5) (hN h) 90 (some (hN h + 1 + 1))) (104, 6) 6) (hN h) 94 (some (hN h + 1 + 1 + 1))) (hN h) 83 (bI b)) := by
    intro c hc
    simp only [hN_wI, hN_wR, hN_al] at hc
    have n0 : c ≠ hN h := by omega
    have n1 : c ≠ hN h + 1 := by omega
    have n2 : c ≠ hN h + 1 + 1 := by omega
    have n3 : c ≠ hN h + 1 + 1 + 1 := by omega
    simp only [hT_wI, hT_wR, hT_al, hN_al, hN_wR, if_neg n0, if_neg n1, if_neg n2, if_neg n3]
    exact hw c (by omega)
  have S' := ps_pu S (PU.np X w')
  refine ⟨w', fun c p hp => ?_⟩
  by_cases e : c = hN h
  · subst e
    rw [up_same] at hp; cases hp
    refine ⟨⟨?_, ⟨?_, ?_⟩, ⟨?_, ?_⟩, ⟨?_, ?_⟩, trivial⟩, ?_, ?_, by simp [pK], by simp [pK], rfl, by simp [pK], rfl, ?_, by simp [pW], ?_, ?_, RT_none⟩
    all_goals first
      | (simp only [hT_wI, hT_wR, hT_al, hN_al, hN_wR, z01, z02, z03, z10, z12, z13, z20, z21, z23, z30, z31, z32, if_true, if_false]; done)
      | (simp only [hR_wI, hR_wR, hR_al, hN_al, hN_wR, z01, z02, z03, z10, z12, z13, z20, z21, z23, z30, z31, z32, if_true, if_false, false_and, true_and, pN]; done)
      | (simp only [hR_wI, hR_wR, hR_al, hN_al, hN_wR, z01, z02, z03, z10, z12, z13, z20, z21, z23, z30, z31, z32, if_true, if_false, false_and, true_and, pN]; rfl)
      | (simp only [hI_wI, hI_wR, hI_al, hN_al, hN_wR, z01, z02, z03, z10, z12, z13, z20, z21, z23, z30, z31, z32, if_true, if_false, false_and, true_and, pK, pF]; rfl)
      | exact if_pos ⟨rfl, rfl⟩
      | (simp [hI_wI, hI_wR, hI_al, hN_al, hN_wR, z01, z02, z03, pK, nI_0]; done)
      | (intro i hi
         obtain rfl : i = 0 := Nat.le_zero.mp hi
         show some none = some (hR _ (hN h + 1 + 1 + 1) 0)
         simp only [hR_wI, hR_wR, hR_al, hN_al, hN_wR, z01, z02, z03, z10, z12, z13, z20, z21, z23, z30, z31, z32, if_true, if_false, false_and])
      | (intro r hr
         obtain rfl := List.mem_singleton.mp hr
         exact RT_none)
  · rw [up_ne e] at hp
    exact S'.2 c p hp
