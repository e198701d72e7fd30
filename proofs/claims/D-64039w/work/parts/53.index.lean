/-! deps: 25 26 27 28 34 36 37 38 39 40 41 42 43 44 45 46 47 48 49 50 51 52 -/
/-! ===== CONSTRUCTORS of Tree, Row, Table; Table.index ===== -/
/-- all that was there stays -/
def AX (h h' : AH) (c s : Nat) : Prop := hN h ≤ hN h' ∧ hC h ≤ hC h' + c ∧ hS h ≤ hS h' + s ∧ ∀ b, b < hN h → (hT h' b = hT h b) ∧ (∀ j, hI h' b j = hI h b j) ∧ (∀ j, hL h' b j = hL h b j) ∧ ∀ j, hR h' b j = hR h b j
theorem AX.refl (h : AH) : AX h h 0 0 := ⟨Nat.le_refl _, Nat.le_refl _, Nat.le_refl _, fun _ _ => ⟨rfl, fun _ => rfl, fun _ => rfl, fun _ => rfl⟩⟩
theorem AX.trans {h h' h'' : AH} {c c' s s' : Nat} (a : AX h h' c s) (b : AX h' h'' c' s') : AX h h'' (c + c') (s + s') := by
  obtain ⟨a1, a2, a3, a4⟩ := a
  obtain ⟨b1, b2, b3, b4⟩ := b
  refine ⟨by omega, by omega, by omega, fun q hq => ?_⟩
  obtain ⟨x0, x1, x2, x3⟩ := a4 q hq
  obtain ⟨y0, y1, y2, y3⟩ := b4 q (by omega)
  exact ⟨y0.trans x0, fun j => (y1 j).trans (x1 j), fun j => (y2 j).trans (x2 j), fun j => (y3 j).trans (x3 j)⟩
theorem AX.np {h h' : AH} {c s : Nat} (a : AX h h' c s) : NP h h' c s := NP.np a.2.2.2 a.1 a.2.1 a.2.2.1
theorem AX.pu {h h' : AH} {c s : Nat} (a : AX h h' c s) (w : HW h') : PU h h' := PU.np a.2.2.2 w
theorem AX.weak {h h' : AH} {c c' s s' : Nat} (a : AX h h' c s) (hc : c ≤ c') (hs : s ≤ s') : AX h h' c' s' := by
  obtain ⟨a1, a2, a3, a4⟩ := a
  exact ⟨a1, by omega, by omega, a4⟩
theorem ax_al (h : AH) (t : Nat × Nat) (n : Nat) : AX h (al h t n) 1 n := by
  refine ⟨by rw [hN_al]; omega, by rw [hC_al]; omega, by rw [hS_al]; omega, fun b hb => ⟨?_, fun j => ?_, fun j => ?_, fun j => ?_⟩⟩
  · rw [hT_al, if_neg (by omega)]
  · rw [hI_al, if_neg (by omega)]
  · rw [hL_al, if_neg (by omega)]
  · rw [hR_al, if_neg (by omega)]
theorem hw_al {h : AH} (w : HW h) (t : Nat × Nat) (n : Nat) : HW (al h t n) := fun b hb => by
  rw [hN_al] at hb
  rw [hT_al, if_neg (by omega)]
  exact w b (by omega)
/-- a write at a new address -/
theorem AX.wI {h h' : AH} {c s : Nat} (a : AX h h' c s) {b f : Nat} {v : Int32} (hb : hN h ≤ b) : AX h (wI h' b f v) c s :=
  ⟨a.1, a.2.1, a.2.2.1, fun q hq => ⟨(a.2.2.2 q hq).1, fun j => by rw [hI_wI, if_neg (by omega)]; exact (a.2.2.2 q hq).2.1 j, (a.2.2.2 q hq).2.2.1, (a.2.2.2 q hq).2.2.2⟩⟩
theorem AX.wR {h h' : AH} {c s : Nat} (a : AX h h' c s) {b f : Nat} {v : Option Nat} (hb : hN h ≤ b) : AX h (wR h' b f v) c s :=
  ⟨a.1, a.2.1, a.2.2.1, fun q hq => ⟨(a.2.2.2 q hq).1, (a.2.2.2 q hq).2.1, (a.2.2.2 q hq).2.2.1, fun j => by rw [hR_wR, if_neg (by omega)]; exact (a.2.2.2 q hq).2.2.2 j⟩⟩
/-- non-pages that stay, with a write at a new address -/
theorem NP.wR {h h' : AH} {c s : Nat} (a : NP h h' c s) {b f : Nat} {v : Option Nat} (hb : hN h ≤ b) : NP h (wR h' b f v) c s :=
  ⟨a.1, a.2.1, a.2.2.1, a.2.2.2.1, fun q hq hn => ⟨(a.2.2.2.2 q hq hn).1, (a.2.2.2.2 q hq hn).2.1, fun j => by rw [hR_wR, if_neg (by omega)]; exact (a.2.2.2.2 q hq hn).2.2 j⟩⟩
theorem m69 {d : Nat} {h : AH} {σ : PS} {P : PT} (S : PSt h σ) (h5 : 5 ≤ hC h) (h23 : 23 ≤ hS h)
    (K : ∀ h' σ', PSt h' σ' → Tre h' σ' (hN h) 0 [] [hN h + 1] → (∀ b, b < hN h → σ' b = σ b) → NP h h' 5 23 → hN h' = hN h + 5 → P (.inl none) h') : Ev (d + 1) 69 0 [vR (some (hN h))] [] (al h (14, 0) 1) P := by
  have S1 : PSt (al h (14, 0) 1) σ := ps_pu S ((ax_al h (14, 0) 1).pu (hw_al S.1 _ _))
  refine w69_0 ⟨by rw [hC_al]; omega, by rw [hS_al]; omega, ?_⟩
  refine w69_8 ?_
  refine m44 (b := true) S1 (by rw [hC_al]; omega) (by rw [hS_al]; omega) (fun h2 S2 N2 n2 => ?_)
  rw [hN_al] at n2 S2
  have t1 : hT (al h (14, 0) 1) (hN h) = some (14, 0) := by rw [hT_al, if_pos rfl]
  have t2 := npT N2 S1.1 t1
  refine w69_13 ⟨t2, trivial⟩ ?_
  refine w69_16 ?_
  have np2 : ¬ pgt (hT h2 (hN h)) := not_pgt t2 (by decide) (by decide) (by decide) (by decide)
  have S3 := ps_pu S2 (pu_wR (j := 106) (r := some (hN h + 1)) S2.1 t2 np2)
  rw [hN_al]
  refine K _ _ S3 ⟨t2, by simp, List.Pairwise.nil, hN h + 1, hN h + 1, by rw [hR_wR, if_pos ⟨rfl, rfl⟩], ⟨_, up_same _ _ _, rfl, rfl, rfl, rfl, rfl, rfl, Nat.zero_le _, Nat.zero_le _⟩⟩ (fun b hb => up_ne (by omega)) ?_ (by rw [hN_wR]; omega)
  exact (((ax_al h (14, 0) 1).np.trans N2).weak (by omega) (by omega)).wR (Nat.le_refl _)
theorem m52 {d : Nat} {h : AH} {σ : PS} {P : PT} (S : PSt h σ) (h5 : 2 ≤ hC h) (h23 : 5 ≤ hS h)
    (K : ∀ h', PSt h' σ → OB h' (hN h) 9 kR → AX h h' 2 5 → hN h' = hN h + 2 → P (.inl none) h') : Ev d 52 0 [vR (some (hN h))] [] (al h (9, 0) 1) P := by
  refine w52_0 ⟨by rw [hC_al]; omega, by rw [hS_al]; omega, ?_⟩
  have w1 := hw_al S.1 (9, 0) 1
  have w2 := hw_al w1 (100, 4) 4
  have t0 : hT (al (al h (9, 0) 1) (100, 4) 4) (hN h) = some (9, 0) := by rw [hT_al, hN_al, if_neg (by omega), hT_al, if_pos rfl]
  refine w52_8 ⟨t0, trivial⟩ ?_
  refine w52_11 ?_
  rw [hN_al]
  have A := (((ax_al h (9, 0) 1).trans (ax_al _ (100, 4) 4)).wR (b := hN h) (f := 134) (v := some (hN h + 1)) (Nat.le_refl _))
  refine K _ (ps_pu S (A.pu w2)) ⟨t0, ⟨by rw [hR_wR, if_pos ⟨rfl, rfl⟩], ?_⟩, trivial⟩ A (by rw [hN_wR, hN_al, hN_al])
  show hT (al (al h (9, 0) 1) (100, 4) 4) (hN h + 1) = some (100, 4)
  rw [hT_al, hN_al, if_pos rfl]
theorem m59 {d k : Nat} {h : AH} {σ : PS} {P : PT} (S : PSt h σ) (h7 : 7 ≤ hC h) (h30 : 30 ≤ hS h)
    (K : ∀ h' σ', PSt h' σ' → OB h' (hN h) 12 kT → hI h' (hN h) 108 = nI k → hI h' (hN h) 112 = 0 → hR h' (hN h + 1) 0 = some (hN h + 2) → (∀ c, c ≠ 0 → hR h' (hN h + 1) c = none) → Tre h' σ' (hN h + 2) 0 [] [hN h + 3] → (∀ b, b < hN h → σ' b = σ b) → NP h h' 7 30 → hN h' = hN h + 7 → P (.inl none) h') : Ev (d + 2) 59 0 [vR (some (hN h)), vI (nI k)] [] (al h (12, 0) 3) P := by
  refine w59_0 ⟨by rw [hC_al]; omega, by rw [hS_al]; omega, ?_⟩
  have w1 := hw_al S.1 (12, 0) 3
  have w2 := hw_al w1 (105, 4) 4
  have t0 : hT (al (al h (12, 0) 3) (105, 4) 4) (hN h) = some (12, 0) := by rw [hT_al, hN_al, if_neg (by omega), hT_al, if_pos rfl]
  have t1 : hT (al (al h (12, 0) 3) (105, 4) 4) (hN h + 1) = some (105, 4) := by rw [hT_al, hN_al, if_pos rfl]
  refine w59_9 ⟨t0, trivial⟩ ?_
  rw [hN_al]
  have A := ((((ax_al h (12, 0) 3).trans (ax_al _ (105, 4) 4)).wR (b := hN h) (f := 118) (v := some (hN h + 1)) (Nat.le_refl _)).wI (b := hN h) (f := 108) (v := nI k) (Nat.le_refl _))
  have S2 := ps_pu S (A.pu w2)
  have n2 : hN (wI (wR (al (al h (12, 0) 3) (105, 4) 4) (hN h) 118 (some (hN h + 1))) (hN h) 108 (nI k)) = hN h + 2 := by rw [hN_wI, hN_wR, hN_al, hN_al]
  have t0' : hT (wI (wR (al (al h (12, 0) 3) (105, 4) 4) (hN h) 118 (some (hN h + 1))) (hN h) 108 (nI k)) (hN h) = some (12, 0) := t0
  have t1' : hT (wI (wR (al (al h (12, 0) 3) (105, 4) 4) (hN h) 118 (some (hN h + 1))) (hN h) 108 (nI k)) (hN h + 1) = some (105, 4) := t1
  have r0 : hR (wI (wR (al (al h (12, 0) 3) (105, 4) 4) (hN h) 118 (some (hN h + 1))) (hN h) 108 (nI k)) (hN h) 118 = some (hN h + 1) := if_pos ⟨rfl, rfl⟩
  have r1 : ∀ c, hR (wI (wR (al (al h (12, 0) 3) (105, 4) 4) (hN h) 118 (some (hN h + 1))) (hN h) 108 (nI k)) (hN h + 1) c = none := fun c => by
    rw [hR_wI, hR_wR, if_neg (by omega), hR_al, hN_al, if_pos rfl]
  have i0 : hI (wI (wR (al (al h (12, 0) 3) (105, 4) 4) (hN h) 118 (some (hN h + 1))) (hN h) 108 (nI k)) (hN h) 108 = nI k := if_pos ⟨rfl, rfl⟩
  have i1 : hI (wI (wR (al (al h (12, 0) 3) (105, 4) 4) (hN h) 118 (some (hN h + 1))) (hN h) 108 (nI k)) (hN h) 112 = 0 := by
    rw [hI_wI, if_neg (by omega), hI_wR, hI_al, hN_al, if_neg (by omega), hI_al, if_pos rfl]
  have c2 := A.2.1
  have s2 := A.2.2.1
  refine w59_12 ⟨t0, trivial⟩ ⟨hN h + 1, r0, by omega, by omega, ?_⟩
  generalize wI (wR (al (al h (12, 0) 3) (105, 4) 4) (hN h) 118 (some (hN h + 1))) (hN h) 108 (nI k) = g at *
  refine w59_25 ?_
  refine m69 S2 (by omega) (by omega) (fun h3 σ3 S3 T3 f3 N3 n3 => ?_)
  rw [n2] at T3 f3 n3
  have m0 := N3.2.2.2.2 (hN h) (by omega) (not_pgt t0' (by decide) (by decide) (by decide) (by decide))
  have m1 := N3.2.2.2.2 (hN h + 1) (by omega) (not_pgt t1' (by decide) (by decide) (by decide) (by decide))
  have t03 := npT N3 S2.1 t0'
  have t13 := npT N3 S2.1 t1'
  refine w59_29 ⟨4, t13, i5 (n := 0) (by decide) (by decide), by rw [n2]; exact RT_some T3.1, ?_⟩
  rw [n2]
  refine w59_30 ?_
  have np1 : ¬ pgt (hT h3 (hN h + 1)) := not_pgt t13 (by decide) (by decide) (by decide) (by decide)
  have S4 := ps_pu S3 (pu_wR (j := 0) (r := some (hN h + 2)) S3.1 t13 np1)
  have ne : hN h + 2 ≠ hN h + 1 := by omega
  refine K _ σ3 S4 ⟨t03, ⟨?_, t13⟩, trivial⟩ ?_ ?_ ?_ ?_ (T3.keep rfl ?_ (fun _ _ => rfl)) (fun b hb => f3 b (by omega)) ?_ (by rw [hN_wR]; omega)
  · rw [hR_wR, if_neg (by omega), m0.2.2]; exact r0
  · exact (m0.1 _).trans i0
  · exact (m0.1 _).trans i1
  · exact if_pos ⟨rfl, rfl⟩
  · intro c hc
    show hR (wR h3 (hN h + 1) 0 (some (hN h + 2))) (hN h + 1) c = none
    rw [hR_wR, if_neg (fun q => hc q.2), m1.2.2]; exact r1 c
  · show hR (wR h3 (hN h + 1) 0 (some (hN h + 2))) (hN h + 2) 106 = _
    rw [hR_wR, if_neg (fun q => ne q.1)]
  · exact ((A.np.trans N3).weak (by omega) (by omega)).wR (by omega)
