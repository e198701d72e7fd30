/-! deps: 25 26 27 28 34 36 37 38 39 40 41 42 43 44 45 46 47 48 49 50 51 -/
/-! ===== TABLE: isColumn, isIndexed, place, find, add, remove, walk ===== -/
def isC (c : Int32) (k : Nat) : Bool := decide (0 ≤ c ∧ c < nI k)
theorem m58 {d t k : Nat} {c : Int32} {h : AH} {P : PT} (o : OB h t 12 kT) (hk : hI h t 108 = nI k) (K : P (.inl (some (vI (bI (isC c k))))) h) : Ev d 58 0 [vR (some t), vI c] [] h P := by
  refine w58_0 o ⟨fun g => ?_, fun g => ⟨fun g2 => ?_, fun g2 => ?_⟩⟩
  · have : isC c k = false := by unfold isC; simp only [decide_eq_false_iff_not, not_and]; exact fun q => absurd g (Int32.not_lt.mpr q)
    rw [this] at K; exact K
  · rw [hk] at g2
    have : isC c k = false := by unfold isC; simp only [decide_eq_false_iff_not, not_and]; exact fun _ => Int32.not_lt.mpr g2
    rw [this] at K; exact K
  · rw [hk] at g2
    have : isC c k = true := by unfold isC; simp only [decide_eq_true_eq]; exact ⟨g, g2⟩
    rw [this] at K; exact K
theorem isC_of {c : Int32} {k : Nat} (h : isC c k = true) (hk : k ≤ 1000) : ∃ j, j < k ∧ c = nI j := by
  unfold isC at h
  simp only [decide_eq_true_eq] at h
  rcases pk_ix c (n := k) (by omega) with q | q | ⟨j, h1, h2⟩
  · exact absurd q (Int32.not_lt.mpr h.1)
  · exact absurd h.2 (Int32.not_lt.mpr q)
  · exact ⟨j, h1, h2⟩
theorem isC_n {j k : Nat} (h : j < k) (hk : k ≤ 1000) : isC (nI j) k = true := by
  unfold isC
  simp only [decide_eq_true_eq]
  exact ⟨nI_pos' (by omega), nI_lt h (by omega)⟩
theorem m57 {d t k : Nat} {c : Int32} {h : AH} {P : PT} (o : OB h t 12 kT) (hk : hI h t 108 = nI k) (h4 : k ≤ 4) (K : P (.inl (some (vI (bI (isC c k && (hR h (t + 1) c.toNatClampNeg).isSome))))) h) : Ev (d + 1) 57 0 [vR (some t), vI c] [] h P := by
  refine w57_0 o ?_
  refine m58 o hk ?_
  refine w57_5 o ⟨fun g => ?_, fun g => ?_⟩
  · rw [bI_0] at g; rw [g] at K; exact K
  · rw [bI_0, Bool.not_eq_false] at g
    obtain ⟨j, h1, rfl⟩ := isC_of g (by omega)
    rw [g] at K
    refine ⟨i5 (by omega) (by omega), fun g2 => ?_, fun g2 => ?_⟩
    · rw [g2] at K; exact K
    · cases hh : hR h (t + 1) (nI j).toNatClampNeg with
      | none => exact absurd hh g2
      | some b => rw [hh] at K; exact K
theorem m62 {d : Nat} {c k : Int32} {h : AH} {P : PT} (K : P (.inl (some (vL (plc c k)))) h) : Ev d 62 0 [vI c, vI k] [] h P := w62_0 K
theorem m61 {d r c : Nat} {h : AH} {P : PT} (o : OB h r 9 kR) (hc : c < 4) (K : P (.inl (some (vL (plc (hI h (r + 1) c) (hI h (r + 1) 0))))) h) : Ev (d + 1) 61 0 [vR (some r), vI (nI c)] [] h P := by
  refine w61_0 o ⟨i5 (by omega) (by omega), i5 (n := 0) (by decide) (by decide), ?_⟩
  rw [cl (by omega)]
  refine m62 ?_
  exact w61_15 K
theorem m63 {n d t tr0 : Nat} {key : Int32} {es : List En} {fp : List Nat} {h : AH} {σ : PS} {P : PT} (S : PSt h σ) (o : OB h t 12 kT) (ht : hR h (t + 1) 0 = some tr0) (T : Tre h σ tr0 n es fp) (K : ∀ r, (r = none ∧ ∀ e ∈ es, e.1 ≠ plc key key) ∨ (∃ row, r = some row ∧ (plc key key, row) ∈ es) → P (.inl (some (vR r))) h) : Ev (d + 3) 63 0 [vR (some t), vI key] [] h P := by
  refine w63_0 o ⟨i5 (n := 0) (by decide) (by decide), tr0, ht, ?_⟩
  refine m62 ?_
  refine w63_11 ⟨T.1, trivial⟩ ?_
  refine m74 S T (fun r hr => ?_)
  exact w63_14 (K r hr)
theorem m66 {n d t w c tr0 : Nat} {f to : Int32} {es : List En} {fp : List Nat} {h : AH} {σ : PS} {P : PT} (S : PSt h σ) (o : OB h t 12 kT) (hc : c < 4) (ht : hR h (t + 1) c = some tr0) (T : Tre h σ tr0 n es fp) (hw : hT h w = some (15, 0))
    (K : ∀ h' X rem, OO h h' w → Wk h' σ w rem (plc to 2147483647) fp → es = X ++ rem → (∀ x ∈ X, x.1 < plc f (-2147483648)) → (∀ x ∈ rem, plc f (-2147483648) ≤ x.1) → P (.inl none) h') : Ev (d + 3) 66 0 [vR (some t), vR (some w), vI (nI c), vI f, vI to] [] h P := by
  refine w66_0 o ⟨i5 (by omega) (by omega), tr0, by rw [cl (by omega)]; exact ht, ?_⟩
  refine m62 ?_
  refine w66_13 ?_
  refine m62 ?_
  refine w66_20 ⟨hw, trivial⟩ ?_
  refine m82 S T hw (fun h' X rem O W e1 e2 e3 => ?_)
  exact w66_23 (K h' X rem O W e1 e2 e3)
/-- the trees of a table's columns -/
def Cols (h : AH) (t k q0 : Nat) (act : Nat → Prop) (tr : TrF) : Prop := ∀ c, c < k → (act (q0 + c) ∧ hR h (t + 1) c = some (tr (q0 + c))) ∨ (¬ act (q0 + c) ∧ hR h (t + 1) c = none)
theorem tb_np {h h' : AH} {t c s : Nat} (N : NQ h h' c s) (w : HW h) (o : OB h t 12 kT) : OB h' t 12 kT ∧ (∀ j, hI h' t j = hI h t j) ∧ (∀ j, hR h' (t + 1) j = hR h (t + 1) j) := by
  obtain ⟨o1, ⟨o2, o3⟩, _⟩ := o
  have o3 : hT h (t + 1) = some (105, 4) := o3
  have m1 := N.mem w o1 (by decide) (by decide) (by decide) (by decide) (by decide)
  have m2 := N.mem w o3 (by decide) (by decide) (by decide) (by decide) (by decide)
  exact ⟨⟨N.T w o1, ⟨by rw [m1.2.2]; exact o2, N.T w o3⟩, trivial⟩, m1.1, m2.2.2⟩
theorem row_np {h h' : AH} {r c s : Nat} (N : NQ h h' c s) (w : HW h) (o : OB h r 9 kR) : OB h' r 9 kR ∧ (∀ j, hI h' (r + 1) j = hI h (r + 1) j) := by
  obtain ⟨o1, ⟨o2, o3⟩, _⟩ := o
  have o3 : hT h (r + 1) = some (100, 4) := o3
  have m1 := N.mem w o1 (by decide) (by decide) (by decide) (by decide) (by decide)
  have m2 := N.mem w o3 (by decide) (by decide) (by decide) (by decide) (by decide)
  exact ⟨⟨N.T w o1, ⟨by rw [m1.2.2]; exact o2, N.T w o3⟩, trivial⟩, m2.1⟩
/-- add's loop -/
theorem m64l {t k q0 row : Nat} {act : Nat → Prop} {tr : TrF} {P : PT} {h0 : AH} {d : Nat} (k4 : k ≤ 4) : ∀ (m c : Nat) (h : AH) (σ : PS) (es : EsF) (fp : FpF), m + c = k → PSt h σ → Rg h σ act tr es fp → OB h t 12 kT → hI h t 108 = nI k → Cols h t k q0 act tr → OB h row 9 kR →
    (∀ i, c ≤ i → i < k → act (q0 + i) → (es (q0 + i)).length ≤ 47 ∧ ∀ e ∈ es (q0 + i), e.1 ≠ plc (hI h (row + 1) i) (hI h (row + 1) 0)) → 24 * m ≤ hC h → 132 * m ≤ hS h → NQ h0 h (24 * c) (132 * c) →
    (∀ h' σ' es' fp', PSt h' σ' → Rg h' σ' act tr es' fp' → NQ h0 h' (24 * k) (132 * k) → OB h' t 12 kT → (∀ i, c ≤ i → i < k → act (q0 + i) → InsR (plc (hI h (row + 1) i) (hI h (row + 1) 0)) row (es (q0 + i)) (es' (q0 + i))) → (∀ q, (q < q0 + c ∨ q0 + k ≤ q) → es' q = es q) → P (.inl none) (wI h' t 112 (hI h' t 112 + 1))) →
    Ev (10 + d) 64 2 [vR (some t), vR (some row), vI (nI c)] [] h P := by
  intro m
  induction m with
  | zero =>
    intro c h σ es fp hm S R o hk C ro hn hC0 hS0 N K
    obtain rfl : c = k := by omega
    rw [show 10 + d = (9 + d) + 1 by omega]
    refine w64_2 o ⟨fun _ => ?_, fun g => ?_⟩
    · exact K h σ es fp S R N o (fun i h1 h2 => absurd h2 (by omega)) (fun _ _ => rfl)
    · rw [hk, nI_ltI (by omega) (by omega)] at g; omega
  | succ m ih =>
    intro c h σ es fp hm S R o hk C ro hn hC0 hS0 N K
    rw [show 10 + d = (9 + d) + 1 by omega]
    refine w64_2 o ⟨fun g => ?_, fun _ => ?_⟩
    · rw [hk, nI_leI (by omega) (by omega)] at g; omega
    rw [cl (by omega)]
    refine ⟨i5 (by omega) (by omega), fun g => ?_, fun g => ?_⟩
    · -- no tree
      refine w64_34 ?_
      rw [nI_1, show (9 + d) + 1 = 10 + d by omega]
      have ha : ¬ act (q0 + c) := by
        rcases C c (by omega) with ⟨_, q⟩ | ⟨q, _⟩
        · rw [q] at g; cases g
        · exact q
      refine ih (c + 1) h σ es fp (by omega) S R o hk C ro (fun i h1 h2 => hn i (by omega) h2) (by omega) (by omega) (N.weak (by omega) (by omega)) ?_
      intro h' σ' es' fp' S' R' N' o' i1 i2
      refine K h' σ' es' fp' S' R' N' o' (fun i h1 h2 ha2 => ?_) (fun q hq => i2 q (by omega))
      rcases Nat.eq_or_lt_of_le h1 with rfl | h1
      · exact absurd ha2 ha
      · exact i1 i (by omega) h2 ha2
    · obtain ⟨ha, hr⟩ : act (q0 + c) ∧ hR h (t + 1) c = some (tr (q0 + c)) := by
        rcases C c (by omega) with q | ⟨_, q⟩
        · exact q
        · exact absurd q g
      refine ⟨i5 (by omega) (by omega), tr (q0 + c), hr, ?_⟩
      rw [show 9 + d = (8 + d) + 1 by omega]
      refine m61 ro (by omega) ?_
      obtain ⟨n, T⟩ := R.1 (q0 + c) ha
      obtain ⟨hn1, hn2⟩ := hn c (Nat.le_refl _) (by omega) ha
      have n4 := T.low (by omega)
      refine w64_30 ⟨T.1, trivial⟩ ?_
      rw [show (8 + d) + 1 = n + 3 + (6 - n + d) by omega]
      refine m71 S T hn2 (RT_some ro.1) (by omega) (by omega) ?_
      intro h1 σ1 n1 es1 fp1 Nl S1 T1 I1 P1 hN1 fr1 NP1
      rw [show n + 3 + (6 - n + d) = (8 + d) + 1 by omega]
      refine w64_34 ?_
      rw [nI_1, show (8 + d) + 1 + 1 = 10 + d by omega]
      have NQ1 := (NP1.q T.1).weak (c' := 24) (s' := 132) (by omega) (by omega)
      have hf1 : ∀ b ∈ fp1, b ∈ fp (q0 + c) ∨ hN h ≤ b := fun b hb => by
        rcases List.mem_append.mp (P1.mem_iff.mp hb) with q | q
        · exact Or.inr (hN1 b q)
        · exact Or.inl q
      have R1 := R.upd S ha T1 hf1 fr1 NP1
      obtain ⟨o1, oI, oR⟩ := tb_np NQ1 S.1 o
      obtain ⟨ro1, rI⟩ := row_np NQ1 S.1 ro
      have C1l := NQ1.2.1
      have C1s := NQ1.2.2.1
      refine ih (c + 1) h1 σ1 _ _ (by omega) S1 R1 o1 (by rw [oI]; exact hk) (fun i hi => by rw [oR]; exact C i hi) ro1 ?_ (by omega) (by omega) ((N.trans NQ1).weak (by omega) (by omega)) ?_
      · intro i h1 h2 ha2
        rw [fu_ne (by omega), rI, rI]
        exact hn i (by omega) h2 ha2
      · intro h' σ' es' fp' S' R' N' o' i1 i2
        refine K h' σ' es' fp' S' R' N' o' (fun i h1 h2 ha2 => ?_) (fun q hq => ?_)
        · rcases Nat.eq_or_lt_of_le h1 with rfl | h1
          · rw [i2 (q0 + c) (by omega), fu_same]; exact I1
          · have := i1 i (by omega) h2 ha2
            rw [fu_ne (by omega), rI, rI] at this
            exact this
        · rw [i2 q (by omega), fu_ne (by omega)]
theorem m64 {t k q0 row : Nat} {act : Nat → Prop} {tr : TrF} {P : PT} {h : AH} {d : Nat} {σ : PS} {es : EsF} {fp : FpF} (k4 : k ≤ 4) (S : PSt h σ) (R : Rg h σ act tr es fp) (o : OB h t 12 kT) (hk : hI h t 108 = nI k) (C : Cols h t k q0 act tr) (ro : OB h row 9 kR)
    (hn : ∀ i, i < k → act (q0 + i) → (es (q0 + i)).length ≤ 47 ∧ ∀ e ∈ es (q0 + i), e.1 ≠ plc (hI h (row + 1) i) (hI h (row + 1) 0)) (hC0 : 96 ≤ hC h) (hS0 : 528 ≤ hS h)
    (K : ∀ h' σ' es' fp', PSt h' σ' → Rg h' σ' act tr es' fp' → NQ h h' 96 528 → OB h' t 12 kT → (∀ i, i < k → act (q0 + i) → InsR (plc (hI h (row + 1) i) (hI h (row + 1) 0)) row (es (q0 + i)) (es' (q0 + i))) → (∀ q, (q < q0 ∨ q0 + k ≤ q) → es' q = es q) → P (.inl none) (wI h' t 112 (hI h' t 112 + 1))) :
    Ev (10 + d) 64 0 [vR (some t), vR (some row), vU] [] h P := by
  refine w64_0 ?_
  refine m64l k4 k 0 h σ es fp (by omega) S R o hk C ro (fun i _ => hn i) (by omega) (by omega) (NQ.refl h) ?_
  intro h' σ' es' fp' S' R' N' o' i1 i2
  exact K h' σ' es' fp' S' R' (N'.weak (by omega) (by omega)) o' (fun i hi => i1 i (by omega) hi) (fun q hq => i2 q (by omega))
/-- remove's loop -/
theorem m65l {t k q0 row : Nat} {act : Nat → Prop} {tr : TrF} {P : PT} {h0 : AH} {d : Nat} (k4 : k ≤ 4) : ∀ (m c : Nat) (h : AH) (σ : PS) (es : EsF) (fp : FpF), m + c = k → PSt h σ → Rg h σ act tr es fp → OB h t 12 kT → hI h t 108 = nI k → Cols h t k q0 act tr → OB h row 9 kR →
    (∀ i, c ≤ i → i < k → act (q0 + i) → (es (q0 + i)).length ≤ 48 ∧ (plc (hI h (row + 1) i) (hI h (row + 1) 0), row) ∈ es (q0 + i)) → NQ h0 h 0 0 → hN h = hN h0 →
    (∀ h' σ' es' fp', PSt h' σ' → Rg h' σ' act tr es' fp' → NQ h0 h' 0 0 → hN h' = hN h0 → OB h' t 12 kT → (∀ i, c ≤ i → i < k → act (q0 + i) → DelR (plc (hI h (row + 1) i) (hI h (row + 1) 0)) (es (q0 + i)) (es' (q0 + i))) → (∀ q, (q < q0 + c ∨ q0 + k ≤ q) → es' q = es q) → P (.inl none) (wI h' t 112 (hI h' t 112 - 1))) →
    Ev (11 + d) 65 2 [vR (some t), vR (some row), vI (nI c)] [] h P := by
  intro m
  induction m with
  | zero =>
    intro c h σ es fp hm S R o hk C ro hn N n0 K
    obtain rfl : c = k := by omega
    rw [show 11 + d = (10 + d) + 1 by omega]
    refine w65_2 o ⟨fun _ => ?_, fun g => ?_⟩
    · exact K h σ es fp S R N n0 o (fun i h1 h2 => absurd h2 (by omega)) (fun _ _ => rfl)
    · rw [hk, nI_ltI (by omega) (by omega)] at g; omega
  | succ m ih =>
    intro c h σ es fp hm S R o hk C ro hn N n0 K
    rw [show 11 + d = (10 + d) + 1 by omega]
    refine w65_2 o ⟨fun g => ?_, fun _ => ?_⟩
    · rw [hk, nI_leI (by omega) (by omega)] at g; omega
    rw [cl (by omega)]
    refine ⟨i5 (by omega) (by omega), fun g => ?_, fun g => ?_⟩
    · refine w65_33 ?_
      rw [nI_1, show (10 + d) + 1 = 11 + d by omega]
      have ha : ¬ act (q0 + c) := by
        rcases C c (by omega) with ⟨_, q⟩ | ⟨q, _⟩
        · rw [q] at g; cases g
        · exact q
      refine ih (c + 1) h σ es fp (by omega) S R o hk C ro (fun i h1 h2 => hn i (by omega) h2) N n0 ?_
      intro h' σ' es' fp' S' R' N' n' o' i1 i2
      refine K h' σ' es' fp' S' R' N' n' o' (fun i h1 h2 ha2 => ?_) (fun q hq => i2 q (by omega))
      rcases Nat.eq_or_lt_of_le h1 with rfl | h1
      · exact absurd ha2 ha
      · exact i1 i (by omega) h2 ha2
    · obtain ⟨ha, hr⟩ : act (q0 + c) ∧ hR h (t + 1) c = some (tr (q0 + c)) := by
        rcases C c (by omega) with q | ⟨_, q⟩
        · exact q
        · exact absurd q g
      refine ⟨i5 (by omega) (by omega), tr (q0 + c), hr, ?_⟩
      rw [show 10 + d = (9 + d) + 1 by omega]
      refine m61 ro (by omega) ?_
      obtain ⟨n, T⟩ := R.1 (q0 + c) ha
      obtain ⟨hn1, hn2⟩ := hn c (Nat.le_refl _) (by omega) ha
      have n4 := T.low hn1
      refine w65_30 ⟨T.1, trivial⟩ ?_
      rw [show (9 + d) + 1 = n + 5 + (5 - n + d) by omega]
      refine m75 S T hn2 ?_
      intro h1 σ1 n1 es1 fp1 Dl S1 T1 I1 P1 fr1 NP1 e1
      rw [show n + 5 + (5 - n + d) = (9 + d) + 1 by omega]
      refine w65_33 ?_
      rw [nI_1, show (9 + d) + 1 + 1 = 11 + d by omega]
      have NQ1 := NP1.q T.1
      have hf1 : ∀ b ∈ fp1, b ∈ fp (q0 + c) ∨ hN h ≤ b := fun b hb => Or.inl (P1.mem_iff.mpr (List.mem_append_right _ hb))
      have R1 := R.upd S ha T1 hf1 (fun b hb _ => fr1 b hb) NP1
      obtain ⟨o1, oI, oR⟩ := tb_np NQ1 S.1 o
      obtain ⟨ro1, rI⟩ := row_np NQ1 S.1 ro
      refine ih (c + 1) h1 σ1 _ _ (by omega) S1 R1 o1 (by rw [oI]; exact hk) (fun i hi => by rw [oR]; exact C i hi) ro1 ?_ (N.trans NQ1) (e1.trans n0) ?_
      · intro i h1 h2 ha2
        rw [fu_ne (by omega), rI, rI]
        exact hn i (by omega) h2 ha2
      · intro h' σ' es' fp' S' R' N' n' o' i1 i2
        refine K h' σ' es' fp' S' R' N' n' o' (fun i h1 h2 ha2 => ?_) (fun q hq => ?_)
        · rcases Nat.eq_or_lt_of_le h1 with rfl | h1
          · rw [i2 (q0 + c) (by omega), fu_same]; exact I1
          · have := i1 i (by omega) h2 ha2
            rw [fu_ne (by omega), rI, rI] at this
            exact this
        · rw [i2 q (by omega), fu_ne (by omega)]
theorem m65 {t k q0 row : Nat} {act : Nat → Prop} {tr : TrF} {P : PT} {h : AH} {d : Nat} {σ : PS} {es : EsF} {fp : FpF} (k4 : k ≤ 4) (S : PSt h σ) (R : Rg h σ act tr es fp) (o : OB h t 12 kT) (hk : hI h t 108 = nI k) (C : Cols h t k q0 act tr) (ro : OB h row 9 kR)
    (hn : ∀ i, i < k → act (q0 + i) → (es (q0 + i)).length ≤ 48 ∧ (plc (hI h (row + 1) i) (hI h (row + 1) 0), row) ∈ es (q0 + i))
    (K : ∀ h' σ' es' fp', PSt h' σ' → Rg h' σ' act tr es' fp' → NQ h h' 0 0 → hN h' = hN h → OB h' t 12 kT → (∀ i, i < k → act (q0 + i) → DelR (plc (hI h (row + 1) i) (hI h (row + 1) 0)) (es (q0 + i)) (es' (q0 + i))) → (∀ q, (q < q0 ∨ q0 + k ≤ q) → es' q = es q) → P (.inl none) (wI h' t 112 (hI h' t 112 - 1))) :
    Ev (11 + d) 65 0 [vR (some t), vR (some row), vU] [] h P := by
  refine w65_0 ?_
  refine m65l k4 k 0 h σ es fp (by omega) S R o hk C ro (fun i _ => hn i) (NQ.refl h) rfl ?_
  intro h' σ' es' fp' S' R' N' n' o' i1 i2
  exact K h' σ' es' fp' S' R' N' n' o' (fun i hi => i1 i (by omega) hi) (fun q hq => i2 q (by omega))
