/-! deps: 25 -/
/-! blocks (printed by gen_blocks.py) -/
theorem w42_0 {d a0 : Nat} {h : AH} {P : PT} (k : P (.inl none) h) : Ev d 42 0 [vR (some a0)] [] h P := by
  refine Ev.step rfl ?_
  refine Ev.step rfl ⟨(Nat.le_of_ble_eq_true rfl), ?_⟩
  refine Ev.step rfl ⟨rfl, k⟩
theorem w43_0 {d a0 : Nat} {h : AH} {P : PT} (Aa0 : OB h a0 6 kE) (k : ((¬ (hI h a0 32) = (hI h a0 28) → P (.inl none) (wI h a0 32 ((hI h a0 32) + 1))) ∧ ((hI h a0 32) = (hI h a0 28) → 1 ≤ hC h ∧ 6 ≤ hS h ∧ P (.inr (hN h)) (al h (51, 0) 6)))) : Ev d 43 0 [vR (some a0)] [] h P := by
  refine Ev.step rfl ?_
  refine Ev.step rfl ⟨(fk Aa0.1 rfl), ?_⟩
  refine Ev.step rfl ?_
  refine Ev.step rfl ⟨(fk Aa0.1 rfl), ?_⟩
  refine Ev.step rfl ⟨fun c => ?_, fun c => ?_⟩
  · replace k := k.1 c
    refine Ev.step rfl ?_
    refine Ev.step rfl (Or.inr ?_)
    refine Ev.step rfl ⟨(fk Aa0.1 rfl), ?_⟩
    refine Ev.step rfl (Ev.step rfl ?_)
    refine Ev.step rfl ⟨(fk Aa0.1 rfl), ?_⟩
    refine Ev.step rfl ⟨rfl, k⟩
  · replace k := k.2 (Decidable.not_not.mp c)
    obtain ⟨q1, k⟩ := k
    obtain ⟨q2, k⟩ := k
    refine Ev.step rfl ⟨q1, q2, (Nat.le_of_ble_eq_true rfl), k⟩
theorem w50_0 {d a0 a1 a2 : Nat} {i3 i4 : Int32} {h : AH} {P : PT} (k : Ev d 133 0 [vR (some a0), vR (some a1)] [] h (CK d 50 P 2 [vR (some a0), vR (some a1), vR (some a2), vI i3, vI i4] [])) : Ev (d + 1) 50 0 [vR (some a0), vR (some a1), vR (some a2), vI i3, vI i4] [] h P := by
  refine Ev.step rfl (Ev.step rfl ?_)
  exact Ev.step rfl ⟨(Nat.le_of_ble_eq_true rfl), trivial, (Nat.le_of_ble_eq_true rfl), rfl, k⟩
theorem w50_5 {d a0 a1 a2 : Nat} {i3 i4 : Int32} {h : AH} {P : PT} (k : 1 ≤ hC h ∧ 8 ≤ hS h ∧ Ev d 50 10 [vR (some a0), vR (some a1), vR (some a2), vI i3, vI i4] [vR (some (hN h)), vR (some a0)] (al h (100, 8) 8) P) : Ev d 50 5 [vR (some a0), vR (some a1), vR (some a2), vI i3, vI i4] [] h P := by
  refine Ev.step rfl (Ev.step rfl ?_)
  obtain ⟨q1, k⟩ := k
  obtain ⟨q2, k⟩ := k
  refine Ev.step rfl ⟨(Int32.not_lt.mpr (by decide)), (by decide), q1, q2, ?_⟩
  exact k
theorem w50_10 {d a0 a1 a2 as0 as1 : Nat} {i3 i4 : Int32} {h : AH} {P : PT} (Aas1 : OB h as1 8 kE) (k : Ev d 50 13 [vR (some a0), vR (some a1), vR (some a2), vI i3, vI i4] [] (wR h as1 170 (some as0)) P) : Ev d 50 10 [vR (some a0), vR (some a1), vR (some a2), vI i3, vI i4] [vR (some as0), vR (some as1)] h P := by
  refine Ev.step rfl ⟨(fk Aas1.1 rfl), ?_⟩
  exact k
theorem w50_13 {d a0 a1 a2 : Nat} {i3 i4 : Int32} {h : AH} {P : PT} (Aa0 : OB h a0 8 kE) (k : ∃ b0, hR (wI h a0 148 i4) a0 170 = some b0 ∧ ¬ a2 = b0 ∧ ¬ (i3 : Int32) < 0 ∧ ¬ (0 : Int32) < 0 ∧ ¬ (i4 : Int32) < 0 ∧ (∃ na nb, hT (wI h a0 148 i4) a2 = some (100, na) ∧ hT (wI h a0 148 i4) b0 = some (100, nb) ∧ i3.toNatClampNeg + i4.toNatClampNeg ≤ na ∧ (0 : Int32).toNatClampNeg + i4.toNatClampNeg ≤ nb) ∧ P (.inl none) (cpI (wI h a0 148 i4) a2 (i3.toNatClampNeg) b0 ((0 : Int32).toNatClampNeg) (i4.toNatClampNeg))) : Ev d 50 13 [vR (some a0), vR (some a1), vR (some a2), vI i3, vI i4] [] h P := by
  refine Ev.step rfl (Ev.step rfl ?_)
  refine Ev.step rfl ⟨(fk Aa0.1 rfl), ?_⟩
  refine Ev.step rfl (Ev.step rfl (Ev.step rfl ?_))
  obtain ⟨b0, hbb0, k⟩ := k
  refine e_gR rfl rfl (fk Aa0.1 rfl) hbb0 ?_
  refine Ev.step rfl (Ev.step rfl ?_)
  obtain ⟨q1, k⟩ := k
  obtain ⟨q2, k⟩ := k
  obtain ⟨q3, k⟩ := k
  obtain ⟨q4, k⟩ := k
  obtain ⟨q5, k⟩ := k
  refine Ev.step rfl ⟨(Nat.le_of_ble_eq_true rfl), q1, q2, q3, q4, q5, ?_⟩
  refine Ev.step rfl ⟨rfl, k⟩
theorem w51_0 {d a0 : Nat} {h : AH} {P : PT} (Aa0 : OB h a0 8 kK) (k : ∃ b0, hR h a0 166 = some b0 ∧ NX d b0 h (CK d 51 P 4 [vR (some a0), vU] [])) : Ev (d + 1) 51 0 [vR (some a0), vU] [] h P := by
  refine Ev.step rfl ?_
  obtain ⟨b0, hbb0, k⟩ := k
  refine e_gR rfl rfl (fk Aa0.1 rfl) hbb0 ?_
  obtain ⟨c, n, M', q1, q2, q3, k⟩ := k
  exact Ev.step rfl ⟨(Nat.le_of_ble_eq_true rfl), c, n, M', q1, q2, (Nat.le_of_ble_eq_true rfl), q3, k⟩
theorem w51_7 {d a0 : Nat} {is0 : Int32} {w1 : AV} {h : AH} {P : PT} (k : ((¬ is0 = 0 → Ev d 51 14 [vR (some a0), vI 0] [] h P) ∧ (is0 = 0 → P (.inl (some (vI 0))) h))) : Ev d 51 7 [vR (some a0), w1] [vI is0] h P := by
  refine Ev.step rfl ⟨fun c => ?_, fun c => ?_⟩
  · replace k := k.1 c
    refine Ev.step rfl (Ev.step rfl ?_)
    exact k
  · replace k := k.2 (Decidable.not_not.mp c)
    refine Ev.step rfl ?_
    refine Ev.step rfl ⟨rfl, (fun _ => Or.inl rfl), k⟩
theorem w51_14 {d a0 : Nat} {i1 : Int32} {h : AH} {P : PT} (Aa0 : OB h a0 8 kK) (k : (((hI h a0 148) ≤ i1 → P (.inl (some (vI 1))) h) ∧ (i1 < (hI h a0 148) → ∃ b0, hR h a0 166 = some b0 ∧ fok h b0 146 ∧ SG h b0 ∧ vp_in i1 8 ∧ vp_in (hI h (a0 + 2) i1.toNatClampNeg) 8 ∧ vp_in i1 8 ∧ Ev d 51 14 [vR (some a0), vI (i1 + 1)] [] (wI h (a0 + 1) i1.toNatClampNeg (hI h (b0 + 1) ((hI h (a0 + 2) i1.toNatClampNeg).toNatClampNeg))) P))) : Ev d 51 14 [vR (some a0), vI i1] [] h P := by
  refine Ev.step rfl (Ev.step rfl ?_)
  refine Ev.step rfl ⟨(fk Aa0.1 rfl), ?_⟩
  refine Ev.step rfl ⟨fun c => ?_, fun c => ?_⟩
  · replace k := k.1 c
    refine Ev.step rfl ?_
    refine Ev.step rfl ⟨rfl, (fun _ => Or.inr rfl), k⟩
  · replace k := k.2 (Int32.not_le.mp c)
    refine Ev.step rfl ?_
    refine e_gR rfl rfl (fk Aa0.1 rfl) Aa0.2.1.1 ?_
    refine Ev.step rfl (Ev.step rfl ?_)
    obtain ⟨b0, hbb0, k⟩ := k
    refine e_gR rfl rfl (fk Aa0.1 rfl) hbb0 ?_
    obtain ⟨q1, k⟩ := k
    obtain ⟨q2, k⟩ := k
    refine e_gR rfl rfl q1 q2.1 ?_
    refine Ev.step rfl ?_
    refine e_gR rfl rfl (fk Aa0.1 rfl) Aa0.2.2.1.1 ?_
    refine Ev.step rfl ?_
    obtain ⟨q3, k⟩ := k
    refine Ev.step rfl ⟨⟨_, Or.inl Aa0.2.2.1.2, q3⟩, ?_⟩
    obtain ⟨q4, k⟩ := k
    refine Ev.step rfl ⟨⟨_, Or.inl q2.2, q4⟩, ?_⟩
    obtain ⟨q5, k⟩ := k
    refine Ev.step rfl ⟨⟨_, Aa0.2.1.2, q5⟩, ?_⟩
    refine Ev.step rfl (Ev.step rfl ?_)
    exact k
theorem w52_0 {d a0 : Nat} {h : AH} {P : PT} (k : 1 ≤ hC h ∧ 4 ≤ hS h ∧ Ev d 52 8 [vR (some a0)] [vR (some (hN h)), vR (some a0)] (al h (100, 4) 4) P) : Ev d 52 0 [vR (some a0)] [] h P := by
  refine Ev.step rfl ?_
  refine Ev.step rfl ⟨(Nat.le_of_ble_eq_true rfl), ?_⟩
  refine Ev.step rfl (Ev.step rfl ?_)
  obtain ⟨q1, k⟩ := k
  obtain ⟨q2, k⟩ := k
  refine Ev.step rfl ⟨(Int32.not_lt.mpr (by decide)), (by decide), q1, q2, ?_⟩
  exact k
theorem w52_8 {d a0 as0 as1 : Nat} {h : AH} {P : PT} (Aas1 : OB h as1 9 kE) (k : Ev d 52 11 [vR (some a0)] [] (wR h as1 134 (some as0)) P) : Ev d 52 8 [vR (some a0)] [vR (some as0), vR (some as1)] h P := by
  refine Ev.step rfl ⟨(fk Aas1.1 rfl), ?_⟩
  exact k
theorem w52_11 {d a0 : Nat} {h : AH} {P : PT} (k : P (.inl none) h) : Ev d 52 11 [vR (some a0)] [] h P := by
  refine Ev.step rfl ⟨rfl, k⟩
theorem w53_0 {d a0 a1 : Nat} {i2 : Int32} {h : AH} {P : PT} (k : Ev d 133 0 [vR (some a0), vR (some a1)] [] h (CK d 53 P 2 [vR (some a0), vR (some a1), vI i2] [])) : Ev (d + 1) 53 0 [vR (some a0), vR (some a1), vI i2] [] h P := by
  refine Ev.step rfl (Ev.step rfl ?_)
  exact Ev.step rfl ⟨(Nat.le_of_ble_eq_true rfl), trivial, (Nat.le_of_ble_eq_true rfl), rfl, k⟩
theorem w53_5 {d a0 a1 : Nat} {i2 : Int32} {h : AH} {P : PT} (Aa0 : OB h a0 10 kE) (k : P (.inl none) (wI h a0 196 i2)) : Ev d 53 5 [vR (some a0), vR (some a1), vI i2] [] h P := by
  refine Ev.step rfl (Ev.step rfl ?_)
  refine Ev.step rfl ⟨(fk Aa0.1 rfl), ?_⟩
  refine Ev.step rfl ⟨rfl, k⟩
theorem w54_0 {d a0 : Nat} {h : AH} {P : PT} (Aa0 : OB h a0 10 kS) (k : (((hI h a0 196) ≤ 0 → ∃ b0, hR h a0 166 = some b0 ∧ NX d b0 h (CK d 54 P 38 [vR (some a0)] [])) ∧ (0 < (hI h a0 196) → ∃ b0, hR (wI h a0 196 ((hI h a0 196) - 1)) a0 166 = some b0 ∧ NX d b0 (wI h a0 196 ((hI h a0 196) - 1)) (CK d 54 P 21 [vR (some a0)] [])))) : Ev (d + 1) 54 0 [vR (some a0)] [] h P := by
  refine Ev.step rfl ?_
  refine Ev.step rfl ⟨(fk Aa0.1 rfl), ?_⟩
  refine Ev.step rfl ⟨fun c => ?_, fun c => ?_⟩
  · replace k := k.1 c
    refine Ev.step rfl ?_
    obtain ⟨b0, hbb0, k⟩ := k
    refine e_gR rfl rfl (fk Aa0.1 rfl) hbb0 ?_
    obtain ⟨c, n, M', q1, q2, q3, k⟩ := k
    exact Ev.step rfl ⟨(Nat.le_of_ble_eq_true rfl), c, n, M', q1, q2, (Nat.le_of_ble_eq_true rfl), q3, k⟩
  · replace k := k.2 (Int32.not_le.mp c)
    refine Ev.step rfl ?_
    refine Ev.step rfl (Or.inr ?_)
    refine Ev.step rfl ⟨(fk Aa0.1 rfl), ?_⟩
    refine Ev.step rfl (Ev.step rfl ?_)
    refine Ev.step rfl ⟨(fk Aa0.1 rfl), ?_⟩
    refine Ev.step rfl ?_
    obtain ⟨b0, hbb0, k⟩ := k
    refine e_gR rfl rfl (fk Aa0.1 rfl) hbb0 ?_
    obtain ⟨c, n, M', q1, q2, q3, k⟩ := k
    exact Ev.step rfl ⟨(Nat.le_of_ble_eq_true rfl), c, n, M', q1, q2, (Nat.le_of_ble_eq_true rfl), q3, k⟩
theorem w54_24 {d a0 : Nat} {is0 : Int32} {h : AH} {P : PT} (Aa0 : OB h a0 10 kS) (k : ((¬ is0 = 0 → Ev d 54 0 [vR (some a0)] [] h P) ∧ (is0 = 0 → P (.inl (some (vI 0))) (wI h a0 196 0)))) : Ev d 54 24 [vR (some a0)] [vI is0] h P := by
  refine Ev.step rfl ⟨fun c => ?_, fun c => ?_⟩
  · replace k := k.1 c
    exact k
  · replace k := k.2 (Decidable.not_not.mp c)
    refine Ev.step rfl (Ev.step rfl ?_)
    refine Ev.step rfl ⟨(fk Aa0.1 rfl), ?_⟩
    refine Ev.step rfl ?_
    refine Ev.step rfl ⟨rfl, (fun _ => Or.inl rfl), k⟩
theorem w54_41 {d a0 : Nat} {is0 : Int32} {h : AH} {P : PT} (Aa0 : OB h a0 10 kS) (k : ((¬ is0 = 0 → Ev d 134 0 [vR (some a0)] [] h (CK d 54 P 47 [vR (some a0)] [])) ∧ (is0 = 0 → P (.inl (some (vI 0))) h))) : Ev (d + 1) 54 41 [vR (some a0)] [vI is0] h P := by
  refine Ev.step rfl ⟨fun c => ?_, fun c => ?_⟩
  · replace k := k.1 c
    refine Ev.step rfl ?_
    exact Ev.step rfl ⟨(Nat.le_of_ble_eq_true rfl), _, _, _, Aa0.1, rfl, (Nat.le_of_ble_eq_true rfl), rfl, k⟩
  · replace k := k.2 (Decidable.not_not.mp c)
    refine Ev.step rfl ?_
    refine Ev.step rfl ⟨rfl, (fun _ => Or.inl rfl), k⟩
theorem w54_50 {d a0 : Nat} {h : AH} {P : PT} (k : P (.inl (some (vI 1))) h) : Ev d 54 50 [vR (some a0)] [] h P := by
  refine Ev.step rfl ?_
  refine Ev.step rfl ⟨rfl, (fun _ => Or.inr rfl), k⟩
theorem w55_0 {d a0 a1 a2 : Nat} {i3 i4 i5 : Int32} {h : AH} {P : PT} (k : Ev d 131 0 [vR (some a0)] [] h (CK d 55 P 1 [vR (some a0), vR (some a1), vR (some a2), vI i3, vI i4, vI i5] [])) : Ev (d + 1) 55 0 [vR (some a0), vR (some a1), vR (some a2), vI i3, vI i4, vI i5] [] h P := by
  refine Ev.step rfl ?_
  exact Ev.step rfl ⟨(Nat.le_of_ble_eq_true rfl), trivial, (Nat.le_of_ble_eq_true rfl), rfl, k⟩
theorem w55_4 {d a0 a1 a2 : Nat} {i3 i4 i5 : Int32} {h : AH} {P : PT} (k : 1 ≤ hC h ∧ 3 ≤ hS h ∧ Ev d 55 8 [vR (some a0), vR (some a1), vR (some a2), vI i3, vI i4, vI i5] [vR (some (hN h)), vR (some a0)] (al h (15, 0) 3) P) : Ev d 55 4 [vR (some a0), vR (some a1), vR (some a2), vI i3, vI i4, vI i5] [] h P := by
  refine Ev.step rfl ?_
  obtain ⟨q1, k⟩ := k
  obtain ⟨q2, k⟩ := k
  refine Ev.step rfl ⟨q1, q2, ?_⟩
  exact k
theorem w55_8 {d a0 a1 a2 as0 as1 : Nat} {i3 i4 i5 : Int32} {h : AH} {P : PT} (k : Ev d 81 0 [vR (some as0)] [] h (CK d 55 P 9 [vR (some a0), vR (some a1), vR (some a2), vI i3, vI i4, vI i5] [vR (some as0), vR (some as1)])) : Ev (d + 1) 55 8 [vR (some a0), vR (some a1), vR (some a2), vI i3, vI i4, vI i5] [vR (some as0), vR (some as1)] h P := by
  refine Ev.step rfl (Or.inr ?_)
  exact Ev.step rfl ⟨(Nat.le_of_ble_eq_true rfl), trivial, (Nat.le_of_ble_eq_true rfl), rfl, k⟩
theorem w55_12 {d a0 a1 a2 as0 as1 : Nat} {i3 i4 i5 : Int32} {h : AH} {P : PT} (Aas1 : OB h as1 11 kE) (k : Ev d 55 15 [vR (some a0), vR (some a1), vR (some a2), vI i3, vI i4, vI i5] [] (wR h as1 138 (some as0)) P) : Ev d 55 12 [vR (some a0), vR (some a1), vR (some a2), vI i3, vI i4, vI i5] [vR (some as0), vR (some as1)] h P := by
  refine Ev.step rfl ⟨(fk Aas1.1 rfl), ?_⟩
  exact k
theorem w55_15 {d a0 a1 a2 : Nat} {i3 i4 i5 : Int32} {h : AH} {P : PT} (Aa0 : OB h a0 11 kE) (k : Ev d 55 20 [vR (some a0), vR (some a1), vR (some a2), vI i3, vI i4, vI i5] [] (wR h a0 142 (some a1)) P) : Ev d 55 15 [vR (some a0), vR (some a1), vR (some a2), vI i3, vI i4, vI i5] [] h P := by
  refine Ev.step rfl (Ev.step rfl ?_)
  refine Ev.step rfl ⟨(fk Aa0.1 rfl), ?_⟩
  exact k
theorem w55_20 {d a0 a1 a2 : Nat} {i3 i4 i5 : Int32} {h : AH} {P : PT} (Aa2 : OB h a2 12 kT) (Aa0 : OB h a0 11 kE) (k : ∃ b0, hR (wI h a0 148 (hI h a2 108)) a0 138 = some b0 ∧ Ev d 66 0 [vR (some a2), vR (some b0), vI i3, vI i4, vI i5] [] (wI h a0 148 (hI h a2 108)) (CK d 55 P 38 [vR (some a0), vR (some a1), vR (some a2), vI i3, vI i4, vI i5] [])) : Ev (d + 1) 55 20 [vR (some a0), vR (some a1), vR (some a2), vI i3, vI i4, vI i5] [] h P := by
  refine Ev.step rfl (Ev.step rfl ?_)
  refine Ev.step rfl ⟨(fk Aa2.1 rfl), ?_⟩
  refine Ev.step rfl ⟨(fk Aa0.1 rfl), ?_⟩
  refine Ev.step rfl (Ev.step rfl ?_)
  obtain ⟨b0, hbb0, k⟩ := k
  refine e_gR rfl rfl (fk Aa0.1 rfl) hbb0 ?_
  refine Ev.step rfl (Ev.step rfl (Ev.step rfl ?_))
  exact Ev.step rfl ⟨(Nat.le_of_ble_eq_true rfl), _, _, _, Aa2.1, rfl, (Nat.le_of_ble_eq_true rfl), rfl, k⟩
theorem w55_41 {d a0 a1 a2 : Nat} {i3 i4 i5 : Int32} {h : AH} {P : PT} (k : P (.inl none) h) : Ev d 55 41 [vR (some a0), vR (some a1), vR (some a2), vI i3, vI i4, vI i5] [] h P := by
  refine Ev.step rfl ⟨rfl, k⟩
theorem w56_0 {d a0 : Nat} {h : AH} {P : PT} (Aa0 : OB h a0 11 kU) (k : Ev d 83 0 [vR (some (a0 + 2))] [] h (CK d 56 P 4 [vR (some a0), vU] [])) : Ev (d + 1) 56 0 [vR (some a0), vU] [] h P := by
  refine Ev.step rfl ?_
  refine e_gR rfl rfl (fk Aa0.1 rfl) Aa0.2.2.1.1 ?_
  exact Ev.step rfl ⟨(Nat.le_of_ble_eq_true rfl), _, _, _, (⟨Aa0.2.2.1.2, trivial⟩ : OB h (a0 + 2) 15 kE).1, rfl, (Nat.le_of_ble_eq_true rfl), rfl, k⟩
theorem w56_7 {d a0 : Nat} {rs0 : Option Nat} {w1 : AV} {h : AH} {P : PT} (Aa0 : OB h a0 11 kU) (k : ((rs0 = none → P (.inl (some (vI 0))) h) ∧ (¬ rs0 = none → ∃ b0, hR h a0 142 = some b0 ∧ OB h b0 6 kE ∧ Ev d 43 0 [vR (some b0)] [] h (CK d 56 P 18 [vR (some a0), vR rs0] [])))) : Ev (d + 1) 56 7 [vR (some a0), w1] [vR rs0] h P := by
  refine Ev.step rfl (Ev.step rfl ?_)
  refine Ev.step rfl ⟨fun c => ?_, fun c => ?_⟩
  · replace k := k.1 c
    refine Ev.step rfl ?_
    refine Ev.step rfl ⟨rfl, (fun _ => Or.inl rfl), k⟩
  · replace k := k.2 c
    refine Ev.step rfl ?_
    obtain ⟨b0, hbb0, k⟩ := k
    refine e_gR rfl rfl (fk Aa0.1 rfl) hbb0 ?_
    obtain ⟨q1, k⟩ := k
    exact Ev.step rfl ⟨(Nat.le_of_ble_eq_true rfl), _, _, _, q1.1, rfl, (Nat.le_of_ble_eq_true rfl), rfl, k⟩
theorem w56_21 {d a0 : Nat} {r1 : Option Nat} {h : AH} {P : PT} (Aa0 : OB h a0 11 kU) (k : ∃ b0, r1 = some b0 ∧ OB h b0 9 kR ∧ Ev d 132 0 [vR (some a0), vR (some (b0 + 1)), vI (hI h a0 148), vI 0] [] h (CK d 56 P 31 [vR (some a0), vR r1] [])) : Ev (d + 1) 56 21 [vR (some a0), vR r1] [] h P := by
  refine Ev.step rfl (Ev.step rfl ?_)
  obtain ⟨b0, hbb0, k⟩ := k
  refine e_nn hbb0 ?_
  obtain ⟨q1, k⟩ := k
  refine e_gR rfl rfl (fk q1.1 rfl) q1.2.1.1 ?_
  refine Ev.step rfl ?_
  refine Ev.step rfl ⟨(fk Aa0.1 rfl), ?_⟩
  refine Ev.step rfl ?_
  exact Ev.step rfl ⟨(Nat.le_of_ble_eq_true rfl), _, _, _, Aa0.1, rfl, (Nat.le_of_ble_eq_true rfl), rfl, k⟩
theorem w56_34 {d a0 : Nat} {r1 : Option Nat} {h : AH} {P : PT} (k : P (.inl (some (vI 1))) h) : Ev d 56 34 [vR (some a0), vR r1] [] h P := by
  refine Ev.step rfl ?_
  refine Ev.step rfl ⟨rfl, (fun _ => Or.inr rfl), k⟩
theorem w67_0 {d a0 a1 : Nat} {i2 : Int32} {h : AH} {P : PT} (k : Ev d 133 0 [vR (some a0), vR (some a1)] [] h (CK d 67 P 2 [vR (some a0), vR (some a1), vI i2] [])) : Ev (d + 1) 67 0 [vR (some a0), vR (some a1), vI i2] [] h P := by
  refine Ev.step rfl (Ev.step rfl ?_)
  exact Ev.step rfl ⟨(Nat.le_of_ble_eq_true rfl), trivial, (Nat.le_of_ble_eq_true rfl), rfl, k⟩
theorem w67_5 {d a0 a1 : Nat} {i2 : Int32} {h : AH} {P : PT} (Aa0 : OB h a0 13 kE) (k : P (.inl none) (wI (wI h a0 204 i2) a0 148 1)) : Ev d 67 5 [vR (some a0), vR (some a1), vI i2] [] h P := by
  refine Ev.step rfl (Ev.step rfl ?_)
  refine Ev.step rfl ⟨(fk Aa0.1 rfl), ?_⟩
  refine Ev.step rfl (Ev.step rfl ?_)
  refine Ev.step rfl ⟨(fk Aa0.1 rfl), ?_⟩
  refine Ev.step rfl ⟨rfl, k⟩
theorem w68_0 {d a0 : Nat} {h : AH} {P : PT} (Aa0 : OB h a0 13 kS) (k : (((hI h a0 211) = 0 → Ev d 68 11 [vR (some a0), vI 0] [] h P) ∧ (¬ (hI h a0 211) = 0 → P (.inl (some (vI 0))) h))) : Ev d 68 0 [vR (some a0), vU] [] h P := by
  refine Ev.step rfl ?_
  refine Ev.step rfl ⟨(fk Aa0.1 rfl), ?_⟩
  refine Ev.step rfl ⟨fun c => ?_, fun c => ?_⟩
  · replace k := k.1 c
    refine Ev.step rfl (Ev.step rfl ?_)
    exact k
  · replace k := k.2 c
    refine Ev.step rfl ?_
    refine Ev.step rfl ⟨rfl, (fun _ => Or.inl rfl), k⟩
theorem w68_11 {d a0 : Nat} {i1 : Int32} {h : AH} {P : PT} (Aa0 : OB h a0 13 kS) (k : ∃ b0, hR h a0 166 = some b0 ∧ NX d b0 h (CK d 68 P 15 [vR (some a0), vI i1] [])) : Ev (d + 1) 68 11 [vR (some a0), vI i1] [] h P := by
  refine Ev.step rfl ?_
  obtain ⟨b0, hbb0, k⟩ := k
  refine e_gR rfl rfl (fk Aa0.1 rfl) hbb0 ?_
  obtain ⟨c, n, M', q1, q2, q3, k⟩ := k
  exact Ev.step rfl ⟨(Nat.le_of_ble_eq_true rfl), c, n, M', q1, q2, (Nat.le_of_ble_eq_true rfl), q3, k⟩
theorem w68_18 {d a0 : Nat} {i1 is0 : Int32} {h : AH} {P : PT} (Aa0 : OB h a0 13 kS) (k : ((is0 = 0 → vp_in 0 8 ∧ P (.inl (some (vI 1))) (wI (wI h (a0 + 1) ((0 : Int32).toNatClampNeg) i1) a0 211 1)) ∧ (¬ is0 = 0 → ((0 ≤ (hI h a0 204) → ∃ b0, hR h a0 166 = some b0 ∧ fok h b0 146 ∧ SG h b0 ∧ vp_in (hI h a0 204) 8 ∧ Ev d 68 11 [vR (some a0), vI (i1 + (hI h (b0 + 1) ((hI h a0 204).toNatClampNeg)))] [] h P) ∧ ((hI h a0 204) < 0 → Ev d 68 11 [vR (some a0), vI (i1 + 1)] [] h P))))) : Ev d 68 18 [vR (some a0), vI i1] [vI is0] h P := by
  refine Ev.step rfl ⟨fun c => ?_, fun c => ?_⟩
  · replace k := k.1 c
    refine Ev.step rfl ?_
    refine e_gR rfl rfl (fk Aa0.1 rfl) Aa0.2.1.1 ?_
    refine Ev.step rfl (Ev.step rfl ?_)
    obtain ⟨q1, k⟩ := k
    refine Ev.step rfl ⟨⟨_, Aa0.2.1.2, q1⟩, ?_⟩
    refine Ev.step rfl (Ev.step rfl ?_)
    refine Ev.step rfl ⟨(Or.inr rfl), (fk Aa0.1 rfl), ?_⟩
    refine Ev.step rfl ?_
    refine Ev.step rfl ⟨rfl, (fun _ => Or.inr rfl), k⟩
  · replace k := k.2 c
    refine Ev.step rfl (Ev.step rfl ?_)
    refine Ev.step rfl ⟨(fk Aa0.1 rfl), ?_⟩
    refine Ev.step rfl ⟨fun c => ?_, fun c => ?_⟩
    · replace k := k.1 c
      refine Ev.step rfl ?_
      obtain ⟨b0, hbb0, k⟩ := k
      refine e_gR rfl rfl (fk Aa0.1 rfl) hbb0 ?_
      obtain ⟨q2, k⟩ := k
      obtain ⟨q3, k⟩ := k
      refine e_gR rfl rfl q2 q3.1 ?_
      refine Ev.step rfl ?_
      refine Ev.step rfl ⟨(fk Aa0.1 rfl), ?_⟩
      obtain ⟨q4, k⟩ := k
      refine Ev.step rfl ⟨⟨_, Or.inl q3.2, q4⟩, ?_⟩
      refine Ev.step rfl (Ev.step rfl (Ev.step rfl ?_))
      exact k
    · replace k := k.2 (Int32.not_le.mp c)
      refine Ev.step rfl (Ev.step rfl (Ev.step rfl (Ev.step rfl (Ev.step rfl ?_))))
      exact k
theorem w131_0 {d a0 : Nat} {h : AH} {P : PT} (k : 1 ≤ hC h ∧ 8 ≤ hS h ∧ Ev d 131 9 [vR (some a0)] [vR (some (hN h)), vR (some a0)] (al h (100, 8) 8) P) : Ev d 131 0 [vR (some a0)] [] h P := by
  refine Ev.step rfl ?_
  refine Ev.step rfl ⟨(Nat.le_of_ble_eq_true rfl), ?_⟩
  refine Ev.step rfl (Ev.step rfl ?_)
  obtain ⟨q1, k⟩ := k
  obtain ⟨q2, k⟩ := k
  refine Ev.step rfl ⟨(Int32.not_lt.mpr (by decide)), (by decide), q1, q2, ?_⟩
  exact k
theorem w131_9 {d a0 as0 as1 : Nat} {h : AH} {P : PT} (k : fok h as1 146 ∧ Ev d 131 12 [vR (some a0)] [] (wR h as1 146 (some as0)) P) : Ev d 131 9 [vR (some a0)] [vR (some as0), vR (some as1)] h P := by
  obtain ⟨q1, k⟩ := k
  refine Ev.step rfl ⟨q1, ?_⟩
  exact k
theorem w131_12 {d a0 : Nat} {h : AH} {P : PT} (k : P (.inl none) h) : Ev d 131 12 [vR (some a0)] [] h P := by
  refine Ev.step rfl ⟨rfl, k⟩
theorem w132_0 {d a0 a1 : Nat} {i2 i3 : Int32} {h : AH} {P : PT} (k : fok h a0 146 ∧ SG h a0 ∧ ¬ a1 = (a0 + 1) ∧ ¬ (0 : Int32) < 0 ∧ ¬ (i3 : Int32) < 0 ∧ ¬ (i2 : Int32) < 0 ∧ (∃ na nb, hT h a1 = some (100, na) ∧ hT h (a0 + 1) = some (100, nb) ∧ (0 : Int32).toNatClampNeg + i2.toNatClampNeg ≤ na ∧ i3.toNatClampNeg + i2.toNatClampNeg ≤ nb) ∧ P (.inl none) (cpI h a1 ((0 : Int32).toNatClampNeg) (a0 + 1) (i3.toNatClampNeg) (i2.toNatClampNeg))) : Ev d 132 0 [vR (some a0), vR (some a1), vI i2, vI i3] [] h P := by
  refine Ev.step rfl (Ev.step rfl (Ev.step rfl ?_))
  obtain ⟨q1, k⟩ := k
  obtain ⟨q2, k⟩ := k
  refine e_gR rfl rfl q1 q2.1 ?_
  refine Ev.step rfl (Ev.step rfl ?_)
  obtain ⟨q3, k⟩ := k
  obtain ⟨q4, k⟩ := k
  obtain ⟨q5, k⟩ := k
  obtain ⟨q6, k⟩ := k
  obtain ⟨q7, k⟩ := k
  refine Ev.step rfl ⟨(Nat.le_of_ble_eq_true rfl), q3, q4, q5, q6, q7, ?_⟩
  refine Ev.step rfl ⟨rfl, k⟩
theorem w133_0 {d a0 a1 : Nat} {h : AH} {P : PT} (k : Ev d 131 0 [vR (some a0)] [] h (CK d 133 P 1 [vR (some a0), vR (some a1)] [])) : Ev (d + 1) 133 0 [vR (some a0), vR (some a1)] [] h P := by
  refine Ev.step rfl ?_
  exact Ev.step rfl ⟨(Nat.le_of_ble_eq_true rfl), trivial, (Nat.le_of_ble_eq_true rfl), rfl, k⟩
theorem w133_4 {d a0 a1 : Nat} {h : AH} {P : PT} (k : fok h a0 166 ∧ Ev d 133 9 [vR (some a0), vR (some a1)] [] (wR h a0 166 (some a1)) P) : Ev d 133 4 [vR (some a0), vR (some a1)] [] h P := by
  refine Ev.step rfl (Ev.step rfl ?_)
  obtain ⟨q1, k⟩ := k
  refine Ev.step rfl ⟨q1, ?_⟩
  exact k
theorem w133_9 {d a0 a1 : Nat} {h : AH} {P : PT} (k : fok h a1 148 ∧ fok h a0 148 ∧ P (.inl none) (wI h a0 148 (hI h a1 148))) : Ev d 133 9 [vR (some a0), vR (some a1)] [] h P := by
  refine Ev.step rfl (Ev.step rfl ?_)
  obtain ⟨q1, k⟩ := k
  refine Ev.step rfl ⟨q1, ?_⟩
  obtain ⟨q2, k⟩ := k
  refine Ev.step rfl ⟨q2, ?_⟩
  refine Ev.step rfl ⟨rfl, k⟩
theorem w134_0 {d a0 : Nat} {h : AH} {P : PT} (k : fok h a0 166 ∧ ∃ b0, hR h a0 166 = some b0 ∧ fok h b0 146 ∧ SG h b0 ∧ ∃ b1, hR h a0 166 = some b1 ∧ fok h b1 148 ∧ (∃ c n, hT h a0 = some (c, n) ∧ dsp [2, 132, 3, 132, 4, 132, 5, 132, 8, 132, 10, 132, 13, 132] c = some 132) ∧ Ev d 132 0 [vR (some a0), vR (some (b0 + 1)), vI (hI h b1 148), vI 0] [] h (CK d 134 P 16 [vR (some a0)] [])) : Ev (d + 1) 134 0 [vR (some a0)] [] h P := by
  refine Ev.step rfl (Ev.step rfl ?_)
  obtain ⟨q1, k⟩ := k
  obtain ⟨b0, hbb0, k⟩ := k
  refine e_gR rfl rfl q1 hbb0 ?_
  obtain ⟨q2, k⟩ := k
  obtain ⟨q3, k⟩ := k
  refine e_gR rfl rfl q2 q3.1 ?_
  refine Ev.step rfl ?_
  obtain ⟨b1, hbb1, k⟩ := k
  refine e_gR rfl rfl q1 hbb1 ?_
  obtain ⟨q4, k⟩ := k
  refine Ev.step rfl ⟨q4, ?_⟩
  refine Ev.step rfl ?_
  obtain ⟨q5, k⟩ := k
  obtain ⟨c, n, e1, e2⟩ := q5
  exact Ev.step rfl ⟨(Nat.le_of_ble_eq_true rfl), c, n, 132, e1, e2, (Nat.le_of_ble_eq_true rfl), rfl, k⟩
theorem w134_19 {d a0 : Nat} {h : AH} {P : PT} (k : P (.inl none) h) : Ev d 134 19 [vR (some a0)] [] h P := by
  refine Ev.step rfl ⟨rfl, k⟩
