/-! deps: 25 -/
/-! blocks (printed by gen_blocks.py) -/
theorem w69_0 {d a0 : Nat} {h : AH} {P : PT} (k : 1 ≤ hC h ∧ 6 ≤ hS h ∧ Ev d 69 8 [vR (some a0)] [vR (some (hN h)), vR (some a0)] (al h (7, 0) 6) P) : Ev d 69 0 [vR (some a0)] [] h P := by
  refine Ev.step rfl ?_
  refine Ev.step rfl ⟨(Nat.le_of_ble_eq_true rfl), ?_⟩
  refine Ev.step rfl ?_
  obtain ⟨q1, k⟩ := k
  obtain ⟨q2, k⟩ := k
  refine Ev.step rfl ⟨q1, q2, ?_⟩
  exact k
theorem w69_8 {d a0 as0 as1 : Nat} {h : AH} {P : PT} (k : Ev d 44 0 [vR (some as0), vI 1] [] h (CK d 69 P 10 [vR (some a0)] [vR (some as0), vR (some as1)])) : Ev (d + 1) 69 8 [vR (some a0)] [vR (some as0), vR (some as1)] h P := by
  refine Ev.step rfl (Or.inr ?_)
  refine Ev.step rfl ?_
  exact Ev.step rfl ⟨(Nat.le_of_ble_eq_true rfl), trivial, (Nat.le_of_ble_eq_true rfl), rfl, k⟩
theorem w69_13 {d a0 as0 as1 : Nat} {h : AH} {P : PT} (Aas1 : OB h as1 14 kE) (k : Ev d 69 16 [vR (some a0)] [] (wR h as1 106 (some as0)) P) : Ev d 69 13 [vR (some a0)] [vR (some as0), vR (some as1)] h P := by
  refine Ev.step rfl ⟨(fk Aas1.1 rfl), ?_⟩
  exact k
theorem w69_16 {d a0 : Nat} {h : AH} {P : PT} (k : P (.inl none) h) : Ev d 69 16 [vR (some a0)] [] h P := by
  refine Ev.step rfl ⟨rfl, k⟩
theorem w70_0 {d a0 : Nat} {l1 : Int64} {h : AH} {P : PT} (Aa0 : OB h a0 14 kE) (k : ∃ b0, hR h a0 106 = some b0 ∧ Ev d 70 5 [vR (some a0), vL l1, vU, vR (some b0)] [] h P) : Ev d 70 0 [vR (some a0), vL l1, vU, vU] [] h P := by
  refine Ev.step rfl ?_
  obtain ⟨b0, hbb0, k⟩ := k
  refine e_gR rfl rfl (fk Aa0.1 rfl) hbb0 ?_
  refine Ev.step rfl ?_
  exact k
theorem w70_5 {d a0 a3 : Nat} {l1 : Int64} {h : AH} {P : PT} (Aa3 : OB h a3 7 kP) (k : ((¬ (hI h a3 83) = 0 → P (.inl (some (vR (some a3)))) h) ∧ ((hI h a3 83) = 0 → Ev d 45 0 [vR (some a3), vL l1, vU, vU] [] h (CK d 70 P 18 [vR (some a0), vL l1, vU, vR (some a3)] [vR (some (a3 + 3))])))) : Ev (d + 1) 70 5 [vR (some a0), vL l1, vU, vR (some a3)] [] h P := by
  refine Ev.step rfl ?_
  refine Ev.step rfl ⟨(fk Aa3.1 rfl), ?_⟩
  refine Ev.step rfl ⟨fun c => ?_, fun c => ?_⟩
  · replace k := k.1 c
    refine Ev.step rfl ?_
    refine Ev.step rfl ⟨rfl, k⟩
  · replace k := k.2 (Decidable.not_not.mp c)
    refine Ev.step rfl ?_
    refine e_gR rfl rfl (fk Aa3.1 rfl) Aa3.2.2.2.1.1 ?_
    refine Ev.step rfl (Ev.step rfl ?_)
    exact Ev.step rfl ⟨(Nat.le_of_ble_eq_true rfl), _, _, _, Aa3.1, rfl, (Nat.le_of_ble_eq_true rfl), rfl, k⟩
theorem w70_21 {d a0 a3 as1 : Nat} {is0 : Int32} {l1 : Int64} {h : AH} {P : PT} (k : ∃ n_as1, hT h as1 = some (104, n_as1) ∧ vp_in is0 n_as1 ∧ ∃ b0, hR h as1 is0.toNatClampNeg = some b0 ∧ Ev d 70 5 [vR (some a0), vL l1, vU, vR (some b0)] [] h P) : Ev d 70 21 [vR (some a0), vL l1, vU, vR (some a3)] [vI is0, vR (some as1)] h P := by
  obtain ⟨n_as1, t1, k⟩ := k
  obtain ⟨q2, k⟩ := k
  refine Ev.step rfl ⟨⟨4, _, by decide, by decide, t1, q2⟩, ?_⟩
  obtain ⟨b0, hbb0, k⟩ := k
  rw [hbb0]
  refine Ev.step rfl (Ev.step rfl ?_)
  exact k
theorem w71_0 {d a0 a3 : Nat} {l1 : Int64} {h : AH} {P : PT} (Aa0 : OB h a0 14 kE) (k : ∃ b0, hR h a0 106 = some b0 ∧ Ev d 72 0 [vR (some b0), vL l1, vU, vR (some a3), vU] [] h (CK d 71 P 6 [vR (some a0), vL l1, vU, vR (some a3), vU] [])) : Ev (d + 1) 71 0 [vR (some a0), vL l1, vU, vR (some a3), vU] [] h P := by
  refine Ev.step rfl ?_
  obtain ⟨b0, hbb0, k⟩ := k
  refine e_gR rfl rfl (fk Aa0.1 rfl) hbb0 ?_
  refine Ev.step rfl (Ev.step rfl ?_)
  exact Ev.step rfl ⟨(Nat.le_of_ble_eq_true rfl), (Nat.le_of_ble_eq_true rfl), rfl, k⟩
theorem w71_9 {d a0 a3 : Nat} {l1 : Int64} {w4 : AV} {h : AH} {P : PT} (Aa0 : OB h a0 14 kE) (k : ∃ b0, hR h a0 106 = some b0 ∧ OB h b0 7 kP ∧ (((hI h b0 96) ≤ 4 → Ev d 71 53 [vR (some a0), vL l1, vU, vR (some a3), w4] [] h P) ∧ (4 < (hI h b0 96) → 1 ≤ hC h ∧ 6 ≤ hS h ∧ Ev d 71 23 [vR (some a0), vL l1, vU, vR (some a3), w4] [vR (some (hN h))] (al h (7, 0) 6) P))) : Ev d 71 9 [vR (some a0), vL l1, vU, vR (some a3), w4] [] h P := by
  refine Ev.step rfl ?_
  obtain ⟨b0, hbb0, k⟩ := k
  refine e_gR rfl rfl (fk Aa0.1 rfl) hbb0 ?_
  obtain ⟨q1, k⟩ := k
  refine Ev.step rfl ⟨(fk q1.1 rfl), ?_⟩
  refine Ev.step rfl ?_
  refine Ev.step rfl ⟨fun c => ?_, fun c => ?_⟩
  · replace k := k.1 c
    exact k
  · replace k := k.2 (Int32.not_le.mp c)
    obtain ⟨q2, k⟩ := k
    obtain ⟨q3, k⟩ := k
    refine Ev.step rfl ⟨q2, q3, ?_⟩
    exact k
theorem w71_23 {d a0 a3 as0 : Nat} {l1 : Int64} {w4 : AV} {h : AH} {P : PT} (k : Ev d 44 0 [vR (some as0), vI 0] [] h (CK d 71 P 25 [vR (some a0), vL l1, vU, vR (some a3), w4] [vR (some as0)])) : Ev (d + 1) 71 23 [vR (some a0), vL l1, vU, vR (some a3), w4] [vR (some as0)] h P := by
  refine Ev.step rfl (Or.inr ?_)
  refine Ev.step rfl ?_
  exact Ev.step rfl ⟨(Nat.le_of_ble_eq_true rfl), trivial, (Nat.le_of_ble_eq_true rfl), rfl, k⟩
theorem w71_28 {d a0 a3 as0 : Nat} {l1 : Int64} {w4 : AV} {h : AH} {P : PT} (Aas0 : OB h as0 7 kP) (Aa0 : OB h a0 14 kE) (k : ∃ b0, hR h a0 106 = some b0 ∧ vp_in 0 6 ∧ RT h (some b0) 7 ∧ Ev d 71 41 [vR (some a0), vL l1, vU, vR (some a3), vR (some as0)] [] (wR h (as0 + 3) ((0 : Int32).toNatClampNeg) (some b0)) P) : Ev d 71 28 [vR (some a0), vL l1, vU, vR (some a3), w4] [vR (some as0)] h P := by
  refine Ev.step rfl (Ev.step rfl ?_)
  refine e_gR rfl rfl (fk Aas0.1 rfl) Aas0.2.2.2.1.1 ?_
  refine Ev.step rfl (Ev.step rfl ?_)
  obtain ⟨b0, hbb0, k⟩ := k
  refine e_gR rfl rfl (fk Aa0.1 rfl) hbb0 ?_
  obtain ⟨q1, k⟩ := k
  obtain ⟨q2, k⟩ := k
  refine Ev.step rfl ⟨⟨4, _, by decide, by decide, Aas0.2.2.2.1.2, q1, q2⟩, ?_⟩
  exact k
theorem w71_41 {d a0 a3 a4 : Nat} {l1 : Int64} {h : AH} {P : PT} (k : Ev d 73 0 [vR (some a4), vI 0, vU, vU, vU, vU, vU, vU] [] h (CK d 71 P 44 [vR (some a0), vL l1, vU, vR (some a3), vR (some a4)] [])) : Ev (d + 1) 71 41 [vR (some a0), vL l1, vU, vR (some a3), vR (some a4)] [] h P := by
  refine Ev.step rfl (Ev.step rfl ?_)
  exact Ev.step rfl ⟨(Nat.le_of_ble_eq_true rfl), (Nat.le_of_ble_eq_true rfl), rfl, k⟩
theorem w71_47 {d a0 a3 a4 : Nat} {l1 : Int64} {h : AH} {P : PT} (Aa0 : OB h a0 14 kE) (k : Ev d 71 53 [vR (some a0), vL l1, vU, vR (some a3), vR (some a4)] [] (wR h a0 106 (some a4)) P) : Ev d 71 47 [vR (some a0), vL l1, vU, vR (some a3), vR (some a4)] [] h P := by
  refine Ev.step rfl (Ev.step rfl ?_)
  refine Ev.step rfl ⟨(fk Aa0.1 rfl), ?_⟩
  exact k
theorem w71_53 {d a0 a3 : Nat} {l1 : Int64} {w4 : AV} {h : AH} {P : PT} (k : P (.inl none) h) : Ev d 71 53 [vR (some a0), vL l1, vU, vR (some a3), w4] [] h P := by
  refine Ev.step rfl ⟨rfl, k⟩
theorem w72_0 {d a0 a3 : Nat} {l1 : Int64} {h : AH} {P : PT} (Aa0 : OB h a0 7 kP) (k : (((hI h a0 83) = 0 → Ev d 45 0 [vR (some a0), vL l1, vU, vU] [] h (CK d 72 P 22 [vR (some a0), vL l1, vU, vR (some a3), vU] [])) ∧ (¬ (hI h a0 83) = 0 → Ev d 46 0 [vR (some a0), vL l1, vU, vU] [] h (CK d 72 P 10 [vR (some a0), vL l1, vU, vR (some a3), vU] [vR (some a0)])))) : Ev (d + 1) 72 0 [vR (some a0), vL l1, vU, vR (some a3), vU] [] h P := by
  refine Ev.step rfl ?_
  refine Ev.step rfl ⟨(fk Aa0.1 rfl), ?_⟩
  refine Ev.step rfl ⟨fun c => ?_, fun c => ?_⟩
  · replace k := k.1 c
    refine Ev.step rfl (Ev.step rfl ?_)
    exact Ev.step rfl ⟨(Nat.le_of_ble_eq_true rfl), _, _, _, Aa0.1, rfl, (Nat.le_of_ble_eq_true rfl), rfl, k⟩
  · replace k := k.2 c
    refine Ev.step rfl (Ev.step rfl (Ev.step rfl ?_))
    exact Ev.step rfl ⟨(Nat.le_of_ble_eq_true rfl), _, _, _, Aa0.1, rfl, (Nat.le_of_ble_eq_true rfl), rfl, k⟩
theorem w72_13 {d a0 a3 as1 : Nat} {is0 : Int32} {l1 : Int64} {w4 : AV} {h : AH} {P : PT} (Aas1 : OB h as1 7 kP) (k : Ev d 47 0 [vR (some as1), vI is0, vL l1, vU, vR (some a3), vR none, vU] [] h (CK d 72 P 16 [vR (some a0), vL l1, vU, vR (some a3), w4] [])) : Ev (d + 1) 72 13 [vR (some a0), vL l1, vU, vR (some a3), w4] [vI is0, vR (some as1)] h P := by
  refine Ev.step rfl (Ev.step rfl (Ev.step rfl ?_))
  exact Ev.step rfl ⟨(Nat.le_of_ble_eq_true rfl), _, _, _, Aas1.1, rfl, (Nat.le_of_ble_eq_true rfl), rfl, k⟩
theorem w72_19 {d a0 a3 : Nat} {l1 : Int64} {w4 : AV} {h : AH} {P : PT} (k : P (.inl none) h) : Ev d 72 19 [vR (some a0), vL l1, vU, vR (some a3), w4] [] h P := by
  refine Ev.step rfl ⟨rfl, k⟩
theorem w72_25 {d a0 a3 : Nat} {is0 : Int32} {l1 : Int64} {w4 : AV} {h : AH} {P : PT} (Aa0 : OB h a0 7 kP) (k : vp_in is0 6 ∧ ∃ b0, hR h (a0 + 3) is0.toNatClampNeg = some b0 ∧ Ev d 72 0 [vR (some b0), vL l1, vU, vR (some a3), vU] [] h (CK d 72 P 36 [vR (some a0), vL l1, vU, vR (some a3), vI is0] [])) : Ev (d + 1) 72 25 [vR (some a0), vL l1, vU, vR (some a3), w4] [vI is0] h P := by
  refine Ev.step rfl (Ev.step rfl ?_)
  refine e_gR rfl rfl (fk Aa0.1 rfl) Aa0.2.2.2.1.1 ?_
  refine Ev.step rfl ?_
  obtain ⟨q1, k⟩ := k
  refine Ev.step rfl ⟨⟨4, _, by decide, by decide, Aa0.2.2.2.1.2, q1⟩, ?_⟩
  obtain ⟨b0, hbb0, k⟩ := k
  rw [hbb0]
  refine Ev.step rfl (Ev.step rfl ?_)
  exact Ev.step rfl ⟨(Nat.le_of_ble_eq_true rfl), (Nat.le_of_ble_eq_true rfl), rfl, k⟩
theorem w72_39 {d a0 a3 : Nat} {i4 : Int32} {l1 : Int64} {h : AH} {P : PT} (Aa0 : OB h a0 7 kP) (k : vp_in i4 6 ∧ ∃ b0, hR h (a0 + 3) i4.toNatClampNeg = some b0 ∧ OB h b0 7 kP ∧ (((hI h b0 96) ≤ 4 → Ev (d + 1) 72 59 [vR (some a0), vL l1, vU, vR (some a3), vI i4] [] h P) ∧ (4 < (hI h b0 96) → Ev d 73 0 [vR (some a0), vI i4, vU, vU, vU, vU, vU, vU] [] h (CK d 72 P 56 [vR (some a0), vL l1, vU, vR (some a3), vI i4] [])))) : Ev (d + 1) 72 39 [vR (some a0), vL l1, vU, vR (some a3), vI i4] [] h P := by
  refine Ev.step rfl ?_
  refine e_gR rfl rfl (fk Aa0.1 rfl) Aa0.2.2.2.1.1 ?_
  refine Ev.step rfl ?_
  obtain ⟨q1, k⟩ := k
  refine Ev.step rfl ⟨⟨4, _, by decide, by decide, Aa0.2.2.2.1.2, q1⟩, ?_⟩
  obtain ⟨b0, hbb0, k⟩ := k
  rw [hbb0]
  obtain ⟨q2, k⟩ := k
  refine Ev.step rfl ⟨(fk q2.1 rfl), ?_⟩
  refine Ev.step rfl ?_
  refine Ev.step rfl ⟨fun c => ?_, fun c => ?_⟩
  · replace k := k.1 c
    exact k
  · replace k := k.2 (Int32.not_le.mp c)
    refine Ev.step rfl (Ev.step rfl ?_)
    exact Ev.step rfl ⟨(Nat.le_of_ble_eq_true rfl), (Nat.le_of_ble_eq_true rfl), rfl, k⟩
theorem w72_59 {d a0 a3 : Nat} {i4 : Int32} {l1 : Int64} {h : AH} {P : PT} (k : P (.inl none) h) : Ev d 72 59 [vR (some a0), vL l1, vU, vR (some a3), vI i4] [] h P := by
  refine Ev.step rfl ⟨rfl, k⟩
theorem w73_0 {d a0 : Nat} {i1 : Int32} {h : AH} {P : PT} (Aa0 : OB h a0 7 kP) (k : vp_in i1 6 ∧ ∃ b0, hR h (a0 + 3) i1.toNatClampNeg = some b0 ∧ 1 ≤ hC h ∧ 6 ≤ hS h ∧ Ev d 73 10 [vR (some a0), vI i1, vR (some b0), vU, vU, vU, vU, vU] [vR (some (hN h))] (al h (7, 0) 6) P) : Ev d 73 0 [vR (some a0), vI i1, vU, vU, vU, vU, vU, vU] [] h P := by
  refine Ev.step rfl ?_
  refine e_gR rfl rfl (fk Aa0.1 rfl) Aa0.2.2.2.1.1 ?_
  refine Ev.step rfl ?_
  obtain ⟨q1, k⟩ := k
  refine Ev.step rfl ⟨⟨4, _, by decide, by decide, Aa0.2.2.2.1.2, q1⟩, ?_⟩
  obtain ⟨b0, hbb0, k⟩ := k
  rw [hbb0]
  refine Ev.step rfl ?_
  obtain ⟨q2, k⟩ := k
  obtain ⟨q3, k⟩ := k
  refine Ev.step rfl ⟨q2, q3, ?_⟩
  exact k
theorem w73_10 {d a0 a2 as0 : Nat} {i1 : Int32} {w3 w4 w5 w6 w7 : AV} {h : AH} {P : PT} (Aa2 : OB h a2 7 kP) (k : Ev d 44 0 [vR (some as0), vI (hI h a2 83)] [] h (CK d 73 P 15 [vR (some a0), vI i1, vR (some a2), w3, w4, w5, w6, w7] [vR (some as0)])) : Ev (d + 1) 73 10 [vR (some a0), vI i1, vR (some a2), w3, w4, w5, w6, w7] [vR (some as0)] h P := by
  refine Ev.step rfl (Or.inr ?_)
  refine Ev.step rfl ?_
  refine Ev.step rfl ⟨(fk Aa2.1 rfl), ?_⟩
  exact Ev.step rfl ⟨(Nat.le_of_ble_eq_true rfl), trivial, (Nat.le_of_ble_eq_true rfl), rfl, k⟩
theorem w73_18 {d a0 a2 as0 : Nat} {i1 : Int32} {w3 w4 w5 w6 w7 : AV} {h : AH} {P : PT} (Aa2 : OB h a2 7 kP) (Aas0 : OB h as0 7 kP) (k : (((hI h a2 83) = 0 → vp_in 2 5 ∧ vp_in 3 6 ∧ vp_in 0 6 ∧ RT h (hR h (a2 + 3) ((3 : Int32).toNatClampNeg)) 7 ∧ Ev d 73 54 [vR (some a0), vI i1, vR (some a2), vR (some as0), vI 3, vL (hL h (a2 + 1) ((2 : Int32).toNatClampNeg)), vU, w7] [] (wR h (as0 + 3) ((0 : Int32).toNatClampNeg) (hR h (a2 + 3) ((3 : Int32).toNatClampNeg))) P) ∧ (¬ (hI h a2 83) = 0 → vp_in 2 5 ∧ vp_in 2 6 ∧ vp_in 0 6 ∧ RT h (hR h (a2 + 3) ((2 : Int32).toNatClampNeg)) 7 ∧ Ev d 73 54 [vR (some a0), vI i1, vR (some a2), vR (some as0), vI 2, vL (hL h (a2 + 1) ((2 : Int32).toNatClampNeg)), vU, w7] [] (wR h (as0 + 3) ((0 : Int32).toNatClampNeg) (hR h (a2 + 3) ((2 : Int32).toNatClampNeg))) P))) : Ev d 73 18 [vR (some a0), vI i1, vR (some a2), w3, w4, w5, w6, w7] [vR (some as0)] h P := by
  refine Ev.step rfl (Ev.step rfl ?_)
  refine Ev.step rfl ⟨(fk Aa2.1 rfl), ?_⟩
  refine Ev.step rfl ⟨fun c => ?_, fun c => ?_⟩
  · replace k := k.1 c
    refine Ev.step rfl (Ev.step rfl (Ev.step rfl ?_))
    refine e_gR rfl rfl (fk Aa2.1 rfl) Aa2.2.1.1 ?_
    refine Ev.step rfl ?_
    obtain ⟨q1, k⟩ := k
    refine Ev.step rfl ⟨⟨_, Aa2.2.1.2, q1⟩, ?_⟩
    refine Ev.step rfl (Ev.step rfl ?_)
    refine e_gR rfl rfl (fk Aas0.1 rfl) Aas0.2.2.2.1.1 ?_
    refine Ev.step rfl (Ev.step rfl ?_)
    refine e_gR rfl rfl (fk Aa2.1 rfl) Aa2.2.2.2.1.1 ?_
    refine Ev.step rfl ?_
    obtain ⟨q2, k⟩ := k
    refine Ev.step rfl ⟨⟨4, _, by decide, by decide, Aa2.2.2.2.1.2, q2⟩, ?_⟩
    obtain ⟨q3, k⟩ := k
    obtain ⟨q4, k⟩ := k
    refine Ev.step rfl ⟨⟨4, _, by decide, by decide, Aas0.2.2.2.1.2, q3, q4⟩, ?_⟩
    exact k
  · replace k := k.2 c
    refine Ev.step rfl (Ev.step rfl (Ev.step rfl (Ev.step rfl ?_)))
    refine e_gR rfl rfl (fk Aa2.1 rfl) Aa2.2.1.1 ?_
    refine Ev.step rfl ?_
    obtain ⟨q5, k⟩ := k
    refine Ev.step rfl ⟨⟨_, Aa2.2.1.2, q5⟩, ?_⟩
    refine Ev.step rfl (Ev.step rfl ?_)
    refine e_gR rfl rfl (fk Aas0.1 rfl) Aas0.2.2.2.1.1 ?_
    refine Ev.step rfl (Ev.step rfl ?_)
    refine e_gR rfl rfl (fk Aa2.1 rfl) Aa2.2.2.2.1.1 ?_
    refine Ev.step rfl ?_
    obtain ⟨q6, k⟩ := k
    refine Ev.step rfl ⟨⟨4, _, by decide, by decide, Aa2.2.2.2.1.2, q6⟩, ?_⟩
    obtain ⟨q7, k⟩ := k
    obtain ⟨q8, k⟩ := k
    refine Ev.step rfl ⟨⟨4, _, by decide, by decide, Aas0.2.2.2.1.2, q7, q8⟩, ?_⟩
    exact k
theorem w73_54 {d a0 a2 a3 : Nat} {i1 i4 : Int32} {l5 : Int64} {w7 : AV} {h : AH} {P : PT} (k : Ev d 73 58 [vR (some a0), vI i1, vR (some a2), vR (some a3), vI i4, vL l5, vU, vI i4] [] h P) : Ev d 73 54 [vR (some a0), vI i1, vR (some a2), vR (some a3), vI i4, vL l5, vU, w7] [] h P := by
  refine Ev.step rfl (Ev.step rfl ?_)
  exact k
theorem w73_58 {d a0 a2 a3 : Nat} {i1 i4 i7 : Int32} {l5 : Int64} {h : AH} {P : PT} (Aa2 : OB h a2 7 kP) (Aa3 : OB h a3 7 kP) (k : (((hI h a2 96) ≤ i7 → Ev (d + 1) 73 104 [vR (some a0), vI i1, vR (some a2), vR (some a3), vI i4, vL l5, vU, vI i7] [] h P) ∧ (i7 < (hI h a2 96) → vp_in i7 5 ∧ vp_in i7 5 ∧ vp_in (i7 + 1) 6 ∧ Ev d 47 0 [vR (some a3), vI (hI h a3 96), vL (hL h (a2 + 1) i7.toNatClampNeg), vU, vR (hR h (a2 + 2) i7.toNatClampNeg), vR (hR h (a2 + 3) ((i7 + 1).toNatClampNeg)), vU] [] h (CK d 73 P 95 [vR (some a0), vI i1, vR (some a2), vR (some a3), vI i4, vL l5, vU, vI i7] [])))) : Ev (d + 1) 73 58 [vR (some a0), vI i1, vR (some a2), vR (some a3), vI i4, vL l5, vU, vI i7] [] h P := by
  refine Ev.step rfl (Ev.step rfl ?_)
  refine Ev.step rfl ⟨(fk Aa2.1 rfl), ?_⟩
  refine Ev.step rfl ⟨fun c => ?_, fun c => ?_⟩
  · replace k := k.1 c
    exact k
  · replace k := k.2 (Int32.not_le.mp c)
    refine Ev.step rfl (Ev.step rfl ?_)
    refine Ev.step rfl ⟨(fk Aa3.1 rfl), ?_⟩
    refine Ev.step rfl ?_
    refine e_gR rfl rfl (fk Aa2.1 rfl) Aa2.2.1.1 ?_
    refine Ev.step rfl ?_
    obtain ⟨q1, k⟩ := k
    refine Ev.step rfl ⟨⟨_, Aa2.2.1.2, q1⟩, ?_⟩
    refine Ev.step rfl ?_
    refine e_gR rfl rfl (fk Aa2.1 rfl) Aa2.2.2.1.1 ?_
    refine Ev.step rfl ?_
    obtain ⟨q2, k⟩ := k
    refine Ev.step rfl ⟨⟨3, _, by decide, by decide, Aa2.2.2.1.2, q2⟩, ?_⟩
    refine Ev.step rfl ?_
    refine e_gR rfl rfl (fk Aa2.1 rfl) Aa2.2.2.2.1.1 ?_
    refine Ev.step rfl (Ev.step rfl (Ev.step rfl ?_))
    obtain ⟨q3, k⟩ := k
    refine Ev.step rfl ⟨⟨4, _, by decide, by decide, Aa2.2.2.2.1.2, q3⟩, ?_⟩
    exact Ev.step rfl ⟨(Nat.le_of_ble_eq_true rfl), _, _, _, Aa3.1, rfl, (Nat.le_of_ble_eq_true rfl), rfl, k⟩
theorem w73_98 {d a0 a2 a3 : Nat} {i1 i4 i7 : Int32} {l5 : Int64} {h : AH} {P : PT} (k : Ev d 73 58 [vR (some a0), vI i1, vR (some a2), vR (some a3), vI i4, vL l5, vU, vI (i7 + 1)] [] h P) : Ev d 73 98 [vR (some a0), vI i1, vR (some a2), vR (some a3), vI i4, vL l5, vU, vI i7] [] h P := by
  refine Ev.step rfl (Ev.step rfl ?_)
  exact k
theorem w73_104 {d a0 a2 a3 : Nat} {i1 i4 i7 : Int32} {l5 : Int64} {h : AH} {P : PT} (Aa2 : OB h a2 7 kP) (Aa3 : OB h a3 7 kP) (k : (((hI h a2 96) ≤ 2 → (((hI h a2 83) = 0 → Ev (d + 1) 73 145 [vR (some a0), vI i1, vR (some a2), vR (some a3), vI i4, vL l5, vU, vI i7] [] h P) ∧ (¬ (hI h a2 83) = 0 → Ev (d + 1) 73 140 [vR (some a0), vI i1, vR (some a2), vR (some a3), vI i4, vL l5, vU, vI i7] [] (wR h a3 102 (hR h a2 102)) P))) ∧ (2 < (hI h a2 96) → Ev d 48 0 [vR (some a2), vI ((hI h a2 96) - 1), vU] [] h (CK d 73 P 119 [vR (some a0), vI i1, vR (some a2), vR (some a3), vI i4, vL l5, vU, vI i7] [])))) : Ev (d + 1) 73 104 [vR (some a0), vI i1, vR (some a2), vR (some a3), vI i4, vL l5, vU, vI i7] [] h P := by
  refine Ev.step rfl ?_
  refine Ev.step rfl ⟨(fk Aa2.1 rfl), ?_⟩
  refine Ev.step rfl ?_
  refine Ev.step rfl ⟨fun c => ?_, fun c => ?_⟩
  · replace k := k.1 c
    refine Ev.step rfl ?_
    refine Ev.step rfl ⟨(fk Aa2.1 rfl), ?_⟩
    refine Ev.step rfl ⟨fun c => ?_, fun c => ?_⟩
    · replace k := k.1 c
      exact k
    · replace k := k.2 c
      refine Ev.step rfl (Ev.step rfl ?_)
      refine Ev.step rfl ⟨(fk Aa2.1 rfl), ?_⟩
      refine Ev.step rfl ⟨(fk Aa3.1 rfl), ?_⟩
      exact k
  · replace k := k.2 (Int32.not_le.mp c)
    refine Ev.step rfl (Ev.step rfl ?_)
    refine Ev.step rfl ⟨(fk Aa2.1 rfl), ?_⟩
    refine Ev.step rfl (Ev.step rfl ?_)
    exact Ev.step rfl ⟨(Nat.le_of_ble_eq_true rfl), _, _, _, Aa2.1, rfl, (Nat.le_of_ble_eq_true rfl), rfl, k⟩
theorem w73_122 {d a0 a2 a3 : Nat} {i1 i4 i7 : Int32} {l5 : Int64} {h : AH} {P : PT} (k : Ev d 73 104 [vR (some a0), vI i1, vR (some a2), vR (some a3), vI i4, vL l5, vU, vI i7] [] h P) : Ev d 73 122 [vR (some a0), vI i1, vR (some a2), vR (some a3), vI i4, vL l5, vU, vI i7] [] h P := by
  refine Ev.step rfl ?_
  exact k
theorem w73_140 {d a0 a2 a3 : Nat} {i1 i4 i7 : Int32} {l5 : Int64} {h : AH} {P : PT} (Aa2 : OB h a2 7 kP) (k : Ev d 73 145 [vR (some a0), vI i1, vR (some a2), vR (some a3), vI i4, vL l5, vU, vI i7] [] (wR h a2 102 (some a3)) P) : Ev d 73 140 [vR (some a0), vI i1, vR (some a2), vR (some a3), vI i4, vL l5, vU, vI i7] [] h P := by
  refine Ev.step rfl (Ev.step rfl ?_)
  refine Ev.step rfl ⟨(fk Aa2.1 rfl), ?_⟩
  exact k
theorem w73_145 {d a0 a2 a3 : Nat} {i1 i4 i7 : Int32} {l5 : Int64} {h : AH} {P : PT} (Aa0 : OB h a0 7 kP) (k : Ev d 47 0 [vR (some a0), vI i1, vL l5, vU, vR none, vR (some a3), vU] [] h (CK d 73 P 151 [vR (some a0), vI i1, vR (some a2), vR (some a3), vI i4, vL l5, vU, vI i7] [])) : Ev (d + 1) 73 145 [vR (some a0), vI i1, vR (some a2), vR (some a3), vI i4, vL l5, vU, vI i7] [] h P := by
  refine Ev.step rfl (Ev.step rfl (Ev.step rfl (Ev.step rfl (Ev.step rfl ?_))))
  exact Ev.step rfl ⟨(Nat.le_of_ble_eq_true rfl), _, _, _, Aa0.1, rfl, (Nat.le_of_ble_eq_true rfl), rfl, k⟩
theorem w73_154 {d a0 a2 a3 : Nat} {i1 i4 i7 : Int32} {l5 : Int64} {h : AH} {P : PT} (k : P (.inl none) h) : Ev d 73 154 [vR (some a0), vI i1, vR (some a2), vR (some a3), vI i4, vL l5, vU, vI i7] [] h P := by
  refine Ev.step rfl ⟨rfl, k⟩
theorem w74_0 {d a0 : Nat} {l1 : Int64} {h : AH} {P : PT} (Aa0 : OB h a0 14 kE) (k : Ev d 70 0 [vR (some a0), vL l1, vU, vU] [] h (CK d 74 P 2 [vR (some a0), vL l1, vU, vU, vU] [])) : Ev (d + 1) 74 0 [vR (some a0), vL l1, vU, vU, vU] [] h P := by
  refine Ev.step rfl (Ev.step rfl ?_)
  exact Ev.step rfl ⟨(Nat.le_of_ble_eq_true rfl), _, _, _, Aa0.1, rfl, (Nat.le_of_ble_eq_true rfl), rfl, k⟩
theorem w74_5 {d a0 as0 : Nat} {l1 : Int64} {w3 w4 : AV} {h : AH} {P : PT} (Aas0 : OB h as0 7 kP) (k : Ev d 46 0 [vR (some as0), vL l1, vU, vU] [] h (CK d 74 P 8 [vR (some a0), vL l1, vU, vR (some as0), w4] [])) : Ev (d + 1) 74 5 [vR (some a0), vL l1, vU, w3, w4] [vR (some as0)] h P := by
  refine Ev.step rfl (Ev.step rfl (Ev.step rfl ?_))
  exact Ev.step rfl ⟨(Nat.le_of_ble_eq_true rfl), _, _, _, Aas0.1, rfl, (Nat.le_of_ble_eq_true rfl), rfl, k⟩
theorem w74_11 {d a0 a3 : Nat} {is0 : Int32} {l1 : Int64} {w4 : AV} {h : AH} {P : PT} (Aa3 : OB h a3 7 kP) (k : (((hI h a3 96) ≤ is0 → P (.inl (some (vR none))) h) ∧ (is0 < (hI h a3 96) → vp_in is0 5 ∧ ((¬ (hL h (a3 + 1) is0.toNatClampNeg) = l1 → P (.inl (some (vR none))) h) ∧ ((hL h (a3 + 1) is0.toNatClampNeg) = l1 → vp_in is0 5 ∧ P (.inl (some (vR (hR h (a3 + 2) is0.toNatClampNeg)))) h))))) : Ev d 74 11 [vR (some a0), vL l1, vU, vR (some a3), w4] [vI is0] h P := by
  refine Ev.step rfl (Ev.step rfl (Ev.step rfl ?_))
  refine Ev.step rfl ⟨(fk Aa3.1 rfl), ?_⟩
  refine Ev.step rfl ⟨fun c => ?_, fun c => ?_⟩
  · replace k := k.1 c
    refine Ev.step rfl ?_
    refine Ev.step rfl ⟨rfl, k⟩
  · replace k := k.2 (Int32.not_le.mp c)
    refine Ev.step rfl ?_
    refine e_gR rfl rfl (fk Aa3.1 rfl) Aa3.2.1.1 ?_
    refine Ev.step rfl ?_
    obtain ⟨q1, k⟩ := k
    refine Ev.step rfl ⟨⟨_, Aa3.2.1.2, q1⟩, ?_⟩
    refine Ev.step rfl (Ev.step rfl ?_)
    refine Ev.step rfl ⟨fun c => ?_, fun c => ?_⟩
    · replace k := k.1 ((lgc_ne (hL h (a3 + 1) is0.toNatClampNeg) l1).mp c)
      refine Ev.step rfl ?_
      refine Ev.step rfl ⟨rfl, k⟩
    · replace k := k.2 (Decidable.not_not.mp (fun z => c ((lgc_ne (hL h (a3 + 1) is0.toNatClampNeg) l1).mpr z)))
      refine Ev.step rfl ?_
      refine e_gR rfl rfl (fk Aa3.1 rfl) Aa3.2.2.1.1 ?_
      refine Ev.step rfl ?_
      obtain ⟨q2, k⟩ := k
      refine Ev.step rfl ⟨⟨3, _, by decide, by decide, Aa3.2.2.1.2, q2⟩, ?_⟩
      refine Ev.step rfl ?_
      refine Ev.step rfl ⟨rfl, k⟩
theorem w75_0 {d a0 : Nat} {l1 : Int64} {h : AH} {P : PT} (Aa0 : OB h a0 14 kE) (k : ∃ b0, hR h a0 106 = some b0 ∧ Ev d 76 0 [vR (some b0), vL l1, vU, vU] [] h (CK d 75 P 5 [vR (some a0), vL l1, vU] [])) : Ev (d + 1) 75 0 [vR (some a0), vL l1, vU] [] h P := by
  refine Ev.step rfl ?_
  obtain ⟨b0, hbb0, k⟩ := k
  refine e_gR rfl rfl (fk Aa0.1 rfl) hbb0 ?_
  refine Ev.step rfl ?_
  exact Ev.step rfl ⟨(Nat.le_of_ble_eq_true rfl), (Nat.le_of_ble_eq_true rfl), rfl, k⟩
theorem w75_8 {d a0 : Nat} {l1 : Int64} {h : AH} {P : PT} (Aa0 : OB h a0 14 kE) (k : ∃ b0, hR h a0 106 = some b0 ∧ OB h b0 7 kP ∧ ((¬ (hI h b0 83) = 0 → Ev d 75 41 [vR (some a0), vL l1, vU] [] h P) ∧ ((hI h b0 83) = 0 → ∃ b1, hR h a0 106 = some b1 ∧ OB h b1 7 kP ∧ ((¬ (hI h b1 96) = 0 → Ev d 75 41 [vR (some a0), vL l1, vU] [] h P) ∧ ((hI h b1 96) = 0 → ∃ b2, hR h a0 106 = some b2 ∧ OB h b2 7 kP ∧ vp_in 0 6 ∧ ∃ b3, hR h (b2 + 3) ((0 : Int32).toNatClampNeg) = some b3 ∧ Ev d 75 41 [vR (some a0), vL l1, vU] [] (wR h a0 106 (some b3)) P))))) : Ev d 75 8 [vR (some a0), vL l1, vU] [] h P := by
  refine Ev.step rfl ?_
  obtain ⟨b0, hbb0, k⟩ := k
  refine e_gR rfl rfl (fk Aa0.1 rfl) hbb0 ?_
  obtain ⟨q1, k⟩ := k
  refine Ev.step rfl ⟨(fk q1.1 rfl), ?_⟩
  refine Ev.step rfl ⟨fun c => ?_, fun c => ?_⟩
  · replace k := k.1 c
    exact k
  · replace k := k.2 (Decidable.not_not.mp c)
    refine Ev.step rfl ?_
    obtain ⟨b1, hbb1, k⟩ := k
    refine e_gR rfl rfl (fk Aa0.1 rfl) hbb1 ?_
    obtain ⟨q2, k⟩ := k
    refine Ev.step rfl ⟨(fk q2.1 rfl), ?_⟩
    refine Ev.step rfl ⟨fun c => ?_, fun c => ?_⟩
    · replace k := k.1 c
      exact k
    · replace k := k.2 (Decidable.not_not.mp c)
      refine Ev.step rfl (Ev.step rfl ?_)
      obtain ⟨b2, hbb2, k⟩ := k
      refine e_gR rfl rfl (fk Aa0.1 rfl) hbb2 ?_
      obtain ⟨q3, k⟩ := k
      refine e_gR rfl rfl (fk q3.1 rfl) q3.2.2.2.1.1 ?_
      refine Ev.step rfl ?_
      obtain ⟨q4, k⟩ := k
      refine Ev.step rfl ⟨⟨4, _, by decide, by decide, q3.2.2.2.1.2, q4⟩, ?_⟩
      obtain ⟨b3, hbb3, k⟩ := k
      rw [hbb3]
      refine Ev.step rfl ⟨(fk Aa0.1 rfl), ?_⟩
      exact k
theorem w75_41 {d a0 : Nat} {l1 : Int64} {h : AH} {P : PT} (k : P (.inl none) h) : Ev d 75 41 [vR (some a0), vL l1, vU] [] h P := by
  refine Ev.step rfl ⟨rfl, k⟩
theorem w76_0 {d a0 : Nat} {l1 : Int64} {h : AH} {P : PT} (Aa0 : OB h a0 7 kP) (k : (((hI h a0 83) = 0 → Ev d 45 0 [vR (some a0), vL l1, vU, vU] [] h (CK d 76 P 40 [vR (some a0), vL l1, vU, vU] [])) ∧ (¬ (hI h a0 83) = 0 → Ev d 46 0 [vR (some a0), vL l1, vU, vU] [] h (CK d 76 P 9 [vR (some a0), vL l1, vU, vU] [])))) : Ev (d + 1) 76 0 [vR (some a0), vL l1, vU, vU] [] h P := by
  refine Ev.step rfl ?_
  refine Ev.step rfl ⟨(fk Aa0.1 rfl), ?_⟩
  refine Ev.step rfl ⟨fun c => ?_, fun c => ?_⟩
  · replace k := k.1 c
    refine Ev.step rfl (Ev.step rfl ?_)
    exact Ev.step rfl ⟨(Nat.le_of_ble_eq_true rfl), _, _, _, Aa0.1, rfl, (Nat.le_of_ble_eq_true rfl), rfl, k⟩
  · replace k := k.2 c
    refine Ev.step rfl (Ev.step rfl ?_)
    exact Ev.step rfl ⟨(Nat.le_of_ble_eq_true rfl), _, _, _, Aa0.1, rfl, (Nat.le_of_ble_eq_true rfl), rfl, k⟩
theorem w76_12 {d a0 : Nat} {is0 : Int32} {l1 : Int64} {w3 : AV} {h : AH} {P : PT} (Aa0 : OB h a0 7 kP) (k : (((hI h a0 96) ≤ is0 → Ev (d + 1) 76 37 [vR (some a0), vL l1, vU, vI is0] [] h P) ∧ (is0 < (hI h a0 96) → vp_in is0 5 ∧ ((¬ (hL h (a0 + 1) is0.toNatClampNeg) = l1 → Ev (d + 1) 76 37 [vR (some a0), vL l1, vU, vI is0] [] h P) ∧ ((hL h (a0 + 1) is0.toNatClampNeg) = l1 → Ev d 48 0 [vR (some a0), vI is0, vU] [] h (CK d 76 P 34 [vR (some a0), vL l1, vU, vI is0] [])))))) : Ev (d + 1) 76 12 [vR (some a0), vL l1, vU, w3] [vI is0] h P := by
  refine Ev.step rfl (Ev.step rfl (Ev.step rfl ?_))
  refine Ev.step rfl ⟨(fk Aa0.1 rfl), ?_⟩
  refine Ev.step rfl ⟨fun c => ?_, fun c => ?_⟩
  · replace k := k.1 c
    exact k
  · replace k := k.2 (Int32.not_le.mp c)
    refine Ev.step rfl ?_
    refine e_gR rfl rfl (fk Aa0.1 rfl) Aa0.2.1.1 ?_
    refine Ev.step rfl ?_
    obtain ⟨q1, k⟩ := k
    refine Ev.step rfl ⟨⟨_, Aa0.2.1.2, q1⟩, ?_⟩
    refine Ev.step rfl (Ev.step rfl ?_)
    refine Ev.step rfl ⟨fun c => ?_, fun c => ?_⟩
    · replace k := k.1 ((lgc_ne (hL h (a0 + 1) is0.toNatClampNeg) l1).mp c)
      exact k
    · replace k := k.2 (Decidable.not_not.mp (fun z => c ((lgc_ne (hL h (a0 + 1) is0.toNatClampNeg) l1).mpr z)))
      refine Ev.step rfl (Ev.step rfl ?_)
      exact Ev.step rfl ⟨(Nat.le_of_ble_eq_true rfl), _, _, _, Aa0.1, rfl, (Nat.le_of_ble_eq_true rfl), rfl, k⟩
theorem w76_37 {d a0 : Nat} {i3 : Int32} {l1 : Int64} {h : AH} {P : PT} (k : P (.inl none) h) : Ev d 76 37 [vR (some a0), vL l1, vU, vI i3] [] h P := by
  refine Ev.step rfl ⟨rfl, k⟩
theorem w76_43 {d a0 : Nat} {is0 : Int32} {l1 : Int64} {w3 : AV} {h : AH} {P : PT} (Aa0 : OB h a0 7 kP) (k : vp_in is0 6 ∧ ∃ b0, hR h (a0 + 3) is0.toNatClampNeg = some b0 ∧ Ev d 76 0 [vR (some b0), vL l1, vU, vU] [] h (CK d 76 P 51 [vR (some a0), vL l1, vU, vI is0] [])) : Ev (d + 1) 76 43 [vR (some a0), vL l1, vU, w3] [vI is0] h P := by
  refine Ev.step rfl (Ev.step rfl ?_)
  refine e_gR rfl rfl (fk Aa0.1 rfl) Aa0.2.2.2.1.1 ?_
  refine Ev.step rfl ?_
  obtain ⟨q1, k⟩ := k
  refine Ev.step rfl ⟨⟨4, _, by decide, by decide, Aa0.2.2.2.1.2, q1⟩, ?_⟩
  obtain ⟨b0, hbb0, k⟩ := k
  rw [hbb0]
  refine Ev.step rfl ?_
  exact Ev.step rfl ⟨(Nat.le_of_ble_eq_true rfl), (Nat.le_of_ble_eq_true rfl), rfl, k⟩
theorem w76_54 {d a0 : Nat} {i3 : Int32} {l1 : Int64} {h : AH} {P : PT} (Aa0 : OB h a0 7 kP) (k : vp_in i3 6 ∧ ∃ b0, hR h (a0 + 3) i3.toNatClampNeg = some b0 ∧ OB h b0 7 kP ∧ ((2 ≤ (hI h b0 96) → Ev (d + 1) 76 72 [vR (some a0), vL l1, vU, vI i3] [] h P) ∧ ((hI h b0 96) < 2 → Ev d 77 0 [vR (some a0), vI i3] [] h (CK d 76 P 69 [vR (some a0), vL l1, vU, vI i3] [])))) : Ev (d + 1) 76 54 [vR (some a0), vL l1, vU, vI i3] [] h P := by
  refine Ev.step rfl ?_
  refine e_gR rfl rfl (fk Aa0.1 rfl) Aa0.2.2.2.1.1 ?_
  refine Ev.step rfl ?_
  obtain ⟨q1, k⟩ := k
  refine Ev.step rfl ⟨⟨4, _, by decide, by decide, Aa0.2.2.2.1.2, q1⟩, ?_⟩
  obtain ⟨b0, hbb0, k⟩ := k
  rw [hbb0]
  obtain ⟨q2, k⟩ := k
  refine Ev.step rfl ⟨(fk q2.1 rfl), ?_⟩
  refine Ev.step rfl ?_
  refine Ev.step rfl ⟨fun c => ?_, fun c => ?_⟩
  · replace k := k.1 c
    exact k
  · replace k := k.2 (Int32.not_le.mp c)
    refine Ev.step rfl (Ev.step rfl ?_)
    exact Ev.step rfl ⟨(Nat.le_of_ble_eq_true rfl), (Nat.le_of_ble_eq_true rfl), rfl, k⟩
theorem w76_72 {d a0 : Nat} {i3 : Int32} {l1 : Int64} {h : AH} {P : PT} (k : P (.inl none) h) : Ev d 76 72 [vR (some a0), vL l1, vU, vI i3] [] h P := by
  refine Ev.step rfl ⟨rfl, k⟩
theorem w77_0 {d a0 : Nat} {i1 : Int32} {h : AH} {P : PT} (Aa0 : OB h a0 7 kP) (k : ((i1 ≤ 0 → (((hI h a0 96) ≤ i1 → ((i1 ≤ 0 → Ev d 80 0 [vR (some a0), vI i1, vU, vU, vU] [] h (CK d 77 P 70 [vR (some a0), vI i1] [])) ∧ (0 < i1 → Ev d 80 0 [vR (some a0), vI (i1 - 1), vU, vU, vU] [] h (CK d 77 P 70 [vR (some a0), vI i1] [])))) ∧ (i1 < (hI h a0 96) → vp_in (i1 + 1) 6 ∧ ∃ b0, hR h (a0 + 3) ((i1 + 1).toNatClampNeg) = some b0 ∧ OB h b0 7 kP ∧ (((hI h b0 96) ≤ 2 → ((i1 ≤ 0 → Ev d 80 0 [vR (some a0), vI i1, vU, vU, vU] [] h (CK d 77 P 70 [vR (some a0), vI i1] [])) ∧ (0 < i1 → Ev d 80 0 [vR (some a0), vI (i1 - 1), vU, vU, vU] [] h (CK d 77 P 70 [vR (some a0), vI i1] [])))) ∧ (2 < (hI h b0 96) → Ev d 79 0 [vR (some a0), vI i1, vU, vU] [] h (CK d 77 P 52 [vR (some a0), vI i1] [])))))) ∧ (0 < i1 → vp_in (i1 - 1) 6 ∧ ∃ b0, hR h (a0 + 3) ((i1 - 1).toNatClampNeg) = some b0 ∧ OB h b0 7 kP ∧ (((hI h b0 96) ≤ 2 → (((hI h a0 96) ≤ i1 → ((i1 ≤ 0 → Ev d 80 0 [vR (some a0), vI i1, vU, vU, vU] [] h (CK d 77 P 70 [vR (some a0), vI i1] [])) ∧ (0 < i1 → Ev d 80 0 [vR (some a0), vI (i1 - 1), vU, vU, vU] [] h (CK d 77 P 70 [vR (some a0), vI i1] [])))) ∧ (i1 < (hI h a0 96) → vp_in (i1 + 1) 6 ∧ ∃ b1, hR h (a0 + 3) ((i1 + 1).toNatClampNeg) = some b1 ∧ OB h b1 7 kP ∧ (((hI h b1 96) ≤ 2 → ((i1 ≤ 0 → Ev d 80 0 [vR (some a0), vI i1, vU, vU, vU] [] h (CK d 77 P 70 [vR (some a0), vI i1] [])) ∧ (0 < i1 → Ev d 80 0 [vR (some a0), vI (i1 - 1), vU, vU, vU] [] h (CK d 77 P 70 [vR (some a0), vI i1] [])))) ∧ (2 < (hI h b1 96) → Ev d 79 0 [vR (some a0), vI i1, vU, vU] [] h (CK d 77 P 52 [vR (some a0), vI i1] [])))))) ∧ (2 < (hI h b0 96) → Ev d 78 0 [vR (some a0), vI i1, vU, vU, vU, vU] [] h (CK d 77 P 21 [vR (some a0), vI i1] [])))))) : Ev (d + 1) 77 0 [vR (some a0), vI i1] [] h P := by
  refine Ev.step rfl ?_
  refine Ev.step rfl ⟨fun c => ?_, fun c => ?_⟩
  · replace k := k.1 c
    refine Ev.step rfl (Ev.step rfl ?_)
    refine Ev.step rfl ⟨(fk Aa0.1 rfl), ?_⟩
    refine Ev.step rfl ⟨fun c => ?_, fun c => ?_⟩
    · replace k := k.1 c
      refine Ev.step rfl (Ev.step rfl ?_)
      refine Ev.step rfl ⟨fun c => ?_, fun c => ?_⟩
      · replace k := k.1 c
        refine Ev.step rfl ?_
        exact Ev.step rfl ⟨(Nat.le_of_ble_eq_true rfl), (Nat.le_of_ble_eq_true rfl), rfl, k⟩
      · replace k := k.2 (Int32.not_le.mp c)
        refine Ev.step rfl (Ev.step rfl (Ev.step rfl (Ev.step rfl ?_)))
        exact Ev.step rfl ⟨(Nat.le_of_ble_eq_true rfl), (Nat.le_of_ble_eq_true rfl), rfl, k⟩
    · replace k := k.2 (Int32.not_le.mp c)
      refine Ev.step rfl ?_
      refine e_gR rfl rfl (fk Aa0.1 rfl) Aa0.2.2.2.1.1 ?_
      refine Ev.step rfl (Ev.step rfl (Ev.step rfl ?_))
      obtain ⟨q1, k⟩ := k
      refine Ev.step rfl ⟨⟨4, _, by decide, by decide, Aa0.2.2.2.1.2, q1⟩, ?_⟩
      obtain ⟨b0, hbb0, k⟩ := k
      rw [hbb0]
      obtain ⟨q2, k⟩ := k
      refine Ev.step rfl ⟨(fk q2.1 rfl), ?_⟩
      refine Ev.step rfl ?_
      refine Ev.step rfl ⟨fun c => ?_, fun c => ?_⟩
      · replace k := k.1 c
        refine Ev.step rfl (Ev.step rfl ?_)
        refine Ev.step rfl ⟨fun c => ?_, fun c => ?_⟩
        · replace k := k.1 c
          refine Ev.step rfl ?_
          exact Ev.step rfl ⟨(Nat.le_of_ble_eq_true rfl), (Nat.le_of_ble_eq_true rfl), rfl, k⟩
        · replace k := k.2 (Int32.not_le.mp c)
          refine Ev.step rfl (Ev.step rfl (Ev.step rfl (Ev.step rfl ?_)))
          exact Ev.step rfl ⟨(Nat.le_of_ble_eq_true rfl), (Nat.le_of_ble_eq_true rfl), rfl, k⟩
      · replace k := k.2 (Int32.not_le.mp c)
        refine Ev.step rfl (Ev.step rfl ?_)
        exact Ev.step rfl ⟨(Nat.le_of_ble_eq_true rfl), (Nat.le_of_ble_eq_true rfl), rfl, k⟩
  · replace k := k.2 (Int32.not_le.mp c)
    refine Ev.step rfl ?_
    refine e_gR rfl rfl (fk Aa0.1 rfl) Aa0.2.2.2.1.1 ?_
    refine Ev.step rfl (Ev.step rfl (Ev.step rfl ?_))
    obtain ⟨q3, k⟩ := k
    refine Ev.step rfl ⟨⟨4, _, by decide, by decide, Aa0.2.2.2.1.2, q3⟩, ?_⟩
    obtain ⟨b0, hbb0, k⟩ := k
    rw [hbb0]
    obtain ⟨q4, k⟩ := k
    refine Ev.step rfl ⟨(fk q4.1 rfl), ?_⟩
    refine Ev.step rfl ?_
    refine Ev.step rfl ⟨fun c => ?_, fun c => ?_⟩
    · replace k := k.1 c
      refine Ev.step rfl (Ev.step rfl ?_)
      refine Ev.step rfl ⟨(fk Aa0.1 rfl), ?_⟩
      refine Ev.step rfl ⟨fun c => ?_, fun c => ?_⟩
      · replace k := k.1 c
        refine Ev.step rfl (Ev.step rfl ?_)
        refine Ev.step rfl ⟨fun c => ?_, fun c => ?_⟩
        · replace k := k.1 c
          refine Ev.step rfl ?_
          exact Ev.step rfl ⟨(Nat.le_of_ble_eq_true rfl), (Nat.le_of_ble_eq_true rfl), rfl, k⟩
        · replace k := k.2 (Int32.not_le.mp c)
          refine Ev.step rfl (Ev.step rfl (Ev.step rfl (Ev.step rfl ?_)))
          exact Ev.step rfl ⟨(Nat.le_of_ble_eq_true rfl), (Nat.le_of_ble_eq_true rfl), rfl, k⟩
      · replace k := k.2 (Int32.not_le.mp c)
        refine Ev.step rfl ?_
        refine e_gR rfl rfl (fk Aa0.1 rfl) Aa0.2.2.2.1.1 ?_
        refine Ev.step rfl (Ev.step rfl (Ev.step rfl ?_))
        obtain ⟨q5, k⟩ := k
        refine Ev.step rfl ⟨⟨4, _, by decide, by decide, Aa0.2.2.2.1.2, q5⟩, ?_⟩
        obtain ⟨b1, hbb1, k⟩ := k
        rw [hbb1]
        obtain ⟨q6, k⟩ := k
        refine Ev.step rfl ⟨(fk q6.1 rfl), ?_⟩
        refine Ev.step rfl ?_
        refine Ev.step rfl ⟨fun c => ?_, fun c => ?_⟩
        · replace k := k.1 c
          refine Ev.step rfl (Ev.step rfl ?_)
          refine Ev.step rfl ⟨fun c => ?_, fun c => ?_⟩
          · replace k := k.1 c
            refine Ev.step rfl ?_
            exact Ev.step rfl ⟨(Nat.le_of_ble_eq_true rfl), (Nat.le_of_ble_eq_true rfl), rfl, k⟩
          · replace k := k.2 (Int32.not_le.mp c)
            refine Ev.step rfl (Ev.step rfl (Ev.step rfl (Ev.step rfl ?_)))
            exact Ev.step rfl ⟨(Nat.le_of_ble_eq_true rfl), (Nat.le_of_ble_eq_true rfl), rfl, k⟩
        · replace k := k.2 (Int32.not_le.mp c)
          refine Ev.step rfl (Ev.step rfl ?_)
          exact Ev.step rfl ⟨(Nat.le_of_ble_eq_true rfl), (Nat.le_of_ble_eq_true rfl), rfl, k⟩
    · replace k := k.2 (Int32.not_le.mp c)
      refine Ev.step rfl (Ev.step rfl ?_)
      exact Ev.step rfl ⟨(Nat.le_of_ble_eq_true rfl), (Nat.le_of_ble_eq_true rfl), rfl, k⟩
theorem w77_24 {d a0 : Nat} {i1 : Int32} {h : AH} {P : PT} (k : Ev d 77 73 [vR (some a0), vI i1] [] h P) : Ev d 77 24 [vR (some a0), vI i1] [] h P := by
  refine Ev.step rfl ?_
  exact k
theorem w77_55 {d a0 : Nat} {i1 : Int32} {h : AH} {P : PT} (k : Ev d 77 73 [vR (some a0), vI i1] [] h P) : Ev d 77 55 [vR (some a0), vI i1] [] h P := by
  refine Ev.step rfl ?_
  exact k
theorem w77_73 {d a0 : Nat} {i1 : Int32} {h : AH} {P : PT} (k : P (.inl none) h) : Ev d 77 73 [vR (some a0), vI i1] [] h P := by
  refine Ev.step rfl ⟨rfl, k⟩
theorem w78_0 {d a0 : Nat} {i1 : Int32} {h : AH} {P : PT} (Aa0 : OB h a0 7 kP) (k : vp_in (i1 - 1) 6 ∧ ∃ b0, hR h (a0 + 3) ((i1 - 1).toNatClampNeg) = some b0 ∧ vp_in i1 6 ∧ ∃ b1, hR h (a0 + 3) i1.toNatClampNeg = some b1 ∧ OB h b0 7 kP ∧ OB h b1 7 kP ∧ (((hI h b1 83) = 0 → vp_in (((hI h b0 96) - 1) + 1) 6 ∧ ∃ b2, hR h (b0 + 3) ((((hI h b0 96) - 1) + 1).toNatClampNeg) = some b2 ∧ vp_in (i1 - 1) 5 ∧ vp_in 0 6 ∧ Ev d 47 0 [vR (some b1), vI 0, vL (hL h (a0 + 1) ((i1 - 1).toNatClampNeg)), vU, vR none, vR (hR h (b1 + 3) ((0 : Int32).toNatClampNeg)), vU] [] h (CK d 78 P 96 [vR (some a0), vI i1, vR (some b0), vR (some b1), vI ((hI h b0 96) - 1), vR (some b2)] [])) ∧ (¬ (hI h b1 83) = 0 → vp_in ((hI h b0 96) - 1) 5 ∧ vp_in ((hI h b0 96) - 1) 5 ∧ Ev d 47 0 [vR (some b1), vI 0, vL (hL h (b0 + 1) (((hI h b0 96) - 1).toNatClampNeg)), vU, vR (hR h (b0 + 2) (((hI h b0 96) - 1).toNatClampNeg)), vR none, vU] [] h (CK d 78 P 48 [vR (some a0), vI i1, vR (some b0), vR (some b1), vI ((hI h b0 96) - 1), vU] [])))) : Ev (d + 1) 78 0 [vR (some a0), vI i1, vU, vU, vU, vU] [] h P := by
  refine Ev.step rfl ?_
  refine e_gR rfl rfl (fk Aa0.1 rfl) Aa0.2.2.2.1.1 ?_
  refine Ev.step rfl (Ev.step rfl (Ev.step rfl ?_))
  obtain ⟨q1, k⟩ := k
  refine Ev.step rfl ⟨⟨4, _, by decide, by decide, Aa0.2.2.2.1.2, q1⟩, ?_⟩
  obtain ⟨b0, hbb0, k⟩ := k
  rw [hbb0]
  refine Ev.step rfl (Ev.step rfl ?_)
  refine e_gR rfl rfl (fk Aa0.1 rfl) Aa0.2.2.2.1.1 ?_
  refine Ev.step rfl ?_
  obtain ⟨q2, k⟩ := k
  refine Ev.step rfl ⟨⟨4, _, by decide, by decide, Aa0.2.2.2.1.2, q2⟩, ?_⟩
  obtain ⟨b1, hbb1, k⟩ := k
  rw [hbb1]
  refine Ev.step rfl (Ev.step rfl ?_)
  obtain ⟨q3, k⟩ := k
  refine Ev.step rfl ⟨(fk q3.1 rfl), ?_⟩
  refine Ev.step rfl (Ev.step rfl (Ev.step rfl (Ev.step rfl ?_)))
  obtain ⟨q4, k⟩ := k
  refine Ev.step rfl ⟨(fk q4.1 rfl), ?_⟩
  refine Ev.step rfl ⟨fun c => ?_, fun c => ?_⟩
  · replace k := k.1 c
    refine Ev.step rfl ?_
    refine e_gR rfl rfl (fk q3.1 rfl) q3.2.2.2.1.1 ?_
    refine Ev.step rfl (Ev.step rfl (Ev.step rfl ?_))
    obtain ⟨q5, k⟩ := k
    refine Ev.step rfl ⟨⟨4, _, by decide, by decide, q3.2.2.2.1.2, q5⟩, ?_⟩
    obtain ⟨b2, hbb2, k⟩ := k
    rw [hbb2]
    refine Ev.step rfl (Ev.step rfl (Ev.step rfl (Ev.step rfl ?_)))
    refine e_gR rfl rfl (fk Aa0.1 rfl) Aa0.2.1.1 ?_
    refine Ev.step rfl (Ev.step rfl (Ev.step rfl ?_))
    obtain ⟨q6, k⟩ := k
    refine Ev.step rfl ⟨⟨_, Aa0.2.1.2, q6⟩, ?_⟩
    refine Ev.step rfl (Ev.step rfl ?_)
    refine e_gR rfl rfl (fk q4.1 rfl) q4.2.2.2.1.1 ?_
    refine Ev.step rfl ?_
    obtain ⟨q7, k⟩ := k
    refine Ev.step rfl ⟨⟨4, _, by decide, by decide, q4.2.2.2.1.2, q7⟩, ?_⟩
    exact Ev.step rfl ⟨(Nat.le_of_ble_eq_true rfl), _, _, _, q4.1, rfl, (Nat.le_of_ble_eq_true rfl), rfl, k⟩
  · replace k := k.2 c
    refine Ev.step rfl (Ev.step rfl (Ev.step rfl ?_))
    refine e_gR rfl rfl (fk q3.1 rfl) q3.2.1.1 ?_
    refine Ev.step rfl ?_
    obtain ⟨q8, k⟩ := k
    refine Ev.step rfl ⟨⟨_, q3.2.1.2, q8⟩, ?_⟩
    refine Ev.step rfl ?_
    refine e_gR rfl rfl (fk q3.1 rfl) q3.2.2.1.1 ?_
    refine Ev.step rfl ?_
    obtain ⟨q9, k⟩ := k
    refine Ev.step rfl ⟨⟨3, _, by decide, by decide, q3.2.2.1.2, q9⟩, ?_⟩
    refine Ev.step rfl ?_
    exact Ev.step rfl ⟨(Nat.le_of_ble_eq_true rfl), _, _, _, q4.1, rfl, (Nat.le_of_ble_eq_true rfl), rfl, k⟩
theorem w78_51 {d a0 a2 a3 : Nat} {i1 i4 : Int32} {w5 : AV} {h : AH} {P : PT} (Aa0 : OB h a0 7 kP) (Aa3 : OB h a3 7 kP) (Aa2 : OB h a2 7 kP) (k : vp_in 0 5 ∧ vp_in (i1 - 1) 5 ∧ Ev d 48 0 [vR (some a2), vI i4, vU] [] (wL h (a0 + 1) ((i1 - 1).toNatClampNeg) (hL h (a3 + 1) ((0 : Int32).toNatClampNeg))) (CK d 78 P 125 [vR (some a0), vI i1, vR (some a2), vR (some a3), vI i4, w5] [])) : Ev (d + 1) 78 51 [vR (some a0), vI i1, vR (some a2), vR (some a3), vI i4, w5] [] h P := by
  refine Ev.step rfl ?_
  refine e_gR rfl rfl (fk Aa0.1 rfl) Aa0.2.1.1 ?_
  refine Ev.step rfl (Ev.step rfl (Ev.step rfl (Ev.step rfl ?_)))
  refine e_gR rfl rfl (fk Aa3.1 rfl) Aa3.2.1.1 ?_
  refine Ev.step rfl ?_
  obtain ⟨q1, k⟩ := k
  refine Ev.step rfl ⟨⟨_, Aa3.2.1.2, q1⟩, ?_⟩
  obtain ⟨q2, k⟩ := k
  refine Ev.step rfl ⟨⟨_, Aa0.2.1.2, q2⟩, ?_⟩
  refine Ev.step rfl (Ev.step rfl (Ev.step rfl ?_))
  exact Ev.step rfl ⟨(Nat.le_of_ble_eq_true rfl), _, _, _, Aa2.1, rfl, (Nat.le_of_ble_eq_true rfl), rfl, k⟩
theorem w78_99 {d a0 a2 a3 a5 : Nat} {i1 i4 : Int32} {h : AH} {P : PT} (Aa3 : OB h a3 7 kP) (k : vp_in 0 6 ∧ RT h (some a5) 7 ∧ Ev d 78 107 [vR (some a0), vI i1, vR (some a2), vR (some a3), vI i4, vR (some a5)] [] (wR h (a3 + 3) ((0 : Int32).toNatClampNeg) (some a5)) P) : Ev d 78 99 [vR (some a0), vI i1, vR (some a2), vR (some a3), vI i4, vR (some a5)] [] h P := by
  refine Ev.step rfl ?_
  refine e_gR rfl rfl (fk Aa3.1 rfl) Aa3.2.2.2.1.1 ?_
  refine Ev.step rfl (Ev.step rfl ?_)
  obtain ⟨q1, k⟩ := k
  obtain ⟨q2, k⟩ := k
  refine Ev.step rfl ⟨⟨4, _, by decide, by decide, Aa3.2.2.2.1.2, q1, q2⟩, ?_⟩
  exact k
theorem w78_107 {d a0 a2 a3 a5 : Nat} {i1 i4 : Int32} {h : AH} {P : PT} (Aa0 : OB h a0 7 kP) (Aa2 : OB h a2 7 kP) (k : vp_in i4 5 ∧ vp_in (i1 - 1) 5 ∧ Ev d 48 0 [vR (some a2), vI i4, vU] [] (wL h (a0 + 1) ((i1 - 1).toNatClampNeg) (hL h (a2 + 1) i4.toNatClampNeg)) (CK d 78 P 125 [vR (some a0), vI i1, vR (some a2), vR (some a3), vI i4, vR (some a5)] [])) : Ev (d + 1) 78 107 [vR (some a0), vI i1, vR (some a2), vR (some a3), vI i4, vR (some a5)] [] h P := by
  refine Ev.step rfl ?_
  refine e_gR rfl rfl (fk Aa0.1 rfl) Aa0.2.1.1 ?_
  refine Ev.step rfl (Ev.step rfl (Ev.step rfl (Ev.step rfl ?_)))
  refine e_gR rfl rfl (fk Aa2.1 rfl) Aa2.2.1.1 ?_
  refine Ev.step rfl ?_
  obtain ⟨q1, k⟩ := k
  refine Ev.step rfl ⟨⟨_, Aa2.2.1.2, q1⟩, ?_⟩
  obtain ⟨q2, k⟩ := k
  refine Ev.step rfl ⟨⟨_, Aa0.2.1.2, q2⟩, ?_⟩
  refine Ev.step rfl (Ev.step rfl ?_)
  exact Ev.step rfl ⟨(Nat.le_of_ble_eq_true rfl), _, _, _, Aa2.1, rfl, (Nat.le_of_ble_eq_true rfl), rfl, k⟩
theorem w78_128 {d a0 a2 a3 : Nat} {i1 i4 : Int32} {w5 : AV} {h : AH} {P : PT} (k : P (.inl none) h) : Ev d 78 128 [vR (some a0), vI i1, vR (some a2), vR (some a3), vI i4, w5] [] h P := by
  refine Ev.step rfl ⟨rfl, k⟩
theorem w79_0 {d a0 : Nat} {i1 : Int32} {h : AH} {P : PT} (Aa0 : OB h a0 7 kP) (k : vp_in (i1 + 1) 6 ∧ ∃ b0, hR h (a0 + 3) ((i1 + 1).toNatClampNeg) = some b0 ∧ vp_in i1 6 ∧ ∃ b1, hR h (a0 + 3) i1.toNatClampNeg = some b1 ∧ OB h b1 7 kP ∧ (((hI h b1 83) = 0 → vp_in i1 5 ∧ OB h b0 7 kP ∧ vp_in 0 6 ∧ Ev d 47 0 [vR (some b1), vI (hI h b1 96), vL (hL h (a0 + 1) i1.toNatClampNeg), vU, vR none, vR (hR h (b0 + 3) ((0 : Int32).toNatClampNeg)), vU] [] h (CK d 79 P 82 [vR (some a0), vI i1, vR (some b0), vR (some b1)] [])) ∧ (¬ (hI h b1 83) = 0 → OB h b0 7 kP ∧ vp_in 0 5 ∧ vp_in 0 5 ∧ Ev d 47 0 [vR (some b1), vI (hI h b1 96), vL (hL h (b0 + 1) ((0 : Int32).toNatClampNeg)), vU, vR (hR h (b0 + 2) ((0 : Int32).toNatClampNeg)), vR none, vU] [] h (CK d 79 P 41 [vR (some a0), vI i1, vR (some b0), vR (some b1)] [])))) : Ev (d + 1) 79 0 [vR (some a0), vI i1, vU, vU] [] h P := by
  refine Ev.step rfl ?_
  refine e_gR rfl rfl (fk Aa0.1 rfl) Aa0.2.2.2.1.1 ?_
  refine Ev.step rfl (Ev.step rfl (Ev.step rfl ?_))
  obtain ⟨q1, k⟩ := k
  refine Ev.step rfl ⟨⟨4, _, by decide, by decide, Aa0.2.2.2.1.2, q1⟩, ?_⟩
  obtain ⟨b0, hbb0, k⟩ := k
  rw [hbb0]
  refine Ev.step rfl (Ev.step rfl ?_)
  refine e_gR rfl rfl (fk Aa0.1 rfl) Aa0.2.2.2.1.1 ?_
  refine Ev.step rfl ?_
  obtain ⟨q2, k⟩ := k
  refine Ev.step rfl ⟨⟨4, _, by decide, by decide, Aa0.2.2.2.1.2, q2⟩, ?_⟩
  obtain ⟨b1, hbb1, k⟩ := k
  rw [hbb1]
  refine Ev.step rfl (Ev.step rfl ?_)
  obtain ⟨q3, k⟩ := k
  refine Ev.step rfl ⟨(fk q3.1 rfl), ?_⟩
  refine Ev.step rfl ⟨fun c => ?_, fun c => ?_⟩
  · replace k := k.1 c
    refine Ev.step rfl (Ev.step rfl ?_)
    refine Ev.step rfl ⟨(fk q3.1 rfl), ?_⟩
    refine Ev.step rfl ?_
    refine e_gR rfl rfl (fk Aa0.1 rfl) Aa0.2.1.1 ?_
    refine Ev.step rfl ?_
    obtain ⟨q4, k⟩ := k
    refine Ev.step rfl ⟨⟨_, Aa0.2.1.2, q4⟩, ?_⟩
    refine Ev.step rfl (Ev.step rfl ?_)
    obtain ⟨q5, k⟩ := k
    refine e_gR rfl rfl (fk q5.1 rfl) q5.2.2.2.1.1 ?_
    refine Ev.step rfl ?_
    obtain ⟨q6, k⟩ := k
    refine Ev.step rfl ⟨⟨4, _, by decide, by decide, q5.2.2.2.1.2, q6⟩, ?_⟩
    exact Ev.step rfl ⟨(Nat.le_of_ble_eq_true rfl), _, _, _, q3.1, rfl, (Nat.le_of_ble_eq_true rfl), rfl, k⟩
  · replace k := k.2 c
    refine Ev.step rfl (Ev.step rfl ?_)
    refine Ev.step rfl ⟨(fk q3.1 rfl), ?_⟩
    refine Ev.step rfl ?_
    obtain ⟨q7, k⟩ := k
    refine e_gR rfl rfl (fk q7.1 rfl) q7.2.1.1 ?_
    refine Ev.step rfl ?_
    obtain ⟨q8, k⟩ := k
    refine Ev.step rfl ⟨⟨_, q7.2.1.2, q8⟩, ?_⟩
    refine Ev.step rfl ?_
    refine e_gR rfl rfl (fk q7.1 rfl) q7.2.2.1.1 ?_
    refine Ev.step rfl ?_
    obtain ⟨q9, k⟩ := k
    refine Ev.step rfl ⟨⟨3, _, by decide, by decide, q7.2.2.1.2, q9⟩, ?_⟩
    refine Ev.step rfl ?_
    exact Ev.step rfl ⟨(Nat.le_of_ble_eq_true rfl), _, _, _, q3.1, rfl, (Nat.le_of_ble_eq_true rfl), rfl, k⟩
theorem w79_44 {d a0 a2 a3 : Nat} {i1 : Int32} {h : AH} {P : PT} (Aa2 : OB h a2 7 kP) (k : Ev d 48 0 [vR (some a2), vI 0, vU] [] h (CK d 79 P 46 [vR (some a0), vI i1, vR (some a2), vR (some a3)] [])) : Ev (d + 1) 79 44 [vR (some a0), vI i1, vR (some a2), vR (some a3)] [] h P := by
  refine Ev.step rfl (Ev.step rfl ?_)
  exact Ev.step rfl ⟨(Nat.le_of_ble_eq_true rfl), _, _, _, Aa2.1, rfl, (Nat.le_of_ble_eq_true rfl), rfl, k⟩
theorem w79_49 {d a0 a2 a3 : Nat} {i1 : Int32} {h : AH} {P : PT} (Aa0 : OB h a0 7 kP) (Aa2 : OB h a2 7 kP) (k : vp_in 0 5 ∧ vp_in i1 5 ∧ Ev d 79 101 [vR (some a0), vI i1, vR (some a2), vR (some a3)] [] (wL h (a0 + 1) i1.toNatClampNeg (hL h (a2 + 1) ((0 : Int32).toNatClampNeg))) P) : Ev d 79 49 [vR (some a0), vI i1, vR (some a2), vR (some a3)] [] h P := by
  refine Ev.step rfl ?_
  refine e_gR rfl rfl (fk Aa0.1 rfl) Aa0.2.1.1 ?_
  refine Ev.step rfl (Ev.step rfl ?_)
  refine e_gR rfl rfl (fk Aa2.1 rfl) Aa2.2.1.1 ?_
  refine Ev.step rfl ?_
  obtain ⟨q1, k⟩ := k
  refine Ev.step rfl ⟨⟨_, Aa2.2.1.2, q1⟩, ?_⟩
  obtain ⟨q2, k⟩ := k
  refine Ev.step rfl ⟨⟨_, Aa0.2.1.2, q2⟩, ?_⟩
  refine Ev.step rfl ?_
  exact k
theorem w79_85 {d a0 a2 a3 : Nat} {i1 : Int32} {h : AH} {P : PT} (Aa0 : OB h a0 7 kP) (Aa2 : OB h a2 7 kP) (k : vp_in 0 5 ∧ vp_in i1 5 ∧ Ev d 49 0 [vR (some a2)] [] (wL h (a0 + 1) i1.toNatClampNeg (hL h (a2 + 1) ((0 : Int32).toNatClampNeg))) (CK d 79 P 98 [vR (some a0), vI i1, vR (some a2), vR (some a3)] [])) : Ev (d + 1) 79 85 [vR (some a0), vI i1, vR (some a2), vR (some a3)] [] h P := by
  refine Ev.step rfl ?_
  refine e_gR rfl rfl (fk Aa0.1 rfl) Aa0.2.1.1 ?_
  refine Ev.step rfl (Ev.step rfl ?_)
  refine e_gR rfl rfl (fk Aa2.1 rfl) Aa2.2.1.1 ?_
  refine Ev.step rfl ?_
  obtain ⟨q1, k⟩ := k
  refine Ev.step rfl ⟨⟨_, Aa2.2.1.2, q1⟩, ?_⟩
  obtain ⟨q2, k⟩ := k
  refine Ev.step rfl ⟨⟨_, Aa0.2.1.2, q2⟩, ?_⟩
  refine Ev.step rfl ?_
  exact Ev.step rfl ⟨(Nat.le_of_ble_eq_true rfl), _, _, _, Aa2.1, rfl, (Nat.le_of_ble_eq_true rfl), rfl, k⟩
theorem w79_101 {d a0 a2 a3 : Nat} {i1 : Int32} {h : AH} {P : PT} (k : P (.inl none) h) : Ev d 79 101 [vR (some a0), vI i1, vR (some a2), vR (some a3)] [] h P := by
  refine Ev.step rfl ⟨rfl, k⟩
theorem w80_0 {d a0 : Nat} {i1 : Int32} {h : AH} {P : PT} (Aa0 : OB h a0 7 kP) (k : vp_in i1 6 ∧ ∃ b0, hR h (a0 + 3) i1.toNatClampNeg = some b0 ∧ vp_in (i1 + 1) 6 ∧ ∃ b1, hR h (a0 + 3) ((i1 + 1).toNatClampNeg) = some b1 ∧ OB h b0 7 kP ∧ ((¬ (hI h b0 83) = 0 → Ev (d + 1) 80 44 [vR (some a0), vI i1, vR (some b0), vR (some b1), vU] [] h P) ∧ ((hI h b0 83) = 0 → vp_in i1 5 ∧ OB h b1 7 kP ∧ vp_in 0 6 ∧ Ev d 47 0 [vR (some b0), vI (hI h b0 96), vL (hL h (a0 + 1) i1.toNatClampNeg), vU, vR none, vR (hR h (b1 + 3) ((0 : Int32).toNatClampNeg)), vU] [] h (CK d 80 P 41 [vR (some a0), vI i1, vR (some b0), vR (some b1), vU] [])))) : Ev (d + 1) 80 0 [vR (some a0), vI i1, vU, vU, vU] [] h P := by
  refine Ev.step rfl ?_
  refine e_gR rfl rfl (fk Aa0.1 rfl) Aa0.2.2.2.1.1 ?_
  refine Ev.step rfl ?_
  obtain ⟨q1, k⟩ := k
  refine Ev.step rfl ⟨⟨4, _, by decide, by decide, Aa0.2.2.2.1.2, q1⟩, ?_⟩
  obtain ⟨b0, hbb0, k⟩ := k
  rw [hbb0]
  refine Ev.step rfl (Ev.step rfl ?_)
  refine e_gR rfl rfl (fk Aa0.1 rfl) Aa0.2.2.2.1.1 ?_
  refine Ev.step rfl (Ev.step rfl (Ev.step rfl ?_))
  obtain ⟨q2, k⟩ := k
  refine Ev.step rfl ⟨⟨4, _, by decide, by decide, Aa0.2.2.2.1.2, q2⟩, ?_⟩
  obtain ⟨b1, hbb1, k⟩ := k
  rw [hbb1]
  refine Ev.step rfl (Ev.step rfl ?_)
  obtain ⟨q3, k⟩ := k
  refine Ev.step rfl ⟨(fk q3.1 rfl), ?_⟩
  refine Ev.step rfl ⟨fun c => ?_, fun c => ?_⟩
  · replace k := k.1 c
    exact k
  · replace k := k.2 (Decidable.not_not.mp c)
    refine Ev.step rfl (Ev.step rfl ?_)
    refine Ev.step rfl ⟨(fk q3.1 rfl), ?_⟩
    refine Ev.step rfl ?_
    refine e_gR rfl rfl (fk Aa0.1 rfl) Aa0.2.1.1 ?_
    refine Ev.step rfl ?_
    obtain ⟨q4, k⟩ := k
    refine Ev.step rfl ⟨⟨_, Aa0.2.1.2, q4⟩, ?_⟩
    refine Ev.step rfl (Ev.step rfl ?_)
    obtain ⟨q5, k⟩ := k
    refine e_gR rfl rfl (fk q5.1 rfl) q5.2.2.2.1.1 ?_
    refine Ev.step rfl ?_
    obtain ⟨q6, k⟩ := k
    refine Ev.step rfl ⟨⟨4, _, by decide, by decide, q5.2.2.2.1.2, q6⟩, ?_⟩
    exact Ev.step rfl ⟨(Nat.le_of_ble_eq_true rfl), _, _, _, q3.1, rfl, (Nat.le_of_ble_eq_true rfl), rfl, k⟩
theorem w80_44 {d a0 a2 a3 : Nat} {i1 : Int32} {w4 : AV} {h : AH} {P : PT} (k : Ev d 80 47 [vR (some a0), vI i1, vR (some a2), vR (some a3), vI 0] [] h P) : Ev d 80 44 [vR (some a0), vI i1, vR (some a2), vR (some a3), w4] [] h P := by
  refine Ev.step rfl (Ev.step rfl ?_)
  exact k
theorem w80_47 {d a0 a2 a3 : Nat} {i1 i4 : Int32} {h : AH} {P : PT} (Aa3 : OB h a3 7 kP) (Aa2 : OB h a2 7 kP) (k : (((hI h a3 96) ≤ i4 → Ev (d + 1) 80 101 [vR (some a0), vI i1, vR (some a2), vR (some a3), vI i4] [] (wR h a2 102 (hR h a3 102)) P) ∧ (i4 < (hI h a3 96) → vp_in i4 5 ∧ vp_in i4 5 ∧ vp_in (i4 + 1) 6 ∧ Ev d 47 0 [vR (some a2), vI (hI h a2 96), vL (hL h (a3 + 1) i4.toNatClampNeg), vU, vR (hR h (a3 + 2) i4.toNatClampNeg), vR (hR h (a3 + 3) ((i4 + 1).toNatClampNeg)), vU] [] h (CK d 80 P 84 [vR (some a0), vI i1, vR (some a2), vR (some a3), vI i4] [])))) : Ev (d + 1) 80 47 [vR (some a0), vI i1, vR (some a2), vR (some a3), vI i4] [] h P := by
  refine Ev.step rfl (Ev.step rfl ?_)
  refine Ev.step rfl ⟨(fk Aa3.1 rfl), ?_⟩
  refine Ev.step rfl ⟨fun c => ?_, fun c => ?_⟩
  · replace k := k.1 c
    refine Ev.step rfl (Ev.step rfl ?_)
    refine Ev.step rfl ⟨(fk Aa3.1 rfl), ?_⟩
    refine Ev.step rfl ⟨(fk Aa2.1 rfl), ?_⟩
    exact k
  · replace k := k.2 (Int32.not_le.mp c)
    refine Ev.step rfl (Ev.step rfl ?_)
    refine Ev.step rfl ⟨(fk Aa2.1 rfl), ?_⟩
    refine Ev.step rfl ?_
    refine e_gR rfl rfl (fk Aa3.1 rfl) Aa3.2.1.1 ?_
    refine Ev.step rfl ?_
    obtain ⟨q1, k⟩ := k
    refine Ev.step rfl ⟨⟨_, Aa3.2.1.2, q1⟩, ?_⟩
    refine Ev.step rfl ?_
    refine e_gR rfl rfl (fk Aa3.1 rfl) Aa3.2.2.1.1 ?_
    refine Ev.step rfl ?_
    obtain ⟨q2, k⟩ := k
    refine Ev.step rfl ⟨⟨3, _, by decide, by decide, Aa3.2.2.1.2, q2⟩, ?_⟩
    refine Ev.step rfl ?_
    refine e_gR rfl rfl (fk Aa3.1 rfl) Aa3.2.2.2.1.1 ?_
    refine Ev.step rfl (Ev.step rfl (Ev.step rfl ?_))
    obtain ⟨q3, k⟩ := k
    refine Ev.step rfl ⟨⟨4, _, by decide, by decide, Aa3.2.2.2.1.2, q3⟩, ?_⟩
    exact Ev.step rfl ⟨(Nat.le_of_ble_eq_true rfl), _, _, _, Aa2.1, rfl, (Nat.le_of_ble_eq_true rfl), rfl, k⟩
theorem w80_87 {d a0 a2 a3 : Nat} {i1 i4 : Int32} {h : AH} {P : PT} (k : Ev d 80 47 [vR (some a0), vI i1, vR (some a2), vR (some a3), vI (i4 + 1)] [] h P) : Ev d 80 87 [vR (some a0), vI i1, vR (some a2), vR (some a3), vI i4] [] h P := by
  refine Ev.step rfl (Ev.step rfl ?_)
  exact k
theorem w80_101 {d a0 a2 a3 : Nat} {i1 i4 : Int32} {h : AH} {P : PT} (Aa0 : OB h a0 7 kP) (k : Ev d 48 0 [vR (some a0), vI i1, vU] [] h (CK d 80 P 103 [vR (some a0), vI i1, vR (some a2), vR (some a3), vI i4] [])) : Ev (d + 1) 80 101 [vR (some a0), vI i1, vR (some a2), vR (some a3), vI i4] [] h P := by
  refine Ev.step rfl (Ev.step rfl ?_)
  exact Ev.step rfl ⟨(Nat.le_of_ble_eq_true rfl), _, _, _, Aa0.1, rfl, (Nat.le_of_ble_eq_true rfl), rfl, k⟩
theorem w80_106 {d a0 a2 a3 : Nat} {i1 i4 : Int32} {h : AH} {P : PT} (k : P (.inl none) h) : Ev d 80 106 [vR (some a0), vI i1, vR (some a2), vR (some a3), vI i4] [] h P := by
  refine Ev.step rfl ⟨rfl, k⟩
theorem w81_0 {d a0 : Nat} {h : AH} {P : PT} (k : P (.inl none) h) : Ev d 81 0 [vR (some a0)] [] h P := by
  refine Ev.step rfl ?_
  refine Ev.step rfl ⟨(Nat.le_of_ble_eq_true rfl), ?_⟩
  refine Ev.step rfl ⟨rfl, k⟩
theorem w82_0 {d a0 a1 : Nat} {l2 l4 : Int64} {h : AH} {P : PT} (Aa0 : OB h a0 15 kE) (Aa1 : OB h a1 14 kE) (k : Ev d 70 0 [vR (some a1), vL l2, vU, vU] [] (wL h a0 129 l4) (CK d 82 P 9 [vR (some a0), vR (some a1), vL l2, vU, vL l4, vU] [vR (some a0)])) : Ev (d + 1) 82 0 [vR (some a0), vR (some a1), vL l2, vU, vL l4, vU] [] h P := by
  refine Ev.step rfl (Ev.step rfl ?_)
  refine Ev.step rfl ⟨(fk Aa0.1 rfl), ?_⟩
  refine Ev.step rfl (Ev.step rfl (Ev.step rfl ?_))
  exact Ev.step rfl ⟨(Nat.le_of_ble_eq_true rfl), _, _, _, Aa1.1, rfl, (Nat.le_of_ble_eq_true rfl), rfl, k⟩
theorem w82_12 {d a0 a1 as0 as1 : Nat} {l2 l4 : Int64} {h : AH} {P : PT} (Aas1 : OB h as1 15 kE) (k : Ev d 82 15 [vR (some a0), vR (some a1), vL l2, vU, vL l4, vU] [] (wR h as1 122 (some as0)) P) : Ev d 82 12 [vR (some a0), vR (some a1), vL l2, vU, vL l4, vU] [vR (some as0), vR (some as1)] h P := by
  refine Ev.step rfl ⟨(fk Aas1.1 rfl), ?_⟩
  exact k
theorem w82_15 {d a0 a1 : Nat} {l2 l4 : Int64} {h : AH} {P : PT} (Aa0 : OB h a0 15 kE) (k : ∃ b0, hR h a0 122 = some b0 ∧ OB h b0 7 kP ∧ Ev d 46 0 [vR (some b0), vL l2, vU, vU] [] h (CK d 82 P 21 [vR (some a0), vR (some a1), vL l2, vU, vL l4, vU] [vR (some a0)])) : Ev (d + 1) 82 15 [vR (some a0), vR (some a1), vL l2, vU, vL l4, vU] [] h P := by
  refine Ev.step rfl (Ev.step rfl ?_)
  obtain ⟨b0, hbb0, k⟩ := k
  refine e_gR rfl rfl (fk Aa0.1 rfl) hbb0 ?_
  refine Ev.step rfl ?_
  obtain ⟨q1, k⟩ := k
  exact Ev.step rfl ⟨(Nat.le_of_ble_eq_true rfl), _, _, _, q1.1, rfl, (Nat.le_of_ble_eq_true rfl), rfl, k⟩
theorem w82_24 {d a0 a1 as1 : Nat} {is0 : Int32} {l2 l4 : Int64} {h : AH} {P : PT} (Aas1 : OB h as1 15 kE) (k : P (.inl none) (wI h as1 124 is0)) : Ev d 82 24 [vR (some a0), vR (some a1), vL l2, vU, vL l4, vU] [vI is0, vR (some as1)] h P := by
  refine Ev.step rfl ⟨(fk Aas1.1 rfl), ?_⟩
  refine Ev.step rfl ⟨rfl, k⟩
theorem w83_0 {d a0 : Nat} {h : AH} {P : PT} (Aa0 : OB h a0 15 kE) (k : (((hR h a0 122) = none → (((hR h a0 122) = none → P (.inl (some (vR none))) h) ∧ (¬ (hR h a0 122) = none → ∃ b0, (hR h a0 122) = some b0 ∧ OB h b0 7 kP ∧ vp_in (hI h a0 124) 5 ∧ (((hL h (b0 + 1) ((hI h a0 124).toNatClampNeg)) ≤ (hL h a0 129) → ∃ b1, (hR h a0 122) = some b1 ∧ OB h b1 7 kP ∧ vp_in (hI h a0 124) 5 ∧ P (.inl (some (vR (hR (wI h a0 124 ((hI h a0 124) + 1)) (b1 + 2) ((hI h a0 124).toNatClampNeg))))) (wI h a0 124 ((hI h a0 124) + 1))) ∧ ((hL h a0 129) < (hL h (b0 + 1) ((hI h a0 124).toNatClampNeg)) → P (.inl (some (vR none))) h))))) ∧ (¬ (hR h a0 122) = none → ∃ b0, (hR h a0 122) = some b0 ∧ OB h b0 7 kP ∧ (((hI h a0 124) < (hI h b0 96) → (((hR h a0 122) = none → P (.inl (some (vR none))) h) ∧ (¬ (hR h a0 122) = none → ∃ b1, (hR h a0 122) = some b1 ∧ OB h b1 7 kP ∧ vp_in (hI h a0 124) 5 ∧ (((hL h (b1 + 1) ((hI h a0 124).toNatClampNeg)) ≤ (hL h a0 129) → ∃ b2, (hR h a0 122) = some b2 ∧ OB h b2 7 kP ∧ vp_in (hI h a0 124) 5 ∧ P (.inl (some (vR (hR (wI h a0 124 ((hI h a0 124) + 1)) (b2 + 2) ((hI h a0 124).toNatClampNeg))))) (wI h a0 124 ((hI h a0 124) + 1))) ∧ ((hL h a0 129) < (hL h (b1 + 1) ((hI h a0 124).toNatClampNeg)) → P (.inl (some (vR none))) h))))) ∧ ((hI h b0 96) ≤ (hI h a0 124) → ∃ b1, (hR h a0 122) = some b1 ∧ OB h b1 7 kP ∧ Ev d 83 32 [vR (some a0)] [] (wR h a0 122 (hR h b1 102)) P))))) : Ev d 83 0 [vR (some a0)] [] h P := by
  refine Ev.step rfl ?_
  refine Ev.step rfl ⟨(fk Aa0.1 rfl), ?_⟩
  refine Ev.step rfl ⟨fun c => ?_, fun c => ?_⟩
  · replace k := k.1 c
    refine Ev.step rfl ?_
    refine Ev.step rfl ⟨(fk Aa0.1 rfl), ?_⟩
    refine Ev.step rfl ⟨fun c => ?_, fun c => ?_⟩
    · replace k := k.1 c
      refine Ev.step rfl (Ev.step rfl ?_)
      refine Ev.step rfl ⟨rfl, k⟩
    · replace k := k.2 c
      refine Ev.step rfl ?_
      refine Ev.step rfl ⟨(fk Aa0.1 rfl), ?_⟩
      obtain ⟨b0, hbb0, k⟩ := k
      refine e_nn hbb0 ?_
      obtain ⟨q1, k⟩ := k
      refine e_gR rfl rfl (fk q1.1 rfl) q1.2.1.1 ?_
      refine Ev.step rfl ?_
      refine Ev.step rfl ⟨(fk Aa0.1 rfl), ?_⟩
      obtain ⟨q2, k⟩ := k
      refine Ev.step rfl ⟨⟨_, q1.2.1.2, q2⟩, ?_⟩
      refine Ev.step rfl ?_
      refine Ev.step rfl ⟨(fk Aa0.1 rfl), ?_⟩
      refine Ev.step rfl ?_
      refine Ev.step rfl ⟨fun c => ?_, fun c => ?_⟩
      · replace k := k.1 ((lgc_le (hL h (b0 + 1) ((hI h a0 124).toNatClampNeg)) (hL h a0 129)).mp c)
        refine Ev.step rfl ?_
        refine Ev.step rfl ⟨(fk Aa0.1 rfl), ?_⟩
        obtain ⟨b1, hbb1, k⟩ := k
        refine e_nn hbb1 ?_
        obtain ⟨q3, k⟩ := k
        refine e_gR rfl rfl (fk q3.1 rfl) q3.2.2.1.1 ?_
        refine Ev.step rfl ?_
        refine Ev.step rfl (Or.inr ?_)
        refine Ev.step rfl ⟨(fk Aa0.1 rfl), ?_⟩
        refine Ev.step rfl (Ev.step rfl (Ev.step rfl ?_))
        refine Ev.step rfl ⟨(fk Aa0.1 rfl), ?_⟩
        obtain ⟨q4, k⟩ := k
        refine Ev.step rfl ⟨⟨3, _, by decide, by decide, q3.2.2.1.2, q4⟩, ?_⟩
        refine Ev.step rfl ⟨rfl, k⟩
      · replace k := k.2 (Int64.not_le.mp (fun z => c ((lgc_le (hL h (b0 + 1) ((hI h a0 124).toNatClampNeg)) (hL h a0 129)).mpr z)))
        refine Ev.step rfl (Ev.step rfl ?_)
        refine Ev.step rfl ⟨rfl, k⟩
  · replace k := k.2 c
    refine Ev.step rfl ?_
    refine Ev.step rfl ⟨(fk Aa0.1 rfl), ?_⟩
    refine Ev.step rfl ?_
    refine Ev.step rfl ⟨(fk Aa0.1 rfl), ?_⟩
    obtain ⟨b0, hbb0, k⟩ := k
    refine e_nn hbb0 ?_
    obtain ⟨q5, k⟩ := k
    refine Ev.step rfl ⟨(fk q5.1 rfl), ?_⟩
    refine Ev.step rfl ⟨fun c => ?_, fun c => ?_⟩
    · replace k := k.1 c
      refine Ev.step rfl ?_
      refine Ev.step rfl ⟨(fk Aa0.1 rfl), ?_⟩
      refine Ev.step rfl ⟨fun c => ?_, fun c => ?_⟩
      · replace k := k.1 c
        refine Ev.step rfl (Ev.step rfl ?_)
        refine Ev.step rfl ⟨rfl, k⟩
      · replace k := k.2 c
        refine Ev.step rfl ?_
        refine Ev.step rfl ⟨(fk Aa0.1 rfl), ?_⟩
        obtain ⟨b1, hbb1, k⟩ := k
        refine e_nn hbb1 ?_
        obtain ⟨q6, k⟩ := k
        refine e_gR rfl rfl (fk q6.1 rfl) q6.2.1.1 ?_
        refine Ev.step rfl ?_
        refine Ev.step rfl ⟨(fk Aa0.1 rfl), ?_⟩
        obtain ⟨q7, k⟩ := k
        refine Ev.step rfl ⟨⟨_, q6.2.1.2, q7⟩, ?_⟩
        refine Ev.step rfl ?_
        refine Ev.step rfl ⟨(fk Aa0.1 rfl), ?_⟩
        refine Ev.step rfl ?_
        refine Ev.step rfl ⟨fun c => ?_, fun c => ?_⟩
        · replace k := k.1 ((lgc_le (hL h (b1 + 1) ((hI h a0 124).toNatClampNeg)) (hL h a0 129)).mp c)
          refine Ev.step rfl ?_
          refine Ev.step rfl ⟨(fk Aa0.1 rfl), ?_⟩
          obtain ⟨b2, hbb2, k⟩ := k
          refine e_nn hbb2 ?_
          obtain ⟨q8, k⟩ := k
          refine e_gR rfl rfl (fk q8.1 rfl) q8.2.2.1.1 ?_
          refine Ev.step rfl ?_
          refine Ev.step rfl (Or.inr ?_)
          refine Ev.step rfl ⟨(fk Aa0.1 rfl), ?_⟩
          refine Ev.step rfl (Ev.step rfl (Ev.step rfl ?_))
          refine Ev.step rfl ⟨(fk Aa0.1 rfl), ?_⟩
          obtain ⟨q9, k⟩ := k
          refine Ev.step rfl ⟨⟨3, _, by decide, by decide, q8.2.2.1.2, q9⟩, ?_⟩
          refine Ev.step rfl ⟨rfl, k⟩
        · replace k := k.2 (Int64.not_le.mp (fun z => c ((lgc_le (hL h (b1 + 1) ((hI h a0 124).toNatClampNeg)) (hL h a0 129)).mpr z)))
          refine Ev.step rfl (Ev.step rfl ?_)
          refine Ev.step rfl ⟨rfl, k⟩
    · replace k := k.2 (Int32.not_lt.mp c)
      refine Ev.step rfl (Ev.step rfl ?_)
      refine Ev.step rfl ⟨(fk Aa0.1 rfl), ?_⟩
      obtain ⟨b1, hbb1, k⟩ := k
      refine e_nn hbb1 ?_
      obtain ⟨q10, k⟩ := k
      refine Ev.step rfl ⟨(fk q10.1 rfl), ?_⟩
      refine Ev.step rfl ⟨(fk Aa0.1 rfl), ?_⟩
      exact k
theorem w83_32 {d a0 : Nat} {h : AH} {P : PT} (Aa0 : OB h a0 15 kE) (k : Ev d 83 0 [vR (some a0)] [] (wI h a0 124 0) P) : Ev d 83 32 [vR (some a0)] [] h P := by
  refine Ev.step rfl (Ev.step rfl ?_)
  refine Ev.step rfl ⟨(fk Aa0.1 rfl), ?_⟩
  refine Ev.step rfl ?_
  exact k
