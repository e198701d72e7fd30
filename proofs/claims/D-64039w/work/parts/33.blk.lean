/-! deps: 25 -/
/-! blocks (printed by gen_blocks.py) -/
theorem w19_0 {d a0 : Nat} {h : AH} {P : PT} (Aa0 : OB h a0 0 kX) (k : vp_in 1 40 ∧ vp_in (hI h (a0 + 3) ((1 : Int32).toNatClampNeg)) 4 ∧ ∃ b0, hR h (a0 + 1) ((hI h (a0 + 3) ((1 : Int32).toNatClampNeg)).toNatClampNeg) = some b0 ∧ vp_in 0 40 ∧ ((¬ (hI h (a0 + 3) ((0 : Int32).toNatClampNeg)) = 1 → (((0 : Int32) = 0 → 1 ≤ hC h ∧ 4 ≤ hS h ∧ Ev d 19 55 [vR (some a0), vR (some b0), vI 0, vU, vU, vU] [vR (some (hN h))] (al h (11, 0) 4) P) ∧ (¬ (0 : Int32) = 0 → 1 ≤ hC h ∧ 4 ≤ hS h ∧ Ev d 19 35 [vR (some a0), vR (some b0), vI 0, vU, vU, vU] [vR (some (hN h))] (al h (11, 0) 4) P))) ∧ ((hI h (a0 + 3) ((0 : Int32).toNatClampNeg)) = 1 → (((1 : Int32) = 0 → 1 ≤ hC h ∧ 4 ≤ hS h ∧ Ev d 19 55 [vR (some a0), vR (some b0), vI 1, vU, vU, vU] [vR (some (hN h))] (al h (11, 0) 4) P) ∧ (¬ (1 : Int32) = 0 → 1 ≤ hC h ∧ 4 ≤ hS h ∧ Ev d 19 35 [vR (some a0), vR (some b0), vI 1, vU, vU, vU] [vR (some (hN h))] (al h (11, 0) 4) P))))) : Ev d 19 0 [vR (some a0), vU, vU, vU, vU, vU] [] h P := by
  refine Ev.step rfl ?_
  refine e_gR rfl rfl (fk Aa0.1 rfl) Aa0.2.1.1 ?_
  refine Ev.step rfl ?_
  refine e_gR rfl rfl (fk Aa0.1 rfl) Aa0.2.2.2.1.1 ?_
  refine Ev.step rfl ?_
  obtain ⟨q1, k⟩ := k
  refine Ev.step rfl ⟨⟨_, Or.inl Aa0.2.2.2.1.2, q1⟩, ?_⟩
  obtain ⟨q2, k⟩ := k
  refine Ev.step rfl ⟨⟨6, _, by decide, by decide, Aa0.2.1.2, q2⟩, ?_⟩
  obtain ⟨b0, hbb0, k⟩ := k
  rw [hbb0]
  refine Ev.step rfl (Ev.step rfl ?_)
  refine e_gR rfl rfl (fk Aa0.1 rfl) Aa0.2.2.2.1.1 ?_
  refine Ev.step rfl ?_
  obtain ⟨q3, k⟩ := k
  refine Ev.step rfl ⟨⟨_, Or.inl Aa0.2.2.2.1.2, q3⟩, ?_⟩
  refine Ev.step rfl ?_
  refine Ev.step rfl ⟨fun c => ?_, fun c => ?_⟩
  · replace k := k.1 c
    refine Ev.step rfl (Ev.step rfl (Ev.step rfl ?_))
    refine Ev.step rfl ⟨fun c => ?_, fun c => ?_⟩
    · replace k := k.1 c
      obtain ⟨q4, k⟩ := k
      obtain ⟨q5, k⟩ := k
      refine Ev.step rfl ⟨q4, q5, ?_⟩
      exact k
    · replace k := k.2 c
      obtain ⟨q6, k⟩ := k
      obtain ⟨q7, k⟩ := k
      refine Ev.step rfl ⟨q6, q7, ?_⟩
      exact k
  · replace k := k.2 (Decidable.not_not.mp c)
    refine Ev.step rfl (Ev.step rfl (Ev.step rfl (Ev.step rfl ?_)))
    refine Ev.step rfl ⟨fun c => ?_, fun c => ?_⟩
    · replace k := k.1 c
      obtain ⟨q8, k⟩ := k
      obtain ⟨q9, k⟩ := k
      refine Ev.step rfl ⟨q8, q9, ?_⟩
      exact k
    · replace k := k.2 c
      obtain ⟨q10, k⟩ := k
      obtain ⟨q11, k⟩ := k
      refine Ev.step rfl ⟨q10, q11, ?_⟩
      exact k
theorem w19_35 {d a0 a1 as0 : Nat} {i2 : Int32} {w3 w4 w5 : AV} {h : AH} {P : PT} (Aa0 : OB h a0 0 kX) (k : Ev d 55 0 [vR (some as0), vR (some (a0 + 5)), vR (some a1), vI 0, vI (-2147483648), vI 2147483647] [] h (CK d 19 P 46 [vR (some a0), vR (some a1), vI i2, w3, w4, w5] [vR (some as0)])) : Ev (d + 1) 19 35 [vR (some a0), vR (some a1), vI i2, w3, w4, w5] [vR (some as0)] h P := by
  refine Ev.step rfl (Or.inr ?_)
  refine Ev.step rfl ?_
  refine e_gR rfl rfl (fk Aa0.1 rfl) Aa0.2.2.2.2.2.1.1 ?_
  refine Ev.step rfl (Ev.step rfl ?_)
  refine Ev.step rfl ⟨rfl, ?_⟩
  refine Ev.step rfl ⟨rfl, ?_⟩
  exact Ev.step rfl ⟨(Nat.le_of_ble_eq_true rfl), trivial, (Nat.le_of_ble_eq_true rfl), rfl, k⟩
theorem w19_49 {d a0 a1 as0 : Nat} {i2 : Int32} {w3 w4 w5 : AV} {h : AH} {P : PT} (k : Ev d 19 82 [vR (some a0), vR (some a1), vI i2, w3, w4, w5] [vR (some as0)] h P) : Ev d 19 49 [vR (some a0), vR (some a1), vI i2, w3, w4, w5] [vR (some as0)] h P := by
  refine Ev.step rfl ?_
  exact k
theorem w19_55 {d a0 a1 as0 : Nat} {i2 : Int32} {w3 w4 w5 : AV} {h : AH} {P : PT} (Aa0 : OB h a0 0 kX) (k : vp_in 2 40 ∧ vp_in 3 40 ∧ vp_in 4 40 ∧ Ev d 55 0 [vR (some as0), vR (some (a0 + 5)), vR (some a1), vI (hI h (a0 + 3) ((2 : Int32).toNatClampNeg)), vI (hI h (a0 + 3) ((3 : Int32).toNatClampNeg)), vI (hI h (a0 + 3) ((4 : Int32).toNatClampNeg))] [] h (CK d 19 P 79 [vR (some a0), vR (some a1), vI i2, w3, w4, w5] [vR (some as0)])) : Ev (d + 1) 19 55 [vR (some a0), vR (some a1), vI i2, w3, w4, w5] [vR (some as0)] h P := by
  refine Ev.step rfl (Or.inr ?_)
  refine Ev.step rfl ?_
  refine e_gR rfl rfl (fk Aa0.1 rfl) Aa0.2.2.2.2.2.1.1 ?_
  refine Ev.step rfl (Ev.step rfl ?_)
  refine e_gR rfl rfl (fk Aa0.1 rfl) Aa0.2.2.2.1.1 ?_
  refine Ev.step rfl ?_
  obtain ⟨q1, k⟩ := k
  refine Ev.step rfl ⟨⟨_, Or.inl Aa0.2.2.2.1.2, q1⟩, ?_⟩
  refine Ev.step rfl ?_
  refine e_gR rfl rfl (fk Aa0.1 rfl) Aa0.2.2.2.1.1 ?_
  refine Ev.step rfl ?_
  obtain ⟨q2, k⟩ := k
  refine Ev.step rfl ⟨⟨_, Or.inl Aa0.2.2.2.1.2, q2⟩, ?_⟩
  refine Ev.step rfl ?_
  refine e_gR rfl rfl (fk Aa0.1 rfl) Aa0.2.2.2.1.1 ?_
  refine Ev.step rfl ?_
  obtain ⟨q3, k⟩ := k
  refine Ev.step rfl ⟨⟨_, Or.inl Aa0.2.2.2.1.2, q3⟩, ?_⟩
  exact Ev.step rfl ⟨(Nat.le_of_ble_eq_true rfl), trivial, (Nat.le_of_ble_eq_true rfl), rfl, k⟩
theorem w19_82 {d a0 a1 as0 : Nat} {i2 : Int32} {w3 w4 w5 : AV} {h : AH} {P : PT} (k : ((i2 = 0 → Ev d 19 94 [vR (some a0), vR (some a1), vI i2, vR (some as0), vI 5, w5] [] h P) ∧ (¬ i2 = 0 → Ev d 19 94 [vR (some a0), vR (some a1), vI i2, vR (some as0), vI 2, w5] [] h P))) : Ev d 19 82 [vR (some a0), vR (some a1), vI i2, w3, w4, w5] [vR (some as0)] h P := by
  refine Ev.step rfl (Ev.step rfl ?_)
  refine Ev.step rfl ⟨fun c => ?_, fun c => ?_⟩
  · replace k := k.1 c
    refine Ev.step rfl (Ev.step rfl ?_)
    exact k
  · replace k := k.2 c
    refine Ev.step rfl (Ev.step rfl (Ev.step rfl ?_))
    exact k
theorem w19_94 {d a0 a1 a3 : Nat} {i2 i4 : Int32} {w5 : AV} {h : AH} {P : PT} (Aa0 : OB h a0 0 kX) (k : (((hI h a0 56) ≤ i4 → P (.inl (some (vR (some a3)))) h) ∧ (i4 < (hI h a0 56) → vp_in i4 40 ∧ Ev d 20 0 [vR (some a0), vR (some a3), vI (hI h (a0 + 3) i4.toNatClampNeg), vI (i4 + 1)] [] h (CK d 19 P 120 [vR (some a0), vR (some a1), vI i2, vR (some a3), vI i4, vI (hI h (a0 + 3) i4.toNatClampNeg)] [])))) : Ev (d + 1) 19 94 [vR (some a0), vR (some a1), vI i2, vR (some a3), vI i4, w5] [] h P := by
  refine Ev.step rfl (Ev.step rfl ?_)
  refine Ev.step rfl ⟨(fk Aa0.1 rfl), ?_⟩
  refine Ev.step rfl ⟨fun c => ?_, fun c => ?_⟩
  · replace k := k.1 c
    refine Ev.step rfl ?_
    refine Ev.step rfl ⟨rfl, k⟩
  · replace k := k.2 (Int32.not_le.mp c)
    refine Ev.step rfl ?_
    refine e_gR rfl rfl (fk Aa0.1 rfl) Aa0.2.2.2.1.1 ?_
    refine Ev.step rfl ?_
    obtain ⟨q1, k⟩ := k
    refine Ev.step rfl ⟨⟨_, Or.inl Aa0.2.2.2.1.2, q1⟩, ?_⟩
    refine Ev.step rfl (Ev.step rfl (Ev.step rfl (Ev.step rfl (Ev.step rfl (Ev.step rfl (Ev.step rfl ?_))))))
    exact Ev.step rfl ⟨(Nat.le_of_ble_eq_true rfl), _, _, _, Aa0.1, rfl, (Nat.le_of_ble_eq_true rfl), rfl, k⟩
theorem w19_123 {d a0 a1 a3 as0 : Nat} {i2 i4 i5 : Int32} {h : AH} {P : PT} (Aa0 : OB h a0 0 kX) (k : ((¬ i5 = 4 → ((i5 = 3 → Ev d 19 94 [vR (some a0), vR (some a1), vI i2, vR (some as0), vI (i4 + 4), vI i5] [] h P) ∧ (¬ i5 = 3 → ((¬ i5 = 5 → ((¬ i5 = 8 → Ev d 19 94 [vR (some a0), vR (some a1), vI i2, vR (some as0), vI (i4 + 2), vI i5] [] h P) ∧ (i5 = 8 → Ev d 19 94 [vR (some a0), vR (some a1), vI i2, vR (some as0), vI (i4 + 1), vI i5] [] h P))) ∧ (i5 = 5 → Ev d 19 94 [vR (some a0), vR (some a1), vI i2, vR (some as0), vI (i4 + 4), vI i5] [] h P))))) ∧ (i5 = 4 → vp_in (i4 + 1) 40 ∧ Ev d 19 94 [vR (some a0), vR (some a1), vI i2, vR (some as0), vI (i4 + (2 + (hI h (a0 + 3) ((i4 + 1).toNatClampNeg)))), vI i5] [] h P))) : Ev d 19 123 [vR (some a0), vR (some a1), vI i2, vR (some a3), vI i4, vI i5] [vR (some as0)] h P := by
  refine Ev.step rfl (Ev.step rfl (Ev.step rfl (Ev.step rfl ?_)))
  refine Ev.step rfl ⟨fun c => ?_, fun c => ?_⟩
  · replace k := k.1 c
    refine Ev.step rfl (Ev.step rfl ?_)
    refine Ev.step rfl ⟨fun c => ?_, fun c => ?_⟩
    · replace k := k.1 c
      refine Ev.step rfl (Ev.step rfl (Ev.step rfl (Ev.step rfl (Ev.step rfl ?_))))
      exact k
    · replace k := k.2 c
      refine Ev.step rfl (Ev.step rfl ?_)
      refine Ev.step rfl ⟨fun c => ?_, fun c => ?_⟩
      · replace k := k.1 c
        refine Ev.step rfl (Ev.step rfl ?_)
        refine Ev.step rfl ⟨fun c => ?_, fun c => ?_⟩
        · replace k := k.1 c
          refine Ev.step rfl (Ev.step rfl (Ev.step rfl (Ev.step rfl ?_)))
          exact k
        · replace k := k.2 (Decidable.not_not.mp c)
          refine Ev.step rfl (Ev.step rfl (Ev.step rfl (Ev.step rfl (Ev.step rfl ?_))))
          exact k
      · replace k := k.2 (Decidable.not_not.mp c)
        refine Ev.step rfl (Ev.step rfl (Ev.step rfl (Ev.step rfl (Ev.step rfl ?_))))
        exact k
  · replace k := k.2 (Decidable.not_not.mp c)
    refine Ev.step rfl (Ev.step rfl ?_)
    refine e_gR rfl rfl (fk Aa0.1 rfl) Aa0.2.2.2.1.1 ?_
    refine Ev.step rfl (Ev.step rfl (Ev.step rfl ?_))
    obtain ⟨q1, k⟩ := k
    refine Ev.step rfl ⟨⟨_, Or.inl Aa0.2.2.2.1.2, q1⟩, ?_⟩
    refine Ev.step rfl (Ev.step rfl (Ev.step rfl (Ev.step rfl (Ev.step rfl ?_))))
    exact k
theorem w20_0 {d a0 a1 : Nat} {i2 i3 : Int32} {h : AH} {P : PT} (k : ((i2 = 3 → 1 ≤ hC h ∧ 6 ≤ hS h ∧ Ev d 20 47 [vR (some a0), vR (some a1), vI i2, vI i3] [vR (some (hN h))] (al h (2, 0) 6) P) ∧ (i2 = 4 → 1 ≤ hC h ∧ 4 ≤ hS h ∧ Ev d 20 78 [vR (some a0), vR (some a1), vI i2, vI i3] [vR (some (hN h))] (al h (8, 0) 4) P) ∧ (i2 = 5 → 1 ≤ hC h ∧ 9 ≤ hS h ∧ Ev d 20 100 [vR (some a0), vR (some a1), vI i2, vI i3] [vR (some (hN h))] (al h (5, 0) 9) P) ∧ (i2 = 6 → 1 ≤ hC h ∧ 4 ≤ hS h ∧ Ev d 20 140 [vR (some a0), vR (some a1), vI i2, vI i3] [vR (some (hN h))] (al h (10, 0) 4) P) ∧ (i2 = 7 → 1 ≤ hC h ∧ 4 ≤ hS h ∧ Ev d 20 155 [vR (some a0), vR (some a1), vI i2, vI i3] [vR (some (hN h))] (al h (4, 0) 4) P) ∧ (i2 = 8 → 1 ≤ hC h ∧ 5 ≤ hS h ∧ Ev d 20 170 [vR (some a0), vR (some a1), vI i2, vI i3] [vR (some (hN h))] (al h (13, 0) 5) P) ∧ (i2 = 9 → 1 ≤ hC h ∧ 5 ≤ hS h ∧ Ev d 20 180 [vR (some a0), vR (some a1), vI i2, vI i3] [vR (some (hN h))] (al h (13, 0) 5) P) ∧ (i2.toInt < 3 ∨ 10 ≤ i2.toInt → 1 ≤ hC h ∧ 6 ≤ hS h ∧ Ev d 20 195 [vR (some a0), vR (some a1), vI i2, vI i3] [vR (some (hN h))] (al h (3, 0) 6) P))) : Ev d 20 0 [vR (some a0), vR (some a1), vI i2, vI i3] [] h P := by
  refine Ev.step rfl ?_
  refine Ev.step rfl ⟨⟨fun c => ?_, fun c => ?_, fun c => ?_, fun c => ?_, fun c => ?_, fun c => ?_, fun c => ?_, trivial⟩, fun c => ?_⟩
  · replace k := k.1 c
    obtain ⟨q1, k⟩ := k
    obtain ⟨q2, k⟩ := k
    refine Ev.step rfl ⟨q1, q2, ?_⟩
    exact k
  · replace k := k.2.1 c
    obtain ⟨q3, k⟩ := k
    obtain ⟨q4, k⟩ := k
    refine Ev.step rfl ⟨q3, q4, ?_⟩
    exact k
  · replace k := k.2.2.1 c
    obtain ⟨q5, k⟩ := k
    obtain ⟨q6, k⟩ := k
    refine Ev.step rfl ⟨q5, q6, ?_⟩
    exact k
  · replace k := k.2.2.2.1 c
    obtain ⟨q7, k⟩ := k
    obtain ⟨q8, k⟩ := k
    refine Ev.step rfl ⟨q7, q8, ?_⟩
    exact k
  · replace k := k.2.2.2.2.1 c
    obtain ⟨q9, k⟩ := k
    obtain ⟨q10, k⟩ := k
    refine Ev.step rfl ⟨q9, q10, ?_⟩
    exact k
  · replace k := k.2.2.2.2.2.1 c
    obtain ⟨q11, k⟩ := k
    obtain ⟨q12, k⟩ := k
    refine Ev.step rfl ⟨q11, q12, ?_⟩
    exact k
  · replace k := k.2.2.2.2.2.2.1 c
    obtain ⟨q13, k⟩ := k
    obtain ⟨q14, k⟩ := k
    refine Ev.step rfl ⟨q13, q14, ?_⟩
    exact k
  · replace k := k.2.2.2.2.2.2.2 c
    obtain ⟨q15, k⟩ := k
    obtain ⟨q16, k⟩ := k
    refine Ev.step rfl ⟨q15, q16, ?_⟩
    exact k
theorem w20_47 {d a0 a1 as0 : Nat} {i2 i3 : Int32} {h : AH} {P : PT} (Aa0 : OB h a0 0 kX) (k : vp_in i3 40 ∧ vp_in (i3 + 1) 40 ∧ vp_in (i3 + 2) 40 ∧ Ev d 33 0 [vR (some as0), vR (some a1), vI (hI h (a0 + 3) i3.toNatClampNeg), vI (hI h (a0 + 3) ((i3 + 1).toNatClampNeg)), vI (hI h (a0 + 3) ((i3 + 2).toNatClampNeg))] [] h (CK d 20 P 71 [vR (some a0), vR (some a1), vI i2, vI i3] [vR (some as0)])) : Ev (d + 1) 20 47 [vR (some a0), vR (some a1), vI i2, vI i3] [vR (some as0)] h P := by
  refine Ev.step rfl (Or.inr ?_)
  refine Ev.step rfl (Ev.step rfl ?_)
  refine e_gR rfl rfl (fk Aa0.1 rfl) Aa0.2.2.2.1.1 ?_
  refine Ev.step rfl ?_
  obtain ⟨q1, k⟩ := k
  refine Ev.step rfl ⟨⟨_, Or.inl Aa0.2.2.2.1.2, q1⟩, ?_⟩
  refine Ev.step rfl ?_
  refine e_gR rfl rfl (fk Aa0.1 rfl) Aa0.2.2.2.1.1 ?_
  refine Ev.step rfl (Ev.step rfl (Ev.step rfl ?_))
  obtain ⟨q2, k⟩ := k
  refine Ev.step rfl ⟨⟨_, Or.inl Aa0.2.2.2.1.2, q2⟩, ?_⟩
  refine Ev.step rfl ?_
  refine e_gR rfl rfl (fk Aa0.1 rfl) Aa0.2.2.2.1.1 ?_
  refine Ev.step rfl (Ev.step rfl (Ev.step rfl ?_))
  obtain ⟨q3, k⟩ := k
  refine Ev.step rfl ⟨⟨_, Or.inl Aa0.2.2.2.1.2, q3⟩, ?_⟩
  exact Ev.step rfl ⟨(Nat.le_of_ble_eq_true rfl), trivial, (Nat.le_of_ble_eq_true rfl), rfl, k⟩
theorem w20_74 {d a0 a1 as0 : Nat} {i2 i3 : Int32} {h : AH} {P : PT} (k : P (.inl (some (vR (some as0)))) h) : Ev d 20 74 [vR (some a0), vR (some a1), vI i2, vI i3] [vR (some as0)] h P := by
  refine Ev.step rfl ⟨rfl, k⟩
theorem w20_78 {d a0 a1 as0 : Nat} {i2 i3 : Int32} {h : AH} {P : PT} (Aa0 : OB h a0 0 kX) (k : vp_in i3 40 ∧ Ev d 50 0 [vR (some as0), vR (some a1), vR (some (a0 + 3)), vI (i3 + 1), vI (hI h (a0 + 3) i3.toNatClampNeg)] [] h (CK d 20 P 93 [vR (some a0), vR (some a1), vI i2, vI i3] [vR (some as0)])) : Ev (d + 1) 20 78 [vR (some a0), vR (some a1), vI i2, vI i3] [vR (some as0)] h P := by
  refine Ev.step rfl (Or.inr ?_)
  refine Ev.step rfl (Ev.step rfl ?_)
  refine e_gR rfl rfl (fk Aa0.1 rfl) Aa0.2.2.2.1.1 ?_
  refine Ev.step rfl (Ev.step rfl (Ev.step rfl (Ev.step rfl ?_)))
  refine e_gR rfl rfl (fk Aa0.1 rfl) Aa0.2.2.2.1.1 ?_
  refine Ev.step rfl ?_
  obtain ⟨q1, k⟩ := k
  refine Ev.step rfl ⟨⟨_, Or.inl Aa0.2.2.2.1.2, q1⟩, ?_⟩
  exact Ev.step rfl ⟨(Nat.le_of_ble_eq_true rfl), trivial, (Nat.le_of_ble_eq_true rfl), rfl, k⟩
theorem w20_96 {d a0 a1 as0 : Nat} {i2 i3 : Int32} {h : AH} {P : PT} (k : P (.inl (some (vR (some as0)))) h) : Ev d 20 96 [vR (some a0), vR (some a1), vI i2, vI i3] [vR (some as0)] h P := by
  refine Ev.step rfl ⟨rfl, k⟩
theorem w20_100 {d a0 a1 as0 : Nat} {i2 i3 : Int32} {h : AH} {P : PT} (Aa0 : OB h a0 0 kX) (k : vp_in i3 40 ∧ vp_in (hI h (a0 + 3) i3.toNatClampNeg) 4 ∧ ∃ b0, hR h (a0 + 1) ((hI h (a0 + 3) i3.toNatClampNeg).toNatClampNeg) = some b0 ∧ vp_in (i3 + 1) 40 ∧ vp_in (i3 + 2) 40 ∧ Ev d 40 0 [vR (some as0), vR (some a1), vR (some (a0 + 5)), vR (some b0), vI (hI h (a0 + 3) ((i3 + 1).toNatClampNeg)), vI (hI h (a0 + 3) ((i3 + 2).toNatClampNeg))] [] h (CK d 20 P 133 [vR (some a0), vR (some a1), vI i2, vI i3] [vR (some as0)])) : Ev (d + 1) 20 100 [vR (some a0), vR (some a1), vI i2, vI i3] [vR (some as0)] h P := by
  refine Ev.step rfl (Or.inr ?_)
  refine Ev.step rfl (Ev.step rfl ?_)
  refine e_gR rfl rfl (fk Aa0.1 rfl) Aa0.2.2.2.2.2.1.1 ?_
  refine Ev.step rfl ?_
  refine e_gR rfl rfl (fk Aa0.1 rfl) Aa0.2.1.1 ?_
  refine Ev.step rfl ?_
  refine e_gR rfl rfl (fk Aa0.1 rfl) Aa0.2.2.2.1.1 ?_
  refine Ev.step rfl ?_
  obtain ⟨q1, k⟩ := k
  refine Ev.step rfl ⟨⟨_, Or.inl Aa0.2.2.2.1.2, q1⟩, ?_⟩
  obtain ⟨q2, k⟩ := k
  refine Ev.step rfl ⟨⟨6, _, by decide, by decide, Aa0.2.1.2, q2⟩, ?_⟩
  obtain ⟨b0, hbb0, k⟩ := k
  rw [hbb0]
  refine Ev.step rfl ?_
  refine e_gR rfl rfl (fk Aa0.1 rfl) Aa0.2.2.2.1.1 ?_
  refine Ev.step rfl (Ev.step rfl (Ev.step rfl ?_))
  obtain ⟨q3, k⟩ := k
  refine Ev.step rfl ⟨⟨_, Or.inl Aa0.2.2.2.1.2, q3⟩, ?_⟩
  refine Ev.step rfl ?_
  refine e_gR rfl rfl (fk Aa0.1 rfl) Aa0.2.2.2.1.1 ?_
  refine Ev.step rfl (Ev.step rfl (Ev.step rfl ?_))
  obtain ⟨q4, k⟩ := k
  refine Ev.step rfl ⟨⟨_, Or.inl Aa0.2.2.2.1.2, q4⟩, ?_⟩
  exact Ev.step rfl ⟨(Nat.le_of_ble_eq_true rfl), trivial, (Nat.le_of_ble_eq_true rfl), rfl, k⟩
theorem w20_136 {d a0 a1 as0 : Nat} {i2 i3 : Int32} {h : AH} {P : PT} (k : P (.inl (some (vR (some as0)))) h) : Ev d 20 136 [vR (some a0), vR (some a1), vI i2, vI i3] [vR (some as0)] h P := by
  refine Ev.step rfl ⟨rfl, k⟩
theorem w20_140 {d a0 a1 as0 : Nat} {i2 i3 : Int32} {h : AH} {P : PT} (Aa0 : OB h a0 0 kX) (k : vp_in i3 40 ∧ Ev d 53 0 [vR (some as0), vR (some a1), vI (hI h (a0 + 3) i3.toNatClampNeg)] [] h (CK d 20 P 148 [vR (some a0), vR (some a1), vI i2, vI i3] [vR (some as0)])) : Ev (d + 1) 20 140 [vR (some a0), vR (some a1), vI i2, vI i3] [vR (some as0)] h P := by
  refine Ev.step rfl (Or.inr ?_)
  refine Ev.step rfl (Ev.step rfl ?_)
  refine e_gR rfl rfl (fk Aa0.1 rfl) Aa0.2.2.2.1.1 ?_
  refine Ev.step rfl ?_
  obtain ⟨q1, k⟩ := k
  refine Ev.step rfl ⟨⟨_, Or.inl Aa0.2.2.2.1.2, q1⟩, ?_⟩
  exact Ev.step rfl ⟨(Nat.le_of_ble_eq_true rfl), trivial, (Nat.le_of_ble_eq_true rfl), rfl, k⟩
theorem w20_151 {d a0 a1 as0 : Nat} {i2 i3 : Int32} {h : AH} {P : PT} (k : P (.inl (some (vR (some as0)))) h) : Ev d 20 151 [vR (some a0), vR (some a1), vI i2, vI i3] [vR (some as0)] h P := by
  refine Ev.step rfl ⟨rfl, k⟩
theorem w20_155 {d a0 a1 as0 : Nat} {i2 i3 : Int32} {h : AH} {P : PT} (Aa0 : OB h a0 0 kX) (k : vp_in i3 40 ∧ Ev d 38 0 [vR (some as0), vR (some a1), vI (hI h (a0 + 3) i3.toNatClampNeg)] [] h (CK d 20 P 163 [vR (some a0), vR (some a1), vI i2, vI i3] [vR (some as0)])) : Ev (d + 1) 20 155 [vR (some a0), vR (some a1), vI i2, vI i3] [vR (some as0)] h P := by
  refine Ev.step rfl (Or.inr ?_)
  refine Ev.step rfl (Ev.step rfl ?_)
  refine e_gR rfl rfl (fk Aa0.1 rfl) Aa0.2.2.2.1.1 ?_
  refine Ev.step rfl ?_
  obtain ⟨q1, k⟩ := k
  refine Ev.step rfl ⟨⟨_, Or.inl Aa0.2.2.2.1.2, q1⟩, ?_⟩
  exact Ev.step rfl ⟨(Nat.le_of_ble_eq_true rfl), trivial, (Nat.le_of_ble_eq_true rfl), rfl, k⟩
theorem w20_166 {d a0 a1 as0 : Nat} {i2 i3 : Int32} {h : AH} {P : PT} (k : P (.inl (some (vR (some as0)))) h) : Ev d 20 166 [vR (some a0), vR (some a1), vI i2, vI i3] [vR (some as0)] h P := by
  refine Ev.step rfl ⟨rfl, k⟩
theorem w20_170 {d a0 a1 as0 : Nat} {i2 i3 : Int32} {h : AH} {P : PT} (k : Ev d 67 0 [vR (some as0), vR (some a1), vI (-1)] [] h (CK d 20 P 173 [vR (some a0), vR (some a1), vI i2, vI i3] [vR (some as0)])) : Ev (d + 1) 20 170 [vR (some a0), vR (some a1), vI i2, vI i3] [vR (some as0)] h P := by
  refine Ev.step rfl (Or.inr ?_)
  refine Ev.step rfl (Ev.step rfl ?_)
  exact Ev.step rfl ⟨(Nat.le_of_ble_eq_true rfl), trivial, (Nat.le_of_ble_eq_true rfl), rfl, k⟩
theorem w20_176 {d a0 a1 as0 : Nat} {i2 i3 : Int32} {h : AH} {P : PT} (k : P (.inl (some (vR (some as0)))) h) : Ev d 20 176 [vR (some a0), vR (some a1), vI i2, vI i3] [vR (some as0)] h P := by
  refine Ev.step rfl ⟨rfl, k⟩
theorem w20_180 {d a0 a1 as0 : Nat} {i2 i3 : Int32} {h : AH} {P : PT} (Aa0 : OB h a0 0 kX) (k : vp_in i3 40 ∧ Ev d 67 0 [vR (some as0), vR (some a1), vI (hI h (a0 + 3) i3.toNatClampNeg)] [] h (CK d 20 P 188 [vR (some a0), vR (some a1), vI i2, vI i3] [vR (some as0)])) : Ev (d + 1) 20 180 [vR (some a0), vR (some a1), vI i2, vI i3] [vR (some as0)] h P := by
  refine Ev.step rfl (Or.inr ?_)
  refine Ev.step rfl (Ev.step rfl ?_)
  refine e_gR rfl rfl (fk Aa0.1 rfl) Aa0.2.2.2.1.1 ?_
  refine Ev.step rfl ?_
  obtain ⟨q1, k⟩ := k
  refine Ev.step rfl ⟨⟨_, Or.inl Aa0.2.2.2.1.2, q1⟩, ?_⟩
  exact Ev.step rfl ⟨(Nat.le_of_ble_eq_true rfl), trivial, (Nat.le_of_ble_eq_true rfl), rfl, k⟩
theorem w20_191 {d a0 a1 as0 : Nat} {i2 i3 : Int32} {h : AH} {P : PT} (k : P (.inl (some (vR (some as0)))) h) : Ev d 20 191 [vR (some a0), vR (some a1), vI i2, vI i3] [vR (some as0)] h P := by
  refine Ev.step rfl ⟨rfl, k⟩
theorem w20_195 {d a0 a1 as0 : Nat} {i2 i3 : Int32} {h : AH} {P : PT} (Aa0 : OB h a0 0 kX) (k : vp_in i3 40 ∧ Ev d 36 0 [vR (some as0), vR (some a1), vI (hI h (a0 + 3) i3.toNatClampNeg)] [] h (CK d 20 P 203 [vR (some a0), vR (some a1), vI i2, vI i3] [vR (some as0)])) : Ev (d + 1) 20 195 [vR (some a0), vR (some a1), vI i2, vI i3] [vR (some as0)] h P := by
  refine Ev.step rfl (Or.inr ?_)
  refine Ev.step rfl (Ev.step rfl ?_)
  refine e_gR rfl rfl (fk Aa0.1 rfl) Aa0.2.2.2.1.1 ?_
  refine Ev.step rfl ?_
  obtain ⟨q1, k⟩ := k
  refine Ev.step rfl ⟨⟨_, Or.inl Aa0.2.2.2.1.2, q1⟩, ?_⟩
  exact Ev.step rfl ⟨(Nat.le_of_ble_eq_true rfl), trivial, (Nat.le_of_ble_eq_true rfl), rfl, k⟩
theorem w20_206 {d a0 a1 as0 : Nat} {i2 i3 : Int32} {h : AH} {P : PT} (k : P (.inl (some (vR (some as0)))) h) : Ev d 20 206 [vR (some a0), vR (some a1), vI i2, vI i3] [vR (some as0)] h P := by
  refine Ev.step rfl ⟨rfl, k⟩
theorem w21_0 {d a0 a1 : Nat} {h : AH} {P : PT} (k : Ev d 21 2 [vR (some a0), vR (some a1), vI 0] [] h P) : Ev d 21 0 [vR (some a0), vR (some a1), vU] [] h P := by
  refine Ev.step rfl (Ev.step rfl ?_)
  exact k
theorem w21_2 {d a0 a1 : Nat} {i2 : Int32} {h : AH} {P : PT} (k : NX d a1 h (CK d 21 P 3 [vR (some a0), vR (some a1), vI i2] [])) : Ev (d + 1) 21 2 [vR (some a0), vR (some a1), vI i2] [] h P := by
  refine Ev.step rfl ?_
  obtain ⟨c, n, M', q1, q2, q3, k⟩ := k
  exact Ev.step rfl ⟨(Nat.le_of_ble_eq_true rfl), c, n, M', q1, q2, (Nat.le_of_ble_eq_true rfl), q3, k⟩
theorem w21_6 {d a0 a1 : Nat} {i2 is0 : Int32} {h : AH} {P : PT} (Aa0 : OB h a0 0 kX) (k : ((is0 = 0 → P (.inl (some (vI i2))) h) ∧ (¬ is0 = 0 → fok h a1 148 ∧ ((((hI h a0 72) + (hI h a1 148)) ≤ 64 → fok h a1 146 ∧ SG h a1 ∧ ¬ (a1 + 1) = (a0 + 6) ∧ ¬ (0 : Int32) < 0 ∧ ¬ ((hI h a0 72) : Int32) < 0 ∧ ¬ ((hI h a1 148) : Int32) < 0 ∧ (∃ na nb, hT h (a1 + 1) = some (100, na) ∧ hT h (a0 + 6) = some (100, nb) ∧ (0 : Int32).toNatClampNeg + (hI h a1 148).toNatClampNeg ≤ na ∧ (hI h a0 72).toNatClampNeg + (hI h a1 148).toNatClampNeg ≤ nb) ∧ Ev d 21 2 [vR (some a0), vR (some a1), vI (i2 + 1)] [] (wI (cpI h (a1 + 1) ((0 : Int32).toNatClampNeg) (a0 + 6) ((hI h a0 72).toNatClampNeg) ((hI h a1 148).toNatClampNeg)) a0 72 ((hI (cpI h (a1 + 1) ((0 : Int32).toNatClampNeg) (a0 + 6) ((hI h a0 72).toNatClampNeg) ((hI h a1 148).toNatClampNeg)) a0 72) + (hI (cpI h (a1 + 1) ((0 : Int32).toNatClampNeg) (a0 + 6) ((hI h a0 72).toNatClampNeg) ((hI h a1 148).toNatClampNeg)) a1 148))) P) ∧ (64 < ((hI h a0 72) + (hI h a1 148)) → 1 ≤ hC h ∧ 6 ≤ hS h ∧ P (.inr (hN h)) (al h (53, 0) 6)))))) : Ev d 21 6 [vR (some a0), vR (some a1), vI i2] [vI is0] h P := by
  refine Ev.step rfl ⟨fun c => ?_, fun c => ?_⟩
  · replace k := k.1 c
    refine Ev.step rfl ?_
    refine Ev.step rfl ⟨rfl, (fun e => Bool.noConfusion (show false = true from e)), k⟩
  · replace k := k.2 c
    refine Ev.step rfl ?_
    refine Ev.step rfl ⟨(fk Aa0.1 rfl), ?_⟩
    refine Ev.step rfl ?_
    obtain ⟨q1, k⟩ := k
    refine Ev.step rfl ⟨q1, ?_⟩
    refine Ev.step rfl (Ev.step rfl ?_)
    refine Ev.step rfl ⟨fun c => ?_, fun c => ?_⟩
    · replace k := k.1 c
      refine Ev.step rfl ?_
      obtain ⟨q2, k⟩ := k
      obtain ⟨q3, k⟩ := k
      refine e_gR rfl rfl q2 q3.1 ?_
      refine Ev.step rfl (Ev.step rfl ?_)
      refine e_gR rfl rfl (fk Aa0.1 rfl) Aa0.2.2.2.2.2.2.1.1 ?_
      refine Ev.step rfl ?_
      refine Ev.step rfl ⟨(fk Aa0.1 rfl), ?_⟩
      refine Ev.step rfl ?_
      refine Ev.step rfl ⟨q1, ?_⟩
      obtain ⟨q4, k⟩ := k
      obtain ⟨q5, k⟩ := k
      obtain ⟨q6, k⟩ := k
      obtain ⟨q7, k⟩ := k
      obtain ⟨q8, k⟩ := k
      refine Ev.step rfl ⟨(Nat.le_of_ble_eq_true rfl), q4, q5, q6, q7, q8, ?_⟩
      refine Ev.step rfl ?_
      refine Ev.step rfl (Or.inr ?_)
      refine Ev.step rfl ⟨(fk Aa0.1 rfl), ?_⟩
      refine Ev.step rfl ?_
      refine Ev.step rfl ⟨q1, ?_⟩
      refine Ev.step rfl ?_
      refine Ev.step rfl ⟨(fk Aa0.1 rfl), ?_⟩
      refine Ev.step rfl (Ev.step rfl ?_)
      exact k
    · replace k := k.2 (Int32.not_le.mp c)
      obtain ⟨q9, k⟩ := k
      obtain ⟨q10, k⟩ := k
      refine Ev.step rfl ⟨q9, q10, (Nat.le_of_ble_eq_true rfl), k⟩
theorem w22_0 {d a0 a1 a2 : Nat} {h : AH} {P : PT} (Aa0 : OB h a0 1 kE) (k : Ev d 22 9 [vR (some a0), vR (some a1), vR (some a2)] [] (wR h a0 2 (some a1)) P) : Ev d 22 0 [vR (some a0), vR (some a1), vR (some a2)] [] h P := by
  refine Ev.step rfl ?_
  refine Ev.step rfl ⟨(Nat.le_of_ble_eq_true rfl), ?_⟩
  refine Ev.step rfl (Ev.step rfl ?_)
  refine Ev.step rfl ⟨(fk Aa0.1 rfl), ?_⟩
  exact k
theorem w22_9 {d a0 a1 a2 : Nat} {h : AH} {P : PT} (Aa0 : OB h a0 1 kE) (k : Ev d 22 14 [vR (some a0), vR (some a1), vR (some a2)] [] (wR h a0 6 (some a2)) P) : Ev d 22 9 [vR (some a0), vR (some a1), vR (some a2)] [] h P := by
  refine Ev.step rfl (Ev.step rfl ?_)
  refine Ev.step rfl ⟨(fk Aa0.1 rfl), ?_⟩
  exact k
theorem w22_14 {d a0 a1 a2 : Nat} {h : AH} {P : PT} (k : P (.inl none) h) : Ev d 22 14 [vR (some a0), vR (some a1), vR (some a2)] [] h P := by
  refine Ev.step rfl ⟨rfl, k⟩
theorem w23_0 {d a0 : Nat} {i1 i2 : Int32} {h : AH} {P : PT} (Aa0 : OB h a0 1 kE) (k : Ev d 24 0 [vR (some a0), vU, vU] [] (wI (wI (wI (wI h a0 8 i1) a0 12 i2) a0 16 0) a0 24 (-1)) (CK d 23 P 21 [vR (some a0), vI i1, vI i2] [])) : Ev (d + 1) 23 0 [vR (some a0), vI i1, vI i2] [] h P := by
  refine Ev.step rfl (Ev.step rfl ?_)
  refine Ev.step rfl ⟨(fk Aa0.1 rfl), ?_⟩
  refine Ev.step rfl (Ev.step rfl ?_)
  refine Ev.step rfl ⟨(fk Aa0.1 rfl), ?_⟩
  refine Ev.step rfl (Ev.step rfl ?_)
  refine Ev.step rfl ⟨(fk Aa0.1 rfl), ?_⟩
  refine Ev.step rfl (Ev.step rfl ?_)
  refine Ev.step rfl ⟨(fk Aa0.1 rfl), ?_⟩
  refine Ev.step rfl ?_
  exact Ev.step rfl ⟨(Nat.le_of_ble_eq_true rfl), _, _, _, Aa0.1, rfl, (Nat.le_of_ble_eq_true rfl), rfl, k⟩
theorem w23_24 {d a0 : Nat} {i1 i2 : Int32} {h : AH} {P : PT} (Aa0 : OB h a0 1 kE) (k : (((hI h a0 8) ≤ (hI h a0 16) → P (.inl none) h) ∧ ((hI h a0 16) < (hI h a0 8) → Ev d 30 0 [vR (some a0)] [] h (CK d 23 P 36 [vR (some a0), vI i1, vI i2] [])))) : Ev (d + 1) 23 24 [vR (some a0), vI i1, vI i2] [] h P := by
  refine Ev.step rfl ?_
  refine Ev.step rfl ⟨(fk Aa0.1 rfl), ?_⟩
  refine Ev.step rfl ?_
  refine Ev.step rfl ⟨(fk Aa0.1 rfl), ?_⟩
  refine Ev.step rfl ⟨fun c => ?_, fun c => ?_⟩
  · replace k := k.1 c
    refine Ev.step rfl ⟨rfl, k⟩
  · replace k := k.2 (Int32.not_le.mp c)
    refine Ev.step rfl ?_
    exact Ev.step rfl ⟨(Nat.le_of_ble_eq_true rfl), _, _, _, Aa0.1, rfl, (Nat.le_of_ble_eq_true rfl), rfl, k⟩
theorem w23_39 {d a0 : Nat} {i1 i2 : Int32} {h : AH} {P : PT} (k : Ev d 23 24 [vR (some a0), vI i1, vI i2] [] h P) : Ev d 23 39 [vR (some a0), vI i1, vI i2] [] h P := by
  refine Ev.step rfl ?_
  exact k
theorem w24_0 {d a0 : Nat} {h : AH} {P : PT} (Aa0 : OB h a0 1 kE) (k : Ev d 25 0 [vR (some a0), vI 1, vI 2, vU] [] h (CK d 24 P 3 [vR (some a0), vU, vU] [])) : Ev (d + 1) 24 0 [vR (some a0), vU, vU] [] h P := by
  refine Ev.step rfl (Ev.step rfl (Ev.step rfl ?_))
  exact Ev.step rfl ⟨(Nat.le_of_ble_eq_true rfl), _, _, _, Aa0.1, rfl, (Nat.le_of_ble_eq_true rfl), rfl, k⟩
theorem w24_6 {d a0 : Nat} {is0 : Int32} {w1 w2 : AV} {h : AH} {P : PT} (Aa0 : OB h a0 1 kE) (k : Ev d 28 0 [vR (some a0)] [] h (CK d 24 P 8 [vR (some a0), vI is0, w2] [])) : Ev (d + 1) 24 6 [vR (some a0), w1, w2] [vI is0] h P := by
  refine Ev.step rfl (Ev.step rfl ?_)
  exact Ev.step rfl ⟨(Nat.le_of_ble_eq_true rfl), _, _, _, Aa0.1, rfl, (Nat.le_of_ble_eq_true rfl), rfl, k⟩
theorem w24_11 {d a0 as0 : Nat} {i1 : Int32} {w2 : AV} {h : AH} {P : PT} (Aas0 : OB h as0 12 kT) (Aa0 : OB h a0 1 kE) (k : ((¬ i1 = 2 → P (.inl none) (wI h a0 20 (hI h as0 108))) ∧ (i1 = 2 → Ev d 29 0 [vR (some a0), vR (some as0), vU] [] (wI h a0 20 (hI h as0 108)) (CK d 24 P 27 [vR (some a0), vI i1, vR (some as0)] [])))) : Ev (d + 1) 24 11 [vR (some a0), vI i1, w2] [vR (some as0)] h P := by
  refine Ev.step rfl (Ev.step rfl (Ev.step rfl ?_))
  refine Ev.step rfl ⟨(fk Aas0.1 rfl), ?_⟩
  refine Ev.step rfl ⟨(fk Aa0.1 rfl), ?_⟩
  refine Ev.step rfl (Ev.step rfl ?_)
  refine Ev.step rfl ⟨fun c => ?_, fun c => ?_⟩
  · replace k := k.1 c
    refine Ev.step rfl ⟨rfl, k⟩
  · replace k := k.2 (Decidable.not_not.mp c)
    refine Ev.step rfl (Ev.step rfl ?_)
    exact Ev.step rfl ⟨(Nat.le_of_ble_eq_true rfl), _, _, _, Aa0.1, rfl, (Nat.le_of_ble_eq_true rfl), rfl, k⟩
theorem w24_30 {d a0 a2 : Nat} {i1 : Int32} {h : AH} {P : PT} (Aa0 : OB h a0 1 kE) (k : Ev d 26 0 [vR (some a0)] [] h (CK d 24 P 31 [vR (some a0), vI i1, vR (some a2)] [])) : Ev (d + 1) 24 30 [vR (some a0), vI i1, vR (some a2)] [] h P := by
  refine Ev.step rfl ?_
  exact Ev.step rfl ⟨(Nat.le_of_ble_eq_true rfl), _, _, _, Aa0.1, rfl, (Nat.le_of_ble_eq_true rfl), rfl, k⟩
theorem w24_34 {d a0 a2 : Nat} {i1 is0 : Int32} {h : AH} {P : PT} (Aa0 : OB h a0 1 kE) (k : Ev d 26 0 [vR (some a0)] [] h (CK d 24 P 36 [vR (some a0), vI i1, vR (some a2)] [])) : Ev (d + 1) 24 34 [vR (some a0), vI i1, vR (some a2)] [vI is0] h P := by
  refine Ev.step rfl (Or.inl ?_)
  refine Ev.step rfl ?_
  exact Ev.step rfl ⟨(Nat.le_of_ble_eq_true rfl), _, _, _, Aa0.1, rfl, (Nat.le_of_ble_eq_true rfl), rfl, k⟩
theorem w24_39 {d a0 a2 : Nat} {i1 is0 : Int32} {h : AH} {P : PT} (k : P (.inl none) h) : Ev d 24 39 [vR (some a0), vI i1, vR (some a2)] [vI is0] h P := by
  refine Ev.step rfl (Or.inl ?_)
  refine Ev.step rfl ⟨rfl, k⟩
theorem w25_0 {d a0 : Nat} {i1 i2 : Int32} {h : AH} {P : PT} (Aa0 : OB h a0 1 kE) (k : Ev d 26 0 [vR (some a0)] [] h (CK d 25 P 1 [vR (some a0), vI i1, vI i2, vU] [])) : Ev (d + 1) 25 0 [vR (some a0), vI i1, vI i2, vU] [] h P := by
  refine Ev.step rfl ?_
  exact Ev.step rfl ⟨(Nat.le_of_ble_eq_true rfl), _, _, _, Aa0.1, rfl, (Nat.le_of_ble_eq_true rfl), rfl, k⟩
theorem w25_4 {d a0 : Nat} {i1 i2 is0 : Int32} {w3 : AV} {h : AH} {P : PT} (Aa0 : OB h a0 1 kE) (k : ((is0 < i1 → Ev d 27 0 [vR (some a0), vI 0, vI ((hI h a0 16) - 1)] [] h (CK d 25 P 27 [vR (some a0), vI i1, vI i2, vI is0] [])) ∧ (i1 ≤ is0 → ((i2 < is0 → Ev d 27 0 [vR (some a0), vI 0, vI ((hI h a0 16) - 1)] [] h (CK d 25 P 27 [vR (some a0), vI i1, vI i2, vI is0] [])) ∧ (is0 ≤ i2 → Ev d 27 0 [vR (some a0), vI 1, vI ((hI h a0 16) - 1)] [] h (CK d 25 P 27 [vR (some a0), vI i1, vI i2, vI is0] [])))))) : Ev (d + 1) 25 4 [vR (some a0), vI i1, vI i2, w3] [vI is0] h P := by
  refine Ev.step rfl (Ev.step rfl (Ev.step rfl (Ev.step rfl ?_)))
  refine Ev.step rfl ⟨fun c => ?_, fun c => ?_⟩
  · replace k := k.1 c
    refine Ev.step rfl (Ev.step rfl ?_)
    refine Ev.step rfl ⟨(fk Aa0.1 rfl), ?_⟩
    refine Ev.step rfl (Ev.step rfl ?_)
    exact Ev.step rfl ⟨(Nat.le_of_ble_eq_true rfl), _, _, _, Aa0.1, rfl, (Nat.le_of_ble_eq_true rfl), rfl, k⟩
  · replace k := k.2 (Int32.not_lt.mp c)
    refine Ev.step rfl (Ev.step rfl ?_)
    refine Ev.step rfl ⟨fun c => ?_, fun c => ?_⟩
    · replace k := k.1 c
      refine Ev.step rfl (Ev.step rfl ?_)
      refine Ev.step rfl ⟨(fk Aa0.1 rfl), ?_⟩
      refine Ev.step rfl (Ev.step rfl ?_)
      exact Ev.step rfl ⟨(Nat.le_of_ble_eq_true rfl), _, _, _, Aa0.1, rfl, (Nat.le_of_ble_eq_true rfl), rfl, k⟩
    · replace k := k.2 (Int32.not_lt.mp c)
      refine Ev.step rfl (Ev.step rfl (Ev.step rfl ?_))
      refine Ev.step rfl ⟨(fk Aa0.1 rfl), ?_⟩
      refine Ev.step rfl (Ev.step rfl ?_)
      exact Ev.step rfl ⟨(Nat.le_of_ble_eq_true rfl), _, _, _, Aa0.1, rfl, (Nat.le_of_ble_eq_true rfl), rfl, k⟩
theorem w25_30 {d a0 : Nat} {i1 i2 i3 : Int32} {h : AH} {P : PT} (k : P (.inl (some (vI i3))) h) : Ev d 25 30 [vR (some a0), vI i1, vI i2, vI i3] [] h P := by
  refine Ev.step rfl ?_
  refine Ev.step rfl ⟨rfl, (fun e => Bool.noConfusion (show false = true from e)), k⟩
theorem w26_0 {d a0 : Nat} {h : AH} {P : PT} (Aa0 : OB h a0 1 kE) (k : (((hI h a0 8) ≤ (hI h a0 16) → Ev d 27 0 [vR (some a0), vI 0, vI (hI h a0 8)] [] h (CK d 26 P 21 [vR (some a0)] [])) ∧ ((hI h a0 16) < (hI h a0 8) → Ev d 27 0 [vR (some a0), vI 1, vI (hI h a0 8)] [] h (CK d 26 P 21 [vR (some a0)] [])))) : Ev (d + 1) 26 0 [vR (some a0)] [] h P := by
  refine Ev.step rfl (Ev.step rfl ?_)
  refine Ev.step rfl ⟨(fk Aa0.1 rfl), ?_⟩
  refine Ev.step rfl ?_
  refine Ev.step rfl ⟨(fk Aa0.1 rfl), ?_⟩
  refine Ev.step rfl ⟨fun c => ?_, fun c => ?_⟩
  · replace k := k.1 c
    refine Ev.step rfl (Ev.step rfl ?_)
    refine Ev.step rfl ⟨(fk Aa0.1 rfl), ?_⟩
    exact Ev.step rfl ⟨(Nat.le_of_ble_eq_true rfl), _, _, _, Aa0.1, rfl, (Nat.le_of_ble_eq_true rfl), rfl, k⟩
  · replace k := k.2 (Int32.not_le.mp c)
    refine Ev.step rfl (Ev.step rfl (Ev.step rfl ?_))
    refine Ev.step rfl ⟨(fk Aa0.1 rfl), ?_⟩
    exact Ev.step rfl ⟨(Nat.le_of_ble_eq_true rfl), _, _, _, Aa0.1, rfl, (Nat.le_of_ble_eq_true rfl), rfl, k⟩
theorem w26_24 {d a0 : Nat} {h : AH} {P : PT} (Aa0 : OB h a0 1 kE) (k : ∃ b0, hR h a0 2 = some b0 ∧ ∃ n_b0, hT (wI h a0 16 ((hI h a0 16) + 1)) b0 = some (100, n_b0) ∧ vp_in (hI h a0 16) n_b0 ∧ P (.inl (some (vI (hI (wI h a0 16 ((hI h a0 16) + 1)) b0 ((hI h a0 16).toNatClampNeg))))) (wI h a0 16 ((hI h a0 16) + 1))) : Ev d 26 24 [vR (some a0)] [] h P := by
  refine Ev.step rfl ?_
  obtain ⟨b0, hbb0, k⟩ := k
  refine e_gR rfl rfl (fk Aa0.1 rfl) hbb0 ?_
  refine Ev.step rfl ?_
  refine Ev.step rfl (Or.inr ?_)
  refine Ev.step rfl ⟨(fk Aa0.1 rfl), ?_⟩
  refine Ev.step rfl (Ev.step rfl (Ev.step rfl ?_))
  refine Ev.step rfl ⟨(fk Aa0.1 rfl), ?_⟩
  obtain ⟨n_b0, t1, k⟩ := k
  obtain ⟨q2, k⟩ := k
  refine Ev.step rfl ⟨⟨_, Or.inl t1, q2⟩, ?_⟩
  refine Ev.step rfl ⟨rfl, (fun e => Bool.noConfusion (show false = true from e)), k⟩
theorem w27_0 {d a0 : Nat} {i1 i2 : Int32} {h : AH} {P : PT} (Aa0 : OB h a0 1 kE) (k : ((¬ i1 = 0 → P (.inl none) h) ∧ (i1 = 0 → 1 ≤ hC (wI h a0 24 i2) ∧ 6 ≤ hS (wI h a0 24 i2) ∧ P (.inr (hN (wI h a0 24 i2))) (al (wI h a0 24 i2) (51, 0) 6)))) : Ev d 27 0 [vR (some a0), vI i1, vI i2] [] h P := by
  refine Ev.step rfl ?_
  refine Ev.step rfl ⟨fun c => ?_, fun c => ?_⟩
  · replace k := k.1 c
    refine Ev.step rfl ⟨rfl, k⟩
  · replace k := k.2 (Decidable.not_not.mp c)
    refine Ev.step rfl (Ev.step rfl ?_)
    refine Ev.step rfl ⟨(fk Aa0.1 rfl), ?_⟩
    obtain ⟨q1, k⟩ := k
    obtain ⟨q2, k⟩ := k
    refine Ev.step rfl ⟨q1, q2, (Nat.le_of_ble_eq_true rfl), k⟩
theorem w28_0 {d a0 : Nat} {h : AH} {P : PT} (Aa0 : OB h a0 1 kE) (k : ∃ b0, hR h a0 6 = some b0 ∧ Ev d 25 0 [vR (some a0), vI 0, vI ((hI h a0 12) - 1), vU] [] h (CK d 28 P 12 [vR (some a0)] [vR (some b0)])) : Ev (d + 1) 28 0 [vR (some a0)] [] h P := by
  refine Ev.step rfl ?_
  obtain ⟨b0, hbb0, k⟩ := k
  refine e_gR rfl rfl (fk Aa0.1 rfl) hbb0 ?_
  refine Ev.step rfl (Ev.step rfl (Ev.step rfl ?_))
  refine Ev.step rfl ⟨(fk Aa0.1 rfl), ?_⟩
  refine Ev.step rfl (Ev.step rfl ?_)
  exact Ev.step rfl ⟨(Nat.le_of_ble_eq_true rfl), _, _, _, Aa0.1, rfl, (Nat.le_of_ble_eq_true rfl), rfl, k⟩
theorem w28_15 {d a0 as1 : Nat} {is0 : Int32} {h : AH} {P : PT} (k : ∃ n_as1, hT h as1 = some (106, n_as1) ∧ vp_in is0 n_as1 ∧ ∃ b0, hR h as1 is0.toNatClampNeg = some b0 ∧ P (.inl (some (vR (some b0)))) h) : Ev d 28 15 [vR (some a0)] [vI is0, vR (some as1)] h P := by
  obtain ⟨n_as1, t1, k⟩ := k
  obtain ⟨q2, k⟩ := k
  refine Ev.step rfl ⟨⟨6, _, by decide, by decide, t1, q2⟩, ?_⟩
  obtain ⟨b0, hbb0, k⟩ := k
  rw [hbb0]
  refine Ev.step rfl ⟨rfl, k⟩
theorem w29_0 {d a0 a1 : Nat} {h : AH} {P : PT} (Aa0 : OB h a0 1 kE) (k : Ev d 26 0 [vR (some a0)] [] h (CK d 29 P 1 [vR (some a0), vR (some a1), vU] [])) : Ev (d + 1) 29 0 [vR (some a0), vR (some a1), vU] [] h P := by
  refine Ev.step rfl ?_
  exact Ev.step rfl ⟨(Nat.le_of_ble_eq_true rfl), _, _, _, Aa0.1, rfl, (Nat.le_of_ble_eq_true rfl), rfl, k⟩
theorem w29_4 {d a0 a1 : Nat} {is0 : Int32} {w2 : AV} {h : AH} {P : PT} (Aa1 : OB h a1 12 kT) (k : Ev d 57 0 [vR (some a1), vI is0] [] h (CK d 29 P 8 [vR (some a0), vR (some a1), vI is0] [vR (some a0)])) : Ev (d + 1) 29 4 [vR (some a0), vR (some a1), w2] [vI is0] h P := by
  refine Ev.step rfl (Ev.step rfl (Ev.step rfl (Ev.step rfl ?_)))
  exact Ev.step rfl ⟨(Nat.le_of_ble_eq_true rfl), _, _, _, Aa1.1, rfl, (Nat.le_of_ble_eq_true rfl), rfl, k⟩
theorem w29_11 {d a0 a1 as1 : Nat} {i2 is0 : Int32} {h : AH} {P : PT} (Aa0 : OB h a0 1 kE) (Aas1 : OB h as1 1 kE) (k : Ev d 27 0 [vR (some as1), vI is0, vI ((hI h a0 16) - 1)] [] h (CK d 29 P 17 [vR (some a0), vR (some a1), vI i2] [])) : Ev (d + 1) 29 11 [vR (some a0), vR (some a1), vI i2] [vI is0, vR (some as1)] h P := by
  refine Ev.step rfl ?_
  refine Ev.step rfl ⟨(fk Aa0.1 rfl), ?_⟩
  refine Ev.step rfl (Ev.step rfl ?_)
  exact Ev.step rfl ⟨(Nat.le_of_ble_eq_true rfl), _, _, _, Aas1.1, rfl, (Nat.le_of_ble_eq_true rfl), rfl, k⟩
theorem w29_20 {d a0 a1 : Nat} {i2 : Int32} {h : AH} {P : PT} (k : P (.inl none) h) : Ev d 29 20 [vR (some a0), vR (some a1), vI i2] [] h P := by
  refine Ev.step rfl ⟨rfl, k⟩
theorem w30_0 {d a0 : Nat} {h : AH} {P : PT} (Aa0 : OB h a0 1 kE) (k : Ev d 25 0 [vR (some a0), vI 3, vI 10, vU] [] h (CK d 30 P 4 [vR (some a0)] [])) : Ev (d + 1) 30 0 [vR (some a0)] [] h P := by
  refine Ev.step rfl (Ev.step rfl (Ev.step rfl ?_))
  exact Ev.step rfl ⟨(Nat.le_of_ble_eq_true rfl), _, _, _, Aa0.1, rfl, (Nat.le_of_ble_eq_true rfl), rfl, k⟩
theorem w30_7 {d a0 : Nat} {is0 : Int32} {h : AH} {P : PT} (Aa0 : OB h a0 1 kE) (k : ((is0 = 3 → Ev d 25 0 [vR (some a0), vI 0, vI ((hI h a0 20) - 1), vU] [] h (CK d 30 P 56 [vR (some a0)] [])) ∧ (is0 = 4 → Ev d 31 0 [vR (some a0), vU, vU] [] h (CK d 30 P 76 [vR (some a0)] [])) ∧ (is0 = 5 → Ev d 32 0 [vR (some a0), vU, vU] [] h (CK d 30 P 83 [vR (some a0)] [])) ∧ (is0 = 6 → Ev d 25 0 [vR (some a0), vI 0, vI 2147483647, vU] [] h (CK d 30 P 93 [vR (some a0)] [])) ∧ (is0 = 7 → Ev d 25 0 [vR (some a0), vI 0, vI 2147483647, vU] [] h (CK d 30 P 93 [vR (some a0)] [])) ∧ (is0 = 8 → P (.inl none) (wI h a0 20 1)) ∧ (is0 = 9 → Ev d 25 0 [vR (some a0), vI 0, vI ((hI h a0 20) - 1), vU] [] h (CK d 30 P 116 [vR (some a0)] [])) ∧ (is0.toInt < 3 ∨ 10 ≤ is0.toInt → Ev d 25 0 [vR (some a0), vI 0, vI ((hI h a0 20) - 1), vU] [] h (CK d 30 P 136 [vR (some a0)] [])))) : Ev (d + 1) 30 7 [vR (some a0)] [vI is0] h P := by
  refine Ev.step rfl ⟨⟨fun c => ?_, fun c => ?_, fun c => ?_, fun c => ?_, fun c => ?_, fun c => ?_, fun c => ?_, trivial⟩, fun c => ?_⟩
  · replace k := k.1 c
    refine Ev.step rfl (Ev.step rfl (Ev.step rfl ?_))
    refine Ev.step rfl ⟨(fk Aa0.1 rfl), ?_⟩
    refine Ev.step rfl (Ev.step rfl ?_)
    exact Ev.step rfl ⟨(Nat.le_of_ble_eq_true rfl), _, _, _, Aa0.1, rfl, (Nat.le_of_ble_eq_true rfl), rfl, k⟩
  · replace k := k.2.1 c
    refine Ev.step rfl ?_
    exact Ev.step rfl ⟨(Nat.le_of_ble_eq_true rfl), _, _, _, Aa0.1, rfl, (Nat.le_of_ble_eq_true rfl), rfl, k⟩
  · replace k := k.2.2.1 c
    refine Ev.step rfl ?_
    exact Ev.step rfl ⟨(Nat.le_of_ble_eq_true rfl), _, _, _, Aa0.1, rfl, (Nat.le_of_ble_eq_true rfl), rfl, k⟩
  · replace k := k.2.2.2.1 c
    refine Ev.step rfl (Ev.step rfl ?_)
    refine Ev.step rfl ⟨rfl, ?_⟩
    exact Ev.step rfl ⟨(Nat.le_of_ble_eq_true rfl), _, _, _, Aa0.1, rfl, (Nat.le_of_ble_eq_true rfl), rfl, k⟩
  · replace k := k.2.2.2.2.1 c
    refine Ev.step rfl (Ev.step rfl ?_)
    refine Ev.step rfl ⟨rfl, ?_⟩
    exact Ev.step rfl ⟨(Nat.le_of_ble_eq_true rfl), _, _, _, Aa0.1, rfl, (Nat.le_of_ble_eq_true rfl), rfl, k⟩
  · replace k := k.2.2.2.2.2.1 c
    refine Ev.step rfl (Ev.step rfl ?_)
    refine Ev.step rfl ⟨(fk Aa0.1 rfl), ?_⟩
    refine Ev.step rfl ?_
    refine Ev.step rfl ⟨rfl, k⟩
  · replace k := k.2.2.2.2.2.2.1 c
    refine Ev.step rfl (Ev.step rfl (Ev.step rfl ?_))
    refine Ev.step rfl ⟨(fk Aa0.1 rfl), ?_⟩
    refine Ev.step rfl (Ev.step rfl ?_)
    exact Ev.step rfl ⟨(Nat.le_of_ble_eq_true rfl), _, _, _, Aa0.1, rfl, (Nat.le_of_ble_eq_true rfl), rfl, k⟩
  · replace k := k.2.2.2.2.2.2.2 c
    refine Ev.step rfl (Ev.step rfl (Ev.step rfl ?_))
    refine Ev.step rfl ⟨(fk Aa0.1 rfl), ?_⟩
    refine Ev.step rfl (Ev.step rfl ?_)
    exact Ev.step rfl ⟨(Nat.le_of_ble_eq_true rfl), _, _, _, Aa0.1, rfl, (Nat.le_of_ble_eq_true rfl), rfl, k⟩
theorem w30_59 {d a0 : Nat} {is0 : Int32} {h : AH} {P : PT} (Aa0 : OB h a0 1 kE) (k : Ev d 25 0 [vR (some a0), vI 0, vI 5, vU] [] h (CK d 30 P 63 [vR (some a0)] [])) : Ev (d + 1) 30 59 [vR (some a0)] [vI is0] h P := by
  refine Ev.step rfl (Or.inl ?_)
  refine Ev.step rfl (Ev.step rfl (Ev.step rfl ?_))
  exact Ev.step rfl ⟨(Nat.le_of_ble_eq_true rfl), _, _, _, Aa0.1, rfl, (Nat.le_of_ble_eq_true rfl), rfl, k⟩
theorem w30_66 {d a0 : Nat} {is0 : Int32} {h : AH} {P : PT} (Aa0 : OB h a0 1 kE) (k : Ev d 26 0 [vR (some a0)] [] h (CK d 30 P 68 [vR (some a0)] [])) : Ev (d + 1) 30 66 [vR (some a0)] [vI is0] h P := by
  refine Ev.step rfl (Or.inl ?_)
  refine Ev.step rfl ?_
  exact Ev.step rfl ⟨(Nat.le_of_ble_eq_true rfl), _, _, _, Aa0.1, rfl, (Nat.le_of_ble_eq_true rfl), rfl, k⟩
theorem w30_71 {d a0 : Nat} {is0 : Int32} {h : AH} {P : PT} (k : P (.inl none) h) : Ev d 30 71 [vR (some a0)] [vI is0] h P := by
  refine Ev.step rfl (Or.inl ?_)
  refine Ev.step rfl ?_
  refine Ev.step rfl ⟨rfl, k⟩
theorem w30_79 {d a0 : Nat} {h : AH} {P : PT} (k : P (.inl none) h) : Ev d 30 79 [vR (some a0)] [] h P := by
  refine Ev.step rfl ?_
  refine Ev.step rfl ⟨rfl, k⟩
theorem w30_86 {d a0 : Nat} {h : AH} {P : PT} (k : P (.inl none) h) : Ev d 30 86 [vR (some a0)] [] h P := by
  refine Ev.step rfl ?_
  refine Ev.step rfl ⟨rfl, k⟩
theorem w30_96 {d a0 : Nat} {is0 : Int32} {h : AH} {P : PT} (k : P (.inl none) h) : Ev d 30 96 [vR (some a0)] [vI is0] h P := by
  refine Ev.step rfl (Or.inl ?_)
  refine Ev.step rfl ?_
  refine Ev.step rfl ⟨rfl, k⟩
theorem w30_119 {d a0 : Nat} {is0 : Int32} {h : AH} {P : PT} (Aa0 : OB h a0 1 kE) (k : P (.inl none) (wI h a0 20 1)) : Ev d 30 119 [vR (some a0)] [vI is0] h P := by
  refine Ev.step rfl (Or.inl ?_)
  refine Ev.step rfl (Ev.step rfl ?_)
  refine Ev.step rfl ⟨(fk Aa0.1 rfl), ?_⟩
  refine Ev.step rfl ?_
  refine Ev.step rfl ⟨rfl, k⟩
theorem w30_139 {d a0 : Nat} {is0 : Int32} {h : AH} {P : PT} (Aa0 : OB h a0 1 kE) (k : P (.inl none) (wI h a0 20 2)) : Ev d 30 139 [vR (some a0)] [vI is0] h P := by
  refine Ev.step rfl (Or.inl ?_)
  refine Ev.step rfl (Ev.step rfl ?_)
  refine Ev.step rfl ⟨(fk Aa0.1 rfl), ?_⟩
  refine Ev.step rfl ⟨rfl, k⟩
theorem w31_0 {d a0 : Nat} {h : AH} {P : PT} (Aa0 : OB h a0 1 kE) (k : Ev d 25 0 [vR (some a0), vI 1, vI 8, vU] [] h (CK d 31 P 4 [vR (some a0), vU, vU] [])) : Ev (d + 1) 31 0 [vR (some a0), vU, vU] [] h P := by
  refine Ev.step rfl (Ev.step rfl (Ev.step rfl ?_))
  exact Ev.step rfl ⟨(Nat.le_of_ble_eq_true rfl), _, _, _, Aa0.1, rfl, (Nat.le_of_ble_eq_true rfl), rfl, k⟩
theorem w31_7 {d a0 : Nat} {is0 : Int32} {w1 w2 : AV} {h : AH} {P : PT} (k : Ev d 31 10 [vR (some a0), vI is0, vI 0] [] h P) : Ev d 31 7 [vR (some a0), w1, w2] [vI is0] h P := by
  refine Ev.step rfl (Ev.step rfl (Ev.step rfl ?_))
  exact k
theorem w31_10 {d a0 : Nat} {i1 i2 : Int32} {h : AH} {P : PT} (Aa0 : OB h a0 1 kE) (k : ((i1 ≤ i2 → P (.inl none) (wI h a0 20 i1)) ∧ (i2 < i1 → Ev d 25 0 [vR (some a0), vI 0, vI ((hI h a0 20) - 1), vU] [] h (CK d 31 P 23 [vR (some a0), vI i1, vI i2] [])))) : Ev (d + 1) 31 10 [vR (some a0), vI i1, vI i2] [] h P := by
  refine Ev.step rfl (Ev.step rfl ?_)
  refine Ev.step rfl ⟨fun c => ?_, fun c => ?_⟩
  · replace k := k.1 c
    refine Ev.step rfl (Ev.step rfl ?_)
    refine Ev.step rfl ⟨(fk Aa0.1 rfl), ?_⟩
    refine Ev.step rfl ⟨rfl, k⟩
  · replace k := k.2 (Int32.not_le.mp c)
    refine Ev.step rfl (Ev.step rfl (Ev.step rfl ?_))
    refine Ev.step rfl ⟨(fk Aa0.1 rfl), ?_⟩
    refine Ev.step rfl (Ev.step rfl ?_)
    exact Ev.step rfl ⟨(Nat.le_of_ble_eq_true rfl), _, _, _, Aa0.1, rfl, (Nat.le_of_ble_eq_true rfl), rfl, k⟩
theorem w31_26 {d a0 : Nat} {i1 i2 is0 : Int32} {h : AH} {P : PT} (k : Ev d 31 10 [vR (some a0), vI i1, vI (i2 + 1)] [] h P) : Ev d 31 26 [vR (some a0), vI i1, vI i2] [vI is0] h P := by
  refine Ev.step rfl (Or.inl ?_)
  refine Ev.step rfl (Ev.step rfl ?_)
  exact k
theorem w32_0 {d a0 : Nat} {h : AH} {P : PT} (Aa0 : OB h a0 1 kE) (k : Ev d 28 0 [vR (some a0)] [] h (CK d 32 P 6 [vR (some a0), vI (hI h a0 16), vU] [])) : Ev (d + 1) 32 0 [vR (some a0), vU, vU] [] h P := by
  refine Ev.step rfl ?_
  refine Ev.step rfl ⟨(fk Aa0.1 rfl), ?_⟩
  refine Ev.step rfl (Ev.step rfl ?_)
  exact Ev.step rfl ⟨(Nat.le_of_ble_eq_true rfl), _, _, _, Aa0.1, rfl, (Nat.le_of_ble_eq_true rfl), rfl, k⟩
theorem w32_9 {d a0 as0 : Nat} {i1 : Int32} {w2 : AV} {h : AH} {P : PT} (Aa0 : OB h a0 1 kE) (Aas0 : OB h as0 12 kT) (k : ((8 < ((hI h a0 20) + (hI h as0 108)) → Ev d 27 0 [vR (some a0), vI 0, vI i1] [] h (CK d 32 P 31 [vR (some a0), vI i1, vR (some as0)] [])) ∧ (((hI h a0 20) + (hI h as0 108)) ≤ 8 → Ev d 27 0 [vR (some a0), vI 1, vI i1] [] h (CK d 32 P 31 [vR (some a0), vI i1, vR (some as0)] [])))) : Ev (d + 1) 32 9 [vR (some a0), vI i1, w2] [vR (some as0)] h P := by
  refine Ev.step rfl (Ev.step rfl (Ev.step rfl ?_))
  refine Ev.step rfl ⟨(fk Aa0.1 rfl), ?_⟩
  refine Ev.step rfl ?_
  refine Ev.step rfl ⟨(fk Aas0.1 rfl), ?_⟩
  refine Ev.step rfl (Ev.step rfl ?_)
  refine Ev.step rfl ⟨fun c => ?_, fun c => ?_⟩
  · replace k := k.1 c
    refine Ev.step rfl (Ev.step rfl ?_)
    exact Ev.step rfl ⟨(Nat.le_of_ble_eq_true rfl), _, _, _, Aa0.1, rfl, (Nat.le_of_ble_eq_true rfl), rfl, k⟩
  · replace k := k.2 (Int32.not_lt.mp c)
    refine Ev.step rfl (Ev.step rfl (Ev.step rfl ?_))
    exact Ev.step rfl ⟨(Nat.le_of_ble_eq_true rfl), _, _, _, Aa0.1, rfl, (Nat.le_of_ble_eq_true rfl), rfl, k⟩
theorem w32_34 {d a0 a2 : Nat} {i1 : Int32} {h : AH} {P : PT} (Aa0 : OB h a0 1 kE) (k : Ev d 29 0 [vR (some a0), vR (some a2), vU] [] h (CK d 32 P 36 [vR (some a0), vI i1, vR (some a2)] [])) : Ev (d + 1) 32 34 [vR (some a0), vI i1, vR (some a2)] [] h P := by
  refine Ev.step rfl (Ev.step rfl ?_)
  exact Ev.step rfl ⟨(Nat.le_of_ble_eq_true rfl), _, _, _, Aa0.1, rfl, (Nat.le_of_ble_eq_true rfl), rfl, k⟩
theorem w32_39 {d a0 a2 : Nat} {i1 : Int32} {h : AH} {P : PT} (Aa0 : OB h a0 1 kE) (k : Ev d 25 0 [vR (some a0), vI 0, vI ((hI h a0 20) - 1), vU] [] h (CK d 32 P 47 [vR (some a0), vI i1, vR (some a2)] [])) : Ev (d + 1) 32 39 [vR (some a0), vI i1, vR (some a2)] [] h P := by
  refine Ev.step rfl (Ev.step rfl (Ev.step rfl ?_))
  refine Ev.step rfl ⟨(fk Aa0.1 rfl), ?_⟩
  refine Ev.step rfl (Ev.step rfl ?_)
  exact Ev.step rfl ⟨(Nat.le_of_ble_eq_true rfl), _, _, _, Aa0.1, rfl, (Nat.le_of_ble_eq_true rfl), rfl, k⟩
theorem w32_50 {d a0 a2 : Nat} {i1 is0 : Int32} {h : AH} {P : PT} (Aa0 : OB h a0 1 kE) (Aa2 : OB h a2 12 kT) (k : P (.inl none) (wI h a0 20 ((hI h a0 20) + (hI h a2 108)))) : Ev d 32 50 [vR (some a0), vI i1, vR (some a2)] [vI is0] h P := by
  refine Ev.step rfl (Or.inl ?_)
  refine Ev.step rfl ?_
  refine Ev.step rfl (Or.inr ?_)
  refine Ev.step rfl ⟨(fk Aa0.1 rfl), ?_⟩
  refine Ev.step rfl ?_
  refine Ev.step rfl ⟨(fk Aa2.1 rfl), ?_⟩
  refine Ev.step rfl ?_
  refine Ev.step rfl ⟨(fk Aa0.1 rfl), ?_⟩
  refine Ev.step rfl ⟨rfl, k⟩
theorem w33_0 {d a0 a1 : Nat} {i2 i3 i4 : Int32} {h : AH} {P : PT} (k : Ev d 133 0 [vR (some a0), vR (some a1)] [] h (CK d 33 P 2 [vR (some a0), vR (some a1), vI i2, vI i3, vI i4] [])) : Ev (d + 1) 33 0 [vR (some a0), vR (some a1), vI i2, vI i3, vI i4] [] h P := by
  refine Ev.step rfl (Ev.step rfl ?_)
  exact Ev.step rfl ⟨(Nat.le_of_ble_eq_true rfl), trivial, (Nat.le_of_ble_eq_true rfl), rfl, k⟩
theorem w33_5 {d a0 a1 : Nat} {i2 i3 i4 : Int32} {h : AH} {P : PT} (Aa0 : OB h a0 2 kE) (k : P (.inl none) (wI (wI (wI h a0 152 i2) a0 156 i3) a0 160 i4)) : Ev d 33 5 [vR (some a0), vR (some a1), vI i2, vI i3, vI i4] [] h P := by
  refine Ev.step rfl (Ev.step rfl ?_)
  refine Ev.step rfl ⟨(fk Aa0.1 rfl), ?_⟩
  refine Ev.step rfl (Ev.step rfl ?_)
  refine Ev.step rfl ⟨(fk Aa0.1 rfl), ?_⟩
  refine Ev.step rfl (Ev.step rfl ?_)
  refine Ev.step rfl ⟨(fk Aa0.1 rfl), ?_⟩
  refine Ev.step rfl ⟨rfl, k⟩
theorem w34_0 {d a0 : Nat} {h : AH} {P : PT} (Aa0 : OB h a0 2 kS) (k : ∃ b0, hR h a0 166 = some b0 ∧ NX d b0 h (CK d 34 P 4 [vR (some a0)] [])) : Ev (d + 1) 34 0 [vR (some a0)] [] h P := by
  refine Ev.step rfl ?_
  obtain ⟨b0, hbb0, k⟩ := k
  refine e_gR rfl rfl (fk Aa0.1 rfl) hbb0 ?_
  obtain ⟨c, n, M', q1, q2, q3, k⟩ := k
  exact Ev.step rfl ⟨(Nat.le_of_ble_eq_true rfl), c, n, M', q1, q2, (Nat.le_of_ble_eq_true rfl), q3, k⟩
theorem w34_7 {d a0 : Nat} {is0 : Int32} {h : AH} {P : PT} (Aa0 : OB h a0 2 kS) (k : ((is0 = 0 → P (.inl (some (vI 0))) h) ∧ (¬ is0 = 0 → ∃ b0, hR h a0 166 = some b0 ∧ fok h b0 146 ∧ SG h b0 ∧ vp_in (hI h a0 152) 8 ∧ Ev d 35 0 [vR (some a0), vI (hI h (b0 + 1) ((hI h a0 152).toNatClampNeg))] [] h (CK d 34 P 23 [vR (some a0)] [])))) : Ev (d + 1) 34 7 [vR (some a0)] [vI is0] h P := by
  refine Ev.step rfl ⟨fun c => ?_, fun c => ?_⟩
  · replace k := k.1 c
    refine Ev.step rfl ?_
    refine Ev.step rfl ⟨rfl, (fun _ => Or.inl rfl), k⟩
  · replace k := k.2 c
    refine Ev.step rfl (Ev.step rfl ?_)
    obtain ⟨b0, hbb0, k⟩ := k
    refine e_gR rfl rfl (fk Aa0.1 rfl) hbb0 ?_
    obtain ⟨q1, k⟩ := k
    obtain ⟨q2, k⟩ := k
    refine e_gR rfl rfl q1 q2.1 ?_
    refine Ev.step rfl ?_
    refine Ev.step rfl ⟨(fk Aa0.1 rfl), ?_⟩
    obtain ⟨q3, k⟩ := k
    refine Ev.step rfl ⟨⟨_, Or.inl q2.2, q3⟩, ?_⟩
    exact Ev.step rfl ⟨(Nat.le_of_ble_eq_true rfl), _, _, _, Aa0.1, rfl, (Nat.le_of_ble_eq_true rfl), rfl, k⟩
theorem w34_26 {d a0 : Nat} {is0 : Int32} {h : AH} {P : PT} (Aa0 : OB h a0 2 kS) (k : ((is0 = 0 → Ev (d + 1) 34 0 [vR (some a0)] [] h P) ∧ (¬ is0 = 0 → Ev d 134 0 [vR (some a0)] [] h (CK d 34 P 30 [vR (some a0)] [])))) : Ev (d + 1) 34 26 [vR (some a0)] [vI is0] h P := by
  refine Ev.step rfl ⟨fun c => ?_, fun c => ?_⟩
  · replace k := k.1 c
    exact k
  · replace k := k.2 c
    refine Ev.step rfl ?_
    exact Ev.step rfl ⟨(Nat.le_of_ble_eq_true rfl), _, _, _, Aa0.1, rfl, (Nat.le_of_ble_eq_true rfl), rfl, k⟩
theorem w34_33 {d a0 : Nat} {h : AH} {P : PT} (k : P (.inl (some (vI 1))) h) : Ev d 34 33 [vR (some a0)] [] h P := by
  refine Ev.step rfl ?_
  refine Ev.step rfl ⟨rfl, (fun _ => Or.inr rfl), k⟩
theorem w35_0 {d a0 : Nat} {i1 : Int32} {h : AH} {P : PT} (Aa0 : OB h a0 2 kS) (k : (((hI h a0 156) = 0 → (((hI h a0 160) ≤ i1 → P (.inl (some (vI 0))) h) ∧ (i1 < (hI h a0 160) → P (.inl (some (vI 1))) h))) ∧ ((hI h a0 156) = 1 → (((hI h a0 160) < i1 → P (.inl (some (vI 0))) h) ∧ (i1 ≤ (hI h a0 160) → P (.inl (some (vI 1))) h))) ∧ ((hI h a0 156) = 2 → ((¬ i1 = (hI h a0 160) → P (.inl (some (vI 0))) h) ∧ (i1 = (hI h a0 160) → P (.inl (some (vI 1))) h))) ∧ ((hI h a0 156) = 3 → ((i1 = (hI h a0 160) → P (.inl (some (vI 0))) h) ∧ (¬ i1 = (hI h a0 160) → P (.inl (some (vI 1))) h))) ∧ ((hI h a0 156) = 4 → ((i1 < (hI h a0 160) → P (.inl (some (vI 0))) h) ∧ ((hI h a0 160) ≤ i1 → P (.inl (some (vI 1))) h))) ∧ ((hI h a0 156).toInt < 0 ∨ 5 ≤ (hI h a0 156).toInt → ((i1 ≤ (hI h a0 160) → P (.inl (some (vI 0))) h) ∧ ((hI h a0 160) < i1 → P (.inl (some (vI 1))) h))))) : Ev d 35 0 [vR (some a0), vI i1] [] h P := by
  refine Ev.step rfl ?_
  refine Ev.step rfl ⟨(fk Aa0.1 rfl), ?_⟩
  refine Ev.step rfl ⟨⟨fun c => ?_, fun c => ?_, fun c => ?_, fun c => ?_, fun c => ?_, trivial⟩, fun c => ?_⟩
  · replace k := k.1 c
    refine Ev.step rfl (Ev.step rfl ?_)
    refine Ev.step rfl ⟨(fk Aa0.1 rfl), ?_⟩
    refine Ev.step rfl ⟨fun c => ?_, fun c => ?_⟩
    · replace k := k.1 c
      refine Ev.step rfl ?_
      refine Ev.step rfl ⟨rfl, (fun _ => Or.inl rfl), k⟩
    · replace k := k.2 (Int32.not_le.mp c)
      refine Ev.step rfl (Ev.step rfl ?_)
      refine Ev.step rfl ⟨rfl, (fun _ => Or.inr rfl), k⟩
  · replace k := k.2.1 c
    refine Ev.step rfl (Ev.step rfl ?_)
    refine Ev.step rfl ⟨(fk Aa0.1 rfl), ?_⟩
    refine Ev.step rfl ⟨fun c => ?_, fun c => ?_⟩
    · replace k := k.1 c
      refine Ev.step rfl ?_
      refine Ev.step rfl ⟨rfl, (fun _ => Or.inl rfl), k⟩
    · replace k := k.2 (Int32.not_lt.mp c)
      refine Ev.step rfl (Ev.step rfl ?_)
      refine Ev.step rfl ⟨rfl, (fun _ => Or.inr rfl), k⟩
  · replace k := k.2.2.1 c
    refine Ev.step rfl (Ev.step rfl ?_)
    refine Ev.step rfl ⟨(fk Aa0.1 rfl), ?_⟩
    refine Ev.step rfl ⟨fun c => ?_, fun c => ?_⟩
    · replace k := k.1 c
      refine Ev.step rfl ?_
      refine Ev.step rfl ⟨rfl, (fun _ => Or.inl rfl), k⟩
    · replace k := k.2 (Decidable.not_not.mp c)
      refine Ev.step rfl (Ev.step rfl ?_)
      refine Ev.step rfl ⟨rfl, (fun _ => Or.inr rfl), k⟩
  · replace k := k.2.2.2.1 c
    refine Ev.step rfl (Ev.step rfl ?_)
    refine Ev.step rfl ⟨(fk Aa0.1 rfl), ?_⟩
    refine Ev.step rfl ⟨fun c => ?_, fun c => ?_⟩
    · replace k := k.1 c
      refine Ev.step rfl ?_
      refine Ev.step rfl ⟨rfl, (fun _ => Or.inl rfl), k⟩
    · replace k := k.2 c
      refine Ev.step rfl (Ev.step rfl ?_)
      refine Ev.step rfl ⟨rfl, (fun _ => Or.inr rfl), k⟩
  · replace k := k.2.2.2.2.1 c
    refine Ev.step rfl (Ev.step rfl ?_)
    refine Ev.step rfl ⟨(fk Aa0.1 rfl), ?_⟩
    refine Ev.step rfl ⟨fun c => ?_, fun c => ?_⟩
    · replace k := k.1 c
      refine Ev.step rfl ?_
      refine Ev.step rfl ⟨rfl, (fun _ => Or.inl rfl), k⟩
    · replace k := k.2 (Int32.not_lt.mp c)
      refine Ev.step rfl (Ev.step rfl ?_)
      refine Ev.step rfl ⟨rfl, (fun _ => Or.inr rfl), k⟩
  · replace k := k.2.2.2.2.2 c
    refine Ev.step rfl (Ev.step rfl ?_)
    refine Ev.step rfl ⟨(fk Aa0.1 rfl), ?_⟩
    refine Ev.step rfl ⟨fun c => ?_, fun c => ?_⟩
    · replace k := k.1 c
      refine Ev.step rfl ?_
      refine Ev.step rfl ⟨rfl, (fun _ => Or.inl rfl), k⟩
    · replace k := k.2 (Int32.not_le.mp c)
      refine Ev.step rfl (Ev.step rfl ?_)
      refine Ev.step rfl ⟨rfl, (fun _ => Or.inr rfl), k⟩
theorem w36_0 {d a0 a1 : Nat} {i2 : Int32} {h : AH} {P : PT} (k : Ev d 133 0 [vR (some a0), vR (some a1)] [] h (CK d 36 P 2 [vR (some a0), vR (some a1), vI i2] [])) : Ev (d + 1) 36 0 [vR (some a0), vR (some a1), vI i2] [] h P := by
  refine Ev.step rfl (Ev.step rfl ?_)
  exact Ev.step rfl ⟨(Nat.le_of_ble_eq_true rfl), trivial, (Nat.le_of_ble_eq_true rfl), rfl, k⟩
theorem w36_5 {d a0 a1 : Nat} {i2 : Int32} {h : AH} {P : PT} (Aa0 : OB h a0 3 kE) (k : P (.inl none) (wI (wI h a0 212 i2) a0 148 2)) : Ev d 36 5 [vR (some a0), vR (some a1), vI i2] [] h P := by
  refine Ev.step rfl (Ev.step rfl ?_)
  refine Ev.step rfl ⟨(fk Aa0.1 rfl), ?_⟩
  refine Ev.step rfl (Ev.step rfl ?_)
  refine Ev.step rfl ⟨(fk Aa0.1 rfl), ?_⟩
  refine Ev.step rfl ⟨rfl, k⟩
theorem w37_0 {d a0 : Nat} {h : AH} {P : PT} (Aa0 : OB h a0 3 kS) (k : ((¬ (hI h a0 223) = 0 → P (.inl (some (vI 0))) (wI h a0 223 1)) ∧ ((hI h a0 223) = 0 → ((¬ (hI h a0 219) = 0 → ∃ b0, hR h a0 166 = some b0 ∧ fok h b0 146 ∧ SG h b0 ∧ vp_in (hI h a0 212) 8 ∧ vp_in 0 8 ∧ vp_in 1 8 ∧ Ev (d + 1) 37 61 [vR (some a0)] [] (wI (wI (wI h (a0 + 1) ((0 : Int32).toNatClampNeg) (hI h (b0 + 1) ((hI h a0 212).toNatClampNeg))) (a0 + 1) ((1 : Int32).toNatClampNeg) 0) a0 219 1) P) ∧ ((hI h a0 219) = 0 → ∃ b0, hR h a0 166 = some b0 ∧ NX d b0 h (CK d 37 P 18 [vR (some a0)] [])))))) : Ev (d + 1) 37 0 [vR (some a0)] [] h P := by
  refine Ev.step rfl ?_
  refine Ev.step rfl ⟨(fk Aa0.1 rfl), ?_⟩
  refine Ev.step rfl ⟨fun c => ?_, fun c => ?_⟩
  · replace k := k.1 c
    refine Ev.step rfl (Ev.step rfl ?_)
    refine Ev.step rfl ⟨(Or.inr rfl), (fk Aa0.1 rfl), ?_⟩
    refine Ev.step rfl ?_
    refine Ev.step rfl ⟨rfl, (fun _ => Or.inl rfl), k⟩
  · replace k := k.2 (Decidable.not_not.mp c)
    refine Ev.step rfl ?_
    refine Ev.step rfl ⟨(fk Aa0.1 rfl), ?_⟩
    refine Ev.step rfl ⟨fun c => ?_, fun c => ?_⟩
    · replace k := k.1 c
      refine Ev.step rfl ?_
      refine e_gR rfl rfl (fk Aa0.1 rfl) Aa0.2.1.1 ?_
      refine Ev.step rfl (Ev.step rfl ?_)
      obtain ⟨b0, hbb0, k⟩ := k
      refine e_gR rfl rfl (fk Aa0.1 rfl) hbb0 ?_
      obtain ⟨q1, k⟩ := k
      obtain ⟨q2, k⟩ := k
      refine e_gR rfl rfl q1 q2.1 ?_
      refine Ev.step rfl ?_
      refine Ev.step rfl ⟨(fk Aa0.1 rfl), ?_⟩
      obtain ⟨q3, k⟩ := k
      refine Ev.step rfl ⟨⟨_, Or.inl q2.2, q3⟩, ?_⟩
      obtain ⟨q4, k⟩ := k
      refine Ev.step rfl ⟨⟨_, Aa0.2.1.2, q4⟩, ?_⟩
      refine Ev.step rfl ?_
      refine e_gR rfl rfl (fk Aa0.1 rfl) Aa0.2.1.1 ?_
      refine Ev.step rfl (Ev.step rfl ?_)
      obtain ⟨q5, k⟩ := k
      refine Ev.step rfl ⟨⟨_, Aa0.2.1.2, q5⟩, ?_⟩
      refine Ev.step rfl (Ev.step rfl ?_)
      refine Ev.step rfl ⟨(Or.inr rfl), (fk Aa0.1 rfl), ?_⟩
      exact k
    · replace k := k.2 (Decidable.not_not.mp c)
      refine Ev.step rfl ?_
      obtain ⟨b0, hbb0, k⟩ := k
      refine e_gR rfl rfl (fk Aa0.1 rfl) hbb0 ?_
      obtain ⟨c, n, M', q1, q2, q3, k⟩ := k
      exact Ev.step rfl ⟨(Nat.le_of_ble_eq_true rfl), c, n, M', q1, q2, (Nat.le_of_ble_eq_true rfl), q3, k⟩
theorem w37_21 {d a0 : Nat} {is0 : Int32} {h : AH} {P : PT} (Aa0 : OB h a0 3 kS) (k : ((¬ is0 = 0 → ∃ b0, hR h a0 166 = some b0 ∧ fok h b0 146 ∧ SG h b0 ∧ vp_in (hI h a0 212) 8 ∧ vp_in 0 8 ∧ vp_in 1 8 ∧ Ev d 37 61 [vR (some a0)] [] (wI (wI (wI h (a0 + 1) ((0 : Int32).toNatClampNeg) (hI h (b0 + 1) ((hI h a0 212).toNatClampNeg))) (a0 + 1) ((1 : Int32).toNatClampNeg) 0) a0 219 1) P) ∧ (is0 = 0 → P (.inl (some (vI 0))) (wI h a0 223 1)))) : Ev d 37 21 [vR (some a0)] [vI is0] h P := by
  refine Ev.step rfl ⟨fun c => ?_, fun c => ?_⟩
  · replace k := k.1 c
    refine Ev.step rfl ?_
    refine e_gR rfl rfl (fk Aa0.1 rfl) Aa0.2.1.1 ?_
    refine Ev.step rfl (Ev.step rfl ?_)
    obtain ⟨b0, hbb0, k⟩ := k
    refine e_gR rfl rfl (fk Aa0.1 rfl) hbb0 ?_
    obtain ⟨q1, k⟩ := k
    obtain ⟨q2, k⟩ := k
    refine e_gR rfl rfl q1 q2.1 ?_
    refine Ev.step rfl ?_
    refine Ev.step rfl ⟨(fk Aa0.1 rfl), ?_⟩
    obtain ⟨q3, k⟩ := k
    refine Ev.step rfl ⟨⟨_, Or.inl q2.2, q3⟩, ?_⟩
    obtain ⟨q4, k⟩ := k
    refine Ev.step rfl ⟨⟨_, Aa0.2.1.2, q4⟩, ?_⟩
    refine Ev.step rfl ?_
    refine e_gR rfl rfl (fk Aa0.1 rfl) Aa0.2.1.1 ?_
    refine Ev.step rfl (Ev.step rfl ?_)
    obtain ⟨q5, k⟩ := k
    refine Ev.step rfl ⟨⟨_, Aa0.2.1.2, q5⟩, ?_⟩
    refine Ev.step rfl (Ev.step rfl ?_)
    refine Ev.step rfl ⟨(Or.inr rfl), (fk Aa0.1 rfl), ?_⟩
    exact k
  · replace k := k.2 (Decidable.not_not.mp c)
    refine Ev.step rfl (Ev.step rfl ?_)
    refine Ev.step rfl ⟨(Or.inr rfl), (fk Aa0.1 rfl), ?_⟩
    refine Ev.step rfl ?_
    refine Ev.step rfl ⟨rfl, (fun _ => Or.inl rfl), k⟩
theorem w37_61 {d a0 : Nat} {h : AH} {P : PT} (Aa0 : OB h a0 3 kS) (k : (((hI h a0 219) = 0 → ((¬ (hI h a0 219) = 0 → P (.inl (some (vI 1))) (wI h a0 223 0)) ∧ ((hI h a0 219) = 0 → P (.inl (some (vI 1))) (wI h a0 223 1)))) ∧ (¬ (hI h a0 219) = 0 → ∃ b0, hR h a0 166 = some b0 ∧ fok h b0 146 ∧ SG h b0 ∧ vp_in (hI h a0 212) 8 ∧ vp_in 0 8 ∧ ((¬ (hI h (b0 + 1) ((hI h a0 212).toNatClampNeg)) = (hI h (a0 + 1) ((0 : Int32).toNatClampNeg)) → ((¬ (hI h a0 219) = 0 → P (.inl (some (vI 1))) (wI h a0 223 0)) ∧ ((hI h a0 219) = 0 → P (.inl (some (vI 1))) (wI h a0 223 1)))) ∧ ((hI h (b0 + 1) ((hI h a0 212).toNatClampNeg)) = (hI h (a0 + 1) ((0 : Int32).toNatClampNeg)) → vp_in 1 8 ∧ vp_in 1 8 ∧ ∃ b1, hR (wI h (a0 + 1) ((1 : Int32).toNatClampNeg) ((hI h (a0 + 1) ((1 : Int32).toNatClampNeg)) + 1)) a0 166 = some b1 ∧ NX d b1 (wI h (a0 + 1) ((1 : Int32).toNatClampNeg) ((hI h (a0 + 1) ((1 : Int32).toNatClampNeg)) + 1)) (CK d 37 P 104 [vR (some a0)] [vR (some a0)])))))) : Ev (d + 1) 37 61 [vR (some a0)] [] h P := by
  refine Ev.step rfl ?_
  refine Ev.step rfl ⟨(fk Aa0.1 rfl), ?_⟩
  refine Ev.step rfl ⟨fun c => ?_, fun c => ?_⟩
  · replace k := k.1 c
    refine Ev.step rfl (Ev.step rfl ?_)
    refine Ev.step rfl ⟨(fk Aa0.1 rfl), ?_⟩
    refine Ev.step rfl ⟨fun c => ?_, fun c => ?_⟩
    · replace k := k.1 c
      refine Ev.step rfl ?_
      refine Ev.step rfl ⟨(Or.inl rfl), (fk Aa0.1 rfl), ?_⟩
      refine Ev.step rfl ?_
      refine Ev.step rfl ⟨rfl, (fun _ => Or.inr rfl), k⟩
    · replace k := k.2 (Decidable.not_not.mp c)
      refine Ev.step rfl (Ev.step rfl ?_)
      refine Ev.step rfl ⟨(Or.inr rfl), (fk Aa0.1 rfl), ?_⟩
      refine Ev.step rfl ?_
      refine Ev.step rfl ⟨rfl, (fun _ => Or.inr rfl), k⟩
  · replace k := k.2 c
    refine Ev.step rfl ?_
    obtain ⟨b0, hbb0, k⟩ := k
    refine e_gR rfl rfl (fk Aa0.1 rfl) hbb0 ?_
    obtain ⟨q1, k⟩ := k
    obtain ⟨q2, k⟩ := k
    refine e_gR rfl rfl q1 q2.1 ?_
    refine Ev.step rfl ?_
    refine Ev.step rfl ⟨(fk Aa0.1 rfl), ?_⟩
    obtain ⟨q3, k⟩ := k
    refine Ev.step rfl ⟨⟨_, Or.inl q2.2, q3⟩, ?_⟩
    refine Ev.step rfl ?_
    refine e_gR rfl rfl (fk Aa0.1 rfl) Aa0.2.1.1 ?_
    refine Ev.step rfl ?_
    obtain ⟨q4, k⟩ := k
    refine Ev.step rfl ⟨⟨_, Or.inl Aa0.2.1.2, q4⟩, ?_⟩
    refine Ev.step rfl ⟨fun c => ?_, fun c => ?_⟩
    · replace k := k.1 c
      refine Ev.step rfl (Ev.step rfl ?_)
      refine Ev.step rfl ⟨(fk Aa0.1 rfl), ?_⟩
      refine Ev.step rfl ⟨fun c => ?_, fun c => ?_⟩
      · replace k := k.1 c
        refine Ev.step rfl ?_
        refine Ev.step rfl ⟨(Or.inl rfl), (fk Aa0.1 rfl), ?_⟩
        refine Ev.step rfl ?_
        refine Ev.step rfl ⟨rfl, (fun _ => Or.inr rfl), k⟩
      · replace k := k.2 (Decidable.not_not.mp c)
        refine Ev.step rfl (Ev.step rfl ?_)
        refine Ev.step rfl ⟨(Or.inr rfl), (fk Aa0.1 rfl), ?_⟩
        refine Ev.step rfl ?_
        refine Ev.step rfl ⟨rfl, (fun _ => Or.inr rfl), k⟩
    · replace k := k.2 (Decidable.not_not.mp c)
      refine Ev.step rfl ?_
      refine e_gR rfl rfl (fk Aa0.1 rfl) Aa0.2.1.1 ?_
      refine Ev.step rfl (Ev.step rfl ?_)
      obtain ⟨q5, k⟩ := k
      refine Ev.step rfl ⟨⟨_, Or.inl Aa0.2.1.2, q5⟩, ?_⟩
      refine Ev.step rfl (Ev.step rfl ?_)
      obtain ⟨q6, k⟩ := k
      refine Ev.step rfl ⟨⟨_, Aa0.2.1.2, q6⟩, ?_⟩
      refine Ev.step rfl (Ev.step rfl ?_)
      obtain ⟨b1, hbb1, k⟩ := k
      refine e_gR rfl rfl (fk Aa0.1 rfl) hbb1 ?_
      obtain ⟨c, n, M', q1, q2, q3, k⟩ := k
      exact Ev.step rfl ⟨(Nat.le_of_ble_eq_true rfl), c, n, M', q1, q2, (Nat.le_of_ble_eq_true rfl), q3, k⟩
theorem w37_107 {d a0 as1 : Nat} {is0 : Int32} {h : AH} {P : PT} (Aas1 : OB h as1 3 kS) (k : isB is0 ∧ Ev d 37 61 [vR (some a0)] [] (wI h as1 219 is0) P) : Ev d 37 107 [vR (some a0)] [vI is0, vR (some as1)] h P := by
  obtain ⟨q1, k⟩ := k
  refine Ev.step rfl ⟨q1, (fk Aas1.1 rfl), ?_⟩
  refine Ev.step rfl ?_
  exact k
theorem w38_0 {d a0 a1 : Nat} {i2 : Int32} {h : AH} {P : PT} (k : Ev d 133 0 [vR (some a0), vR (some a1)] [] h (CK d 38 P 2 [vR (some a0), vR (some a1), vI i2] [])) : Ev (d + 1) 38 0 [vR (some a0), vR (some a1), vI i2] [] h P := by
  refine Ev.step rfl (Ev.step rfl ?_)
  exact Ev.step rfl ⟨(Nat.le_of_ble_eq_true rfl), trivial, (Nat.le_of_ble_eq_true rfl), rfl, k⟩
theorem w38_5 {d a0 a1 : Nat} {i2 : Int32} {h : AH} {P : PT} (Aa0 : OB h a0 4 kE) (k : P (.inl none) (wI h a0 200 i2)) : Ev d 38 5 [vR (some a0), vR (some a1), vI i2] [] h P := by
  refine Ev.step rfl (Ev.step rfl ?_)
  refine Ev.step rfl ⟨(fk Aa0.1 rfl), ?_⟩
  refine Ev.step rfl ⟨rfl, k⟩
theorem w39_0 {d a0 : Nat} {h : AH} {P : PT} (Aa0 : OB h a0 4 kS) (k : (((hI h a0 200) = 0 → P (.inl (some (vI 0))) h) ∧ (¬ (hI h a0 200) = 0 → ∃ b0, hR h a0 166 = some b0 ∧ NX d b0 h (CK d 39 P 11 [vR (some a0)] [])))) : Ev (d + 1) 39 0 [vR (some a0)] [] h P := by
  refine Ev.step rfl ?_
  refine Ev.step rfl ⟨(fk Aa0.1 rfl), ?_⟩
  refine Ev.step rfl ⟨fun c => ?_, fun c => ?_⟩
  · replace k := k.1 c
    refine Ev.step rfl ?_
    refine Ev.step rfl ⟨rfl, (fun _ => Or.inl rfl), k⟩
  · replace k := k.2 c
    refine Ev.step rfl ?_
    obtain ⟨b0, hbb0, k⟩ := k
    refine e_gR rfl rfl (fk Aa0.1 rfl) hbb0 ?_
    obtain ⟨c, n, M', q1, q2, q3, k⟩ := k
    exact Ev.step rfl ⟨(Nat.le_of_ble_eq_true rfl), c, n, M', q1, q2, (Nat.le_of_ble_eq_true rfl), q3, k⟩
theorem w39_14 {d a0 : Nat} {is0 : Int32} {h : AH} {P : PT} (Aa0 : OB h a0 4 kS) (k : ((¬ is0 = 0 → Ev d 134 0 [vR (some a0)] [] (wI h a0 200 ((hI h a0 200) - 1)) (CK d 39 P 30 [vR (some a0)] [])) ∧ (is0 = 0 → P (.inl (some (vI 0))) h))) : Ev (d + 1) 39 14 [vR (some a0)] [vI is0] h P := by
  refine Ev.step rfl ⟨fun c => ?_, fun c => ?_⟩
  · replace k := k.1 c
    refine Ev.step rfl ?_
    refine Ev.step rfl (Or.inr ?_)
    refine Ev.step rfl ⟨(fk Aa0.1 rfl), ?_⟩
    refine Ev.step rfl (Ev.step rfl ?_)
    refine Ev.step rfl ⟨(fk Aa0.1 rfl), ?_⟩
    refine Ev.step rfl ?_
    exact Ev.step rfl ⟨(Nat.le_of_ble_eq_true rfl), _, _, _, Aa0.1, rfl, (Nat.le_of_ble_eq_true rfl), rfl, k⟩
  · replace k := k.2 (Decidable.not_not.mp c)
    refine Ev.step rfl ?_
    refine Ev.step rfl ⟨rfl, (fun _ => Or.inl rfl), k⟩
theorem w39_33 {d a0 : Nat} {h : AH} {P : PT} (k : P (.inl (some (vI 1))) h) : Ev d 39 33 [vR (some a0)] [] h P := by
  refine Ev.step rfl ?_
  refine Ev.step rfl ⟨rfl, (fun _ => Or.inr rfl), k⟩
theorem w40_0 {d a0 a1 a2 a3 : Nat} {i4 i5 : Int32} {h : AH} {P : PT} (k : Ev d 133 0 [vR (some a0), vR (some a1)] [] h (CK d 40 P 2 [vR (some a0), vR (some a1), vR (some a2), vR (some a3), vI i4, vI i5] [])) : Ev (d + 1) 40 0 [vR (some a0), vR (some a1), vR (some a2), vR (some a3), vI i4, vI i5] [] h P := by
  refine Ev.step rfl (Ev.step rfl ?_)
  exact Ev.step rfl ⟨(Nat.le_of_ble_eq_true rfl), trivial, (Nat.le_of_ble_eq_true rfl), rfl, k⟩
theorem w40_5 {d a0 a1 a2 a3 : Nat} {i4 i5 : Int32} {h : AH} {P : PT} (k : 1 ≤ hC h ∧ 3 ≤ hS h ∧ Ev d 40 9 [vR (some a0), vR (some a1), vR (some a2), vR (some a3), vI i4, vI i5] [vR (some (hN h)), vR (some a0)] (al h (15, 0) 3) P) : Ev d 40 5 [vR (some a0), vR (some a1), vR (some a2), vR (some a3), vI i4, vI i5] [] h P := by
  refine Ev.step rfl ?_
  obtain ⟨q1, k⟩ := k
  obtain ⟨q2, k⟩ := k
  refine Ev.step rfl ⟨q1, q2, ?_⟩
  exact k
theorem w40_9 {d a0 a1 a2 a3 as0 as1 : Nat} {i4 i5 : Int32} {h : AH} {P : PT} (k : Ev d 81 0 [vR (some as0)] [] h (CK d 40 P 10 [vR (some a0), vR (some a1), vR (some a2), vR (some a3), vI i4, vI i5] [vR (some as0), vR (some as1)])) : Ev (d + 1) 40 9 [vR (some a0), vR (some a1), vR (some a2), vR (some a3), vI i4, vI i5] [vR (some as0), vR (some as1)] h P := by
  refine Ev.step rfl (Or.inr ?_)
  exact Ev.step rfl ⟨(Nat.le_of_ble_eq_true rfl), trivial, (Nat.le_of_ble_eq_true rfl), rfl, k⟩
theorem w40_13 {d a0 a1 a2 a3 as0 as1 : Nat} {i4 i5 : Int32} {h : AH} {P : PT} (Aas1 : OB h as1 5 kE) (k : Ev d 40 16 [vR (some a0), vR (some a1), vR (some a2), vR (some a3), vI i4, vI i5] [] (wR h as1 174 (some as0)) P) : Ev d 40 13 [vR (some a0), vR (some a1), vR (some a2), vR (some a3), vI i4, vI i5] [vR (some as0), vR (some as1)] h P := by
  refine Ev.step rfl ⟨(fk Aas1.1 rfl), ?_⟩
  exact k
theorem w40_16 {d a0 a1 a2 a3 : Nat} {i4 i5 : Int32} {h : AH} {P : PT} (Aa0 : OB h a0 5 kE) (k : Ev d 40 21 [vR (some a0), vR (some a1), vR (some a2), vR (some a3), vI i4, vI i5] [] (wR h a0 178 (some a2)) P) : Ev d 40 16 [vR (some a0), vR (some a1), vR (some a2), vR (some a3), vI i4, vI i5] [] h P := by
  refine Ev.step rfl (Ev.step rfl ?_)
  refine Ev.step rfl ⟨(fk Aa0.1 rfl), ?_⟩
  exact k
theorem w40_21 {d a0 a1 a2 a3 : Nat} {i4 i5 : Int32} {h : AH} {P : PT} (Aa0 : OB h a0 5 kE) (k : Ev d 40 26 [vR (some a0), vR (some a1), vR (some a2), vR (some a3), vI i4, vI i5] [] (wR h a0 182 (some a3)) P) : Ev d 40 21 [vR (some a0), vR (some a1), vR (some a2), vR (some a3), vI i4, vI i5] [] h P := by
  refine Ev.step rfl (Ev.step rfl ?_)
  refine Ev.step rfl ⟨(fk Aa0.1 rfl), ?_⟩
  exact k
theorem w40_26 {d a0 a1 a2 a3 : Nat} {i4 i5 : Int32} {h : AH} {P : PT} (Aa0 : OB h a0 5 kE) (Aa3 : OB h a3 12 kT) (k : fok (wI (wI h a0 184 i4) a0 188 i5) a1 148 ∧ P (.inl none) (wI (wI (wI h a0 184 i4) a0 188 i5) a0 148 ((hI (wI (wI h a0 184 i4) a0 188 i5) a1 148) + (hI (wI (wI h a0 184 i4) a0 188 i5) a3 108)))) : Ev d 40 26 [vR (some a0), vR (some a1), vR (some a2), vR (some a3), vI i4, vI i5] [] h P := by
  refine Ev.step rfl (Ev.step rfl ?_)
  refine Ev.step rfl ⟨(fk Aa0.1 rfl), ?_⟩
  refine Ev.step rfl (Ev.step rfl ?_)
  refine Ev.step rfl ⟨(fk Aa0.1 rfl), ?_⟩
  refine Ev.step rfl (Ev.step rfl ?_)
  obtain ⟨q1, k⟩ := k
  refine Ev.step rfl ⟨q1, ?_⟩
  refine Ev.step rfl ?_
  refine Ev.step rfl ⟨(fk Aa3.1 rfl), ?_⟩
  refine Ev.step rfl ?_
  refine Ev.step rfl ⟨(fk Aa0.1 rfl), ?_⟩
  refine Ev.step rfl ⟨rfl, k⟩
theorem w41_0 {d a0 : Nat} {h : AH} {P : PT} (Aa0 : OB h a0 5 kJ) (k : (((hI h a0 195) = 0 → Ev (d + 1) 41 19 [vR (some a0), vR none, vU] [] h P) ∧ (¬ (hI h a0 195) = 0 → Ev d 83 0 [vR (some (a0 + 2))] [] h (CK d 41 P 11 [vR (some a0), vU, vU] [])))) : Ev (d + 1) 41 0 [vR (some a0), vU, vU] [] h P := by
  refine Ev.step rfl ?_
  refine Ev.step rfl ⟨(fk Aa0.1 rfl), ?_⟩
  refine Ev.step rfl ⟨fun c => ?_, fun c => ?_⟩
  · replace k := k.1 c
    refine Ev.step rfl (Ev.step rfl ?_)
    exact k
  · replace k := k.2 c
    refine Ev.step rfl ?_
    refine e_gR rfl rfl (fk Aa0.1 rfl) Aa0.2.2.1.1 ?_
    exact Ev.step rfl ⟨(Nat.le_of_ble_eq_true rfl), _, _, _, (⟨Aa0.2.2.1.2, trivial⟩ : OB h (a0 + 2) 15 kE).1, rfl, (Nat.le_of_ble_eq_true rfl), rfl, k⟩
theorem w41_14 {d a0 : Nat} {rs0 : Option Nat} {w1 w2 : AV} {h : AH} {P : PT} (k : Ev d 41 19 [vR (some a0), vR rs0, w2] [] h P) : Ev d 41 14 [vR (some a0), w1, w2] [vR rs0] h P := by
  refine Ev.step rfl (Ev.step rfl ?_)
  exact k
theorem w41_19 {d a0 : Nat} {r1 : Option Nat} {w2 : AV} {h : AH} {P : PT} (Aa0 : OB h a0 5 kJ) (k : ((r1 = none → ∃ b0, hR h a0 166 = some b0 ∧ NX d b0 h (CK d 41 P 27 [vR (some a0), vR r1, w2] [])) ∧ (¬ r1 = none → ∃ b0, hR h a0 178 = some b0 ∧ OB h b0 6 kE ∧ Ev d 43 0 [vR (some b0)] [] h (CK d 41 P 90 [vR (some a0), vR r1, w2] [])))) : Ev (d + 1) 41 19 [vR (some a0), vR r1, w2] [] h P := by
  refine Ev.step rfl ?_
  refine Ev.step rfl ⟨fun c => ?_, fun c => ?_⟩
  · replace k := k.1 c
    refine Ev.step rfl ?_
    obtain ⟨b0, hbb0, k⟩ := k
    refine e_gR rfl rfl (fk Aa0.1 rfl) hbb0 ?_
    obtain ⟨c, n, M', q1, q2, q3, k⟩ := k
    exact Ev.step rfl ⟨(Nat.le_of_ble_eq_true rfl), c, n, M', q1, q2, (Nat.le_of_ble_eq_true rfl), q3, k⟩
  · replace k := k.2 c
    refine Ev.step rfl ?_
    obtain ⟨b0, hbb0, k⟩ := k
    refine e_gR rfl rfl (fk Aa0.1 rfl) hbb0 ?_
    obtain ⟨q1, k⟩ := k
    exact Ev.step rfl ⟨(Nat.le_of_ble_eq_true rfl), _, _, _, q1.1, rfl, (Nat.le_of_ble_eq_true rfl), rfl, k⟩
theorem w41_30 {d a0 : Nat} {is0 : Int32} {r1 : Option Nat} {w2 : AV} {h : AH} {P : PT} (Aa0 : OB h a0 5 kJ) (k : ((¬ is0 = 0 → ∃ b0, hR h a0 166 = some b0 ∧ fok h b0 146 ∧ SG h b0 ∧ vp_in (hI h a0 188) 8 ∧ ∃ b1, hR h a0 182 = some b1 ∧ OB h b1 12 kT ∧ Ev d 66 0 [vR (some b1), vR (some (a0 + 2)), vI (hI h a0 184), vI (hI h (b0 + 1) ((hI h a0 188).toNatClampNeg)), vI (hI h (b0 + 1) ((hI h a0 188).toNatClampNeg))] [] h (CK d 41 P 67 [vR (some a0), vR r1, vI (hI h (b0 + 1) ((hI h a0 188).toNatClampNeg))] [])) ∧ (is0 = 0 → P (.inl (some (vI 0))) (wI h a0 195 0)))) : Ev (d + 1) 41 30 [vR (some a0), vR r1, w2] [vI is0] h P := by
  refine Ev.step rfl ⟨fun c => ?_, fun c => ?_⟩
  · replace k := k.1 c
    refine Ev.step rfl ?_
    obtain ⟨b0, hbb0, k⟩ := k
    refine e_gR rfl rfl (fk Aa0.1 rfl) hbb0 ?_
    obtain ⟨q1, k⟩ := k
    obtain ⟨q2, k⟩ := k
    refine e_gR rfl rfl q1 q2.1 ?_
    refine Ev.step rfl ?_
    refine Ev.step rfl ⟨(fk Aa0.1 rfl), ?_⟩
    obtain ⟨q3, k⟩ := k
    refine Ev.step rfl ⟨⟨_, Or.inl q2.2, q3⟩, ?_⟩
    refine Ev.step rfl (Ev.step rfl ?_)
    obtain ⟨b1, hbb1, k⟩ := k
    refine e_gR rfl rfl (fk Aa0.1 rfl) hbb1 ?_
    refine Ev.step rfl ?_
    refine e_gR rfl rfl (fk Aa0.1 rfl) Aa0.2.2.1.1 ?_
    refine Ev.step rfl ?_
    refine Ev.step rfl ⟨(fk Aa0.1 rfl), ?_⟩
    refine Ev.step rfl (Ev.step rfl ?_)
    obtain ⟨q4, k⟩ := k
    exact Ev.step rfl ⟨(Nat.le_of_ble_eq_true rfl), _, _, _, q4.1, rfl, (Nat.le_of_ble_eq_true rfl), rfl, k⟩
  · replace k := k.2 (Decidable.not_not.mp c)
    refine Ev.step rfl (Ev.step rfl ?_)
    refine Ev.step rfl ⟨(Or.inl rfl), (fk Aa0.1 rfl), ?_⟩
    refine Ev.step rfl ?_
    refine Ev.step rfl ⟨rfl, (fun _ => Or.inl rfl), k⟩
theorem w41_70 {d a0 : Nat} {i2 : Int32} {r1 : Option Nat} {h : AH} {P : PT} (Aa0 : OB h a0 5 kJ) (k : Ev d 83 0 [vR (some (a0 + 2))] [] (wI h a0 195 1) (CK d 41 P 79 [vR (some a0), vR r1, vI i2] [])) : Ev (d + 1) 41 70 [vR (some a0), vR r1, vI i2] [] h P := by
  refine Ev.step rfl (Ev.step rfl ?_)
  refine Ev.step rfl ⟨(Or.inr rfl), (fk Aa0.1 rfl), ?_⟩
  refine Ev.step rfl ?_
  refine e_gR rfl rfl (fk Aa0.1 rfl) Aa0.2.2.1.1 ?_
  exact Ev.step rfl ⟨(Nat.le_of_ble_eq_true rfl), _, _, _, (⟨Aa0.2.2.1.2, trivial⟩ : OB (wI h a0 195 1) (a0 + 2) 15 kE).1, rfl, (Nat.le_of_ble_eq_true rfl), rfl, k⟩
theorem w41_82 {d a0 : Nat} {i2 : Int32} {r1 rs0 : Option Nat} {h : AH} {P : PT} (k : Ev d 41 19 [vR (some a0), vR rs0, vI i2] [] h P) : Ev d 41 82 [vR (some a0), vR r1, vI i2] [vR rs0] h P := by
  refine Ev.step rfl (Ev.step rfl ?_)
  exact k
theorem w41_93 {d a0 : Nat} {r1 : Option Nat} {w2 : AV} {h : AH} {P : PT} (Aa0 : OB h a0 5 kJ) (k : Ev d 134 0 [vR (some a0)] [] h (CK d 41 P 94 [vR (some a0), vR r1, w2] [])) : Ev (d + 1) 41 93 [vR (some a0), vR r1, w2] [] h P := by
  refine Ev.step rfl ?_
  exact Ev.step rfl ⟨(Nat.le_of_ble_eq_true rfl), _, _, _, Aa0.1, rfl, (Nat.le_of_ble_eq_true rfl), rfl, k⟩
theorem w41_97 {d a0 : Nat} {r1 : Option Nat} {w2 : AV} {h : AH} {P : PT} (Aa0 : OB h a0 5 kJ) (k : ∃ b0, r1 = some b0 ∧ OB h b0 9 kR ∧ ∃ b1, hR h a0 182 = some b1 ∧ OB h b1 12 kT ∧ ∃ b2, hR h a0 166 = some b2 ∧ fok h b2 148 ∧ Ev d 132 0 [vR (some a0), vR (some (b0 + 1)), vI (hI h b1 108), vI (hI h b2 148)] [] h (CK d 41 P 116 [vR (some a0), vR r1, w2] [])) : Ev (d + 1) 41 97 [vR (some a0), vR r1, w2] [] h P := by
  refine Ev.step rfl (Ev.step rfl ?_)
  obtain ⟨b0, hbb0, k⟩ := k
  refine e_nn hbb0 ?_
  obtain ⟨q1, k⟩ := k
  refine e_gR rfl rfl (fk q1.1 rfl) q1.2.1.1 ?_
  refine Ev.step rfl ?_
  obtain ⟨b1, hbb1, k⟩ := k
  refine e_gR rfl rfl (fk Aa0.1 rfl) hbb1 ?_
  obtain ⟨q2, k⟩ := k
  refine Ev.step rfl ⟨(fk q2.1 rfl), ?_⟩
  refine Ev.step rfl ?_
  obtain ⟨b2, hbb2, k⟩ := k
  refine e_gR rfl rfl (fk Aa0.1 rfl) hbb2 ?_
  obtain ⟨q3, k⟩ := k
  refine Ev.step rfl ⟨q3, ?_⟩
  exact Ev.step rfl ⟨(Nat.le_of_ble_eq_true rfl), _, _, _, Aa0.1, rfl, (Nat.le_of_ble_eq_true rfl), rfl, k⟩
theorem w41_119 {d a0 : Nat} {r1 : Option Nat} {w2 : AV} {h : AH} {P : PT} (k : P (.inl (some (vI 1))) h) : Ev d 41 119 [vR (some a0), vR r1, w2] [] h P := by
  refine Ev.step rfl ?_
  refine Ev.step rfl ⟨rfl, (fun _ => Or.inr rfl), k⟩
