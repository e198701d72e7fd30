/-! deps: 25 -/
/-! blocks (printed by gen_blocks.py) -/
theorem w57_0 {d a0 : Nat} {i1 : Int32} {h : AH} {P : PT} (Aa0 : OB h a0 12 kT) (k : Ev d 58 0 [vR (some a0), vI i1] [] h (CK d 57 P 2 [vR (some a0), vI i1] [])) : Ev (d + 1) 57 0 [vR (some a0), vI i1] [] h P := by
  refine Ev.step rfl (Ev.step rfl ?_)
  exact Ev.step rfl ⟨(Nat.le_of_ble_eq_true rfl), _, _, _, Aa0.1, rfl, (Nat.le_of_ble_eq_true rfl), rfl, k⟩
theorem w57_5 {d a0 : Nat} {i1 is0 : Int32} {h : AH} {P : PT} (Aa0 : OB h a0 12 kT) (k : ((is0 = 0 → P (.inl (some (vI 0))) h) ∧ (¬ is0 = 0 → vp_in i1 4 ∧ (((hR h (a0 + 1) i1.toNatClampNeg) = none → P (.inl (some (vI 0))) h) ∧ (¬ (hR h (a0 + 1) i1.toNatClampNeg) = none → P (.inl (some (vI 1))) h))))) : Ev d 57 5 [vR (some a0), vI i1] [vI is0] h P := by
  refine Ev.step rfl ⟨fun c => ?_, fun c => ?_⟩
  · replace k := k.1 c
    refine Ev.step rfl ?_
    refine Ev.step rfl ⟨rfl, (fun _ => Or.inl rfl), k⟩
  · replace k := k.2 c
    refine Ev.step rfl ?_
    refine e_gR rfl rfl (fk Aa0.1 rfl) Aa0.2.1.1 ?_
    refine Ev.step rfl ?_
    obtain ⟨q1, k⟩ := k
    refine Ev.step rfl ⟨⟨5, _, by decide, by decide, Aa0.2.1.2, q1⟩, ?_⟩
    refine Ev.step rfl ⟨fun c => ?_, fun c => ?_⟩
    · replace k := k.1 c
      refine Ev.step rfl ?_
      refine Ev.step rfl ⟨rfl, (fun _ => Or.inl rfl), k⟩
    · replace k := k.2 c
      refine Ev.step rfl (Ev.step rfl ?_)
      refine Ev.step rfl ⟨rfl, (fun _ => Or.inr rfl), k⟩
theorem w58_0 {d a0 : Nat} {i1 : Int32} {h : AH} {P : PT} (Aa0 : OB h a0 12 kT) (k : ((i1 < 0 → P (.inl (some (vI 0))) h) ∧ (0 ≤ i1 → (((hI h a0 108) ≤ i1 → P (.inl (some (vI 0))) h) ∧ (i1 < (hI h a0 108) → P (.inl (some (vI 1))) h))))) : Ev d 58 0 [vR (some a0), vI i1] [] h P := by
  refine Ev.step rfl ?_
  refine Ev.step rfl ⟨fun c => ?_, fun c => ?_⟩
  · replace k := k.1 c
    refine Ev.step rfl ?_
    refine Ev.step rfl ⟨rfl, (fun _ => Or.inl rfl), k⟩
  · replace k := k.2 (Int32.not_lt.mp c)
    refine Ev.step rfl (Ev.step rfl ?_)
    refine Ev.step rfl ⟨(fk Aa0.1 rfl), ?_⟩
    refine Ev.step rfl ⟨fun c => ?_, fun c => ?_⟩
    · replace k := k.1 c
      refine Ev.step rfl ?_
      refine Ev.step rfl ⟨rfl, (fun _ => Or.inl rfl), k⟩
    · replace k := k.2 (Int32.not_le.mp c)
      refine Ev.step rfl (Ev.step rfl ?_)
      refine Ev.step rfl ⟨rfl, (fun _ => Or.inr rfl), k⟩
theorem w59_0 {d a0 : Nat} {i1 : Int32} {h : AH} {P : PT} (k : 1 ≤ hC h ∧ 4 ≤ hS h ∧ Ev d 59 9 [vR (some a0), vI i1] [vR (some (hN h)), vR (some a0)] (al h (105, 4) 4) P) : Ev d 59 0 [vR (some a0), vI i1] [] h P := by
  refine Ev.step rfl ?_
  refine Ev.step rfl ⟨(Nat.le_of_ble_eq_true rfl), ?_⟩
  refine Ev.step rfl (Ev.step rfl ?_)
  obtain ⟨q1, k⟩ := k
  obtain ⟨q2, k⟩ := k
  refine Ev.step rfl ⟨(Int32.not_lt.mpr (by decide)), (by decide), q1, q2, ?_⟩
  exact k
theorem w59_9 {d a0 as0 as1 : Nat} {i1 : Int32} {h : AH} {P : PT} (Aas1 : OB h as1 12 kE) (k : Ev d 59 12 [vR (some a0), vI i1] [] (wR h as1 118 (some as0)) P) : Ev d 59 9 [vR (some a0), vI i1] [vR (some as0), vR (some as1)] h P := by
  refine Ev.step rfl ⟨(fk Aas1.1 rfl), ?_⟩
  exact k
theorem w59_12 {d a0 : Nat} {i1 : Int32} {h : AH} {P : PT} (Aa0 : OB h a0 12 kE) (k : ∃ b0, hR (wI h a0 108 i1) a0 118 = some b0 ∧ 1 ≤ hC (wI h a0 108 i1) ∧ 1 ≤ hS (wI h a0 108 i1) ∧ Ev d 59 25 [vR (some a0), vI i1] [vR (some (hN (wI h a0 108 i1))), vI 0, vR (some b0)] (al (wI h a0 108 i1) (14, 0) 1) P) : Ev d 59 12 [vR (some a0), vI i1] [] h P := by
  refine Ev.step rfl (Ev.step rfl ?_)
  refine Ev.step rfl ⟨(fk Aa0.1 rfl), ?_⟩
  refine Ev.step rfl ?_
  obtain ⟨b0, hbb0, k⟩ := k
  refine e_gR rfl rfl (fk Aa0.1 rfl) hbb0 ?_
  refine Ev.step rfl ?_
  obtain ⟨q1, k⟩ := k
  obtain ⟨q2, k⟩ := k
  refine Ev.step rfl ⟨q1, q2, ?_⟩
  exact k
theorem w59_25 {d a0 as0 as2 : Nat} {i1 is1 : Int32} {h : AH} {P : PT} (k : Ev d 69 0 [vR (some as0)] [] h (CK d 59 P 26 [vR (some a0), vI i1] [vR (some as0), vI is1, vR (some as2)])) : Ev (d + 1) 59 25 [vR (some a0), vI i1] [vR (some as0), vI is1, vR (some as2)] h P := by
  refine Ev.step rfl (Or.inr ?_)
  exact Ev.step rfl ⟨(Nat.le_of_ble_eq_true rfl), trivial, (Nat.le_of_ble_eq_true rfl), rfl, k⟩
theorem w59_29 {d a0 as0 as2 : Nat} {i1 is1 : Int32} {h : AH} {P : PT} (k : ∃ n_as2, hT h as2 = some (105, n_as2) ∧ vp_in is1 n_as2 ∧ RT h (some as0) 14 ∧ Ev d 59 30 [vR (some a0), vI i1] [] (wR h as2 is1.toNatClampNeg (some as0)) P) : Ev d 59 29 [vR (some a0), vI i1] [vR (some as0), vI is1, vR (some as2)] h P := by
  obtain ⟨n_as2, t1, k⟩ := k
  obtain ⟨q2, k⟩ := k
  obtain ⟨q3, k⟩ := k
  refine Ev.step rfl ⟨⟨5, _, by decide, by decide, t1, q2, q3⟩, ?_⟩
  exact k
theorem w59_30 {d a0 : Nat} {i1 : Int32} {h : AH} {P : PT} (k : P (.inl none) h) : Ev d 59 30 [vR (some a0), vI i1] [] h P := by
  refine Ev.step rfl ⟨rfl, k⟩
theorem w60_0 {d a0 : Nat} {i1 : Int32} {h : AH} {P : PT} (k : 1 ≤ hC h ∧ 1 ≤ hS h ∧ Ev d 60 3 [vR (some a0), vI i1, vU, vU, vU] [vR (some (hN h))] (al h (14, 0) 1) P) : Ev d 60 0 [vR (some a0), vI i1, vU, vU, vU] [] h P := by
  obtain ⟨q1, k⟩ := k
  obtain ⟨q2, k⟩ := k
  refine Ev.step rfl ⟨q1, q2, ?_⟩
  exact k
theorem w60_3 {d a0 as0 : Nat} {i1 : Int32} {w2 w3 w4 : AV} {h : AH} {P : PT} (k : Ev d 69 0 [vR (some as0)] [] h (CK d 60 P 4 [vR (some a0), vI i1, w2, w3, w4] [vR (some as0)])) : Ev (d + 1) 60 3 [vR (some a0), vI i1, w2, w3, w4] [vR (some as0)] h P := by
  refine Ev.step rfl (Or.inr ?_)
  exact Ev.step rfl ⟨(Nat.le_of_ble_eq_true rfl), trivial, (Nat.le_of_ble_eq_true rfl), rfl, k⟩
theorem w60_7 {d a0 as0 : Nat} {i1 : Int32} {w2 w3 w4 : AV} {h : AH} {P : PT} (k : 1 ≤ hC h ∧ 3 ≤ hS h ∧ Ev d 60 11 [vR (some a0), vI i1, vR (some as0), w3, w4] [vR (some (hN h))] (al h (15, 0) 3) P) : Ev d 60 7 [vR (some a0), vI i1, w2, w3, w4] [vR (some as0)] h P := by
  refine Ev.step rfl ?_
  obtain ⟨q1, k⟩ := k
  obtain ⟨q2, k⟩ := k
  refine Ev.step rfl ⟨q1, q2, ?_⟩
  exact k
theorem w60_11 {d a0 a2 as0 : Nat} {i1 : Int32} {w3 w4 : AV} {h : AH} {P : PT} (k : Ev d 81 0 [vR (some as0)] [] h (CK d 60 P 12 [vR (some a0), vI i1, vR (some a2), w3, w4] [vR (some as0)])) : Ev (d + 1) 60 11 [vR (some a0), vI i1, vR (some a2), w3, w4] [vR (some as0)] h P := by
  refine Ev.step rfl (Or.inr ?_)
  exact Ev.step rfl ⟨(Nat.le_of_ble_eq_true rfl), trivial, (Nat.le_of_ble_eq_true rfl), rfl, k⟩
theorem w60_15 {d a0 a2 as0 : Nat} {i1 : Int32} {w3 w4 : AV} {h : AH} {P : PT} (Aa0 : OB h a0 12 kT) (Aas0 : OB h as0 15 kE) (k : vp_in 0 4 ∧ ∃ b0, hR h (a0 + 1) ((0 : Int32).toNatClampNeg) = some b0 ∧ Ev d 82 0 [vR (some as0), vR (some b0), vL (-9223372036854775808), vU, vL 9223372036854775807, vU] [] h (CK d 60 P 29 [vR (some a0), vI i1, vR (some a2), vR (some as0), w4] [])) : Ev (d + 1) 60 15 [vR (some a0), vI i1, vR (some a2), w3, w4] [vR (some as0)] h P := by
  refine Ev.step rfl (Ev.step rfl (Ev.step rfl ?_))
  refine e_gR rfl rfl (fk Aa0.1 rfl) Aa0.2.1.1 ?_
  refine Ev.step rfl ?_
  obtain ⟨q1, k⟩ := k
  refine Ev.step rfl ⟨⟨5, _, by decide, by decide, Aa0.2.1.2, q1⟩, ?_⟩
  obtain ⟨b0, hbb0, k⟩ := k
  rw [hbb0]
  refine Ev.step rfl (Ev.step rfl ?_)
  exact Ev.step rfl ⟨(Nat.le_of_ble_eq_true rfl), _, _, _, Aas0.1, rfl, (Nat.le_of_ble_eq_true rfl), rfl, k⟩
theorem w60_32 {d a0 a2 a3 : Nat} {i1 : Int32} {w4 : AV} {h : AH} {P : PT} (Aa3 : OB h a3 15 kE) (k : Ev d 83 0 [vR (some a3)] [] h (CK d 60 P 33 [vR (some a0), vI i1, vR (some a2), vR (some a3), w4] [])) : Ev (d + 1) 60 32 [vR (some a0), vI i1, vR (some a2), vR (some a3), w4] [] h P := by
  refine Ev.step rfl ?_
  exact Ev.step rfl ⟨(Nat.le_of_ble_eq_true rfl), _, _, _, Aa3.1, rfl, (Nat.le_of_ble_eq_true rfl), rfl, k⟩
theorem w60_36 {d a0 a2 a3 : Nat} {i1 : Int32} {rs0 : Option Nat} {w4 : AV} {h : AH} {P : PT} (k : Ev d 60 38 [vR (some a0), vI i1, vR (some a2), vR (some a3), vR rs0] [] h P) : Ev d 60 36 [vR (some a0), vI i1, vR (some a2), vR (some a3), w4] [vR rs0] h P := by
  refine Ev.step rfl ?_
  exact k
theorem w60_38 {d a0 a2 a3 : Nat} {i1 : Int32} {r4 : Option Nat} {h : AH} {P : PT} (Aa0 : OB h a0 12 kT) (k : ((r4 = none → vp_in i1 4 ∧ RT h (some a2) 14 ∧ Ev (d + 1) 60 71 [vR (some a0), vI i1, vR (some a2), vR (some a3), vR r4] [] (wR h (a0 + 1) i1.toNatClampNeg (some a2)) P) ∧ (¬ r4 = none → Ev d 61 0 [vR r4, vI i1] [] h (CK d 60 P 47 [vR (some a0), vI i1, vR (some a2), vR (some a3), vR r4] [vR (some a2)])))) : Ev (d + 1) 60 38 [vR (some a0), vI i1, vR (some a2), vR (some a3), vR r4] [] h P := by
  refine Ev.step rfl ?_
  refine Ev.step rfl ⟨fun c => ?_, fun c => ?_⟩
  · replace k := k.1 c
    refine Ev.step rfl ?_
    refine e_gR rfl rfl (fk Aa0.1 rfl) Aa0.2.1.1 ?_
    refine Ev.step rfl (Ev.step rfl ?_)
    obtain ⟨q1, k⟩ := k
    obtain ⟨q2, k⟩ := k
    refine Ev.step rfl ⟨⟨5, _, by decide, by decide, Aa0.2.1.2, q1, q2⟩, ?_⟩
    exact k
  · replace k := k.2 c
    refine Ev.step rfl (Ev.step rfl (Ev.step rfl ?_))
    exact Ev.step rfl ⟨(Nat.le_of_ble_eq_true rfl), (Nat.le_of_ble_eq_true rfl), rfl, k⟩
theorem w60_50 {d a0 a2 a3 as1 : Nat} {i1 : Int32} {ls0 : Int64} {r4 : Option Nat} {h : AH} {P : PT} (Aas1 : OB h as1 14 kE) (k : Ev d 71 0 [vR (some as1), vL ls0, vU, vR r4, vU] [] h (CK d 60 P 52 [vR (some a0), vI i1, vR (some a2), vR (some a3), vR r4] [])) : Ev (d + 1) 60 50 [vR (some a0), vI i1, vR (some a2), vR (some a3), vR r4] [vL ls0, vR (some as1)] h P := by
  refine Ev.step rfl ?_
  exact Ev.step rfl ⟨(Nat.le_of_ble_eq_true rfl), _, _, _, Aas1.1, rfl, (Nat.le_of_ble_eq_true rfl), rfl, k⟩
theorem w60_55 {d a0 a2 a3 : Nat} {i1 : Int32} {r4 : Option Nat} {h : AH} {P : PT} (Aa3 : OB h a3 15 kE) (k : Ev d 83 0 [vR (some a3)] [] h (CK d 60 P 56 [vR (some a0), vI i1, vR (some a2), vR (some a3), vR r4] [])) : Ev (d + 1) 60 55 [vR (some a0), vI i1, vR (some a2), vR (some a3), vR r4] [] h P := by
  refine Ev.step rfl ?_
  exact Ev.step rfl ⟨(Nat.le_of_ble_eq_true rfl), _, _, _, Aa3.1, rfl, (Nat.le_of_ble_eq_true rfl), rfl, k⟩
theorem w60_59 {d a0 a2 a3 : Nat} {i1 : Int32} {r4 rs0 : Option Nat} {h : AH} {P : PT} (k : Ev d 60 38 [vR (some a0), vI i1, vR (some a2), vR (some a3), vR rs0] [] h P) : Ev d 60 59 [vR (some a0), vI i1, vR (some a2), vR (some a3), vR r4] [vR rs0] h P := by
  refine Ev.step rfl (Ev.step rfl ?_)
  exact k
theorem w60_71 {d a0 a2 a3 : Nat} {i1 : Int32} {r4 : Option Nat} {h : AH} {P : PT} (k : P (.inl none) h) : Ev d 60 71 [vR (some a0), vI i1, vR (some a2), vR (some a3), vR r4] [] h P := by
  refine Ev.step rfl ⟨rfl, k⟩
theorem w61_0 {d a0 : Nat} {i1 : Int32} {h : AH} {P : PT} (Aa0 : OB h a0 9 kR) (k : vp_in i1 4 ∧ vp_in 0 4 ∧ Ev d 62 0 [vI (hI h (a0 + 1) i1.toNatClampNeg), vI (hI h (a0 + 1) ((0 : Int32).toNatClampNeg))] [] h (CK d 61 P 12 [vR (some a0), vI i1] [])) : Ev (d + 1) 61 0 [vR (some a0), vI i1] [] h P := by
  refine Ev.step rfl ?_
  refine e_gR rfl rfl (fk Aa0.1 rfl) Aa0.2.1.1 ?_
  refine Ev.step rfl ?_
  obtain ⟨q1, k⟩ := k
  refine Ev.step rfl ⟨⟨_, Or.inl Aa0.2.1.2, q1⟩, ?_⟩
  refine Ev.step rfl ?_
  refine e_gR rfl rfl (fk Aa0.1 rfl) Aa0.2.1.1 ?_
  refine Ev.step rfl ?_
  obtain ⟨q2, k⟩ := k
  refine Ev.step rfl ⟨⟨_, Or.inl Aa0.2.1.2, q2⟩, ?_⟩
  exact Ev.step rfl ⟨(Nat.le_of_ble_eq_true rfl), (Nat.le_of_ble_eq_true rfl), rfl, k⟩
theorem w61_15 {d a0 : Nat} {i1 : Int32} {ls0 : Int64} {h : AH} {P : PT} (k : P (.inl (some (vL ls0))) h) : Ev d 61 15 [vR (some a0), vI i1] [vL ls0] h P := by
  refine Ev.step rfl ⟨rfl, k⟩
theorem w62_0 {d : Nat} {i0 i1 : Int32} {h : AH} {P : PT} (k : P (.inl (some (vL ((i0.toInt64 <<< ((32 : Int32).toInt64 &&& 63)) ||| (i1.toInt64 + 2147483648))))) h) : Ev d 62 0 [vI i0, vI i1] [] h P := by
  refine Ev.step rfl (Ev.step rfl (Ev.step rfl (Ev.step rfl (Ev.step rfl (Ev.step rfl (Ev.step rfl (Ev.step rfl ?_)))))))
  refine Ev.step rfl ?_
  refine Ev.step rfl ⟨rfl, k⟩
theorem w63_0 {d a0 : Nat} {i1 : Int32} {h : AH} {P : PT} (Aa0 : OB h a0 12 kT) (k : vp_in 0 4 ∧ ∃ b0, hR h (a0 + 1) ((0 : Int32).toNatClampNeg) = some b0 ∧ Ev d 62 0 [vI i1, vI i1] [] h (CK d 63 P 8 [vR (some a0), vI i1] [vR (some b0)])) : Ev (d + 1) 63 0 [vR (some a0), vI i1] [] h P := by
  refine Ev.step rfl ?_
  refine e_gR rfl rfl (fk Aa0.1 rfl) Aa0.2.1.1 ?_
  refine Ev.step rfl ?_
  obtain ⟨q1, k⟩ := k
  refine Ev.step rfl ⟨⟨5, _, by decide, by decide, Aa0.2.1.2, q1⟩, ?_⟩
  obtain ⟨b0, hbb0, k⟩ := k
  rw [hbb0]
  refine Ev.step rfl (Ev.step rfl ?_)
  exact Ev.step rfl ⟨(Nat.le_of_ble_eq_true rfl), (Nat.le_of_ble_eq_true rfl), rfl, k⟩
theorem w63_11 {d a0 as1 : Nat} {i1 : Int32} {ls0 : Int64} {h : AH} {P : PT} (Aas1 : OB h as1 14 kE) (k : Ev d 74 0 [vR (some as1), vL ls0, vU, vU, vU] [] h (CK d 63 P 11 [vR (some a0), vI i1] [])) : Ev (d + 1) 63 11 [vR (some a0), vI i1] [vL ls0, vR (some as1)] h P := by
  exact Ev.step rfl ⟨(Nat.le_of_ble_eq_true rfl), _, _, _, Aas1.1, rfl, (Nat.le_of_ble_eq_true rfl), rfl, k⟩
theorem w63_14 {d a0 : Nat} {i1 : Int32} {rs0 : Option Nat} {h : AH} {P : PT} (k : P (.inl (some (vR rs0))) h) : Ev d 63 14 [vR (some a0), vI i1] [vR rs0] h P := by
  refine Ev.step rfl ⟨rfl, k⟩
theorem w64_0 {d a0 a1 : Nat} {h : AH} {P : PT} (k : Ev d 64 2 [vR (some a0), vR (some a1), vI 0] [] h P) : Ev d 64 0 [vR (some a0), vR (some a1), vU] [] h P := by
  refine Ev.step rfl (Ev.step rfl ?_)
  exact k
theorem w64_2 {d a0 a1 : Nat} {i2 : Int32} {h : AH} {P : PT} (Aa0 : OB h a0 12 kT) (k : (((hI h a0 108) ≤ i2 → P (.inl none) (wI h a0 112 ((hI h a0 112) + 1))) ∧ (i2 < (hI h a0 108) → vp_in i2 4 ∧ (((hR h (a0 + 1) i2.toNatClampNeg) = none → Ev (d + 1) 64 34 [vR (some a0), vR (some a1), vI i2] [] h P) ∧ (¬ (hR h (a0 + 1) i2.toNatClampNeg) = none → vp_in i2 4 ∧ ∃ b0, hR h (a0 + 1) i2.toNatClampNeg = some b0 ∧ Ev d 61 0 [vR (some a1), vI i2] [] h (CK d 64 P 27 [vR (some a0), vR (some a1), vI i2] [vR (some b0)])))))) : Ev (d + 1) 64 2 [vR (some a0), vR (some a1), vI i2] [] h P := by
  refine Ev.step rfl (Ev.step rfl ?_)
  refine Ev.step rfl ⟨(fk Aa0.1 rfl), ?_⟩
  refine Ev.step rfl ⟨fun c => ?_, fun c => ?_⟩
  · replace k := k.1 c
    refine Ev.step rfl ?_
    refine Ev.step rfl (Or.inr ?_)
    refine Ev.step rfl ⟨(fk Aa0.1 rfl), ?_⟩
    refine Ev.step rfl (Ev.step rfl ?_)
    refine Ev.step rfl ⟨(fk Aa0.1 rfl), ?_⟩
    refine Ev.step rfl ⟨rfl, k⟩
  · replace k := k.2 (Int32.not_le.mp c)
    refine Ev.step rfl ?_
    refine e_gR rfl rfl (fk Aa0.1 rfl) Aa0.2.1.1 ?_
    refine Ev.step rfl ?_
    obtain ⟨q1, k⟩ := k
    refine Ev.step rfl ⟨⟨5, _, by decide, by decide, Aa0.2.1.2, q1⟩, ?_⟩
    refine Ev.step rfl ⟨fun c => ?_, fun c => ?_⟩
    · replace k := k.1 c
      exact k
    · replace k := k.2 c
      refine Ev.step rfl ?_
      refine e_gR rfl rfl (fk Aa0.1 rfl) Aa0.2.1.1 ?_
      refine Ev.step rfl ?_
      obtain ⟨q2, k⟩ := k
      refine Ev.step rfl ⟨⟨5, _, by decide, by decide, Aa0.2.1.2, q2⟩, ?_⟩
      obtain ⟨b0, hbb0, k⟩ := k
      rw [hbb0]
      refine Ev.step rfl (Ev.step rfl ?_)
      exact Ev.step rfl ⟨(Nat.le_of_ble_eq_true rfl), (Nat.le_of_ble_eq_true rfl), rfl, k⟩
theorem w64_30 {d a0 a1 as1 : Nat} {i2 : Int32} {ls0 : Int64} {h : AH} {P : PT} (Aas1 : OB h as1 14 kE) (k : Ev d 71 0 [vR (some as1), vL ls0, vU, vR (some a1), vU] [] h (CK d 64 P 31 [vR (some a0), vR (some a1), vI i2] [])) : Ev (d + 1) 64 30 [vR (some a0), vR (some a1), vI i2] [vL ls0, vR (some as1)] h P := by
  refine Ev.step rfl ?_
  exact Ev.step rfl ⟨(Nat.le_of_ble_eq_true rfl), _, _, _, Aas1.1, rfl, (Nat.le_of_ble_eq_true rfl), rfl, k⟩
theorem w64_34 {d a0 a1 : Nat} {i2 : Int32} {h : AH} {P : PT} (k : Ev d 64 2 [vR (some a0), vR (some a1), vI (i2 + 1)] [] h P) : Ev d 64 34 [vR (some a0), vR (some a1), vI i2] [] h P := by
  refine Ev.step rfl (Ev.step rfl ?_)
  exact k
theorem w65_0 {d a0 a1 : Nat} {h : AH} {P : PT} (k : Ev d 65 2 [vR (some a0), vR (some a1), vI 0] [] h P) : Ev d 65 0 [vR (some a0), vR (some a1), vU] [] h P := by
  refine Ev.step rfl (Ev.step rfl ?_)
  exact k
theorem w65_2 {d a0 a1 : Nat} {i2 : Int32} {h : AH} {P : PT} (Aa0 : OB h a0 12 kT) (k : (((hI h a0 108) ≤ i2 → P (.inl none) (wI h a0 112 ((hI h a0 112) - 1))) ∧ (i2 < (hI h a0 108) → vp_in i2 4 ∧ (((hR h (a0 + 1) i2.toNatClampNeg) = none → Ev (d + 1) 65 33 [vR (some a0), vR (some a1), vI i2] [] h P) ∧ (¬ (hR h (a0 + 1) i2.toNatClampNeg) = none → vp_in i2 4 ∧ ∃ b0, hR h (a0 + 1) i2.toNatClampNeg = some b0 ∧ Ev d 61 0 [vR (some a1), vI i2] [] h (CK d 65 P 27 [vR (some a0), vR (some a1), vI i2] [vR (some b0)])))))) : Ev (d + 1) 65 2 [vR (some a0), vR (some a1), vI i2] [] h P := by
  refine Ev.step rfl (Ev.step rfl ?_)
  refine Ev.step rfl ⟨(fk Aa0.1 rfl), ?_⟩
  refine Ev.step rfl ⟨fun c => ?_, fun c => ?_⟩
  · replace k := k.1 c
    refine Ev.step rfl ?_
    refine Ev.step rfl (Or.inr ?_)
    refine Ev.step rfl ⟨(fk Aa0.1 rfl), ?_⟩
    refine Ev.step rfl (Ev.step rfl ?_)
    refine Ev.step rfl ⟨(fk Aa0.1 rfl), ?_⟩
    refine Ev.step rfl ⟨rfl, k⟩
  · replace k := k.2 (Int32.not_le.mp c)
    refine Ev.step rfl ?_
    refine e_gR rfl rfl (fk Aa0.1 rfl) Aa0.2.1.1 ?_
    refine Ev.step rfl ?_
    obtain ⟨q1, k⟩ := k
    refine Ev.step rfl ⟨⟨5, _, by decide, by decide, Aa0.2.1.2, q1⟩, ?_⟩
    refine Ev.step rfl ⟨fun c => ?_, fun c => ?_⟩
    · replace k := k.1 c
      exact k
    · replace k := k.2 c
      refine Ev.step rfl ?_
      refine e_gR rfl rfl (fk Aa0.1 rfl) Aa0.2.1.1 ?_
      refine Ev.step rfl ?_
      obtain ⟨q2, k⟩ := k
      refine Ev.step rfl ⟨⟨5, _, by decide, by decide, Aa0.2.1.2, q2⟩, ?_⟩
      obtain ⟨b0, hbb0, k⟩ := k
      rw [hbb0]
      refine Ev.step rfl (Ev.step rfl ?_)
      exact Ev.step rfl ⟨(Nat.le_of_ble_eq_true rfl), (Nat.le_of_ble_eq_true rfl), rfl, k⟩
theorem w65_30 {d a0 a1 as1 : Nat} {i2 : Int32} {ls0 : Int64} {h : AH} {P : PT} (Aas1 : OB h as1 14 kE) (k : Ev d 75 0 [vR (some as1), vL ls0, vU] [] h (CK d 65 P 30 [vR (some a0), vR (some a1), vI i2] [])) : Ev (d + 1) 65 30 [vR (some a0), vR (some a1), vI i2] [vL ls0, vR (some as1)] h P := by
  exact Ev.step rfl ⟨(Nat.le_of_ble_eq_true rfl), _, _, _, Aas1.1, rfl, (Nat.le_of_ble_eq_true rfl), rfl, k⟩
theorem w65_33 {d a0 a1 : Nat} {i2 : Int32} {h : AH} {P : PT} (k : Ev d 65 2 [vR (some a0), vR (some a1), vI (i2 + 1)] [] h P) : Ev d 65 33 [vR (some a0), vR (some a1), vI i2] [] h P := by
  refine Ev.step rfl (Ev.step rfl ?_)
  exact k
theorem w66_0 {d a0 a1 : Nat} {i2 i3 i4 : Int32} {h : AH} {P : PT} (Aa0 : OB h a0 12 kT) (k : vp_in i2 4 ∧ ∃ b0, hR h (a0 + 1) i2.toNatClampNeg = some b0 ∧ Ev d 62 0 [vI i3, vI (-2147483648)] [] h (CK d 66 P 10 [vR (some a0), vR (some a1), vI i2, vI i3, vI i4] [vR (some b0), vR (some a1)])) : Ev (d + 1) 66 0 [vR (some a0), vR (some a1), vI i2, vI i3, vI i4] [] h P := by
  refine Ev.step rfl (Ev.step rfl ?_)
  refine e_gR rfl rfl (fk Aa0.1 rfl) Aa0.2.1.1 ?_
  refine Ev.step rfl ?_
  obtain ⟨q1, k⟩ := k
  refine Ev.step rfl ⟨⟨5, _, by decide, by decide, Aa0.2.1.2, q1⟩, ?_⟩
  obtain ⟨b0, hbb0, k⟩ := k
  rw [hbb0]
  refine Ev.step rfl ?_
  refine Ev.step rfl ⟨rfl, ?_⟩
  exact Ev.step rfl ⟨(Nat.le_of_ble_eq_true rfl), (Nat.le_of_ble_eq_true rfl), rfl, k⟩
theorem w66_13 {d a0 a1 as1 as2 : Nat} {i2 i3 i4 : Int32} {ls0 : Int64} {h : AH} {P : PT} (k : Ev d 62 0 [vI i4, vI 2147483647] [] h (CK d 66 P 17 [vR (some a0), vR (some a1), vI i2, vI i3, vI i4] [vL ls0, vR (some as1), vR (some as2)])) : Ev (d + 1) 66 13 [vR (some a0), vR (some a1), vI i2, vI i3, vI i4] [vL ls0, vR (some as1), vR (some as2)] h P := by
  refine Ev.step rfl ?_
  refine Ev.step rfl ⟨rfl, ?_⟩
  exact Ev.step rfl ⟨(Nat.le_of_ble_eq_true rfl), (Nat.le_of_ble_eq_true rfl), rfl, k⟩
theorem w66_20 {d a0 a1 as2 as3 : Nat} {i2 i3 i4 : Int32} {ls0 ls1 : Int64} {h : AH} {P : PT} (Aas3 : OB h as3 15 kE) (k : Ev d 82 0 [vR (some as3), vR (some as2), vL ls1, vU, vL ls0, vU] [] h (CK d 66 P 20 [vR (some a0), vR (some a1), vI i2, vI i3, vI i4] [])) : Ev (d + 1) 66 20 [vR (some a0), vR (some a1), vI i2, vI i3, vI i4] [vL ls0, vL ls1, vR (some as2), vR (some as3)] h P := by
  exact Ev.step rfl ⟨(Nat.le_of_ble_eq_true rfl), _, _, _, Aas3.1, rfl, (Nat.le_of_ble_eq_true rfl), rfl, k⟩
theorem w66_23 {d a0 a1 : Nat} {i2 i3 i4 : Int32} {h : AH} {P : PT} (k : P (.inl none) h) : Ev d 66 23 [vR (some a0), vR (some a1), vI i2, vI i3, vI i4] [] h P := by
  refine Ev.step rfl ⟨rfl, k⟩
