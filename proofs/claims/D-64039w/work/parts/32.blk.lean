/-! deps: 25 -/
/-! blocks (printed by gen_blocks.py) -/
theorem w1_0 {d a0 : Nat} {i1 i2 : Int32} {h : AH} {P : PT} (Aa0 : OB h a0 0 kX) (k : ((i1 < 0 → P (.inl (some (vI 0))) h) ∧ (0 ≤ i1 → ((i1 < 4 → vp_in i1 4 ∧ P (.inl (some (vI 1))) (wI h (a0 + 2) i1.toNatClampNeg i2)) ∧ (4 ≤ i1 → P (.inl (some (vI 0))) h))))) : Ev d 1 0 [vR (some a0), vI i1, vI i2] [] h P := by
  refine Ev.step rfl ?_
  refine Ev.step rfl ⟨fun c => ?_, fun c => ?_⟩
  · replace k := k.1 c
    refine Ev.step rfl ?_
    refine Ev.step rfl ⟨rfl, (fun _ => Or.inl rfl), k⟩
  · replace k := k.2 (Int32.not_lt.mp c)
    refine Ev.step rfl (Ev.step rfl ?_)
    refine Ev.step rfl ⟨fun c => ?_, fun c => ?_⟩
    · replace k := k.1 c
      refine Ev.step rfl ?_
      refine e_gR rfl rfl (fk Aa0.1 rfl) Aa0.2.2.1.1 ?_
      refine Ev.step rfl (Ev.step rfl ?_)
      obtain ⟨q1, k⟩ := k
      refine Ev.step rfl ⟨⟨_, Aa0.2.2.1.2, q1⟩, ?_⟩
      refine Ev.step rfl ?_
      refine Ev.step rfl ⟨rfl, (fun _ => Or.inr rfl), k⟩
    · replace k := k.2 (Int32.not_lt.mp c)
      refine Ev.step rfl ?_
      refine Ev.step rfl ⟨rfl, (fun _ => Or.inl rfl), k⟩
theorem w2_0 {d a0 : Nat} {i1 : Int32} {h : AH} {P : PT} (Aa0 : OB h a0 0 kX) (k : ((i1 < 0 → P (.inl (some (vI (-1)))) h) ∧ (0 ≤ i1 → ((i1 < (hI h a0 40) → vp_in i1 4 ∧ ∃ b0, hR h (a0 + 1) i1.toNatClampNeg = some b0 ∧ OB h b0 12 kT ∧ P (.inl (some (vI (hI h b0 112)))) h) ∧ ((hI h a0 40) ≤ i1 → P (.inl (some (vI (-1)))) h))))) : Ev d 2 0 [vR (some a0), vI i1] [] h P := by
  refine Ev.step rfl ?_
  refine Ev.step rfl ⟨fun c => ?_, fun c => ?_⟩
  · replace k := k.1 c
    refine Ev.step rfl (Ev.step rfl ?_)
    refine Ev.step rfl ⟨rfl, (fun e => Bool.noConfusion (show false = true from e)), k⟩
  · replace k := k.2 (Int32.not_lt.mp c)
    refine Ev.step rfl (Ev.step rfl ?_)
    refine Ev.step rfl ⟨(fk Aa0.1 rfl), ?_⟩
    refine Ev.step rfl ⟨fun c => ?_, fun c => ?_⟩
    · replace k := k.1 c
      refine Ev.step rfl ?_
      refine e_gR rfl rfl (fk Aa0.1 rfl) Aa0.2.1.1 ?_
      refine Ev.step rfl ?_
      obtain ⟨q1, k⟩ := k
      refine Ev.step rfl ⟨⟨6, _, by decide, by decide, Aa0.2.1.2, q1⟩, ?_⟩
      obtain ⟨b0, hbb0, k⟩ := k
      rw [hbb0]
      obtain ⟨q2, k⟩ := k
      refine Ev.step rfl ⟨(fk q2.1 rfl), ?_⟩
      refine Ev.step rfl ⟨rfl, (fun e => Bool.noConfusion (show false = true from e)), k⟩
    · replace k := k.2 (Int32.not_lt.mp c)
      refine Ev.step rfl (Ev.step rfl ?_)
      refine Ev.step rfl ⟨rfl, (fun e => Bool.noConfusion (show false = true from e)), k⟩
theorem w3_0 {d a0 : Nat} {i1 : Int32} {h : AH} {P : PT} (Aa0 : OB h a0 0 kX) (k : ((¬ (hI h a0 56) = 40 → vp_in (hI h a0 56) 40 ∧ P (.inl (some (vI 1))) (wI (wI h a0 56 ((hI h a0 56) + 1)) (a0 + 3) ((hI h a0 56).toNatClampNeg) i1)) ∧ ((hI h a0 56) = 40 → P (.inl (some (vI 0))) h))) : Ev d 3 0 [vR (some a0), vI i1] [] h P := by
  refine Ev.step rfl ?_
  refine Ev.step rfl ⟨(fk Aa0.1 rfl), ?_⟩
  refine Ev.step rfl ?_
  refine Ev.step rfl ⟨fun c => ?_, fun c => ?_⟩
  · replace k := k.1 c
    refine Ev.step rfl ?_
    refine e_gR rfl rfl (fk Aa0.1 rfl) Aa0.2.2.2.1.1 ?_
    refine Ev.step rfl ?_
    refine Ev.step rfl (Or.inr ?_)
    refine Ev.step rfl ⟨(fk Aa0.1 rfl), ?_⟩
    refine Ev.step rfl (Ev.step rfl (Ev.step rfl ?_))
    refine Ev.step rfl ⟨(fk Aa0.1 rfl), ?_⟩
    refine Ev.step rfl ?_
    obtain ⟨q1, k⟩ := k
    refine Ev.step rfl ⟨⟨_, Aa0.2.2.2.1.2, q1⟩, ?_⟩
    refine Ev.step rfl ?_
    refine Ev.step rfl ⟨rfl, (fun _ => Or.inr rfl), k⟩
  · replace k := k.2 (Decidable.not_not.mp c)
    refine Ev.step rfl ?_
    refine Ev.step rfl ⟨rfl, (fun _ => Or.inl rfl), k⟩
theorem w4_0 {d a0 : Nat} {h : AH} {P : PT} (Aa0 : OB h a0 0 kX) (k : P (.inl (some (vI (hI h a0 56)))) (wI h a0 56 0)) : Ev d 4 0 [vR (some a0), vU] [] h P := by
  refine Ev.step rfl ?_
  refine Ev.step rfl ⟨(fk Aa0.1 rfl), ?_⟩
  refine Ev.step rfl (Ev.step rfl (Ev.step rfl ?_))
  refine Ev.step rfl ⟨(fk Aa0.1 rfl), ?_⟩
  refine Ev.step rfl ?_
  refine Ev.step rfl ⟨rfl, (fun e => Bool.noConfusion (show false = true from e)), k⟩
theorem w6_0 {d a0 : Nat} {h : AH} {P : PT} (Aa0 : OB h a0 0 kX) (k : Ev d 5 0 [vR (some a0), vU] [] h (CK d 6 P 1 [vR (some a0)] [])) : Ev (d + 1) 6 0 [vR (some a0)] [] h P := by
  refine Ev.step rfl ?_
  exact Ev.step rfl ⟨(Nat.le_of_ble_eq_true rfl), _, _, _, Aa0.1, rfl, (Nat.le_of_ble_eq_true rfl), rfl, k⟩
theorem w6_4 {d a0 : Nat} {is0 : Int32} {h : AH} {P : PT} (Aa0 : OB h a0 0 kX) (k : ((is0 < 0 → P (.inl (some (vI (hI h (a0 + 4) 20)))) h) ∧ (0 ≤ is0 → P (.inl (some (vI (-1)))) h))) : Ev d 6 4 [vR (some a0)] [vI is0] h P := by
  refine Ev.step rfl ⟨fun c => ?_, fun c => ?_⟩
  · replace k := k.1 c
    refine Ev.step rfl ?_
    refine e_gR rfl rfl (fk Aa0.1 rfl) Aa0.2.2.2.2.1.1 ?_
    refine Ev.step rfl ⟨(fk (⟨Aa0.2.2.2.2.1.2, trivial⟩ : OB h (a0 + 4) 1 kE).1 rfl), ?_⟩
    refine Ev.step rfl ⟨rfl, (fun e => Bool.noConfusion (show false = true from e)), k⟩
  · replace k := k.2 (Int32.not_lt.mp c)
    refine Ev.step rfl (Ev.step rfl ?_)
    refine Ev.step rfl ⟨rfl, (fun e => Bool.noConfusion (show false = true from e)), k⟩
theorem w7_0 {d a0 : Nat} {h : AH} {P : PT} (Aa0 : OB h a0 0 kX) (k : P (.inl (some (vI (hI h a0 76)))) h) : Ev d 7 0 [vR (some a0)] [] h P := by
  refine Ev.step rfl ?_
  refine Ev.step rfl ⟨(fk Aa0.1 rfl), ?_⟩
  refine Ev.step rfl ⟨rfl, (fun e => Bool.noConfusion (show false = true from e)), k⟩
theorem w8_0 {d a0 : Nat} {h : AH} {P : PT} (Aa0 : OB h a0 0 kX) (k : P (.inl (some (vI (hI h a0 72)))) h) : Ev d 8 0 [vR (some a0)] [] h P := by
  refine Ev.step rfl ?_
  refine Ev.step rfl ⟨(fk Aa0.1 rfl), ?_⟩
  refine Ev.step rfl ⟨rfl, (fun e => Bool.noConfusion (show false = true from e)), k⟩
theorem w9_0 {d a0 : Nat} {i1 : Int32} {h : AH} {P : PT} (Aa0 : OB h a0 0 kX) (k : ((i1 < 0 → P (.inl (some (vI 0))) h) ∧ (0 ≤ i1 → ((i1 < (hI h a0 72) → vp_in i1 64 ∧ P (.inl (some (vI (hI h (a0 + 6) i1.toNatClampNeg)))) h) ∧ ((hI h a0 72) ≤ i1 → P (.inl (some (vI 0))) h))))) : Ev d 9 0 [vR (some a0), vI i1] [] h P := by
  refine Ev.step rfl ?_
  refine Ev.step rfl ⟨fun c => ?_, fun c => ?_⟩
  · replace k := k.1 c
    refine Ev.step rfl (Ev.step rfl ?_)
    refine Ev.step rfl ⟨rfl, (fun e => Bool.noConfusion (show false = true from e)), k⟩
  · replace k := k.2 (Int32.not_lt.mp c)
    refine Ev.step rfl (Ev.step rfl ?_)
    refine Ev.step rfl ⟨(fk Aa0.1 rfl), ?_⟩
    refine Ev.step rfl ⟨fun c => ?_, fun c => ?_⟩
    · replace k := k.1 c
      refine Ev.step rfl ?_
      refine e_gR rfl rfl (fk Aa0.1 rfl) Aa0.2.2.2.2.2.2.1.1 ?_
      refine Ev.step rfl ?_
      obtain ⟨q1, k⟩ := k
      refine Ev.step rfl ⟨⟨_, Or.inl Aa0.2.2.2.2.2.2.1.2, q1⟩, ?_⟩
      refine Ev.step rfl ⟨rfl, (fun e => Bool.noConfusion (show false = true from e)), k⟩
    · replace k := k.2 (Int32.not_lt.mp c)
      refine Ev.step rfl (Ev.step rfl ?_)
      refine Ev.step rfl ⟨rfl, (fun e => Bool.noConfusion (show false = true from e)), k⟩
theorem w10_0 {d a0 : Nat} {i1 : Int32} {h : AH} {P : PT} (Aa0 : OB h a0 0 kX) (k : ((i1 < 1 → 1 ≤ hC h ∧ 6 ≤ hS h ∧ P (.inr (hN h)) (al h (50, 0) 6)) ∧ (1 ≤ i1 → ((i1 ≤ 4 → ((¬ (hI h a0 40) = 4 → 1 ≤ hC h ∧ 3 ≤ hS h ∧ Ev d 10 49 [vR (some a0), vI i1] [vR (some (hN h)), vI (hI h a0 40), vR (some (a0 + 1))] (al h (12, 0) 3) P) ∧ ((hI h a0 40) = 4 → 1 ≤ hC h ∧ 6 ≤ hS h ∧ P (.inr (hN h)) (al h (53, 0) 6)))) ∧ (4 < i1 → 1 ≤ hC h ∧ 6 ≤ hS h ∧ P (.inr (hN h)) (al h (50, 0) 6)))))) : Ev d 10 0 [vR (some a0), vI i1] [] h P := by
  refine Ev.step rfl (Ev.step rfl ?_)
  refine Ev.step rfl ⟨fun c => ?_, fun c => ?_⟩
  · replace k := k.1 c
    obtain ⟨q1, k⟩ := k
    obtain ⟨q2, k⟩ := k
    refine Ev.step rfl ⟨q1, q2, (Nat.le_of_ble_eq_true rfl), k⟩
  · replace k := k.2 (Int32.not_lt.mp c)
    refine Ev.step rfl (Ev.step rfl ?_)
    refine Ev.step rfl ⟨fun c => ?_, fun c => ?_⟩
    · replace k := k.1 c
      refine Ev.step rfl ?_
      refine Ev.step rfl ⟨(fk Aa0.1 rfl), ?_⟩
      refine Ev.step rfl ?_
      refine Ev.step rfl ⟨fun c => ?_, fun c => ?_⟩
      · replace k := k.1 c
        refine Ev.step rfl ?_
        refine e_gR rfl rfl (fk Aa0.1 rfl) Aa0.2.1.1 ?_
        refine Ev.step rfl ?_
        refine Ev.step rfl ⟨(fk Aa0.1 rfl), ?_⟩
        obtain ⟨q3, k⟩ := k
        obtain ⟨q4, k⟩ := k
        refine Ev.step rfl ⟨q3, q4, ?_⟩
        exact k
      · replace k := k.2 (Decidable.not_not.mp c)
        obtain ⟨q5, k⟩ := k
        obtain ⟨q6, k⟩ := k
        refine Ev.step rfl ⟨q5, q6, (Nat.le_of_ble_eq_true rfl), k⟩
    · replace k := k.2 (Int32.not_le.mp c)
      obtain ⟨q7, k⟩ := k
      obtain ⟨q8, k⟩ := k
      refine Ev.step rfl ⟨q7, q8, (Nat.le_of_ble_eq_true rfl), k⟩
theorem w10_49 {d a0 as0 as2 : Nat} {i1 is1 : Int32} {h : AH} {P : PT} (k : Ev d 59 0 [vR (some as0), vI i1] [] h (CK d 10 P 51 [vR (some a0), vI i1] [vR (some as0), vI is1, vR (some as2)])) : Ev (d + 1) 10 49 [vR (some a0), vI i1] [vR (some as0), vI is1, vR (some as2)] h P := by
  refine Ev.step rfl (Or.inr ?_)
  refine Ev.step rfl ?_
  exact Ev.step rfl ⟨(Nat.le_of_ble_eq_true rfl), trivial, (Nat.le_of_ble_eq_true rfl), rfl, k⟩
theorem w10_54 {d a0 as0 as2 : Nat} {i1 is1 : Int32} {h : AH} {P : PT} (k : ∃ n_as2, hT h as2 = some (106, n_as2) ∧ vp_in is1 n_as2 ∧ RT h (some as0) 12 ∧ Ev d 10 55 [vR (some a0), vI i1] [] (wR h as2 is1.toNatClampNeg (some as0)) P) : Ev d 10 54 [vR (some a0), vI i1] [vR (some as0), vI is1, vR (some as2)] h P := by
  obtain ⟨n_as2, t1, k⟩ := k
  obtain ⟨q2, k⟩ := k
  obtain ⟨q3, k⟩ := k
  refine Ev.step rfl ⟨⟨6, _, by decide, by decide, t1, q2, q3⟩, ?_⟩
  exact k
theorem w10_55 {d a0 : Nat} {i1 : Int32} {h : AH} {P : PT} (Aa0 : OB h a0 0 kX) (k : P (.inl (some (vI (hI h a0 40)))) (wI h a0 40 ((hI h a0 40) + 1))) : Ev d 10 55 [vR (some a0), vI i1] [] h P := by
  refine Ev.step rfl ?_
  refine Ev.step rfl (Or.inr ?_)
  refine Ev.step rfl ⟨(fk Aa0.1 rfl), ?_⟩
  refine Ev.step rfl (Ev.step rfl (Ev.step rfl ?_))
  refine Ev.step rfl ⟨(fk Aa0.1 rfl), ?_⟩
  refine Ev.step rfl ⟨rfl, (fun e => Bool.noConfusion (show false = true from e)), k⟩
theorem w11_0 {d a0 : Nat} {i1 i2 : Int32} {h : AH} {P : PT} (Aa0 : OB h a0 0 kX) (k : Ev d 12 0 [vR (some a0), vI i1] [] h (CK d 11 P 2 [vR (some a0), vI i1, vI i2, vU] [])) : Ev (d + 1) 11 0 [vR (some a0), vI i1, vI i2, vU] [] h P := by
  refine Ev.step rfl (Ev.step rfl ?_)
  exact Ev.step rfl ⟨(Nat.le_of_ble_eq_true rfl), _, _, _, Aa0.1, rfl, (Nat.le_of_ble_eq_true rfl), rfl, k⟩
theorem w11_5 {d a0 as0 : Nat} {i1 i2 : Int32} {w3 : AV} {h : AH} {P : PT} (Aas0 : OB h as0 12 kT) (k : Ev d 58 0 [vR (some as0), vI i2] [] h (CK d 11 P 8 [vR (some a0), vI i1, vI i2, vR (some as0)] [])) : Ev (d + 1) 11 5 [vR (some a0), vI i1, vI i2, w3] [vR (some as0)] h P := by
  refine Ev.step rfl (Ev.step rfl (Ev.step rfl ?_))
  exact Ev.step rfl ⟨(Nat.le_of_ble_eq_true rfl), _, _, _, Aas0.1, rfl, (Nat.le_of_ble_eq_true rfl), rfl, k⟩
theorem w11_11 {d a0 a3 : Nat} {i1 i2 is0 : Int32} {h : AH} {P : PT} (Aa3 : OB h a3 12 kT) (k : ((¬ is0 = 0 → Ev d 57 0 [vR (some a3), vI i2] [] h (CK d 11 P 26 [vR (some a0), vI i1, vI i2, vR (some a3)] [])) ∧ (is0 = 0 → 1 ≤ hC h ∧ 6 ≤ hS h ∧ P (.inr (hN h)) (al h (52, 0) 6)))) : Ev (d + 1) 11 11 [vR (some a0), vI i1, vI i2, vR (some a3)] [vI is0] h P := by
  refine Ev.step rfl ⟨fun c => ?_, fun c => ?_⟩
  · replace k := k.1 c
    refine Ev.step rfl (Ev.step rfl ?_)
    exact Ev.step rfl ⟨(Nat.le_of_ble_eq_true rfl), _, _, _, Aa3.1, rfl, (Nat.le_of_ble_eq_true rfl), rfl, k⟩
  · replace k := k.2 (Decidable.not_not.mp c)
    obtain ⟨q1, k⟩ := k
    obtain ⟨q2, k⟩ := k
    refine Ev.step rfl ⟨q1, q2, (Nat.le_of_ble_eq_true rfl), k⟩
theorem w11_29 {d a0 a3 : Nat} {i1 i2 is0 : Int32} {h : AH} {P : PT} (Aa3 : OB h a3 12 kT) (k : ((is0 = 0 → Ev d 60 0 [vR (some a3), vI i2, vU, vU, vU] [] h (CK d 11 P 36 [vR (some a0), vI i1, vI i2, vR (some a3)] [])) ∧ (¬ is0 = 0 → P (.inl (some (vI 0))) h))) : Ev (d + 1) 11 29 [vR (some a0), vI i1, vI i2, vR (some a3)] [vI is0] h P := by
  refine Ev.step rfl ⟨fun c => ?_, fun c => ?_⟩
  · replace k := k.1 c
    refine Ev.step rfl (Ev.step rfl ?_)
    exact Ev.step rfl ⟨(Nat.le_of_ble_eq_true rfl), _, _, _, Aa3.1, rfl, (Nat.le_of_ble_eq_true rfl), rfl, k⟩
  · replace k := k.2 c
    refine Ev.step rfl ?_
    refine Ev.step rfl ⟨rfl, (fun _ => Or.inl rfl), k⟩
theorem w11_39 {d a0 a3 : Nat} {i1 i2 : Int32} {h : AH} {P : PT} (k : P (.inl (some (vI 1))) h) : Ev d 11 39 [vR (some a0), vI i1, vI i2, vR (some a3)] [] h P := by
  refine Ev.step rfl ?_
  refine Ev.step rfl ⟨rfl, (fun _ => Or.inr rfl), k⟩
theorem w12_0 {d a0 : Nat} {i1 : Int32} {h : AH} {P : PT} (Aa0 : OB h a0 0 kX) (k : ((i1 < 0 → 1 ≤ hC h ∧ 6 ≤ hS h ∧ P (.inr (hN h)) (al h (52, 0) 6)) ∧ (0 ≤ i1 → ((i1 < (hI h a0 40) → vp_in i1 4 ∧ ∃ b0, hR h (a0 + 1) i1.toNatClampNeg = some b0 ∧ P (.inl (some (vR (some b0)))) h) ∧ ((hI h a0 40) ≤ i1 → 1 ≤ hC h ∧ 6 ≤ hS h ∧ P (.inr (hN h)) (al h (52, 0) 6)))))) : Ev d 12 0 [vR (some a0), vI i1] [] h P := by
  refine Ev.step rfl ?_
  refine Ev.step rfl ⟨fun c => ?_, fun c => ?_⟩
  · replace k := k.1 c
    obtain ⟨q1, k⟩ := k
    obtain ⟨q2, k⟩ := k
    refine Ev.step rfl ⟨q1, q2, (Nat.le_of_ble_eq_true rfl), k⟩
  · replace k := k.2 (Int32.not_lt.mp c)
    refine Ev.step rfl (Ev.step rfl ?_)
    refine Ev.step rfl ⟨(fk Aa0.1 rfl), ?_⟩
    refine Ev.step rfl ⟨fun c => ?_, fun c => ?_⟩
    · replace k := k.1 c
      refine Ev.step rfl ?_
      refine e_gR rfl rfl (fk Aa0.1 rfl) Aa0.2.1.1 ?_
      refine Ev.step rfl ?_
      obtain ⟨q3, k⟩ := k
      refine Ev.step rfl ⟨⟨6, _, by decide, by decide, Aa0.2.1.2, q3⟩, ?_⟩
      obtain ⟨b0, hbb0, k⟩ := k
      rw [hbb0]
      refine Ev.step rfl ⟨rfl, k⟩
    · replace k := k.2 (Int32.not_lt.mp c)
      obtain ⟨q4, k⟩ := k
      obtain ⟨q5, k⟩ := k
      refine Ev.step rfl ⟨q4, q5, (Nat.le_of_ble_eq_true rfl), k⟩
theorem w13_0 {d a0 : Nat} {i1 : Int32} {h : AH} {P : PT} (Aa0 : OB h a0 0 kX) (k : Ev d 12 0 [vR (some a0), vI i1] [] h (CK d 13 P 2 [vR (some a0), vI i1, vU, vU] [])) : Ev (d + 1) 13 0 [vR (some a0), vI i1, vU, vU] [] h P := by
  refine Ev.step rfl (Ev.step rfl ?_)
  exact Ev.step rfl ⟨(Nat.le_of_ble_eq_true rfl), _, _, _, Aa0.1, rfl, (Nat.le_of_ble_eq_true rfl), rfl, k⟩
theorem w13_5 {d a0 as0 : Nat} {i1 : Int32} {w2 w3 : AV} {h : AH} {P : PT} (Aa0 : OB h a0 0 kX) (Aas0 : OB h as0 12 kT) (k : vp_in 0 4 ∧ Ev d 63 0 [vR (some as0), vI (hI h (a0 + 2) ((0 : Int32).toNatClampNeg))] [] h (CK d 13 P 13 [vR (some a0), vI i1, vR (some as0), w3] [])) : Ev (d + 1) 13 5 [vR (some a0), vI i1, w2, w3] [vR (some as0)] h P := by
  refine Ev.step rfl (Ev.step rfl (Ev.step rfl ?_))
  refine e_gR rfl rfl (fk Aa0.1 rfl) Aa0.2.2.1.1 ?_
  refine Ev.step rfl ?_
  obtain ⟨q1, k⟩ := k
  refine Ev.step rfl ⟨⟨_, Or.inl Aa0.2.2.1.2, q1⟩, ?_⟩
  exact Ev.step rfl ⟨(Nat.le_of_ble_eq_true rfl), _, _, _, Aas0.1, rfl, (Nat.le_of_ble_eq_true rfl), rfl, k⟩
theorem w13_16 {d a0 a2 : Nat} {i1 : Int32} {rs0 : Option Nat} {w3 : AV} {h : AH} {P : PT} (Aa0 : OB h a0 0 kX) (k : ((rs0 = none → ((¬ (hI h a0 44) = 48 → 1 ≤ hC h ∧ 1 ≤ hS h ∧ Ev d 13 51 [vR (some a0), vI i1, vR (some a2), w3] [vR (some (hN h))] (al h (9, 0) 1) P) ∧ ((hI h a0 44) = 48 → 1 ≤ hC h ∧ 6 ≤ hS h ∧ P (.inr (hN h)) (al h (53, 0) 6)))) ∧ (¬ rs0 = none → 1 ≤ hC h ∧ 6 ≤ hS h ∧ P (.inr (hN h)) (al h (51, 0) 6)))) : Ev d 13 16 [vR (some a0), vI i1, vR (some a2), w3] [vR rs0] h P := by
  refine Ev.step rfl ⟨fun c => ?_, fun c => ?_⟩
  · replace k := k.1 c
    refine Ev.step rfl ?_
    refine Ev.step rfl ⟨(fk Aa0.1 rfl), ?_⟩
    refine Ev.step rfl ?_
    refine Ev.step rfl ⟨fun c => ?_, fun c => ?_⟩
    · replace k := k.1 c
      obtain ⟨q1, k⟩ := k
      obtain ⟨q2, k⟩ := k
      refine Ev.step rfl ⟨q1, q2, ?_⟩
      exact k
    · replace k := k.2 (Decidable.not_not.mp c)
      obtain ⟨q3, k⟩ := k
      obtain ⟨q4, k⟩ := k
      refine Ev.step rfl ⟨q3, q4, (Nat.le_of_ble_eq_true rfl), k⟩
  · replace k := k.2 c
    obtain ⟨q5, k⟩ := k
    obtain ⟨q6, k⟩ := k
    refine Ev.step rfl ⟨q5, q6, (Nat.le_of_ble_eq_true rfl), k⟩
theorem w13_51 {d a0 a2 as0 : Nat} {i1 : Int32} {w3 : AV} {h : AH} {P : PT} (k : Ev d 52 0 [vR (some as0)] [] h (CK d 13 P 52 [vR (some a0), vI i1, vR (some a2), w3] [vR (some as0)])) : Ev (d + 1) 13 51 [vR (some a0), vI i1, vR (some a2), w3] [vR (some as0)] h P := by
  refine Ev.step rfl (Or.inr ?_)
  exact Ev.step rfl ⟨(Nat.le_of_ble_eq_true rfl), trivial, (Nat.le_of_ble_eq_true rfl), rfl, k⟩
theorem w13_55 {d a0 a2 as0 : Nat} {i1 : Int32} {w3 : AV} {h : AH} {P : PT} (Aa0 : OB h a0 0 kX) (Aas0 : OB h as0 9 kR) (Aa2 : OB h a2 12 kT) (k : ¬ (a0 + 2) = (as0 + 1) ∧ ¬ (0 : Int32) < 0 ∧ ¬ (0 : Int32) < 0 ∧ ¬ ((hI h a2 108) : Int32) < 0 ∧ (∃ na nb, hT h (a0 + 2) = some (100, na) ∧ hT h (as0 + 1) = some (100, nb) ∧ (0 : Int32).toNatClampNeg + (hI h a2 108).toNatClampNeg ≤ na ∧ (0 : Int32).toNatClampNeg + (hI h a2 108).toNatClampNeg ≤ nb) ∧ Ev d 64 0 [vR (some a2), vR (some as0), vU] [] (cpI h (a0 + 2) ((0 : Int32).toNatClampNeg) (as0 + 1) ((0 : Int32).toNatClampNeg) ((hI h a2 108).toNatClampNeg)) (CK d 13 P 75 [vR (some a0), vI i1, vR (some a2), vR (some as0)] [])) : Ev (d + 1) 13 55 [vR (some a0), vI i1, vR (some a2), w3] [vR (some as0)] h P := by
  refine Ev.step rfl (Ev.step rfl ?_)
  refine e_gR rfl rfl (fk Aa0.1 rfl) Aa0.2.2.1.1 ?_
  refine Ev.step rfl (Ev.step rfl ?_)
  refine e_gR rfl rfl (fk Aas0.1 rfl) Aas0.2.1.1 ?_
  refine Ev.step rfl (Ev.step rfl ?_)
  refine Ev.step rfl ⟨(fk Aa2.1 rfl), ?_⟩
  obtain ⟨q1, k⟩ := k
  obtain ⟨q2, k⟩ := k
  obtain ⟨q3, k⟩ := k
  obtain ⟨q4, k⟩ := k
  obtain ⟨q5, k⟩ := k
  refine Ev.step rfl ⟨(Nat.le_of_ble_eq_true rfl), q1, q2, q3, q4, q5, ?_⟩
  refine Ev.step rfl (Ev.step rfl ?_)
  exact Ev.step rfl ⟨(Nat.le_of_ble_eq_true rfl), _, _, _, Aa2.1, rfl, (Nat.le_of_ble_eq_true rfl), rfl, k⟩
theorem w13_78 {d a0 a2 a3 : Nat} {i1 : Int32} {h : AH} {P : PT} (Aa0 : OB h a0 0 kX) (Aa2 : OB h a2 12 kT) (k : P (.inl (some (vI (hI (wI h a0 44 ((hI h a0 44) + 1)) a2 112)))) (wI h a0 44 ((hI h a0 44) + 1))) : Ev d 13 78 [vR (some a0), vI i1, vR (some a2), vR (some a3)] [] h P := by
  refine Ev.step rfl ?_
  refine Ev.step rfl (Or.inr ?_)
  refine Ev.step rfl ⟨(fk Aa0.1 rfl), ?_⟩
  refine Ev.step rfl (Ev.step rfl ?_)
  refine Ev.step rfl ⟨(fk Aa0.1 rfl), ?_⟩
  refine Ev.step rfl ?_
  refine Ev.step rfl ⟨(fk Aa2.1 rfl), ?_⟩
  refine Ev.step rfl ⟨rfl, (fun e => Bool.noConfusion (show false = true from e)), k⟩
theorem w14_0 {d a0 : Nat} {i1 i2 : Int32} {h : AH} {P : PT} (Aa0 : OB h a0 0 kX) (k : Ev d 12 0 [vR (some a0), vI i1] [] h (CK d 14 P 2 [vR (some a0), vI i1, vI i2, vU] [])) : Ev (d + 1) 14 0 [vR (some a0), vI i1, vI i2, vU] [] h P := by
  refine Ev.step rfl (Ev.step rfl ?_)
  exact Ev.step rfl ⟨(Nat.le_of_ble_eq_true rfl), _, _, _, Aa0.1, rfl, (Nat.le_of_ble_eq_true rfl), rfl, k⟩
theorem w14_5 {d a0 as0 : Nat} {i1 i2 : Int32} {w3 : AV} {h : AH} {P : PT} (k : Ev d 15 0 [vR (some as0), vI i2, vU] [] h (CK d 14 P 9 [vR (some a0), vI i1, vI i2, vR (some as0)] [vR (some as0)])) : Ev (d + 1) 14 5 [vR (some a0), vI i1, vI i2, w3] [vR (some as0)] h P := by
  refine Ev.step rfl (Ev.step rfl (Ev.step rfl (Ev.step rfl ?_)))
  exact Ev.step rfl ⟨(Nat.le_of_ble_eq_true rfl), (Nat.le_of_ble_eq_true rfl), rfl, k⟩
theorem w14_12 {d a0 a3 as0 as1 : Nat} {i1 i2 : Int32} {h : AH} {P : PT} (Aas1 : OB h as1 12 kT) (k : Ev d 65 0 [vR (some as1), vR (some as0), vU] [] h (CK d 14 P 12 [vR (some a0), vI i1, vI i2, vR (some a3)] [])) : Ev (d + 1) 14 12 [vR (some a0), vI i1, vI i2, vR (some a3)] [vR (some as0), vR (some as1)] h P := by
  exact Ev.step rfl ⟨(Nat.le_of_ble_eq_true rfl), _, _, _, Aas1.1, rfl, (Nat.le_of_ble_eq_true rfl), rfl, k⟩
theorem w14_15 {d a0 a3 : Nat} {i1 i2 : Int32} {h : AH} {P : PT} (Aa0 : OB h a0 0 kX) (Aa3 : OB h a3 12 kT) (k : P (.inl (some (vI (hI (wI h a0 44 ((hI h a0 44) - 1)) a3 112)))) (wI h a0 44 ((hI h a0 44) - 1))) : Ev d 14 15 [vR (some a0), vI i1, vI i2, vR (some a3)] [] h P := by
  refine Ev.step rfl ?_
  refine Ev.step rfl (Or.inr ?_)
  refine Ev.step rfl ⟨(fk Aa0.1 rfl), ?_⟩
  refine Ev.step rfl (Ev.step rfl ?_)
  refine Ev.step rfl ⟨(fk Aa0.1 rfl), ?_⟩
  refine Ev.step rfl ?_
  refine Ev.step rfl ⟨(fk Aa3.1 rfl), ?_⟩
  refine Ev.step rfl ⟨rfl, (fun e => Bool.noConfusion (show false = true from e)), k⟩
theorem w15_0 {d a0 : Nat} {i1 : Int32} {h : AH} {P : PT} (Aa0 : OB h a0 12 kT) (k : Ev d 63 0 [vR (some a0), vI i1] [] h (CK d 15 P 2 [vR (some a0), vI i1, vU] [])) : Ev (d + 1) 15 0 [vR (some a0), vI i1, vU] [] h P := by
  refine Ev.step rfl (Ev.step rfl ?_)
  exact Ev.step rfl ⟨(Nat.le_of_ble_eq_true rfl), _, _, _, Aa0.1, rfl, (Nat.le_of_ble_eq_true rfl), rfl, k⟩
theorem w15_5 {d a0 : Nat} {i1 : Int32} {rs0 : Option Nat} {w2 : AV} {h : AH} {P : PT} (k : ((rs0 = none → 1 ≤ hC h ∧ 6 ≤ hS h ∧ P (.inr (hN h)) (al h (54, 0) 6)) ∧ (¬ rs0 = none → P (.inl (some (vR rs0))) h))) : Ev d 15 5 [vR (some a0), vI i1, w2] [vR rs0] h P := by
  refine Ev.step rfl (Ev.step rfl ?_)
  refine Ev.step rfl ⟨fun c => ?_, fun c => ?_⟩
  · replace k := k.1 c
    obtain ⟨q1, k⟩ := k
    obtain ⟨q2, k⟩ := k
    refine Ev.step rfl ⟨q1, q2, (Nat.le_of_ble_eq_true rfl), k⟩
  · replace k := k.2 c
    refine Ev.step rfl ?_
    refine Ev.step rfl ⟨rfl, k⟩
theorem w16_0 {d a0 : Nat} {i1 i2 i3 : Int32} {h : AH} {P : PT} (Aa0 : OB h a0 0 kX) (k : Ev d 12 0 [vR (some a0), vI i1] [] h (CK d 16 P 2 [vR (some a0), vI i1, vI i2, vI i3, vU] [])) : Ev (d + 1) 16 0 [vR (some a0), vI i1, vI i2, vI i3, vU] [] h P := by
  refine Ev.step rfl (Ev.step rfl ?_)
  exact Ev.step rfl ⟨(Nat.le_of_ble_eq_true rfl), _, _, _, Aa0.1, rfl, (Nat.le_of_ble_eq_true rfl), rfl, k⟩
theorem w16_5 {d a0 as0 : Nat} {i1 i2 i3 : Int32} {w4 : AV} {h : AH} {P : PT} (Aas0 : OB h as0 12 kT) (k : Ev d 58 0 [vR (some as0), vI i3] [] h (CK d 16 P 10 [vR (some a0), vI i1, vI i2, vI i3, vR (some as0)] [])) : Ev (d + 1) 16 5 [vR (some a0), vI i1, vI i2, vI i3, w4] [vR (some as0)] h P := by
  refine Ev.step rfl (Ev.step rfl (Ev.step rfl ?_))
  exact Ev.step rfl ⟨(Nat.le_of_ble_eq_true rfl), _, _, _, Aas0.1, rfl, (Nat.le_of_ble_eq_true rfl), rfl, k⟩
theorem w16_13 {d a0 a4 : Nat} {i1 i2 i3 is0 : Int32} {h : AH} {P : PT} (k : ((¬ is0 = 0 → Ev d 15 0 [vR (some a4), vI i2, vU] [] h (CK d 16 P 29 [vR (some a0), vI i1, vI i2, vI i3, vR (some a4)] [])) ∧ (is0 = 0 → 1 ≤ hC h ∧ 6 ≤ hS h ∧ P (.inr (hN h)) (al h (52, 0) 6)))) : Ev (d + 1) 16 13 [vR (some a0), vI i1, vI i2, vI i3, vR (some a4)] [vI is0] h P := by
  refine Ev.step rfl ⟨fun c => ?_, fun c => ?_⟩
  · replace k := k.1 c
    refine Ev.step rfl (Ev.step rfl ?_)
    exact Ev.step rfl ⟨(Nat.le_of_ble_eq_true rfl), (Nat.le_of_ble_eq_true rfl), rfl, k⟩
  · replace k := k.2 (Decidable.not_not.mp c)
    obtain ⟨q1, k⟩ := k
    obtain ⟨q2, k⟩ := k
    refine Ev.step rfl ⟨q1, q2, (Nat.le_of_ble_eq_true rfl), k⟩
theorem w16_32 {d a0 a4 as0 : Nat} {i1 i2 i3 : Int32} {h : AH} {P : PT} (Aas0 : OB h as0 9 kR) (k : vp_in i3 4 ∧ P (.inl (some (vI (hI h (as0 + 1) i3.toNatClampNeg)))) h) : Ev d 16 32 [vR (some a0), vI i1, vI i2, vI i3, vR (some a4)] [vR (some as0)] h P := by
  refine e_gR rfl rfl (fk Aas0.1 rfl) Aas0.2.1.1 ?_
  refine Ev.step rfl ?_
  obtain ⟨q1, k⟩ := k
  refine Ev.step rfl ⟨⟨_, Or.inl Aas0.2.1.2, q1⟩, ?_⟩
  refine Ev.step rfl ⟨rfl, (fun e => Bool.noConfusion (show false = true from e)), k⟩
theorem w17_0 {d a0 : Nat} {i1 i2 : Int32} {h : AH} {P : PT} (Aa0 : OB h a0 0 kX) (k : Ev d 12 0 [vR (some a0), vI i1] [] h (CK d 17 P 2 [vR (some a0), vI i1, vI i2, vU, vU, vU] [])) : Ev (d + 1) 17 0 [vR (some a0), vI i1, vI i2, vU, vU, vU] [] h P := by
  refine Ev.step rfl (Ev.step rfl ?_)
  exact Ev.step rfl ⟨(Nat.le_of_ble_eq_true rfl), _, _, _, Aa0.1, rfl, (Nat.le_of_ble_eq_true rfl), rfl, k⟩
theorem w17_5 {d a0 as0 : Nat} {i1 i2 : Int32} {w3 w4 w5 : AV} {h : AH} {P : PT} (k : 1 ≤ hC h ∧ 3 ≤ hS h ∧ Ev d 17 9 [vR (some a0), vI i1, vI i2, vR (some as0), w4, w5] [vR (some (hN h))] (al h (15, 0) 3) P) : Ev d 17 5 [vR (some a0), vI i1, vI i2, w3, w4, w5] [vR (some as0)] h P := by
  refine Ev.step rfl ?_
  obtain ⟨q1, k⟩ := k
  obtain ⟨q2, k⟩ := k
  refine Ev.step rfl ⟨q1, q2, ?_⟩
  exact k
theorem w17_9 {d a0 a3 as0 : Nat} {i1 i2 : Int32} {w4 w5 : AV} {h : AH} {P : PT} (k : Ev d 81 0 [vR (some as0)] [] h (CK d 17 P 10 [vR (some a0), vI i1, vI i2, vR (some a3), w4, w5] [vR (some as0)])) : Ev (d + 1) 17 9 [vR (some a0), vI i1, vI i2, vR (some a3), w4, w5] [vR (some as0)] h P := by
  refine Ev.step rfl (Or.inr ?_)
  exact Ev.step rfl ⟨(Nat.le_of_ble_eq_true rfl), trivial, (Nat.le_of_ble_eq_true rfl), rfl, k⟩
theorem w17_13 {d a0 a3 as0 : Nat} {i1 i2 : Int32} {w4 w5 : AV} {h : AH} {P : PT} (Aa3 : OB h a3 12 kT) (k : Ev d 66 0 [vR (some a3), vR (some as0), vI 0, vI i2, vI 2147483647] [] h (CK d 17 P 22 [vR (some a0), vI i1, vI i2, vR (some a3), vR (some as0), w5] [])) : Ev (d + 1) 17 13 [vR (some a0), vI i1, vI i2, vR (some a3), w4, w5] [vR (some as0)] h P := by
  refine Ev.step rfl (Ev.step rfl (Ev.step rfl (Ev.step rfl (Ev.step rfl ?_))))
  refine Ev.step rfl ⟨rfl, ?_⟩
  exact Ev.step rfl ⟨(Nat.le_of_ble_eq_true rfl), _, _, _, Aa3.1, rfl, (Nat.le_of_ble_eq_true rfl), rfl, k⟩
theorem w17_25 {d a0 a3 a4 : Nat} {i1 i2 : Int32} {w5 : AV} {h : AH} {P : PT} (Aa4 : OB h a4 15 kE) (k : Ev d 83 0 [vR (some a4)] [] h (CK d 17 P 27 [vR (some a0), vI i1, vI i2, vR (some a3), vR (some a4), w5] [])) : Ev (d + 1) 17 25 [vR (some a0), vI i1, vI i2, vR (some a3), vR (some a4), w5] [] h P := by
  refine Ev.step rfl ?_
  exact Ev.step rfl ⟨(Nat.le_of_ble_eq_true rfl), _, _, _, Aa4.1, rfl, (Nat.le_of_ble_eq_true rfl), rfl, k⟩
theorem w17_30 {d a0 a3 a4 : Nat} {i1 i2 : Int32} {rs0 : Option Nat} {w5 : AV} {h : AH} {P : PT} (k : ((rs0 = none → 1 ≤ hC h ∧ 6 ≤ hS h ∧ P (.inr (hN h)) (al h (54, 0) 6)) ∧ (¬ rs0 = none → ∃ b0, rs0 = some b0 ∧ OB h b0 9 kR ∧ vp_in 0 4 ∧ P (.inl (some (vI (hI h (b0 + 1) ((0 : Int32).toNatClampNeg))))) h))) : Ev d 17 30 [vR (some a0), vI i1, vI i2, vR (some a3), vR (some a4), w5] [vR rs0] h P := by
  refine Ev.step rfl (Ev.step rfl ?_)
  refine Ev.step rfl ⟨fun c => ?_, fun c => ?_⟩
  · replace k := k.1 c
    obtain ⟨q1, k⟩ := k
    obtain ⟨q2, k⟩ := k
    refine Ev.step rfl ⟨q1, q2, (Nat.le_of_ble_eq_true rfl), k⟩
  · replace k := k.2 c
    refine Ev.step rfl ?_
    obtain ⟨b0, hbb0, k⟩ := k
    refine e_nn hbb0 ?_
    obtain ⟨q3, k⟩ := k
    refine e_gR rfl rfl (fk q3.1 rfl) q3.2.1.1 ?_
    refine Ev.step rfl ?_
    obtain ⟨q4, k⟩ := k
    refine Ev.step rfl ⟨⟨_, Or.inl q3.2.1.2, q4⟩, ?_⟩
    refine Ev.step rfl ⟨rfl, (fun e => Bool.noConfusion (show false = true from e)), k⟩
theorem w18_0 {d a0 : Nat} {i1 : Int32} {h : AH} {P : PT} (Aa0 : OB h a0 0 kX) (k : Ev d 5 0 [vR (some a0), vU] [] (wI h a0 72 0) (CK d 18 P 6 [vR (some a0), vI i1, vU, vU, vU] [])) : Ev (d + 1) 18 0 [vR (some a0), vI i1, vU, vU, vU] [] h P := by
  refine Ev.step rfl (Ev.step rfl ?_)
  refine Ev.step rfl ⟨(fk Aa0.1 rfl), ?_⟩
  refine Ev.step rfl ?_
  exact Ev.step rfl ⟨(Nat.le_of_ble_eq_true rfl), _, _, _, Aa0.1, rfl, (Nat.le_of_ble_eq_true rfl), rfl, k⟩
theorem w18_9 {d a0 : Nat} {i1 is0 : Int32} {w2 w3 w4 : AV} {h : AH} {P : PT} (Aa0 : OB h a0 0 kX) (k : ((0 ≤ is0 → 1 ≤ hC h ∧ 6 ≤ hS h ∧ P (.inr (hN h)) (al h (50, 0) 6)) ∧ (is0 < 0 → ((0 ≤ i1 → Ev d 19 0 [vR (some a0), vU, vU, vU, vU, vU] [] (wI (wI h (a0 + 5) 28 i1) (a0 + 5) 32 0) (CK d 18 P 43 [vR (some a0), vI i1, w2, w3, w4] [])) ∧ (i1 < 0 → 1 ≤ hC h ∧ 6 ≤ hS h ∧ P (.inr (hN h)) (al h (50, 0) 6)))))) : Ev (d + 1) 18 9 [vR (some a0), vI i1, w2, w3, w4] [vI is0] h P := by
  refine Ev.step rfl ⟨fun c => ?_, fun c => ?_⟩
  · replace k := k.1 c
    obtain ⟨q1, k⟩ := k
    obtain ⟨q2, k⟩ := k
    refine Ev.step rfl ⟨q1, q2, (Nat.le_of_ble_eq_true rfl), k⟩
  · replace k := k.2 (Int32.not_le.mp c)
    refine Ev.step rfl ?_
    refine Ev.step rfl ⟨fun c => ?_, fun c => ?_⟩
    · replace k := k.1 c
      refine Ev.step rfl ?_
      refine e_gR rfl rfl (fk Aa0.1 rfl) Aa0.2.2.2.2.2.1.1 ?_
      refine Ev.step rfl ?_
      refine Ev.step rfl ⟨(fk (⟨Aa0.2.2.2.2.2.1.2, trivial⟩ : OB h (a0 + 5) 6 kE).1 rfl), ?_⟩
      refine Ev.step rfl ?_
      refine e_gR rfl rfl (fk Aa0.1 rfl) Aa0.2.2.2.2.2.1.1 ?_
      refine Ev.step rfl ?_
      refine Ev.step rfl ⟨(fk (⟨Aa0.2.2.2.2.2.1.2, trivial⟩ : OB (wI h (a0 + 5) 28 i1) (a0 + 5) 6 kE).1 rfl), ?_⟩
      refine Ev.step rfl ?_
      exact Ev.step rfl ⟨(Nat.le_of_ble_eq_true rfl), _, _, _, Aa0.1, rfl, (Nat.le_of_ble_eq_true rfl), rfl, k⟩
    · replace k := k.2 (Int32.not_le.mp c)
      obtain ⟨q3, k⟩ := k
      obtain ⟨q4, k⟩ := k
      refine Ev.step rfl ⟨q3, q4, (Nat.le_of_ble_eq_true rfl), k⟩
theorem w18_46 {d a0 as0 : Nat} {i1 : Int32} {w2 w3 w4 : AV} {h : AH} {P : PT} (Aa0 : OB h a0 0 kX) (k : Ev d 21 0 [vR (some a0), vR (some as0), vU] [] h (CK d 18 P 51 [vR (some a0), vI i1, vR (some as0), vI 0, w4] [])) : Ev (d + 1) 18 46 [vR (some a0), vI i1, w2, w3, w4] [vR (some as0)] h P := by
  refine Ev.step rfl (Ev.step rfl (Ev.step rfl (Ev.step rfl (Ev.step rfl ?_))))
  exact Ev.step rfl ⟨(Nat.le_of_ble_eq_true rfl), _, _, _, Aa0.1, rfl, (Nat.le_of_ble_eq_true rfl), rfl, k⟩
theorem w18_54 {d a0 a2 : Nat} {i1 i3 is0 : Int32} {w4 : AV} {h : AH} {P : PT} (Aa0 : OB h a0 0 kX) (k : P (.inl (some (vI is0))) (wI h a0 76 (hI h (a0 + 5) 32))) : Ev d 18 54 [vR (some a0), vI i1, vR (some a2), vI i3, w4] [vI is0] h P := by
  refine Ev.step rfl (Ev.step rfl (Ev.step rfl (Ev.step rfl ?_)))
  refine e_gR rfl rfl (fk Aa0.1 rfl) Aa0.2.2.2.2.2.1.1 ?_
  refine Ev.step rfl ⟨(fk (⟨Aa0.2.2.2.2.2.1.2, trivial⟩ : OB h (a0 + 5) 6 kE).1 rfl), ?_⟩
  refine Ev.step rfl ⟨(fk Aa0.1 rfl), ?_⟩
  refine Ev.step rfl ?_
  refine Ev.step rfl ⟨rfl, (fun e => Bool.noConfusion (show false = true from e)), k⟩
theorem w18_58 {d a0 a2 as0 : Nat} {i1 i3 : Int32} {w4 : AV} {h : AH} {P : PT} (Aa0 : OB h a0 0 kX) (k : 1 ≤ hC (wI h a0 72 0) ∧ 6 ≤ hS (wI h a0 72 0) ∧ P (.inr (hN (wI h a0 72 0))) (al (wI h a0 72 0) (53, 0) 6)) : Ev d 18 58 [vR (some a0), vI i1, vR (some a2), vI i3, w4] [vR (some as0)] h P := by
  refine Ev.step rfl (Ev.step rfl (Ev.step rfl ?_))
  refine Ev.step rfl ⟨(fk Aa0.1 rfl), ?_⟩
  obtain ⟨q1, k⟩ := k
  obtain ⟨q2, k⟩ := k
  refine Ev.step rfl ⟨q1, q2, (Nat.le_of_ble_eq_true rfl), k⟩
theorem w18_75 {d a0 a2 as0 : Nat} {i1 i3 : Int32} {w4 : AV} {h : AH} {P : PT} (Aa0 : OB h a0 0 kX) (k : 1 ≤ hC (wI h a0 72 0) ∧ 6 ≤ hS (wI h a0 72 0) ∧ P (.inr (hN (wI h a0 72 0))) (al (wI h a0 72 0) (51, 0) 6)) : Ev d 18 75 [vR (some a0), vI i1, vR (some a2), vI i3, w4] [vR (some as0)] h P := by
  refine Ev.step rfl (Ev.step rfl (Ev.step rfl ?_))
  refine Ev.step rfl ⟨(fk Aa0.1 rfl), ?_⟩
  obtain ⟨q1, k⟩ := k
  obtain ⟨q2, k⟩ := k
  refine Ev.step rfl ⟨q1, q2, (Nat.le_of_ble_eq_true rfl), k⟩
