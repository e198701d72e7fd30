/-! deps: 25 -/
/-! blocks (printed by gen_blocks.py) -/
theorem w100_0 {d a0 : Nat} {h : AH} {P : PT} (Aa0 : OB h a0 16 kM) (k : Ev d 101 0 [vR (some a0), vU, vU] [] (wI h a0 224 0) (CK d 100 P 6 [vR (some a0)] [])) : Ev (d + 1) 100 0 [vR (some a0)] [] h P := by
  refine Ev.step rfl (Ev.step rfl ?_)
  refine Ev.step rfl ⟨(fk Aa0.1 rfl), ?_⟩
  refine Ev.step rfl ?_
  exact Ev.step rfl ⟨(Nat.le_of_ble_eq_true rfl), _, _, _, Aa0.1, rfl, (Nat.le_of_ble_eq_true rfl), rfl, k⟩
theorem w100_9 {d a0 : Nat} {h : AH} {P : PT} (Aa0 : OB h a0 16 kM) (k : ((0 ≤ (hI h a0 268) → P (.inl (some (vI (hI h a0 268)))) h) ∧ ((hI h a0 268) < 0 → P (.inl (some (vI (-1)))) h))) : Ev d 100 9 [vR (some a0)] [] h P := by
  refine Ev.step rfl ?_
  refine Ev.step rfl ⟨(fk Aa0.1 rfl), ?_⟩
  refine Ev.step rfl ⟨fun c => ?_, fun c => ?_⟩
  · replace k := k.1 c
    refine Ev.step rfl ?_
    refine Ev.step rfl ⟨(fk Aa0.1 rfl), ?_⟩
    refine Ev.step rfl ⟨rfl, (fun e => Bool.noConfusion (show false = true from e)), k⟩
  · replace k := k.2 (Int32.not_le.mp c)
    refine Ev.step rfl (Ev.step rfl ?_)
    refine Ev.step rfl ⟨rfl, (fun e => Bool.noConfusion (show false = true from e)), k⟩
theorem w101_0 {d a0 : Nat} {h : AH} {P : PT} (Aa0 : OB h a0 16 kM) (k : Ev d 102 0 [vR (some a0), vU, vU] [] (wI (wI (wI h a0 268 (-1)) a0 264 1) a0 284 0) (CK d 101 P 16 [vR (some a0), vU, vU] [])) : Ev (d + 1) 101 0 [vR (some a0), vU, vU] [] h P := by
  refine Ev.step rfl (Ev.step rfl ?_)
  refine Ev.step rfl ⟨(fk Aa0.1 rfl), ?_⟩
  refine Ev.step rfl (Ev.step rfl ?_)
  refine Ev.step rfl ⟨(fk Aa0.1 rfl), ?_⟩
  refine Ev.step rfl (Ev.step rfl ?_)
  refine Ev.step rfl ⟨(fk Aa0.1 rfl), ?_⟩
  refine Ev.step rfl ?_
  exact Ev.step rfl ⟨(Nat.le_of_ble_eq_true rfl), _, _, _, Aa0.1, rfl, (Nat.le_of_ble_eq_true rfl), rfl, k⟩
theorem w101_19 {d a0 : Nat} {w1 w2 : AV} {h : AH} {P : PT} (Aa0 : OB h a0 16 kM) (k : vp_in 0 40 ∧ ((¬ (hI h (a0 + 7) ((0 : Int32).toNatClampNeg)) = 2 → Ev d 101 34 [vR (some a0), w1, w2] [vI 2] h P) ∧ ((hI h (a0 + 7) ((0 : Int32).toNatClampNeg)) = 2 → Ev d 101 34 [vR (some a0), w1, w2] [vI 5] h P))) : Ev d 101 19 [vR (some a0), w1, w2] [] h P := by
  refine Ev.step rfl ?_
  refine e_gR rfl rfl (fk Aa0.1 rfl) Aa0.2.2.2.2.2.2.2.1.1 ?_
  refine Ev.step rfl ?_
  obtain ⟨q1, k⟩ := k
  refine Ev.step rfl ⟨⟨_, Or.inl Aa0.2.2.2.2.2.2.2.1.2, q1⟩, ?_⟩
  refine Ev.step rfl ?_
  refine Ev.step rfl ⟨fun c => ?_, fun c => ?_⟩
  · replace k := k.1 c
    refine Ev.step rfl ?_
    exact k
  · replace k := k.2 (Decidable.not_not.mp c)
    refine Ev.step rfl (Ev.step rfl ?_)
    exact k
theorem w101_34 {d a0 : Nat} {is0 : Int32} {w1 w2 : AV} {h : AH} {P : PT} (k : Ev d 101 35 [vR (some a0), vI is0, w2] [] h P) : Ev d 101 34 [vR (some a0), w1, w2] [vI is0] h P := by
  refine Ev.step rfl ?_
  exact k
theorem w101_35 {d a0 : Nat} {i1 : Int32} {w2 : AV} {h : AH} {P : PT} (Aa0 : OB h a0 16 kM) (k : ((0 ≤ (hI h a0 268) → P (.inl none) h) ∧ ((hI h a0 268) < 0 → (((hI h a0 256) ≤ i1 → P (.inl none) h) ∧ (i1 < (hI h a0 256) → vp_in i1 40 ∧ (((hI h (a0 + 6) i1.toNatClampNeg) < 3 → Ev d 101 74 [vR (some a0), vI i1, vI (hI h (a0 + 6) i1.toNatClampNeg)] [vI i1, vR (some a0)] h P) ∧ (3 ≤ (hI h (a0 + 6) i1.toNatClampNeg) → ((10 < (hI h (a0 + 6) i1.toNatClampNeg) → Ev d 101 74 [vR (some a0), vI i1, vI (hI h (a0 + 6) i1.toNatClampNeg)] [vI i1, vR (some a0)] h P) ∧ ((hI h (a0 + 6) i1.toNatClampNeg) ≤ 10 → Ev d 101 75 [vR (some a0), vI i1, vI (hI h (a0 + 6) i1.toNatClampNeg)] [vI 1, vI i1, vR (some a0)] h P))))))))) : Ev d 101 35 [vR (some a0), vI i1, w2] [] h P := by
  refine Ev.step rfl ?_
  refine Ev.step rfl ⟨(fk Aa0.1 rfl), ?_⟩
  refine Ev.step rfl ⟨fun c => ?_, fun c => ?_⟩
  · replace k := k.1 c
    refine Ev.step rfl ⟨rfl, k⟩
  · replace k := k.2 (Int32.not_le.mp c)
    refine Ev.step rfl (Ev.step rfl ?_)
    refine Ev.step rfl ⟨(fk Aa0.1 rfl), ?_⟩
    refine Ev.step rfl ⟨fun c => ?_, fun c => ?_⟩
    · replace k := k.1 c
      refine Ev.step rfl ⟨rfl, k⟩
    · replace k := k.2 (Int32.not_le.mp c)
      refine Ev.step rfl ?_
      refine e_gR rfl rfl (fk Aa0.1 rfl) Aa0.2.2.2.2.2.2.1.1 ?_
      refine Ev.step rfl ?_
      obtain ⟨q1, k⟩ := k
      refine Ev.step rfl ⟨⟨_, Or.inl Aa0.2.2.2.2.2.2.1.2, q1⟩, ?_⟩
      refine Ev.step rfl (Ev.step rfl (Ev.step rfl (Ev.step rfl (Ev.step rfl ?_))))
      refine Ev.step rfl ⟨fun c => ?_, fun c => ?_⟩
      · replace k := k.1 c
        exact k
      · replace k := k.2 (Int32.not_lt.mp c)
        refine Ev.step rfl (Ev.step rfl ?_)
        refine Ev.step rfl ⟨fun c => ?_, fun c => ?_⟩
        · replace k := k.1 c
          exact k
        · replace k := k.2 (Int32.not_lt.mp c)
          refine Ev.step rfl (Ev.step rfl ?_)
          exact k
theorem w101_74 {d a0 as1 : Nat} {i1 i2 is0 : Int32} {h : AH} {P : PT} (k : Ev d 101 75 [vR (some a0), vI i1, vI i2] [vI 0, vI is0, vR (some as1)] h P) : Ev d 101 74 [vR (some a0), vI i1, vI i2] [vI is0, vR (some as1)] h P := by
  refine Ev.step rfl ?_
  exact k
theorem w101_75 {d a0 as2 : Nat} {i1 i2 is0 is1 : Int32} {h : AH} {P : PT} (Aas2 : OB h as2 16 kM) (k : Ev d 104 0 [vR (some as2), vI is1, vI is0] [] h (CK d 101 P 75 [vR (some a0), vI i1, vI i2] [])) : Ev (d + 1) 101 75 [vR (some a0), vI i1, vI i2] [vI is0, vI is1, vR (some as2)] h P := by
  exact Ev.step rfl ⟨(Nat.le_of_ble_eq_true rfl), _, _, _, Aas2.1, rfl, (Nat.le_of_ble_eq_true rfl), rfl, k⟩
theorem w101_78 {d a0 : Nat} {i1 i2 : Int32} {h : AH} {P : PT} (Aa0 : OB h a0 16 kM) (k : ((0 ≤ (hI h a0 268) → Ev (d + 1) 101 35 [vR (some a0), vI i1, vI i2] [] h P) ∧ ((hI h a0 268) < 0 → vp_in (hI h a0 264) 40 ∧ vp_in (hI (wI h (a0 + 7) ((hI h a0 264).toNatClampNeg) i2) a0 264) 40 ∧ vp_in (hI (wI (wI h (a0 + 7) ((hI h a0 264).toNatClampNeg) i2) (a0 + 8) ((hI (wI h (a0 + 7) ((hI h a0 264).toNatClampNeg) i2) a0 264).toNatClampNeg) (i1 + 1)) a0 264) 40 ∧ Ev d 105 0 [vR (some a0), vI i2, vI (i1 + 1)] [] (wI (wI (wI (wI h (a0 + 7) ((hI h a0 264).toNatClampNeg) i2) (a0 + 8) ((hI (wI h (a0 + 7) ((hI h a0 264).toNatClampNeg) i2) a0 264).toNatClampNeg) (i1 + 1)) (a0 + 9) ((hI (wI (wI h (a0 + 7) ((hI h a0 264).toNatClampNeg) i2) (a0 + 8) ((hI (wI h (a0 + 7) ((hI h a0 264).toNatClampNeg) i2) a0 264).toNatClampNeg) (i1 + 1)) a0 264).toNatClampNeg) (hI (wI (wI h (a0 + 7) ((hI h a0 264).toNatClampNeg) i2) (a0 + 8) ((hI (wI h (a0 + 7) ((hI h a0 264).toNatClampNeg) i2) a0 264).toNatClampNeg) (i1 + 1)) a0 284)) a0 264 ((hI (wI (wI (wI h (a0 + 7) ((hI h a0 264).toNatClampNeg) i2) (a0 + 8) ((hI (wI h (a0 + 7) ((hI h a0 264).toNatClampNeg) i2) a0 264).toNatClampNeg) (i1 + 1)) (a0 + 9) ((hI (wI (wI h (a0 + 7) ((hI h a0 264).toNatClampNeg) i2) (a0 + 8) ((hI (wI h (a0 + 7) ((hI h a0 264).toNatClampNeg) i2) a0 264).toNatClampNeg) (i1 + 1)) a0 264).toNatClampNeg) (hI (wI (wI h (a0 + 7) ((hI h a0 264).toNatClampNeg) i2) (a0 + 8) ((hI (wI h (a0 + 7) ((hI h a0 264).toNatClampNeg) i2) a0 264).toNatClampNeg) (i1 + 1)) a0 284)) a0 264) + 1)) (CK d 101 P 135 [vR (some a0), vI i1, vI i2] [])))) : Ev (d + 1) 101 78 [vR (some a0), vI i1, vI i2] [] h P := by
  refine Ev.step rfl ?_
  refine Ev.step rfl ⟨(fk Aa0.1 rfl), ?_⟩
  refine Ev.step rfl ⟨fun c => ?_, fun c => ?_⟩
  · replace k := k.1 c
    refine Ev.step rfl ?_
    exact k
  · replace k := k.2 (Int32.not_le.mp c)
    refine Ev.step rfl ?_
    refine e_gR rfl rfl (fk Aa0.1 rfl) Aa0.2.2.2.2.2.2.2.1.1 ?_
    refine Ev.step rfl ?_
    refine Ev.step rfl ⟨(fk Aa0.1 rfl), ?_⟩
    refine Ev.step rfl ?_
    obtain ⟨q1, k⟩ := k
    refine Ev.step rfl ⟨⟨_, Aa0.2.2.2.2.2.2.2.1.2, q1⟩, ?_⟩
    refine Ev.step rfl ?_
    refine e_gR rfl rfl (fk Aa0.1 rfl) Aa0.2.2.2.2.2.2.2.2.1.1 ?_
    refine Ev.step rfl ?_
    refine Ev.step rfl ⟨(fk Aa0.1 rfl), ?_⟩
    refine Ev.step rfl (Ev.step rfl (Ev.step rfl ?_))
    obtain ⟨q2, k⟩ := k
    refine Ev.step rfl ⟨⟨_, Aa0.2.2.2.2.2.2.2.2.1.2, q2⟩, ?_⟩
    refine Ev.step rfl ?_
    refine e_gR rfl rfl (fk Aa0.1 rfl) Aa0.2.2.2.2.2.2.2.2.2.1.1 ?_
    refine Ev.step rfl ?_
    refine Ev.step rfl ⟨(fk Aa0.1 rfl), ?_⟩
    refine Ev.step rfl ?_
    refine Ev.step rfl ⟨(fk Aa0.1 rfl), ?_⟩
    obtain ⟨q3, k⟩ := k
    refine Ev.step rfl ⟨⟨_, Aa0.2.2.2.2.2.2.2.2.2.1.2, q3⟩, ?_⟩
    refine Ev.step rfl (Ev.step rfl ?_)
    refine Ev.step rfl ⟨(fk Aa0.1 rfl), ?_⟩
    refine Ev.step rfl (Ev.step rfl ?_)
    refine Ev.step rfl ⟨(fk Aa0.1 rfl), ?_⟩
    refine Ev.step rfl (Ev.step rfl (Ev.step rfl (Ev.step rfl (Ev.step rfl ?_))))
    exact Ev.step rfl ⟨(Nat.le_of_ble_eq_true rfl), _, _, _, Aa0.1, rfl, (Nat.le_of_ble_eq_true rfl), rfl, k⟩
theorem w101_138 {d a0 : Nat} {i1 i2 is0 : Int32} {h : AH} {P : PT} (k : Ev d 101 35 [vR (some a0), vI is0, vI i2] [] h P) : Ev d 101 138 [vR (some a0), vI i1, vI i2] [vI is0] h P := by
  refine Ev.step rfl (Ev.step rfl ?_)
  exact k
theorem w102_0 {d a0 : Nat} {h : AH} {P : PT} (Aa0 : OB h a0 16 kM) (k : Ev d 103 0 [vR (some a0), vI 0] [] h (CK d 102 P 7 [vR (some a0), vU, vU] [vI 0, vR (some (a0 + 7))])) : Ev (d + 1) 102 0 [vR (some a0), vU, vU] [] h P := by
  refine Ev.step rfl ?_
  refine e_gR rfl rfl (fk Aa0.1 rfl) Aa0.2.2.2.2.2.2.2.1.1 ?_
  refine Ev.step rfl (Ev.step rfl (Ev.step rfl ?_))
  exact Ev.step rfl ⟨(Nat.le_of_ble_eq_true rfl), _, _, _, Aa0.1, rfl, (Nat.le_of_ble_eq_true rfl), rfl, k⟩
theorem w102_10 {d a0 as2 : Nat} {is0 is1 : Int32} {w1 w2 : AV} {h : AH} {P : PT} (Aa0 : OB h a0 16 kM) (k : ∃ n_as2, hT h as2 = some (100, n_as2) ∧ vp_in is1 n_as2 ∧ vp_in 0 40 ∧ vp_in 0 40 ∧ (((hI (wI (wI h as2 is1.toNatClampNeg is0) (a0 + 8) ((0 : Int32).toNatClampNeg) 1) (a0 + 7) ((0 : Int32).toNatClampNeg)) = 1 → Ev d 104 0 [vR (some a0), vI 0, vI 1] [] (wI (wI h as2 is1.toNatClampNeg is0) (a0 + 8) ((0 : Int32).toNatClampNeg) 1) (CK d 102 P 45 [vR (some a0), w1, w2] [])) ∧ (¬ (hI (wI (wI h as2 is1.toNatClampNeg is0) (a0 + 8) ((0 : Int32).toNatClampNeg) 1) (a0 + 7) ((0 : Int32).toNatClampNeg)) = 1 → vp_in 0 40 ∧ ((¬ (hI (wI (wI h as2 is1.toNatClampNeg is0) (a0 + 8) ((0 : Int32).toNatClampNeg) 1) (a0 + 7) ((0 : Int32).toNatClampNeg)) = 2 → Ev d 104 0 [vR (some a0), vI 0, vI 0] [] (wI (wI h as2 is1.toNatClampNeg is0) (a0 + 8) ((0 : Int32).toNatClampNeg) 1) (CK d 102 P 45 [vR (some a0), w1, w2] [])) ∧ ((hI (wI (wI h as2 is1.toNatClampNeg is0) (a0 + 8) ((0 : Int32).toNatClampNeg) 1) (a0 + 7) ((0 : Int32).toNatClampNeg)) = 2 → Ev d 104 0 [vR (some a0), vI 0, vI 1] [] (wI (wI h as2 is1.toNatClampNeg is0) (a0 + 8) ((0 : Int32).toNatClampNeg) 1) (CK d 102 P 45 [vR (some a0), w1, w2] [])))))) : Ev (d + 1) 102 10 [vR (some a0), w1, w2] [vI is0, vI is1, vR (some as2)] h P := by
  obtain ⟨n_as2, t1, k⟩ := k
  obtain ⟨q2, k⟩ := k
  refine Ev.step rfl ⟨⟨_, t1, q2⟩, ?_⟩
  refine Ev.step rfl ?_
  refine e_gR rfl rfl (fk Aa0.1 rfl) Aa0.2.2.2.2.2.2.2.2.1.1 ?_
  refine Ev.step rfl (Ev.step rfl ?_)
  obtain ⟨q3, k⟩ := k
  refine Ev.step rfl ⟨⟨_, Aa0.2.2.2.2.2.2.2.2.1.2, q3⟩, ?_⟩
  refine Ev.step rfl (Ev.step rfl (Ev.step rfl ?_))
  refine e_gR rfl rfl (fk Aa0.1 rfl) Aa0.2.2.2.2.2.2.2.1.1 ?_
  refine Ev.step rfl ?_
  obtain ⟨q4, k⟩ := k
  refine Ev.step rfl ⟨⟨_, Or.inl Aa0.2.2.2.2.2.2.2.1.2, q4⟩, ?_⟩
  refine Ev.step rfl ?_
  refine Ev.step rfl ⟨fun c => ?_, fun c => ?_⟩
  · replace k := k.1 c
    refine Ev.step rfl (Ev.step rfl ?_)
    exact Ev.step rfl ⟨(Nat.le_of_ble_eq_true rfl), _, _, _, Aa0.1, rfl, (Nat.le_of_ble_eq_true rfl), rfl, k⟩
  · replace k := k.2 c
    refine Ev.step rfl ?_
    refine e_gR rfl rfl (fk Aa0.1 rfl) Aa0.2.2.2.2.2.2.2.1.1 ?_
    refine Ev.step rfl ?_
    obtain ⟨q5, k⟩ := k
    refine Ev.step rfl ⟨⟨_, Or.inl Aa0.2.2.2.2.2.2.2.1.2, q5⟩, ?_⟩
    refine Ev.step rfl ?_
    refine Ev.step rfl ⟨fun c => ?_, fun c => ?_⟩
    · replace k := k.1 c
      refine Ev.step rfl ?_
      exact Ev.step rfl ⟨(Nat.le_of_ble_eq_true rfl), _, _, _, Aa0.1, rfl, (Nat.le_of_ble_eq_true rfl), rfl, k⟩
    · replace k := k.2 (Decidable.not_not.mp c)
      refine Ev.step rfl (Ev.step rfl ?_)
      exact Ev.step rfl ⟨(Nat.le_of_ble_eq_true rfl), _, _, _, Aa0.1, rfl, (Nat.le_of_ble_eq_true rfl), rfl, k⟩
theorem w102_48 {d a0 : Nat} {w1 w2 : AV} {h : AH} {P : PT} (Aa0 : OB h a0 16 kM) (k : Ev d 103 0 [vR (some a0), vI 1] [] h (CK d 102 P 50 [vR (some a0), w1, w2] [])) : Ev (d + 1) 102 48 [vR (some a0), w1, w2] [] h P := by
  refine Ev.step rfl (Ev.step rfl ?_)
  exact Ev.step rfl ⟨(Nat.le_of_ble_eq_true rfl), _, _, _, Aa0.1, rfl, (Nat.le_of_ble_eq_true rfl), rfl, k⟩
theorem w102_53 {d a0 : Nat} {is0 : Int32} {w1 w2 : AV} {h : AH} {P : PT} (Aa0 : OB h a0 16 kM) (k : Ev d 88 0 [vR (some a0), vI is0] [] h (CK d 102 P 58 [vR (some a0), vI is0, w2] [vI 1, vR (some a0)])) : Ev (d + 1) 102 53 [vR (some a0), w1, w2] [vI is0] h P := by
  refine Ev.step rfl (Ev.step rfl (Ev.step rfl (Ev.step rfl (Ev.step rfl ?_))))
  exact Ev.step rfl ⟨(Nat.le_of_ble_eq_true rfl), _, _, _, Aa0.1, rfl, (Nat.le_of_ble_eq_true rfl), rfl, k⟩
theorem w102_61 {d a0 as2 : Nat} {i1 is0 is1 : Int32} {w2 : AV} {h : AH} {P : PT} (Aas2 : OB h as2 16 kM) (k : Ev d 104 0 [vR (some as2), vI is1, vI is0] [] h (CK d 102 P 61 [vR (some a0), vI i1, w2] [])) : Ev (d + 1) 102 61 [vR (some a0), vI i1, w2] [vI is0, vI is1, vR (some as2)] h P := by
  exact Ev.step rfl ⟨(Nat.le_of_ble_eq_true rfl), _, _, _, Aas2.1, rfl, (Nat.le_of_ble_eq_true rfl), rfl, k⟩
theorem w102_64 {d a0 : Nat} {i1 : Int32} {w2 : AV} {h : AH} {P : PT} (Aa0 : OB h a0 16 kM) (k : (((hI h a0 268) < 0 → vp_in i1 4 ∧ vp_in 0 40 ∧ ((¬ (hI (wI h a0 284 (hI h (a0 + 1) i1.toNatClampNeg)) (a0 + 7) ((0 : Int32).toNatClampNeg)) = 2 → Ev (d + 1) 102 144 [vR (some a0), vI i1, w2] [] (wI h a0 284 (hI h (a0 + 1) i1.toNatClampNeg)) P) ∧ ((hI (wI h a0 284 (hI h (a0 + 1) i1.toNatClampNeg)) (a0 + 7) ((0 : Int32).toNatClampNeg)) = 2 → Ev d 103 0 [vR (some a0), vI 2] [] (wI h a0 284 (hI h (a0 + 1) i1.toNatClampNeg)) (CK d 102 P 94 [vR (some a0), vI i1, w2] [])))) ∧ (0 ≤ (hI h a0 268) → P (.inl none) h))) : Ev (d + 1) 102 64 [vR (some a0), vI i1, w2] [] h P := by
  refine Ev.step rfl ?_
  refine Ev.step rfl ⟨(fk Aa0.1 rfl), ?_⟩
  refine Ev.step rfl ⟨fun c => ?_, fun c => ?_⟩
  · replace k := k.1 c
    refine Ev.step rfl (Ev.step rfl ?_)
    refine e_gR rfl rfl (fk Aa0.1 rfl) Aa0.2.1.1 ?_
    refine Ev.step rfl ?_
    obtain ⟨q1, k⟩ := k
    refine Ev.step rfl ⟨⟨_, Or.inl Aa0.2.1.2, q1⟩, ?_⟩
    refine Ev.step rfl ⟨(fk Aa0.1 rfl), ?_⟩
    refine Ev.step rfl ?_
    refine e_gR rfl rfl (fk Aa0.1 rfl) Aa0.2.2.2.2.2.2.2.1.1 ?_
    refine Ev.step rfl ?_
    obtain ⟨q2, k⟩ := k
    refine Ev.step rfl ⟨⟨_, Or.inl Aa0.2.2.2.2.2.2.2.1.2, q2⟩, ?_⟩
    refine Ev.step rfl ?_
    refine Ev.step rfl ⟨fun c => ?_, fun c => ?_⟩
    · replace k := k.1 c
      exact k
    · replace k := k.2 (Decidable.not_not.mp c)
      refine Ev.step rfl (Ev.step rfl ?_)
      exact Ev.step rfl ⟨(Nat.le_of_ble_eq_true rfl), _, _, _, Aa0.1, rfl, (Nat.le_of_ble_eq_true rfl), rfl, k⟩
  · replace k := k.2 (Int32.not_lt.mp c)
    refine Ev.step rfl ⟨rfl, k⟩
theorem w102_97 {d a0 : Nat} {i1 is0 : Int32} {w2 : AV} {h : AH} {P : PT} (Aa0 : OB h a0 16 kM) (k : Ev d 89 0 [vR (some a0), vI i1, vI is0] [] h (CK d 102 P 103 [vR (some a0), vI i1, vI is0] [vI 2, vR (some a0)])) : Ev (d + 1) 102 97 [vR (some a0), vI i1, w2] [vI is0] h P := by
  refine Ev.step rfl (Ev.step rfl (Ev.step rfl (Ev.step rfl (Ev.step rfl (Ev.step rfl ?_)))))
  exact Ev.step rfl ⟨(Nat.le_of_ble_eq_true rfl), _, _, _, Aa0.1, rfl, (Nat.le_of_ble_eq_true rfl), rfl, k⟩
theorem w102_106 {d a0 as2 : Nat} {i1 i2 is0 is1 : Int32} {h : AH} {P : PT} (Aas2 : OB h as2 16 kM) (Aa0 : OB h a0 16 kM) (k : ((is0 = 0 → Ev d 104 0 [vR (some as2), vI is1, vI 0] [] h (CK d 102 P 129 [vR (some a0), vI i1, vI i2] [])) ∧ (¬ is0 = 0 → vp_in ((4 * i1) + (i2 &&& 3)) 16 ∧ (((hI h (a0 + 2) (((4 * i1) + (i2 &&& 3)).toNatClampNeg)) = 0 → Ev d 104 0 [vR (some as2), vI is1, vI 0] [] h (CK d 102 P 129 [vR (some a0), vI i1, vI i2] [])) ∧ (¬ (hI h (a0 + 2) (((4 * i1) + (i2 &&& 3)).toNatClampNeg)) = 0 → Ev d 104 0 [vR (some as2), vI is1, vI 1] [] h (CK d 102 P 129 [vR (some a0), vI i1, vI i2] [])))))) : Ev (d + 1) 102 106 [vR (some a0), vI i1, vI i2] [vI is0, vI is1, vR (some as2)] h P := by
  refine Ev.step rfl ⟨fun c => ?_, fun c => ?_⟩
  · replace k := k.1 c
    refine Ev.step rfl ?_
    exact Ev.step rfl ⟨(Nat.le_of_ble_eq_true rfl), _, _, _, Aas2.1, rfl, (Nat.le_of_ble_eq_true rfl), rfl, k⟩
  · replace k := k.2 c
    refine Ev.step rfl ?_
    refine e_gR rfl rfl (fk Aa0.1 rfl) Aa0.2.2.1.1 ?_
    refine Ev.step rfl (Ev.step rfl (Ev.step rfl (Ev.step rfl (Ev.step rfl (Ev.step rfl (Ev.step rfl ?_))))))
    obtain ⟨q1, k⟩ := k
    refine Ev.step rfl ⟨⟨_, Aa0.2.2.1.2, q1⟩, ?_⟩
    refine Ev.step rfl ⟨fun c => ?_, fun c => ?_⟩
    · replace k := k.1 c
      refine Ev.step rfl ?_
      exact Ev.step rfl ⟨(Nat.le_of_ble_eq_true rfl), _, _, _, Aas2.1, rfl, (Nat.le_of_ble_eq_true rfl), rfl, k⟩
    · replace k := k.2 c
      refine Ev.step rfl (Ev.step rfl ?_)
      exact Ev.step rfl ⟨(Nat.le_of_ble_eq_true rfl), _, _, _, Aas2.1, rfl, (Nat.le_of_ble_eq_true rfl), rfl, k⟩
theorem w102_132 {d a0 : Nat} {i1 i2 : Int32} {h : AH} {P : PT} (Aa0 : OB h a0 16 kM) (k : Ev d 104 0 [vR (some a0), vI 3, vI 1] [] h (CK d 102 P 135 [vR (some a0), vI i1, vI i2] [])) : Ev (d + 1) 102 132 [vR (some a0), vI i1, vI i2] [] h P := by
  refine Ev.step rfl (Ev.step rfl (Ev.step rfl ?_))
  exact Ev.step rfl ⟨(Nat.le_of_ble_eq_true rfl), _, _, _, Aa0.1, rfl, (Nat.le_of_ble_eq_true rfl), rfl, k⟩
theorem w102_138 {d a0 : Nat} {i1 i2 : Int32} {h : AH} {P : PT} (Aa0 : OB h a0 16 kM) (k : Ev d 104 0 [vR (some a0), vI 4, vI 1] [] h (CK d 102 P 141 [vR (some a0), vI i1, vI i2] [])) : Ev (d + 1) 102 138 [vR (some a0), vI i1, vI i2] [] h P := by
  refine Ev.step rfl (Ev.step rfl (Ev.step rfl ?_))
  exact Ev.step rfl ⟨(Nat.le_of_ble_eq_true rfl), _, _, _, Aa0.1, rfl, (Nat.le_of_ble_eq_true rfl), rfl, k⟩
theorem w102_144 {d a0 : Nat} {i1 : Int32} {w2 : AV} {h : AH} {P : PT} (k : P (.inl none) h) : Ev d 102 144 [vR (some a0), vI i1, w2] [] h P := by
  refine Ev.step rfl ⟨rfl, k⟩
theorem w103_0 {d a0 : Nat} {i1 : Int32} {h : AH} {P : PT} (Aa0 : OB h a0 16 kM) (k : (((hI h a0 256) ≤ i1 → P (.inl (some (vI 0))) h) ∧ (i1 < (hI h a0 256) → vp_in i1 40 ∧ P (.inl (some (vI (hI h (a0 + 6) i1.toNatClampNeg)))) h))) : Ev d 103 0 [vR (some a0), vI i1] [] h P := by
  refine Ev.step rfl (Ev.step rfl ?_)
  refine Ev.step rfl ⟨(fk Aa0.1 rfl), ?_⟩
  refine Ev.step rfl ⟨fun c => ?_, fun c => ?_⟩
  · replace k := k.1 c
    refine Ev.step rfl ?_
    refine Ev.step rfl ⟨rfl, (fun e => Bool.noConfusion (show false = true from e)), k⟩
  · replace k := k.2 (Int32.not_le.mp c)
    refine Ev.step rfl ?_
    refine e_gR rfl rfl (fk Aa0.1 rfl) Aa0.2.2.2.2.2.2.1.1 ?_
    refine Ev.step rfl ?_
    obtain ⟨q1, k⟩ := k
    refine Ev.step rfl ⟨⟨_, Or.inl Aa0.2.2.2.2.2.2.1.2, q1⟩, ?_⟩
    refine Ev.step rfl ?_
    refine Ev.step rfl ⟨rfl, (fun e => Bool.noConfusion (show false = true from e)), k⟩
theorem w104_0 {d a0 : Nat} {i1 i2 : Int32} {h : AH} {P : PT} (Aa0 : OB h a0 16 kM) (k : ((0 ≤ (hI h a0 268) → P (.inl none) h) ∧ ((hI h a0 268) < 0 → (((hI h a0 256) ≤ i1 → ((i1 < (hI h a0 256) → P (.inl none) (wI h a0 268 i1)) ∧ ((hI h a0 256) ≤ i1 → P (.inl none) (wI h a0 268 (hI h a0 256))))) ∧ (i1 < (hI h a0 256) → ((¬ i2 = 0 → P (.inl none) h) ∧ (i2 = 0 → ((i1 < (hI h a0 256) → P (.inl none) (wI h a0 268 i1)) ∧ ((hI h a0 256) ≤ i1 → P (.inl none) (wI h a0 268 (hI h a0 256))))))))))) : Ev d 104 0 [vR (some a0), vI i1, vI i2] [] h P := by
  refine Ev.step rfl ?_
  refine Ev.step rfl ⟨(fk Aa0.1 rfl), ?_⟩
  refine Ev.step rfl ⟨fun c => ?_, fun c => ?_⟩
  · replace k := k.1 c
    refine Ev.step rfl ⟨rfl, k⟩
  · replace k := k.2 (Int32.not_le.mp c)
    refine Ev.step rfl (Ev.step rfl ?_)
    refine Ev.step rfl ⟨(fk Aa0.1 rfl), ?_⟩
    refine Ev.step rfl ⟨fun c => ?_, fun c => ?_⟩
    · replace k := k.1 c
      refine Ev.step rfl (Ev.step rfl (Ev.step rfl ?_))
      refine Ev.step rfl ⟨(fk Aa0.1 rfl), ?_⟩
      refine Ev.step rfl ⟨fun c => ?_, fun c => ?_⟩
      · replace k := k.1 c
        refine Ev.step rfl ?_
        refine Ev.step rfl ⟨(fk Aa0.1 rfl), ?_⟩
        refine Ev.step rfl ⟨rfl, k⟩
      · replace k := k.2 (Int32.not_lt.mp c)
        refine Ev.step rfl ?_
        refine Ev.step rfl ⟨(fk Aa0.1 rfl), ?_⟩
        refine Ev.step rfl ?_
        refine Ev.step rfl ⟨(fk Aa0.1 rfl), ?_⟩
        refine Ev.step rfl ⟨rfl, k⟩
    · replace k := k.2 (Int32.not_le.mp c)
      refine Ev.step rfl ?_
      refine Ev.step rfl ⟨fun c => ?_, fun c => ?_⟩
      · replace k := k.1 c
        refine Ev.step rfl ⟨rfl, k⟩
      · replace k := k.2 (Decidable.not_not.mp c)
        refine Ev.step rfl (Ev.step rfl (Ev.step rfl ?_))
        refine Ev.step rfl ⟨(fk Aa0.1 rfl), ?_⟩
        refine Ev.step rfl ⟨fun c => ?_, fun c => ?_⟩
        · replace k := k.1 c
          refine Ev.step rfl ?_
          refine Ev.step rfl ⟨(fk Aa0.1 rfl), ?_⟩
          refine Ev.step rfl ⟨rfl, k⟩
        · replace k := k.2 (Int32.not_lt.mp c)
          refine Ev.step rfl ?_
          refine Ev.step rfl ⟨(fk Aa0.1 rfl), ?_⟩
          refine Ev.step rfl ?_
          refine Ev.step rfl ⟨(fk Aa0.1 rfl), ?_⟩
          refine Ev.step rfl ⟨rfl, k⟩
theorem w105_0 {d a0 : Nat} {i1 i2 : Int32} {h : AH} {P : PT} (Aa0 : OB h a0 16 kM) (k : ((i1 = 3 → Ev d 103 0 [vR (some a0), vI i2] [] h (CK d 105 P 49 [vR (some a0), vI i1, vI i2] [vR (some a0), vI i2, vR (some a0)])) ∧ (i1 = 4 → Ev d 107 0 [vR (some a0), vI i2, vU, vU] [] h (CK d 105 P 105 [vR (some a0), vI i1, vI i2] [])) ∧ (i1 = 5 → Ev d 108 0 [vR (some a0), vI i2, vU, vU] [] h (CK d 105 P 111 [vR (some a0), vI i1, vI i2] [])) ∧ (i1 = 6 → Ev d 103 0 [vR (some a0), vI i2] [] h (CK d 105 P 119 [vR (some a0), vI i1, vI i2] [vI i2, vR (some a0)])) ∧ (i1 = 7 → Ev d 103 0 [vR (some a0), vI i2] [] h (CK d 105 P 119 [vR (some a0), vI i1, vI i2] [vI i2, vR (some a0)])) ∧ (i1 = 8 → P (.inl (some (vI i2))) (wI h a0 284 1)) ∧ (i1 = 9 → Ev d 103 0 [vR (some a0), vI i2] [] h (CK d 105 P 149 [vR (some a0), vI i1, vI i2] [vR (some a0), vI i2, vR (some a0)])) ∧ (i1.toInt < 3 ∨ 10 ≤ i1.toInt → Ev d 103 0 [vR (some a0), vI i2] [] h (CK d 105 P 172 [vR (some a0), vI i1, vI i2] [vR (some a0), vI i2, vR (some a0)])))) : Ev (d + 1) 105 0 [vR (some a0), vI i1, vI i2] [] h P := by
  refine Ev.step rfl ?_
  refine Ev.step rfl ⟨⟨fun c => ?_, fun c => ?_, fun c => ?_, fun c => ?_, fun c => ?_, fun c => ?_, fun c => ?_, trivial⟩, fun c => ?_⟩
  · replace k := k.1 c
    refine Ev.step rfl (Ev.step rfl (Ev.step rfl (Ev.step rfl (Ev.step rfl ?_))))
    exact Ev.step rfl ⟨(Nat.le_of_ble_eq_true rfl), _, _, _, Aa0.1, rfl, (Nat.le_of_ble_eq_true rfl), rfl, k⟩
  · replace k := k.2.1 c
    refine Ev.step rfl (Ev.step rfl ?_)
    exact Ev.step rfl ⟨(Nat.le_of_ble_eq_true rfl), _, _, _, Aa0.1, rfl, (Nat.le_of_ble_eq_true rfl), rfl, k⟩
  · replace k := k.2.2.1 c
    refine Ev.step rfl (Ev.step rfl ?_)
    exact Ev.step rfl ⟨(Nat.le_of_ble_eq_true rfl), _, _, _, Aa0.1, rfl, (Nat.le_of_ble_eq_true rfl), rfl, k⟩
  · replace k := k.2.2.2.1 c
    refine Ev.step rfl (Ev.step rfl (Ev.step rfl (Ev.step rfl ?_)))
    exact Ev.step rfl ⟨(Nat.le_of_ble_eq_true rfl), _, _, _, Aa0.1, rfl, (Nat.le_of_ble_eq_true rfl), rfl, k⟩
  · replace k := k.2.2.2.2.1 c
    refine Ev.step rfl (Ev.step rfl (Ev.step rfl (Ev.step rfl ?_)))
    exact Ev.step rfl ⟨(Nat.le_of_ble_eq_true rfl), _, _, _, Aa0.1, rfl, (Nat.le_of_ble_eq_true rfl), rfl, k⟩
  · replace k := k.2.2.2.2.2.1 c
    refine Ev.step rfl (Ev.step rfl ?_)
    refine Ev.step rfl ⟨(fk Aa0.1 rfl), ?_⟩
    refine Ev.step rfl ?_
    refine Ev.step rfl ⟨rfl, (fun e => Bool.noConfusion (show false = true from e)), k⟩
  · replace k := k.2.2.2.2.2.2.1 c
    refine Ev.step rfl (Ev.step rfl (Ev.step rfl (Ev.step rfl (Ev.step rfl ?_))))
    exact Ev.step rfl ⟨(Nat.le_of_ble_eq_true rfl), _, _, _, Aa0.1, rfl, (Nat.le_of_ble_eq_true rfl), rfl, k⟩
  · replace k := k.2.2.2.2.2.2.2 c
    refine Ev.step rfl (Ev.step rfl (Ev.step rfl (Ev.step rfl (Ev.step rfl ?_))))
    exact Ev.step rfl ⟨(Nat.le_of_ble_eq_true rfl), _, _, _, Aa0.1, rfl, (Nat.le_of_ble_eq_true rfl), rfl, k⟩
theorem w105_52 {d a0 as1 as3 : Nat} {i1 i2 is0 is2 : Int32} {h : AH} {P : PT} (Aas1 : OB h as1 16 kM) (k : Ev d 106 0 [vR (some as1), vI is0] [] h (CK d 105 P 52 [vR (some a0), vI i1, vI i2] [vI is2, vR (some as3)])) : Ev (d + 1) 105 52 [vR (some a0), vI i1, vI i2] [vI is0, vR (some as1), vI is2, vR (some as3)] h P := by
  exact Ev.step rfl ⟨(Nat.le_of_ble_eq_true rfl), _, _, _, Aas1.1, rfl, (Nat.le_of_ble_eq_true rfl), rfl, k⟩
theorem w105_55 {d a0 as2 : Nat} {i1 i2 is0 is1 : Int32} {h : AH} {P : PT} (Aas2 : OB h as2 16 kM) (k : Ev d 104 0 [vR (some as2), vI is1, vI is0] [] h (CK d 105 P 55 [vR (some a0), vI i1, vI i2] [])) : Ev (d + 1) 105 55 [vR (some a0), vI i1, vI i2] [vI is0, vI is1, vR (some as2)] h P := by
  exact Ev.step rfl ⟨(Nat.le_of_ble_eq_true rfl), _, _, _, Aas2.1, rfl, (Nat.le_of_ble_eq_true rfl), rfl, k⟩
theorem w105_58 {d a0 : Nat} {i1 i2 : Int32} {h : AH} {P : PT} (Aa0 : OB h a0 16 kM) (k : Ev d 103 0 [vR (some a0), vI (i2 + 1)] [] h (CK d 105 P 66 [vR (some a0), vI i1, vI i2] [vI (i2 + 1), vR (some a0)])) : Ev (d + 1) 105 58 [vR (some a0), vI i1, vI i2] [] h P := by
  refine Ev.step rfl (Ev.step rfl (Ev.step rfl (Ev.step rfl (Ev.step rfl (Ev.step rfl (Ev.step rfl (Ev.step rfl ?_)))))))
  exact Ev.step rfl ⟨(Nat.le_of_ble_eq_true rfl), _, _, _, Aa0.1, rfl, (Nat.le_of_ble_eq_true rfl), rfl, k⟩
theorem w105_69 {d a0 as2 : Nat} {i1 i2 is0 is1 : Int32} {h : AH} {P : PT} (Aas2 : OB h as2 16 kM) (Aa0 : OB h a0 16 kM) (k : ((is0 < 0 → Ev d 104 0 [vR (some as2), vI is1, vI 0] [] h (CK d 105 P 88 [vR (some a0), vI i1, vI i2] [])) ∧ (0 ≤ is0 → Ev d 103 0 [vR (some a0), vI (i2 + 1)] [] h (CK d 105 P 76 [vR (some a0), vI i1, vI i2] [vI is1, vR (some as2)])))) : Ev (d + 1) 105 69 [vR (some a0), vI i1, vI i2] [vI is0, vI is1, vR (some as2)] h P := by
  refine Ev.step rfl ⟨fun c => ?_, fun c => ?_⟩
  · replace k := k.1 c
    refine Ev.step rfl ?_
    exact Ev.step rfl ⟨(Nat.le_of_ble_eq_true rfl), _, _, _, Aas2.1, rfl, (Nat.le_of_ble_eq_true rfl), rfl, k⟩
  · replace k := k.2 (Int32.not_lt.mp c)
    refine Ev.step rfl (Ev.step rfl (Ev.step rfl (Ev.step rfl ?_)))
    exact Ev.step rfl ⟨(Nat.le_of_ble_eq_true rfl), _, _, _, Aa0.1, rfl, (Nat.le_of_ble_eq_true rfl), rfl, k⟩
theorem w105_79 {d a0 as2 : Nat} {i1 i2 is0 is1 : Int32} {h : AH} {P : PT} (Aas2 : OB h as2 16 kM) (k : ((5 < is0 → Ev d 104 0 [vR (some as2), vI is1, vI 0] [] h (CK d 105 P 88 [vR (some a0), vI i1, vI i2] [])) ∧ (is0 ≤ 5 → Ev d 104 0 [vR (some as2), vI is1, vI 1] [] h (CK d 105 P 88 [vR (some a0), vI i1, vI i2] [])))) : Ev (d + 1) 105 79 [vR (some a0), vI i1, vI i2] [vI is0, vI is1, vR (some as2)] h P := by
  refine Ev.step rfl ?_
  refine Ev.step rfl ⟨fun c => ?_, fun c => ?_⟩
  · replace k := k.1 c
    refine Ev.step rfl ?_
    exact Ev.step rfl ⟨(Nat.le_of_ble_eq_true rfl), _, _, _, Aas2.1, rfl, (Nat.le_of_ble_eq_true rfl), rfl, k⟩
  · replace k := k.2 (Int32.not_lt.mp c)
    refine Ev.step rfl (Ev.step rfl ?_)
    exact Ev.step rfl ⟨(Nat.le_of_ble_eq_true rfl), _, _, _, Aas2.1, rfl, (Nat.le_of_ble_eq_true rfl), rfl, k⟩
theorem w105_91 {d a0 : Nat} {i1 i2 : Int32} {h : AH} {P : PT} (Aa0 : OB h a0 16 kM) (k : Ev d 104 0 [vR (some a0), vI (i2 + 2), vI 1] [] h (CK d 105 P 96 [vR (some a0), vI i1, vI i2] [])) : Ev (d + 1) 105 91 [vR (some a0), vI i1, vI i2] [] h P := by
  refine Ev.step rfl (Ev.step rfl (Ev.step rfl (Ev.step rfl (Ev.step rfl ?_))))
  exact Ev.step rfl ⟨(Nat.le_of_ble_eq_true rfl), _, _, _, Aa0.1, rfl, (Nat.le_of_ble_eq_true rfl), rfl, k⟩
theorem w105_99 {d a0 : Nat} {i1 i2 : Int32} {h : AH} {P : PT} (k : P (.inl (some (vI (i2 + 3)))) h) : Ev d 105 99 [vR (some a0), vI i1, vI i2] [] h P := by
  refine Ev.step rfl (Ev.step rfl (Ev.step rfl ?_))
  refine Ev.step rfl ⟨rfl, (fun e => Bool.noConfusion (show false = true from e)), k⟩
theorem w105_108 {d a0 : Nat} {i1 i2 is0 : Int32} {h : AH} {P : PT} (k : P (.inl (some (vI is0))) h) : Ev d 105 108 [vR (some a0), vI i1, vI i2] [vI is0] h P := by
  refine Ev.step rfl ⟨rfl, (fun e => Bool.noConfusion (show false = true from e)), k⟩
theorem w105_114 {d a0 : Nat} {i1 i2 is0 : Int32} {h : AH} {P : PT} (k : P (.inl (some (vI is0))) h) : Ev d 105 114 [vR (some a0), vI i1, vI i2] [vI is0] h P := by
  refine Ev.step rfl ⟨rfl, (fun e => Bool.noConfusion (show false = true from e)), k⟩
theorem w105_122 {d a0 as2 : Nat} {i1 i2 is0 is1 : Int32} {h : AH} {P : PT} (Aas2 : OB h as2 16 kM) (k : ((is0 < 0 → Ev d 104 0 [vR (some as2), vI is1, vI 0] [] h (CK d 105 P 130 [vR (some a0), vI i1, vI i2] [])) ∧ (0 ≤ is0 → Ev d 104 0 [vR (some as2), vI is1, vI 1] [] h (CK d 105 P 130 [vR (some a0), vI i1, vI i2] [])))) : Ev (d + 1) 105 122 [vR (some a0), vI i1, vI i2] [vI is0, vI is1, vR (some as2)] h P := by
  refine Ev.step rfl ⟨fun c => ?_, fun c => ?_⟩
  · replace k := k.1 c
    refine Ev.step rfl ?_
    exact Ev.step rfl ⟨(Nat.le_of_ble_eq_true rfl), _, _, _, Aas2.1, rfl, (Nat.le_of_ble_eq_true rfl), rfl, k⟩
  · replace k := k.2 (Int32.not_lt.mp c)
    refine Ev.step rfl (Ev.step rfl ?_)
    exact Ev.step rfl ⟨(Nat.le_of_ble_eq_true rfl), _, _, _, Aas2.1, rfl, (Nat.le_of_ble_eq_true rfl), rfl, k⟩
theorem w105_133 {d a0 : Nat} {i1 i2 : Int32} {h : AH} {P : PT} (k : P (.inl (some (vI (i2 + 1)))) h) : Ev d 105 133 [vR (some a0), vI i1, vI i2] [] h P := by
  refine Ev.step rfl (Ev.step rfl (Ev.step rfl ?_))
  refine Ev.step rfl ⟨rfl, (fun e => Bool.noConfusion (show false = true from e)), k⟩
theorem w105_152 {d a0 as1 as3 : Nat} {i1 i2 is0 is2 : Int32} {h : AH} {P : PT} (Aas1 : OB h as1 16 kM) (k : Ev d 106 0 [vR (some as1), vI is0] [] h (CK d 105 P 152 [vR (some a0), vI i1, vI i2] [vI is2, vR (some as3)])) : Ev (d + 1) 105 152 [vR (some a0), vI i1, vI i2] [vI is0, vR (some as1), vI is2, vR (some as3)] h P := by
  exact Ev.step rfl ⟨(Nat.le_of_ble_eq_true rfl), _, _, _, Aas1.1, rfl, (Nat.le_of_ble_eq_true rfl), rfl, k⟩
theorem w105_155 {d a0 as2 : Nat} {i1 i2 is0 is1 : Int32} {h : AH} {P : PT} (Aas2 : OB h as2 16 kM) (k : Ev d 104 0 [vR (some as2), vI is1, vI is0] [] h (CK d 105 P 155 [vR (some a0), vI i1, vI i2] [])) : Ev (d + 1) 105 155 [vR (some a0), vI i1, vI i2] [vI is0, vI is1, vR (some as2)] h P := by
  exact Ev.step rfl ⟨(Nat.le_of_ble_eq_true rfl), _, _, _, Aas2.1, rfl, (Nat.le_of_ble_eq_true rfl), rfl, k⟩
theorem w105_158 {d a0 : Nat} {i1 i2 : Int32} {h : AH} {P : PT} (Aa0 : OB h a0 16 kM) (k : P (.inl (some (vI (i2 + 1)))) (wI h a0 284 1)) : Ev d 105 158 [vR (some a0), vI i1, vI i2] [] h P := by
  refine Ev.step rfl (Ev.step rfl ?_)
  refine Ev.step rfl ⟨(fk Aa0.1 rfl), ?_⟩
  refine Ev.step rfl (Ev.step rfl (Ev.step rfl ?_))
  refine Ev.step rfl ⟨rfl, (fun e => Bool.noConfusion (show false = true from e)), k⟩
theorem w105_175 {d a0 as1 as3 : Nat} {i1 i2 is0 is2 : Int32} {h : AH} {P : PT} (Aas1 : OB h as1 16 kM) (k : Ev d 106 0 [vR (some as1), vI is0] [] h (CK d 105 P 175 [vR (some a0), vI i1, vI i2] [vI is2, vR (some as3)])) : Ev (d + 1) 105 175 [vR (some a0), vI i1, vI i2] [vI is0, vR (some as1), vI is2, vR (some as3)] h P := by
  exact Ev.step rfl ⟨(Nat.le_of_ble_eq_true rfl), _, _, _, Aas1.1, rfl, (Nat.le_of_ble_eq_true rfl), rfl, k⟩
theorem w105_178 {d a0 as2 : Nat} {i1 i2 is0 is1 : Int32} {h : AH} {P : PT} (Aas2 : OB h as2 16 kM) (k : Ev d 104 0 [vR (some as2), vI is1, vI is0] [] h (CK d 105 P 178 [vR (some a0), vI i1, vI i2] [])) : Ev (d + 1) 105 178 [vR (some a0), vI i1, vI i2] [vI is0, vI is1, vR (some as2)] h P := by
  exact Ev.step rfl ⟨(Nat.le_of_ble_eq_true rfl), _, _, _, Aas2.1, rfl, (Nat.le_of_ble_eq_true rfl), rfl, k⟩
theorem w105_181 {d a0 : Nat} {i1 i2 : Int32} {h : AH} {P : PT} (Aa0 : OB h a0 16 kM) (k : P (.inl (some (vI (i2 + 1)))) (wI h a0 284 2)) : Ev d 105 181 [vR (some a0), vI i1, vI i2] [] h P := by
  refine Ev.step rfl (Ev.step rfl ?_)
  refine Ev.step rfl ⟨(fk Aa0.1 rfl), ?_⟩
  refine Ev.step rfl (Ev.step rfl (Ev.step rfl ?_))
  refine Ev.step rfl ⟨rfl, (fun e => Bool.noConfusion (show false = true from e)), k⟩
theorem w106_0 {d a0 : Nat} {i1 : Int32} {h : AH} {P : PT} (Aa0 : OB h a0 16 kM) (k : ((i1 < 0 → P (.inl (some (vI 0))) h) ∧ (0 ≤ i1 → (((hI h a0 284) ≤ i1 → P (.inl (some (vI 0))) h) ∧ (i1 < (hI h a0 284) → P (.inl (some (vI 1))) h))))) : Ev d 106 0 [vR (some a0), vI i1] [] h P := by
  refine Ev.step rfl ?_
  refine Ev.step rfl ⟨fun c => ?_, fun c => ?_⟩
  · replace k := k.1 c
    refine Ev.step rfl ?_
    refine Ev.step rfl ⟨rfl, (fun _ => Or.inl rfl), k⟩
  · replace k := k.2 (Int32.not_lt.mp c)
    refine Ev.step rfl (Ev.step rfl ?_)
    refine Ev.step rfl ⟨(fk Aa0.1 rfl), ?_⟩
    refine Ev.step rfl ⟨fun c => ?_, fun c => ?_⟩
    · replace k := k.1 c
      refine Ev.step rfl ?_
      refine Ev.step rfl ⟨rfl, (fun _ => Or.inl rfl), k⟩
    · replace k := k.2 (Int32.not_le.mp c)
      refine Ev.step rfl (Ev.step rfl ?_)
      refine Ev.step rfl ⟨rfl, (fun _ => Or.inr rfl), k⟩
theorem w107_0 {d a0 : Nat} {i1 : Int32} {h : AH} {P : PT} (Aa0 : OB h a0 16 kM) (k : Ev d 103 0 [vR (some a0), vI i1] [] h (CK d 107 P 2 [vR (some a0), vI i1, vU, vU] [])) : Ev (d + 1) 107 0 [vR (some a0), vI i1, vU, vU] [] h P := by
  refine Ev.step rfl (Ev.step rfl ?_)
  exact Ev.step rfl ⟨(Nat.le_of_ble_eq_true rfl), _, _, _, Aa0.1, rfl, (Nat.le_of_ble_eq_true rfl), rfl, k⟩
theorem w107_5 {d a0 : Nat} {i1 is0 : Int32} {w2 w3 : AV} {h : AH} {P : PT} (Aa0 : OB h a0 16 kM) (k : ((is0 < 1 → Ev d 104 0 [vR (some a0), vI i1, vI 0] [] h (CK d 107 P 24 [vR (some a0), vI i1, vI is0, w3] [])) ∧ (1 ≤ is0 → ((8 < is0 → Ev d 104 0 [vR (some a0), vI i1, vI 0] [] h (CK d 107 P 24 [vR (some a0), vI i1, vI is0, w3] [])) ∧ (is0 ≤ 8 → Ev d 104 0 [vR (some a0), vI i1, vI 1] [] h (CK d 107 P 24 [vR (some a0), vI i1, vI is0, w3] [])))))) : Ev (d + 1) 107 5 [vR (some a0), vI i1, w2, w3] [vI is0] h P := by
  refine Ev.step rfl (Ev.step rfl (Ev.step rfl (Ev.step rfl (Ev.step rfl ?_))))
  refine Ev.step rfl ⟨fun c => ?_, fun c => ?_⟩
  · replace k := k.1 c
    refine Ev.step rfl ?_
    exact Ev.step rfl ⟨(Nat.le_of_ble_eq_true rfl), _, _, _, Aa0.1, rfl, (Nat.le_of_ble_eq_true rfl), rfl, k⟩
  · replace k := k.2 (Int32.not_lt.mp c)
    refine Ev.step rfl (Ev.step rfl ?_)
    refine Ev.step rfl ⟨fun c => ?_, fun c => ?_⟩
    · replace k := k.1 c
      refine Ev.step rfl ?_
      exact Ev.step rfl ⟨(Nat.le_of_ble_eq_true rfl), _, _, _, Aa0.1, rfl, (Nat.le_of_ble_eq_true rfl), rfl, k⟩
    · replace k := k.2 (Int32.not_lt.mp c)
      refine Ev.step rfl (Ev.step rfl ?_)
      exact Ev.step rfl ⟨(Nat.le_of_ble_eq_true rfl), _, _, _, Aa0.1, rfl, (Nat.le_of_ble_eq_true rfl), rfl, k⟩
theorem w107_27 {d a0 : Nat} {i1 i2 : Int32} {w3 : AV} {h : AH} {P : PT} (Aa0 : OB h a0 16 kM) (k : (((hI h a0 268) < 0 → Ev d 107 38 [vR (some a0), vI i1, vI i2, vI 1] [] h P) ∧ (0 ≤ (hI h a0 268) → P (.inl (some (vI i1))) h))) : Ev d 107 27 [vR (some a0), vI i1, vI i2, w3] [] h P := by
  refine Ev.step rfl ?_
  refine Ev.step rfl ⟨(fk Aa0.1 rfl), ?_⟩
  refine Ev.step rfl ⟨fun c => ?_, fun c => ?_⟩
  · replace k := k.1 c
    refine Ev.step rfl (Ev.step rfl ?_)
    exact k
  · replace k := k.2 (Int32.not_lt.mp c)
    refine Ev.step rfl ?_
    refine Ev.step rfl ⟨rfl, (fun e => Bool.noConfusion (show false = true from e)), k⟩
theorem w107_38 {d a0 : Nat} {i1 i2 i3 : Int32} {h : AH} {P : PT} (Aa0 : OB h a0 16 kM) (k : ((i2 < i3 → P (.inl (some (vI ((i1 + i2) + 1)))) (wI h a0 284 i2)) ∧ (i3 ≤ i2 → Ev d 103 0 [vR (some a0), vI (i1 + i3)] [] h (CK d 107 P 52 [vR (some a0), vI i1, vI i2, vI i3] [vR (some a0), vI (i1 + i3), vR (some a0)])))) : Ev (d + 1) 107 38 [vR (some a0), vI i1, vI i2, vI i3] [] h P := by
  refine Ev.step rfl (Ev.step rfl ?_)
  refine Ev.step rfl ⟨fun c => ?_, fun c => ?_⟩
  · replace k := k.1 c
    refine Ev.step rfl (Ev.step rfl ?_)
    refine Ev.step rfl ⟨(fk Aa0.1 rfl), ?_⟩
    refine Ev.step rfl (Ev.step rfl (Ev.step rfl (Ev.step rfl (Ev.step rfl ?_))))
    refine Ev.step rfl ⟨rfl, (fun e => Bool.noConfusion (show false = true from e)), k⟩
  · replace k := k.2 (Int32.not_lt.mp c)
    refine Ev.step rfl (Ev.step rfl (Ev.step rfl (Ev.step rfl (Ev.step rfl (Ev.step rfl (Ev.step rfl (Ev.step rfl ?_)))))))
    refine Ev.step rfl ?_
    exact Ev.step rfl ⟨(Nat.le_of_ble_eq_true rfl), _, _, _, Aa0.1, rfl, (Nat.le_of_ble_eq_true rfl), rfl, k⟩
theorem w107_55 {d a0 as1 as3 : Nat} {i1 i2 i3 is0 is2 : Int32} {h : AH} {P : PT} (Aas1 : OB h as1 16 kM) (k : Ev d 106 0 [vR (some as1), vI is0] [] h (CK d 107 P 55 [vR (some a0), vI i1, vI i2, vI i3] [vI is2, vR (some as3)])) : Ev (d + 1) 107 55 [vR (some a0), vI i1, vI i2, vI i3] [vI is0, vR (some as1), vI is2, vR (some as3)] h P := by
  exact Ev.step rfl ⟨(Nat.le_of_ble_eq_true rfl), _, _, _, Aas1.1, rfl, (Nat.le_of_ble_eq_true rfl), rfl, k⟩
theorem w107_58 {d a0 as2 : Nat} {i1 i2 i3 is0 is1 : Int32} {h : AH} {P : PT} (Aas2 : OB h as2 16 kM) (k : Ev d 104 0 [vR (some as2), vI is1, vI is0] [] h (CK d 107 P 58 [vR (some a0), vI i1, vI i2, vI i3] [])) : Ev (d + 1) 107 58 [vR (some a0), vI i1, vI i2, vI i3] [vI is0, vI is1, vR (some as2)] h P := by
  exact Ev.step rfl ⟨(Nat.le_of_ble_eq_true rfl), _, _, _, Aas2.1, rfl, (Nat.le_of_ble_eq_true rfl), rfl, k⟩
theorem w107_61 {d a0 : Nat} {i1 i2 i3 : Int32} {h : AH} {P : PT} (k : Ev d 107 38 [vR (some a0), vI i1, vI i2, vI (i3 + 1)] [] h P) : Ev d 107 61 [vR (some a0), vI i1, vI i2, vI i3] [] h P := by
  refine Ev.step rfl (Ev.step rfl ?_)
  exact k
theorem w108_0 {d a0 : Nat} {i1 : Int32} {h : AH} {P : PT} (Aa0 : OB h a0 16 kM) (k : Ev d 103 0 [vR (some a0), vI i1] [] h (CK d 108 P 2 [vR (some a0), vI i1, vU, vU] [])) : Ev (d + 1) 108 0 [vR (some a0), vI i1, vU, vU] [] h P := by
  refine Ev.step rfl (Ev.step rfl ?_)
  exact Ev.step rfl ⟨(Nat.le_of_ble_eq_true rfl), _, _, _, Aa0.1, rfl, (Nat.le_of_ble_eq_true rfl), rfl, k⟩
theorem w108_5 {d a0 : Nat} {i1 is0 : Int32} {w2 w3 : AV} {h : AH} {P : PT} (Aa0 : OB h a0 16 kM) (k : Ev d 88 0 [vR (some a0), vI is0] [] h (CK d 108 P 10 [vR (some a0), vI i1, vI is0, w3] [vI i1, vR (some a0)])) : Ev (d + 1) 108 5 [vR (some a0), vI i1, w2, w3] [vI is0] h P := by
  refine Ev.step rfl (Ev.step rfl (Ev.step rfl (Ev.step rfl (Ev.step rfl ?_))))
  exact Ev.step rfl ⟨(Nat.le_of_ble_eq_true rfl), _, _, _, Aa0.1, rfl, (Nat.le_of_ble_eq_true rfl), rfl, k⟩
theorem w108_13 {d a0 as2 : Nat} {i1 i2 is0 is1 : Int32} {w3 : AV} {h : AH} {P : PT} (Aas2 : OB h as2 16 kM) (Aa0 : OB h a0 16 kM) (k : ((is0 = 0 → Ev d 104 0 [vR (some as2), vI is1, vI 0] [] h (CK d 108 P 39 [vR (some a0), vI i1, vI i2, w3] [])) ∧ (¬ is0 = 0 → vp_in (i2 &&& 3) 4 ∧ ((8 < ((hI h a0 284) + (hI h (a0 + 1) ((i2 &&& 3).toNatClampNeg))) → Ev d 104 0 [vR (some as2), vI is1, vI 0] [] h (CK d 108 P 39 [vR (some a0), vI i1, vI i2, w3] [])) ∧ (((hI h a0 284) + (hI h (a0 + 1) ((i2 &&& 3).toNatClampNeg))) ≤ 8 → Ev d 104 0 [vR (some as2), vI is1, vI 1] [] h (CK d 108 P 39 [vR (some a0), vI i1, vI i2, w3] [])))))) : Ev (d + 1) 108 13 [vR (some a0), vI i1, vI i2, w3] [vI is0, vI is1, vR (some as2)] h P := by
  refine Ev.step rfl ⟨fun c => ?_, fun c => ?_⟩
  · replace k := k.1 c
    refine Ev.step rfl ?_
    exact Ev.step rfl ⟨(Nat.le_of_ble_eq_true rfl), _, _, _, Aas2.1, rfl, (Nat.le_of_ble_eq_true rfl), rfl, k⟩
  · replace k := k.2 c
    refine Ev.step rfl ?_
    refine Ev.step rfl ⟨(fk Aa0.1 rfl), ?_⟩
    refine Ev.step rfl ?_
    refine e_gR rfl rfl (fk Aa0.1 rfl) Aa0.2.1.1 ?_
    refine Ev.step rfl (Ev.step rfl (Ev.step rfl ?_))
    obtain ⟨q1, k⟩ := k
    refine Ev.step rfl ⟨⟨_, Or.inl Aa0.2.1.2, q1⟩, ?_⟩
    refine Ev.step rfl (Ev.step rfl ?_)
    refine Ev.step rfl ⟨fun c => ?_, fun c => ?_⟩
    · replace k := k.1 c
      refine Ev.step rfl ?_
      exact Ev.step rfl ⟨(Nat.le_of_ble_eq_true rfl), _, _, _, Aas2.1, rfl, (Nat.le_of_ble_eq_true rfl), rfl, k⟩
    · replace k := k.2 (Int32.not_lt.mp c)
      refine Ev.step rfl (Ev.step rfl ?_)
      exact Ev.step rfl ⟨(Nat.le_of_ble_eq_true rfl), _, _, _, Aas2.1, rfl, (Nat.le_of_ble_eq_true rfl), rfl, k⟩
theorem w108_42 {d a0 : Nat} {i1 i2 : Int32} {w3 : AV} {h : AH} {P : PT} (Aa0 : OB h a0 16 kM) (k : (((hI h a0 268) < 0 → Ev d 103 0 [vR (some a0), vI (i1 + 1)] [] h (CK d 108 P 55 [vR (some a0), vI i1, vI i2, w3] [])) ∧ (0 ≤ (hI h a0 268) → P (.inl (some (vI i1))) h))) : Ev (d + 1) 108 42 [vR (some a0), vI i1, vI i2, w3] [] h P := by
  refine Ev.step rfl ?_
  refine Ev.step rfl ⟨(fk Aa0.1 rfl), ?_⟩
  refine Ev.step rfl ⟨fun c => ?_, fun c => ?_⟩
  · replace k := k.1 c
    refine Ev.step rfl (Ev.step rfl (Ev.step rfl (Ev.step rfl ?_)))
    exact Ev.step rfl ⟨(Nat.le_of_ble_eq_true rfl), _, _, _, Aa0.1, rfl, (Nat.le_of_ble_eq_true rfl), rfl, k⟩
  · replace k := k.2 (Int32.not_lt.mp c)
    refine Ev.step rfl ?_
    refine Ev.step rfl ⟨rfl, (fun e => Bool.noConfusion (show false = true from e)), k⟩
theorem w108_58 {d a0 : Nat} {i1 i2 is0 : Int32} {w3 : AV} {h : AH} {P : PT} (Aa0 : OB h a0 16 kM) (k : Ev d 89 0 [vR (some a0), vI i2, vI is0] [] h (CK d 108 P 66 [vR (some a0), vI i1, vI i2, vI is0] [vI (i1 + 1), vR (some a0)])) : Ev (d + 1) 108 58 [vR (some a0), vI i1, vI i2, w3] [vI is0] h P := by
  refine Ev.step rfl (Ev.step rfl (Ev.step rfl (Ev.step rfl (Ev.step rfl (Ev.step rfl (Ev.step rfl (Ev.step rfl ?_)))))))
  exact Ev.step rfl ⟨(Nat.le_of_ble_eq_true rfl), _, _, _, Aa0.1, rfl, (Nat.le_of_ble_eq_true rfl), rfl, k⟩
theorem w108_69 {d a0 as2 : Nat} {i1 i2 i3 is0 is1 : Int32} {h : AH} {P : PT} (Aas2 : OB h as2 16 kM) (Aa0 : OB h a0 16 kM) (k : ((is0 = 0 → Ev d 104 0 [vR (some as2), vI is1, vI 0] [] h (CK d 108 P 92 [vR (some a0), vI i1, vI i2, vI i3] [])) ∧ (¬ is0 = 0 → vp_in ((4 * i2) + (i3 &&& 3)) 16 ∧ (((hI h (a0 + 2) (((4 * i2) + (i3 &&& 3)).toNatClampNeg)) = 0 → Ev d 104 0 [vR (some as2), vI is1, vI 0] [] h (CK d 108 P 92 [vR (some a0), vI i1, vI i2, vI i3] [])) ∧ (¬ (hI h (a0 + 2) (((4 * i2) + (i3 &&& 3)).toNatClampNeg)) = 0 → Ev d 104 0 [vR (some as2), vI is1, vI 1] [] h (CK d 108 P 92 [vR (some a0), vI i1, vI i2, vI i3] [])))))) : Ev (d + 1) 108 69 [vR (some a0), vI i1, vI i2, vI i3] [vI is0, vI is1, vR (some as2)] h P := by
  refine Ev.step rfl ⟨fun c => ?_, fun c => ?_⟩
  · replace k := k.1 c
    refine Ev.step rfl ?_
    exact Ev.step rfl ⟨(Nat.le_of_ble_eq_true rfl), _, _, _, Aas2.1, rfl, (Nat.le_of_ble_eq_true rfl), rfl, k⟩
  · replace k := k.2 c
    refine Ev.step rfl ?_
    refine e_gR rfl rfl (fk Aa0.1 rfl) Aa0.2.2.1.1 ?_
    refine Ev.step rfl (Ev.step rfl (Ev.step rfl (Ev.step rfl (Ev.step rfl (Ev.step rfl (Ev.step rfl ?_))))))
    obtain ⟨q1, k⟩ := k
    refine Ev.step rfl ⟨⟨_, Aa0.2.2.1.2, q1⟩, ?_⟩
    refine Ev.step rfl ⟨fun c => ?_, fun c => ?_⟩
    · replace k := k.1 c
      refine Ev.step rfl ?_
      exact Ev.step rfl ⟨(Nat.le_of_ble_eq_true rfl), _, _, _, Aas2.1, rfl, (Nat.le_of_ble_eq_true rfl), rfl, k⟩
    · replace k := k.2 c
      refine Ev.step rfl (Ev.step rfl ?_)
      exact Ev.step rfl ⟨(Nat.le_of_ble_eq_true rfl), _, _, _, Aas2.1, rfl, (Nat.le_of_ble_eq_true rfl), rfl, k⟩
theorem w108_95 {d a0 : Nat} {i1 i2 i3 : Int32} {h : AH} {P : PT} (Aa0 : OB h a0 16 kM) (k : Ev d 103 0 [vR (some a0), vI (i1 + 2)] [] h (CK d 108 P 104 [vR (some a0), vI i1, vI i2, vI i3] [vR (some a0), vI (i1 + 2), vR (some a0)])) : Ev (d + 1) 108 95 [vR (some a0), vI i1, vI i2, vI i3] [] h P := by
  refine Ev.step rfl (Ev.step rfl (Ev.step rfl (Ev.step rfl (Ev.step rfl (Ev.step rfl (Ev.step rfl (Ev.step rfl ?_)))))))
  refine Ev.step rfl ?_
  exact Ev.step rfl ⟨(Nat.le_of_ble_eq_true rfl), _, _, _, Aa0.1, rfl, (Nat.le_of_ble_eq_true rfl), rfl, k⟩
theorem w108_107 {d a0 as1 as3 : Nat} {i1 i2 i3 is0 is2 : Int32} {h : AH} {P : PT} (Aas1 : OB h as1 16 kM) (k : Ev d 106 0 [vR (some as1), vI is0] [] h (CK d 108 P 107 [vR (some a0), vI i1, vI i2, vI i3] [vI is2, vR (some as3)])) : Ev (d + 1) 108 107 [vR (some a0), vI i1, vI i2, vI i3] [vI is0, vR (some as1), vI is2, vR (some as3)] h P := by
  exact Ev.step rfl ⟨(Nat.le_of_ble_eq_true rfl), _, _, _, Aas1.1, rfl, (Nat.le_of_ble_eq_true rfl), rfl, k⟩
theorem w108_110 {d a0 as2 : Nat} {i1 i2 i3 is0 is1 : Int32} {h : AH} {P : PT} (Aas2 : OB h as2 16 kM) (k : Ev d 104 0 [vR (some as2), vI is1, vI is0] [] h (CK d 108 P 110 [vR (some a0), vI i1, vI i2, vI i3] [])) : Ev (d + 1) 108 110 [vR (some a0), vI i1, vI i2, vI i3] [vI is0, vI is1, vR (some as2)] h P := by
  exact Ev.step rfl ⟨(Nat.le_of_ble_eq_true rfl), _, _, _, Aas2.1, rfl, (Nat.le_of_ble_eq_true rfl), rfl, k⟩
theorem w108_113 {d a0 : Nat} {i1 i2 i3 : Int32} {h : AH} {P : PT} (Aa0 : OB h a0 16 kM) (k : vp_in i2 4 ∧ P (.inl (some (vI (i1 + 3)))) (wI h a0 284 ((hI h a0 284) + (hI h (a0 + 1) i2.toNatClampNeg)))) : Ev d 108 113 [vR (some a0), vI i1, vI i2, vI i3] [] h P := by
  refine Ev.step rfl (Ev.step rfl ?_)
  refine Ev.step rfl ⟨(fk Aa0.1 rfl), ?_⟩
  refine Ev.step rfl ?_
  refine e_gR rfl rfl (fk Aa0.1 rfl) Aa0.2.1.1 ?_
  refine Ev.step rfl ?_
  obtain ⟨q1, k⟩ := k
  refine Ev.step rfl ⟨⟨_, Or.inl Aa0.2.1.2, q1⟩, ?_⟩
  refine Ev.step rfl ?_
  refine Ev.step rfl ⟨(fk Aa0.1 rfl), ?_⟩
  refine Ev.step rfl (Ev.step rfl (Ev.step rfl ?_))
  refine Ev.step rfl ⟨rfl, (fun e => Bool.noConfusion (show false = true from e)), k⟩
theorem w109_0 {d a0 : Nat} {h : AH} {P : PT} (Aa0 : OB h a0 16 kM) (k : Ev d 101 0 [vR (some a0), vU, vU] [] (wI h a0 224 0) (CK d 109 P 6 [vR (some a0)] [])) : Ev (d + 1) 109 0 [vR (some a0)] [] h P := by
  refine Ev.step rfl (Ev.step rfl ?_)
  refine Ev.step rfl ⟨(fk Aa0.1 rfl), ?_⟩
  refine Ev.step rfl ?_
  exact Ev.step rfl ⟨(Nat.le_of_ble_eq_true rfl), _, _, _, Aa0.1, rfl, (Nat.le_of_ble_eq_true rfl), rfl, k⟩
theorem w109_9 {d a0 : Nat} {h : AH} {P : PT} (Aa0 : OB h a0 16 kM) (k : ((0 ≤ (hI h a0 268) → P (.inl (some (vI (-1)))) h) ∧ ((hI h a0 268) < 0 → P (.inl (some (vI (hI h a0 284)))) h))) : Ev d 109 9 [vR (some a0)] [] h P := by
  refine Ev.step rfl ?_
  refine Ev.step rfl ⟨(fk Aa0.1 rfl), ?_⟩
  refine Ev.step rfl ⟨fun c => ?_, fun c => ?_⟩
  · replace k := k.1 c
    refine Ev.step rfl ?_
    refine Ev.step rfl ⟨rfl, (fun e => Bool.noConfusion (show false = true from e)), k⟩
  · replace k := k.2 (Int32.not_le.mp c)
    refine Ev.step rfl ?_
    refine Ev.step rfl ⟨(fk Aa0.1 rfl), ?_⟩
    refine Ev.step rfl ?_
    refine Ev.step rfl ⟨rfl, (fun e => Bool.noConfusion (show false = true from e)), k⟩
theorem w110_0 {d a0 : Nat} {i1 : Int32} {h : AH} {P : PT} (Aa0 : OB h a0 16 kM) (k : Ev d 101 0 [vR (some a0), vU, vU] [] h (CK d 110 P 1 [vR (some a0), vI i1] [])) : Ev (d + 1) 110 0 [vR (some a0), vI i1] [] h P := by
  refine Ev.step rfl ?_
  exact Ev.step rfl ⟨(Nat.le_of_ble_eq_true rfl), _, _, _, Aa0.1, rfl, (Nat.le_of_ble_eq_true rfl), rfl, k⟩
theorem w110_4 {d a0 : Nat} {i1 : Int32} {h : AH} {P : PT} (Aa0 : OB h a0 16 kM) (k : ((0 ≤ (hI h a0 268) → Ev d 110 16 [vR (some a0), vI i1] [vR (some a0)] h P) ∧ ((hI h a0 268) < 0 → ((0 ≤ i1 → Ev d 110 21 [vR (some a0), vI i1] [vI 0, vR (some a0)] h P) ∧ (i1 < 0 → Ev d 110 16 [vR (some a0), vI i1] [vR (some a0)] h P))))) : Ev d 110 4 [vR (some a0), vI i1] [] h P := by
  refine Ev.step rfl (Ev.step rfl ?_)
  refine Ev.step rfl ⟨(fk Aa0.1 rfl), ?_⟩
  refine Ev.step rfl ⟨fun c => ?_, fun c => ?_⟩
  · replace k := k.1 c
    exact k
  · replace k := k.2 (Int32.not_le.mp c)
    refine Ev.step rfl ?_
    refine Ev.step rfl ⟨fun c => ?_, fun c => ?_⟩
    · replace k := k.1 c
      refine Ev.step rfl ?_
      exact k
    · replace k := k.2 (Int32.not_le.mp c)
      exact k
theorem w110_16 {d a0 as0 : Nat} {i1 : Int32} {h : AH} {P : PT} (k : Ev d 110 21 [vR (some a0), vI i1] [vI 1, vR (some as0)] h P) : Ev d 110 16 [vR (some a0), vI i1] [vR (some as0)] h P := by
  refine Ev.step rfl (Ev.step rfl ?_)
  exact k
theorem w110_21 {d a0 as1 : Nat} {i1 is0 : Int32} {h : AH} {P : PT} (Aas1 : OB h as1 16 kM) (Aa0 : OB h a0 16 kM) (k : (((hI (wI (wI h as1 224 is0) a0 344 0) a0 224) ≤ 0 → Ev d 111 0 [vR (some a0), vI i1, vU] [] (wI (wI h as1 224 is0) a0 344 0) (CK d 110 P 40 [vR (some a0), vI i1] [])) ∧ (0 < (hI (wI (wI h as1 224 is0) a0 344 0) a0 224) → P (.inl (some (vI 0))) (wI (wI h as1 224 is0) a0 344 0)))) : Ev (d + 1) 110 21 [vR (some a0), vI i1] [vI is0, vR (some as1)] h P := by
  refine Ev.step rfl ⟨(fk Aas1.1 rfl), ?_⟩
  refine Ev.step rfl (Ev.step rfl ?_)
  refine Ev.step rfl ⟨(fk Aa0.1 rfl), ?_⟩
  refine Ev.step rfl ?_
  refine Ev.step rfl ⟨(fk Aa0.1 rfl), ?_⟩
  refine Ev.step rfl ⟨fun c => ?_, fun c => ?_⟩
  · replace k := k.1 c
    refine Ev.step rfl (Ev.step rfl ?_)
    exact Ev.step rfl ⟨(Nat.le_of_ble_eq_true rfl), _, _, _, Aa0.1, rfl, (Nat.le_of_ble_eq_true rfl), rfl, k⟩
  · replace k := k.2 (Int32.not_le.mp c)
    refine Ev.step rfl ?_
    refine Ev.step rfl ⟨rfl, (fun e => Bool.noConfusion (show false = true from e)), k⟩
theorem w110_43 {d a0 : Nat} {i1 : Int32} {h : AH} {P : PT} (Aa0 : OB h a0 16 kM) (k : Ev d 112 0 [vR (some a0), vU, vU, vU] [] h (CK d 110 P 44 [vR (some a0), vI i1] [])) : Ev (d + 1) 110 43 [vR (some a0), vI i1] [] h P := by
  refine Ev.step rfl ?_
  exact Ev.step rfl ⟨(Nat.le_of_ble_eq_true rfl), _, _, _, Aa0.1, rfl, (Nat.le_of_ble_eq_true rfl), rfl, k⟩
theorem w110_47 {d a0 : Nat} {i1 : Int32} {h : AH} {P : PT} (Aa0 : OB h a0 16 kM) (k : (((hI h a0 299) = 0 → (((hI h a0 303) = 0 → Ev d 110 71 [vR (some a0), vI i1] [vI 0, vR (some a0)] h P) ∧ (¬ (hI h a0 303) = 0 → Ev d 110 71 [vR (some a0), vI i1] [vI 3, vR (some a0)] h P))) ∧ (¬ (hI h a0 299) = 0 → Ev d 110 71 [vR (some a0), vI i1] [vI 2, vR (some a0)] h P))) : Ev d 110 47 [vR (some a0), vI i1] [] h P := by
  refine Ev.step rfl (Ev.step rfl ?_)
  refine Ev.step rfl ⟨(fk Aa0.1 rfl), ?_⟩
  refine Ev.step rfl ⟨fun c => ?_, fun c => ?_⟩
  · replace k := k.1 c
    refine Ev.step rfl ?_
    refine Ev.step rfl ⟨(fk Aa0.1 rfl), ?_⟩
    refine Ev.step rfl ⟨fun c => ?_, fun c => ?_⟩
    · replace k := k.1 c
      refine Ev.step rfl ?_
      exact k
    · replace k := k.2 c
      refine Ev.step rfl (Ev.step rfl ?_)
      exact k
  · replace k := k.2 c
    refine Ev.step rfl (Ev.step rfl ?_)
    exact k
theorem w110_71 {d a0 as1 : Nat} {i1 is0 : Int32} {h : AH} {P : PT} (Aas1 : OB h as1 16 kM) (Aa0 : OB h a0 16 kM) (k : (((hI (wI h as1 224 is0) a0 224) ≤ 0 → ¬ (hI (wI (wI h as1 224 is0) a0 340 (hI (wI h as1 224 is0) a0 292)) a0 284) = 0 ∧ P (.inl (some (vI ((hI (wI (wI h as1 224 is0) a0 340 (hI (wI h as1 224 is0) a0 292)) a0 344) / (hI (wI (wI h as1 224 is0) a0 340 (hI (wI h as1 224 is0) a0 292)) a0 284))))) (wI (wI h as1 224 is0) a0 340 (hI (wI h as1 224 is0) a0 292))) ∧ (0 < (hI (wI h as1 224 is0) a0 224) → P (.inl (some (vI 0))) (wI (wI h as1 224 is0) a0 344 0)))) : Ev d 110 71 [vR (some a0), vI i1] [vI is0, vR (some as1)] h P := by
  refine Ev.step rfl ⟨(fk Aas1.1 rfl), ?_⟩
  refine Ev.step rfl ?_
  refine Ev.step rfl ⟨(fk Aa0.1 rfl), ?_⟩
  refine Ev.step rfl ⟨fun c => ?_, fun c => ?_⟩
  · replace k := k.1 c
    refine Ev.step rfl (Ev.step rfl ?_)
    refine Ev.step rfl ⟨(fk Aa0.1 rfl), ?_⟩
    refine Ev.step rfl ⟨(fk Aa0.1 rfl), ?_⟩
    refine Ev.step rfl ?_
    refine Ev.step rfl ⟨(fk Aa0.1 rfl), ?_⟩
    refine Ev.step rfl ?_
    refine Ev.step rfl ⟨(fk Aa0.1 rfl), ?_⟩
    obtain ⟨q1, k⟩ := k
    refine Ev.step rfl ⟨q1, ?_⟩
    refine Ev.step rfl ⟨rfl, (fun e => Bool.noConfusion (show false = true from e)), k⟩
  · replace k := k.2 (Int32.not_le.mp c)
    refine Ev.step rfl (Ev.step rfl ?_)
    refine Ev.step rfl ⟨(fk Aa0.1 rfl), ?_⟩
    refine Ev.step rfl ?_
    refine Ev.step rfl ⟨rfl, (fun e => Bool.noConfusion (show false = true from e)), k⟩
theorem w111_0 {d a0 : Nat} {i1 : Int32} {h : AH} {P : PT} (Aa0 : OB h a0 16 kM) (k : Ev d 111 32 [vR (some a0), vI i1, vI 0] [] (wI (wI (wI (wI (wI (wI h a0 288 i1) a0 292 0) a0 299 0) a0 303 0) a0 339 0) a0 344 0) P) : Ev d 111 0 [vR (some a0), vI i1, vU] [] h P := by
  refine Ev.step rfl (Ev.step rfl ?_)
  refine Ev.step rfl ⟨(fk Aa0.1 rfl), ?_⟩
  refine Ev.step rfl (Ev.step rfl ?_)
  refine Ev.step rfl ⟨(fk Aa0.1 rfl), ?_⟩
  refine Ev.step rfl (Ev.step rfl ?_)
  refine Ev.step rfl ⟨(Or.inl rfl), (fk Aa0.1 rfl), ?_⟩
  refine Ev.step rfl (Ev.step rfl ?_)
  refine Ev.step rfl ⟨(Or.inl rfl), (fk Aa0.1 rfl), ?_⟩
  refine Ev.step rfl (Ev.step rfl ?_)
  refine Ev.step rfl ⟨(Or.inl rfl), (fk Aa0.1 rfl), ?_⟩
  refine Ev.step rfl (Ev.step rfl ?_)
  refine Ev.step rfl ⟨(fk Aa0.1 rfl), ?_⟩
  refine Ev.step rfl (Ev.step rfl ?_)
  exact k
theorem w111_32 {d a0 : Nat} {i1 i2 : Int32} {h : AH} {P : PT} (Aa0 : OB h a0 16 kM) (k : ((40 ≤ i2 → P (.inl none) h) ∧ (i2 < 40 → vp_in i2 40 ∧ vp_in i2 40 ∧ vp_in i2 40 ∧ Ev d 111 32 [vR (some a0), vI i1, vI (i2 + 1)] [] (wI (wI (wI h (a0 + 11) i2.toNatClampNeg 0) (a0 + 12) i2.toNatClampNeg 0) (a0 + 13) i2.toNatClampNeg 0) P))) : Ev d 111 32 [vR (some a0), vI i1, vI i2] [] h P := by
  refine Ev.step rfl (Ev.step rfl ?_)
  refine Ev.step rfl ⟨fun c => ?_, fun c => ?_⟩
  · replace k := k.1 c
    refine Ev.step rfl ⟨rfl, k⟩
  · replace k := k.2 (Int32.not_le.mp c)
    refine Ev.step rfl ?_
    refine e_gR rfl rfl (fk Aa0.1 rfl) Aa0.2.2.2.2.2.2.2.2.2.2.2.1.1 ?_
    refine Ev.step rfl (Ev.step rfl ?_)
    obtain ⟨q1, k⟩ := k
    refine Ev.step rfl ⟨⟨_, Aa0.2.2.2.2.2.2.2.2.2.2.2.1.2, q1⟩, ?_⟩
    refine Ev.step rfl ?_
    refine e_gR rfl rfl (fk Aa0.1 rfl) Aa0.2.2.2.2.2.2.2.2.2.2.2.2.1.1 ?_
    refine Ev.step rfl (Ev.step rfl ?_)
    obtain ⟨q2, k⟩ := k
    refine Ev.step rfl ⟨⟨_, Aa0.2.2.2.2.2.2.2.2.2.2.2.2.1.2, q2⟩, ?_⟩
    refine Ev.step rfl ?_
    refine e_gR rfl rfl (fk Aa0.1 rfl) Aa0.2.2.2.2.2.2.2.2.2.2.2.2.2.1.1 ?_
    refine Ev.step rfl (Ev.step rfl ?_)
    obtain ⟨q3, k⟩ := k
    refine Ev.step rfl ⟨(Or.inl rfl), ⟨_, Aa0.2.2.2.2.2.2.2.2.2.2.2.2.2.1.2, q3⟩, ?_⟩
    refine Ev.step rfl (Ev.step rfl ?_)
    exact k
theorem w112_0 {d a0 : Nat} {h : AH} {P : PT} (k : Ev d 112 2 [vR (some a0), vI (-1), vU, vU] [] h P) : Ev d 112 0 [vR (some a0), vU, vU, vU] [] h P := by
  refine Ev.step rfl (Ev.step rfl ?_)
  exact k
theorem w112_2 {d a0 : Nat} {i1 : Int32} {w2 w3 : AV} {h : AH} {P : PT} (Aa0 : OB h a0 16 kM) (k : ((((hI h a0 264) - 1) ≤ i1 → P (.inl none) h) ∧ (i1 < ((hI h a0 264) - 1) → ((¬ (hI h a0 299) = 0 → P (.inl none) h) ∧ ((hI h a0 299) = 0 → ((¬ (hI h a0 303) = 0 → P (.inl none) h) ∧ ((hI h a0 303) = 0 → Ev d 113 0 [vR (some a0), vI i1, vU, vU] [] h (CK d 112 P 28 [vR (some a0), vI i1, w2, w3] [])))))))) : Ev (d + 1) 112 2 [vR (some a0), vI i1, w2, w3] [] h P := by
  refine Ev.step rfl (Ev.step rfl ?_)
  refine Ev.step rfl ⟨(fk Aa0.1 rfl), ?_⟩
  refine Ev.step rfl (Ev.step rfl ?_)
  refine Ev.step rfl ⟨fun c => ?_, fun c => ?_⟩
  · replace k := k.1 c
    refine Ev.step rfl ⟨rfl, k⟩
  · replace k := k.2 (Int32.not_le.mp c)
    refine Ev.step rfl ?_
    refine Ev.step rfl ⟨(fk Aa0.1 rfl), ?_⟩
    refine Ev.step rfl ⟨fun c => ?_, fun c => ?_⟩
    · replace k := k.1 c
      refine Ev.step rfl ⟨rfl, k⟩
    · replace k := k.2 (Decidable.not_not.mp c)
      refine Ev.step rfl ?_
      refine Ev.step rfl ⟨(fk Aa0.1 rfl), ?_⟩
      refine Ev.step rfl ⟨fun c => ?_, fun c => ?_⟩
      · replace k := k.1 c
        refine Ev.step rfl ⟨rfl, k⟩
      · replace k := k.2 (Decidable.not_not.mp c)
        refine Ev.step rfl (Ev.step rfl ?_)
        exact Ev.step rfl ⟨(Nat.le_of_ble_eq_true rfl), _, _, _, Aa0.1, rfl, (Nat.le_of_ble_eq_true rfl), rfl, k⟩
theorem w112_31 {d a0 : Nat} {i1 is0 : Int32} {w2 w3 : AV} {h : AH} {P : PT} (Aa0 : OB h a0 16 kM) (k : Ev d 114 0 [vR (some a0), vI i1, vU, vU] [] h (CK d 112 P 34 [vR (some a0), vI i1, vI is0, w3] [])) : Ev (d + 1) 112 31 [vR (some a0), vI i1, w2, w3] [vI is0] h P := by
  refine Ev.step rfl (Ev.step rfl (Ev.step rfl ?_))
  exact Ev.step rfl ⟨(Nat.le_of_ble_eq_true rfl), _, _, _, Aa0.1, rfl, (Nat.le_of_ble_eq_true rfl), rfl, k⟩
theorem w112_37 {d a0 : Nat} {i1 i2 is0 : Int32} {w3 : AV} {h : AH} {P : PT} (Aa0 : OB h a0 16 kM) (k : ((is0 ≤ i2 → ((i2 < 0 → ((i1 < 0 → Ev d 126 0 [vR (some a0), vU] [] h (CK d 112 P 77 [vR (some a0), vI i1, vI i2, vI is0] [])) ∧ (0 ≤ i1 → Ev d 125 0 [vR (some a0), vI (i1 + 1), vU] [] h (CK d 112 P 70 [vR (some a0), vI (i1 + 1), vI i2, vI is0] [])))) ∧ (0 ≤ i2 → Ev d 115 0 [vR (some a0), vI i2, vU, vU] [] h (CK d 112 P 54 [vR (some a0), vI i1, vI i2, vI is0] [])))) ∧ (i2 < is0 → Ev (d + 1) 112 2 [vR (some a0), vI is0, vI i2, vI is0] [] h P))) : Ev (d + 1) 112 37 [vR (some a0), vI i1, vI i2, w3] [vI is0] h P := by
  refine Ev.step rfl (Ev.step rfl (Ev.step rfl ?_))
  refine Ev.step rfl ⟨fun c => ?_, fun c => ?_⟩
  · replace k := k.1 c
    refine Ev.step rfl ?_
    refine Ev.step rfl ⟨fun c => ?_, fun c => ?_⟩
    · replace k := k.1 c
      refine Ev.step rfl ?_
      refine Ev.step rfl ⟨fun c => ?_, fun c => ?_⟩
      · replace k := k.1 c
        refine Ev.step rfl ?_
        exact Ev.step rfl ⟨(Nat.le_of_ble_eq_true rfl), _, _, _, Aa0.1, rfl, (Nat.le_of_ble_eq_true rfl), rfl, k⟩
      · replace k := k.2 (Int32.not_lt.mp c)
        refine Ev.step rfl (Ev.step rfl (Ev.step rfl (Ev.step rfl (Ev.step rfl (Ev.step rfl ?_)))))
        exact Ev.step rfl ⟨(Nat.le_of_ble_eq_true rfl), _, _, _, Aa0.1, rfl, (Nat.le_of_ble_eq_true rfl), rfl, k⟩
    · replace k := k.2 (Int32.not_lt.mp c)
      refine Ev.step rfl (Ev.step rfl ?_)
      exact Ev.step rfl ⟨(Nat.le_of_ble_eq_true rfl), _, _, _, Aa0.1, rfl, (Nat.le_of_ble_eq_true rfl), rfl, k⟩
  · replace k := k.2 (Int32.not_le.mp c)
    refine Ev.step rfl (Ev.step rfl (Ev.step rfl (Ev.step rfl ?_)))
    exact k
theorem w112_57 {d a0 : Nat} {i1 i2 i3 : Int32} {h : AH} {P : PT} (k : Ev d 112 2 [vR (some a0), vI i1, vI i2, vI i3] [] h P) : Ev d 112 57 [vR (some a0), vI i1, vI i2, vI i3] [] h P := by
  refine Ev.step rfl (Ev.step rfl ?_)
  exact k
theorem w112_73 {d a0 : Nat} {i1 i2 i3 : Int32} {h : AH} {P : PT} (k : Ev d 112 2 [vR (some a0), vI i1, vI i2, vI i3] [] h P) : Ev d 112 73 [vR (some a0), vI i1, vI i2, vI i3] [] h P := by
  refine Ev.step rfl (Ev.step rfl ?_)
  exact k
theorem w112_80 {d a0 : Nat} {i1 i2 i3 is0 : Int32} {h : AH} {P : PT} (k : ((¬ is0 = 0 → Ev d 112 2 [vR (some a0), vI i1, vI i2, vI i3] [] h P) ∧ (is0 = 0 → Ev d 112 2 [vR (some a0), vI 0, vI i2, vI i3] [] h P))) : Ev d 112 80 [vR (some a0), vI i1, vI i2, vI i3] [vI is0] h P := by
  refine Ev.step rfl ⟨fun c => ?_, fun c => ?_⟩
  · replace k := k.1 c
    refine Ev.step rfl ?_
    exact k
  · replace k := k.2 (Decidable.not_not.mp c)
    refine Ev.step rfl (Ev.step rfl (Ev.step rfl ?_))
    exact k
theorem w113_0 {d a0 : Nat} {i1 : Int32} {h : AH} {P : PT} (k : Ev d 113 6 [vR (some a0), vI i1, vI (-1), vI (i1 + 1)] [] h P) : Ev d 113 0 [vR (some a0), vI i1, vU, vU] [] h P := by
  refine Ev.step rfl (Ev.step rfl (Ev.step rfl (Ev.step rfl (Ev.step rfl (Ev.step rfl ?_)))))
  exact k
theorem w113_6 {d a0 : Nat} {i1 i2 i3 : Int32} {h : AH} {P : PT} (Aa0 : OB h a0 16 kM) (k : (((hI h a0 264) ≤ i3 → P (.inl (some (vI i2))) h) ∧ (i3 < (hI h a0 264) → vp_in i3 40 ∧ ((¬ (hI h (a0 + 7) i3.toNatClampNeg) = 5 → Ev d 113 38 [vR (some a0), vI i1, vI i2, vI i3] [vI i2] h P) ∧ ((hI h (a0 + 7) i3.toNatClampNeg) = 5 → vp_in i3 40 ∧ (((hI h (a0 + 13) i3.toNatClampNeg) = 0 → Ev d 113 38 [vR (some a0), vI i1, vI i2, vI i3] [vI i2] h P) ∧ (¬ (hI h (a0 + 13) i3.toNatClampNeg) = 0 → Ev d 113 38 [vR (some a0), vI i1, vI i2, vI i3] [vI i3] h P))))))) : Ev d 113 6 [vR (some a0), vI i1, vI i2, vI i3] [] h P := by
  refine Ev.step rfl (Ev.step rfl ?_)
  refine Ev.step rfl ⟨(fk Aa0.1 rfl), ?_⟩
  refine Ev.step rfl ⟨fun c => ?_, fun c => ?_⟩
  · replace k := k.1 c
    refine Ev.step rfl ?_
    refine Ev.step rfl ⟨rfl, (fun e => Bool.noConfusion (show false = true from e)), k⟩
  · replace k := k.2 (Int32.not_le.mp c)
    refine Ev.step rfl ?_
    refine e_gR rfl rfl (fk Aa0.1 rfl) Aa0.2.2.2.2.2.2.2.1.1 ?_
    refine Ev.step rfl ?_
    obtain ⟨q1, k⟩ := k
    refine Ev.step rfl ⟨⟨_, Or.inl Aa0.2.2.2.2.2.2.2.1.2, q1⟩, ?_⟩
    refine Ev.step rfl ?_
    refine Ev.step rfl ⟨fun c => ?_, fun c => ?_⟩
    · replace k := k.1 c
      refine Ev.step rfl ?_
      exact k
    · replace k := k.2 (Decidable.not_not.mp c)
      refine Ev.step rfl ?_
      refine e_gR rfl rfl (fk Aa0.1 rfl) Aa0.2.2.2.2.2.2.2.2.2.2.2.2.2.1.1 ?_
      refine Ev.step rfl ?_
      obtain ⟨q2, k⟩ := k
      refine Ev.step rfl ⟨⟨_, Aa0.2.2.2.2.2.2.2.2.2.2.2.2.2.1.2, q2⟩, ?_⟩
      refine Ev.step rfl ⟨fun c => ?_, fun c => ?_⟩
      · replace k := k.1 c
        refine Ev.step rfl ?_
        exact k
      · replace k := k.2 c
        refine Ev.step rfl (Ev.step rfl ?_)
        exact k
theorem w113_38 {d a0 : Nat} {i1 i2 i3 is0 : Int32} {h : AH} {P : PT} (k : Ev d 113 6 [vR (some a0), vI i1, vI is0, vI (i3 + 1)] [] h P) : Ev d 113 38 [vR (some a0), vI i1, vI i2, vI i3] [vI is0] h P := by
  refine Ev.step rfl (Ev.step rfl (Ev.step rfl ?_))
  exact k
theorem w114_0 {d a0 : Nat} {i1 : Int32} {h : AH} {P : PT} (k : Ev d 114 6 [vR (some a0), vI i1, vI (-1), vI (i1 + 1)] [] h P) : Ev d 114 0 [vR (some a0), vI i1, vU, vU] [] h P := by
  refine Ev.step rfl (Ev.step rfl (Ev.step rfl (Ev.step rfl (Ev.step rfl (Ev.step rfl ?_)))))
  exact k
theorem w114_6 {d a0 : Nat} {i1 i2 i3 : Int32} {h : AH} {P : PT} (Aa0 : OB h a0 16 kM) (k : (((hI h a0 264) ≤ i3 → P (.inl (some (vI i2))) h) ∧ (i3 < (hI h a0 264) → ((i3 ≤ 0 → Ev d 114 54 [vR (some a0), vI i1, vI i2, vI i3] [vI i2] h P) ∧ (0 < i3 → vp_in i3 40 ∧ ((¬ (hI h (a0 + 7) i3.toNatClampNeg) = 7 → Ev d 114 54 [vR (some a0), vI i1, vI i2, vI i3] [vI i2] h P) ∧ ((hI h (a0 + 7) i3.toNatClampNeg) = 7 → vp_in i3 40 ∧ vp_in i3 40 ∧ vp_in (hI h (a0 + 8) i3.toNatClampNeg) 40 ∧ ((¬ (hI h (a0 + 11) i3.toNatClampNeg) = (hI h (a0 + 6) ((hI h (a0 + 8) i3.toNatClampNeg).toNatClampNeg)) → Ev d 114 54 [vR (some a0), vI i1, vI i2, vI i3] [vI i2] h P) ∧ ((hI h (a0 + 11) i3.toNatClampNeg) = (hI h (a0 + 6) ((hI h (a0 + 8) i3.toNatClampNeg).toNatClampNeg)) → Ev d 114 54 [vR (some a0), vI i1, vI i2, vI i3] [vI i3] h P))))))))) : Ev d 114 6 [vR (some a0), vI i1, vI i2, vI i3] [] h P := by
  refine Ev.step rfl (Ev.step rfl ?_)
  refine Ev.step rfl ⟨(fk Aa0.1 rfl), ?_⟩
  refine Ev.step rfl ⟨fun c => ?_, fun c => ?_⟩
  · replace k := k.1 c
    refine Ev.step rfl ?_
    refine Ev.step rfl ⟨rfl, (fun e => Bool.noConfusion (show false = true from e)), k⟩
  · replace k := k.2 (Int32.not_le.mp c)
    refine Ev.step rfl ?_
    refine Ev.step rfl ⟨fun c => ?_, fun c => ?_⟩
    · replace k := k.1 c
      refine Ev.step rfl ?_
      exact k
    · replace k := k.2 (Int32.not_le.mp c)
      refine Ev.step rfl ?_
      refine e_gR rfl rfl (fk Aa0.1 rfl) Aa0.2.2.2.2.2.2.2.1.1 ?_
      refine Ev.step rfl ?_
      obtain ⟨q1, k⟩ := k
      refine Ev.step rfl ⟨⟨_, Or.inl Aa0.2.2.2.2.2.2.2.1.2, q1⟩, ?_⟩
      refine Ev.step rfl ?_
      refine Ev.step rfl ⟨fun c => ?_, fun c => ?_⟩
      · replace k := k.1 c
        refine Ev.step rfl ?_
        exact k
      · replace k := k.2 (Decidable.not_not.mp c)
        refine Ev.step rfl ?_
        refine e_gR rfl rfl (fk Aa0.1 rfl) Aa0.2.2.2.2.2.2.2.2.2.2.2.1.1 ?_
        refine Ev.step rfl ?_
        obtain ⟨q2, k⟩ := k
        refine Ev.step rfl ⟨⟨_, Or.inl Aa0.2.2.2.2.2.2.2.2.2.2.2.1.2, q2⟩, ?_⟩
        refine Ev.step rfl ?_
        refine e_gR rfl rfl (fk Aa0.1 rfl) Aa0.2.2.2.2.2.2.1.1 ?_
        refine Ev.step rfl ?_
        refine e_gR rfl rfl (fk Aa0.1 rfl) Aa0.2.2.2.2.2.2.2.2.1.1 ?_
        refine Ev.step rfl ?_
        obtain ⟨q3, k⟩ := k
        refine Ev.step rfl ⟨⟨_, Or.inl Aa0.2.2.2.2.2.2.2.2.1.2, q3⟩, ?_⟩
        obtain ⟨q4, k⟩ := k
        refine Ev.step rfl ⟨⟨_, Or.inl Aa0.2.2.2.2.2.2.1.2, q4⟩, ?_⟩
        refine Ev.step rfl ⟨fun c => ?_, fun c => ?_⟩
        · replace k := k.1 c
          refine Ev.step rfl ?_
          exact k
        · replace k := k.2 (Decidable.not_not.mp c)
          refine Ev.step rfl (Ev.step rfl ?_)
          exact k
theorem w114_54 {d a0 : Nat} {i1 i2 i3 is0 : Int32} {h : AH} {P : PT} (k : Ev d 114 6 [vR (some a0), vI i1, vI is0, vI (i3 + 1)] [] h P) : Ev d 114 54 [vR (some a0), vI i1, vI i2, vI i3] [vI is0] h P := by
  refine Ev.step rfl (Ev.step rfl (Ev.step rfl ?_))
  exact k
theorem w115_0 {d a0 : Nat} {i1 : Int32} {h : AH} {P : PT} (Aa0 : OB h a0 16 kM) (k : Ev d 116 0 [vR (some a0), vI i1, vU, vU, vU, vU, vU, vU, vU] [] h (CK d 115 P 2 [vR (some a0), vI i1, vU, vU] [])) : Ev (d + 1) 115 0 [vR (some a0), vI i1, vU, vU] [] h P := by
  refine Ev.step rfl (Ev.step rfl ?_)
  exact Ev.step rfl ⟨(Nat.le_of_ble_eq_true rfl), _, _, _, Aa0.1, rfl, (Nat.le_of_ble_eq_true rfl), rfl, k⟩
theorem w115_5 {d a0 : Nat} {i1 is0 : Int32} {w2 w3 : AV} {h : AH} {P : PT} (Aa0 : OB h a0 16 kM) (k : ((0 ≤ is0 → Ev d 117 0 [vR (some a0)] [] h (CK d 115 P 21 [vR (some a0), vI i1, vI is0, w3] [])) ∧ (is0 < 0 → vp_in i1 40 ∧ Ev (d + 1) 115 96 [vR (some a0), vI i1, vI is0, w3] [] (wI h (a0 + 13) i1.toNatClampNeg 0) P))) : Ev (d + 1) 115 5 [vR (some a0), vI i1, w2, w3] [vI is0] h P := by
  refine Ev.step rfl (Ev.step rfl ?_)
  refine Ev.step rfl ⟨fun c => ?_, fun c => ?_⟩
  · replace k := k.1 c
    refine Ev.step rfl ?_
    exact Ev.step rfl ⟨(Nat.le_of_ble_eq_true rfl), _, _, _, Aa0.1, rfl, (Nat.le_of_ble_eq_true rfl), rfl, k⟩
  · replace k := k.2 (Int32.not_le.mp c)
    refine Ev.step rfl ?_
    refine e_gR rfl rfl (fk Aa0.1 rfl) Aa0.2.2.2.2.2.2.2.2.2.2.2.2.2.1.1 ?_
    refine Ev.step rfl (Ev.step rfl ?_)
    obtain ⟨q1, k⟩ := k
    refine Ev.step rfl ⟨(Or.inl rfl), ⟨_, Aa0.2.2.2.2.2.2.2.2.2.2.2.2.2.1.2, q1⟩, ?_⟩
    refine Ev.step rfl ?_
    exact k
theorem w115_24 {d a0 : Nat} {i1 i2 is0 : Int32} {w3 : AV} {h : AH} {P : PT} (k : ((is0 = 0 → Ev d 115 96 [vR (some a0), vI i1, vI i2, w3] [] h P) ∧ (¬ is0 = 0 → Ev d 115 29 [vR (some a0), vI i1, vI i2, vI 0] [] h P))) : Ev d 115 24 [vR (some a0), vI i1, vI i2, w3] [vI is0] h P := by
  refine Ev.step rfl ⟨fun c => ?_, fun c => ?_⟩
  · replace k := k.1 c
    exact k
  · replace k := k.2 c
    refine Ev.step rfl (Ev.step rfl ?_)
    exact k
theorem w115_29 {d a0 : Nat} {i1 i2 i3 : Int32} {h : AH} {P : PT} (Aa0 : OB h a0 16 kM) (k : vp_in i1 40 ∧ (((hI h (a0 + 9) i1.toNatClampNeg) ≤ i3 → vp_in i1 40 ∧ vp_in i1 40 ∧ vp_in (hI h (a0 + 8) i1.toNatClampNeg) 40 ∧ vp_in (hI h (a0 + 6) ((hI h (a0 + 8) i1.toNatClampNeg).toNatClampNeg)) 4 ∧ Ev d 118 0 [vR (some a0), vI i2, vI (hI h (a0 + 9) i1.toNatClampNeg), vI (hI h (a0 + 1) ((hI h (a0 + 6) ((hI h (a0 + 8) i1.toNatClampNeg).toNatClampNeg)).toNatClampNeg)), vU] [] h (CK d 115 P 86 [vR (some a0), vI i1, vI i2, vI i3] [])) ∧ (i3 < (hI h (a0 + 9) i1.toNatClampNeg) → vp_in ((8 * i1) + i3) 320 ∧ vp_in i3 8 ∧ Ev (d + 1) 115 29 [vR (some a0), vI i1, vI i2, vI (i3 + 1)] [] (wI h (a0 + 10) i3.toNatClampNeg (hI h (a0 + 14) (((8 * i1) + i3).toNatClampNeg))) P))) : Ev (d + 1) 115 29 [vR (some a0), vI i1, vI i2, vI i3] [] h P := by
  refine Ev.step rfl (Ev.step rfl ?_)
  refine e_gR rfl rfl (fk Aa0.1 rfl) Aa0.2.2.2.2.2.2.2.2.2.1.1 ?_
  refine Ev.step rfl ?_
  obtain ⟨q1, k⟩ := k
  refine Ev.step rfl ⟨⟨_, Or.inl Aa0.2.2.2.2.2.2.2.2.2.1.2, q1⟩, ?_⟩
  refine Ev.step rfl ⟨fun c => ?_, fun c => ?_⟩
  · replace k := k.1 c
    refine Ev.step rfl (Ev.step rfl (Ev.step rfl ?_))
    refine e_gR rfl rfl (fk Aa0.1 rfl) Aa0.2.2.2.2.2.2.2.2.2.1.1 ?_
    refine Ev.step rfl ?_
    obtain ⟨q2, k⟩ := k
    refine Ev.step rfl ⟨⟨_, Or.inl Aa0.2.2.2.2.2.2.2.2.2.1.2, q2⟩, ?_⟩
    refine Ev.step rfl ?_
    refine e_gR rfl rfl (fk Aa0.1 rfl) Aa0.2.1.1 ?_
    refine Ev.step rfl ?_
    refine e_gR rfl rfl (fk Aa0.1 rfl) Aa0.2.2.2.2.2.2.1.1 ?_
    refine Ev.step rfl ?_
    refine e_gR rfl rfl (fk Aa0.1 rfl) Aa0.2.2.2.2.2.2.2.2.1.1 ?_
    refine Ev.step rfl ?_
    obtain ⟨q3, k⟩ := k
    refine Ev.step rfl ⟨⟨_, Or.inl Aa0.2.2.2.2.2.2.2.2.1.2, q3⟩, ?_⟩
    obtain ⟨q4, k⟩ := k
    refine Ev.step rfl ⟨⟨_, Or.inl Aa0.2.2.2.2.2.2.1.2, q4⟩, ?_⟩
    obtain ⟨q5, k⟩ := k
    refine Ev.step rfl ⟨⟨_, Or.inl Aa0.2.1.2, q5⟩, ?_⟩
    exact Ev.step rfl ⟨(Nat.le_of_ble_eq_true rfl), _, _, _, Aa0.1, rfl, (Nat.le_of_ble_eq_true rfl), rfl, k⟩
  · replace k := k.2 (Int32.not_le.mp c)
    refine Ev.step rfl ?_
    refine e_gR rfl rfl (fk Aa0.1 rfl) Aa0.2.2.2.2.2.2.2.2.2.2.1.1 ?_
    refine Ev.step rfl (Ev.step rfl ?_)
    refine e_gR rfl rfl (fk Aa0.1 rfl) Aa0.2.2.2.2.2.2.2.2.2.2.2.2.2.2.1.1 ?_
    refine Ev.step rfl (Ev.step rfl (Ev.step rfl (Ev.step rfl (Ev.step rfl ?_))))
    obtain ⟨q6, k⟩ := k
    refine Ev.step rfl ⟨⟨_, Or.inl Aa0.2.2.2.2.2.2.2.2.2.2.2.2.2.2.1.2, q6⟩, ?_⟩
    obtain ⟨q7, k⟩ := k
    refine Ev.step rfl ⟨⟨_, Aa0.2.2.2.2.2.2.2.2.2.2.1.2, q7⟩, ?_⟩
    refine Ev.step rfl (Ev.step rfl ?_)
    exact k
theorem w115_89 {d a0 : Nat} {i1 i2 i3 : Int32} {h : AH} {P : PT} (Aa0 : OB h a0 16 kM) (k : Ev d 119 0 [vR (some a0), vI (i1 + 1), vU, vU] [] h (CK d 115 P 93 [vR (some a0), vI i1, vI i2, vI i3] [])) : Ev (d + 1) 115 89 [vR (some a0), vI i1, vI i2, vI i3] [] h P := by
  refine Ev.step rfl (Ev.step rfl (Ev.step rfl (Ev.step rfl ?_)))
  exact Ev.step rfl ⟨(Nat.le_of_ble_eq_true rfl), _, _, _, Aa0.1, rfl, (Nat.le_of_ble_eq_true rfl), rfl, k⟩
theorem w115_96 {d a0 : Nat} {i1 i2 : Int32} {w3 : AV} {h : AH} {P : PT} (k : P (.inl none) h) : Ev d 115 96 [vR (some a0), vI i1, vI i2, w3] [] h P := by
  refine Ev.step rfl ⟨rfl, k⟩
theorem w116_0 {d a0 : Nat} {i1 : Int32} {h : AH} {P : PT} (Aa0 : OB h a0 16 kM) (k : vp_in i1 40 ∧ vp_in (hI h (a0 + 8) i1.toNatClampNeg) 40 ∧ vp_in i1 40 ∧ vp_in ((hI h (a0 + 8) i1.toNatClampNeg) + 1) 40 ∧ vp_in i1 40 ∧ vp_in ((hI h (a0 + 8) i1.toNatClampNeg) + 2) 40 ∧ vp_in ((8 * i1) + (hI h (a0 + 6) (((hI h (a0 + 8) i1.toNatClampNeg) + 2).toNatClampNeg))) 320 ∧ Ev d 116 57 [vR (some a0), vI i1, vI (hI h (a0 + 6) ((hI h (a0 + 8) i1.toNatClampNeg).toNatClampNeg)), vI (hI h (a0 + 6) (((hI h (a0 + 8) i1.toNatClampNeg) + 1).toNatClampNeg)), vI (hI h (a0 + 14) (((8 * i1) + (hI h (a0 + 6) (((hI h (a0 + 8) i1.toNatClampNeg) + 2).toNatClampNeg))).toNatClampNeg)), vI (-1), vI 0, vU, vU] [] h P) : Ev d 116 0 [vR (some a0), vI i1, vU, vU, vU, vU, vU, vU, vU] [] h P := by
  refine Ev.step rfl ?_
  refine e_gR rfl rfl (fk Aa0.1 rfl) Aa0.2.2.2.2.2.2.1.1 ?_
  refine Ev.step rfl ?_
  refine e_gR rfl rfl (fk Aa0.1 rfl) Aa0.2.2.2.2.2.2.2.2.1.1 ?_
  refine Ev.step rfl ?_
  obtain ⟨q1, k⟩ := k
  refine Ev.step rfl ⟨⟨_, Or.inl Aa0.2.2.2.2.2.2.2.2.1.2, q1⟩, ?_⟩
  obtain ⟨q2, k⟩ := k
  refine Ev.step rfl ⟨⟨_, Or.inl Aa0.2.2.2.2.2.2.1.2, q2⟩, ?_⟩
  refine Ev.step rfl (Ev.step rfl ?_)
  refine e_gR rfl rfl (fk Aa0.1 rfl) Aa0.2.2.2.2.2.2.1.1 ?_
  refine Ev.step rfl ?_
  refine e_gR rfl rfl (fk Aa0.1 rfl) Aa0.2.2.2.2.2.2.2.2.1.1 ?_
  refine Ev.step rfl ?_
  obtain ⟨q3, k⟩ := k
  refine Ev.step rfl ⟨⟨_, Or.inl Aa0.2.2.2.2.2.2.2.2.1.2, q3⟩, ?_⟩
  refine Ev.step rfl (Ev.step rfl ?_)
  obtain ⟨q4, k⟩ := k
  refine Ev.step rfl ⟨⟨_, Or.inl Aa0.2.2.2.2.2.2.1.2, q4⟩, ?_⟩
  refine Ev.step rfl (Ev.step rfl ?_)
  refine e_gR rfl rfl (fk Aa0.1 rfl) Aa0.2.2.2.2.2.2.2.2.2.2.2.2.2.2.1.1 ?_
  refine Ev.step rfl (Ev.step rfl (Ev.step rfl (Ev.step rfl ?_)))
  refine e_gR rfl rfl (fk Aa0.1 rfl) Aa0.2.2.2.2.2.2.1.1 ?_
  refine Ev.step rfl ?_
  refine e_gR rfl rfl (fk Aa0.1 rfl) Aa0.2.2.2.2.2.2.2.2.1.1 ?_
  refine Ev.step rfl ?_
  obtain ⟨q5, k⟩ := k
  refine Ev.step rfl ⟨⟨_, Or.inl Aa0.2.2.2.2.2.2.2.2.1.2, q5⟩, ?_⟩
  refine Ev.step rfl (Ev.step rfl ?_)
  obtain ⟨q6, k⟩ := k
  refine Ev.step rfl ⟨⟨_, Or.inl Aa0.2.2.2.2.2.2.1.2, q6⟩, ?_⟩
  refine Ev.step rfl ?_
  obtain ⟨q7, k⟩ := k
  refine Ev.step rfl ⟨⟨_, Or.inl Aa0.2.2.2.2.2.2.2.2.2.2.2.2.2.2.1.2, q7⟩, ?_⟩
  refine Ev.step rfl (Ev.step rfl (Ev.step rfl (Ev.step rfl (Ev.step rfl ?_))))
  exact k
theorem w116_57 {d a0 : Nat} {i1 i2 i3 i4 i5 i6 : Int32} {w7 w8 : AV} {h : AH} {P : PT} (Aa0 : OB h a0 16 kM) (k : (((hI h a0 244) ≤ i6 → ((i5 < 0 → P (.inl (some (vI i5))) h) ∧ (0 ≤ i5 → vp_in (4 * i5) 192 ∧ vp_in i1 40 ∧ vp_in i1 40 ∧ P (.inl (some (vI i5))) (wI (wI h (a0 + 12) i1.toNatClampNeg (hI h (a0 + 5) ((4 * i5).toNatClampNeg))) (a0 + 11) i1.toNatClampNeg 1)))) ∧ (i6 < (hI h a0 244) → vp_in (4 * i6) 192 ∧ vp_in i6 48 ∧ ((¬ (hI h (a0 + 4) i6.toNatClampNeg) = i2 → Ev d 116 129 [vR (some a0), vI i1, vI i2, vI i3, vI i4, vI i5, vI i6, vI (hI h (a0 + 5) ((4 * i6).toNatClampNeg)), w8] [vI 0] h P) ∧ ((hI h (a0 + 4) i6.toNatClampNeg) = i2 → vp_in ((4 * i6) + i3) 192 ∧ ((¬ (hI h (a0 + 5) (((4 * i6) + i3).toNatClampNeg)) = i4 → Ev d 116 129 [vR (some a0), vI i1, vI i2, vI i3, vI i4, vI i5, vI i6, vI (hI h (a0 + 5) ((4 * i6).toNatClampNeg)), w8] [vI 0] h P) ∧ ((hI h (a0 + 5) (((4 * i6) + i3).toNatClampNeg)) = i4 → vp_in i1 40 ∧ (((hI h (a0 + 11) i1.toNatClampNeg) = 0 → Ev d 116 129 [vR (some a0), vI i1, vI i2, vI i3, vI i4, vI i5, vI i6, vI (hI h (a0 + 5) ((4 * i6).toNatClampNeg)), w8] [vI 1] h P) ∧ (¬ (hI h (a0 + 11) i1.toNatClampNeg) = 0 → vp_in i1 40 ∧ (((hI h (a0 + 5) ((4 * i6).toNatClampNeg)) ≤ (hI h (a0 + 12) i1.toNatClampNeg) → Ev d 116 129 [vR (some a0), vI i1, vI i2, vI i3, vI i4, vI i5, vI i6, vI (hI h (a0 + 5) ((4 * i6).toNatClampNeg)), w8] [vI 0] h P) ∧ ((hI h (a0 + 12) i1.toNatClampNeg) < (hI h (a0 + 5) ((4 * i6).toNatClampNeg)) → Ev d 116 129 [vR (some a0), vI i1, vI i2, vI i3, vI i4, vI i5, vI i6, vI (hI h (a0 + 5) ((4 * i6).toNatClampNeg)), w8] [vI 1] h P))))))))))) : Ev d 116 57 [vR (some a0), vI i1, vI i2, vI i3, vI i4, vI i5, vI i6, w7, w8] [] h P := by
  refine Ev.step rfl (Ev.step rfl ?_)
  refine Ev.step rfl ⟨(fk Aa0.1 rfl), ?_⟩
  refine Ev.step rfl ⟨fun c => ?_, fun c => ?_⟩
  · replace k := k.1 c
    refine Ev.step rfl ?_
    refine Ev.step rfl ⟨fun c => ?_, fun c => ?_⟩
    · replace k := k.1 c
      refine Ev.step rfl ?_
      refine Ev.step rfl ⟨rfl, (fun e => Bool.noConfusion (show false = true from e)), k⟩
    · replace k := k.2 (Int32.not_lt.mp c)
      refine Ev.step rfl ?_
      refine e_gR rfl rfl (fk Aa0.1 rfl) Aa0.2.2.2.2.2.2.2.2.2.2.2.2.1.1 ?_
      refine Ev.step rfl (Ev.step rfl ?_)
      refine e_gR rfl rfl (fk Aa0.1 rfl) Aa0.2.2.2.2.2.1.1 ?_
      refine Ev.step rfl (Ev.step rfl (Ev.step rfl ?_))
      obtain ⟨q1, k⟩ := k
      refine Ev.step rfl ⟨⟨_, Or.inl Aa0.2.2.2.2.2.1.2, q1⟩, ?_⟩
      obtain ⟨q2, k⟩ := k
      refine Ev.step rfl ⟨⟨_, Aa0.2.2.2.2.2.2.2.2.2.2.2.2.1.2, q2⟩, ?_⟩
      refine Ev.step rfl ?_
      refine e_gR rfl rfl (fk Aa0.1 rfl) Aa0.2.2.2.2.2.2.2.2.2.2.2.1.1 ?_
      refine Ev.step rfl (Ev.step rfl ?_)
      obtain ⟨q3, k⟩ := k
      refine Ev.step rfl ⟨⟨_, Aa0.2.2.2.2.2.2.2.2.2.2.2.1.2, q3⟩, ?_⟩
      refine Ev.step rfl ?_
      refine Ev.step rfl ⟨rfl, (fun e => Bool.noConfusion (show false = true from e)), k⟩
  · replace k := k.2 (Int32.not_le.mp c)
    refine Ev.step rfl ?_
    refine e_gR rfl rfl (fk Aa0.1 rfl) Aa0.2.2.2.2.2.1.1 ?_
    refine Ev.step rfl (Ev.step rfl (Ev.step rfl ?_))
    obtain ⟨q4, k⟩ := k
    refine Ev.step rfl ⟨⟨_, Or.inl Aa0.2.2.2.2.2.1.2, q4⟩, ?_⟩
    refine Ev.step rfl (Ev.step rfl ?_)
    refine e_gR rfl rfl (fk Aa0.1 rfl) Aa0.2.2.2.2.1.1 ?_
    refine Ev.step rfl ?_
    obtain ⟨q5, k⟩ := k
    refine Ev.step rfl ⟨⟨_, Or.inl Aa0.2.2.2.2.1.2, q5⟩, ?_⟩
    refine Ev.step rfl ?_
    refine Ev.step rfl ⟨fun c => ?_, fun c => ?_⟩
    · replace k := k.1 c
      refine Ev.step rfl ?_
      exact k
    · replace k := k.2 (Decidable.not_not.mp c)
      refine Ev.step rfl ?_
      refine e_gR rfl rfl (fk Aa0.1 rfl) Aa0.2.2.2.2.2.1.1 ?_
      refine Ev.step rfl (Ev.step rfl (Ev.step rfl (Ev.step rfl (Ev.step rfl ?_))))
      obtain ⟨q6, k⟩ := k
      refine Ev.step rfl ⟨⟨_, Or.inl Aa0.2.2.2.2.2.1.2, q6⟩, ?_⟩
      refine Ev.step rfl ?_
      refine Ev.step rfl ⟨fun c => ?_, fun c => ?_⟩
      · replace k := k.1 c
        refine Ev.step rfl ?_
        exact k
      · replace k := k.2 (Decidable.not_not.mp c)
        refine Ev.step rfl ?_
        refine e_gR rfl rfl (fk Aa0.1 rfl) Aa0.2.2.2.2.2.2.2.2.2.2.2.1.1 ?_
        refine Ev.step rfl ?_
        obtain ⟨q7, k⟩ := k
        refine Ev.step rfl ⟨⟨_, Or.inl Aa0.2.2.2.2.2.2.2.2.2.2.2.1.2, q7⟩, ?_⟩
        refine Ev.step rfl ⟨fun c => ?_, fun c => ?_⟩
        · replace k := k.1 c
          refine Ev.step rfl (Ev.step rfl ?_)
          exact k
        · replace k := k.2 c
          refine Ev.step rfl (Ev.step rfl ?_)
          refine e_gR rfl rfl (fk Aa0.1 rfl) Aa0.2.2.2.2.2.2.2.2.2.2.2.2.1.1 ?_
          refine Ev.step rfl ?_
          obtain ⟨q8, k⟩ := k
          refine Ev.step rfl ⟨⟨_, Or.inl Aa0.2.2.2.2.2.2.2.2.2.2.2.2.1.2, q8⟩, ?_⟩
          refine Ev.step rfl ⟨fun c => ?_, fun c => ?_⟩
          · replace k := k.1 c
            refine Ev.step rfl ?_
            exact k
          · replace k := k.2 (Int32.not_le.mp c)
            refine Ev.step rfl (Ev.step rfl ?_)
            exact k
theorem w116_129 {d a0 : Nat} {i1 i2 i3 i4 i5 i6 i7 is0 : Int32} {w8 : AV} {h : AH} {P : PT} (Aa0 : OB h a0 16 kM) (k : ((is0 = 0 → Ev d 116 162 [vR (some a0), vI i1, vI i2, vI i3, vI i4, vI i5, vI i6, vI i7, vI is0] [vI i5] h P) ∧ (¬ is0 = 0 → ((i5 < 0 → Ev d 116 162 [vR (some a0), vI i1, vI i2, vI i3, vI i4, vI i5, vI i6, vI i7, vI is0] [vI i6] h P) ∧ (0 ≤ i5 → vp_in (4 * i5) 192 ∧ (((hI h (a0 + 5) ((4 * i5).toNatClampNeg)) ≤ i7 → Ev d 116 162 [vR (some a0), vI i1, vI i2, vI i3, vI i4, vI i5, vI i6, vI i7, vI is0] [vI i5] h P) ∧ (i7 < (hI h (a0 + 5) ((4 * i5).toNatClampNeg)) → Ev d 116 162 [vR (some a0), vI i1, vI i2, vI i3, vI i4, vI i5, vI i6, vI i7, vI is0] [vI i6] h P))))))) : Ev d 116 129 [vR (some a0), vI i1, vI i2, vI i3, vI i4, vI i5, vI i6, vI i7, w8] [vI is0] h P := by
  refine Ev.step rfl (Ev.step rfl ?_)
  refine Ev.step rfl ⟨fun c => ?_, fun c => ?_⟩
  · replace k := k.1 c
    refine Ev.step rfl ?_
    exact k
  · replace k := k.2 c
    refine Ev.step rfl ?_
    refine Ev.step rfl ⟨fun c => ?_, fun c => ?_⟩
    · replace k := k.1 c
      refine Ev.step rfl (Ev.step rfl ?_)
      exact k
    · replace k := k.2 (Int32.not_lt.mp c)
      refine Ev.step rfl (Ev.step rfl ?_)
      refine e_gR rfl rfl (fk Aa0.1 rfl) Aa0.2.2.2.2.2.1.1 ?_
      refine Ev.step rfl (Ev.step rfl (Ev.step rfl ?_))
      obtain ⟨q1, k⟩ := k
      refine Ev.step rfl ⟨⟨_, Or.inl Aa0.2.2.2.2.2.1.2, q1⟩, ?_⟩
      refine Ev.step rfl ⟨fun c => ?_, fun c => ?_⟩
      · replace k := k.1 c
        refine Ev.step rfl ?_
        exact k
      · replace k := k.2 (Int32.not_le.mp c)
        refine Ev.step rfl (Ev.step rfl ?_)
        exact k
theorem w116_162 {d a0 : Nat} {i1 i2 i3 i4 i5 i6 i7 i8 is0 : Int32} {h : AH} {P : PT} (k : Ev d 116 57 [vR (some a0), vI i1, vI i2, vI i3, vI i4, vI is0, vI (i6 + 1), vI i7, vI i8] [] h P) : Ev d 116 162 [vR (some a0), vI i1, vI i2, vI i3, vI i4, vI i5, vI i6, vI i7, vI i8] [vI is0] h P := by
  refine Ev.step rfl (Ev.step rfl (Ev.step rfl ?_))
  exact k
theorem w117_0 {d a0 : Nat} {h : AH} {P : PT} (Aa0 : OB h a0 16 kM) (k : ((¬ (hI h a0 292) = (hI h a0 288) → Ev d 117 17 [vR (some a0)] [vI 0, vR (some a0)] h P) ∧ ((hI h a0 292) = (hI h a0 288) → Ev d 117 17 [vR (some a0)] [vI 1, vR (some a0)] h P))) : Ev d 117 0 [vR (some a0)] [] h P := by
  refine Ev.step rfl (Ev.step rfl ?_)
  refine Ev.step rfl ⟨(fk Aa0.1 rfl), ?_⟩
  refine Ev.step rfl ?_
  refine Ev.step rfl ⟨(fk Aa0.1 rfl), ?_⟩
  refine Ev.step rfl ⟨fun c => ?_, fun c => ?_⟩
  · replace k := k.1 c
    refine Ev.step rfl ?_
    exact k
  · replace k := k.2 (Decidable.not_not.mp c)
    refine Ev.step rfl (Ev.step rfl ?_)
    exact k
theorem w117_17 {d a0 as1 : Nat} {is0 : Int32} {h : AH} {P : PT} (Aas1 : OB h as1 16 kM) (Aa0 : OB h a0 16 kM) (k : isB is0 ∧ (((hI (wI h as1 299 is0) a0 299) = 0 → Ev d 117 41 [vR (some a0)] [vI ((hI (wI h as1 299 is0) a0 292) + 1), vR (some a0)] (wI h as1 299 is0) P) ∧ (¬ (hI (wI h as1 299 is0) a0 299) = 0 → Ev d 117 41 [vR (some a0)] [vI (hI (wI h as1 299 is0) a0 292), vR (some a0)] (wI h as1 299 is0) P))) : Ev d 117 17 [vR (some a0)] [vI is0, vR (some as1)] h P := by
  obtain ⟨q1, k⟩ := k
  refine Ev.step rfl ⟨q1, (fk Aas1.1 rfl), ?_⟩
  refine Ev.step rfl (Ev.step rfl ?_)
  refine Ev.step rfl ⟨(fk Aa0.1 rfl), ?_⟩
  refine Ev.step rfl ⟨fun c => ?_, fun c => ?_⟩
  · replace k := k.1 c
    refine Ev.step rfl ?_
    refine Ev.step rfl ⟨(fk Aa0.1 rfl), ?_⟩
    refine Ev.step rfl (Ev.step rfl ?_)
    exact k
  · replace k := k.2 c
    refine Ev.step rfl ?_
    refine Ev.step rfl ⟨(fk Aa0.1 rfl), ?_⟩
    refine Ev.step rfl ?_
    exact k
theorem w117_41 {d a0 as1 : Nat} {is0 : Int32} {h : AH} {P : PT} (Aas1 : OB h as1 16 kM) (Aa0 : OB h a0 16 kM) (k : ((¬ (hI (wI h as1 292 is0) a0 299) = 0 → P (.inl (some (vI 0))) (wI h as1 292 is0)) ∧ ((hI (wI h as1 292 is0) a0 299) = 0 → P (.inl (some (vI 1))) (wI h as1 292 is0)))) : Ev d 117 41 [vR (some a0)] [vI is0, vR (some as1)] h P := by
  refine Ev.step rfl ⟨(fk Aas1.1 rfl), ?_⟩
  refine Ev.step rfl ?_
  refine Ev.step rfl ⟨(fk Aa0.1 rfl), ?_⟩
  refine Ev.step rfl ⟨fun c => ?_, fun c => ?_⟩
  · replace k := k.1 c
    refine Ev.step rfl ?_
    refine Ev.step rfl ⟨rfl, (fun _ => Or.inl rfl), k⟩
  · replace k := k.2 (Decidable.not_not.mp c)
    refine Ev.step rfl (Ev.step rfl ?_)
    refine Ev.step rfl ⟨rfl, (fun _ => Or.inr rfl), k⟩
