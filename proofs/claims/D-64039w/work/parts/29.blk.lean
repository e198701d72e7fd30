/-! deps: 25 -/
/-! blocks (printed by gen_blocks.py) -/
theorem w85_0 {d a0 : Nat} {h : AH} {P : PT} (Aa0 : OB h a0 16 kM) (k : P (.inl (some (vI (hI h a0 224)))) h) : Ev d 85 0 [vR (some a0)] [] h P := by
  refine Ev.step rfl ?_
  refine Ev.step rfl ⟨(fk Aa0.1 rfl), ?_⟩
  refine Ev.step rfl ⟨rfl, (fun e => Bool.noConfusion (show false = true from e)), k⟩
theorem w86_0 {d a0 : Nat} {i1 : Int32} {h : AH} {P : PT} (Aa0 : OB h a0 16 kM) (k : ((i1 < 1 → Ev d 86 11 [vR (some a0), vI i1] [vR (some a0)] h P) ∧ (1 ≤ i1 → ((i1 ≤ 4 → ((¬ (hI h a0 228) = 4 → Ev d 86 28 [vR (some a0), vI i1] [vI 0, vR (some a0)] h P) ∧ ((hI h a0 228) = 4 → Ev d 86 28 [vR (some a0), vI i1] [vI 2, vR (some a0)] h P))) ∧ (4 < i1 → Ev d 86 11 [vR (some a0), vI i1] [vR (some a0)] h P))))) : Ev d 86 0 [vR (some a0), vI i1] [] h P := by
  refine Ev.step rfl (Ev.step rfl (Ev.step rfl ?_))
  refine Ev.step rfl ⟨fun c => ?_, fun c => ?_⟩
  · replace k := k.1 c
    exact k
  · replace k := k.2 (Int32.not_lt.mp c)
    refine Ev.step rfl (Ev.step rfl ?_)
    refine Ev.step rfl ⟨fun c => ?_, fun c => ?_⟩
    · replace k := k.1 c
      refine Ev.step rfl ?_
      refine Ev.step rfl ⟨(fk Aa0.1 rfl), ?_⟩
      refine Ev.step rfl ?_
      refine Ev.step rfl ⟨fun c => ?_, fun c => ?_⟩
      · replace k := k.1 c
        refine Ev.step rfl ?_
        exact k
      · replace k := k.2 (Decidable.not_not.mp c)
        refine Ev.step rfl (Ev.step rfl ?_)
        exact k
    · replace k := k.2 (Int32.not_le.mp c)
      exact k
theorem w86_11 {d a0 as0 : Nat} {i1 : Int32} {h : AH} {P : PT} (k : Ev d 86 28 [vR (some a0), vI i1] [vI 1, vR (some as0)] h P) : Ev d 86 11 [vR (some a0), vI i1] [vR (some as0)] h P := by
  refine Ev.step rfl (Ev.step rfl ?_)
  exact k
theorem w86_28 {d a0 as1 : Nat} {i1 is0 : Int32} {h : AH} {P : PT} (Aas1 : OB h as1 16 kM) (Aa0 : OB h a0 16 kM) (k : (((hI (wI h as1 224 is0) a0 224) ≤ 0 → vp_in (hI (wI h as1 224 is0) a0 228) 4 ∧ vp_in (4 * (hI (wI (wI h as1 224 is0) (a0 + 1) ((hI (wI h as1 224 is0) a0 228).toNatClampNeg) i1) a0 228)) 16 ∧ P (.inl (some (vI ((hI (wI (wI (wI (wI h as1 224 is0) (a0 + 1) ((hI (wI h as1 224 is0) a0 228).toNatClampNeg) i1) (a0 + 2) ((4 * (hI (wI (wI h as1 224 is0) (a0 + 1) ((hI (wI h as1 224 is0) a0 228).toNatClampNeg) i1) a0 228)).toNatClampNeg) 1) a0 228 ((hI (wI (wI (wI h as1 224 is0) (a0 + 1) ((hI (wI h as1 224 is0) a0 228).toNatClampNeg) i1) (a0 + 2) ((4 * (hI (wI (wI h as1 224 is0) (a0 + 1) ((hI (wI h as1 224 is0) a0 228).toNatClampNeg) i1) a0 228)).toNatClampNeg) 1) a0 228) + 1)) a0 228) - 1)))) (wI (wI (wI (wI h as1 224 is0) (a0 + 1) ((hI (wI h as1 224 is0) a0 228).toNatClampNeg) i1) (a0 + 2) ((4 * (hI (wI (wI h as1 224 is0) (a0 + 1) ((hI (wI h as1 224 is0) a0 228).toNatClampNeg) i1) a0 228)).toNatClampNeg) 1) a0 228 ((hI (wI (wI (wI h as1 224 is0) (a0 + 1) ((hI (wI h as1 224 is0) a0 228).toNatClampNeg) i1) (a0 + 2) ((4 * (hI (wI (wI h as1 224 is0) (a0 + 1) ((hI (wI h as1 224 is0) a0 228).toNatClampNeg) i1) a0 228)).toNatClampNeg) 1) a0 228) + 1))) ∧ (0 < (hI (wI h as1 224 is0) a0 224) → P (.inl (some (vI 0))) (wI h as1 224 is0)))) : Ev d 86 28 [vR (some a0), vI i1] [vI is0, vR (some as1)] h P := by
  refine Ev.step rfl ⟨(fk Aas1.1 rfl), ?_⟩
  refine Ev.step rfl ?_
  refine Ev.step rfl ⟨(fk Aa0.1 rfl), ?_⟩
  refine Ev.step rfl ⟨fun c => ?_, fun c => ?_⟩
  · replace k := k.1 c
    refine Ev.step rfl ?_
    refine e_gR rfl rfl (fk Aa0.1 rfl) Aa0.2.1.1 ?_
    refine Ev.step rfl ?_
    refine Ev.step rfl ⟨(fk Aa0.1 rfl), ?_⟩
    refine Ev.step rfl ?_
    obtain ⟨q1, k⟩ := k
    refine Ev.step rfl ⟨⟨_, Aa0.2.1.2, q1⟩, ?_⟩
    refine Ev.step rfl ?_
    refine e_gR rfl rfl (fk Aa0.1 rfl) Aa0.2.2.1.1 ?_
    refine Ev.step rfl (Ev.step rfl ?_)
    refine Ev.step rfl ⟨(fk Aa0.1 rfl), ?_⟩
    refine Ev.step rfl (Ev.step rfl ?_)
    obtain ⟨q2, k⟩ := k
    refine Ev.step rfl ⟨(Or.inr rfl), ⟨_, Aa0.2.2.1.2, q2⟩, ?_⟩
    refine Ev.step rfl (Ev.step rfl ?_)
    refine Ev.step rfl ⟨(fk Aa0.1 rfl), ?_⟩
    refine Ev.step rfl (Ev.step rfl ?_)
    refine Ev.step rfl ⟨(fk Aa0.1 rfl), ?_⟩
    refine Ev.step rfl ?_
    refine Ev.step rfl ⟨(fk Aa0.1 rfl), ?_⟩
    refine Ev.step rfl (Ev.step rfl ?_)
    refine Ev.step rfl ⟨rfl, (fun e => Bool.noConfusion (show false = true from e)), k⟩
  · replace k := k.2 (Int32.not_le.mp c)
    refine Ev.step rfl ?_
    refine Ev.step rfl ⟨rfl, (fun e => Bool.noConfusion (show false = true from e)), k⟩
theorem w87_0 {d a0 : Nat} {i1 i2 : Int32} {h : AH} {P : PT} (Aa0 : OB h a0 16 kM) (k : Ev d 88 0 [vR (some a0), vI i1] [] h (CK d 87 P 3 [vR (some a0), vI i1, vI i2] [vR (some a0)])) : Ev (d + 1) 87 0 [vR (some a0), vI i1, vI i2] [] h P := by
  refine Ev.step rfl (Ev.step rfl (Ev.step rfl ?_))
  exact Ev.step rfl ⟨(Nat.le_of_ble_eq_true rfl), _, _, _, Aa0.1, rfl, (Nat.le_of_ble_eq_true rfl), rfl, k⟩
theorem w87_6 {d a0 as1 : Nat} {i1 i2 is0 : Int32} {h : AH} {P : PT} (Aa0 : OB h a0 16 kM) (k : ((is0 = 0 → Ev (d + 1) 87 22 [vR (some a0), vI i1, vI i2] [vR (some as1)] h P) ∧ (¬ is0 = 0 → Ev d 89 0 [vR (some a0), vI i1, vI i2] [] h (CK d 87 P 12 [vR (some a0), vI i1, vI i2] [vR (some as1)])))) : Ev (d + 1) 87 6 [vR (some a0), vI i1, vI i2] [vI is0, vR (some as1)] h P := by
  refine Ev.step rfl ⟨fun c => ?_, fun c => ?_⟩
  · replace k := k.1 c
    exact k
  · replace k := k.2 c
    refine Ev.step rfl (Ev.step rfl (Ev.step rfl ?_))
    exact Ev.step rfl ⟨(Nat.le_of_ble_eq_true rfl), _, _, _, Aa0.1, rfl, (Nat.le_of_ble_eq_true rfl), rfl, k⟩
theorem w87_15 {d a0 as1 : Nat} {i1 i2 is0 : Int32} {h : AH} {P : PT} (k : ((is0 = 0 → Ev d 87 22 [vR (some a0), vI i1, vI i2] [vR (some as1)] h P) ∧ (¬ is0 = 0 → Ev d 87 23 [vR (some a0), vI i1, vI i2] [vI 0, vR (some as1)] h P))) : Ev d 87 15 [vR (some a0), vI i1, vI i2] [vI is0, vR (some as1)] h P := by
  refine Ev.step rfl ⟨fun c => ?_, fun c => ?_⟩
  · replace k := k.1 c
    exact k
  · replace k := k.2 c
    refine Ev.step rfl (Ev.step rfl ?_)
    exact k
theorem w87_22 {d a0 as0 : Nat} {i1 i2 : Int32} {h : AH} {P : PT} (k : Ev d 87 23 [vR (some a0), vI i1, vI i2] [vI 1, vR (some as0)] h P) : Ev d 87 22 [vR (some a0), vI i1, vI i2] [vR (some as0)] h P := by
  refine Ev.step rfl ?_
  exact k
theorem w87_23 {d a0 as1 : Nat} {i1 i2 is0 : Int32} {h : AH} {P : PT} (Aas1 : OB h as1 16 kM) (Aa0 : OB h a0 16 kM) (k : ((0 < (hI (wI h as1 224 is0) a0 224) → P (.inl (some (vI 0))) (wI h as1 224 is0)) ∧ ((hI (wI h as1 224 is0) a0 224) ≤ 0 → vp_in ((4 * i1) + i2) 16 ∧ (((hI (wI h as1 224 is0) (a0 + 2) (((4 * i1) + i2).toNatClampNeg)) = 0 → vp_in ((4 * i1) + i2) 16 ∧ P (.inl (some (vI 1))) (wI (wI h as1 224 is0) (a0 + 2) (((4 * i1) + i2).toNatClampNeg) 1)) ∧ (¬ (hI (wI h as1 224 is0) (a0 + 2) (((4 * i1) + i2).toNatClampNeg)) = 0 → P (.inl (some (vI 0))) (wI h as1 224 is0)))))) : Ev d 87 23 [vR (some a0), vI i1, vI i2] [vI is0, vR (some as1)] h P := by
  refine Ev.step rfl ⟨(fk Aas1.1 rfl), ?_⟩
  refine Ev.step rfl ?_
  refine Ev.step rfl ⟨(fk Aa0.1 rfl), ?_⟩
  refine Ev.step rfl ⟨fun c => ?_, fun c => ?_⟩
  · replace k := k.1 c
    refine Ev.step rfl ?_
    refine Ev.step rfl ⟨rfl, (fun _ => Or.inl rfl), k⟩
  · replace k := k.2 (Int32.not_lt.mp c)
    refine Ev.step rfl ?_
    refine e_gR rfl rfl (fk Aa0.1 rfl) Aa0.2.2.1.1 ?_
    refine Ev.step rfl (Ev.step rfl (Ev.step rfl (Ev.step rfl (Ev.step rfl ?_))))
    obtain ⟨q1, k⟩ := k
    refine Ev.step rfl ⟨⟨_, Aa0.2.2.1.2, q1⟩, ?_⟩
    refine Ev.step rfl ⟨fun c => ?_, fun c => ?_⟩
    · replace k := k.1 c
      refine Ev.step rfl ?_
      refine e_gR rfl rfl (fk Aa0.1 rfl) Aa0.2.2.1.1 ?_
      refine Ev.step rfl (Ev.step rfl (Ev.step rfl (Ev.step rfl (Ev.step rfl (Ev.step rfl ?_)))))
      obtain ⟨q2, k⟩ := k
      refine Ev.step rfl ⟨(Or.inr rfl), ⟨_, Aa0.2.2.1.2, q2⟩, ?_⟩
      refine Ev.step rfl ?_
      refine Ev.step rfl ⟨rfl, (fun _ => Or.inr rfl), k⟩
    · replace k := k.2 c
      refine Ev.step rfl ?_
      refine Ev.step rfl ⟨rfl, (fun _ => Or.inl rfl), k⟩
theorem w88_0 {d a0 : Nat} {i1 : Int32} {h : AH} {P : PT} (Aa0 : OB h a0 16 kM) (k : ((i1 < 0 → P (.inl (some (vI 0))) h) ∧ (0 ≤ i1 → (((hI h a0 228) ≤ i1 → P (.inl (some (vI 0))) h) ∧ (i1 < (hI h a0 228) → P (.inl (some (vI 1))) h))))) : Ev d 88 0 [vR (some a0), vI i1] [] h P := by
  refine Ev.step rfl ?_
  refine Ev.step rfl ⟨fun c => ?_, fun c => ?_⟩
  · replace k := k.1 c
    refine Ev.step rfl ?_
    refine Ev.step rfl ⟨rfl, (fun _ => Or.inl rfl), k⟩
  · replace k := k.2 (Int32.not_lt.mp c)
    refine Ev.step rfl (Ev.step rfl ?_)
    refine Ev.step rfl ⟨(fk Aa0.1 rfl), ?_⟩
    refine Ev.step rfl ⟨fun c => ?_, fun c => ?_⟩
    · replace k := k.1 c
      refine Ev.step rfl ?_
      refine Ev.step rfl ⟨rfl, (fun _ => Or.inl rfl), k⟩
    · replace k := k.2 (Int32.not_le.mp c)
      refine Ev.step rfl (Ev.step rfl ?_)
      refine Ev.step rfl ⟨rfl, (fun _ => Or.inr rfl), k⟩
theorem w89_0 {d a0 : Nat} {i1 i2 : Int32} {h : AH} {P : PT} (Aa0 : OB h a0 16 kM) (k : ((i2 < 0 → P (.inl (some (vI 0))) h) ∧ (0 ≤ i2 → vp_in i1 4 ∧ (((hI h (a0 + 1) i1.toNatClampNeg) ≤ i2 → P (.inl (some (vI 0))) h) ∧ (i2 < (hI h (a0 + 1) i1.toNatClampNeg) → P (.inl (some (vI 1))) h))))) : Ev d 89 0 [vR (some a0), vI i1, vI i2] [] h P := by
  refine Ev.step rfl ?_
  refine Ev.step rfl ⟨fun c => ?_, fun c => ?_⟩
  · replace k := k.1 c
    refine Ev.step rfl ?_
    refine Ev.step rfl ⟨rfl, (fun _ => Or.inl rfl), k⟩
  · replace k := k.2 (Int32.not_lt.mp c)
    refine Ev.step rfl (Ev.step rfl ?_)
    refine e_gR rfl rfl (fk Aa0.1 rfl) Aa0.2.1.1 ?_
    refine Ev.step rfl ?_
    obtain ⟨q1, k⟩ := k
    refine Ev.step rfl ⟨⟨_, Or.inl Aa0.2.1.2, q1⟩, ?_⟩
    refine Ev.step rfl ⟨fun c => ?_, fun c => ?_⟩
    · replace k := k.1 c
      refine Ev.step rfl ?_
      refine Ev.step rfl ⟨rfl, (fun _ => Or.inl rfl), k⟩
    · replace k := k.2 (Int32.not_le.mp c)
      refine Ev.step rfl (Ev.step rfl ?_)
      refine Ev.step rfl ⟨rfl, (fun _ => Or.inr rfl), k⟩
theorem w90_0 {d a0 : Nat} {i1 i2 : Int32} {h : AH} {P : PT} (Aa0 : OB h a0 16 kM) (k : ((i1 < 0 → P (.inl (some (vI 0))) (wI h a0 224 0)) ∧ (0 ≤ i1 → ((i1 ≤ 3 → vp_in i1 4 ∧ P (.inl (some (vI 1))) (wI (wI h a0 224 0) (a0 + 3) i1.toNatClampNeg i2)) ∧ (3 < i1 → P (.inl (some (vI 0))) (wI h a0 224 0)))))) : Ev d 90 0 [vR (some a0), vI i1, vI i2] [] h P := by
  refine Ev.step rfl (Ev.step rfl ?_)
  refine Ev.step rfl ⟨(fk Aa0.1 rfl), ?_⟩
  refine Ev.step rfl ?_
  refine Ev.step rfl ⟨fun c => ?_, fun c => ?_⟩
  · replace k := k.1 c
    refine Ev.step rfl ?_
    refine Ev.step rfl ⟨rfl, (fun _ => Or.inl rfl), k⟩
  · replace k := k.2 (Int32.not_lt.mp c)
    refine Ev.step rfl (Ev.step rfl ?_)
    refine Ev.step rfl ⟨fun c => ?_, fun c => ?_⟩
    · replace k := k.1 c
      refine Ev.step rfl ?_
      refine e_gR rfl rfl (fk Aa0.1 rfl) Aa0.2.2.2.1.1 ?_
      refine Ev.step rfl (Ev.step rfl ?_)
      obtain ⟨q1, k⟩ := k
      refine Ev.step rfl ⟨⟨_, Aa0.2.2.2.1.2, q1⟩, ?_⟩
      refine Ev.step rfl ?_
      refine Ev.step rfl ⟨rfl, (fun _ => Or.inr rfl), k⟩
    · replace k := k.2 (Int32.not_le.mp c)
      refine Ev.step rfl ?_
      refine Ev.step rfl ⟨rfl, (fun _ => Or.inl rfl), k⟩
theorem w91_0 {d a0 : Nat} {i1 : Int32} {h : AH} {P : PT} (Aa0 : OB h a0 16 kM) (k : Ev d 88 0 [vR (some a0), vI i1] [] h (CK d 91 P 3 [vR (some a0), vI i1, vU] [vR (some a0)])) : Ev (d + 1) 91 0 [vR (some a0), vI i1, vU] [] h P := by
  refine Ev.step rfl (Ev.step rfl (Ev.step rfl ?_))
  exact Ev.step rfl ⟨(Nat.le_of_ble_eq_true rfl), _, _, _, Aa0.1, rfl, (Nat.le_of_ble_eq_true rfl), rfl, k⟩
theorem w91_6 {d a0 as1 : Nat} {i1 is0 : Int32} {w2 : AV} {h : AH} {P : PT} (Aa0 : OB h a0 16 kM) (k : ((¬ is0 = 0 → vp_in 0 4 ∧ Ev d 92 0 [vR (some a0), vI i1, vI (hI h (a0 + 3) ((0 : Int32).toNatClampNeg)), vU, vU] [] h (CK d 91 P 21 [vR (some a0), vI i1, w2] [vR (some as1)])) ∧ (is0 = 0 → Ev (d + 1) 91 45 [vR (some a0), vI i1, w2] [vI 1, vR (some as1)] h P))) : Ev (d + 1) 91 6 [vR (some a0), vI i1, w2] [vI is0, vR (some as1)] h P := by
  refine Ev.step rfl ⟨fun c => ?_, fun c => ?_⟩
  · replace k := k.1 c
    refine Ev.step rfl (Ev.step rfl (Ev.step rfl ?_))
    refine e_gR rfl rfl (fk Aa0.1 rfl) Aa0.2.2.2.1.1 ?_
    refine Ev.step rfl ?_
    obtain ⟨q1, k⟩ := k
    refine Ev.step rfl ⟨⟨_, Or.inl Aa0.2.2.2.1.2, q1⟩, ?_⟩
    exact Ev.step rfl ⟨(Nat.le_of_ble_eq_true rfl), _, _, _, Aa0.1, rfl, (Nat.le_of_ble_eq_true rfl), rfl, k⟩
  · replace k := k.2 (Decidable.not_not.mp c)
    refine Ev.step rfl (Ev.step rfl ?_)
    exact k
theorem w91_24 {d a0 as1 : Nat} {i1 is0 : Int32} {w2 : AV} {h : AH} {P : PT} (Aa0 : OB h a0 16 kM) (k : ((is0 < 0 → ((¬ (hI h a0 244) = 48 → Ev d 91 45 [vR (some a0), vI i1, w2] [vI 0, vR (some as1)] h P) ∧ ((hI h a0 244) = 48 → Ev d 91 45 [vR (some a0), vI i1, w2] [vI 3, vR (some as1)] h P))) ∧ (0 ≤ is0 → Ev d 91 45 [vR (some a0), vI i1, w2] [vI 2, vR (some as1)] h P))) : Ev d 91 24 [vR (some a0), vI i1, w2] [vI is0, vR (some as1)] h P := by
  refine Ev.step rfl ⟨fun c => ?_, fun c => ?_⟩
  · replace k := k.1 c
    refine Ev.step rfl ?_
    refine Ev.step rfl ⟨(fk Aa0.1 rfl), ?_⟩
    refine Ev.step rfl ?_
    refine Ev.step rfl ⟨fun c => ?_, fun c => ?_⟩
    · replace k := k.1 c
      refine Ev.step rfl ?_
      exact k
    · replace k := k.2 (Decidable.not_not.mp c)
      refine Ev.step rfl (Ev.step rfl ?_)
      exact k
  · replace k := k.2 (Int32.not_lt.mp c)
    refine Ev.step rfl (Ev.step rfl ?_)
    exact k
theorem w91_45 {d a0 as1 : Nat} {i1 is0 : Int32} {w2 : AV} {h : AH} {P : PT} (Aas1 : OB h as1 16 kM) (Aa0 : OB h a0 16 kM) (k : (((hI (wI h as1 224 is0) a0 224) ≤ 0 → vp_in (hI (wI h as1 224 is0) a0 244) 48 ∧ Ev d 91 69 [vR (some a0), vI i1, vI 0] [] (wI (wI h as1 224 is0) (a0 + 4) ((hI (wI h as1 224 is0) a0 244).toNatClampNeg) i1) P) ∧ (0 < (hI (wI h as1 224 is0) a0 224) → P (.inl (some (vI 0))) (wI h as1 224 is0)))) : Ev d 91 45 [vR (some a0), vI i1, w2] [vI is0, vR (some as1)] h P := by
  refine Ev.step rfl ⟨(fk Aas1.1 rfl), ?_⟩
  refine Ev.step rfl ?_
  refine Ev.step rfl ⟨(fk Aa0.1 rfl), ?_⟩
  refine Ev.step rfl ⟨fun c => ?_, fun c => ?_⟩
  · replace k := k.1 c
    refine Ev.step rfl ?_
    refine e_gR rfl rfl (fk Aa0.1 rfl) Aa0.2.2.2.2.1.1 ?_
    refine Ev.step rfl ?_
    refine Ev.step rfl ⟨(fk Aa0.1 rfl), ?_⟩
    refine Ev.step rfl ?_
    obtain ⟨q1, k⟩ := k
    refine Ev.step rfl ⟨⟨_, Aa0.2.2.2.2.1.2, q1⟩, ?_⟩
    refine Ev.step rfl (Ev.step rfl ?_)
    exact k
  · replace k := k.2 (Int32.not_le.mp c)
    refine Ev.step rfl ?_
    refine Ev.step rfl ⟨rfl, (fun e => Bool.noConfusion (show false = true from e)), k⟩
theorem w91_69 {d a0 : Nat} {i1 i2 : Int32} {h : AH} {P : PT} (Aa0 : OB h a0 16 kM) (k : ((4 ≤ i2 → Ev d 93 0 [vR (some a0), vI i1, vU, vU] [] (wI h a0 244 ((hI h a0 244) + 1)) (CK d 91 P 111 [vR (some a0), vI i1, vI i2] [])) ∧ (i2 < 4 → vp_in i2 4 ∧ vp_in ((4 * (hI h a0 244)) + i2) 192 ∧ Ev (d + 1) 91 69 [vR (some a0), vI i1, vI (i2 + 1)] [] (wI h (a0 + 5) (((4 * (hI h a0 244)) + i2).toNatClampNeg) (hI h (a0 + 3) i2.toNatClampNeg)) P))) : Ev (d + 1) 91 69 [vR (some a0), vI i1, vI i2] [] h P := by
  refine Ev.step rfl (Ev.step rfl ?_)
  refine Ev.step rfl ⟨fun c => ?_, fun c => ?_⟩
  · replace k := k.1 c
    refine Ev.step rfl (Ev.step rfl ?_)
    refine Ev.step rfl ⟨(fk Aa0.1 rfl), ?_⟩
    refine Ev.step rfl (Ev.step rfl ?_)
    refine Ev.step rfl ⟨(fk Aa0.1 rfl), ?_⟩
    refine Ev.step rfl (Ev.step rfl ?_)
    exact Ev.step rfl ⟨(Nat.le_of_ble_eq_true rfl), _, _, _, Aa0.1, rfl, (Nat.le_of_ble_eq_true rfl), rfl, k⟩
  · replace k := k.2 (Int32.not_le.mp c)
    refine Ev.step rfl ?_
    refine e_gR rfl rfl (fk Aa0.1 rfl) Aa0.2.2.2.2.2.1.1 ?_
    refine Ev.step rfl (Ev.step rfl ?_)
    refine Ev.step rfl ⟨(fk Aa0.1 rfl), ?_⟩
    refine Ev.step rfl (Ev.step rfl (Ev.step rfl (Ev.step rfl ?_)))
    refine e_gR rfl rfl (fk Aa0.1 rfl) Aa0.2.2.2.1.1 ?_
    refine Ev.step rfl ?_
    obtain ⟨q1, k⟩ := k
    refine Ev.step rfl ⟨⟨_, Or.inl Aa0.2.2.2.1.2, q1⟩, ?_⟩
    obtain ⟨q2, k⟩ := k
    refine Ev.step rfl ⟨⟨_, Aa0.2.2.2.2.2.1.2, q2⟩, ?_⟩
    refine Ev.step rfl (Ev.step rfl ?_)
    exact k
theorem w91_114 {d a0 : Nat} {i1 i2 is0 : Int32} {h : AH} {P : PT} (k : P (.inl (some (vI is0))) h) : Ev d 91 114 [vR (some a0), vI i1, vI i2] [vI is0] h P := by
  refine Ev.step rfl ⟨rfl, (fun e => Bool.noConfusion (show false = true from e)), k⟩
theorem w92_0 {d a0 : Nat} {i1 i2 : Int32} {h : AH} {P : PT} (k : Ev d 92 5 [vR (some a0), vI i1, vI i2, vI (-1), vI 0] [] h P) : Ev d 92 0 [vR (some a0), vI i1, vI i2, vU, vU] [] h P := by
  refine Ev.step rfl (Ev.step rfl (Ev.step rfl (Ev.step rfl ?_)))
  exact k
theorem w92_5 {d a0 : Nat} {i1 i2 i3 i4 : Int32} {h : AH} {P : PT} (Aa0 : OB h a0 16 kM) (k : (((hI h a0 244) ≤ i4 → P (.inl (some (vI i3))) h) ∧ (i4 < (hI h a0 244) → vp_in i4 48 ∧ ((¬ (hI h (a0 + 4) i4.toNatClampNeg) = i1 → Ev d 92 44 [vR (some a0), vI i1, vI i2, vI i3, vI i4] [vI i3] h P) ∧ ((hI h (a0 + 4) i4.toNatClampNeg) = i1 → vp_in (4 * i4) 192 ∧ ((¬ (hI h (a0 + 5) ((4 * i4).toNatClampNeg)) = i2 → Ev d 92 44 [vR (some a0), vI i1, vI i2, vI i3, vI i4] [vI i3] h P) ∧ ((hI h (a0 + 5) ((4 * i4).toNatClampNeg)) = i2 → Ev d 92 44 [vR (some a0), vI i1, vI i2, vI i3, vI i4] [vI i4] h P))))))) : Ev d 92 5 [vR (some a0), vI i1, vI i2, vI i3, vI i4] [] h P := by
  refine Ev.step rfl (Ev.step rfl ?_)
  refine Ev.step rfl ⟨(fk Aa0.1 rfl), ?_⟩
  refine Ev.step rfl ⟨fun c => ?_, fun c => ?_⟩
  · replace k := k.1 c
    refine Ev.step rfl ?_
    refine Ev.step rfl ⟨rfl, (fun e => Bool.noConfusion (show false = true from e)), k⟩
  · replace k := k.2 (Int32.not_le.mp c)
    refine Ev.step rfl ?_
    refine e_gR rfl rfl (fk Aa0.1 rfl) Aa0.2.2.2.2.1.1 ?_
    refine Ev.step rfl ?_
    obtain ⟨q1, k⟩ := k
    refine Ev.step rfl ⟨⟨_, Or.inl Aa0.2.2.2.2.1.2, q1⟩, ?_⟩
    refine Ev.step rfl ?_
    refine Ev.step rfl ⟨fun c => ?_, fun c => ?_⟩
    · replace k := k.1 c
      refine Ev.step rfl ?_
      exact k
    · replace k := k.2 (Decidable.not_not.mp c)
      refine Ev.step rfl ?_
      refine e_gR rfl rfl (fk Aa0.1 rfl) Aa0.2.2.2.2.2.1.1 ?_
      refine Ev.step rfl (Ev.step rfl (Ev.step rfl ?_))
      obtain ⟨q2, k⟩ := k
      refine Ev.step rfl ⟨⟨_, Or.inl Aa0.2.2.2.2.2.1.2, q2⟩, ?_⟩
      refine Ev.step rfl ?_
      refine Ev.step rfl ⟨fun c => ?_, fun c => ?_⟩
      · replace k := k.1 c
        refine Ev.step rfl ?_
        exact k
      · replace k := k.2 (Decidable.not_not.mp c)
        refine Ev.step rfl (Ev.step rfl ?_)
        exact k
theorem w92_44 {d a0 : Nat} {i1 i2 i3 i4 is0 : Int32} {h : AH} {P : PT} (k : Ev d 92 5 [vR (some a0), vI i1, vI i2, vI is0, vI (i4 + 1)] [] h P) : Ev d 92 44 [vR (some a0), vI i1, vI i2, vI i3, vI i4] [vI is0] h P := by
  refine Ev.step rfl (Ev.step rfl (Ev.step rfl ?_))
  exact k
theorem w93_0 {d a0 : Nat} {i1 : Int32} {h : AH} {P : PT} (k : Ev d 93 4 [vR (some a0), vI i1, vI 0, vI 0] [] h P) : Ev d 93 0 [vR (some a0), vI i1, vU, vU] [] h P := by
  refine Ev.step rfl (Ev.step rfl (Ev.step rfl (Ev.step rfl ?_)))
  exact k
theorem w93_4 {d a0 : Nat} {i1 i2 i3 : Int32} {h : AH} {P : PT} (Aa0 : OB h a0 16 kM) (k : (((hI h a0 244) ≤ i3 → P (.inl (some (vI i2))) h) ∧ (i3 < (hI h a0 244) → vp_in i3 48 ∧ ((¬ (hI h (a0 + 4) i3.toNatClampNeg) = i1 → Ev d 93 4 [vR (some a0), vI i1, vI i2, vI (i3 + 1)] [] h P) ∧ ((hI h (a0 + 4) i3.toNatClampNeg) = i1 → Ev d 93 4 [vR (some a0), vI i1, vI (i2 + 1), vI (i3 + 1)] [] h P))))) : Ev d 93 4 [vR (some a0), vI i1, vI i2, vI i3] [] h P := by
  refine Ev.step rfl (Ev.step rfl ?_)
  refine Ev.step rfl ⟨(fk Aa0.1 rfl), ?_⟩
  refine Ev.step rfl ⟨fun c => ?_, fun c => ?_⟩
  · replace k := k.1 c
    refine Ev.step rfl ?_
    refine Ev.step rfl ⟨rfl, (fun e => Bool.noConfusion (show false = true from e)), k⟩
  · replace k := k.2 (Int32.not_le.mp c)
    refine Ev.step rfl ?_
    refine e_gR rfl rfl (fk Aa0.1 rfl) Aa0.2.2.2.2.1.1 ?_
    refine Ev.step rfl ?_
    obtain ⟨q1, k⟩ := k
    refine Ev.step rfl ⟨⟨_, Or.inl Aa0.2.2.2.2.1.2, q1⟩, ?_⟩
    refine Ev.step rfl ?_
    refine Ev.step rfl ⟨fun c => ?_, fun c => ?_⟩
    · replace k := k.1 c
      refine Ev.step rfl (Ev.step rfl (Ev.step rfl (Ev.step rfl ?_)))
      exact k
    · replace k := k.2 (Decidable.not_not.mp c)
      refine Ev.step rfl (Ev.step rfl (Ev.step rfl (Ev.step rfl (Ev.step rfl (Ev.step rfl (Ev.step rfl ?_))))))
      exact k
theorem w94_0 {d a0 : Nat} {i1 i2 : Int32} {h : AH} {P : PT} (Aa0 : OB h a0 16 kM) (k : Ev d 88 0 [vR (some a0), vI i1] [] h (CK d 94 P 3 [vR (some a0), vI i1, vI i2, vU, vU] [vR (some a0)])) : Ev (d + 1) 94 0 [vR (some a0), vI i1, vI i2, vU, vU] [] h P := by
  refine Ev.step rfl (Ev.step rfl (Ev.step rfl ?_))
  exact Ev.step rfl ⟨(Nat.le_of_ble_eq_true rfl), _, _, _, Aa0.1, rfl, (Nat.le_of_ble_eq_true rfl), rfl, k⟩
theorem w94_6 {d a0 as1 : Nat} {i1 i2 is0 : Int32} {w3 w4 : AV} {h : AH} {P : PT} (Aa0 : OB h a0 16 kM) (k : ((¬ is0 = 0 → Ev d 92 0 [vR (some a0), vI i1, vI i2, vU, vU] [] h (CK d 94 P 16 [vR (some a0), vI i1, vI i2, w3, w4] [vR (some as1)])) ∧ (is0 = 0 → Ev (d + 1) 94 27 [vR (some a0), vI i1, vI i2, w3, w4] [vI 1, vR (some as1)] h P))) : Ev (d + 1) 94 6 [vR (some a0), vI i1, vI i2, w3, w4] [vI is0, vR (some as1)] h P := by
  refine Ev.step rfl ⟨fun c => ?_, fun c => ?_⟩
  · replace k := k.1 c
    refine Ev.step rfl (Ev.step rfl (Ev.step rfl ?_))
    exact Ev.step rfl ⟨(Nat.le_of_ble_eq_true rfl), _, _, _, Aa0.1, rfl, (Nat.le_of_ble_eq_true rfl), rfl, k⟩
  · replace k := k.2 (Decidable.not_not.mp c)
    refine Ev.step rfl (Ev.step rfl ?_)
    exact k
theorem w94_19 {d a0 as1 : Nat} {i1 i2 is0 : Int32} {w3 w4 : AV} {h : AH} {P : PT} (k : ((0 ≤ is0 → Ev d 94 27 [vR (some a0), vI i1, vI i2, w3, w4] [vI 0, vR (some as1)] h P) ∧ (is0 < 0 → Ev d 94 27 [vR (some a0), vI i1, vI i2, w3, w4] [vI 2, vR (some as1)] h P))) : Ev d 94 19 [vR (some a0), vI i1, vI i2, w3, w4] [vI is0, vR (some as1)] h P := by
  refine Ev.step rfl ⟨fun c => ?_, fun c => ?_⟩
  · replace k := k.1 c
    refine Ev.step rfl ?_
    exact k
  · replace k := k.2 (Int32.not_le.mp c)
    refine Ev.step rfl (Ev.step rfl ?_)
    exact k
theorem w94_27 {d a0 as1 : Nat} {i1 i2 is0 : Int32} {w3 w4 : AV} {h : AH} {P : PT} (Aas1 : OB h as1 16 kM) (Aa0 : OB h a0 16 kM) (k : (((hI (wI h as1 224 is0) a0 224) ≤ 0 → Ev d 92 0 [vR (some a0), vI i1, vI i2, vU, vU] [] (wI h as1 224 is0) (CK d 94 P 42 [vR (some a0), vI i1, vI i2, w3, w4] [])) ∧ (0 < (hI (wI h as1 224 is0) a0 224) → P (.inl (some (vI 0))) (wI h as1 224 is0)))) : Ev (d + 1) 94 27 [vR (some a0), vI i1, vI i2, w3, w4] [vI is0, vR (some as1)] h P := by
  refine Ev.step rfl ⟨(fk Aas1.1 rfl), ?_⟩
  refine Ev.step rfl ?_
  refine Ev.step rfl ⟨(fk Aa0.1 rfl), ?_⟩
  refine Ev.step rfl ⟨fun c => ?_, fun c => ?_⟩
  · replace k := k.1 c
    refine Ev.step rfl (Ev.step rfl (Ev.step rfl ?_))
    exact Ev.step rfl ⟨(Nat.le_of_ble_eq_true rfl), _, _, _, Aa0.1, rfl, (Nat.le_of_ble_eq_true rfl), rfl, k⟩
  · replace k := k.2 (Int32.not_le.mp c)
    refine Ev.step rfl ?_
    refine Ev.step rfl ⟨rfl, (fun e => Bool.noConfusion (show false = true from e)), k⟩
theorem w94_45 {d a0 : Nat} {i1 i2 is0 : Int32} {w3 w4 : AV} {h : AH} {P : PT} (Aa0 : OB h a0 16 kM) (k : vp_in (hI (wI h a0 244 ((hI h a0 244) - 1)) a0 244) 48 ∧ vp_in is0 48 ∧ Ev d 94 74 [vR (some a0), vI i1, vI i2, vI is0, vI 0] [] (wI (wI h a0 244 ((hI h a0 244) - 1)) (a0 + 4) is0.toNatClampNeg (hI (wI h a0 244 ((hI h a0 244) - 1)) (a0 + 4) ((hI (wI h a0 244 ((hI h a0 244) - 1)) a0 244).toNatClampNeg))) P) : Ev d 94 45 [vR (some a0), vI i1, vI i2, w3, w4] [vI is0] h P := by
  refine Ev.step rfl (Ev.step rfl (Ev.step rfl ?_))
  refine Ev.step rfl ⟨(fk Aa0.1 rfl), ?_⟩
  refine Ev.step rfl (Ev.step rfl ?_)
  refine Ev.step rfl ⟨(fk Aa0.1 rfl), ?_⟩
  refine Ev.step rfl ?_
  refine e_gR rfl rfl (fk Aa0.1 rfl) Aa0.2.2.2.2.1.1 ?_
  refine Ev.step rfl (Ev.step rfl ?_)
  refine e_gR rfl rfl (fk Aa0.1 rfl) Aa0.2.2.2.2.1.1 ?_
  refine Ev.step rfl ?_
  refine Ev.step rfl ⟨(fk Aa0.1 rfl), ?_⟩
  obtain ⟨q1, k⟩ := k
  refine Ev.step rfl ⟨⟨_, Or.inl Aa0.2.2.2.2.1.2, q1⟩, ?_⟩
  obtain ⟨q2, k⟩ := k
  refine Ev.step rfl ⟨⟨_, Aa0.2.2.2.2.1.2, q2⟩, ?_⟩
  refine Ev.step rfl (Ev.step rfl ?_)
  exact k
theorem w94_74 {d a0 : Nat} {i1 i2 i3 i4 : Int32} {h : AH} {P : PT} (Aa0 : OB h a0 16 kM) (k : ((4 ≤ i4 → Ev d 93 0 [vR (some a0), vI i1, vU, vU] [] h (CK d 94 P 113 [vR (some a0), vI i1, vI i2, vI i3, vI i4] [])) ∧ (i4 < 4 → vp_in ((4 * (hI h a0 244)) + i4) 192 ∧ vp_in ((4 * i3) + i4) 192 ∧ Ev (d + 1) 94 74 [vR (some a0), vI i1, vI i2, vI i3, vI (i4 + 1)] [] (wI h (a0 + 5) (((4 * i3) + i4).toNatClampNeg) (hI h (a0 + 5) (((4 * (hI h a0 244)) + i4).toNatClampNeg))) P))) : Ev (d + 1) 94 74 [vR (some a0), vI i1, vI i2, vI i3, vI i4] [] h P := by
  refine Ev.step rfl (Ev.step rfl ?_)
  refine Ev.step rfl ⟨fun c => ?_, fun c => ?_⟩
  · replace k := k.1 c
    refine Ev.step rfl (Ev.step rfl ?_)
    exact Ev.step rfl ⟨(Nat.le_of_ble_eq_true rfl), _, _, _, Aa0.1, rfl, (Nat.le_of_ble_eq_true rfl), rfl, k⟩
  · replace k := k.2 (Int32.not_le.mp c)
    refine Ev.step rfl ?_
    refine e_gR rfl rfl (fk Aa0.1 rfl) Aa0.2.2.2.2.2.1.1 ?_
    refine Ev.step rfl (Ev.step rfl (Ev.step rfl (Ev.step rfl (Ev.step rfl (Ev.step rfl ?_)))))
    refine e_gR rfl rfl (fk Aa0.1 rfl) Aa0.2.2.2.2.2.1.1 ?_
    refine Ev.step rfl (Ev.step rfl ?_)
    refine Ev.step rfl ⟨(fk Aa0.1 rfl), ?_⟩
    refine Ev.step rfl (Ev.step rfl (Ev.step rfl ?_))
    obtain ⟨q1, k⟩ := k
    refine Ev.step rfl ⟨⟨_, Or.inl Aa0.2.2.2.2.2.1.2, q1⟩, ?_⟩
    obtain ⟨q2, k⟩ := k
    refine Ev.step rfl ⟨⟨_, Aa0.2.2.2.2.2.1.2, q2⟩, ?_⟩
    refine Ev.step rfl (Ev.step rfl ?_)
    exact k
theorem w94_116 {d a0 : Nat} {i1 i2 i3 i4 is0 : Int32} {h : AH} {P : PT} (k : P (.inl (some (vI is0))) h) : Ev d 94 116 [vR (some a0), vI i1, vI i2, vI i3, vI i4] [vI is0] h P := by
  refine Ev.step rfl ⟨rfl, (fun e => Bool.noConfusion (show false = true from e)), k⟩
theorem w95_0 {d a0 : Nat} {i1 i2 i3 : Int32} {h : AH} {P : PT} (Aa0 : OB h a0 16 kM) (k : Ev d 88 0 [vR (some a0), vI i1] [] h (CK d 95 P 3 [vR (some a0), vI i1, vI i2, vI i3] [vR (some a0)])) : Ev (d + 1) 95 0 [vR (some a0), vI i1, vI i2, vI i3] [] h P := by
  refine Ev.step rfl (Ev.step rfl (Ev.step rfl ?_))
  exact Ev.step rfl ⟨(Nat.le_of_ble_eq_true rfl), _, _, _, Aa0.1, rfl, (Nat.le_of_ble_eq_true rfl), rfl, k⟩
theorem w95_6 {d a0 as1 : Nat} {i1 i2 i3 is0 : Int32} {h : AH} {P : PT} (Aa0 : OB h a0 16 kM) (k : ((is0 = 0 → Ev (d + 1) 95 18 [vR (some a0), vI i1, vI i2, vI i3] [vR (some as1)] h P) ∧ (¬ is0 = 0 → Ev d 89 0 [vR (some a0), vI i1, vI i3] [] h (CK d 95 P 12 [vR (some a0), vI i1, vI i2, vI i3] [vR (some as1)])))) : Ev (d + 1) 95 6 [vR (some a0), vI i1, vI i2, vI i3] [vI is0, vR (some as1)] h P := by
  refine Ev.step rfl ⟨fun c => ?_, fun c => ?_⟩
  · replace k := k.1 c
    exact k
  · replace k := k.2 c
    refine Ev.step rfl (Ev.step rfl (Ev.step rfl ?_))
    exact Ev.step rfl ⟨(Nat.le_of_ble_eq_true rfl), _, _, _, Aa0.1, rfl, (Nat.le_of_ble_eq_true rfl), rfl, k⟩
theorem w95_15 {d a0 as1 : Nat} {i1 i2 i3 is0 : Int32} {h : AH} {P : PT} (Aa0 : OB h a0 16 kM) (k : ((¬ is0 = 0 → Ev d 92 0 [vR (some a0), vI i1, vI i2, vU, vU] [] h (CK d 95 P 25 [vR (some a0), vI i1, vI i2, vI i3] [vR (some as1)])) ∧ (is0 = 0 → Ev (d + 1) 95 18 [vR (some a0), vI i1, vI i2, vI i3] [vR (some as1)] h P))) : Ev (d + 1) 95 15 [vR (some a0), vI i1, vI i2, vI i3] [vI is0, vR (some as1)] h P := by
  refine Ev.step rfl ⟨fun c => ?_, fun c => ?_⟩
  · replace k := k.1 c
    refine Ev.step rfl (Ev.step rfl (Ev.step rfl ?_))
    exact Ev.step rfl ⟨(Nat.le_of_ble_eq_true rfl), _, _, _, Aa0.1, rfl, (Nat.le_of_ble_eq_true rfl), rfl, k⟩
  · replace k := k.2 (Decidable.not_not.mp c)
    exact k
theorem w95_18 {d a0 as0 : Nat} {i1 i2 i3 : Int32} {h : AH} {P : PT} (k : Ev d 95 36 [vR (some a0), vI i1, vI i2, vI i3] [vI 1, vR (some as0)] h P) : Ev d 95 18 [vR (some a0), vI i1, vI i2, vI i3] [vR (some as0)] h P := by
  refine Ev.step rfl (Ev.step rfl ?_)
  exact k
theorem w95_28 {d a0 as1 : Nat} {i1 i2 i3 is0 : Int32} {h : AH} {P : PT} (k : ((0 ≤ is0 → Ev d 95 36 [vR (some a0), vI i1, vI i2, vI i3] [vI 0, vR (some as1)] h P) ∧ (is0 < 0 → Ev d 95 36 [vR (some a0), vI i1, vI i2, vI i3] [vI 2, vR (some as1)] h P))) : Ev d 95 28 [vR (some a0), vI i1, vI i2, vI i3] [vI is0, vR (some as1)] h P := by
  refine Ev.step rfl ⟨fun c => ?_, fun c => ?_⟩
  · replace k := k.1 c
    refine Ev.step rfl ?_
    exact k
  · replace k := k.2 (Int32.not_le.mp c)
    refine Ev.step rfl (Ev.step rfl ?_)
    exact k
theorem w95_36 {d a0 as1 : Nat} {i1 i2 i3 is0 : Int32} {h : AH} {P : PT} (Aas1 : OB h as1 16 kM) (Aa0 : OB h a0 16 kM) (k : (((hI (wI h as1 224 is0) a0 224) ≤ 0 → Ev d 92 0 [vR (some a0), vI i1, vI i2, vU, vU] [] (wI h as1 224 is0) (CK d 95 P 58 [vR (some a0), vI i1, vI i2, vI i3] [vI 4, vR (some (a0 + 5))])) ∧ (0 < (hI (wI h as1 224 is0) a0 224) → P (.inl (some (vI 0))) (wI h as1 224 is0)))) : Ev (d + 1) 95 36 [vR (some a0), vI i1, vI i2, vI i3] [vI is0, vR (some as1)] h P := by
  refine Ev.step rfl ⟨(fk Aas1.1 rfl), ?_⟩
  refine Ev.step rfl ?_
  refine Ev.step rfl ⟨(fk Aa0.1 rfl), ?_⟩
  refine Ev.step rfl ⟨fun c => ?_, fun c => ?_⟩
  · replace k := k.1 c
    refine Ev.step rfl ?_
    refine e_gR rfl rfl (fk Aa0.1 rfl) Aa0.2.2.2.2.2.1.1 ?_
    refine Ev.step rfl (Ev.step rfl (Ev.step rfl (Ev.step rfl ?_)))
    exact Ev.step rfl ⟨(Nat.le_of_ble_eq_true rfl), _, _, _, Aa0.1, rfl, (Nat.le_of_ble_eq_true rfl), rfl, k⟩
  · replace k := k.2 (Int32.not_le.mp c)
    refine Ev.step rfl (Ev.step rfl ?_)
    refine Ev.step rfl ⟨rfl, (fun e => Bool.noConfusion (show false = true from e)), k⟩
theorem w95_61 {d a0 as2 : Nat} {i1 i2 i3 is0 is1 : Int32} {h : AH} {P : PT} (k : ∃ n_as2, hT h as2 = some (100, n_as2) ∧ vp_in ((is1 * is0) + i3) n_as2 ∧ P (.inl (some (vI (hI h as2 (((is1 * is0) + i3).toNatClampNeg))))) h) : Ev d 95 61 [vR (some a0), vI i1, vI i2, vI i3] [vI is0, vI is1, vR (some as2)] h P := by
  refine Ev.step rfl (Ev.step rfl (Ev.step rfl ?_))
  obtain ⟨n_as2, t1, k⟩ := k
  obtain ⟨q2, k⟩ := k
  refine Ev.step rfl ⟨⟨_, Or.inl t1, q2⟩, ?_⟩
  refine Ev.step rfl ⟨rfl, (fun e => Bool.noConfusion (show false = true from e)), k⟩
theorem w96_0 {d a0 : Nat} {i1 i2 : Int32} {h : AH} {P : PT} (Aa0 : OB h a0 16 kM) (k : Ev d 88 0 [vR (some a0), vI i1] [] h (CK d 96 P 3 [vR (some a0), vI i1, vI i2, vU, vU, vU] [vR (some a0)])) : Ev (d + 1) 96 0 [vR (some a0), vI i1, vI i2, vU, vU, vU] [] h P := by
  refine Ev.step rfl (Ev.step rfl (Ev.step rfl ?_))
  exact Ev.step rfl ⟨(Nat.le_of_ble_eq_true rfl), _, _, _, Aa0.1, rfl, (Nat.le_of_ble_eq_true rfl), rfl, k⟩
theorem w96_6 {d a0 as1 : Nat} {i1 i2 is0 : Int32} {w3 w4 w5 : AV} {h : AH} {P : PT} (k : ((is0 = 0 → Ev d 96 14 [vR (some a0), vI i1, vI i2, w3, w4, w5] [vI 1, vR (some as1)] h P) ∧ (¬ is0 = 0 → Ev d 96 14 [vR (some a0), vI i1, vI i2, w3, w4, w5] [vI 0, vR (some as1)] h P))) : Ev d 96 6 [vR (some a0), vI i1, vI i2, w3, w4, w5] [vI is0, vR (some as1)] h P := by
  refine Ev.step rfl ⟨fun c => ?_, fun c => ?_⟩
  · replace k := k.1 c
    refine Ev.step rfl ?_
    exact k
  · replace k := k.2 c
    refine Ev.step rfl (Ev.step rfl ?_)
    exact k
theorem w96_14 {d a0 as1 : Nat} {i1 i2 is0 : Int32} {w3 w4 w5 : AV} {h : AH} {P : PT} (Aas1 : OB h as1 16 kM) (Aa0 : OB h a0 16 kM) (k : (((hI (wI h as1 224 is0) a0 224) ≤ 0 → Ev d 96 31 [vR (some a0), vI i1, vI i2, vI (-1), vI 0, w5] [] (wI h as1 224 is0) P) ∧ (0 < (hI (wI h as1 224 is0) a0 224) → P (.inl (some (vI 0))) (wI h as1 224 is0)))) : Ev d 96 14 [vR (some a0), vI i1, vI i2, w3, w4, w5] [vI is0, vR (some as1)] h P := by
  refine Ev.step rfl ⟨(fk Aas1.1 rfl), ?_⟩
  refine Ev.step rfl ?_
  refine Ev.step rfl ⟨(fk Aa0.1 rfl), ?_⟩
  refine Ev.step rfl ⟨fun c => ?_, fun c => ?_⟩
  · replace k := k.1 c
    refine Ev.step rfl (Ev.step rfl (Ev.step rfl (Ev.step rfl ?_)))
    exact k
  · replace k := k.2 (Int32.not_le.mp c)
    refine Ev.step rfl ?_
    refine Ev.step rfl ⟨rfl, (fun e => Bool.noConfusion (show false = true from e)), k⟩
theorem w96_31 {d a0 : Nat} {i1 i2 i3 i4 : Int32} {w5 : AV} {h : AH} {P : PT} (Aa0 : OB h a0 16 kM) (k : (((hI h a0 244) ≤ i4 → ((0 ≤ i3 → Ev d 96 123 [vR (some a0), vI i1, vI i2, vI i3, vI i4, w5] [vI 0, vR (some a0)] h P) ∧ (i3 < 0 → Ev d 96 123 [vR (some a0), vI i1, vI i2, vI i3, vI i4, w5] [vI 2, vR (some a0)] h P))) ∧ (i4 < (hI h a0 244) → vp_in i4 48 ∧ ((¬ (hI h (a0 + 4) i4.toNatClampNeg) = i1 → Ev d 96 69 [vR (some a0), vI i1, vI i2, vI i3, vI i4, w5] [vI 0] h P) ∧ ((hI h (a0 + 4) i4.toNatClampNeg) = i1 → vp_in (4 * i4) 192 ∧ (((hI h (a0 + 5) ((4 * i4).toNatClampNeg)) < i2 → Ev d 96 69 [vR (some a0), vI i1, vI i2, vI i3, vI i4, w5] [vI 0] h P) ∧ (i2 ≤ (hI h (a0 + 5) ((4 * i4).toNatClampNeg)) → Ev d 96 69 [vR (some a0), vI i1, vI i2, vI i3, vI i4, w5] [vI 1] h P))))))) : Ev d 96 31 [vR (some a0), vI i1, vI i2, vI i3, vI i4, w5] [] h P := by
  refine Ev.step rfl (Ev.step rfl ?_)
  refine Ev.step rfl ⟨(fk Aa0.1 rfl), ?_⟩
  refine Ev.step rfl ⟨fun c => ?_, fun c => ?_⟩
  · replace k := k.1 c
    refine Ev.step rfl (Ev.step rfl ?_)
    refine Ev.step rfl ⟨fun c => ?_, fun c => ?_⟩
    · replace k := k.1 c
      refine Ev.step rfl ?_
      exact k
    · replace k := k.2 (Int32.not_le.mp c)
      refine Ev.step rfl (Ev.step rfl ?_)
      exact k
  · replace k := k.2 (Int32.not_le.mp c)
    refine Ev.step rfl ?_
    refine e_gR rfl rfl (fk Aa0.1 rfl) Aa0.2.2.2.2.1.1 ?_
    refine Ev.step rfl ?_
    obtain ⟨q1, k⟩ := k
    refine Ev.step rfl ⟨⟨_, Or.inl Aa0.2.2.2.2.1.2, q1⟩, ?_⟩
    refine Ev.step rfl ?_
    refine Ev.step rfl ⟨fun c => ?_, fun c => ?_⟩
    · replace k := k.1 c
      refine Ev.step rfl ?_
      exact k
    · replace k := k.2 (Decidable.not_not.mp c)
      refine Ev.step rfl ?_
      refine e_gR rfl rfl (fk Aa0.1 rfl) Aa0.2.2.2.2.2.1.1 ?_
      refine Ev.step rfl (Ev.step rfl (Ev.step rfl ?_))
      obtain ⟨q2, k⟩ := k
      refine Ev.step rfl ⟨⟨_, Or.inl Aa0.2.2.2.2.2.1.2, q2⟩, ?_⟩
      refine Ev.step rfl ?_
      refine Ev.step rfl ⟨fun c => ?_, fun c => ?_⟩
      · replace k := k.1 c
        refine Ev.step rfl ?_
        exact k
      · replace k := k.2 (Int32.not_lt.mp c)
        refine Ev.step rfl (Ev.step rfl ?_)
        exact k
theorem w96_69 {d a0 : Nat} {i1 i2 i3 i4 is0 : Int32} {w5 : AV} {h : AH} {P : PT} (Aa0 : OB h a0 16 kM) (k : ((is0 = 0 → Ev d 96 106 [vR (some a0), vI i1, vI i2, vI i3, vI i4, vI is0] [vI i3] h P) ∧ (¬ is0 = 0 → ((i3 < 0 → Ev d 96 106 [vR (some a0), vI i1, vI i2, vI i3, vI i4, vI is0] [vI i4] h P) ∧ (0 ≤ i3 → vp_in (4 * i4) 192 ∧ vp_in (4 * i3) 192 ∧ (((hI h (a0 + 5) ((4 * i3).toNatClampNeg)) ≤ (hI h (a0 + 5) ((4 * i4).toNatClampNeg)) → Ev d 96 106 [vR (some a0), vI i1, vI i2, vI i3, vI i4, vI is0] [vI i3] h P) ∧ ((hI h (a0 + 5) ((4 * i4).toNatClampNeg)) < (hI h (a0 + 5) ((4 * i3).toNatClampNeg)) → Ev d 96 106 [vR (some a0), vI i1, vI i2, vI i3, vI i4, vI is0] [vI i4] h P))))))) : Ev d 96 69 [vR (some a0), vI i1, vI i2, vI i3, vI i4, w5] [vI is0] h P := by
  refine Ev.step rfl (Ev.step rfl ?_)
  refine Ev.step rfl ⟨fun c => ?_, fun c => ?_⟩
  · replace k := k.1 c
    refine Ev.step rfl ?_
    exact k
  · replace k := k.2 c
    refine Ev.step rfl ?_
    refine Ev.step rfl ⟨fun c => ?_, fun c => ?_⟩
    · replace k := k.1 c
      refine Ev.step rfl (Ev.step rfl ?_)
      exact k
    · replace k := k.2 (Int32.not_lt.mp c)
      refine Ev.step rfl ?_
      refine e_gR rfl rfl (fk Aa0.1 rfl) Aa0.2.2.2.2.2.1.1 ?_
      refine Ev.step rfl (Ev.step rfl (Ev.step rfl ?_))
      obtain ⟨q1, k⟩ := k
      refine Ev.step rfl ⟨⟨_, Or.inl Aa0.2.2.2.2.2.1.2, q1⟩, ?_⟩
      refine Ev.step rfl ?_
      refine e_gR rfl rfl (fk Aa0.1 rfl) Aa0.2.2.2.2.2.1.1 ?_
      refine Ev.step rfl (Ev.step rfl (Ev.step rfl ?_))
      obtain ⟨q2, k⟩ := k
      refine Ev.step rfl ⟨⟨_, Or.inl Aa0.2.2.2.2.2.1.2, q2⟩, ?_⟩
      refine Ev.step rfl ⟨fun c => ?_, fun c => ?_⟩
      · replace k := k.1 c
        refine Ev.step rfl ?_
        exact k
      · replace k := k.2 (Int32.not_le.mp c)
        refine Ev.step rfl (Ev.step rfl ?_)
        exact k
theorem w96_106 {d a0 : Nat} {i1 i2 i3 i4 i5 is0 : Int32} {h : AH} {P : PT} (k : Ev d 96 31 [vR (some a0), vI i1, vI i2, vI is0, vI (i4 + 1), vI i5] [] h P) : Ev d 96 106 [vR (some a0), vI i1, vI i2, vI i3, vI i4, vI i5] [vI is0] h P := by
  refine Ev.step rfl (Ev.step rfl (Ev.step rfl ?_))
  exact k
theorem w96_123 {d a0 as1 : Nat} {i1 i2 i3 i4 is0 : Int32} {w5 : AV} {h : AH} {P : PT} (Aas1 : OB h as1 16 kM) (Aa0 : OB h a0 16 kM) (k : ((0 ≤ i3 → vp_in (4 * i3) 192 ∧ P (.inl (some (vI (hI (wI h as1 224 is0) (a0 + 5) ((4 * i3).toNatClampNeg))))) (wI h as1 224 is0)) ∧ (i3 < 0 → P (.inl (some (vI 0))) (wI h as1 224 is0)))) : Ev d 96 123 [vR (some a0), vI i1, vI i2, vI i3, vI i4, w5] [vI is0, vR (some as1)] h P := by
  refine Ev.step rfl ⟨(fk Aas1.1 rfl), ?_⟩
  refine Ev.step rfl ?_
  refine Ev.step rfl ⟨fun c => ?_, fun c => ?_⟩
  · replace k := k.1 c
    refine Ev.step rfl ?_
    refine e_gR rfl rfl (fk Aa0.1 rfl) Aa0.2.2.2.2.2.1.1 ?_
    refine Ev.step rfl (Ev.step rfl (Ev.step rfl ?_))
    obtain ⟨q1, k⟩ := k
    refine Ev.step rfl ⟨⟨_, Or.inl Aa0.2.2.2.2.2.1.2, q1⟩, ?_⟩
    refine Ev.step rfl ⟨rfl, (fun e => Bool.noConfusion (show false = true from e)), k⟩
  · replace k := k.2 (Int32.not_le.mp c)
    refine Ev.step rfl (Ev.step rfl ?_)
    refine Ev.step rfl ⟨rfl, (fun e => Bool.noConfusion (show false = true from e)), k⟩
theorem w97_0 {d a0 : Nat} {i1 : Int32} {h : AH} {P : PT} (Aa0 : OB h a0 16 kM) (k : Ev d 88 0 [vR (some a0), vI i1] [] (wI h a0 224 0) (CK d 97 P 7 [vR (some a0), vI i1] [])) : Ev (d + 1) 97 0 [vR (some a0), vI i1] [] h P := by
  refine Ev.step rfl (Ev.step rfl ?_)
  refine Ev.step rfl ⟨(fk Aa0.1 rfl), ?_⟩
  refine Ev.step rfl (Ev.step rfl ?_)
  exact Ev.step rfl ⟨(Nat.le_of_ble_eq_true rfl), _, _, _, Aa0.1, rfl, (Nat.le_of_ble_eq_true rfl), rfl, k⟩
theorem w97_10 {d a0 : Nat} {i1 is0 : Int32} {h : AH} {P : PT} (Aa0 : OB h a0 16 kM) (k : ((is0 = 0 → P (.inl (some (vI (-1)))) h) ∧ (¬ is0 = 0 → Ev d 93 0 [vR (some a0), vI i1, vU, vU] [] h (CK d 97 P 15 [vR (some a0), vI i1] [])))) : Ev (d + 1) 97 10 [vR (some a0), vI i1] [vI is0] h P := by
  refine Ev.step rfl ⟨fun c => ?_, fun c => ?_⟩
  · replace k := k.1 c
    refine Ev.step rfl ?_
    refine Ev.step rfl ⟨rfl, (fun e => Bool.noConfusion (show false = true from e)), k⟩
  · replace k := k.2 c
    refine Ev.step rfl (Ev.step rfl ?_)
    exact Ev.step rfl ⟨(Nat.le_of_ble_eq_true rfl), _, _, _, Aa0.1, rfl, (Nat.le_of_ble_eq_true rfl), rfl, k⟩
theorem w97_18 {d a0 : Nat} {i1 is0 : Int32} {h : AH} {P : PT} (k : P (.inl (some (vI is0))) h) : Ev d 97 18 [vR (some a0), vI i1] [vI is0] h P := by
  refine Ev.step rfl ?_
  refine Ev.step rfl ⟨rfl, (fun e => Bool.noConfusion (show false = true from e)), k⟩
theorem w98_0 {d a0 : Nat} {i1 : Int32} {h : AH} {P : PT} (Aa0 : OB h a0 16 kM) (k : ((¬ (hI (wI h a0 224 0) a0 256) = 40 → vp_in (hI (wI h a0 224 0) a0 256) 40 ∧ P (.inl (some (vI 1))) (wI (wI (wI h a0 224 0) (a0 + 6) ((hI (wI h a0 224 0) a0 256).toNatClampNeg) i1) a0 256 ((hI (wI (wI h a0 224 0) (a0 + 6) ((hI (wI h a0 224 0) a0 256).toNatClampNeg) i1) a0 256) + 1))) ∧ ((hI (wI h a0 224 0) a0 256) = 40 → P (.inl (some (vI 0))) (wI h a0 224 0)))) : Ev d 98 0 [vR (some a0), vI i1] [] h P := by
  refine Ev.step rfl (Ev.step rfl ?_)
  refine Ev.step rfl ⟨(fk Aa0.1 rfl), ?_⟩
  refine Ev.step rfl ?_
  refine Ev.step rfl ⟨(fk Aa0.1 rfl), ?_⟩
  refine Ev.step rfl ?_
  refine Ev.step rfl ⟨fun c => ?_, fun c => ?_⟩
  · replace k := k.1 c
    refine Ev.step rfl ?_
    refine e_gR rfl rfl (fk Aa0.1 rfl) Aa0.2.2.2.2.2.2.1.1 ?_
    refine Ev.step rfl ?_
    refine Ev.step rfl ⟨(fk Aa0.1 rfl), ?_⟩
    refine Ev.step rfl ?_
    obtain ⟨q1, k⟩ := k
    refine Ev.step rfl ⟨⟨_, Aa0.2.2.2.2.2.2.1.2, q1⟩, ?_⟩
    refine Ev.step rfl (Ev.step rfl ?_)
    refine Ev.step rfl ⟨(fk Aa0.1 rfl), ?_⟩
    refine Ev.step rfl (Ev.step rfl ?_)
    refine Ev.step rfl ⟨(fk Aa0.1 rfl), ?_⟩
    refine Ev.step rfl ?_
    refine Ev.step rfl ⟨rfl, (fun _ => Or.inr rfl), k⟩
  · replace k := k.2 (Decidable.not_not.mp c)
    refine Ev.step rfl ?_
    refine Ev.step rfl ⟨rfl, (fun _ => Or.inl rfl), k⟩
theorem w99_0 {d a0 : Nat} {h : AH} {P : PT} (Aa0 : OB h a0 16 kM) (k : P (.inl (some (vI (hI (wI h a0 224 0) a0 256)))) (wI (wI h a0 224 0) a0 256 0)) : Ev d 99 0 [vR (some a0), vU] [] h P := by
  refine Ev.step rfl (Ev.step rfl ?_)
  refine Ev.step rfl ⟨(fk Aa0.1 rfl), ?_⟩
  refine Ev.step rfl ?_
  refine Ev.step rfl ⟨(fk Aa0.1 rfl), ?_⟩
  refine Ev.step rfl (Ev.step rfl (Ev.step rfl ?_))
  refine Ev.step rfl ⟨(fk Aa0.1 rfl), ?_⟩
  refine Ev.step rfl ?_
  refine Ev.step rfl ⟨rfl, (fun e => Bool.noConfusion (show false = true from e)), k⟩
