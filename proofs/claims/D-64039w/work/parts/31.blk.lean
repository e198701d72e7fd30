/-! deps: 25 -/
/-! blocks (printed by gen_blocks.py) -/
theorem w118_0 {d a0 : Nat} {i1 i2 i3 : Int32} {h : AH} {P : PT} (k : Ev d 118 3 [vR (some a0), vI i1, vI i2, vI i3, vI 0] [] h P) : Ev d 118 0 [vR (some a0), vI i1, vI i2, vI i3, vU] [] h P := by
  refine Ev.step rfl (Ev.step rfl ?_)
  exact k
theorem w118_3 {d a0 : Nat} {i1 i2 i3 i4 : Int32} {h : AH} {P : PT} (Aa0 : OB h a0 16 kM) (k : ((i3 ≤ i4 → P (.inl none) (wI h a0 304 (i2 + i3))) ∧ (i4 < i3 → vp_in ((4 * i1) + i4) 192 ∧ vp_in (i2 + i4) 8 ∧ Ev d 118 3 [vR (some a0), vI i1, vI i2, vI i3, vI (i4 + 1)] [] (wI h (a0 + 10) ((i2 + i4).toNatClampNeg) (hI h (a0 + 5) (((4 * i1) + i4).toNatClampNeg))) P))) : Ev d 118 3 [vR (some a0), vI i1, vI i2, vI i3, vI i4] [] h P := by
  refine Ev.step rfl (Ev.step rfl ?_)
  refine Ev.step rfl ⟨fun c => ?_, fun c => ?_⟩
  · replace k := k.1 c
    refine Ev.step rfl (Ev.step rfl (Ev.step rfl (Ev.step rfl ?_)))
    refine Ev.step rfl ⟨(fk Aa0.1 rfl), ?_⟩
    refine Ev.step rfl ⟨rfl, k⟩
  · replace k := k.2 (Int32.not_le.mp c)
    refine Ev.step rfl ?_
    refine e_gR rfl rfl (fk Aa0.1 rfl) Aa0.2.2.2.2.2.2.2.2.2.2.1.1 ?_
    refine Ev.step rfl (Ev.step rfl (Ev.step rfl (Ev.step rfl ?_)))
    refine e_gR rfl rfl (fk Aa0.1 rfl) Aa0.2.2.2.2.2.1.1 ?_
    refine Ev.step rfl (Ev.step rfl (Ev.step rfl (Ev.step rfl (Ev.step rfl ?_))))
    obtain ⟨q1, k⟩ := k
    refine Ev.step rfl ⟨⟨_, Or.inl Aa0.2.2.2.2.2.1.2, q1⟩, ?_⟩
    obtain ⟨q2, k⟩ := k
    refine Ev.step rfl ⟨⟨_, Aa0.2.2.2.2.2.2.2.2.2.2.1.2, q2⟩, ?_⟩
    refine Ev.step rfl (Ev.step rfl ?_)
    exact k
theorem w119_0 {d a0 : Nat} {i1 : Int32} {h : AH} {P : PT} (k : Ev d 119 2 [vR (some a0), vI i1, vI i1, vU] [] h P) : Ev d 119 0 [vR (some a0), vI i1, vU, vU] [] h P := by
  refine Ev.step rfl (Ev.step rfl ?_)
  exact k
theorem w119_2 {d a0 : Nat} {i1 i2 : Int32} {w3 : AV} {h : AH} {P : PT} (Aa0 : OB h a0 16 kM) (k : (((hI h a0 264) ≤ i2 → (((hI h a0 264) ≤ i2 → ((((hI h a0 344) + (hI h a0 304)) ≤ 64 → Ev (d + 1) 119 59 [vR (some a0), vI i1, vI i2, vI 0] [] (wI h a0 303 0) P) ∧ (64 < ((hI h a0 344) + (hI h a0 304)) → Ev (d + 1) 119 59 [vR (some a0), vI i1, vI i2, vI 0] [] (wI h a0 303 1) P))) ∧ (i2 < (hI h a0 264) → P (.inl none) h))) ∧ (i2 < (hI h a0 264) → Ev d 120 0 [vR (some a0), vI i2, vU] [] h (CK d 119 P 12 [vR (some a0), vI i1, vI i2, w3] [])))) : Ev (d + 1) 119 2 [vR (some a0), vI i1, vI i2, w3] [] h P := by
  refine Ev.step rfl (Ev.step rfl ?_)
  refine Ev.step rfl ⟨(fk Aa0.1 rfl), ?_⟩
  refine Ev.step rfl ⟨fun c => ?_, fun c => ?_⟩
  · replace k := k.1 c
    refine Ev.step rfl (Ev.step rfl ?_)
    refine Ev.step rfl ⟨(fk Aa0.1 rfl), ?_⟩
    refine Ev.step rfl ⟨fun c => ?_, fun c => ?_⟩
    · replace k := k.1 c
      refine Ev.step rfl (Ev.step rfl ?_)
      refine Ev.step rfl ⟨(fk Aa0.1 rfl), ?_⟩
      refine Ev.step rfl ?_
      refine Ev.step rfl ⟨(fk Aa0.1 rfl), ?_⟩
      refine Ev.step rfl (Ev.step rfl ?_)
      refine Ev.step rfl ⟨fun c => ?_, fun c => ?_⟩
      · replace k := k.1 c
        refine Ev.step rfl ?_
        refine Ev.step rfl ⟨(Or.inl rfl), (fk Aa0.1 rfl), ?_⟩
        refine Ev.step rfl (Ev.step rfl ?_)
        exact k
      · replace k := k.2 (Int32.not_le.mp c)
        refine Ev.step rfl (Ev.step rfl ?_)
        refine Ev.step rfl ⟨(Or.inr rfl), (fk Aa0.1 rfl), ?_⟩
        refine Ev.step rfl (Ev.step rfl ?_)
        exact k
    · replace k := k.2 (Int32.not_le.mp c)
      refine Ev.step rfl ⟨rfl, k⟩
  · replace k := k.2 (Int32.not_le.mp c)
    refine Ev.step rfl (Ev.step rfl ?_)
    exact Ev.step rfl ⟨(Nat.le_of_ble_eq_true rfl), _, _, _, Aa0.1, rfl, (Nat.le_of_ble_eq_true rfl), rfl, k⟩
theorem w119_15 {d a0 : Nat} {i1 i2 is0 : Int32} {w3 : AV} {h : AH} {P : PT} (Aa0 : OB h a0 16 kM) (k : ((is0 = 0 → (((hI h a0 264) ≤ i2 → ((((hI h a0 344) + (hI h a0 304)) ≤ 64 → Ev d 119 59 [vR (some a0), vI i1, vI i2, vI 0] [] (wI h a0 303 0) P) ∧ (64 < ((hI h a0 344) + (hI h a0 304)) → Ev d 119 59 [vR (some a0), vI i1, vI i2, vI 0] [] (wI h a0 303 1) P))) ∧ (i2 < (hI h a0 264) → P (.inl none) h))) ∧ (¬ is0 = 0 → Ev d 119 2 [vR (some a0), vI i1, vI (i2 + 1), w3] [] h P))) : Ev d 119 15 [vR (some a0), vI i1, vI i2, w3] [vI is0] h P := by
  refine Ev.step rfl ⟨fun c => ?_, fun c => ?_⟩
  · replace k := k.1 c
    refine Ev.step rfl (Ev.step rfl ?_)
    refine Ev.step rfl ⟨(fk Aa0.1 rfl), ?_⟩
    refine Ev.step rfl ⟨fun c => ?_, fun c => ?_⟩
    · replace k := k.1 c
      refine Ev.step rfl (Ev.step rfl ?_)
      refine Ev.step rfl ⟨(fk Aa0.1 rfl), ?_⟩
      refine Ev.step rfl ?_
      refine Ev.step rfl ⟨(fk Aa0.1 rfl), ?_⟩
      refine Ev.step rfl (Ev.step rfl ?_)
      refine Ev.step rfl ⟨fun c => ?_, fun c => ?_⟩
      · replace k := k.1 c
        refine Ev.step rfl ?_
        refine Ev.step rfl ⟨(Or.inl rfl), (fk Aa0.1 rfl), ?_⟩
        refine Ev.step rfl (Ev.step rfl ?_)
        exact k
      · replace k := k.2 (Int32.not_le.mp c)
        refine Ev.step rfl (Ev.step rfl ?_)
        refine Ev.step rfl ⟨(Or.inr rfl), (fk Aa0.1 rfl), ?_⟩
        refine Ev.step rfl (Ev.step rfl ?_)
        exact k
    · replace k := k.2 (Int32.not_le.mp c)
      refine Ev.step rfl ⟨rfl, k⟩
  · replace k := k.2 c
    refine Ev.step rfl (Ev.step rfl (Ev.step rfl (Ev.step rfl (Ev.step rfl ?_))))
    exact k
theorem w119_59 {d a0 : Nat} {i1 i2 i3 : Int32} {h : AH} {P : PT} (Aa0 : OB h a0 16 kM) (k : (((hI h a0 304) ≤ i3 → (((hI h a0 303) = 0 → P (.inl none) (wI h a0 344 ((hI h a0 344) + (hI h a0 304)))) ∧ (¬ (hI h a0 303) = 0 → P (.inl none) (wI h a0 344 (hI h a0 344))))) ∧ (i3 < (hI h a0 304) → ((¬ (hI h a0 303) = 0 → (((hI h a0 303) = 0 → P (.inl none) (wI h a0 344 ((hI h a0 344) + (hI h a0 304)))) ∧ (¬ (hI h a0 303) = 0 → P (.inl none) (wI h a0 344 (hI h a0 344))))) ∧ ((hI h a0 303) = 0 → vp_in i3 8 ∧ vp_in ((hI h a0 344) + i3) 64 ∧ Ev d 119 59 [vR (some a0), vI i1, vI i2, vI (i3 + 1)] [] (wI h (a0 + 15) (((hI h a0 344) + i3).toNatClampNeg) (hI h (a0 + 10) i3.toNatClampNeg)) P))))) : Ev d 119 59 [vR (some a0), vI i1, vI i2, vI i3] [] h P := by
  refine Ev.step rfl (Ev.step rfl ?_)
  refine Ev.step rfl ⟨(fk Aa0.1 rfl), ?_⟩
  refine Ev.step rfl ⟨fun c => ?_, fun c => ?_⟩
  · replace k := k.1 c
    refine Ev.step rfl (Ev.step rfl ?_)
    refine Ev.step rfl ⟨(fk Aa0.1 rfl), ?_⟩
    refine Ev.step rfl ⟨fun c => ?_, fun c => ?_⟩
    · replace k := k.1 c
      refine Ev.step rfl ?_
      refine Ev.step rfl ⟨(fk Aa0.1 rfl), ?_⟩
      refine Ev.step rfl ?_
      refine Ev.step rfl ⟨(fk Aa0.1 rfl), ?_⟩
      refine Ev.step rfl ?_
      refine Ev.step rfl ⟨(fk Aa0.1 rfl), ?_⟩
      refine Ev.step rfl ⟨rfl, k⟩
    · replace k := k.2 c
      refine Ev.step rfl ?_
      refine Ev.step rfl ⟨(fk Aa0.1 rfl), ?_⟩
      refine Ev.step rfl ?_
      refine Ev.step rfl ⟨(fk Aa0.1 rfl), ?_⟩
      refine Ev.step rfl ⟨rfl, k⟩
  · replace k := k.2 (Int32.not_le.mp c)
    refine Ev.step rfl ?_
    refine Ev.step rfl ⟨(fk Aa0.1 rfl), ?_⟩
    refine Ev.step rfl ⟨fun c => ?_, fun c => ?_⟩
    · replace k := k.1 c
      refine Ev.step rfl (Ev.step rfl ?_)
      refine Ev.step rfl ⟨(fk Aa0.1 rfl), ?_⟩
      refine Ev.step rfl ⟨fun c => ?_, fun c => ?_⟩
      · replace k := k.1 c
        refine Ev.step rfl ?_
        refine Ev.step rfl ⟨(fk Aa0.1 rfl), ?_⟩
        refine Ev.step rfl ?_
        refine Ev.step rfl ⟨(fk Aa0.1 rfl), ?_⟩
        refine Ev.step rfl ?_
        refine Ev.step rfl ⟨(fk Aa0.1 rfl), ?_⟩
        refine Ev.step rfl ⟨rfl, k⟩
      · replace k := k.2 c
        refine Ev.step rfl ?_
        refine Ev.step rfl ⟨(fk Aa0.1 rfl), ?_⟩
        refine Ev.step rfl ?_
        refine Ev.step rfl ⟨(fk Aa0.1 rfl), ?_⟩
        refine Ev.step rfl ⟨rfl, k⟩
    · replace k := k.2 (Decidable.not_not.mp c)
      refine Ev.step rfl ?_
      refine e_gR rfl rfl (fk Aa0.1 rfl) Aa0.2.2.2.2.2.2.2.2.2.2.2.2.2.2.2.1.1 ?_
      refine Ev.step rfl ?_
      refine Ev.step rfl ⟨(fk Aa0.1 rfl), ?_⟩
      refine Ev.step rfl (Ev.step rfl (Ev.step rfl ?_))
      refine e_gR rfl rfl (fk Aa0.1 rfl) Aa0.2.2.2.2.2.2.2.2.2.2.1.1 ?_
      refine Ev.step rfl ?_
      obtain ⟨q1, k⟩ := k
      refine Ev.step rfl ⟨⟨_, Or.inl Aa0.2.2.2.2.2.2.2.2.2.2.1.2, q1⟩, ?_⟩
      obtain ⟨q2, k⟩ := k
      refine Ev.step rfl ⟨⟨_, Aa0.2.2.2.2.2.2.2.2.2.2.2.2.2.2.2.1.2, q2⟩, ?_⟩
      refine Ev.step rfl (Ev.step rfl ?_)
      exact k
theorem w120_0 {d a0 : Nat} {i1 : Int32} {h : AH} {P : PT} (Aa0 : OB h a0 16 kM) (k : vp_in i1 40 ∧ (((hI h (a0 + 7) i1.toNatClampNeg) = 3 → vp_in i1 40 ∧ vp_in ((hI h (a0 + 8) i1.toNatClampNeg) + 1) 40 ∧ vp_in i1 40 ∧ vp_in (hI h (a0 + 8) i1.toNatClampNeg) 40 ∧ vp_in (hI h (a0 + 6) ((hI h (a0 + 8) i1.toNatClampNeg).toNatClampNeg)) 8 ∧ vp_in i1 40 ∧ vp_in ((hI h (a0 + 8) i1.toNatClampNeg) + 2) 40 ∧ Ev d 121 0 [vI (hI h (a0 + 6) (((hI h (a0 + 8) i1.toNatClampNeg) + 1).toNatClampNeg)), vI (hI h (a0 + 10) ((hI h (a0 + 6) ((hI h (a0 + 8) i1.toNatClampNeg).toNatClampNeg)).toNatClampNeg)), vI (hI h (a0 + 6) (((hI h (a0 + 8) i1.toNatClampNeg) + 2).toNatClampNeg))] [] h (CK d 120 P 90 [vR (some a0), vI i1, vU] [])) ∧ ((hI h (a0 + 7) i1.toNatClampNeg) = 4 → Ev d 122 0 [vR (some a0), vI i1, vU, vU] [] h (CK d 120 P 96 [vR (some a0), vI i1, vU] [])) ∧ ((hI h (a0 + 7) i1.toNatClampNeg) = 5 → vp_in i1 40 ∧ Ev d 123 0 [vR (some a0), vI i1, vI (hI h (a0 + 9) i1.toNatClampNeg), vU] [] h (CK d 120 P 109 [vR (some a0), vI i1, vU] [])) ∧ ((hI h (a0 + 7) i1.toNatClampNeg) = 6 → vp_in i1 40 ∧ vp_in i1 40 ∧ vp_in (hI h (a0 + 8) i1.toNatClampNeg) 40 ∧ (((hI h (a0 + 6) ((hI h (a0 + 8) i1.toNatClampNeg).toNatClampNeg)) ≤ (hI h (a0 + 11) i1.toNatClampNeg) → Ev (d + 1) 120 139 [vR (some a0), vI i1, vU] [vI 0] h P) ∧ ((hI h (a0 + 11) i1.toNatClampNeg) < (hI h (a0 + 6) ((hI h (a0 + 8) i1.toNatClampNeg).toNatClampNeg)) → Ev (d + 1) 120 139 [vR (some a0), vI i1, vU] [vI 1] h P))) ∧ ((hI h (a0 + 7) i1.toNatClampNeg) = 7 → vp_in i1 40 ∧ vp_in i1 40 ∧ P (.inl (some (vI 1))) (wI h (a0 + 11) i1.toNatClampNeg ((hI h (a0 + 11) i1.toNatClampNeg) + 1))) ∧ ((hI h (a0 + 7) i1.toNatClampNeg) = 8 → vp_in i1 40 ∧ vp_in i1 40 ∧ P (.inl (some (vI 0))) (wI h (a0 + 11) i1.toNatClampNeg ((hI h (a0 + 11) i1.toNatClampNeg) + 1))) ∧ ((hI h (a0 + 7) i1.toNatClampNeg) = 9 → vp_in i1 40 ∧ vp_in i1 40 ∧ vp_in (hI h (a0 + 8) i1.toNatClampNeg) 40 ∧ vp_in (hI h (a0 + 6) ((hI h (a0 + 8) i1.toNatClampNeg).toNatClampNeg)) 8 ∧ vp_in i1 40 ∧ P (.inl (some (vI 0))) (wI h (a0 + 11) i1.toNatClampNeg ((hI h (a0 + 11) i1.toNatClampNeg) + (hI h (a0 + 10) ((hI h (a0 + 6) ((hI h (a0 + 8) i1.toNatClampNeg).toNatClampNeg)).toNatClampNeg))))) ∧ ((hI h (a0 + 7) i1.toNatClampNeg).toInt < 3 ∨ 10 ≤ (hI h (a0 + 7) i1.toNatClampNeg).toInt → Ev d 124 0 [vR (some a0), vI i1, vU, vU] [] h (CK d 120 P 242 [vR (some a0), vI i1, vU] [])))) : Ev (d + 1) 120 0 [vR (some a0), vI i1, vU] [] h P := by
  refine Ev.step rfl ?_
  refine e_gR rfl rfl (fk Aa0.1 rfl) Aa0.2.2.2.2.2.2.2.1.1 ?_
  refine Ev.step rfl ?_
  obtain ⟨q1, k⟩ := k
  refine Ev.step rfl ⟨⟨_, Or.inl Aa0.2.2.2.2.2.2.2.1.2, q1⟩, ?_⟩
  refine Ev.step rfl ⟨⟨fun c => ?_, fun c => ?_, fun c => ?_, fun c => ?_, fun c => ?_, fun c => ?_, fun c => ?_, trivial⟩, fun c => ?_⟩
  · replace k := k.1 c
    refine Ev.step rfl ?_
    refine e_gR rfl rfl (fk Aa0.1 rfl) Aa0.2.2.2.2.2.2.1.1 ?_
    refine Ev.step rfl ?_
    refine e_gR rfl rfl (fk Aa0.1 rfl) Aa0.2.2.2.2.2.2.2.2.1.1 ?_
    refine Ev.step rfl ?_
    obtain ⟨q2, k⟩ := k
    refine Ev.step rfl ⟨⟨_, Or.inl Aa0.2.2.2.2.2.2.2.2.1.2, q2⟩, ?_⟩
    refine Ev.step rfl (Ev.step rfl ?_)
    obtain ⟨q3, k⟩ := k
    refine Ev.step rfl ⟨⟨_, Or.inl Aa0.2.2.2.2.2.2.1.2, q3⟩, ?_⟩
    refine Ev.step rfl ?_
    refine e_gR rfl rfl (fk Aa0.1 rfl) Aa0.2.2.2.2.2.2.2.2.2.2.1.1 ?_
    refine Ev.step rfl ?_
    refine e_gR rfl rfl (fk Aa0.1 rfl) Aa0.2.2.2.2.2.2.1.1 ?_
    refine Ev.step rfl ?_
    refine e_gR rfl rfl (fk Aa0.1 rfl) Aa0.2.2.2.2.2.2.2.2.1.1 ?_
    refine Ev.step rfl ?_
    obtain ⟨q4, k⟩ := k
    refine Ev.step rfl ⟨⟨_, Or.inl Aa0.2.2.2.2.2.2.2.2.1.2, q4⟩, ?_⟩
    obtain ⟨q5, k⟩ := k
    refine Ev.step rfl ⟨⟨_, Or.inl Aa0.2.2.2.2.2.2.1.2, q5⟩, ?_⟩
    obtain ⟨q6, k⟩ := k
    refine Ev.step rfl ⟨⟨_, Or.inl Aa0.2.2.2.2.2.2.2.2.2.2.1.2, q6⟩, ?_⟩
    refine Ev.step rfl ?_
    refine e_gR rfl rfl (fk Aa0.1 rfl) Aa0.2.2.2.2.2.2.1.1 ?_
    refine Ev.step rfl ?_
    refine e_gR rfl rfl (fk Aa0.1 rfl) Aa0.2.2.2.2.2.2.2.2.1.1 ?_
    refine Ev.step rfl ?_
    obtain ⟨q7, k⟩ := k
    refine Ev.step rfl ⟨⟨_, Or.inl Aa0.2.2.2.2.2.2.2.2.1.2, q7⟩, ?_⟩
    refine Ev.step rfl (Ev.step rfl ?_)
    obtain ⟨q8, k⟩ := k
    refine Ev.step rfl ⟨⟨_, Or.inl Aa0.2.2.2.2.2.2.1.2, q8⟩, ?_⟩
    exact Ev.step rfl ⟨(Nat.le_of_ble_eq_true rfl), (Nat.le_of_ble_eq_true rfl), rfl, k⟩
  · replace k := k.2.1 c
    refine Ev.step rfl (Ev.step rfl ?_)
    exact Ev.step rfl ⟨(Nat.le_of_ble_eq_true rfl), _, _, _, Aa0.1, rfl, (Nat.le_of_ble_eq_true rfl), rfl, k⟩
  · replace k := k.2.2.1 c
    refine Ev.step rfl (Ev.step rfl (Ev.step rfl ?_))
    refine e_gR rfl rfl (fk Aa0.1 rfl) Aa0.2.2.2.2.2.2.2.2.2.1.1 ?_
    refine Ev.step rfl ?_
    obtain ⟨q9, k⟩ := k
    refine Ev.step rfl ⟨⟨_, Or.inl Aa0.2.2.2.2.2.2.2.2.2.1.2, q9⟩, ?_⟩
    exact Ev.step rfl ⟨(Nat.le_of_ble_eq_true rfl), _, _, _, Aa0.1, rfl, (Nat.le_of_ble_eq_true rfl), rfl, k⟩
  · replace k := k.2.2.2.1 c
    refine Ev.step rfl ?_
    refine e_gR rfl rfl (fk Aa0.1 rfl) Aa0.2.2.2.2.2.2.2.2.2.2.2.1.1 ?_
    refine Ev.step rfl ?_
    obtain ⟨q10, k⟩ := k
    refine Ev.step rfl ⟨⟨_, Or.inl Aa0.2.2.2.2.2.2.2.2.2.2.2.1.2, q10⟩, ?_⟩
    refine Ev.step rfl ?_
    refine e_gR rfl rfl (fk Aa0.1 rfl) Aa0.2.2.2.2.2.2.1.1 ?_
    refine Ev.step rfl ?_
    refine e_gR rfl rfl (fk Aa0.1 rfl) Aa0.2.2.2.2.2.2.2.2.1.1 ?_
    refine Ev.step rfl ?_
    obtain ⟨q11, k⟩ := k
    refine Ev.step rfl ⟨⟨_, Or.inl Aa0.2.2.2.2.2.2.2.2.1.2, q11⟩, ?_⟩
    obtain ⟨q12, k⟩ := k
    refine Ev.step rfl ⟨⟨_, Or.inl Aa0.2.2.2.2.2.2.1.2, q12⟩, ?_⟩
    refine Ev.step rfl ⟨fun c => ?_, fun c => ?_⟩
    · replace k := k.1 c
      refine Ev.step rfl ?_
      exact k
    · replace k := k.2 (Int32.not_le.mp c)
      refine Ev.step rfl (Ev.step rfl ?_)
      exact k
  · replace k := k.2.2.2.2.1 c
    refine Ev.step rfl ?_
    refine e_gR rfl rfl (fk Aa0.1 rfl) Aa0.2.2.2.2.2.2.2.2.2.2.2.1.1 ?_
    refine Ev.step rfl (Ev.step rfl ?_)
    refine e_gR rfl rfl (fk Aa0.1 rfl) Aa0.2.2.2.2.2.2.2.2.2.2.2.1.1 ?_
    refine Ev.step rfl ?_
    obtain ⟨q13, k⟩ := k
    refine Ev.step rfl ⟨⟨_, Or.inl Aa0.2.2.2.2.2.2.2.2.2.2.2.1.2, q13⟩, ?_⟩
    refine Ev.step rfl (Ev.step rfl ?_)
    obtain ⟨q14, k⟩ := k
    refine Ev.step rfl ⟨⟨_, Aa0.2.2.2.2.2.2.2.2.2.2.2.1.2, q14⟩, ?_⟩
    refine Ev.step rfl ?_
    refine Ev.step rfl ⟨rfl, (fun _ => Or.inr rfl), k⟩
  · replace k := k.2.2.2.2.2.1 c
    refine Ev.step rfl ?_
    refine e_gR rfl rfl (fk Aa0.1 rfl) Aa0.2.2.2.2.2.2.2.2.2.2.2.1.1 ?_
    refine Ev.step rfl (Ev.step rfl ?_)
    refine e_gR rfl rfl (fk Aa0.1 rfl) Aa0.2.2.2.2.2.2.2.2.2.2.2.1.1 ?_
    refine Ev.step rfl ?_
    obtain ⟨q15, k⟩ := k
    refine Ev.step rfl ⟨⟨_, Or.inl Aa0.2.2.2.2.2.2.2.2.2.2.2.1.2, q15⟩, ?_⟩
    refine Ev.step rfl (Ev.step rfl ?_)
    obtain ⟨q16, k⟩ := k
    refine Ev.step rfl ⟨⟨_, Aa0.2.2.2.2.2.2.2.2.2.2.2.1.2, q16⟩, ?_⟩
    refine Ev.step rfl ?_
    refine Ev.step rfl ⟨rfl, (fun _ => Or.inl rfl), k⟩
  · replace k := k.2.2.2.2.2.2.1 c
    refine Ev.step rfl ?_
    refine e_gR rfl rfl (fk Aa0.1 rfl) Aa0.2.2.2.2.2.2.2.2.2.2.2.1.1 ?_
    refine Ev.step rfl (Ev.step rfl ?_)
    refine e_gR rfl rfl (fk Aa0.1 rfl) Aa0.2.2.2.2.2.2.2.2.2.2.2.1.1 ?_
    refine Ev.step rfl ?_
    obtain ⟨q17, k⟩ := k
    refine Ev.step rfl ⟨⟨_, Or.inl Aa0.2.2.2.2.2.2.2.2.2.2.2.1.2, q17⟩, ?_⟩
    refine Ev.step rfl ?_
    refine e_gR rfl rfl (fk Aa0.1 rfl) Aa0.2.2.2.2.2.2.2.2.2.2.1.1 ?_
    refine Ev.step rfl ?_
    refine e_gR rfl rfl (fk Aa0.1 rfl) Aa0.2.2.2.2.2.2.1.1 ?_
    refine Ev.step rfl ?_
    refine e_gR rfl rfl (fk Aa0.1 rfl) Aa0.2.2.2.2.2.2.2.2.1.1 ?_
    refine Ev.step rfl ?_
    obtain ⟨q18, k⟩ := k
    refine Ev.step rfl ⟨⟨_, Or.inl Aa0.2.2.2.2.2.2.2.2.1.2, q18⟩, ?_⟩
    obtain ⟨q19, k⟩ := k
    refine Ev.step rfl ⟨⟨_, Or.inl Aa0.2.2.2.2.2.2.1.2, q19⟩, ?_⟩
    obtain ⟨q20, k⟩ := k
    refine Ev.step rfl ⟨⟨_, Or.inl Aa0.2.2.2.2.2.2.2.2.2.2.1.2, q20⟩, ?_⟩
    refine Ev.step rfl ?_
    obtain ⟨q21, k⟩ := k
    refine Ev.step rfl ⟨⟨_, Aa0.2.2.2.2.2.2.2.2.2.2.2.1.2, q21⟩, ?_⟩
    refine Ev.step rfl ?_
    refine Ev.step rfl ⟨rfl, (fun _ => Or.inl rfl), k⟩
  · replace k := k.2.2.2.2.2.2.2 c
    refine Ev.step rfl (Ev.step rfl ?_)
    exact Ev.step rfl ⟨(Nat.le_of_ble_eq_true rfl), _, _, _, Aa0.1, rfl, (Nat.le_of_ble_eq_true rfl), rfl, k⟩
theorem w120_93 {d a0 : Nat} {i1 is0 : Int32} {w2 : AV} {h : AH} {P : PT} (k : isB is0 ∧ P (.inl (some (vI is0))) h) : Ev d 120 93 [vR (some a0), vI i1, w2] [vI is0] h P := by
  obtain ⟨q1, k⟩ := k
  refine Ev.step rfl ⟨rfl, (fun _ => q1), k⟩
theorem w120_99 {d a0 : Nat} {i1 : Int32} {w2 : AV} {h : AH} {P : PT} (k : P (.inl (some (vI 1))) h) : Ev d 120 99 [vR (some a0), vI i1, w2] [] h P := by
  refine Ev.step rfl ?_
  refine Ev.step rfl ⟨rfl, (fun _ => Or.inr rfl), k⟩
theorem w120_112 {d a0 : Nat} {i1 : Int32} {w2 : AV} {h : AH} {P : PT} (k : P (.inl (some (vI 0))) h) : Ev d 120 112 [vR (some a0), vI i1, w2] [] h P := by
  refine Ev.step rfl ?_
  refine Ev.step rfl ⟨rfl, (fun _ => Or.inl rfl), k⟩
theorem w120_139 {d a0 : Nat} {i1 is0 : Int32} {w2 : AV} {h : AH} {P : PT} (Aa0 : OB h a0 16 kM) (k : ((is0 = 0 → vp_in i1 40 ∧ Ev d 120 166 [vR (some a0), vI i1, vI is0] [vI (hI h (a0 + 11) i1.toNatClampNeg), vI i1, vR (some (a0 + 11))] h P) ∧ (¬ is0 = 0 → vp_in i1 40 ∧ Ev d 120 166 [vR (some a0), vI i1, vI is0] [vI ((hI h (a0 + 11) i1.toNatClampNeg) + 1), vI i1, vR (some (a0 + 11))] h P))) : Ev d 120 139 [vR (some a0), vI i1, w2] [vI is0] h P := by
  refine Ev.step rfl (Ev.step rfl ?_)
  refine e_gR rfl rfl (fk Aa0.1 rfl) Aa0.2.2.2.2.2.2.2.2.2.2.2.1.1 ?_
  refine Ev.step rfl (Ev.step rfl ?_)
  refine Ev.step rfl ⟨fun c => ?_, fun c => ?_⟩
  · replace k := k.1 c
    refine Ev.step rfl ?_
    refine e_gR rfl rfl (fk Aa0.1 rfl) Aa0.2.2.2.2.2.2.2.2.2.2.2.1.1 ?_
    refine Ev.step rfl ?_
    obtain ⟨q1, k⟩ := k
    refine Ev.step rfl ⟨⟨_, Or.inl Aa0.2.2.2.2.2.2.2.2.2.2.2.1.2, q1⟩, ?_⟩
    exact k
  · replace k := k.2 c
    refine Ev.step rfl ?_
    refine e_gR rfl rfl (fk Aa0.1 rfl) Aa0.2.2.2.2.2.2.2.2.2.2.2.1.1 ?_
    refine Ev.step rfl ?_
    obtain ⟨q2, k⟩ := k
    refine Ev.step rfl ⟨⟨_, Or.inl Aa0.2.2.2.2.2.2.2.2.2.2.2.1.2, q2⟩, ?_⟩
    refine Ev.step rfl (Ev.step rfl (Ev.step rfl ?_))
    exact k
theorem w120_166 {d a0 as2 : Nat} {i1 i2 is0 is1 : Int32} {h : AH} {P : PT} (k : ∃ n_as2, hT h as2 = some (100, n_as2) ∧ vp_in is1 n_as2 ∧ ((¬ i2 = 0 → P (.inl (some (vI 0))) (wI h as2 is1.toNatClampNeg is0)) ∧ (i2 = 0 → P (.inl (some (vI 1))) (wI h as2 is1.toNatClampNeg is0)))) : Ev d 120 166 [vR (some a0), vI i1, vI i2] [vI is0, vI is1, vR (some as2)] h P := by
  obtain ⟨n_as2, t1, k⟩ := k
  obtain ⟨q2, k⟩ := k
  refine Ev.step rfl ⟨⟨_, t1, q2⟩, ?_⟩
  refine Ev.step rfl ?_
  refine Ev.step rfl ⟨fun c => ?_, fun c => ?_⟩
  · replace k := k.1 c
    refine Ev.step rfl ?_
    refine Ev.step rfl ⟨rfl, (fun _ => Or.inl rfl), k⟩
  · replace k := k.2 (Decidable.not_not.mp c)
    refine Ev.step rfl (Ev.step rfl ?_)
    refine Ev.step rfl ⟨rfl, (fun _ => Or.inr rfl), k⟩
theorem w120_245 {d a0 : Nat} {i1 is0 : Int32} {w2 : AV} {h : AH} {P : PT} (k : isB is0 ∧ P (.inl (some (vI is0))) h) : Ev d 120 245 [vR (some a0), vI i1, w2] [vI is0] h P := by
  obtain ⟨q1, k⟩ := k
  refine Ev.step rfl ⟨rfl, (fun _ => q1), k⟩
theorem w121_0 {d : Nat} {i0 i1 i2 : Int32} {h : AH} {P : PT} (k : ((i0 = 0 → ((i2 ≤ i1 → P (.inl (some (vI 0))) h) ∧ (i1 < i2 → P (.inl (some (vI 1))) h))) ∧ (i0 = 1 → ((i2 < i1 → P (.inl (some (vI 0))) h) ∧ (i1 ≤ i2 → P (.inl (some (vI 1))) h))) ∧ (i0 = 2 → ((¬ i1 = i2 → P (.inl (some (vI 0))) h) ∧ (i1 = i2 → P (.inl (some (vI 1))) h))) ∧ (i0 = 3 → ((i1 = i2 → P (.inl (some (vI 0))) h) ∧ (¬ i1 = i2 → P (.inl (some (vI 1))) h))) ∧ (i0 = 4 → ((i1 < i2 → P (.inl (some (vI 0))) h) ∧ (i2 ≤ i1 → P (.inl (some (vI 1))) h))) ∧ (i0.toInt < 0 ∨ 5 ≤ i0.toInt → ((i1 ≤ i2 → P (.inl (some (vI 0))) h) ∧ (i2 < i1 → P (.inl (some (vI 1))) h))))) : Ev d 121 0 [vI i0, vI i1, vI i2] [] h P := by
  refine Ev.step rfl ?_
  refine Ev.step rfl ⟨⟨fun c => ?_, fun c => ?_, fun c => ?_, fun c => ?_, fun c => ?_, trivial⟩, fun c => ?_⟩
  · replace k := k.1 c
    refine Ev.step rfl (Ev.step rfl ?_)
    refine Ev.step rfl ⟨fun c => ?_, fun c => ?_⟩
    · replace k := k.1 c
      refine Ev.step rfl ?_
      refine Ev.step rfl ⟨rfl, (fun _ => Or.inl rfl), k⟩
    · replace k := k.2 (Int32.not_le.mp c)
      refine Ev.step rfl (Ev.step rfl ?_)
      refine Ev.step rfl ⟨rfl, (fun _ => Or.inr rfl), k⟩
  · replace k := k.2.1 c
    refine Ev.step rfl (Ev.step rfl ?_)
    refine Ev.step rfl ⟨fun c => ?_, fun c => ?_⟩
    · replace k := k.1 c
      refine Ev.step rfl ?_
      refine Ev.step rfl ⟨rfl, (fun _ => Or.inl rfl), k⟩
    · replace k := k.2 (Int32.not_lt.mp c)
      refine Ev.step rfl (Ev.step rfl ?_)
      refine Ev.step rfl ⟨rfl, (fun _ => Or.inr rfl), k⟩
  · replace k := k.2.2.1 c
    refine Ev.step rfl (Ev.step rfl ?_)
    refine Ev.step rfl ⟨fun c => ?_, fun c => ?_⟩
    · replace k := k.1 c
      refine Ev.step rfl ?_
      refine Ev.step rfl ⟨rfl, (fun _ => Or.inl rfl), k⟩
    · replace k := k.2 (Decidable.not_not.mp c)
      refine Ev.step rfl (Ev.step rfl ?_)
      refine Ev.step rfl ⟨rfl, (fun _ => Or.inr rfl), k⟩
  · replace k := k.2.2.2.1 c
    refine Ev.step rfl (Ev.step rfl ?_)
    refine Ev.step rfl ⟨fun c => ?_, fun c => ?_⟩
    · replace k := k.1 c
      refine Ev.step rfl ?_
      refine Ev.step rfl ⟨rfl, (fun _ => Or.inl rfl), k⟩
    · replace k := k.2 c
      refine Ev.step rfl (Ev.step rfl ?_)
      refine Ev.step rfl ⟨rfl, (fun _ => Or.inr rfl), k⟩
  · replace k := k.2.2.2.2.1 c
    refine Ev.step rfl (Ev.step rfl ?_)
    refine Ev.step rfl ⟨fun c => ?_, fun c => ?_⟩
    · replace k := k.1 c
      refine Ev.step rfl ?_
      refine Ev.step rfl ⟨rfl, (fun _ => Or.inl rfl), k⟩
    · replace k := k.2 (Int32.not_lt.mp c)
      refine Ev.step rfl (Ev.step rfl ?_)
      refine Ev.step rfl ⟨rfl, (fun _ => Or.inr rfl), k⟩
  · replace k := k.2.2.2.2.2 c
    refine Ev.step rfl (Ev.step rfl ?_)
    refine Ev.step rfl ⟨fun c => ?_, fun c => ?_⟩
    · replace k := k.1 c
      refine Ev.step rfl ?_
      refine Ev.step rfl ⟨rfl, (fun _ => Or.inl rfl), k⟩
    · replace k := k.2 (Int32.not_le.mp c)
      refine Ev.step rfl (Ev.step rfl ?_)
      refine Ev.step rfl ⟨rfl, (fun _ => Or.inr rfl), k⟩
theorem w122_0 {d a0 : Nat} {i1 : Int32} {h : AH} {P : PT} (Aa0 : OB h a0 16 kM) (k : vp_in i1 40 ∧ vp_in (hI h (a0 + 8) i1.toNatClampNeg) 40 ∧ Ev d 122 14 [vR (some a0), vI i1, vI (hI h (a0 + 6) ((hI h (a0 + 8) i1.toNatClampNeg).toNatClampNeg)), vI 0] [] h P) : Ev d 122 0 [vR (some a0), vI i1, vU, vU] [] h P := by
  refine Ev.step rfl ?_
  refine e_gR rfl rfl (fk Aa0.1 rfl) Aa0.2.2.2.2.2.2.1.1 ?_
  refine Ev.step rfl ?_
  refine e_gR rfl rfl (fk Aa0.1 rfl) Aa0.2.2.2.2.2.2.2.2.1.1 ?_
  refine Ev.step rfl ?_
  obtain ⟨q1, k⟩ := k
  refine Ev.step rfl ⟨⟨_, Or.inl Aa0.2.2.2.2.2.2.2.2.1.2, q1⟩, ?_⟩
  obtain ⟨q2, k⟩ := k
  refine Ev.step rfl ⟨⟨_, Or.inl Aa0.2.2.2.2.2.2.1.2, q2⟩, ?_⟩
  refine Ev.step rfl (Ev.step rfl (Ev.step rfl ?_))
  exact k
theorem w122_14 {d a0 : Nat} {i1 i2 i3 : Int32} {h : AH} {P : PT} (Aa0 : OB h a0 16 kM) (k : ((8 ≤ i3 → Ev d 122 45 [vR (some a0), vI i1, vI i2, vI 0] [] h P) ∧ (i3 < 8 → vp_in i3 8 ∧ vp_in ((8 * i1) + i3) 320 ∧ Ev d 122 14 [vR (some a0), vI i1, vI i2, vI (i3 + 1)] [] (wI h (a0 + 14) (((8 * i1) + i3).toNatClampNeg) (hI h (a0 + 10) i3.toNatClampNeg)) P))) : Ev d 122 14 [vR (some a0), vI i1, vI i2, vI i3] [] h P := by
  refine Ev.step rfl (Ev.step rfl ?_)
  refine Ev.step rfl ⟨fun c => ?_, fun c => ?_⟩
  · replace k := k.1 c
    refine Ev.step rfl (Ev.step rfl ?_)
    exact k
  · replace k := k.2 (Int32.not_le.mp c)
    refine Ev.step rfl ?_
    refine e_gR rfl rfl (fk Aa0.1 rfl) Aa0.2.2.2.2.2.2.2.2.2.2.2.2.2.2.1.1 ?_
    refine Ev.step rfl (Ev.step rfl (Ev.step rfl (Ev.step rfl (Ev.step rfl (Ev.step rfl ?_)))))
    refine e_gR rfl rfl (fk Aa0.1 rfl) Aa0.2.2.2.2.2.2.2.2.2.2.1.1 ?_
    refine Ev.step rfl ?_
    obtain ⟨q1, k⟩ := k
    refine Ev.step rfl ⟨⟨_, Or.inl Aa0.2.2.2.2.2.2.2.2.2.2.1.2, q1⟩, ?_⟩
    obtain ⟨q2, k⟩ := k
    refine Ev.step rfl ⟨⟨_, Aa0.2.2.2.2.2.2.2.2.2.2.2.2.2.2.1.2, q2⟩, ?_⟩
    refine Ev.step rfl (Ev.step rfl ?_)
    exact k
theorem w122_45 {d a0 : Nat} {i1 i2 i3 : Int32} {h : AH} {P : PT} (Aa0 : OB h a0 16 kM) (k : ((i2 ≤ i3 → P (.inl none) (wI h a0 304 i2)) ∧ (i3 < i2 → vp_in i1 40 ∧ vp_in (((hI h (a0 + 8) i1.toNatClampNeg) + 1) + i3) 40 ∧ vp_in ((8 * i1) + (hI h (a0 + 6) ((((hI h (a0 + 8) i1.toNatClampNeg) + 1) + i3).toNatClampNeg))) 320 ∧ vp_in i3 8 ∧ Ev d 122 45 [vR (some a0), vI i1, vI i2, vI (i3 + 1)] [] (wI h (a0 + 10) i3.toNatClampNeg (hI h (a0 + 14) (((8 * i1) + (hI h (a0 + 6) ((((hI h (a0 + 8) i1.toNatClampNeg) + 1) + i3).toNatClampNeg))).toNatClampNeg))) P))) : Ev d 122 45 [vR (some a0), vI i1, vI i2, vI i3] [] h P := by
  refine Ev.step rfl (Ev.step rfl ?_)
  refine Ev.step rfl ⟨fun c => ?_, fun c => ?_⟩
  · replace k := k.1 c
    refine Ev.step rfl (Ev.step rfl ?_)
    refine Ev.step rfl ⟨(fk Aa0.1 rfl), ?_⟩
    refine Ev.step rfl ⟨rfl, k⟩
  · replace k := k.2 (Int32.not_le.mp c)
    refine Ev.step rfl ?_
    refine e_gR rfl rfl (fk Aa0.1 rfl) Aa0.2.2.2.2.2.2.2.2.2.2.1.1 ?_
    refine Ev.step rfl (Ev.step rfl ?_)
    refine e_gR rfl rfl (fk Aa0.1 rfl) Aa0.2.2.2.2.2.2.2.2.2.2.2.2.2.2.1.1 ?_
    refine Ev.step rfl (Ev.step rfl (Ev.step rfl (Ev.step rfl ?_)))
    refine e_gR rfl rfl (fk Aa0.1 rfl) Aa0.2.2.2.2.2.2.1.1 ?_
    refine Ev.step rfl ?_
    refine e_gR rfl rfl (fk Aa0.1 rfl) Aa0.2.2.2.2.2.2.2.2.1.1 ?_
    refine Ev.step rfl ?_
    obtain ⟨q1, k⟩ := k
    refine Ev.step rfl ⟨⟨_, Or.inl Aa0.2.2.2.2.2.2.2.2.1.2, q1⟩, ?_⟩
    refine Ev.step rfl (Ev.step rfl (Ev.step rfl (Ev.step rfl ?_)))
    obtain ⟨q2, k⟩ := k
    refine Ev.step rfl ⟨⟨_, Or.inl Aa0.2.2.2.2.2.2.1.2, q2⟩, ?_⟩
    refine Ev.step rfl ?_
    obtain ⟨q3, k⟩ := k
    refine Ev.step rfl ⟨⟨_, Or.inl Aa0.2.2.2.2.2.2.2.2.2.2.2.2.2.2.1.2, q3⟩, ?_⟩
    obtain ⟨q4, k⟩ := k
    refine Ev.step rfl ⟨⟨_, Aa0.2.2.2.2.2.2.2.2.2.2.1.2, q4⟩, ?_⟩
    refine Ev.step rfl (Ev.step rfl ?_)
    exact k
theorem w123_0 {d a0 : Nat} {i1 i2 : Int32} {h : AH} {P : PT} (k : Ev d 123 2 [vR (some a0), vI i1, vI i2, vI 0] [] h P) : Ev d 123 0 [vR (some a0), vI i1, vI i2, vU] [] h P := by
  refine Ev.step rfl (Ev.step rfl ?_)
  exact k
theorem w123_2 {d a0 : Nat} {i1 i2 i3 : Int32} {h : AH} {P : PT} (Aa0 : OB h a0 16 kM) (k : ((i2 ≤ i3 → vp_in i1 40 ∧ vp_in i1 40 ∧ P (.inl none) (wI (wI h (a0 + 13) i1.toNatClampNeg 1) (a0 + 11) i1.toNatClampNeg 0)) ∧ (i3 < i2 → vp_in i3 8 ∧ vp_in ((8 * i1) + i3) 320 ∧ Ev d 123 2 [vR (some a0), vI i1, vI i2, vI (i3 + 1)] [] (wI h (a0 + 14) (((8 * i1) + i3).toNatClampNeg) (hI h (a0 + 10) i3.toNatClampNeg)) P))) : Ev d 123 2 [vR (some a0), vI i1, vI i2, vI i3] [] h P := by
  refine Ev.step rfl (Ev.step rfl ?_)
  refine Ev.step rfl ⟨fun c => ?_, fun c => ?_⟩
  · replace k := k.1 c
    refine Ev.step rfl ?_
    refine e_gR rfl rfl (fk Aa0.1 rfl) Aa0.2.2.2.2.2.2.2.2.2.2.2.2.2.1.1 ?_
    refine Ev.step rfl (Ev.step rfl ?_)
    obtain ⟨q1, k⟩ := k
    refine Ev.step rfl ⟨(Or.inr rfl), ⟨_, Aa0.2.2.2.2.2.2.2.2.2.2.2.2.2.1.2, q1⟩, ?_⟩
    refine Ev.step rfl ?_
    refine e_gR rfl rfl (fk Aa0.1 rfl) Aa0.2.2.2.2.2.2.2.2.2.2.2.1.1 ?_
    refine Ev.step rfl (Ev.step rfl ?_)
    obtain ⟨q2, k⟩ := k
    refine Ev.step rfl ⟨⟨_, Aa0.2.2.2.2.2.2.2.2.2.2.2.1.2, q2⟩, ?_⟩
    refine Ev.step rfl ⟨rfl, k⟩
  · replace k := k.2 (Int32.not_le.mp c)
    refine Ev.step rfl ?_
    refine e_gR rfl rfl (fk Aa0.1 rfl) Aa0.2.2.2.2.2.2.2.2.2.2.2.2.2.2.1.1 ?_
    refine Ev.step rfl (Ev.step rfl (Ev.step rfl (Ev.step rfl (Ev.step rfl (Ev.step rfl ?_)))))
    refine e_gR rfl rfl (fk Aa0.1 rfl) Aa0.2.2.2.2.2.2.2.2.2.2.1.1 ?_
    refine Ev.step rfl ?_
    obtain ⟨q3, k⟩ := k
    refine Ev.step rfl ⟨⟨_, Or.inl Aa0.2.2.2.2.2.2.2.2.2.2.1.2, q3⟩, ?_⟩
    obtain ⟨q4, k⟩ := k
    refine Ev.step rfl ⟨⟨_, Aa0.2.2.2.2.2.2.2.2.2.2.2.2.2.2.1.2, q4⟩, ?_⟩
    refine Ev.step rfl (Ev.step rfl ?_)
    exact k
theorem w124_0 {d a0 : Nat} {i1 : Int32} {h : AH} {P : PT} (Aa0 : OB h a0 16 kM) (k : vp_in i1 40 ∧ vp_in (hI h (a0 + 8) i1.toNatClampNeg) 40 ∧ vp_in (hI h (a0 + 6) ((hI h (a0 + 8) i1.toNatClampNeg).toNatClampNeg)) 8 ∧ vp_in i1 40 ∧ (((hI h (a0 + 13) i1.toNatClampNeg) = 0 → Ev d 124 41 [vR (some a0), vI i1, vI (hI h (a0 + 10) ((hI h (a0 + 6) ((hI h (a0 + 8) i1.toNatClampNeg).toNatClampNeg)).toNatClampNeg)), vU] [vI 0] h P) ∧ (¬ (hI h (a0 + 13) i1.toNatClampNeg) = 0 → vp_in i1 40 ∧ (((hI h (a0 + 12) i1.toNatClampNeg) = (hI h (a0 + 10) ((hI h (a0 + 6) ((hI h (a0 + 8) i1.toNatClampNeg).toNatClampNeg)).toNatClampNeg)) → Ev d 124 41 [vR (some a0), vI i1, vI (hI h (a0 + 10) ((hI h (a0 + 6) ((hI h (a0 + 8) i1.toNatClampNeg).toNatClampNeg)).toNatClampNeg)), vU] [vI 0] h P) ∧ (¬ (hI h (a0 + 12) i1.toNatClampNeg) = (hI h (a0 + 10) ((hI h (a0 + 6) ((hI h (a0 + 8) i1.toNatClampNeg).toNatClampNeg)).toNatClampNeg)) → Ev d 124 41 [vR (some a0), vI i1, vI (hI h (a0 + 10) ((hI h (a0 + 6) ((hI h (a0 + 8) i1.toNatClampNeg).toNatClampNeg)).toNatClampNeg)), vU] [vI 1] h P))))) : Ev d 124 0 [vR (some a0), vI i1, vU, vU] [] h P := by
  refine Ev.step rfl ?_
  refine e_gR rfl rfl (fk Aa0.1 rfl) Aa0.2.2.2.2.2.2.2.2.2.2.1.1 ?_
  refine Ev.step rfl ?_
  refine e_gR rfl rfl (fk Aa0.1 rfl) Aa0.2.2.2.2.2.2.1.1 ?_
  refine Ev.step rfl ?_
  refine e_gR rfl rfl (fk Aa0.1 rfl) Aa0.2.2.2.2.2.2.2.2.1.1 ?_
  refine Ev.step rfl ?_
  obtain ⟨q1, k⟩ := k
  refine Ev.step rfl ⟨⟨_, Or.inl Aa0.2.2.2.2.2.2.2.2.1.2, q1⟩, ?_⟩
  obtain ⟨q2, k⟩ := k
  refine Ev.step rfl ⟨⟨_, Or.inl Aa0.2.2.2.2.2.2.1.2, q2⟩, ?_⟩
  obtain ⟨q3, k⟩ := k
  refine Ev.step rfl ⟨⟨_, Or.inl Aa0.2.2.2.2.2.2.2.2.2.2.1.2, q3⟩, ?_⟩
  refine Ev.step rfl (Ev.step rfl ?_)
  refine e_gR rfl rfl (fk Aa0.1 rfl) Aa0.2.2.2.2.2.2.2.2.2.2.2.2.2.1.1 ?_
  refine Ev.step rfl ?_
  obtain ⟨q4, k⟩ := k
  refine Ev.step rfl ⟨⟨_, Aa0.2.2.2.2.2.2.2.2.2.2.2.2.2.1.2, q4⟩, ?_⟩
  refine Ev.step rfl ⟨fun c => ?_, fun c => ?_⟩
  · replace k := k.1 c
    refine Ev.step rfl ?_
    exact k
  · replace k := k.2 c
    refine Ev.step rfl ?_
    refine e_gR rfl rfl (fk Aa0.1 rfl) Aa0.2.2.2.2.2.2.2.2.2.2.2.2.1.1 ?_
    refine Ev.step rfl ?_
    obtain ⟨q5, k⟩ := k
    refine Ev.step rfl ⟨⟨_, Or.inl Aa0.2.2.2.2.2.2.2.2.2.2.2.2.1.2, q5⟩, ?_⟩
    refine Ev.step rfl ?_
    refine Ev.step rfl ⟨fun c => ?_, fun c => ?_⟩
    · replace k := k.1 c
      refine Ev.step rfl ?_
      exact k
    · replace k := k.2 c
      refine Ev.step rfl (Ev.step rfl ?_)
      exact k
theorem w124_41 {d a0 : Nat} {i1 i2 is0 : Int32} {w3 : AV} {h : AH} {P : PT} (Aa0 : OB h a0 16 kM) (k : ((is0 = 0 → Ev d 124 75 [vR (some a0), vI i1, vI i2, vI is0] [] h P) ∧ (¬ is0 = 0 → vp_in i1 40 ∧ vp_in 0 8 ∧ vp_in i1 40 ∧ vp_in 1 8 ∧ Ev d 124 75 [vR (some a0), vI i1, vI i2, vI is0] [] (wI (wI (wI h (a0 + 10) ((0 : Int32).toNatClampNeg) (hI h (a0 + 12) i1.toNatClampNeg)) (a0 + 10) ((1 : Int32).toNatClampNeg) (hI (wI h (a0 + 10) ((0 : Int32).toNatClampNeg) (hI h (a0 + 12) i1.toNatClampNeg)) (a0 + 11) i1.toNatClampNeg)) a0 304 2) P))) : Ev d 124 41 [vR (some a0), vI i1, vI i2, w3] [vI is0] h P := by
  refine Ev.step rfl (Ev.step rfl ?_)
  refine Ev.step rfl ⟨fun c => ?_, fun c => ?_⟩
  · replace k := k.1 c
    exact k
  · replace k := k.2 c
    refine Ev.step rfl ?_
    refine e_gR rfl rfl (fk Aa0.1 rfl) Aa0.2.2.2.2.2.2.2.2.2.2.1.1 ?_
    refine Ev.step rfl (Ev.step rfl ?_)
    refine e_gR rfl rfl (fk Aa0.1 rfl) Aa0.2.2.2.2.2.2.2.2.2.2.2.2.1.1 ?_
    refine Ev.step rfl ?_
    obtain ⟨q1, k⟩ := k
    refine Ev.step rfl ⟨⟨_, Or.inl Aa0.2.2.2.2.2.2.2.2.2.2.2.2.1.2, q1⟩, ?_⟩
    obtain ⟨q2, k⟩ := k
    refine Ev.step rfl ⟨⟨_, Aa0.2.2.2.2.2.2.2.2.2.2.1.2, q2⟩, ?_⟩
    refine Ev.step rfl ?_
    refine e_gR rfl rfl (fk Aa0.1 rfl) Aa0.2.2.2.2.2.2.2.2.2.2.1.1 ?_
    refine Ev.step rfl (Ev.step rfl ?_)
    refine e_gR rfl rfl (fk Aa0.1 rfl) Aa0.2.2.2.2.2.2.2.2.2.2.2.1.1 ?_
    refine Ev.step rfl ?_
    obtain ⟨q3, k⟩ := k
    refine Ev.step rfl ⟨⟨_, Or.inl Aa0.2.2.2.2.2.2.2.2.2.2.2.1.2, q3⟩, ?_⟩
    obtain ⟨q4, k⟩ := k
    refine Ev.step rfl ⟨⟨_, Aa0.2.2.2.2.2.2.2.2.2.2.1.2, q4⟩, ?_⟩
    refine Ev.step rfl (Ev.step rfl ?_)
    refine Ev.step rfl ⟨(fk Aa0.1 rfl), ?_⟩
    exact k
theorem w124_75 {d a0 : Nat} {i1 i2 i3 : Int32} {h : AH} {P : PT} (Aa0 : OB h a0 16 kM) (k : vp_in i1 40 ∧ (((hI h (a0 + 13) i1.toNatClampNeg) = 0 → Ev d 124 104 [vR (some a0), vI i1, vI i2, vI i3] [vI i1, vR (some (a0 + 11))] h P) ∧ (¬ (hI h (a0 + 13) i1.toNatClampNeg) = 0 → ((¬ i3 = 0 → Ev d 124 104 [vR (some a0), vI i1, vI i2, vI i3] [vI i1, vR (some (a0 + 11))] h P) ∧ (i3 = 0 → vp_in i1 40 ∧ Ev d 124 105 [vR (some a0), vI i1, vI i2, vI i3] [vI ((hI h (a0 + 11) i1.toNatClampNeg) + 1), vI i1, vR (some (a0 + 11))] h P))))) : Ev d 124 75 [vR (some a0), vI i1, vI i2, vI i3] [] h P := by
  refine Ev.step rfl ?_
  refine e_gR rfl rfl (fk Aa0.1 rfl) Aa0.2.2.2.2.2.2.2.2.2.2.2.1.1 ?_
  refine Ev.step rfl (Ev.step rfl ?_)
  refine e_gR rfl rfl (fk Aa0.1 rfl) Aa0.2.2.2.2.2.2.2.2.2.2.2.2.2.1.1 ?_
  refine Ev.step rfl ?_
  obtain ⟨q1, k⟩ := k
  refine Ev.step rfl ⟨⟨_, Aa0.2.2.2.2.2.2.2.2.2.2.2.2.2.1.2, q1⟩, ?_⟩
  refine Ev.step rfl ⟨fun c => ?_, fun c => ?_⟩
  · replace k := k.1 c
    exact k
  · replace k := k.2 c
    refine Ev.step rfl ?_
    refine Ev.step rfl ⟨fun c => ?_, fun c => ?_⟩
    · replace k := k.1 c
      exact k
    · replace k := k.2 (Decidable.not_not.mp c)
      refine Ev.step rfl ?_
      refine e_gR rfl rfl (fk Aa0.1 rfl) Aa0.2.2.2.2.2.2.2.2.2.2.2.1.1 ?_
      refine Ev.step rfl ?_
      obtain ⟨q2, k⟩ := k
      refine Ev.step rfl ⟨⟨_, Or.inl Aa0.2.2.2.2.2.2.2.2.2.2.2.1.2, q2⟩, ?_⟩
      refine Ev.step rfl (Ev.step rfl (Ev.step rfl ?_))
      exact k
theorem w124_104 {d a0 as1 : Nat} {i1 i2 i3 is0 : Int32} {h : AH} {P : PT} (k : Ev d 124 105 [vR (some a0), vI i1, vI i2, vI i3] [vI 1, vI is0, vR (some as1)] h P) : Ev d 124 104 [vR (some a0), vI i1, vI i2, vI i3] [vI is0, vR (some as1)] h P := by
  refine Ev.step rfl ?_
  exact k
theorem w124_105 {d a0 as2 : Nat} {i1 i2 i3 is0 is1 : Int32} {h : AH} {P : PT} (Aa0 : OB h a0 16 kM) (k : ∃ n_as2, hT h as2 = some (100, n_as2) ∧ vp_in is1 n_as2 ∧ vp_in i1 40 ∧ vp_in i1 40 ∧ isB i3 ∧ P (.inl (some (vI i3))) (wI (wI (wI h as2 is1.toNatClampNeg is0) (a0 + 12) i1.toNatClampNeg i2) (a0 + 13) i1.toNatClampNeg 1)) : Ev d 124 105 [vR (some a0), vI i1, vI i2, vI i3] [vI is0, vI is1, vR (some as2)] h P := by
  obtain ⟨n_as2, t1, k⟩ := k
  obtain ⟨q2, k⟩ := k
  refine Ev.step rfl ⟨⟨_, t1, q2⟩, ?_⟩
  refine Ev.step rfl ?_
  refine e_gR rfl rfl (fk Aa0.1 rfl) Aa0.2.2.2.2.2.2.2.2.2.2.2.2.1.1 ?_
  refine Ev.step rfl (Ev.step rfl ?_)
  obtain ⟨q3, k⟩ := k
  refine Ev.step rfl ⟨⟨_, Aa0.2.2.2.2.2.2.2.2.2.2.2.2.1.2, q3⟩, ?_⟩
  refine Ev.step rfl ?_
  refine e_gR rfl rfl (fk Aa0.1 rfl) Aa0.2.2.2.2.2.2.2.2.2.2.2.2.2.1.1 ?_
  refine Ev.step rfl (Ev.step rfl ?_)
  obtain ⟨q4, k⟩ := k
  refine Ev.step rfl ⟨(Or.inr rfl), ⟨_, Aa0.2.2.2.2.2.2.2.2.2.2.2.2.2.1.2, q4⟩, ?_⟩
  refine Ev.step rfl ?_
  obtain ⟨q5, k⟩ := k
  refine Ev.step rfl ⟨rfl, (fun _ => q5), k⟩
theorem w125_0 {d a0 : Nat} {i1 : Int32} {h : AH} {P : PT} (Aa0 : OB h a0 16 kM) (k : vp_in i1 40 ∧ (((hI h (a0 + 7) i1.toNatClampNeg) = 8 → Ev d 125 47 [vR (some a0), vI i1, vU] [vI 1] h P) ∧ (¬ (hI h (a0 + 7) i1.toNatClampNeg) = 8 → vp_in i1 40 ∧ (((hI h (a0 + 7) i1.toNatClampNeg) = 9 → Ev d 125 47 [vR (some a0), vI i1, vU] [vI 1] h P) ∧ (¬ (hI h (a0 + 7) i1.toNatClampNeg) = 9 → vp_in i1 40 ∧ ((¬ (hI h (a0 + 7) i1.toNatClampNeg) = 10 → Ev d 125 47 [vR (some a0), vI i1, vU] [vI 0] h P) ∧ ((hI h (a0 + 7) i1.toNatClampNeg) = 10 → vp_in i1 40 ∧ (((hI h (a0 + 13) i1.toNatClampNeg) = 0 → Ev d 125 47 [vR (some a0), vI i1, vU] [vI 0] h P) ∧ (¬ (hI h (a0 + 13) i1.toNatClampNeg) = 0 → Ev d 125 47 [vR (some a0), vI i1, vU] [vI 1] h P))))))))) : Ev d 125 0 [vR (some a0), vI i1, vU] [] h P := by
  refine Ev.step rfl ?_
  refine e_gR rfl rfl (fk Aa0.1 rfl) Aa0.2.2.2.2.2.2.2.1.1 ?_
  refine Ev.step rfl ?_
  obtain ⟨q1, k⟩ := k
  refine Ev.step rfl ⟨⟨_, Or.inl Aa0.2.2.2.2.2.2.2.1.2, q1⟩, ?_⟩
  refine Ev.step rfl ?_
  refine Ev.step rfl ⟨fun c => ?_, fun c => ?_⟩
  · replace k := k.1 c
    refine Ev.step rfl (Ev.step rfl ?_)
    exact k
  · replace k := k.2 c
    refine Ev.step rfl ?_
    refine e_gR rfl rfl (fk Aa0.1 rfl) Aa0.2.2.2.2.2.2.2.1.1 ?_
    refine Ev.step rfl ?_
    obtain ⟨q2, k⟩ := k
    refine Ev.step rfl ⟨⟨_, Or.inl Aa0.2.2.2.2.2.2.2.1.2, q2⟩, ?_⟩
    refine Ev.step rfl ?_
    refine Ev.step rfl ⟨fun c => ?_, fun c => ?_⟩
    · replace k := k.1 c
      refine Ev.step rfl (Ev.step rfl ?_)
      exact k
    · replace k := k.2 c
      refine Ev.step rfl ?_
      refine e_gR rfl rfl (fk Aa0.1 rfl) Aa0.2.2.2.2.2.2.2.1.1 ?_
      refine Ev.step rfl ?_
      obtain ⟨q3, k⟩ := k
      refine Ev.step rfl ⟨⟨_, Or.inl Aa0.2.2.2.2.2.2.2.1.2, q3⟩, ?_⟩
      refine Ev.step rfl ?_
      refine Ev.step rfl ⟨fun c => ?_, fun c => ?_⟩
      · replace k := k.1 c
        refine Ev.step rfl ?_
        exact k
      · replace k := k.2 (Decidable.not_not.mp c)
        refine Ev.step rfl ?_
        refine e_gR rfl rfl (fk Aa0.1 rfl) Aa0.2.2.2.2.2.2.2.2.2.2.2.2.2.1.1 ?_
        refine Ev.step rfl ?_
        obtain ⟨q4, k⟩ := k
        refine Ev.step rfl ⟨⟨_, Aa0.2.2.2.2.2.2.2.2.2.2.2.2.2.1.2, q4⟩, ?_⟩
        refine Ev.step rfl ⟨fun c => ?_, fun c => ?_⟩
        · replace k := k.1 c
          refine Ev.step rfl ?_
          exact k
        · replace k := k.2 c
          refine Ev.step rfl (Ev.step rfl ?_)
          exact k
theorem w125_47 {d a0 : Nat} {i1 is0 : Int32} {w2 : AV} {h : AH} {P : PT} (Aa0 : OB h a0 16 kM) (k : ((¬ is0 = 0 → vp_in i1 40 ∧ ((¬ (hI h (a0 + 7) i1.toNatClampNeg) = 10 → vp_in i1 40 ∧ Ev d 125 84 [vR (some a0), vI i1, vI is0] [vI (hI h (a0 + 11) i1.toNatClampNeg), vI 0, vR (some (a0 + 10))] h P) ∧ ((hI h (a0 + 7) i1.toNatClampNeg) = 10 → vp_in i1 40 ∧ Ev d 125 84 [vR (some a0), vI i1, vI is0] [vI (hI h (a0 + 12) i1.toNatClampNeg), vI 0, vR (some (a0 + 10))] h P))) ∧ (is0 = 0 → P (.inl none) h))) : Ev d 125 47 [vR (some a0), vI i1, w2] [vI is0] h P := by
  refine Ev.step rfl (Ev.step rfl ?_)
  refine Ev.step rfl ⟨fun c => ?_, fun c => ?_⟩
  · replace k := k.1 c
    refine Ev.step rfl ?_
    refine e_gR rfl rfl (fk Aa0.1 rfl) Aa0.2.2.2.2.2.2.2.2.2.2.1.1 ?_
    refine Ev.step rfl (Ev.step rfl ?_)
    refine e_gR rfl rfl (fk Aa0.1 rfl) Aa0.2.2.2.2.2.2.2.1.1 ?_
    refine Ev.step rfl ?_
    obtain ⟨q1, k⟩ := k
    refine Ev.step rfl ⟨⟨_, Or.inl Aa0.2.2.2.2.2.2.2.1.2, q1⟩, ?_⟩
    refine Ev.step rfl ?_
    refine Ev.step rfl ⟨fun c => ?_, fun c => ?_⟩
    · replace k := k.1 c
      refine Ev.step rfl ?_
      refine e_gR rfl rfl (fk Aa0.1 rfl) Aa0.2.2.2.2.2.2.2.2.2.2.2.1.1 ?_
      refine Ev.step rfl ?_
      obtain ⟨q2, k⟩ := k
      refine Ev.step rfl ⟨⟨_, Or.inl Aa0.2.2.2.2.2.2.2.2.2.2.2.1.2, q2⟩, ?_⟩
      exact k
    · replace k := k.2 (Decidable.not_not.mp c)
      refine Ev.step rfl ?_
      refine e_gR rfl rfl (fk Aa0.1 rfl) Aa0.2.2.2.2.2.2.2.2.2.2.2.2.1.1 ?_
      refine Ev.step rfl ?_
      obtain ⟨q3, k⟩ := k
      refine Ev.step rfl ⟨⟨_, Or.inl Aa0.2.2.2.2.2.2.2.2.2.2.2.2.1.2, q3⟩, ?_⟩
      refine Ev.step rfl ?_
      exact k
  · replace k := k.2 (Decidable.not_not.mp c)
    refine Ev.step rfl ⟨rfl, k⟩
theorem w125_84 {d a0 as2 : Nat} {i1 i2 is0 is1 : Int32} {h : AH} {P : PT} (Aa0 : OB h a0 16 kM) (k : ∃ n_as2, hT h as2 = some (100, n_as2) ∧ vp_in is1 n_as2 ∧ vp_in i1 40 ∧ vp_in 1 8 ∧ vp_in i1 40 ∧ ((¬ (hI (wI (wI h as2 is1.toNatClampNeg is0) (a0 + 10) ((1 : Int32).toNatClampNeg) (hI (wI h as2 is1.toNatClampNeg is0) (a0 + 11) i1.toNatClampNeg)) (a0 + 7) i1.toNatClampNeg) = 10 → Ev d 125 114 [vR (some a0), vI i1, vI i2] [vI 1, vR (some a0)] (wI (wI h as2 is1.toNatClampNeg is0) (a0 + 10) ((1 : Int32).toNatClampNeg) (hI (wI h as2 is1.toNatClampNeg is0) (a0 + 11) i1.toNatClampNeg)) P) ∧ ((hI (wI (wI h as2 is1.toNatClampNeg is0) (a0 + 10) ((1 : Int32).toNatClampNeg) (hI (wI h as2 is1.toNatClampNeg is0) (a0 + 11) i1.toNatClampNeg)) (a0 + 7) i1.toNatClampNeg) = 10 → Ev d 125 114 [vR (some a0), vI i1, vI i2] [vI 2, vR (some a0)] (wI (wI h as2 is1.toNatClampNeg is0) (a0 + 10) ((1 : Int32).toNatClampNeg) (hI (wI h as2 is1.toNatClampNeg is0) (a0 + 11) i1.toNatClampNeg)) P))) : Ev d 125 84 [vR (some a0), vI i1, vI i2] [vI is0, vI is1, vR (some as2)] h P := by
  obtain ⟨n_as2, t1, k⟩ := k
  obtain ⟨q2, k⟩ := k
  refine Ev.step rfl ⟨⟨_, t1, q2⟩, ?_⟩
  refine Ev.step rfl ?_
  refine e_gR rfl rfl (fk Aa0.1 rfl) Aa0.2.2.2.2.2.2.2.2.2.2.1.1 ?_
  refine Ev.step rfl (Ev.step rfl ?_)
  refine e_gR rfl rfl (fk Aa0.1 rfl) Aa0.2.2.2.2.2.2.2.2.2.2.2.1.1 ?_
  refine Ev.step rfl ?_
  obtain ⟨q3, k⟩ := k
  refine Ev.step rfl ⟨⟨_, Or.inl Aa0.2.2.2.2.2.2.2.2.2.2.2.1.2, q3⟩, ?_⟩
  obtain ⟨q4, k⟩ := k
  refine Ev.step rfl ⟨⟨_, Aa0.2.2.2.2.2.2.2.2.2.2.1.2, q4⟩, ?_⟩
  refine Ev.step rfl (Ev.step rfl ?_)
  refine e_gR rfl rfl (fk Aa0.1 rfl) Aa0.2.2.2.2.2.2.2.1.1 ?_
  refine Ev.step rfl ?_
  obtain ⟨q5, k⟩ := k
  refine Ev.step rfl ⟨⟨_, Or.inl Aa0.2.2.2.2.2.2.2.1.2, q5⟩, ?_⟩
  refine Ev.step rfl ?_
  refine Ev.step rfl ⟨fun c => ?_, fun c => ?_⟩
  · replace k := k.1 c
    refine Ev.step rfl ?_
    exact k
  · replace k := k.2 (Decidable.not_not.mp c)
    refine Ev.step rfl (Ev.step rfl ?_)
    exact k
theorem w125_114 {d a0 as1 : Nat} {i1 i2 is0 : Int32} {h : AH} {P : PT} (Aas1 : OB h as1 16 kM) (Aa0 : OB h a0 16 kM) (k : Ev d 119 0 [vR (some a0), vI (i1 + 1), vU, vU] [] (wI h as1 304 is0) (CK d 125 P 121 [vR (some a0), vI i1, vI i2] [])) : Ev (d + 1) 125 114 [vR (some a0), vI i1, vI i2] [vI is0, vR (some as1)] h P := by
  refine Ev.step rfl ⟨(fk Aas1.1 rfl), ?_⟩
  refine Ev.step rfl (Ev.step rfl (Ev.step rfl (Ev.step rfl ?_)))
  exact Ev.step rfl ⟨(Nat.le_of_ble_eq_true rfl), _, _, _, Aa0.1, rfl, (Nat.le_of_ble_eq_true rfl), rfl, k⟩
theorem w125_124 {d a0 : Nat} {i1 i2 : Int32} {h : AH} {P : PT} (k : P (.inl none) h) : Ev d 125 124 [vR (some a0), vI i1, vI i2] [] h P := by
  refine Ev.step rfl ⟨rfl, k⟩
theorem w126_0 {d a0 : Nat} {h : AH} {P : PT} (Aa0 : OB h a0 16 kM) (k : Ev d 127 0 [vR (some a0), vU, vU, vU, vU, vU, vU, vU, vU, vU] [] h (CK d 126 P 1 [vR (some a0), vU] [])) : Ev (d + 1) 126 0 [vR (some a0), vU] [] h P := by
  refine Ev.step rfl ?_
  exact Ev.step rfl ⟨(Nat.le_of_ble_eq_true rfl), _, _, _, Aa0.1, rfl, (Nat.le_of_ble_eq_true rfl), rfl, k⟩
theorem w126_4 {d a0 : Nat} {is0 : Int32} {w1 : AV} {h : AH} {P : PT} (Aa0 : OB h a0 16 kM) (k : ((is0 < 0 → Ev (d + 1) 126 38 [vR (some a0), vI is0] [] h P) ∧ (0 ≤ is0 → Ev d 117 0 [vR (some a0)] [] h (CK d 126 P 10 [vR (some a0), vI is0] [])))) : Ev (d + 1) 126 4 [vR (some a0), w1] [vI is0] h P := by
  refine Ev.step rfl (Ev.step rfl ?_)
  refine Ev.step rfl ⟨fun c => ?_, fun c => ?_⟩
  · replace k := k.1 c
    exact k
  · replace k := k.2 (Int32.not_lt.mp c)
    refine Ev.step rfl ?_
    exact Ev.step rfl ⟨(Nat.le_of_ble_eq_true rfl), _, _, _, Aa0.1, rfl, (Nat.le_of_ble_eq_true rfl), rfl, k⟩
theorem w126_13 {d a0 : Nat} {i1 is0 : Int32} {h : AH} {P : PT} (Aa0 : OB h a0 16 kM) (k : ((is0 = 0 → Ev (d + 1) 126 38 [vR (some a0), vI i1] [] h P) ∧ (¬ is0 = 0 → vp_in 1 40 ∧ vp_in (hI h (a0 + 6) ((1 : Int32).toNatClampNeg)) 4 ∧ Ev d 118 0 [vR (some a0), vI i1, vI 0, vI (hI h (a0 + 1) ((hI h (a0 + 6) ((1 : Int32).toNatClampNeg)).toNatClampNeg)), vU] [] h (CK d 126 P 30 [vR (some a0), vI i1] [])))) : Ev (d + 1) 126 13 [vR (some a0), vI i1] [vI is0] h P := by
  refine Ev.step rfl ⟨fun c => ?_, fun c => ?_⟩
  · replace k := k.1 c
    exact k
  · replace k := k.2 c
    refine Ev.step rfl (Ev.step rfl (Ev.step rfl (Ev.step rfl ?_)))
    refine e_gR rfl rfl (fk Aa0.1 rfl) Aa0.2.1.1 ?_
    refine Ev.step rfl ?_
    refine e_gR rfl rfl (fk Aa0.1 rfl) Aa0.2.2.2.2.2.2.1.1 ?_
    refine Ev.step rfl ?_
    obtain ⟨q1, k⟩ := k
    refine Ev.step rfl ⟨⟨_, Or.inl Aa0.2.2.2.2.2.2.1.2, q1⟩, ?_⟩
    obtain ⟨q2, k⟩ := k
    refine Ev.step rfl ⟨⟨_, Or.inl Aa0.2.1.2, q2⟩, ?_⟩
    exact Ev.step rfl ⟨(Nat.le_of_ble_eq_true rfl), _, _, _, Aa0.1, rfl, (Nat.le_of_ble_eq_true rfl), rfl, k⟩
theorem w126_33 {d a0 : Nat} {i1 : Int32} {h : AH} {P : PT} (Aa0 : OB h a0 16 kM) (k : Ev d 119 0 [vR (some a0), vI 1, vU, vU] [] h (CK d 126 P 35 [vR (some a0), vI i1] [])) : Ev (d + 1) 126 33 [vR (some a0), vI i1] [] h P := by
  refine Ev.step rfl (Ev.step rfl ?_)
  exact Ev.step rfl ⟨(Nat.le_of_ble_eq_true rfl), _, _, _, Aa0.1, rfl, (Nat.le_of_ble_eq_true rfl), rfl, k⟩
theorem w126_38 {d a0 : Nat} {i1 : Int32} {h : AH} {P : PT} (k : ((i1 < 0 → P (.inl (some (vI 0))) h) ∧ (0 ≤ i1 → P (.inl (some (vI 1))) h))) : Ev d 126 38 [vR (some a0), vI i1] [] h P := by
  refine Ev.step rfl ?_
  refine Ev.step rfl ⟨fun c => ?_, fun c => ?_⟩
  · replace k := k.1 c
    refine Ev.step rfl ?_
    refine Ev.step rfl ⟨rfl, (fun _ => Or.inl rfl), k⟩
  · replace k := k.2 (Int32.not_lt.mp c)
    refine Ev.step rfl (Ev.step rfl ?_)
    refine Ev.step rfl ⟨rfl, (fun _ => Or.inr rfl), k⟩
theorem w127_0 {d a0 : Nat} {h : AH} {P : PT} (Aa0 : OB h a0 16 kM) (k : vp_in 1 40 ∧ vp_in 0 40 ∧ ((¬ (hI h (a0 + 7) ((0 : Int32).toNatClampNeg)) = 2 → Ev d 127 27 [vR (some a0), vI (hI h (a0 + 6) ((1 : Int32).toNatClampNeg)), vU, vU, vU, vU, vU, vU, vU, vU] [vI 0] h P) ∧ ((hI h (a0 + 7) ((0 : Int32).toNatClampNeg)) = 2 → vp_in 2 40 ∧ Ev d 127 27 [vR (some a0), vI (hI h (a0 + 6) ((1 : Int32).toNatClampNeg)), vU, vU, vU, vU, vU, vU, vU, vU] [vI (hI h (a0 + 6) ((2 : Int32).toNatClampNeg))] h P))) : Ev d 127 0 [vR (some a0), vU, vU, vU, vU, vU, vU, vU, vU, vU] [] h P := by
  refine Ev.step rfl ?_
  refine e_gR rfl rfl (fk Aa0.1 rfl) Aa0.2.2.2.2.2.2.1.1 ?_
  refine Ev.step rfl ?_
  obtain ⟨q1, k⟩ := k
  refine Ev.step rfl ⟨⟨_, Or.inl Aa0.2.2.2.2.2.2.1.2, q1⟩, ?_⟩
  refine Ev.step rfl (Ev.step rfl ?_)
  refine e_gR rfl rfl (fk Aa0.1 rfl) Aa0.2.2.2.2.2.2.2.1.1 ?_
  refine Ev.step rfl ?_
  obtain ⟨q2, k⟩ := k
  refine Ev.step rfl ⟨⟨_, Or.inl Aa0.2.2.2.2.2.2.2.1.2, q2⟩, ?_⟩
  refine Ev.step rfl ?_
  refine Ev.step rfl ⟨fun c => ?_, fun c => ?_⟩
  · replace k := k.1 c
    refine Ev.step rfl ?_
    exact k
  · replace k := k.2 (Decidable.not_not.mp c)
    refine Ev.step rfl ?_
    refine e_gR rfl rfl (fk Aa0.1 rfl) Aa0.2.2.2.2.2.2.1.1 ?_
    refine Ev.step rfl ?_
    obtain ⟨q3, k⟩ := k
    refine Ev.step rfl ⟨⟨_, Or.inl Aa0.2.2.2.2.2.2.1.2, q3⟩, ?_⟩
    refine Ev.step rfl ?_
    exact k
theorem w127_27 {d a0 : Nat} {i1 is0 : Int32} {w2 w3 w4 w5 w6 w7 w8 w9 : AV} {h : AH} {P : PT} (k : Ev d 127 33 [vR (some a0), vI i1, vI is0, vI (-1), vI 0, w5, w6, w7, w8, w9] [] h P) : Ev d 127 27 [vR (some a0), vI i1, w2, w3, w4, w5, w6, w7, w8, w9] [vI is0] h P := by
  refine Ev.step rfl (Ev.step rfl (Ev.step rfl (Ev.step rfl (Ev.step rfl ?_))))
  exact k
theorem w127_33 {d a0 : Nat} {i1 i2 i3 i4 : Int32} {w5 w6 w7 w8 w9 : AV} {h : AH} {P : PT} (Aa0 : OB h a0 16 kM) (k : (((hI h a0 244) ≤ i4 → ((i3 < 0 → P (.inl (some (vI i3))) h) ∧ (0 ≤ i3 → vp_in ((4 * i3) + i2) 192 ∧ vp_in (4 * i3) 192 ∧ P (.inl (some (vI i3))) (wI (wI (wI h a0 328 (hI h (a0 + 5) (((4 * i3) + i2).toNatClampNeg))) a0 332 (hI (wI h a0 328 (hI h (a0 + 5) (((4 * i3) + i2).toNatClampNeg))) (a0 + 5) ((4 * i3).toNatClampNeg))) a0 339 1)))) ∧ (i4 < (hI h a0 244) → vp_in ((4 * i4) + i2) 192 ∧ vp_in (4 * i4) 192 ∧ vp_in 0 40 ∧ (((hI h (a0 + 7) ((0 : Int32).toNatClampNeg)) = 1 → Ev d 127 103 [vR (some a0), vI i1, vI i2, vI i3, vI i4, vI (hI h (a0 + 5) (((4 * i4) + i2).toNatClampNeg)), vI (hI h (a0 + 5) ((4 * i4).toNatClampNeg)), w7, w8, w9] [vI 1] h P) ∧ (¬ (hI h (a0 + 7) ((0 : Int32).toNatClampNeg)) = 1 → vp_in 3 40 ∧ (((hI h (a0 + 5) (((4 * i4) + i2).toNatClampNeg)) < (hI h (a0 + 6) ((3 : Int32).toNatClampNeg)) → Ev d 127 103 [vR (some a0), vI i1, vI i2, vI i3, vI i4, vI (hI h (a0 + 5) (((4 * i4) + i2).toNatClampNeg)), vI (hI h (a0 + 5) ((4 * i4).toNatClampNeg)), w7, w8, w9] [vI 0] h P) ∧ ((hI h (a0 + 6) ((3 : Int32).toNatClampNeg)) ≤ (hI h (a0 + 5) (((4 * i4) + i2).toNatClampNeg)) → vp_in 4 40 ∧ (((hI h (a0 + 6) ((4 : Int32).toNatClampNeg)) < (hI h (a0 + 5) (((4 * i4) + i2).toNatClampNeg)) → Ev d 127 103 [vR (some a0), vI i1, vI i2, vI i3, vI i4, vI (hI h (a0 + 5) (((4 * i4) + i2).toNatClampNeg)), vI (hI h (a0 + 5) ((4 * i4).toNatClampNeg)), w7, w8, w9] [vI 0] h P) ∧ ((hI h (a0 + 5) (((4 * i4) + i2).toNatClampNeg)) ≤ (hI h (a0 + 6) ((4 : Int32).toNatClampNeg)) → Ev d 127 103 [vR (some a0), vI i1, vI i2, vI i3, vI i4, vI (hI h (a0 + 5) (((4 * i4) + i2).toNatClampNeg)), vI (hI h (a0 + 5) ((4 * i4).toNatClampNeg)), w7, w8, w9] [vI 1] h P))))))))) : Ev d 127 33 [vR (some a0), vI i1, vI i2, vI i3, vI i4, w5, w6, w7, w8, w9] [] h P := by
  refine Ev.step rfl (Ev.step rfl ?_)
  refine Ev.step rfl ⟨(fk Aa0.1 rfl), ?_⟩
  refine Ev.step rfl ⟨fun c => ?_, fun c => ?_⟩
  · replace k := k.1 c
    refine Ev.step rfl ?_
    refine Ev.step rfl ⟨fun c => ?_, fun c => ?_⟩
    · replace k := k.1 c
      refine Ev.step rfl ?_
      refine Ev.step rfl ⟨rfl, (fun e => Bool.noConfusion (show false = true from e)), k⟩
    · replace k := k.2 (Int32.not_lt.mp c)
      refine Ev.step rfl (Ev.step rfl ?_)
      refine e_gR rfl rfl (fk Aa0.1 rfl) Aa0.2.2.2.2.2.1.1 ?_
      refine Ev.step rfl (Ev.step rfl (Ev.step rfl (Ev.step rfl (Ev.step rfl ?_))))
      obtain ⟨q1, k⟩ := k
      refine Ev.step rfl ⟨⟨_, Or.inl Aa0.2.2.2.2.2.1.2, q1⟩, ?_⟩
      refine Ev.step rfl ⟨(fk Aa0.1 rfl), ?_⟩
      refine Ev.step rfl (Ev.step rfl ?_)
      refine e_gR rfl rfl (fk Aa0.1 rfl) Aa0.2.2.2.2.2.1.1 ?_
      refine Ev.step rfl (Ev.step rfl (Ev.step rfl ?_))
      obtain ⟨q2, k⟩ := k
      refine Ev.step rfl ⟨⟨_, Or.inl Aa0.2.2.2.2.2.1.2, q2⟩, ?_⟩
      refine Ev.step rfl ⟨(fk Aa0.1 rfl), ?_⟩
      refine Ev.step rfl (Ev.step rfl ?_)
      refine Ev.step rfl ⟨(Or.inr rfl), (fk Aa0.1 rfl), ?_⟩
      refine Ev.step rfl ?_
      refine Ev.step rfl ⟨rfl, (fun e => Bool.noConfusion (show false = true from e)), k⟩
  · replace k := k.2 (Int32.not_le.mp c)
    refine Ev.step rfl ?_
    refine e_gR rfl rfl (fk Aa0.1 rfl) Aa0.2.2.2.2.2.1.1 ?_
    refine Ev.step rfl (Ev.step rfl (Ev.step rfl (Ev.step rfl (Ev.step rfl ?_))))
    obtain ⟨q3, k⟩ := k
    refine Ev.step rfl ⟨⟨_, Or.inl Aa0.2.2.2.2.2.1.2, q3⟩, ?_⟩
    refine Ev.step rfl (Ev.step rfl ?_)
    refine e_gR rfl rfl (fk Aa0.1 rfl) Aa0.2.2.2.2.2.1.1 ?_
    refine Ev.step rfl (Ev.step rfl (Ev.step rfl ?_))
    obtain ⟨q4, k⟩ := k
    refine Ev.step rfl ⟨⟨_, Or.inl Aa0.2.2.2.2.2.1.2, q4⟩, ?_⟩
    refine Ev.step rfl (Ev.step rfl ?_)
    refine e_gR rfl rfl (fk Aa0.1 rfl) Aa0.2.2.2.2.2.2.2.1.1 ?_
    refine Ev.step rfl ?_
    obtain ⟨q5, k⟩ := k
    refine Ev.step rfl ⟨⟨_, Or.inl Aa0.2.2.2.2.2.2.2.1.2, q5⟩, ?_⟩
    refine Ev.step rfl ?_
    refine Ev.step rfl ⟨fun c => ?_, fun c => ?_⟩
    · replace k := k.1 c
      refine Ev.step rfl (Ev.step rfl ?_)
      exact k
    · replace k := k.2 c
      refine Ev.step rfl (Ev.step rfl ?_)
      refine e_gR rfl rfl (fk Aa0.1 rfl) Aa0.2.2.2.2.2.2.1.1 ?_
      refine Ev.step rfl ?_
      obtain ⟨q6, k⟩ := k
      refine Ev.step rfl ⟨⟨_, Or.inl Aa0.2.2.2.2.2.2.1.2, q6⟩, ?_⟩
      refine Ev.step rfl ⟨fun c => ?_, fun c => ?_⟩
      · replace k := k.1 c
        refine Ev.step rfl ?_
        exact k
      · replace k := k.2 (Int32.not_lt.mp c)
        refine Ev.step rfl (Ev.step rfl ?_)
        refine e_gR rfl rfl (fk Aa0.1 rfl) Aa0.2.2.2.2.2.2.1.1 ?_
        refine Ev.step rfl ?_
        obtain ⟨q7, k⟩ := k
        refine Ev.step rfl ⟨⟨_, Or.inl Aa0.2.2.2.2.2.2.1.2, q7⟩, ?_⟩
        refine Ev.step rfl ⟨fun c => ?_, fun c => ?_⟩
        · replace k := k.1 c
          refine Ev.step rfl ?_
          exact k
        · replace k := k.2 (Int32.not_lt.mp c)
          refine Ev.step rfl (Ev.step rfl ?_)
          exact k
theorem w127_103 {d a0 : Nat} {i1 i2 i3 i4 i5 i6 is0 : Int32} {w7 w8 w9 : AV} {h : AH} {P : PT} (Aa0 : OB h a0 16 kM) (k : (((hI h a0 339) = 0 → Ev d 127 144 [vR (some a0), vI i1, vI i2, vI i3, vI i4, vI i5, vI i6, vI is0, w8, w9] [vI 1] h P) ∧ (¬ (hI h a0 339) = 0 → (((hI h a0 328) < i5 → Ev d 127 144 [vR (some a0), vI i1, vI i2, vI i3, vI i4, vI i5, vI i6, vI is0, w8, w9] [vI 1] h P) ∧ (i5 ≤ (hI h a0 328) → ((¬ i5 = (hI h a0 328) → Ev d 127 144 [vR (some a0), vI i1, vI i2, vI i3, vI i4, vI i5, vI i6, vI is0, w8, w9] [vI 0] h P) ∧ (i5 = (hI h a0 328) → ((i6 ≤ (hI h a0 332) → Ev d 127 144 [vR (some a0), vI i1, vI i2, vI i3, vI i4, vI i5, vI i6, vI is0, w8, w9] [vI 0] h P) ∧ ((hI h a0 332) < i6 → Ev d 127 144 [vR (some a0), vI i1, vI i2, vI i3, vI i4, vI i5, vI i6, vI is0, w8, w9] [vI 1] h P))))))))) : Ev d 127 103 [vR (some a0), vI i1, vI i2, vI i3, vI i4, vI i5, vI i6, w7, w8, w9] [vI is0] h P := by
  refine Ev.step rfl (Ev.step rfl ?_)
  refine Ev.step rfl ⟨(fk Aa0.1 rfl), ?_⟩
  refine Ev.step rfl ⟨fun c => ?_, fun c => ?_⟩
  · replace k := k.1 c
    refine Ev.step rfl (Ev.step rfl ?_)
    exact k
  · replace k := k.2 c
    refine Ev.step rfl (Ev.step rfl ?_)
    refine Ev.step rfl ⟨(fk Aa0.1 rfl), ?_⟩
    refine Ev.step rfl ⟨fun c => ?_, fun c => ?_⟩
    · replace k := k.1 c
      refine Ev.step rfl (Ev.step rfl ?_)
      exact k
    · replace k := k.2 (Int32.not_lt.mp c)
      refine Ev.step rfl (Ev.step rfl ?_)
      refine Ev.step rfl ⟨(fk Aa0.1 rfl), ?_⟩
      refine Ev.step rfl ⟨fun c => ?_, fun c => ?_⟩
      · replace k := k.1 c
        refine Ev.step rfl ?_
        exact k
      · replace k := k.2 (Decidable.not_not.mp c)
        refine Ev.step rfl (Ev.step rfl ?_)
        refine Ev.step rfl ⟨(fk Aa0.1 rfl), ?_⟩
        refine Ev.step rfl ⟨fun c => ?_, fun c => ?_⟩
        · replace k := k.1 c
          refine Ev.step rfl ?_
          exact k
        · replace k := k.2 (Int32.not_le.mp c)
          refine Ev.step rfl (Ev.step rfl ?_)
          exact k
theorem w127_144 {d a0 : Nat} {i1 i2 i3 i4 i5 i6 i7 is0 : Int32} {w8 w9 : AV} {h : AH} {P : PT} (Aa0 : OB h a0 16 kM) (k : ((i3 < 0 → Ev d 127 198 [vR (some a0), vI i1, vI i2, vI i3, vI i4, vI i5, vI i6, vI i7, vI is0, w9] [vI 1] h P) ∧ (0 ≤ i3 → vp_in ((4 * i3) + i2) 192 ∧ ((i5 < (hI h (a0 + 5) (((4 * i3) + i2).toNatClampNeg)) → Ev d 127 198 [vR (some a0), vI i1, vI i2, vI i3, vI i4, vI i5, vI i6, vI i7, vI is0, w9] [vI 1] h P) ∧ ((hI h (a0 + 5) (((4 * i3) + i2).toNatClampNeg)) ≤ i5 → vp_in ((4 * i3) + i2) 192 ∧ ((¬ i5 = (hI h (a0 + 5) (((4 * i3) + i2).toNatClampNeg)) → Ev d 127 198 [vR (some a0), vI i1, vI i2, vI i3, vI i4, vI i5, vI i6, vI i7, vI is0, w9] [vI 0] h P) ∧ (i5 = (hI h (a0 + 5) (((4 * i3) + i2).toNatClampNeg)) → vp_in (4 * i3) 192 ∧ (((hI h (a0 + 5) ((4 * i3).toNatClampNeg)) ≤ i6 → Ev d 127 198 [vR (some a0), vI i1, vI i2, vI i3, vI i4, vI i5, vI i6, vI i7, vI is0, w9] [vI 0] h P) ∧ (i6 < (hI h (a0 + 5) ((4 * i3).toNatClampNeg)) → Ev d 127 198 [vR (some a0), vI i1, vI i2, vI i3, vI i4, vI i5, vI i6, vI i7, vI is0, w9] [vI 1] h P))))))))) : Ev d 127 144 [vR (some a0), vI i1, vI i2, vI i3, vI i4, vI i5, vI i6, vI i7, w8, w9] [vI is0] h P := by
  refine Ev.step rfl (Ev.step rfl ?_)
  refine Ev.step rfl ⟨fun c => ?_, fun c => ?_⟩
  · replace k := k.1 c
    refine Ev.step rfl (Ev.step rfl ?_)
    exact k
  · replace k := k.2 (Int32.not_lt.mp c)
    refine Ev.step rfl (Ev.step rfl ?_)
    refine e_gR rfl rfl (fk Aa0.1 rfl) Aa0.2.2.2.2.2.1.1 ?_
    refine Ev.step rfl (Ev.step rfl (Ev.step rfl (Ev.step rfl (Ev.step rfl ?_))))
    obtain ⟨q1, k⟩ := k
    refine Ev.step rfl ⟨⟨_, Or.inl Aa0.2.2.2.2.2.1.2, q1⟩, ?_⟩
    refine Ev.step rfl ⟨fun c => ?_, fun c => ?_⟩
    · replace k := k.1 c
      refine Ev.step rfl (Ev.step rfl ?_)
      exact k
    · replace k := k.2 (Int32.not_lt.mp c)
      refine Ev.step rfl (Ev.step rfl ?_)
      refine e_gR rfl rfl (fk Aa0.1 rfl) Aa0.2.2.2.2.2.1.1 ?_
      refine Ev.step rfl (Ev.step rfl (Ev.step rfl (Ev.step rfl (Ev.step rfl ?_))))
      obtain ⟨q2, k⟩ := k
      refine Ev.step rfl ⟨⟨_, Or.inl Aa0.2.2.2.2.2.1.2, q2⟩, ?_⟩
      refine Ev.step rfl ⟨fun c => ?_, fun c => ?_⟩
      · replace k := k.1 c
        refine Ev.step rfl ?_
        exact k
      · replace k := k.2 (Decidable.not_not.mp c)
        refine Ev.step rfl (Ev.step rfl ?_)
        refine e_gR rfl rfl (fk Aa0.1 rfl) Aa0.2.2.2.2.2.1.1 ?_
        refine Ev.step rfl (Ev.step rfl (Ev.step rfl ?_))
        obtain ⟨q3, k⟩ := k
        refine Ev.step rfl ⟨⟨_, Or.inl Aa0.2.2.2.2.2.1.2, q3⟩, ?_⟩
        refine Ev.step rfl ⟨fun c => ?_, fun c => ?_⟩
        · replace k := k.1 c
          refine Ev.step rfl ?_
          exact k
        · replace k := k.2 (Int32.not_le.mp c)
          refine Ev.step rfl (Ev.step rfl ?_)
          exact k
theorem w127_198 {d a0 : Nat} {i1 i2 i3 i4 i5 i6 i7 i8 is0 : Int32} {w9 : AV} {h : AH} {P : PT} (Aa0 : OB h a0 16 kM) (k : vp_in i4 48 ∧ ((¬ (hI h (a0 + 4) i4.toNatClampNeg) = i1 → Ev d 127 232 [vR (some a0), vI i1, vI i2, vI i3, vI i4, vI i5, vI i6, vI i7, vI i8, vI is0] [vI i3] h P) ∧ ((hI h (a0 + 4) i4.toNatClampNeg) = i1 → ((i7 = 0 → Ev d 127 232 [vR (some a0), vI i1, vI i2, vI i3, vI i4, vI i5, vI i6, vI i7, vI i8, vI is0] [vI i3] h P) ∧ (¬ i7 = 0 → ((i8 = 0 → Ev d 127 232 [vR (some a0), vI i1, vI i2, vI i3, vI i4, vI i5, vI i6, vI i7, vI i8, vI is0] [vI i3] h P) ∧ (¬ i8 = 0 → ((is0 = 0 → Ev d 127 232 [vR (some a0), vI i1, vI i2, vI i3, vI i4, vI i5, vI i6, vI i7, vI i8, vI is0] [vI i3] h P) ∧ (¬ is0 = 0 → Ev d 127 232 [vR (some a0), vI i1, vI i2, vI i3, vI i4, vI i5, vI i6, vI i7, vI i8, vI is0] [vI i4] h P))))))))) : Ev d 127 198 [vR (some a0), vI i1, vI i2, vI i3, vI i4, vI i5, vI i6, vI i7, vI i8, w9] [vI is0] h P := by
  refine Ev.step rfl (Ev.step rfl ?_)
  refine e_gR rfl rfl (fk Aa0.1 rfl) Aa0.2.2.2.2.1.1 ?_
  refine Ev.step rfl ?_
  obtain ⟨q1, k⟩ := k
  refine Ev.step rfl ⟨⟨_, Or.inl Aa0.2.2.2.2.1.2, q1⟩, ?_⟩
  refine Ev.step rfl ?_
  refine Ev.step rfl ⟨fun c => ?_, fun c => ?_⟩
  · replace k := k.1 c
    refine Ev.step rfl ?_
    exact k
  · replace k := k.2 (Decidable.not_not.mp c)
    refine Ev.step rfl ?_
    refine Ev.step rfl ⟨fun c => ?_, fun c => ?_⟩
    · replace k := k.1 c
      refine Ev.step rfl ?_
      exact k
    · replace k := k.2 c
      refine Ev.step rfl ?_
      refine Ev.step rfl ⟨fun c => ?_, fun c => ?_⟩
      · replace k := k.1 c
        refine Ev.step rfl ?_
        exact k
      · replace k := k.2 c
        refine Ev.step rfl ?_
        refine Ev.step rfl ⟨fun c => ?_, fun c => ?_⟩
        · replace k := k.1 c
          refine Ev.step rfl ?_
          exact k
        · replace k := k.2 c
          refine Ev.step rfl (Ev.step rfl ?_)
          exact k
theorem w127_232 {d a0 : Nat} {i1 i2 i3 i4 i5 i6 i7 i8 i9 is0 : Int32} {h : AH} {P : PT} (k : Ev d 127 33 [vR (some a0), vI i1, vI i2, vI is0, vI (i4 + 1), vI i5, vI i6, vI i7, vI i8, vI i9] [] h P) : Ev d 127 232 [vR (some a0), vI i1, vI i2, vI i3, vI i4, vI i5, vI i6, vI i7, vI i8, vI i9] [vI is0] h P := by
  refine Ev.step rfl (Ev.step rfl (Ev.step rfl ?_))
  exact k
theorem w128_0 {d a0 : Nat} {h : AH} {P : PT} (Aa0 : OB h a0 16 kM) (k : P (.inl (some (vI (hI (wI h a0 224 0) a0 340)))) (wI h a0 224 0)) : Ev d 128 0 [vR (some a0)] [] h P := by
  refine Ev.step rfl (Ev.step rfl ?_)
  refine Ev.step rfl ⟨(fk Aa0.1 rfl), ?_⟩
  refine Ev.step rfl ?_
  refine Ev.step rfl ⟨(fk Aa0.1 rfl), ?_⟩
  refine Ev.step rfl ⟨rfl, (fun e => Bool.noConfusion (show false = true from e)), k⟩
theorem w129_0 {d a0 : Nat} {h : AH} {P : PT} (Aa0 : OB h a0 16 kM) (k : P (.inl (some (vI (hI (wI h a0 224 0) a0 344)))) (wI h a0 224 0)) : Ev d 129 0 [vR (some a0)] [] h P := by
  refine Ev.step rfl (Ev.step rfl ?_)
  refine Ev.step rfl ⟨(fk Aa0.1 rfl), ?_⟩
  refine Ev.step rfl ?_
  refine Ev.step rfl ⟨(fk Aa0.1 rfl), ?_⟩
  refine Ev.step rfl ⟨rfl, (fun e => Bool.noConfusion (show false = true from e)), k⟩
theorem w130_0 {d a0 : Nat} {i1 : Int32} {h : AH} {P : PT} (Aa0 : OB h a0 16 kM) (k : ((i1 < 0 → P (.inl (some (vI 0))) (wI h a0 224 0)) ∧ (0 ≤ i1 → (((hI (wI h a0 224 0) a0 344) ≤ i1 → P (.inl (some (vI 0))) (wI h a0 224 0)) ∧ (i1 < (hI (wI h a0 224 0) a0 344) → vp_in i1 64 ∧ P (.inl (some (vI (hI (wI h a0 224 0) (a0 + 15) i1.toNatClampNeg)))) (wI h a0 224 0)))))) : Ev d 130 0 [vR (some a0), vI i1] [] h P := by
  refine Ev.step rfl (Ev.step rfl ?_)
  refine Ev.step rfl ⟨(fk Aa0.1 rfl), ?_⟩
  refine Ev.step rfl ?_
  refine Ev.step rfl ⟨fun c => ?_, fun c => ?_⟩
  · replace k := k.1 c
    refine Ev.step rfl ?_
    refine Ev.step rfl ⟨rfl, (fun e => Bool.noConfusion (show false = true from e)), k⟩
  · replace k := k.2 (Int32.not_lt.mp c)
    refine Ev.step rfl (Ev.step rfl ?_)
    refine Ev.step rfl ⟨(fk Aa0.1 rfl), ?_⟩
    refine Ev.step rfl ⟨fun c => ?_, fun c => ?_⟩
    · replace k := k.1 c
      refine Ev.step rfl ?_
      refine Ev.step rfl ⟨rfl, (fun e => Bool.noConfusion (show false = true from e)), k⟩
    · replace k := k.2 (Int32.not_le.mp c)
      refine Ev.step rfl ?_
      refine e_gR rfl rfl (fk Aa0.1 rfl) Aa0.2.2.2.2.2.2.2.2.2.2.2.2.2.2.2.1.1 ?_
      refine Ev.step rfl ?_
      obtain ⟨q1, k⟩ := k
      refine Ev.step rfl ⟨⟨_, Or.inl Aa0.2.2.2.2.2.2.2.2.2.2.2.2.2.2.2.1.2, q1⟩, ?_⟩
      refine Ev.step rfl ?_
      refine Ev.step rfl ⟨rfl, (fun e => Bool.noConfusion (show false = true from e)), k⟩
