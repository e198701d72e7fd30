/-! deps: 25 -/
/-! blocks (printed by gen_blocks.py) -/
theorem w44_0 {d a0 : Nat} {i1 : Int32} {h : AH} {P : PT} (k : 1 ≤ hC h ∧ 5 ≤ hS h ∧ Ev d 44 8 [vR (some a0), vI i1] [vR (some (hN h)), vR (some a0)] (al h (102, 5) 5) P) : Ev d 44 0 [vR (some a0), vI i1] [] h P := by
  refine Ev.step rfl ?_
  refine Ev.step rfl ⟨(Nat.le_of_ble_eq_true rfl), ?_⟩
  refine Ev.step rfl (Ev.step rfl ?_)
  obtain ⟨q1, k⟩ := k
  obtain ⟨q2, k⟩ := k
  refine Ev.step rfl ⟨(Int32.not_lt.mpr (by decide)), (by decide), q1, q2, ?_⟩
  exact k
theorem w44_8 {d a0 as0 as1 : Nat} {i1 : Int32} {h : AH} {P : PT} (Aas1 : OB h as1 7 kE) (k : Ev d 44 11 [vR (some a0), vI i1] [] (wR h as1 86 (some as0)) P) : Ev d 44 8 [vR (some a0), vI i1] [vR (some as0), vR (some as1)] h P := by
  refine Ev.step rfl ⟨(fk Aas1.1 rfl), ?_⟩
  exact k
theorem w44_11 {d a0 : Nat} {i1 : Int32} {h : AH} {P : PT} (k : 1 ≤ hC h ∧ 5 ≤ hS h ∧ Ev d 44 16 [vR (some a0), vI i1] [vR (some (hN h)), vR (some a0)] (al h (103, 5) 5) P) : Ev d 44 11 [vR (some a0), vI i1] [] h P := by
  refine Ev.step rfl (Ev.step rfl ?_)
  obtain ⟨q1, k⟩ := k
  obtain ⟨q2, k⟩ := k
  refine Ev.step rfl ⟨(Int32.not_lt.mpr (by decide)), (by decide), q1, q2, ?_⟩
  exact k
theorem w44_16 {d a0 as0 as1 : Nat} {i1 : Int32} {h : AH} {P : PT} (Aas1 : OB h as1 7 kE) (k : Ev d 44 19 [vR (some a0), vI i1] [] (wR h as1 90 (some as0)) P) : Ev d 44 16 [vR (some a0), vI i1] [vR (some as0), vR (some as1)] h P := by
  refine Ev.step rfl ⟨(fk Aas1.1 rfl), ?_⟩
  exact k
theorem w44_19 {d a0 : Nat} {i1 : Int32} {h : AH} {P : PT} (k : 1 ≤ hC h ∧ 6 ≤ hS h ∧ Ev d 44 25 [vR (some a0), vI i1] [vR (some (hN h)), vR (some a0)] (al h (104, 6) 6) P) : Ev d 44 19 [vR (some a0), vI i1] [] h P := by
  refine Ev.step rfl (Ev.step rfl ?_)
  obtain ⟨q1, k⟩ := k
  obtain ⟨q2, k⟩ := k
  refine Ev.step rfl ⟨(Int32.not_lt.mpr (by decide)), (by decide), q1, q2, ?_⟩
  exact k
theorem w44_25 {d a0 as0 as1 : Nat} {i1 : Int32} {h : AH} {P : PT} (Aas1 : OB h as1 7 kE) (k : Ev d 44 28 [vR (some a0), vI i1] [] (wR h as1 94 (some as0)) P) : Ev d 44 25 [vR (some a0), vI i1] [vR (some as0), vR (some as1)] h P := by
  refine Ev.step rfl ⟨(fk Aas1.1 rfl), ?_⟩
  exact k
theorem w44_28 {d a0 : Nat} {i1 : Int32} {h : AH} {P : PT} (Aa0 : OB h a0 7 kE) (k : isB i1 ∧ P (.inl none) (wI h a0 83 i1)) : Ev d 44 28 [vR (some a0), vI i1] [] h P := by
  refine Ev.step rfl (Ev.step rfl ?_)
  obtain ⟨q1, k⟩ := k
  refine Ev.step rfl ⟨q1, (fk Aa0.1 rfl), ?_⟩
  refine Ev.step rfl ⟨rfl, k⟩
theorem w45_0 {d a0 : Nat} {l1 : Int64} {h : AH} {P : PT} (k : Ev d 45 2 [vR (some a0), vL l1, vU, vI 0] [] h P) : Ev d 45 0 [vR (some a0), vL l1, vU, vU] [] h P := by
  refine Ev.step rfl (Ev.step rfl ?_)
  exact k
theorem w45_2 {d a0 : Nat} {i3 : Int32} {l1 : Int64} {h : AH} {P : PT} (Aa0 : OB h a0 7 kP) (k : (((hI h a0 96) ≤ i3 → P (.inl (some (vI i3))) h) ∧ (i3 < (hI h a0 96) → vp_in i3 5 ∧ ((l1 < (hL h (a0 + 1) i3.toNatClampNeg) → P (.inl (some (vI i3))) h) ∧ ((hL h (a0 + 1) i3.toNatClampNeg) ≤ l1 → Ev d 45 2 [vR (some a0), vL l1, vU, vI (i3 + 1)] [] h P))))) : Ev d 45 2 [vR (some a0), vL l1, vU, vI i3] [] h P := by
  refine Ev.step rfl (Ev.step rfl ?_)
  refine Ev.step rfl ⟨(fk Aa0.1 rfl), ?_⟩
  refine Ev.step rfl ⟨fun c => ?_, fun c => ?_⟩
  · replace k := k.1 c
    refine Ev.step rfl ?_
    refine Ev.step rfl ⟨rfl, (fun e => Bool.noConfusion (show false = true from e)), k⟩
  · replace k := k.2 (Int32.not_le.mp c)
    refine Ev.step rfl ?_
    refine e_gR rfl rfl (fk Aa0.1 rfl) Aa0.2.1.1 ?_
    refine Ev.step rfl ?_
    obtain ⟨q1, k⟩ := k
    refine Ev.step rfl ⟨⟨_, Aa0.2.1.2, q1⟩, ?_⟩
    refine Ev.step rfl (Ev.step rfl ?_)
    refine Ev.step rfl ⟨fun c => ?_, fun c => ?_⟩
    · replace k := k.1 ((lgc_gt (hL h (a0 + 1) i3.toNatClampNeg) l1).mp c)
      refine Ev.step rfl ?_
      refine Ev.step rfl ⟨rfl, (fun e => Bool.noConfusion (show false = true from e)), k⟩
    · replace k := k.2 (Int64.not_lt.mp (fun z => c ((lgc_gt (hL h (a0 + 1) i3.toNatClampNeg) l1).mpr z)))
      refine Ev.step rfl (Ev.step rfl ?_)
      exact k
theorem w46_0 {d a0 : Nat} {l1 : Int64} {h : AH} {P : PT} (k : Ev d 46 2 [vR (some a0), vL l1, vU, vI 0] [] h P) : Ev d 46 0 [vR (some a0), vL l1, vU, vU] [] h P := by
  refine Ev.step rfl (Ev.step rfl ?_)
  exact k
theorem w46_2 {d a0 : Nat} {i3 : Int32} {l1 : Int64} {h : AH} {P : PT} (Aa0 : OB h a0 7 kP) (k : (((hI h a0 96) ≤ i3 → P (.inl (some (vI i3))) h) ∧ (i3 < (hI h a0 96) → vp_in i3 5 ∧ ((l1 ≤ (hL h (a0 + 1) i3.toNatClampNeg) → P (.inl (some (vI i3))) h) ∧ ((hL h (a0 + 1) i3.toNatClampNeg) < l1 → Ev d 46 2 [vR (some a0), vL l1, vU, vI (i3 + 1)] [] h P))))) : Ev d 46 2 [vR (some a0), vL l1, vU, vI i3] [] h P := by
  refine Ev.step rfl (Ev.step rfl ?_)
  refine Ev.step rfl ⟨(fk Aa0.1 rfl), ?_⟩
  refine Ev.step rfl ⟨fun c => ?_, fun c => ?_⟩
  · replace k := k.1 c
    refine Ev.step rfl ?_
    refine Ev.step rfl ⟨rfl, (fun e => Bool.noConfusion (show false = true from e)), k⟩
  · replace k := k.2 (Int32.not_le.mp c)
    refine Ev.step rfl ?_
    refine e_gR rfl rfl (fk Aa0.1 rfl) Aa0.2.1.1 ?_
    refine Ev.step rfl ?_
    obtain ⟨q1, k⟩ := k
    refine Ev.step rfl ⟨⟨_, Aa0.2.1.2, q1⟩, ?_⟩
    refine Ev.step rfl (Ev.step rfl ?_)
    refine Ev.step rfl ⟨fun c => ?_, fun c => ?_⟩
    · replace k := k.1 ((lgc_ge (hL h (a0 + 1) i3.toNatClampNeg) l1).mp c)
      refine Ev.step rfl ?_
      refine Ev.step rfl ⟨rfl, (fun e => Bool.noConfusion (show false = true from e)), k⟩
    · replace k := k.2 (Int64.not_le.mp (fun z => c ((lgc_ge (hL h (a0 + 1) i3.toNatClampNeg) l1).mpr z)))
      refine Ev.step rfl (Ev.step rfl ?_)
      exact k
theorem w47_0 {d a0 : Nat} {i1 : Int32} {l2 : Int64} {r4 r5 : Option Nat} {h : AH} {P : PT} (Aa0 : OB h a0 7 kP) (k : Ev d 47 6 [vR (some a0), vI i1, vL l2, vU, vR r4, vR r5, vI (hI h a0 96)] [] h P) : Ev d 47 0 [vR (some a0), vI i1, vL l2, vU, vR r4, vR r5, vU] [] h P := by
  refine Ev.step rfl ?_
  refine Ev.step rfl ⟨(fk Aa0.1 rfl), ?_⟩
  refine Ev.step rfl ?_
  exact k
theorem w47_6 {d a0 : Nat} {i1 i6 : Int32} {l2 : Int64} {r4 r5 : Option Nat} {h : AH} {P : PT} (Aa0 : OB h a0 7 kP) (k : ((i6 ≤ i1 → vp_in i1 5 ∧ vp_in i1 5 ∧ RT (wL h (a0 + 1) i1.toNatClampNeg l2) r4 9 ∧ Ev d 47 81 [vR (some a0), vI i1, vL l2, vU, vR r4, vR r5, vI i6] [] (wR (wL h (a0 + 1) i1.toNatClampNeg l2) (a0 + 2) i1.toNatClampNeg r4) P) ∧ (i1 < i6 → vp_in (i6 - 1) 5 ∧ vp_in i6 5 ∧ vp_in (i6 - 1) 5 ∧ vp_in i6 5 ∧ RT (wL h (a0 + 1) i6.toNatClampNeg (hL h (a0 + 1) ((i6 - 1).toNatClampNeg))) (hR (wL h (a0 + 1) i6.toNatClampNeg (hL h (a0 + 1) ((i6 - 1).toNatClampNeg))) (a0 + 2) ((i6 - 1).toNatClampNeg)) 9 ∧ Ev d 47 44 [vR (some a0), vI i1, vL l2, vU, vR r4, vR r5, vI i6] [] (wR (wL h (a0 + 1) i6.toNatClampNeg (hL h (a0 + 1) ((i6 - 1).toNatClampNeg))) (a0 + 2) i6.toNatClampNeg (hR (wL h (a0 + 1) i6.toNatClampNeg (hL h (a0 + 1) ((i6 - 1).toNatClampNeg))) (a0 + 2) ((i6 - 1).toNatClampNeg))) P))) : Ev d 47 6 [vR (some a0), vI i1, vL l2, vU, vR r4, vR r5, vI i6] [] h P := by
  refine Ev.step rfl (Ev.step rfl ?_)
  refine Ev.step rfl ⟨fun c => ?_, fun c => ?_⟩
  · replace k := k.1 c
    refine Ev.step rfl ?_
    refine e_gR rfl rfl (fk Aa0.1 rfl) Aa0.2.1.1 ?_
    refine Ev.step rfl (Ev.step rfl ?_)
    obtain ⟨q1, k⟩ := k
    refine Ev.step rfl ⟨⟨_, Aa0.2.1.2, q1⟩, ?_⟩
    refine Ev.step rfl ?_
    refine e_gR rfl rfl (fk Aa0.1 rfl) Aa0.2.2.1.1 ?_
    refine Ev.step rfl (Ev.step rfl ?_)
    obtain ⟨q2, k⟩ := k
    obtain ⟨q3, k⟩ := k
    refine Ev.step rfl ⟨⟨3, _, by decide, by decide, Aa0.2.2.1.2, q2, q3⟩, ?_⟩
    exact k
  · replace k := k.2 (Int32.not_le.mp c)
    refine Ev.step rfl ?_
    refine e_gR rfl rfl (fk Aa0.1 rfl) Aa0.2.1.1 ?_
    refine Ev.step rfl (Ev.step rfl ?_)
    refine e_gR rfl rfl (fk Aa0.1 rfl) Aa0.2.1.1 ?_
    refine Ev.step rfl (Ev.step rfl (Ev.step rfl ?_))
    obtain ⟨q4, k⟩ := k
    refine Ev.step rfl ⟨⟨_, Aa0.2.1.2, q4⟩, ?_⟩
    obtain ⟨q5, k⟩ := k
    refine Ev.step rfl ⟨⟨_, Aa0.2.1.2, q5⟩, ?_⟩
    refine Ev.step rfl ?_
    refine e_gR rfl rfl (fk Aa0.1 rfl) Aa0.2.2.1.1 ?_
    refine Ev.step rfl (Ev.step rfl ?_)
    refine e_gR rfl rfl (fk Aa0.1 rfl) Aa0.2.2.1.1 ?_
    refine Ev.step rfl (Ev.step rfl (Ev.step rfl ?_))
    obtain ⟨q6, k⟩ := k
    refine Ev.step rfl ⟨⟨3, _, by decide, by decide, Aa0.2.2.1.2, q6⟩, ?_⟩
    obtain ⟨q7, k⟩ := k
    obtain ⟨q8, k⟩ := k
    refine Ev.step rfl ⟨⟨3, _, by decide, by decide, Aa0.2.2.1.2, q7, q8⟩, ?_⟩
    exact k
theorem w47_44 {d a0 : Nat} {i1 i6 : Int32} {l2 : Int64} {r4 r5 : Option Nat} {h : AH} {P : PT} (Aa0 : OB h a0 7 kP) (k : vp_in i6 6 ∧ vp_in (i6 + 1) 6 ∧ RT h (hR h (a0 + 3) i6.toNatClampNeg) 7 ∧ Ev d 47 60 [vR (some a0), vI i1, vL l2, vU, vR r4, vR r5, vI i6] [] (wR h (a0 + 3) ((i6 + 1).toNatClampNeg) (hR h (a0 + 3) i6.toNatClampNeg)) P) : Ev d 47 44 [vR (some a0), vI i1, vL l2, vU, vR r4, vR r5, vI i6] [] h P := by
  refine Ev.step rfl ?_
  refine e_gR rfl rfl (fk Aa0.1 rfl) Aa0.2.2.2.1.1 ?_
  refine Ev.step rfl (Ev.step rfl (Ev.step rfl (Ev.step rfl ?_)))
  refine e_gR rfl rfl (fk Aa0.1 rfl) Aa0.2.2.2.1.1 ?_
  refine Ev.step rfl ?_
  obtain ⟨q1, k⟩ := k
  refine Ev.step rfl ⟨⟨4, _, by decide, by decide, Aa0.2.2.2.1.2, q1⟩, ?_⟩
  obtain ⟨q2, k⟩ := k
  obtain ⟨q3, k⟩ := k
  refine Ev.step rfl ⟨⟨4, _, by decide, by decide, Aa0.2.2.2.1.2, q2, q3⟩, ?_⟩
  exact k
theorem w47_60 {d a0 : Nat} {i1 i6 : Int32} {l2 : Int64} {r4 r5 : Option Nat} {h : AH} {P : PT} (k : Ev d 47 6 [vR (some a0), vI i1, vL l2, vU, vR r4, vR r5, vI (i6 + (-1))] [] h P) : Ev d 47 60 [vR (some a0), vI i1, vL l2, vU, vR r4, vR r5, vI i6] [] h P := by
  refine Ev.step rfl (Ev.step rfl ?_)
  exact k
theorem w47_81 {d a0 : Nat} {i1 i6 : Int32} {l2 : Int64} {r4 r5 : Option Nat} {h : AH} {P : PT} (Aa0 : OB h a0 7 kP) (k : vp_in (i1 + 1) 6 ∧ RT h r5 7 ∧ Ev d 47 91 [vR (some a0), vI i1, vL l2, vU, vR r4, vR r5, vI i6] [] (wR h (a0 + 3) ((i1 + 1).toNatClampNeg) r5) P) : Ev d 47 81 [vR (some a0), vI i1, vL l2, vU, vR r4, vR r5, vI i6] [] h P := by
  refine Ev.step rfl ?_
  refine e_gR rfl rfl (fk Aa0.1 rfl) Aa0.2.2.2.1.1 ?_
  refine Ev.step rfl (Ev.step rfl (Ev.step rfl (Ev.step rfl ?_)))
  obtain ⟨q1, k⟩ := k
  obtain ⟨q2, k⟩ := k
  refine Ev.step rfl ⟨⟨4, _, by decide, by decide, Aa0.2.2.2.1.2, q1, q2⟩, ?_⟩
  exact k
theorem w47_91 {d a0 : Nat} {i1 i6 : Int32} {l2 : Int64} {r4 r5 : Option Nat} {h : AH} {P : PT} (Aa0 : OB h a0 7 kP) (k : P (.inl none) (wI h a0 96 ((hI h a0 96) + 1))) : Ev d 47 91 [vR (some a0), vI i1, vL l2, vU, vR r4, vR r5, vI i6] [] h P := by
  refine Ev.step rfl ?_
  refine Ev.step rfl (Or.inr ?_)
  refine Ev.step rfl ⟨(fk Aa0.1 rfl), ?_⟩
  refine Ev.step rfl (Ev.step rfl ?_)
  refine Ev.step rfl ⟨(fk Aa0.1 rfl), ?_⟩
  refine Ev.step rfl ⟨rfl, k⟩
theorem w48_0 {d a0 : Nat} {i1 : Int32} {h : AH} {P : PT} (Aa0 : OB h a0 7 kP) (k : Ev d 48 12 [vR (some a0), vI i1, vI i1] [] (wI h a0 96 ((hI h a0 96) - 1)) P) : Ev d 48 0 [vR (some a0), vI i1, vU] [] h P := by
  refine Ev.step rfl ?_
  refine Ev.step rfl (Or.inr ?_)
  refine Ev.step rfl ⟨(fk Aa0.1 rfl), ?_⟩
  refine Ev.step rfl (Ev.step rfl ?_)
  refine Ev.step rfl ⟨(fk Aa0.1 rfl), ?_⟩
  refine Ev.step rfl (Ev.step rfl ?_)
  exact k
theorem w48_12 {d a0 : Nat} {i1 i2 : Int32} {h : AH} {P : PT} (Aa0 : OB h a0 7 kP) (k : (((hI h a0 96) ≤ i2 → vp_in (hI h a0 96) 5 ∧ Ev d 48 80 [vR (some a0), vI i1, vI i2] [] (wR h (a0 + 2) ((hI h a0 96).toNatClampNeg) none) P) ∧ (i2 < (hI h a0 96) → vp_in (i2 + 1) 5 ∧ vp_in i2 5 ∧ vp_in (i2 + 1) 5 ∧ vp_in i2 5 ∧ RT (wL h (a0 + 1) i2.toNatClampNeg (hL h (a0 + 1) ((i2 + 1).toNatClampNeg))) (hR (wL h (a0 + 1) i2.toNatClampNeg (hL h (a0 + 1) ((i2 + 1).toNatClampNeg))) (a0 + 2) ((i2 + 1).toNatClampNeg)) 9 ∧ Ev d 48 48 [vR (some a0), vI i1, vI i2] [] (wR (wL h (a0 + 1) i2.toNatClampNeg (hL h (a0 + 1) ((i2 + 1).toNatClampNeg))) (a0 + 2) i2.toNatClampNeg (hR (wL h (a0 + 1) i2.toNatClampNeg (hL h (a0 + 1) ((i2 + 1).toNatClampNeg))) (a0 + 2) ((i2 + 1).toNatClampNeg))) P))) : Ev d 48 12 [vR (some a0), vI i1, vI i2] [] h P := by
  refine Ev.step rfl (Ev.step rfl ?_)
  refine Ev.step rfl ⟨(fk Aa0.1 rfl), ?_⟩
  refine Ev.step rfl ⟨fun c => ?_, fun c => ?_⟩
  · replace k := k.1 c
    refine Ev.step rfl ?_
    refine e_gR rfl rfl (fk Aa0.1 rfl) Aa0.2.2.1.1 ?_
    refine Ev.step rfl ?_
    refine Ev.step rfl ⟨(fk Aa0.1 rfl), ?_⟩
    refine Ev.step rfl ?_
    obtain ⟨q1, k⟩ := k
    refine Ev.step rfl ⟨⟨3, _, by decide, by decide, Aa0.2.2.1.2, q1, (fun _ e => by cases e)⟩, ?_⟩
    exact k
  · replace k := k.2 (Int32.not_le.mp c)
    refine Ev.step rfl ?_
    refine e_gR rfl rfl (fk Aa0.1 rfl) Aa0.2.1.1 ?_
    refine Ev.step rfl (Ev.step rfl ?_)
    refine e_gR rfl rfl (fk Aa0.1 rfl) Aa0.2.1.1 ?_
    refine Ev.step rfl (Ev.step rfl (Ev.step rfl ?_))
    obtain ⟨q2, k⟩ := k
    refine Ev.step rfl ⟨⟨_, Aa0.2.1.2, q2⟩, ?_⟩
    obtain ⟨q3, k⟩ := k
    refine Ev.step rfl ⟨⟨_, Aa0.2.1.2, q3⟩, ?_⟩
    refine Ev.step rfl ?_
    refine e_gR rfl rfl (fk Aa0.1 rfl) Aa0.2.2.1.1 ?_
    refine Ev.step rfl (Ev.step rfl ?_)
    refine e_gR rfl rfl (fk Aa0.1 rfl) Aa0.2.2.1.1 ?_
    refine Ev.step rfl (Ev.step rfl (Ev.step rfl ?_))
    obtain ⟨q4, k⟩ := k
    refine Ev.step rfl ⟨⟨3, _, by decide, by decide, Aa0.2.2.1.2, q4⟩, ?_⟩
    obtain ⟨q5, k⟩ := k
    obtain ⟨q6, k⟩ := k
    refine Ev.step rfl ⟨⟨3, _, by decide, by decide, Aa0.2.2.1.2, q5, q6⟩, ?_⟩
    exact k
theorem w48_48 {d a0 : Nat} {i1 i2 : Int32} {h : AH} {P : PT} (Aa0 : OB h a0 7 kP) (k : vp_in (i2 + 2) 6 ∧ vp_in (i2 + 1) 6 ∧ RT h (hR h (a0 + 3) ((i2 + 2).toNatClampNeg)) 7 ∧ Ev d 48 64 [vR (some a0), vI i1, vI i2] [] (wR h (a0 + 3) ((i2 + 1).toNatClampNeg) (hR h (a0 + 3) ((i2 + 2).toNatClampNeg))) P) : Ev d 48 48 [vR (some a0), vI i1, vI i2] [] h P := by
  refine Ev.step rfl ?_
  refine e_gR rfl rfl (fk Aa0.1 rfl) Aa0.2.2.2.1.1 ?_
  refine Ev.step rfl (Ev.step rfl (Ev.step rfl (Ev.step rfl ?_)))
  refine e_gR rfl rfl (fk Aa0.1 rfl) Aa0.2.2.2.1.1 ?_
  refine Ev.step rfl (Ev.step rfl (Ev.step rfl ?_))
  obtain ⟨q1, k⟩ := k
  refine Ev.step rfl ⟨⟨4, _, by decide, by decide, Aa0.2.2.2.1.2, q1⟩, ?_⟩
  obtain ⟨q2, k⟩ := k
  obtain ⟨q3, k⟩ := k
  refine Ev.step rfl ⟨⟨4, _, by decide, by decide, Aa0.2.2.2.1.2, q2, q3⟩, ?_⟩
  exact k
theorem w48_64 {d a0 : Nat} {i1 i2 : Int32} {h : AH} {P : PT} (k : Ev d 48 12 [vR (some a0), vI i1, vI (i2 + 1)] [] h P) : Ev d 48 64 [vR (some a0), vI i1, vI i2] [] h P := by
  refine Ev.step rfl (Ev.step rfl ?_)
  exact k
theorem w48_80 {d a0 : Nat} {i1 i2 : Int32} {h : AH} {P : PT} (Aa0 : OB h a0 7 kP) (k : vp_in ((hI h a0 96) + 1) 6 ∧ Ev d 48 92 [vR (some a0), vI i1, vI i2] [] (wR h (a0 + 3) (((hI h a0 96) + 1).toNatClampNeg) none) P) : Ev d 48 80 [vR (some a0), vI i1, vI i2] [] h P := by
  refine Ev.step rfl ?_
  refine e_gR rfl rfl (fk Aa0.1 rfl) Aa0.2.2.2.1.1 ?_
  refine Ev.step rfl ?_
  refine Ev.step rfl ⟨(fk Aa0.1 rfl), ?_⟩
  refine Ev.step rfl (Ev.step rfl (Ev.step rfl ?_))
  obtain ⟨q1, k⟩ := k
  refine Ev.step rfl ⟨⟨4, _, by decide, by decide, Aa0.2.2.2.1.2, q1, (fun _ e => by cases e)⟩, ?_⟩
  exact k
theorem w48_92 {d a0 : Nat} {i1 i2 : Int32} {h : AH} {P : PT} (k : P (.inl none) h) : Ev d 48 92 [vR (some a0), vI i1, vI i2] [] h P := by
  refine Ev.step rfl ⟨rfl, k⟩
theorem w49_0 {d a0 : Nat} {h : AH} {P : PT} (Aa0 : OB h a0 7 kP) (k : vp_in 1 6 ∧ vp_in 0 6 ∧ RT h (hR h (a0 + 3) ((1 : Int32).toNatClampNeg)) 7 ∧ Ev d 49 12 [vR (some a0)] [] (wR h (a0 + 3) ((0 : Int32).toNatClampNeg) (hR h (a0 + 3) ((1 : Int32).toNatClampNeg))) P) : Ev d 49 0 [vR (some a0)] [] h P := by
  refine Ev.step rfl ?_
  refine e_gR rfl rfl (fk Aa0.1 rfl) Aa0.2.2.2.1.1 ?_
  refine Ev.step rfl (Ev.step rfl ?_)
  refine e_gR rfl rfl (fk Aa0.1 rfl) Aa0.2.2.2.1.1 ?_
  refine Ev.step rfl ?_
  obtain ⟨q1, k⟩ := k
  refine Ev.step rfl ⟨⟨4, _, by decide, by decide, Aa0.2.2.2.1.2, q1⟩, ?_⟩
  obtain ⟨q2, k⟩ := k
  obtain ⟨q3, k⟩ := k
  refine Ev.step rfl ⟨⟨4, _, by decide, by decide, Aa0.2.2.2.1.2, q2, q3⟩, ?_⟩
  exact k
theorem w49_12 {d a0 : Nat} {h : AH} {P : PT} (Aa0 : OB h a0 7 kP) (k : Ev d 48 0 [vR (some a0), vI 0, vU] [] h (CK d 49 P 14 [vR (some a0)] [])) : Ev (d + 1) 49 12 [vR (some a0)] [] h P := by
  refine Ev.step rfl (Ev.step rfl ?_)
  exact Ev.step rfl ⟨(Nat.le_of_ble_eq_true rfl), _, _, _, Aa0.1, rfl, (Nat.le_of_ble_eq_true rfl), rfl, k⟩
theorem w49_17 {d a0 : Nat} {h : AH} {P : PT} (k : P (.inl none) h) : Ev d 49 17 [vR (some a0)] [] h P := by
  refine Ev.step rfl ⟨rfl, k⟩
