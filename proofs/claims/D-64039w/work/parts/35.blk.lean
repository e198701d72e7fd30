/-! deps: 25 -/
/-! blocks (printed by gen_blocks.py) -/
theorem w5_0 {d a0 : Nat} {h : AH} {P : PT} (Aa0 : OB h a0 0 kX) (k : Ev d 23 0 [vR (some (a0 + 4)), vI (hI h a0 56), vI (hI h a0 40)] [] h (CK d 5 P 12 [vR (some a0), vU] [])) : Ev (d + 1) 5 0 [vR (some a0), vU] [] h P := by
  refine Ev.step rfl ?_
  refine e_gR rfl rfl (fk Aa0.1 rfl) Aa0.2.2.2.2.1.1 ?_
  refine Ev.step rfl ?_
  refine Ev.step rfl ⟨(fk Aa0.1 rfl), ?_⟩
  refine Ev.step rfl ?_
  refine Ev.step rfl ⟨(fk Aa0.1 rfl), ?_⟩
  exact Ev.step rfl ⟨(Nat.le_of_ble_eq_true rfl), _, _, _, (⟨Aa0.2.2.2.2.1.2, trivial⟩ : OB h (a0 + 4) 1 kE).1, rfl, (Nat.le_of_ble_eq_true rfl), rfl, k⟩
theorem w5_15 {d a0 : Nat} {w1 : AV} {h : AH} {P : PT} (k : P (.inl (some (vI (-1)))) h) : Ev d 5 15 [vR (some a0), w1] [] h P := by
  refine Ev.step rfl (Ev.step rfl ?_)
  refine Ev.step rfl ⟨rfl, (fun e => Bool.noConfusion (show false = true from e)), k⟩
theorem w5_18 {d a0 as0 : Nat} {w1 : AV} {h : AH} {P : PT} (Aa0 : OB h a0 0 kX) (k : P (.inl (some (vI (hI h (a0 + 4) 24)))) h) : Ev d 5 18 [vR (some a0), w1] [vR (some as0)] h P := by
  refine Ev.step rfl (Ev.step rfl ?_)
  refine e_gR rfl rfl (fk Aa0.1 rfl) Aa0.2.2.2.2.1.1 ?_
  refine Ev.step rfl ⟨(fk (⟨Aa0.2.2.2.2.1.2, trivial⟩ : OB h (a0 + 4) 1 kE).1 rfl), ?_⟩
  refine Ev.step rfl ⟨rfl, (fun e => Bool.noConfusion (show false = true from e)), k⟩
theorem w135_0 {d a0 a2 : Nat} {i1 : Int32} {h : AH} {P : PT} (Aa0 : OB h a0 0 kX) (k : Ev d 10 0 [vR (some a0), vI i1] [] h (CK d 135 P 4 [vR (some a0), vI i1, vR (some a2), vU] [vI 0, vR (some a2)])) : Ev (d + 1) 135 0 [vR (some a0), vI i1, vR (some a2), vU] [] h P := by
  refine Ev.step rfl (Ev.step rfl (Ev.step rfl (Ev.step rfl ?_)))
  exact Ev.step rfl ⟨(Nat.le_of_ble_eq_true rfl), _, _, _, Aa0.1, rfl, (Nat.le_of_ble_eq_true rfl), rfl, k⟩
theorem w135_7 {d a0 a2 as2 : Nat} {i1 is0 is1 : Int32} {w3 : AV} {h : AH} {P : PT} (k : ∃ n_as2, hT h as2 = some (102, n_as2) ∧ vp_in is1 n_as2 ∧ P (.inl (some (vI 0))) (wL h as2 is1.toNatClampNeg is0.toInt64)) : Ev d 135 7 [vR (some a0), vI i1, vR (some a2), w3] [vI is0, vI is1, vR (some as2)] h P := by
  refine Ev.step rfl ?_
  obtain ⟨n_as2, t1, k⟩ := k
  obtain ⟨q2, k⟩ := k
  refine Ev.step rfl ⟨⟨_, t1, q2⟩, ?_⟩
  refine Ev.step rfl (Ev.step rfl ?_)
  refine Ev.step rfl ⟨rfl, (fun e => Bool.noConfusion (show false = true from e)), k⟩
theorem w135_12 {d a0 a2 as0 : Nat} {i1 : Int32} {w3 : AV} {h : AH} {P : PT} (k : P (.inl (some (vI 1))) h) : Ev d 135 12 [vR (some a0), vI i1, vR (some a2), w3] [vR (some as0)] h P := by
  refine Ev.step rfl (Ev.step rfl ?_)
  refine Ev.step rfl ⟨rfl, (fun e => Bool.noConfusion (show false = true from e)), k⟩
theorem w135_15 {d a0 a2 as0 : Nat} {i1 : Int32} {w3 : AV} {h : AH} {P : PT} (k : P (.inl (some (vI 2))) h) : Ev d 135 15 [vR (some a0), vI i1, vR (some a2), w3] [vR (some as0)] h P := by
  refine Ev.step rfl (Ev.step rfl ?_)
  refine Ev.step rfl ⟨rfl, (fun e => Bool.noConfusion (show false = true from e)), k⟩
theorem w136_0 {d a0 a3 : Nat} {i1 i2 : Int32} {h : AH} {P : PT} (Aa0 : OB h a0 0 kX) (k : Ev d 11 0 [vR (some a0), vI i1, vI i2, vU] [] h (CK d 136 P 5 [vR (some a0), vI i1, vI i2, vR (some a3), vU] [vI 0, vR (some a3)])) : Ev (d + 1) 136 0 [vR (some a0), vI i1, vI i2, vR (some a3), vU] [] h P := by
  refine Ev.step rfl (Ev.step rfl (Ev.step rfl (Ev.step rfl (Ev.step rfl ?_))))
  exact Ev.step rfl ⟨(Nat.le_of_ble_eq_true rfl), _, _, _, Aa0.1, rfl, (Nat.le_of_ble_eq_true rfl), rfl, k⟩
theorem w136_8 {d a0 a3 as2 : Nat} {i1 i2 is0 is1 : Int32} {w4 : AV} {h : AH} {P : PT} (k : ((is0 = 0 → ∃ n_as2, hT h as2 = some (102, n_as2) ∧ vp_in is1 n_as2 ∧ P (.inl (some (vI 0))) (wL h as2 is1.toNatClampNeg 0)) ∧ (¬ is0 = 0 → ∃ n_as2, hT h as2 = some (102, n_as2) ∧ vp_in is1 n_as2 ∧ P (.inl (some (vI 0))) (wL h as2 is1.toNatClampNeg 1)))) : Ev d 136 8 [vR (some a0), vI i1, vI i2, vR (some a3), w4] [vI is0, vI is1, vR (some as2)] h P := by
  refine Ev.step rfl ⟨fun c => ?_, fun c => ?_⟩
  · replace k := k.1 c
    refine Ev.step rfl ?_
    obtain ⟨n_as2, t1, k⟩ := k
    obtain ⟨q2, k⟩ := k
    refine Ev.step rfl ⟨⟨_, t1, q2⟩, ?_⟩
    refine Ev.step rfl (Ev.step rfl ?_)
    refine Ev.step rfl ⟨rfl, (fun e => Bool.noConfusion (show false = true from e)), k⟩
  · replace k := k.2 c
    refine Ev.step rfl (Ev.step rfl ?_)
    obtain ⟨n_as2, t3, k⟩ := k
    obtain ⟨q4, k⟩ := k
    refine Ev.step rfl ⟨⟨_, t3, q4⟩, ?_⟩
    refine Ev.step rfl (Ev.step rfl ?_)
    refine Ev.step rfl ⟨rfl, (fun e => Bool.noConfusion (show false = true from e)), k⟩
theorem w136_20 {d a0 a3 as0 : Nat} {i1 i2 : Int32} {w4 : AV} {h : AH} {P : PT} (k : P (.inl (some (vI 1))) h) : Ev d 136 20 [vR (some a0), vI i1, vI i2, vR (some a3), w4] [vR (some as0)] h P := by
  refine Ev.step rfl (Ev.step rfl ?_)
  refine Ev.step rfl ⟨rfl, (fun e => Bool.noConfusion (show false = true from e)), k⟩
theorem w137_0 {d a0 a2 : Nat} {i1 : Int32} {h : AH} {P : PT} (Aa0 : OB h a0 0 kX) (k : Ev d 13 0 [vR (some a0), vI i1, vU, vU] [] h (CK d 137 P 4 [vR (some a0), vI i1, vR (some a2), vU] [vI 0, vR (some a2)])) : Ev (d + 1) 137 0 [vR (some a0), vI i1, vR (some a2), vU] [] h P := by
  refine Ev.step rfl (Ev.step rfl (Ev.step rfl (Ev.step rfl ?_)))
  exact Ev.step rfl ⟨(Nat.le_of_ble_eq_true rfl), _, _, _, Aa0.1, rfl, (Nat.le_of_ble_eq_true rfl), rfl, k⟩
theorem w137_7 {d a0 a2 as2 : Nat} {i1 is0 is1 : Int32} {w3 : AV} {h : AH} {P : PT} (k : ∃ n_as2, hT h as2 = some (102, n_as2) ∧ vp_in is1 n_as2 ∧ P (.inl (some (vI 0))) (wL h as2 is1.toNatClampNeg is0.toInt64)) : Ev d 137 7 [vR (some a0), vI i1, vR (some a2), w3] [vI is0, vI is1, vR (some as2)] h P := by
  refine Ev.step rfl ?_
  obtain ⟨n_as2, t1, k⟩ := k
  obtain ⟨q2, k⟩ := k
  refine Ev.step rfl ⟨⟨_, t1, q2⟩, ?_⟩
  refine Ev.step rfl (Ev.step rfl ?_)
  refine Ev.step rfl ⟨rfl, (fun e => Bool.noConfusion (show false = true from e)), k⟩
theorem w137_12 {d a0 a2 as0 : Nat} {i1 : Int32} {w3 : AV} {h : AH} {P : PT} (k : P (.inl (some (vI 1))) h) : Ev d 137 12 [vR (some a0), vI i1, vR (some a2), w3] [vR (some as0)] h P := by
  refine Ev.step rfl (Ev.step rfl ?_)
  refine Ev.step rfl ⟨rfl, (fun e => Bool.noConfusion (show false = true from e)), k⟩
theorem w137_15 {d a0 a2 as0 : Nat} {i1 : Int32} {w3 : AV} {h : AH} {P : PT} (k : P (.inl (some (vI 2))) h) : Ev d 137 15 [vR (some a0), vI i1, vR (some a2), w3] [vR (some as0)] h P := by
  refine Ev.step rfl (Ev.step rfl ?_)
  refine Ev.step rfl ⟨rfl, (fun e => Bool.noConfusion (show false = true from e)), k⟩
theorem w137_18 {d a0 a2 as0 : Nat} {i1 : Int32} {w3 : AV} {h : AH} {P : PT} (k : P (.inl (some (vI 3))) h) : Ev d 137 18 [vR (some a0), vI i1, vR (some a2), w3] [vR (some as0)] h P := by
  refine Ev.step rfl (Ev.step rfl ?_)
  refine Ev.step rfl ⟨rfl, (fun e => Bool.noConfusion (show false = true from e)), k⟩
theorem w138_0 {d a0 a3 : Nat} {i1 i2 : Int32} {h : AH} {P : PT} (Aa0 : OB h a0 0 kX) (k : Ev d 14 0 [vR (some a0), vI i1, vI i2, vU] [] h (CK d 138 P 5 [vR (some a0), vI i1, vI i2, vR (some a3), vU] [vI 0, vR (some a3)])) : Ev (d + 1) 138 0 [vR (some a0), vI i1, vI i2, vR (some a3), vU] [] h P := by
  refine Ev.step rfl (Ev.step rfl (Ev.step rfl (Ev.step rfl (Ev.step rfl ?_))))
  exact Ev.step rfl ⟨(Nat.le_of_ble_eq_true rfl), _, _, _, Aa0.1, rfl, (Nat.le_of_ble_eq_true rfl), rfl, k⟩
theorem w138_8 {d a0 a3 as2 : Nat} {i1 i2 is0 is1 : Int32} {w4 : AV} {h : AH} {P : PT} (k : ∃ n_as2, hT h as2 = some (102, n_as2) ∧ vp_in is1 n_as2 ∧ P (.inl (some (vI 0))) (wL h as2 is1.toNatClampNeg is0.toInt64)) : Ev d 138 8 [vR (some a0), vI i1, vI i2, vR (some a3), w4] [vI is0, vI is1, vR (some as2)] h P := by
  refine Ev.step rfl ?_
  obtain ⟨n_as2, t1, k⟩ := k
  obtain ⟨q2, k⟩ := k
  refine Ev.step rfl ⟨⟨_, t1, q2⟩, ?_⟩
  refine Ev.step rfl (Ev.step rfl ?_)
  refine Ev.step rfl ⟨rfl, (fun e => Bool.noConfusion (show false = true from e)), k⟩
theorem w138_13 {d a0 a3 as0 : Nat} {i1 i2 : Int32} {w4 : AV} {h : AH} {P : PT} (k : P (.inl (some (vI 1))) h) : Ev d 138 13 [vR (some a0), vI i1, vI i2, vR (some a3), w4] [vR (some as0)] h P := by
  refine Ev.step rfl (Ev.step rfl ?_)
  refine Ev.step rfl ⟨rfl, (fun e => Bool.noConfusion (show false = true from e)), k⟩
theorem w138_17 {d a0 a3 as0 : Nat} {i1 i2 : Int32} {w4 : AV} {h : AH} {P : PT} (k : P (.inl (some (vI 2))) h) : Ev d 138 17 [vR (some a0), vI i1, vI i2, vR (some a3), w4] [vR (some as0)] h P := by
  refine Ev.step rfl (Ev.step rfl ?_)
  refine Ev.step rfl ⟨rfl, (fun e => Bool.noConfusion (show false = true from e)), k⟩
theorem w139_0 {d a0 a4 : Nat} {i1 i2 i3 : Int32} {h : AH} {P : PT} (Aa0 : OB h a0 0 kX) (k : Ev d 16 0 [vR (some a0), vI i1, vI i2, vI i3, vU] [] h (CK d 139 P 7 [vR (some a0), vI i1, vI i2, vI i3, vR (some a4), vU] [vI 0, vR (some a4)])) : Ev (d + 1) 139 0 [vR (some a0), vI i1, vI i2, vI i3, vR (some a4), vU] [] h P := by
  refine Ev.step rfl (Ev.step rfl (Ev.step rfl (Ev.step rfl (Ev.step rfl (Ev.step rfl ?_)))))
  exact Ev.step rfl ⟨(Nat.le_of_ble_eq_true rfl), _, _, _, Aa0.1, rfl, (Nat.le_of_ble_eq_true rfl), rfl, k⟩
theorem w139_10 {d a0 a4 as2 : Nat} {i1 i2 i3 is0 is1 : Int32} {w5 : AV} {h : AH} {P : PT} (k : ∃ n_as2, hT h as2 = some (102, n_as2) ∧ vp_in is1 n_as2 ∧ P (.inl (some (vI 0))) (wL h as2 is1.toNatClampNeg is0.toInt64)) : Ev d 139 10 [vR (some a0), vI i1, vI i2, vI i3, vR (some a4), w5] [vI is0, vI is1, vR (some as2)] h P := by
  refine Ev.step rfl ?_
  obtain ⟨n_as2, t1, k⟩ := k
  obtain ⟨q2, k⟩ := k
  refine Ev.step rfl ⟨⟨_, t1, q2⟩, ?_⟩
  refine Ev.step rfl (Ev.step rfl ?_)
  refine Ev.step rfl ⟨rfl, (fun e => Bool.noConfusion (show false = true from e)), k⟩
theorem w139_15 {d a0 a4 as0 : Nat} {i1 i2 i3 : Int32} {w5 : AV} {h : AH} {P : PT} (k : P (.inl (some (vI 1))) h) : Ev d 139 15 [vR (some a0), vI i1, vI i2, vI i3, vR (some a4), w5] [vR (some as0)] h P := by
  refine Ev.step rfl (Ev.step rfl ?_)
  refine Ev.step rfl ⟨rfl, (fun e => Bool.noConfusion (show false = true from e)), k⟩
theorem w139_19 {d a0 a4 as0 : Nat} {i1 i2 i3 : Int32} {w5 : AV} {h : AH} {P : PT} (k : P (.inl (some (vI 2))) h) : Ev d 139 19 [vR (some a0), vI i1, vI i2, vI i3, vR (some a4), w5] [vR (some as0)] h P := by
  refine Ev.step rfl (Ev.step rfl ?_)
  refine Ev.step rfl ⟨rfl, (fun e => Bool.noConfusion (show false = true from e)), k⟩
theorem w140_0 {d a0 a3 : Nat} {i1 i2 : Int32} {h : AH} {P : PT} (Aa0 : OB h a0 0 kX) (k : Ev d 17 0 [vR (some a0), vI i1, vI i2, vU, vU, vU] [] h (CK d 140 P 5 [vR (some a0), vI i1, vI i2, vR (some a3), vU] [vI 0, vR (some a3)])) : Ev (d + 1) 140 0 [vR (some a0), vI i1, vI i2, vR (some a3), vU] [] h P := by
  refine Ev.step rfl (Ev.step rfl (Ev.step rfl (Ev.step rfl (Ev.step rfl ?_))))
  exact Ev.step rfl ⟨(Nat.le_of_ble_eq_true rfl), _, _, _, Aa0.1, rfl, (Nat.le_of_ble_eq_true rfl), rfl, k⟩
theorem w140_8 {d a0 a3 as2 : Nat} {i1 i2 is0 is1 : Int32} {w4 : AV} {h : AH} {P : PT} (k : ∃ n_as2, hT h as2 = some (102, n_as2) ∧ vp_in is1 n_as2 ∧ P (.inl (some (vI 0))) (wL h as2 is1.toNatClampNeg is0.toInt64)) : Ev d 140 8 [vR (some a0), vI i1, vI i2, vR (some a3), w4] [vI is0, vI is1, vR (some as2)] h P := by
  refine Ev.step rfl ?_
  obtain ⟨n_as2, t1, k⟩ := k
  obtain ⟨q2, k⟩ := k
  refine Ev.step rfl ⟨⟨_, t1, q2⟩, ?_⟩
  refine Ev.step rfl (Ev.step rfl ?_)
  refine Ev.step rfl ⟨rfl, (fun e => Bool.noConfusion (show false = true from e)), k⟩
theorem w140_13 {d a0 a3 as0 : Nat} {i1 i2 : Int32} {w4 : AV} {h : AH} {P : PT} (k : P (.inl (some (vI 1))) h) : Ev d 140 13 [vR (some a0), vI i1, vI i2, vR (some a3), w4] [vR (some as0)] h P := by
  refine Ev.step rfl (Ev.step rfl ?_)
  refine Ev.step rfl ⟨rfl, (fun e => Bool.noConfusion (show false = true from e)), k⟩
theorem w140_17 {d a0 a3 as0 : Nat} {i1 i2 : Int32} {w4 : AV} {h : AH} {P : PT} (k : P (.inl (some (vI 2))) h) : Ev d 140 17 [vR (some a0), vI i1, vI i2, vR (some a3), w4] [vR (some as0)] h P := by
  refine Ev.step rfl (Ev.step rfl ?_)
  refine Ev.step rfl ⟨rfl, (fun e => Bool.noConfusion (show false = true from e)), k⟩
theorem w141_0 {d a0 a2 : Nat} {i1 : Int32} {h : AH} {P : PT} (Aa0 : OB h a0 0 kX) (k : Ev d 18 0 [vR (some a0), vI i1, vU, vU, vU] [] h (CK d 141 P 4 [vR (some a0), vI i1, vR (some a2), vU] [vI 0, vR (some a2)])) : Ev (d + 1) 141 0 [vR (some a0), vI i1, vR (some a2), vU] [] h P := by
  refine Ev.step rfl (Ev.step rfl (Ev.step rfl (Ev.step rfl ?_)))
  exact Ev.step rfl ⟨(Nat.le_of_ble_eq_true rfl), _, _, _, Aa0.1, rfl, (Nat.le_of_ble_eq_true rfl), rfl, k⟩
theorem w141_7 {d a0 a2 as2 : Nat} {i1 is0 is1 : Int32} {w3 : AV} {h : AH} {P : PT} (k : ∃ n_as2, hT h as2 = some (102, n_as2) ∧ vp_in is1 n_as2 ∧ P (.inl (some (vI 0))) (wL h as2 is1.toNatClampNeg is0.toInt64)) : Ev d 141 7 [vR (some a0), vI i1, vR (some a2), w3] [vI is0, vI is1, vR (some as2)] h P := by
  refine Ev.step rfl ?_
  obtain ⟨n_as2, t1, k⟩ := k
  obtain ⟨q2, k⟩ := k
  refine Ev.step rfl ⟨⟨_, t1, q2⟩, ?_⟩
  refine Ev.step rfl (Ev.step rfl ?_)
  refine Ev.step rfl ⟨rfl, (fun e => Bool.noConfusion (show false = true from e)), k⟩
theorem w141_12 {d a0 a2 as0 : Nat} {i1 : Int32} {w3 : AV} {h : AH} {P : PT} (k : P (.inl (some (vI 1))) h) : Ev d 141 12 [vR (some a0), vI i1, vR (some a2), w3] [vR (some as0)] h P := by
  refine Ev.step rfl (Ev.step rfl ?_)
  refine Ev.step rfl ⟨rfl, (fun e => Bool.noConfusion (show false = true from e)), k⟩
theorem w141_15 {d a0 a2 as0 : Nat} {i1 : Int32} {w3 : AV} {h : AH} {P : PT} (k : P (.inl (some (vI 2))) h) : Ev d 141 15 [vR (some a0), vI i1, vR (some a2), w3] [vR (some as0)] h P := by
  refine Ev.step rfl (Ev.step rfl ?_)
  refine Ev.step rfl ⟨rfl, (fun e => Bool.noConfusion (show false = true from e)), k⟩
theorem w141_18 {d a0 a2 as0 : Nat} {i1 : Int32} {w3 : AV} {h : AH} {P : PT} (k : P (.inl (some (vI 3))) h) : Ev d 141 18 [vR (some a0), vI i1, vR (some a2), w3] [vR (some as0)] h P := by
  refine Ev.step rfl (Ev.step rfl ?_)
  refine Ev.step rfl ⟨rfl, (fun e => Bool.noConfusion (show false = true from e)), k⟩
set_option maxRecDepth 6000 in
theorem w142_0 {d a0 : Nat} {h : AH} {P : PT} (k : 1 ≤ hC h ∧ 11 ≤ hS h ∧ Ev d 142 3 [vR (some a0), vU, vU, vU, vU, vU, vU] [vR (some (hN h))] (al h (0, 0) 11) P) : Ev d 142 0 [vR (some a0), vU, vU, vU, vU, vU, vU] [] h P := by
  obtain ⟨q1, k⟩ := k
  obtain ⟨q2, k⟩ := k
  refine Ev.step rfl ⟨q1, q2, ?_⟩
  exact k
set_option maxRecDepth 6000 in
theorem w142_3 {d a0 as0 : Nat} {w1 w2 w3 w4 w5 w6 : AV} {h : AH} {P : PT} (k : Ev d 0 0 [vR (some as0)] [] h (CK d 142 P 4 [vR (some a0), w1, w2, w3, w4, w5, w6] [vR (some as0)])) : Ev (d + 1) 142 3 [vR (some a0), w1, w2, w3, w4, w5, w6] [vR (some as0)] h P := by
  refine Ev.step rfl (Or.inr ?_)
  exact Ev.step rfl ⟨(Nat.le_of_ble_eq_true rfl), trivial, (Nat.le_of_ble_eq_true rfl), rfl, k⟩
set_option maxRecDepth 6000 in
theorem w142_7 {d a0 as0 : Nat} {w1 w2 w3 w4 w5 w6 : AV} {h : AH} {P : PT} (k : 1 ≤ hC h ∧ 32 ≤ hS h ∧ Ev d 142 11 [vR (some a0), vR (some as0), w2, w3, w4, w5, w6] [vR (some (hN h))] (al h (16, 0) 32) P) : Ev d 142 7 [vR (some a0), w1, w2, w3, w4, w5, w6] [vR (some as0)] h P := by
  refine Ev.step rfl ?_
  obtain ⟨q1, k⟩ := k
  obtain ⟨q2, k⟩ := k
  refine Ev.step rfl ⟨q1, q2, ?_⟩
  exact k
set_option maxRecDepth 6000 in
theorem w142_11 {d a0 a1 as0 : Nat} {w2 w3 w4 w5 w6 : AV} {h : AH} {P : PT} (k : Ev d 84 0 [vR (some as0)] [] h (CK d 142 P 12 [vR (some a0), vR (some a1), w2, w3, w4, w5, w6] [vR (some as0)])) : Ev (d + 1) 142 11 [vR (some a0), vR (some a1), w2, w3, w4, w5, w6] [vR (some as0)] h P := by
  refine Ev.step rfl (Or.inr ?_)
  exact Ev.step rfl ⟨(Nat.le_of_ble_eq_true rfl), trivial, (Nat.le_of_ble_eq_true rfl), rfl, k⟩
set_option maxRecDepth 6000 in
theorem w142_15 {d a0 a1 as0 : Nat} {w2 w3 w4 w5 w6 : AV} {h : AH} {P : PT} (k : 1 ≤ hC h ∧ 1 ≤ hS h ∧ Ev d 142 19 [vR (some a0), vR (some a1), vR (some as0), w3, w4, w5, w6] [vR (some (hN h))] (al h (102, 1) 1) P) : Ev d 142 15 [vR (some a0), vR (some a1), w2, w3, w4, w5, w6] [vR (some as0)] h P := by
  refine Ev.step rfl (Ev.step rfl ?_)
  obtain ⟨q1, k⟩ := k
  obtain ⟨q2, k⟩ := k
  refine Ev.step rfl ⟨(Int32.not_lt.mpr (by decide)), (by decide), q1, q2, ?_⟩
  exact k
set_option maxRecDepth 6000 in
theorem w142_19 {d a0 a1 a2 as0 : Nat} {w3 w4 w5 w6 : AV} {h : AH} {P : PT} (k : Ev d 142 23 [vR (some a0), vR (some a1), vR (some a2), vR (some as0), vI 0, w5, w6] [] h P) : Ev d 142 19 [vR (some a0), vR (some a1), vR (some a2), w3, w4, w5, w6] [vR (some as0)] h P := by
  refine Ev.step rfl (Ev.step rfl (Ev.step rfl ?_))
  exact k
set_option maxRecDepth 6000 in
theorem w142_23 {d a0 a1 a2 a3 n : Nat} {i4 : Int32} {w5 w6 : AV} {h : AH} {P : PT} (Aa1 : OB h a1 0 kX) (k : hT h a0 = some (107, n) ∧ ((((nI n) - 4) < i4 → P (.inl (some (vI 1))) h) ∧ (i4 ≤ ((nI n) - 4) → aIn h a0 i4 ∧ ((((hI h a0 i4.toNatClampNeg) &&& 15) = 0 → aIn h a0 (i4 + 1) ∧ Ev d 135 0 [vR (some a1), vI (hI h a0 ((i4 + 1).toNatClampNeg)), vR (some a3), vU] [] h (CK d 142 P 124 [vR (some a0), vR (some a1), vR (some a2), vR (some a3), vI i4, w5, w6] [])) ∧ (((hI h a0 i4.toNatClampNeg) &&& 15) = 1 → aIn h a0 (i4 + 1) ∧ aIn h a0 (i4 + 2) ∧ Ev d 136 0 [vR (some a1), vI (hI h a0 ((i4 + 1).toNatClampNeg)), vI (hI h a0 ((i4 + 2).toNatClampNeg)), vR (some a3), vU] [] h (CK d 142 P 186 [vR (some a0), vR (some a1), vR (some a2), vR (some a3), vI i4, w5, w6] [])) ∧ (((hI h a0 i4.toNatClampNeg) &&& 15) = 2 → aIn h a0 (i4 + 1) ∧ aIn h a0 (i4 + 2) ∧ Ev d 1 0 [vR (some a1), vI (hI h a0 ((i4 + 1).toNatClampNeg)), vI (hI h a0 ((i4 + 2).toNatClampNeg))] [] h (CK d 142 P 260 [vR (some a0), vR (some a1), vR (some a2), vR (some a3), vI i4, w5, w6] [])) ∧ (((hI h a0 i4.toNatClampNeg) &&& 15) = 3 → aIn h a0 (i4 + 1) ∧ Ev d 137 0 [vR (some a1), vI (hI h a0 ((i4 + 1).toNatClampNeg)), vR (some a3), vU] [] h (CK d 142 P 292 [vR (some a0), vR (some a1), vR (some a2), vR (some a3), vI i4, w5, w6] [])) ∧ (((hI h a0 i4.toNatClampNeg) &&& 15) = 4 → aIn h a0 (i4 + 1) ∧ aIn h a0 (i4 + 2) ∧ Ev d 138 0 [vR (some a1), vI (hI h a0 ((i4 + 1).toNatClampNeg)), vI (hI h a0 ((i4 + 2).toNatClampNeg)), vR (some a3), vU] [] h (CK d 142 P 354 [vR (some a0), vR (some a1), vR (some a2), vR (some a3), vI i4, w5, w6] [])) ∧ (((hI h a0 i4.toNatClampNeg) &&& 15) = 5 → aIn h a0 (i4 + 1) ∧ aIn h a0 (i4 + 2) ∧ aIn h a0 (i4 + 3) ∧ Ev d 139 0 [vR (some a1), vI (hI h a0 ((i4 + 1).toNatClampNeg)), vI (hI h a0 ((i4 + 2).toNatClampNeg)), vI (hI h a0 ((i4 + 3).toNatClampNeg)), vR (some a3), vU] [] h (CK d 142 P 428 [vR (some a0), vR (some a1), vR (some a2), vR (some a3), vI i4, w5, w6] [])) ∧ (((hI h a0 i4.toNatClampNeg) &&& 15) = 6 → aIn h a0 (i4 + 1) ∧ aIn h a0 (i4 + 2) ∧ Ev d 140 0 [vR (some a1), vI (hI h a0 ((i4 + 1).toNatClampNeg)), vI (hI h a0 ((i4 + 2).toNatClampNeg)), vR (some a3), vU] [] h (CK d 142 P 502 [vR (some a0), vR (some a1), vR (some a2), vR (some a3), vI i4, w5, w6] [])) ∧ (((hI h a0 i4.toNatClampNeg) &&& 15) = 7 → aIn h a0 (i4 + 1) ∧ Ev d 2 0 [vR (some a1), vI (hI h a0 ((i4 + 1).toNatClampNeg))] [] h (CK d 142 P 563 [vR (some a0), vR (some a1), vR (some a2), vR (some a3), vI i4, w5, w6] [])) ∧ (((hI h a0 i4.toNatClampNeg) &&& 15) = 8 → aIn h a0 (i4 + 1) ∧ Ev d 3 0 [vR (some a1), vI (hI h a0 ((i4 + 1).toNatClampNeg))] [] h (CK d 142 P 588 [vR (some a0), vR (some a1), vR (some a2), vR (some a3), vI i4, w5, w6] [])) ∧ (((hI h a0 i4.toNatClampNeg) &&& 15) = 9 → Ev d 4 0 [vR (some a1), vU] [] h (CK d 142 P 607 [vR (some a0), vR (some a1), vR (some a2), vR (some a3), vI i4, w5, w6] [])) ∧ (((hI h a0 i4.toNatClampNeg) &&& 15) = 10 → Ev d 5 0 [vR (some a1), vU] [] h (CK d 142 P 620 [vR (some a0), vR (some a1), vR (some a2), vR (some a3), vI i4, w5, w6] [])) ∧ (((hI h a0 i4.toNatClampNeg) &&& 15) = 11 → aIn h a0 (i4 + 1) ∧ Ev d 141 0 [vR (some a1), vI (hI h a0 ((i4 + 1).toNatClampNeg)), vR (some a3), vU] [] h (CK d 142 P 640 [vR (some a0), vR (some a1), vR (some a2), vR (some a3), vI i4, w5, w6] [])) ∧ (((hI h a0 i4.toNatClampNeg) &&& 15) = 12 → Ev d 7 0 [vR (some a1)] [] h (CK d 142 P 689 [vR (some a0), vR (some a1), vR (some a2), vR (some a3), vI i4, w5, w6] [])) ∧ (((hI h a0 i4.toNatClampNeg) &&& 15) = 13 → Ev d 8 0 [vR (some a1)] [] h (CK d 142 P 702 [vR (some a0), vR (some a1), vR (some a2), vR (some a3), vI i4, w5, w6] [])) ∧ (((hI h a0 i4.toNatClampNeg) &&& 15) = 14 → aIn h a0 (i4 + 1) ∧ Ev d 9 0 [vR (some a1), vI (hI h a0 ((i4 + 1).toNatClampNeg))] [] h (CK d 142 P 721 [vR (some a0), vR (some a1), vR (some a2), vR (some a3), vI i4, w5, w6] [])) ∧ (((hI h a0 i4.toNatClampNeg) &&& 15) = 15 → Ev d 6 0 [vR (some a1)] [] h (CK d 142 P 740 [vR (some a0), vR (some a1), vR (some a2), vR (some a3), vI i4, w5, w6] [])) ∧ (((hI h a0 i4.toNatClampNeg) &&& 15).toInt < 0 ∨ 16 ≤ ((hI h a0 i4.toNatClampNeg) &&& 15).toInt → Ev (d + 1) 142 23 [vR (some a0), vR (some a1), vR (some a2), vR (some a3), vI (i4 + 4), w5, w6] [] h P))))) : Ev (d + 1) 142 23 [vR (some a0), vR (some a1), vR (some a2), vR (some a3), vI i4, w5, w6] [] h P := by
  refine Ev.step rfl (Ev.step rfl ?_)
  obtain ⟨q1, k⟩ := k
  refine Ev.step rfl ⟨7, n, by decide, q1, ?_⟩
  refine Ev.step rfl (Ev.step rfl ?_)
  refine Ev.step rfl ⟨fun c => ?_, fun c => ?_⟩
  · replace k := k.1 c
    refine Ev.step rfl ?_
    refine Ev.step rfl ⟨rfl, (fun _ => Or.inr rfl), k⟩
  · replace k := k.2 (Int32.not_lt.mp c)
    refine Ev.step rfl (Ev.step rfl ?_)
    obtain ⟨q2, k⟩ := k
    refine Ev.step rfl ⟨q2, ?_⟩
    refine Ev.step rfl (Ev.step rfl ?_)
    refine Ev.step rfl ⟨⟨fun c => ?_, fun c => ?_, fun c => ?_, fun c => ?_, fun c => ?_, fun c => ?_, fun c => ?_, fun c => ?_, fun c => ?_, fun c => ?_, fun c => ?_, fun c => ?_, fun c => ?_, fun c => ?_, fun c => ?_, fun c => ?_, trivial⟩, fun c => ?_⟩
    · replace k := k.1 c
      refine Ev.step rfl (Ev.step rfl (Ev.step rfl (Ev.step rfl (Ev.step rfl ?_))))
      obtain ⟨q3, k⟩ := k
      refine Ev.step rfl ⟨q3, ?_⟩
      refine Ev.step rfl ?_
      exact Ev.step rfl ⟨(Nat.le_of_ble_eq_true rfl), (Nat.le_of_ble_eq_true rfl), rfl, k⟩
    · replace k := k.2.1 c
      refine Ev.step rfl (Ev.step rfl (Ev.step rfl (Ev.step rfl (Ev.step rfl ?_))))
      obtain ⟨q4, k⟩ := k
      refine Ev.step rfl ⟨q4, ?_⟩
      refine Ev.step rfl (Ev.step rfl (Ev.step rfl (Ev.step rfl ?_)))
      obtain ⟨q5, k⟩ := k
      refine Ev.step rfl ⟨q5, ?_⟩
      refine Ev.step rfl ?_
      exact Ev.step rfl ⟨(Nat.le_of_ble_eq_true rfl), (Nat.le_of_ble_eq_true rfl), rfl, k⟩
    · replace k := k.2.2.1 c
      refine Ev.step rfl (Ev.step rfl (Ev.step rfl (Ev.step rfl (Ev.step rfl ?_))))
      obtain ⟨q6, k⟩ := k
      refine Ev.step rfl ⟨q6, ?_⟩
      refine Ev.step rfl (Ev.step rfl (Ev.step rfl (Ev.step rfl ?_)))
      obtain ⟨q7, k⟩ := k
      refine Ev.step rfl ⟨q7, ?_⟩
      exact Ev.step rfl ⟨(Nat.le_of_ble_eq_true rfl), _, _, _, Aa1.1, rfl, (Nat.le_of_ble_eq_true rfl), rfl, k⟩
    · replace k := k.2.2.2.1 c
      refine Ev.step rfl (Ev.step rfl (Ev.step rfl (Ev.step rfl (Ev.step rfl ?_))))
      obtain ⟨q8, k⟩ := k
      refine Ev.step rfl ⟨q8, ?_⟩
      refine Ev.step rfl ?_
      exact Ev.step rfl ⟨(Nat.le_of_ble_eq_true rfl), (Nat.le_of_ble_eq_true rfl), rfl, k⟩
    · replace k := k.2.2.2.2.1 c
      refine Ev.step rfl (Ev.step rfl (Ev.step rfl (Ev.step rfl (Ev.step rfl ?_))))
      obtain ⟨q9, k⟩ := k
      refine Ev.step rfl ⟨q9, ?_⟩
      refine Ev.step rfl (Ev.step rfl (Ev.step rfl (Ev.step rfl ?_)))
      obtain ⟨q10, k⟩ := k
      refine Ev.step rfl ⟨q10, ?_⟩
      refine Ev.step rfl ?_
      exact Ev.step rfl ⟨(Nat.le_of_ble_eq_true rfl), (Nat.le_of_ble_eq_true rfl), rfl, k⟩
    · replace k := k.2.2.2.2.2.1 c
      refine Ev.step rfl (Ev.step rfl (Ev.step rfl (Ev.step rfl (Ev.step rfl ?_))))
      obtain ⟨q11, k⟩ := k
      refine Ev.step rfl ⟨q11, ?_⟩
      refine Ev.step rfl (Ev.step rfl (Ev.step rfl (Ev.step rfl ?_)))
      obtain ⟨q12, k⟩ := k
      refine Ev.step rfl ⟨q12, ?_⟩
      refine Ev.step rfl (Ev.step rfl (Ev.step rfl (Ev.step rfl ?_)))
      obtain ⟨q13, k⟩ := k
      refine Ev.step rfl ⟨q13, ?_⟩
      refine Ev.step rfl ?_
      exact Ev.step rfl ⟨(Nat.le_of_ble_eq_true rfl), (Nat.le_of_ble_eq_true rfl), rfl, k⟩
    · replace k := k.2.2.2.2.2.2.1 c
      refine Ev.step rfl (Ev.step rfl (Ev.step rfl (Ev.step rfl (Ev.step rfl ?_))))
      obtain ⟨q14, k⟩ := k
      refine Ev.step rfl ⟨q14, ?_⟩
      refine Ev.step rfl (Ev.step rfl (Ev.step rfl (Ev.step rfl ?_)))
      obtain ⟨q15, k⟩ := k
      refine Ev.step rfl ⟨q15, ?_⟩
      refine Ev.step rfl ?_
      exact Ev.step rfl ⟨(Nat.le_of_ble_eq_true rfl), (Nat.le_of_ble_eq_true rfl), rfl, k⟩
    · replace k := k.2.2.2.2.2.2.2.1 c
      refine Ev.step rfl (Ev.step rfl (Ev.step rfl (Ev.step rfl (Ev.step rfl ?_))))
      obtain ⟨q16, k⟩ := k
      refine Ev.step rfl ⟨q16, ?_⟩
      exact Ev.step rfl ⟨(Nat.le_of_ble_eq_true rfl), _, _, _, Aa1.1, rfl, (Nat.le_of_ble_eq_true rfl), rfl, k⟩
    · replace k := k.2.2.2.2.2.2.2.2.1 c
      refine Ev.step rfl (Ev.step rfl (Ev.step rfl (Ev.step rfl (Ev.step rfl ?_))))
      obtain ⟨q17, k⟩ := k
      refine Ev.step rfl ⟨q17, ?_⟩
      exact Ev.step rfl ⟨(Nat.le_of_ble_eq_true rfl), _, _, _, Aa1.1, rfl, (Nat.le_of_ble_eq_true rfl), rfl, k⟩
    · replace k := k.2.2.2.2.2.2.2.2.2.1 c
      refine Ev.step rfl ?_
      exact Ev.step rfl ⟨(Nat.le_of_ble_eq_true rfl), _, _, _, Aa1.1, rfl, (Nat.le_of_ble_eq_true rfl), rfl, k⟩
    · replace k := k.2.2.2.2.2.2.2.2.2.2.1 c
      refine Ev.step rfl ?_
      exact Ev.step rfl ⟨(Nat.le_of_ble_eq_true rfl), _, _, _, Aa1.1, rfl, (Nat.le_of_ble_eq_true rfl), rfl, k⟩
    · replace k := k.2.2.2.2.2.2.2.2.2.2.2.1 c
      refine Ev.step rfl (Ev.step rfl (Ev.step rfl (Ev.step rfl (Ev.step rfl ?_))))
      obtain ⟨q18, k⟩ := k
      refine Ev.step rfl ⟨q18, ?_⟩
      refine Ev.step rfl ?_
      exact Ev.step rfl ⟨(Nat.le_of_ble_eq_true rfl), (Nat.le_of_ble_eq_true rfl), rfl, k⟩
    · replace k := k.2.2.2.2.2.2.2.2.2.2.2.2.1 c
      refine Ev.step rfl ?_
      exact Ev.step rfl ⟨(Nat.le_of_ble_eq_true rfl), _, _, _, Aa1.1, rfl, (Nat.le_of_ble_eq_true rfl), rfl, k⟩
    · replace k := k.2.2.2.2.2.2.2.2.2.2.2.2.2.1 c
      refine Ev.step rfl ?_
      exact Ev.step rfl ⟨(Nat.le_of_ble_eq_true rfl), _, _, _, Aa1.1, rfl, (Nat.le_of_ble_eq_true rfl), rfl, k⟩
    · replace k := k.2.2.2.2.2.2.2.2.2.2.2.2.2.2.1 c
      refine Ev.step rfl (Ev.step rfl (Ev.step rfl (Ev.step rfl (Ev.step rfl ?_))))
      obtain ⟨q19, k⟩ := k
      refine Ev.step rfl ⟨q19, ?_⟩
      exact Ev.step rfl ⟨(Nat.le_of_ble_eq_true rfl), _, _, _, Aa1.1, rfl, (Nat.le_of_ble_eq_true rfl), rfl, k⟩
    · replace k := k.2.2.2.2.2.2.2.2.2.2.2.2.2.2.2.1 c
      refine Ev.step rfl ?_
      exact Ev.step rfl ⟨(Nat.le_of_ble_eq_true rfl), _, _, _, Aa1.1, rfl, (Nat.le_of_ble_eq_true rfl), rfl, k⟩
    · replace k := k.2.2.2.2.2.2.2.2.2.2.2.2.2.2.2.2 c
      refine Ev.step rfl (Ev.step rfl ?_)
      exact k
set_option maxRecDepth 6000 in
theorem w142_127 {d a0 a1 a2 a3 : Nat} {i4 is0 : Int32} {w5 w6 : AV} {h : AH} {P : PT} (Aa2 : OB h a2 16 kM) (k : aIn h a0 (i4 + 1) ∧ Ev d 86 0 [vR (some a2), vI (hI h a0 ((i4 + 1).toNatClampNeg))] [] h (CK d 142 P 136 [vR (some a0), vR (some a1), vR (some a2), vR (some a3), vI i4, vI is0, w6] [])) : Ev (d + 1) 142 127 [vR (some a0), vR (some a1), vR (some a2), vR (some a3), vI i4, w5, w6] [vI is0] h P := by
  refine Ev.step rfl (Ev.step rfl (Ev.step rfl (Ev.step rfl (Ev.step rfl (Ev.step rfl ?_)))))
  obtain ⟨q1, k⟩ := k
  refine Ev.step rfl ⟨q1, ?_⟩
  exact Ev.step rfl ⟨(Nat.le_of_ble_eq_true rfl), _, _, _, Aa2.1, rfl, (Nat.le_of_ble_eq_true rfl), rfl, k⟩
set_option maxRecDepth 6000 in
theorem w142_139 {d a0 a1 a2 a3 : Nat} {i4 i5 is0 : Int32} {w6 : AV} {h : AH} {P : PT} (Aa2 : OB h a2 16 kM) (k : Ev d 85 0 [vR (some a2)] [] h (CK d 142 P 142 [vR (some a0), vR (some a1), vR (some a2), vR (some a3), vI i4, vI i5, vI is0] [])) : Ev (d + 1) 142 139 [vR (some a0), vR (some a1), vR (some a2), vR (some a3), vI i4, vI i5, w6] [vI is0] h P := by
  refine Ev.step rfl (Ev.step rfl ?_)
  exact Ev.step rfl ⟨(Nat.le_of_ble_eq_true rfl), _, _, _, Aa2.1, rfl, (Nat.le_of_ble_eq_true rfl), rfl, k⟩
set_option maxRecDepth 6000 in
theorem w142_145 {d a0 a1 a2 a3 : Nat} {i4 i5 i6 is0 : Int32} {h : AH} {P : PT} (k : ((is0 = i5 → ((¬ i5 = 0 → Ev d 142 23 [vR (some a0), vR (some a1), vR (some a2), vR (some a3), vI (i4 + 4), vI i5, vI i6] [] h P) ∧ (i5 = 0 → ∃ n_a3, hT h a3 = some (102, n_a3) ∧ vp_in 0 n_a3 ∧ (((hL h a3 ((0 : Int32).toNatClampNeg)) = i6.toInt64 → Ev d 142 23 [vR (some a0), vR (some a1), vR (some a2), vR (some a3), vI (i4 + 4), vI i5, vI i6] [] h P) ∧ (¬ (hL h a3 ((0 : Int32).toNatClampNeg)) = i6.toInt64 → P (.inl (some (vI 0))) h))))) ∧ (¬ is0 = i5 → P (.inl (some (vI 0))) h))) : Ev d 142 145 [vR (some a0), vR (some a1), vR (some a2), vR (some a3), vI i4, vI i5, vI i6] [vI is0] h P := by
  refine Ev.step rfl ?_
  refine Ev.step rfl ⟨fun c => ?_, fun c => ?_⟩
  · replace k := k.1 c
    refine Ev.step rfl ?_
    refine Ev.step rfl ⟨fun c => ?_, fun c => ?_⟩
    · replace k := k.1 c
      refine Ev.step rfl (Ev.step rfl (Ev.step rfl ?_))
      exact k
    · replace k := k.2 (Decidable.not_not.mp c)
      refine Ev.step rfl (Ev.step rfl ?_)
      obtain ⟨n_a3, t1, k⟩ := k
      obtain ⟨q2, k⟩ := k
      refine Ev.step rfl ⟨⟨_, t1, q2⟩, ?_⟩
      refine Ev.step rfl (Ev.step rfl (Ev.step rfl ?_))
      refine Ev.step rfl ⟨fun c => ?_, fun c => ?_⟩
      · replace k := k.1 ((lgc_eq (hL h a3 ((0 : Int32).toNatClampNeg)) i6.toInt64).mp c)
        refine Ev.step rfl (Ev.step rfl (Ev.step rfl ?_))
        exact k
      · replace k := k.2 (fun z => c ((lgc_eq (hL h a3 ((0 : Int32).toNatClampNeg)) i6.toInt64).mpr z))
        refine Ev.step rfl ?_
        refine Ev.step rfl ⟨rfl, (fun _ => Or.inl rfl), k⟩
  · replace k := k.2 c
    refine Ev.step rfl ?_
    refine Ev.step rfl ⟨rfl, (fun _ => Or.inl rfl), k⟩
set_option maxRecDepth 6000 in
theorem w142_189 {d a0 a1 a2 a3 : Nat} {i4 is0 : Int32} {w5 w6 : AV} {h : AH} {P : PT} (Aa2 : OB h a2 16 kM) (k : aIn h a0 (i4 + 1) ∧ aIn h a0 (i4 + 2) ∧ Ev d 87 0 [vR (some a2), vI (hI h a0 ((i4 + 1).toNatClampNeg)), vI (hI h a0 ((i4 + 2).toNatClampNeg))] [] h (CK d 142 P 204 [vR (some a0), vR (some a1), vR (some a2), vR (some a3), vI i4, vI is0, w6] [])) : Ev (d + 1) 142 189 [vR (some a0), vR (some a1), vR (some a2), vR (some a3), vI i4, w5, w6] [vI is0] h P := by
  refine Ev.step rfl (Ev.step rfl (Ev.step rfl (Ev.step rfl (Ev.step rfl (Ev.step rfl ?_)))))
  obtain ⟨q1, k⟩ := k
  refine Ev.step rfl ⟨q1, ?_⟩
  refine Ev.step rfl (Ev.step rfl (Ev.step rfl (Ev.step rfl ?_)))
  obtain ⟨q2, k⟩ := k
  refine Ev.step rfl ⟨q2, ?_⟩
  exact Ev.step rfl ⟨(Nat.le_of_ble_eq_true rfl), _, _, _, Aa2.1, rfl, (Nat.le_of_ble_eq_true rfl), rfl, k⟩
set_option maxRecDepth 6000 in
theorem w142_207 {d a0 a1 a2 a3 : Nat} {i4 i5 is0 : Int32} {w6 : AV} {h : AH} {P : PT} (Aa2 : OB h a2 16 kM) (k : Ev d 85 0 [vR (some a2)] [] h (CK d 142 P 210 [vR (some a0), vR (some a1), vR (some a2), vR (some a3), vI i4, vI i5, vI is0] [])) : Ev (d + 1) 142 207 [vR (some a0), vR (some a1), vR (some a2), vR (some a3), vI i4, vI i5, w6] [vI is0] h P := by
  refine Ev.step rfl (Ev.step rfl ?_)
  exact Ev.step rfl ⟨(Nat.le_of_ble_eq_true rfl), _, _, _, Aa2.1, rfl, (Nat.le_of_ble_eq_true rfl), rfl, k⟩
set_option maxRecDepth 6000 in
theorem w142_213 {d a0 a1 a2 a3 : Nat} {i4 i5 i6 is0 : Int32} {h : AH} {P : PT} (k : ((is0 = i5 → ((¬ i5 = 0 → Ev d 142 23 [vR (some a0), vR (some a1), vR (some a2), vR (some a3), vI (i4 + 4), vI i5, vI i6] [] h P) ∧ (i5 = 0 → ∃ n_a3, hT h a3 = some (102, n_a3) ∧ vp_in 0 n_a3 ∧ ((i6 = 0 → (((hL h a3 ((0 : Int32).toNatClampNeg)) = 0 → Ev d 142 23 [vR (some a0), vR (some a1), vR (some a2), vR (some a3), vI (i4 + 4), vI i5, vI i6] [] h P) ∧ (¬ (hL h a3 ((0 : Int32).toNatClampNeg)) = 0 → P (.inl (some (vI 0))) h))) ∧ (¬ i6 = 0 → (((hL h a3 ((0 : Int32).toNatClampNeg)) = 1 → Ev d 142 23 [vR (some a0), vR (some a1), vR (some a2), vR (some a3), vI (i4 + 4), vI i5, vI i6] [] h P) ∧ (¬ (hL h a3 ((0 : Int32).toNatClampNeg)) = 1 → P (.inl (some (vI 0))) h))))))) ∧ (¬ is0 = i5 → P (.inl (some (vI 0))) h))) : Ev d 142 213 [vR (some a0), vR (some a1), vR (some a2), vR (some a3), vI i4, vI i5, vI i6] [vI is0] h P := by
  refine Ev.step rfl ?_
  refine Ev.step rfl ⟨fun c => ?_, fun c => ?_⟩
  · replace k := k.1 c
    refine Ev.step rfl ?_
    refine Ev.step rfl ⟨fun c => ?_, fun c => ?_⟩
    · replace k := k.1 c
      refine Ev.step rfl (Ev.step rfl (Ev.step rfl ?_))
      exact k
    · replace k := k.2 (Decidable.not_not.mp c)
      refine Ev.step rfl (Ev.step rfl ?_)
      obtain ⟨n_a3, t1, k⟩ := k
      obtain ⟨q2, k⟩ := k
      refine Ev.step rfl ⟨⟨_, t1, q2⟩, ?_⟩
      refine Ev.step rfl ?_
      refine Ev.step rfl ⟨fun c => ?_, fun c => ?_⟩
      · replace k := k.1 c
        refine Ev.step rfl (Ev.step rfl ?_)
        refine Ev.step rfl ⟨fun c => ?_, fun c => ?_⟩
        · replace k := k.1 ((lgc_eq (hL h a3 ((0 : Int32).toNatClampNeg)) 0).mp c)
          refine Ev.step rfl (Ev.step rfl (Ev.step rfl ?_))
          exact k
        · replace k := k.2 (fun z => c ((lgc_eq (hL h a3 ((0 : Int32).toNatClampNeg)) 0).mpr z))
          refine Ev.step rfl ?_
          refine Ev.step rfl ⟨rfl, (fun _ => Or.inl rfl), k⟩
      · replace k := k.2 c
        refine Ev.step rfl (Ev.step rfl (Ev.step rfl ?_))
        refine Ev.step rfl ⟨fun c => ?_, fun c => ?_⟩
        · replace k := k.1 ((lgc_eq (hL h a3 ((0 : Int32).toNatClampNeg)) 1).mp c)
          refine Ev.step rfl (Ev.step rfl (Ev.step rfl ?_))
          exact k
        · replace k := k.2 (fun z => c ((lgc_eq (hL h a3 ((0 : Int32).toNatClampNeg)) 1).mpr z))
          refine Ev.step rfl ?_
          refine Ev.step rfl ⟨rfl, (fun _ => Or.inl rfl), k⟩
  · replace k := k.2 c
    refine Ev.step rfl ?_
    refine Ev.step rfl ⟨rfl, (fun _ => Or.inl rfl), k⟩
set_option maxRecDepth 6000 in
theorem w142_263 {d a0 a1 a2 a3 : Nat} {i4 is0 : Int32} {w5 w6 : AV} {h : AH} {P : PT} (Aa2 : OB h a2 16 kM) (k : aIn h a0 (i4 + 1) ∧ aIn h a0 (i4 + 2) ∧ Ev d 90 0 [vR (some a2), vI (hI h a0 ((i4 + 1).toNatClampNeg)), vI (hI h a0 ((i4 + 2).toNatClampNeg))] [] h (CK d 142 P 276 [vR (some a0), vR (some a1), vR (some a2), vR (some a3), vI i4, w5, w6] [vI is0])) : Ev (d + 1) 142 263 [vR (some a0), vR (some a1), vR (some a2), vR (some a3), vI i4, w5, w6] [vI is0] h P := by
  refine Ev.step rfl (Ev.step rfl (Ev.step rfl (Ev.step rfl (Ev.step rfl ?_))))
  obtain ⟨q1, k⟩ := k
  refine Ev.step rfl ⟨q1, ?_⟩
  refine Ev.step rfl (Ev.step rfl (Ev.step rfl (Ev.step rfl ?_)))
  obtain ⟨q2, k⟩ := k
  refine Ev.step rfl ⟨q2, ?_⟩
  exact Ev.step rfl ⟨(Nat.le_of_ble_eq_true rfl), _, _, _, Aa2.1, rfl, (Nat.le_of_ble_eq_true rfl), rfl, k⟩
set_option maxRecDepth 6000 in
theorem w142_279 {d a0 a1 a2 a3 : Nat} {i4 is0 is1 : Int32} {w5 w6 : AV} {h : AH} {P : PT} (k : ((is1 = is0 → Ev d 142 23 [vR (some a0), vR (some a1), vR (some a2), vR (some a3), vI (i4 + 4), w5, w6] [] h P) ∧ (¬ is1 = is0 → P (.inl (some (vI 0))) h))) : Ev d 142 279 [vR (some a0), vR (some a1), vR (some a2), vR (some a3), vI i4, w5, w6] [vI is0, vI is1] h P := by
  refine Ev.step rfl ⟨fun c => ?_, fun c => ?_⟩
  · replace k := k.1 c
    refine Ev.step rfl (Ev.step rfl ?_)
    exact k
  · replace k := k.2 c
    refine Ev.step rfl ?_
    refine Ev.step rfl ⟨rfl, (fun _ => Or.inl rfl), k⟩
set_option maxRecDepth 6000 in
theorem w142_295 {d a0 a1 a2 a3 : Nat} {i4 is0 : Int32} {w5 w6 : AV} {h : AH} {P : PT} (Aa2 : OB h a2 16 kM) (k : aIn h a0 (i4 + 1) ∧ Ev d 91 0 [vR (some a2), vI (hI h a0 ((i4 + 1).toNatClampNeg)), vU] [] h (CK d 142 P 304 [vR (some a0), vR (some a1), vR (some a2), vR (some a3), vI i4, vI is0, w6] [])) : Ev (d + 1) 142 295 [vR (some a0), vR (some a1), vR (some a2), vR (some a3), vI i4, w5, w6] [vI is0] h P := by
  refine Ev.step rfl (Ev.step rfl (Ev.step rfl (Ev.step rfl (Ev.step rfl (Ev.step rfl ?_)))))
  obtain ⟨q1, k⟩ := k
  refine Ev.step rfl ⟨q1, ?_⟩
  exact Ev.step rfl ⟨(Nat.le_of_ble_eq_true rfl), _, _, _, Aa2.1, rfl, (Nat.le_of_ble_eq_true rfl), rfl, k⟩
set_option maxRecDepth 6000 in
theorem w142_307 {d a0 a1 a2 a3 : Nat} {i4 i5 is0 : Int32} {w6 : AV} {h : AH} {P : PT} (Aa2 : OB h a2 16 kM) (k : Ev d 85 0 [vR (some a2)] [] h (CK d 142 P 310 [vR (some a0), vR (some a1), vR (some a2), vR (some a3), vI i4, vI i5, vI is0] [])) : Ev (d + 1) 142 307 [vR (some a0), vR (some a1), vR (some a2), vR (some a3), vI i4, vI i5, w6] [vI is0] h P := by
  refine Ev.step rfl (Ev.step rfl ?_)
  exact Ev.step rfl ⟨(Nat.le_of_ble_eq_true rfl), _, _, _, Aa2.1, rfl, (Nat.le_of_ble_eq_true rfl), rfl, k⟩
set_option maxRecDepth 6000 in
theorem w142_313 {d a0 a1 a2 a3 : Nat} {i4 i5 i6 is0 : Int32} {h : AH} {P : PT} (k : ((is0 = i5 → ((¬ i5 = 0 → Ev d 142 23 [vR (some a0), vR (some a1), vR (some a2), vR (some a3), vI (i4 + 4), vI i5, vI i6] [] h P) ∧ (i5 = 0 → ∃ n_a3, hT h a3 = some (102, n_a3) ∧ vp_in 0 n_a3 ∧ (((hL h a3 ((0 : Int32).toNatClampNeg)) = i6.toInt64 → Ev d 142 23 [vR (some a0), vR (some a1), vR (some a2), vR (some a3), vI (i4 + 4), vI i5, vI i6] [] h P) ∧ (¬ (hL h a3 ((0 : Int32).toNatClampNeg)) = i6.toInt64 → P (.inl (some (vI 0))) h))))) ∧ (¬ is0 = i5 → P (.inl (some (vI 0))) h))) : Ev d 142 313 [vR (some a0), vR (some a1), vR (some a2), vR (some a3), vI i4, vI i5, vI i6] [vI is0] h P := by
  refine Ev.step rfl ?_
  refine Ev.step rfl ⟨fun c => ?_, fun c => ?_⟩
  · replace k := k.1 c
    refine Ev.step rfl ?_
    refine Ev.step rfl ⟨fun c => ?_, fun c => ?_⟩
    · replace k := k.1 c
      refine Ev.step rfl (Ev.step rfl (Ev.step rfl ?_))
      exact k
    · replace k := k.2 (Decidable.not_not.mp c)
      refine Ev.step rfl (Ev.step rfl ?_)
      obtain ⟨n_a3, t1, k⟩ := k
      obtain ⟨q2, k⟩ := k
      refine Ev.step rfl ⟨⟨_, t1, q2⟩, ?_⟩
      refine Ev.step rfl (Ev.step rfl (Ev.step rfl ?_))
      refine Ev.step rfl ⟨fun c => ?_, fun c => ?_⟩
      · replace k := k.1 ((lgc_eq (hL h a3 ((0 : Int32).toNatClampNeg)) i6.toInt64).mp c)
        refine Ev.step rfl (Ev.step rfl (Ev.step rfl ?_))
        exact k
      · replace k := k.2 (fun z => c ((lgc_eq (hL h a3 ((0 : Int32).toNatClampNeg)) i6.toInt64).mpr z))
        refine Ev.step rfl ?_
        refine Ev.step rfl ⟨rfl, (fun _ => Or.inl rfl), k⟩
  · replace k := k.2 c
    refine Ev.step rfl ?_
    refine Ev.step rfl ⟨rfl, (fun _ => Or.inl rfl), k⟩
set_option maxRecDepth 6000 in
theorem w142_357 {d a0 a1 a2 a3 : Nat} {i4 is0 : Int32} {w5 w6 : AV} {h : AH} {P : PT} (Aa2 : OB h a2 16 kM) (k : aIn h a0 (i4 + 1) ∧ aIn h a0 (i4 + 2) ∧ Ev d 94 0 [vR (some a2), vI (hI h a0 ((i4 + 1).toNatClampNeg)), vI (hI h a0 ((i4 + 2).toNatClampNeg)), vU, vU] [] h (CK d 142 P 372 [vR (some a0), vR (some a1), vR (some a2), vR (some a3), vI i4, vI is0, w6] [])) : Ev (d + 1) 142 357 [vR (some a0), vR (some a1), vR (some a2), vR (some a3), vI i4, w5, w6] [vI is0] h P := by
  refine Ev.step rfl (Ev.step rfl (Ev.step rfl (Ev.step rfl (Ev.step rfl (Ev.step rfl ?_)))))
  obtain ⟨q1, k⟩ := k
  refine Ev.step rfl ⟨q1, ?_⟩
  refine Ev.step rfl (Ev.step rfl (Ev.step rfl (Ev.step rfl ?_)))
  obtain ⟨q2, k⟩ := k
  refine Ev.step rfl ⟨q2, ?_⟩
  exact Ev.step rfl ⟨(Nat.le_of_ble_eq_true rfl), _, _, _, Aa2.1, rfl, (Nat.le_of_ble_eq_true rfl), rfl, k⟩
set_option maxRecDepth 6000 in
theorem w142_375 {d a0 a1 a2 a3 : Nat} {i4 i5 is0 : Int32} {w6 : AV} {h : AH} {P : PT} (Aa2 : OB h a2 16 kM) (k : Ev d 85 0 [vR (some a2)] [] h (CK d 142 P 378 [vR (some a0), vR (some a1), vR (some a2), vR (some a3), vI i4, vI i5, vI is0] [])) : Ev (d + 1) 142 375 [vR (some a0), vR (some a1), vR (some a2), vR (some a3), vI i4, vI i5, w6] [vI is0] h P := by
  refine Ev.step rfl (Ev.step rfl ?_)
  exact Ev.step rfl ⟨(Nat.le_of_ble_eq_true rfl), _, _, _, Aa2.1, rfl, (Nat.le_of_ble_eq_true rfl), rfl, k⟩
set_option maxRecDepth 6000 in
theorem w142_381 {d a0 a1 a2 a3 : Nat} {i4 i5 i6 is0 : Int32} {h : AH} {P : PT} (k : ((is0 = i5 → ((¬ i5 = 0 → Ev d 142 23 [vR (some a0), vR (some a1), vR (some a2), vR (some a3), vI (i4 + 4), vI i5, vI i6] [] h P) ∧ (i5 = 0 → ∃ n_a3, hT h a3 = some (102, n_a3) ∧ vp_in 0 n_a3 ∧ (((hL h a3 ((0 : Int32).toNatClampNeg)) = i6.toInt64 → Ev d 142 23 [vR (some a0), vR (some a1), vR (some a2), vR (some a3), vI (i4 + 4), vI i5, vI i6] [] h P) ∧ (¬ (hL h a3 ((0 : Int32).toNatClampNeg)) = i6.toInt64 → P (.inl (some (vI 0))) h))))) ∧ (¬ is0 = i5 → P (.inl (some (vI 0))) h))) : Ev d 142 381 [vR (some a0), vR (some a1), vR (some a2), vR (some a3), vI i4, vI i5, vI i6] [vI is0] h P := by
  refine Ev.step rfl ?_
  refine Ev.step rfl ⟨fun c => ?_, fun c => ?_⟩
  · replace k := k.1 c
    refine Ev.step rfl ?_
    refine Ev.step rfl ⟨fun c => ?_, fun c => ?_⟩
    · replace k := k.1 c
      refine Ev.step rfl (Ev.step rfl (Ev.step rfl ?_))
      exact k
    · replace k := k.2 (Decidable.not_not.mp c)
      refine Ev.step rfl (Ev.step rfl ?_)
      obtain ⟨n_a3, t1, k⟩ := k
      obtain ⟨q2, k⟩ := k
      refine Ev.step rfl ⟨⟨_, t1, q2⟩, ?_⟩
      refine Ev.step rfl (Ev.step rfl (Ev.step rfl ?_))
      refine Ev.step rfl ⟨fun c => ?_, fun c => ?_⟩
      · replace k := k.1 ((lgc_eq (hL h a3 ((0 : Int32).toNatClampNeg)) i6.toInt64).mp c)
        refine Ev.step rfl (Ev.step rfl (Ev.step rfl ?_))
        exact k
      · replace k := k.2 (fun z => c ((lgc_eq (hL h a3 ((0 : Int32).toNatClampNeg)) i6.toInt64).mpr z))
        refine Ev.step rfl ?_
        refine Ev.step rfl ⟨rfl, (fun _ => Or.inl rfl), k⟩
  · replace k := k.2 c
    refine Ev.step rfl ?_
    refine Ev.step rfl ⟨rfl, (fun _ => Or.inl rfl), k⟩
set_option maxRecDepth 6000 in
theorem w142_431 {d a0 a1 a2 a3 : Nat} {i4 is0 : Int32} {w5 w6 : AV} {h : AH} {P : PT} (Aa2 : OB h a2 16 kM) (k : aIn h a0 (i4 + 1) ∧ aIn h a0 (i4 + 2) ∧ aIn h a0 (i4 + 3) ∧ Ev d 95 0 [vR (some a2), vI (hI h a0 ((i4 + 1).toNatClampNeg)), vI (hI h a0 ((i4 + 2).toNatClampNeg)), vI (hI h a0 ((i4 + 3).toNatClampNeg))] [] h (CK d 142 P 452 [vR (some a0), vR (some a1), vR (some a2), vR (some a3), vI i4, vI is0, w6] [])) : Ev (d + 1) 142 431 [vR (some a0), vR (some a1), vR (some a2), vR (some a3), vI i4, w5, w6] [vI is0] h P := by
  refine Ev.step rfl (Ev.step rfl (Ev.step rfl (Ev.step rfl (Ev.step rfl (Ev.step rfl ?_)))))
  obtain ⟨q1, k⟩ := k
  refine Ev.step rfl ⟨q1, ?_⟩
  refine Ev.step rfl (Ev.step rfl (Ev.step rfl (Ev.step rfl ?_)))
  obtain ⟨q2, k⟩ := k
  refine Ev.step rfl ⟨q2, ?_⟩
  refine Ev.step rfl (Ev.step rfl (Ev.step rfl (Ev.step rfl ?_)))
  obtain ⟨q3, k⟩ := k
  refine Ev.step rfl ⟨q3, ?_⟩
  exact Ev.step rfl ⟨(Nat.le_of_ble_eq_true rfl), _, _, _, Aa2.1, rfl, (Nat.le_of_ble_eq_true rfl), rfl, k⟩
set_option maxRecDepth 6000 in
theorem w142_455 {d a0 a1 a2 a3 : Nat} {i4 i5 is0 : Int32} {w6 : AV} {h : AH} {P : PT} (Aa2 : OB h a2 16 kM) (k : Ev d 85 0 [vR (some a2)] [] h (CK d 142 P 458 [vR (some a0), vR (some a1), vR (some a2), vR (some a3), vI i4, vI i5, vI is0] [])) : Ev (d + 1) 142 455 [vR (some a0), vR (some a1), vR (some a2), vR (some a3), vI i4, vI i5, w6] [vI is0] h P := by
  refine Ev.step rfl (Ev.step rfl ?_)
  exact Ev.step rfl ⟨(Nat.le_of_ble_eq_true rfl), _, _, _, Aa2.1, rfl, (Nat.le_of_ble_eq_true rfl), rfl, k⟩
set_option maxRecDepth 6000 in
theorem w142_461 {d a0 a1 a2 a3 : Nat} {i4 i5 i6 is0 : Int32} {h : AH} {P : PT} (k : ((is0 = i5 → ((¬ i5 = 0 → Ev d 142 23 [vR (some a0), vR (some a1), vR (some a2), vR (some a3), vI (i4 + 4), vI i5, vI i6] [] h P) ∧ (i5 = 0 → ∃ n_a3, hT h a3 = some (102, n_a3) ∧ vp_in 0 n_a3 ∧ (((hL h a3 ((0 : Int32).toNatClampNeg)) = i6.toInt64 → Ev d 142 23 [vR (some a0), vR (some a1), vR (some a2), vR (some a3), vI (i4 + 4), vI i5, vI i6] [] h P) ∧ (¬ (hL h a3 ((0 : Int32).toNatClampNeg)) = i6.toInt64 → P (.inl (some (vI 0))) h))))) ∧ (¬ is0 = i5 → P (.inl (some (vI 0))) h))) : Ev d 142 461 [vR (some a0), vR (some a1), vR (some a2), vR (some a3), vI i4, vI i5, vI i6] [vI is0] h P := by
  refine Ev.step rfl ?_
  refine Ev.step rfl ⟨fun c => ?_, fun c => ?_⟩
  · replace k := k.1 c
    refine Ev.step rfl ?_
    refine Ev.step rfl ⟨fun c => ?_, fun c => ?_⟩
    · replace k := k.1 c
      refine Ev.step rfl (Ev.step rfl (Ev.step rfl ?_))
      exact k
    · replace k := k.2 (Decidable.not_not.mp c)
      refine Ev.step rfl (Ev.step rfl ?_)
      obtain ⟨n_a3, t1, k⟩ := k
      obtain ⟨q2, k⟩ := k
      refine Ev.step rfl ⟨⟨_, t1, q2⟩, ?_⟩
      refine Ev.step rfl (Ev.step rfl (Ev.step rfl ?_))
      refine Ev.step rfl ⟨fun c => ?_, fun c => ?_⟩
      · replace k := k.1 ((lgc_eq (hL h a3 ((0 : Int32).toNatClampNeg)) i6.toInt64).mp c)
        refine Ev.step rfl (Ev.step rfl (Ev.step rfl ?_))
        exact k
      · replace k := k.2 (fun z => c ((lgc_eq (hL h a3 ((0 : Int32).toNatClampNeg)) i6.toInt64).mpr z))
        refine Ev.step rfl ?_
        refine Ev.step rfl ⟨rfl, (fun _ => Or.inl rfl), k⟩
  · replace k := k.2 c
    refine Ev.step rfl ?_
    refine Ev.step rfl ⟨rfl, (fun _ => Or.inl rfl), k⟩
set_option maxRecDepth 6000 in
theorem w142_505 {d a0 a1 a2 a3 : Nat} {i4 is0 : Int32} {w5 w6 : AV} {h : AH} {P : PT} (Aa2 : OB h a2 16 kM) (k : aIn h a0 (i4 + 1) ∧ aIn h a0 (i4 + 2) ∧ Ev d 96 0 [vR (some a2), vI (hI h a0 ((i4 + 1).toNatClampNeg)), vI (hI h a0 ((i4 + 2).toNatClampNeg)), vU, vU, vU] [] h (CK d 142 P 520 [vR (some a0), vR (some a1), vR (some a2), vR (some a3), vI i4, vI is0, w6] [])) : Ev (d + 1) 142 505 [vR (some a0), vR (some a1), vR (some a2), vR (some a3), vI i4, w5, w6] [vI is0] h P := by
  refine Ev.step rfl (Ev.step rfl (Ev.step rfl (Ev.step rfl (Ev.step rfl (Ev.step rfl ?_)))))
  obtain ⟨q1, k⟩ := k
  refine Ev.step rfl ⟨q1, ?_⟩
  refine Ev.step rfl (Ev.step rfl (Ev.step rfl (Ev.step rfl ?_)))
  obtain ⟨q2, k⟩ := k
  refine Ev.step rfl ⟨q2, ?_⟩
  exact Ev.step rfl ⟨(Nat.le_of_ble_eq_true rfl), _, _, _, Aa2.1, rfl, (Nat.le_of_ble_eq_true rfl), rfl, k⟩
set_option maxRecDepth 6000 in
theorem w142_523 {d a0 a1 a2 a3 : Nat} {i4 i5 is0 : Int32} {w6 : AV} {h : AH} {P : PT} (Aa2 : OB h a2 16 kM) (k : Ev d 85 0 [vR (some a2)] [] h (CK d 142 P 526 [vR (some a0), vR (some a1), vR (some a2), vR (some a3), vI i4, vI i5, vI is0] [])) : Ev (d + 1) 142 523 [vR (some a0), vR (some a1), vR (some a2), vR (some a3), vI i4, vI i5, w6] [vI is0] h P := by
  refine Ev.step rfl (Ev.step rfl ?_)
  exact Ev.step rfl ⟨(Nat.le_of_ble_eq_true rfl), _, _, _, Aa2.1, rfl, (Nat.le_of_ble_eq_true rfl), rfl, k⟩
set_option maxRecDepth 6000 in
theorem w142_529 {d a0 a1 a2 a3 : Nat} {i4 i5 i6 is0 : Int32} {h : AH} {P : PT} (k : ((is0 = i5 → ((¬ i5 = 0 → Ev d 142 23 [vR (some a0), vR (some a1), vR (some a2), vR (some a3), vI (i4 + 4), vI i5, vI i6] [] h P) ∧ (i5 = 0 → ∃ n_a3, hT h a3 = some (102, n_a3) ∧ vp_in 0 n_a3 ∧ (((hL h a3 ((0 : Int32).toNatClampNeg)) = i6.toInt64 → Ev d 142 23 [vR (some a0), vR (some a1), vR (some a2), vR (some a3), vI (i4 + 4), vI i5, vI i6] [] h P) ∧ (¬ (hL h a3 ((0 : Int32).toNatClampNeg)) = i6.toInt64 → P (.inl (some (vI 0))) h))))) ∧ (¬ is0 = i5 → P (.inl (some (vI 0))) h))) : Ev d 142 529 [vR (some a0), vR (some a1), vR (some a2), vR (some a3), vI i4, vI i5, vI i6] [vI is0] h P := by
  refine Ev.step rfl ?_
  refine Ev.step rfl ⟨fun c => ?_, fun c => ?_⟩
  · replace k := k.1 c
    refine Ev.step rfl ?_
    refine Ev.step rfl ⟨fun c => ?_, fun c => ?_⟩
    · replace k := k.1 c
      refine Ev.step rfl (Ev.step rfl (Ev.step rfl ?_))
      exact k
    · replace k := k.2 (Decidable.not_not.mp c)
      refine Ev.step rfl (Ev.step rfl ?_)
      obtain ⟨n_a3, t1, k⟩ := k
      obtain ⟨q2, k⟩ := k
      refine Ev.step rfl ⟨⟨_, t1, q2⟩, ?_⟩
      refine Ev.step rfl (Ev.step rfl (Ev.step rfl ?_))
      refine Ev.step rfl ⟨fun c => ?_, fun c => ?_⟩
      · replace k := k.1 ((lgc_eq (hL h a3 ((0 : Int32).toNatClampNeg)) i6.toInt64).mp c)
        refine Ev.step rfl (Ev.step rfl (Ev.step rfl ?_))
        exact k
      · replace k := k.2 (fun z => c ((lgc_eq (hL h a3 ((0 : Int32).toNatClampNeg)) i6.toInt64).mpr z))
        refine Ev.step rfl ?_
        refine Ev.step rfl ⟨rfl, (fun _ => Or.inl rfl), k⟩
  · replace k := k.2 c
    refine Ev.step rfl ?_
    refine Ev.step rfl ⟨rfl, (fun _ => Or.inl rfl), k⟩
set_option maxRecDepth 6000 in
theorem w142_566 {d a0 a1 a2 a3 : Nat} {i4 is0 : Int32} {w5 w6 : AV} {h : AH} {P : PT} (Aa2 : OB h a2 16 kM) (k : aIn h a0 (i4 + 1) ∧ Ev d 97 0 [vR (some a2), vI (hI h a0 ((i4 + 1).toNatClampNeg))] [] h (CK d 142 P 573 [vR (some a0), vR (some a1), vR (some a2), vR (some a3), vI i4, w5, w6] [vI is0])) : Ev (d + 1) 142 566 [vR (some a0), vR (some a1), vR (some a2), vR (some a3), vI i4, w5, w6] [vI is0] h P := by
  refine Ev.step rfl (Ev.step rfl (Ev.step rfl (Ev.step rfl (Ev.step rfl ?_))))
  obtain ⟨q1, k⟩ := k
  refine Ev.step rfl ⟨q1, ?_⟩
  exact Ev.step rfl ⟨(Nat.le_of_ble_eq_true rfl), _, _, _, Aa2.1, rfl, (Nat.le_of_ble_eq_true rfl), rfl, k⟩
set_option maxRecDepth 6000 in
theorem w142_576 {d a0 a1 a2 a3 : Nat} {i4 is0 is1 : Int32} {w5 w6 : AV} {h : AH} {P : PT} (k : ((is1 = is0 → Ev d 142 23 [vR (some a0), vR (some a1), vR (some a2), vR (some a3), vI (i4 + 4), w5, w6] [] h P) ∧ (¬ is1 = is0 → P (.inl (some (vI 0))) h))) : Ev d 142 576 [vR (some a0), vR (some a1), vR (some a2), vR (some a3), vI i4, w5, w6] [vI is0, vI is1] h P := by
  refine Ev.step rfl ⟨fun c => ?_, fun c => ?_⟩
  · replace k := k.1 c
    refine Ev.step rfl (Ev.step rfl ?_)
    exact k
  · replace k := k.2 c
    refine Ev.step rfl ?_
    refine Ev.step rfl ⟨rfl, (fun _ => Or.inl rfl), k⟩
set_option maxRecDepth 6000 in
theorem w142_591 {d a0 a1 a2 a3 : Nat} {i4 is0 : Int32} {w5 w6 : AV} {h : AH} {P : PT} (Aa2 : OB h a2 16 kM) (k : aIn h a0 (i4 + 1) ∧ Ev d 98 0 [vR (some a2), vI (hI h a0 ((i4 + 1).toNatClampNeg))] [] h (CK d 142 P 598 [vR (some a0), vR (some a1), vR (some a2), vR (some a3), vI i4, w5, w6] [vI is0])) : Ev (d + 1) 142 591 [vR (some a0), vR (some a1), vR (some a2), vR (some a3), vI i4, w5, w6] [vI is0] h P := by
  refine Ev.step rfl (Ev.step rfl (Ev.step rfl (Ev.step rfl (Ev.step rfl ?_))))
  obtain ⟨q1, k⟩ := k
  refine Ev.step rfl ⟨q1, ?_⟩
  exact Ev.step rfl ⟨(Nat.le_of_ble_eq_true rfl), _, _, _, Aa2.1, rfl, (Nat.le_of_ble_eq_true rfl), rfl, k⟩
set_option maxRecDepth 6000 in
theorem w142_601 {d a0 a1 a2 a3 : Nat} {i4 is0 is1 : Int32} {w5 w6 : AV} {h : AH} {P : PT} (k : ((is1 = is0 → Ev d 142 23 [vR (some a0), vR (some a1), vR (some a2), vR (some a3), vI (i4 + 4), w5, w6] [] h P) ∧ (¬ is1 = is0 → P (.inl (some (vI 0))) h))) : Ev d 142 601 [vR (some a0), vR (some a1), vR (some a2), vR (some a3), vI i4, w5, w6] [vI is0, vI is1] h P := by
  refine Ev.step rfl ⟨fun c => ?_, fun c => ?_⟩
  · replace k := k.1 c
    refine Ev.step rfl (Ev.step rfl ?_)
    exact k
  · replace k := k.2 c
    refine Ev.step rfl ?_
    refine Ev.step rfl ⟨rfl, (fun _ => Or.inl rfl), k⟩
set_option maxRecDepth 6000 in
theorem w142_610 {d a0 a1 a2 a3 : Nat} {i4 is0 : Int32} {w5 w6 : AV} {h : AH} {P : PT} (Aa2 : OB h a2 16 kM) (k : Ev d 99 0 [vR (some a2), vU] [] h (CK d 142 P 611 [vR (some a0), vR (some a1), vR (some a2), vR (some a3), vI i4, w5, w6] [vI is0])) : Ev (d + 1) 142 610 [vR (some a0), vR (some a1), vR (some a2), vR (some a3), vI i4, w5, w6] [vI is0] h P := by
  refine Ev.step rfl ?_
  exact Ev.step rfl ⟨(Nat.le_of_ble_eq_true rfl), _, _, _, Aa2.1, rfl, (Nat.le_of_ble_eq_true rfl), rfl, k⟩
set_option maxRecDepth 6000 in
theorem w142_614 {d a0 a1 a2 a3 : Nat} {i4 is0 is1 : Int32} {w5 w6 : AV} {h : AH} {P : PT} (k : ((is1 = is0 → Ev d 142 23 [vR (some a0), vR (some a1), vR (some a2), vR (some a3), vI (i4 + 4), w5, w6] [] h P) ∧ (¬ is1 = is0 → P (.inl (some (vI 0))) h))) : Ev d 142 614 [vR (some a0), vR (some a1), vR (some a2), vR (some a3), vI i4, w5, w6] [vI is0, vI is1] h P := by
  refine Ev.step rfl ⟨fun c => ?_, fun c => ?_⟩
  · replace k := k.1 c
    refine Ev.step rfl (Ev.step rfl ?_)
    exact k
  · replace k := k.2 c
    refine Ev.step rfl ?_
    refine Ev.step rfl ⟨rfl, (fun _ => Or.inl rfl), k⟩
set_option maxRecDepth 6000 in
theorem w142_623 {d a0 a1 a2 a3 : Nat} {i4 is0 : Int32} {w5 w6 : AV} {h : AH} {P : PT} (Aa2 : OB h a2 16 kM) (k : Ev d 100 0 [vR (some a2)] [] h (CK d 142 P 624 [vR (some a0), vR (some a1), vR (some a2), vR (some a3), vI i4, w5, w6] [vI is0])) : Ev (d + 1) 142 623 [vR (some a0), vR (some a1), vR (some a2), vR (some a3), vI i4, w5, w6] [vI is0] h P := by
  refine Ev.step rfl ?_
  exact Ev.step rfl ⟨(Nat.le_of_ble_eq_true rfl), _, _, _, Aa2.1, rfl, (Nat.le_of_ble_eq_true rfl), rfl, k⟩
set_option maxRecDepth 6000 in
theorem w142_627 {d a0 a1 a2 a3 : Nat} {i4 is0 is1 : Int32} {w5 w6 : AV} {h : AH} {P : PT} (k : ((is1 = is0 → Ev d 142 23 [vR (some a0), vR (some a1), vR (some a2), vR (some a3), vI (i4 + 4), w5, w6] [] h P) ∧ (¬ is1 = is0 → P (.inl (some (vI 0))) h))) : Ev d 142 627 [vR (some a0), vR (some a1), vR (some a2), vR (some a3), vI i4, w5, w6] [vI is0, vI is1] h P := by
  refine Ev.step rfl ⟨fun c => ?_, fun c => ?_⟩
  · replace k := k.1 c
    refine Ev.step rfl (Ev.step rfl ?_)
    exact k
  · replace k := k.2 c
    refine Ev.step rfl ?_
    refine Ev.step rfl ⟨rfl, (fun _ => Or.inl rfl), k⟩
set_option maxRecDepth 6000 in
theorem w142_643 {d a0 a1 a2 a3 : Nat} {i4 is0 : Int32} {w5 w6 : AV} {h : AH} {P : PT} (Aa2 : OB h a2 16 kM) (k : aIn h a0 (i4 + 1) ∧ Ev d 110 0 [vR (some a2), vI (hI h a0 ((i4 + 1).toNatClampNeg))] [] h (CK d 142 P 652 [vR (some a0), vR (some a1), vR (some a2), vR (some a3), vI i4, vI is0, w6] [])) : Ev (d + 1) 142 643 [vR (some a0), vR (some a1), vR (some a2), vR (some a3), vI i4, w5, w6] [vI is0] h P := by
  refine Ev.step rfl (Ev.step rfl (Ev.step rfl (Ev.step rfl (Ev.step rfl (Ev.step rfl ?_)))))
  obtain ⟨q1, k⟩ := k
  refine Ev.step rfl ⟨q1, ?_⟩
  exact Ev.step rfl ⟨(Nat.le_of_ble_eq_true rfl), _, _, _, Aa2.1, rfl, (Nat.le_of_ble_eq_true rfl), rfl, k⟩
set_option maxRecDepth 6000 in
theorem w142_655 {d a0 a1 a2 a3 : Nat} {i4 i5 is0 : Int32} {w6 : AV} {h : AH} {P : PT} (Aa2 : OB h a2 16 kM) (k : Ev d 85 0 [vR (some a2)] [] h (CK d 142 P 658 [vR (some a0), vR (some a1), vR (some a2), vR (some a3), vI i4, vI i5, vI is0] [])) : Ev (d + 1) 142 655 [vR (some a0), vR (some a1), vR (some a2), vR (some a3), vI i4, vI i5, w6] [vI is0] h P := by
  refine Ev.step rfl (Ev.step rfl ?_)
  exact Ev.step rfl ⟨(Nat.le_of_ble_eq_true rfl), _, _, _, Aa2.1, rfl, (Nat.le_of_ble_eq_true rfl), rfl, k⟩
set_option maxRecDepth 6000 in
theorem w142_661 {d a0 a1 a2 a3 : Nat} {i4 i5 i6 is0 : Int32} {h : AH} {P : PT} (k : ((is0 = i5 → ((¬ i5 = 0 → Ev d 142 23 [vR (some a0), vR (some a1), vR (some a2), vR (some a3), vI (i4 + 4), vI i5, vI i6] [] h P) ∧ (i5 = 0 → ∃ n_a3, hT h a3 = some (102, n_a3) ∧ vp_in 0 n_a3 ∧ (((hL h a3 ((0 : Int32).toNatClampNeg)) = i6.toInt64 → Ev d 142 23 [vR (some a0), vR (some a1), vR (some a2), vR (some a3), vI (i4 + 4), vI i5, vI i6] [] h P) ∧ (¬ (hL h a3 ((0 : Int32).toNatClampNeg)) = i6.toInt64 → P (.inl (some (vI 0))) h))))) ∧ (¬ is0 = i5 → P (.inl (some (vI 0))) h))) : Ev d 142 661 [vR (some a0), vR (some a1), vR (some a2), vR (some a3), vI i4, vI i5, vI i6] [vI is0] h P := by
  refine Ev.step rfl ?_
  refine Ev.step rfl ⟨fun c => ?_, fun c => ?_⟩
  · replace k := k.1 c
    refine Ev.step rfl ?_
    refine Ev.step rfl ⟨fun c => ?_, fun c => ?_⟩
    · replace k := k.1 c
      refine Ev.step rfl (Ev.step rfl (Ev.step rfl ?_))
      exact k
    · replace k := k.2 (Decidable.not_not.mp c)
      refine Ev.step rfl (Ev.step rfl ?_)
      obtain ⟨n_a3, t1, k⟩ := k
      obtain ⟨q2, k⟩ := k
      refine Ev.step rfl ⟨⟨_, t1, q2⟩, ?_⟩
      refine Ev.step rfl (Ev.step rfl (Ev.step rfl ?_))
      refine Ev.step rfl ⟨fun c => ?_, fun c => ?_⟩
      · replace k := k.1 ((lgc_eq (hL h a3 ((0 : Int32).toNatClampNeg)) i6.toInt64).mp c)
        refine Ev.step rfl (Ev.step rfl (Ev.step rfl ?_))
        exact k
      · replace k := k.2 (fun z => c ((lgc_eq (hL h a3 ((0 : Int32).toNatClampNeg)) i6.toInt64).mpr z))
        refine Ev.step rfl ?_
        refine Ev.step rfl ⟨rfl, (fun _ => Or.inl rfl), k⟩
  · replace k := k.2 c
    refine Ev.step rfl ?_
    refine Ev.step rfl ⟨rfl, (fun _ => Or.inl rfl), k⟩
set_option maxRecDepth 6000 in
theorem w142_692 {d a0 a1 a2 a3 : Nat} {i4 is0 : Int32} {w5 w6 : AV} {h : AH} {P : PT} (Aa2 : OB h a2 16 kM) (k : Ev d 128 0 [vR (some a2)] [] h (CK d 142 P 693 [vR (some a0), vR (some a1), vR (some a2), vR (some a3), vI i4, w5, w6] [vI is0])) : Ev (d + 1) 142 692 [vR (some a0), vR (some a1), vR (some a2), vR (some a3), vI i4, w5, w6] [vI is0] h P := by
  refine Ev.step rfl ?_
  exact Ev.step rfl ⟨(Nat.le_of_ble_eq_true rfl), _, _, _, Aa2.1, rfl, (Nat.le_of_ble_eq_true rfl), rfl, k⟩
set_option maxRecDepth 6000 in
theorem w142_696 {d a0 a1 a2 a3 : Nat} {i4 is0 is1 : Int32} {w5 w6 : AV} {h : AH} {P : PT} (k : ((is1 = is0 → Ev d 142 23 [vR (some a0), vR (some a1), vR (some a2), vR (some a3), vI (i4 + 4), w5, w6] [] h P) ∧ (¬ is1 = is0 → P (.inl (some (vI 0))) h))) : Ev d 142 696 [vR (some a0), vR (some a1), vR (some a2), vR (some a3), vI i4, w5, w6] [vI is0, vI is1] h P := by
  refine Ev.step rfl ⟨fun c => ?_, fun c => ?_⟩
  · replace k := k.1 c
    refine Ev.step rfl (Ev.step rfl ?_)
    exact k
  · replace k := k.2 c
    refine Ev.step rfl ?_
    refine Ev.step rfl ⟨rfl, (fun _ => Or.inl rfl), k⟩
set_option maxRecDepth 6000 in
theorem w142_705 {d a0 a1 a2 a3 : Nat} {i4 is0 : Int32} {w5 w6 : AV} {h : AH} {P : PT} (Aa2 : OB h a2 16 kM) (k : Ev d 129 0 [vR (some a2)] [] h (CK d 142 P 706 [vR (some a0), vR (some a1), vR (some a2), vR (some a3), vI i4, w5, w6] [vI is0])) : Ev (d + 1) 142 705 [vR (some a0), vR (some a1), vR (some a2), vR (some a3), vI i4, w5, w6] [vI is0] h P := by
  refine Ev.step rfl ?_
  exact Ev.step rfl ⟨(Nat.le_of_ble_eq_true rfl), _, _, _, Aa2.1, rfl, (Nat.le_of_ble_eq_true rfl), rfl, k⟩
set_option maxRecDepth 6000 in
theorem w142_709 {d a0 a1 a2 a3 : Nat} {i4 is0 is1 : Int32} {w5 w6 : AV} {h : AH} {P : PT} (k : ((is1 = is0 → Ev d 142 23 [vR (some a0), vR (some a1), vR (some a2), vR (some a3), vI (i4 + 4), w5, w6] [] h P) ∧ (¬ is1 = is0 → P (.inl (some (vI 0))) h))) : Ev d 142 709 [vR (some a0), vR (some a1), vR (some a2), vR (some a3), vI i4, w5, w6] [vI is0, vI is1] h P := by
  refine Ev.step rfl ⟨fun c => ?_, fun c => ?_⟩
  · replace k := k.1 c
    refine Ev.step rfl (Ev.step rfl ?_)
    exact k
  · replace k := k.2 c
    refine Ev.step rfl ?_
    refine Ev.step rfl ⟨rfl, (fun _ => Or.inl rfl), k⟩
set_option maxRecDepth 6000 in
theorem w142_724 {d a0 a1 a2 a3 : Nat} {i4 is0 : Int32} {w5 w6 : AV} {h : AH} {P : PT} (Aa2 : OB h a2 16 kM) (k : aIn h a0 (i4 + 1) ∧ Ev d 130 0 [vR (some a2), vI (hI h a0 ((i4 + 1).toNatClampNeg))] [] h (CK d 142 P 731 [vR (some a0), vR (some a1), vR (some a2), vR (some a3), vI i4, w5, w6] [vI is0])) : Ev (d + 1) 142 724 [vR (some a0), vR (some a1), vR (some a2), vR (some a3), vI i4, w5, w6] [vI is0] h P := by
  refine Ev.step rfl (Ev.step rfl (Ev.step rfl (Ev.step rfl (Ev.step rfl ?_))))
  obtain ⟨q1, k⟩ := k
  refine Ev.step rfl ⟨q1, ?_⟩
  exact Ev.step rfl ⟨(Nat.le_of_ble_eq_true rfl), _, _, _, Aa2.1, rfl, (Nat.le_of_ble_eq_true rfl), rfl, k⟩
set_option maxRecDepth 6000 in
theorem w142_734 {d a0 a1 a2 a3 : Nat} {i4 is0 is1 : Int32} {w5 w6 : AV} {h : AH} {P : PT} (k : ((is1 = is0 → Ev d 142 23 [vR (some a0), vR (some a1), vR (some a2), vR (some a3), vI (i4 + 4), w5, w6] [] h P) ∧ (¬ is1 = is0 → P (.inl (some (vI 0))) h))) : Ev d 142 734 [vR (some a0), vR (some a1), vR (some a2), vR (some a3), vI i4, w5, w6] [vI is0, vI is1] h P := by
  refine Ev.step rfl ⟨fun c => ?_, fun c => ?_⟩
  · replace k := k.1 c
    refine Ev.step rfl (Ev.step rfl ?_)
    exact k
  · replace k := k.2 c
    refine Ev.step rfl ?_
    refine Ev.step rfl ⟨rfl, (fun _ => Or.inl rfl), k⟩
set_option maxRecDepth 6000 in
theorem w142_743 {d a0 a1 a2 a3 : Nat} {i4 is0 : Int32} {w5 w6 : AV} {h : AH} {P : PT} (Aa2 : OB h a2 16 kM) (k : Ev d 109 0 [vR (some a2)] [] h (CK d 142 P 744 [vR (some a0), vR (some a1), vR (some a2), vR (some a3), vI i4, w5, w6] [vI is0])) : Ev (d + 1) 142 743 [vR (some a0), vR (some a1), vR (some a2), vR (some a3), vI i4, w5, w6] [vI is0] h P := by
  refine Ev.step rfl ?_
  exact Ev.step rfl ⟨(Nat.le_of_ble_eq_true rfl), _, _, _, Aa2.1, rfl, (Nat.le_of_ble_eq_true rfl), rfl, k⟩
set_option maxRecDepth 6000 in
theorem w142_747 {d a0 a1 a2 a3 : Nat} {i4 is0 is1 : Int32} {w5 w6 : AV} {h : AH} {P : PT} (k : ((is1 = is0 → Ev d 142 23 [vR (some a0), vR (some a1), vR (some a2), vR (some a3), vI (i4 + 4), w5, w6] [] h P) ∧ (¬ is1 = is0 → P (.inl (some (vI 0))) h))) : Ev d 142 747 [vR (some a0), vR (some a1), vR (some a2), vR (some a3), vI i4, w5, w6] [vI is0, vI is1] h P := by
  refine Ev.step rfl ⟨fun c => ?_, fun c => ?_⟩
  · replace k := k.1 c
    refine Ev.step rfl (Ev.step rfl ?_)
    exact k
  · replace k := k.2 c
    refine Ev.step rfl ?_
    refine Ev.step rfl ⟨rfl, (fun _ => Or.inl rfl), k⟩
