/-! deps: 25 29 31 36 37 38 50 52 55 56 57 58 -/
/-! ===== THE REFERENCE: keyFrom ===== -/
def KeyO (s : St) (t fr : Int32) (c v : Int32) : Prop :=
  (isC t (sN s) = false ∧ c = 1 ∧ v = 0) ∨ (isC t (sN s) = true ∧ (∀ r ∈ sR s, r.1 = t.toNatClampNeg → r.2 0 < fr) ∧ c = 2 ∧ v = 0) ∨
  (isC t (sN s) = true ∧ ∃ r ∈ sR s, r.1 = t.toNatClampNeg ∧ fr ≤ r.2 0 ∧ (∀ r' ∈ sR s, r'.1 = t.toNatClampNeg → fr ≤ r'.2 0 → r.2 0 ≤ r'.2 0) ∧ c = 0 ∧ v = r.2 0)
theorem m96 {d m : Nat} {t fr : Int32} {h : AH} {s : St} {P : PT} (o : OB h m 16 kM) (I : SI s) (R : RelM (hI h) m s)
    (K : ∀ g' c v, KeyO s t fr c v → RelM g' m s → g' m 224 = c → Out m (hI h) g' → P (.inl (some (vI v))) (sI h g')) : Ev (d + 1) 96 0 [vR (some m), vI t, vI fr, vU, vU, vU] [] h P := by
  have h4 := I.1
  have l48 : (sR s).length ≤ 48 := I.2.2.2.1
  have hlt : ∀ (i : Nat) (r : Rw), (sR s)[i]? = some r → r.1 < 4 := fun i r hr => Nat.lt_of_lt_of_le (I.2.2.2.2.1 r (List.mem_of_getElem? hr)) I.1
  have e0 : ∀ v, hI (wI h m 224 v) m 224 = v := fun v => u2_hit _ _ _ _
  refine w96_0 o ?_
  refine m88 o R.1.1 ?_
  refine w96_6 ⟨fun g => ?_, fun g => ?_⟩
  · rw [bI_0] at g
    refine w96_14 o o ⟨fun g2 => ?_, fun _ => ?_⟩
    · rw [e0] at g2; exact absurd g2 (by decide)
    · exact K _ 1 0 (Or.inl ⟨g, rfl, rfl⟩) R.code (u2_hit _ _ _ _) ((Out.refl m _).u2 0 _ _ (by omega))
  rw [bI_0, Bool.not_eq_false] at g
  obtain ⟨j, hj, rfl⟩ := isC_of g (by omega)
  have cj : (nI j).toNatClampNeg = j := nI_clamp (by omega)
  refine w96_14 o o ⟨fun _ => ?_, fun g2 => ?_⟩
  rotate_left
  · rw [e0] at g2; exact absurd g2 (by decide)
  have R' := R.code (v := 0)
  have o' : OB (wI h m 224 0) m 16 kM := o
  have q1 : hI (wI h m 224 0) m 244 = nI (sR s).length := R'.2.2.1.1
  have q2 : ∀ i r, (sR s)[i]? = some r → hI (wI h m 224 0) (m + 4) i = nI r.1 ∧ hI (wI h m 224 0) (m + 5) (4 * i) = r.2 0 := fun i r hr => ⟨(R'.2.2.1.2 i r hr).1, (R'.2.2.1.2 i r hr).2 0 (by omega)⟩
  suffices L : ∀ k n f (w : AV), k + n = (sR s).length → ((f = -1 ∧ ∀ i r, i < n → (sR s)[i]? = some r → r.1 = j → r.2 0 < fr) ∨ ∃ i r, i < n ∧ f = nI i ∧ (sR s)[i]? = some r ∧ r.1 = j ∧ fr ≤ r.2 0 ∧ ∀ i' r', i' < n → (sR s)[i']? = some r' → r'.1 = j → fr ≤ r'.2 0 → r.2 0 ≤ r'.2 0) → Ev (d + 1) 96 31 [vR (some m), vI (nI j), vI fr, vI f, vI (nI n), w] [] (wI h m 224 0) P from L (sR s).length 0 (-1) vU (by omega) (Or.inl ⟨rfl, fun i r hi => absurd hi (by omega)⟩)
  intro k
  induction k with
  | zero =>
    intro n f w hn inv
    refine w96_31 o' ⟨fun _ => ⟨fun g2 => ?_, fun g2 => ?_⟩, fun g2 => ?_⟩
    · rcases inv with ⟨e, _⟩ | ⟨i, r, hi, e, hr, c1, c2, c3⟩
      · rw [e] at g2; exact absurd g2 (by decide)
      · subst e
        refine w96_123 o' o' ⟨fun _ => ?_, fun g3 => absurd g3 (nI_n0 (by omega))⟩
        rw [show (4 : Int32) * nI i = nI (4 * i) from pk_mul 4 _, cl (by omega)]
        refine ⟨i5 (by omega) (by omega), ?_⟩
        rw [show hI (wI (wI h m 224 0) m 224 0) (m + 5) (4 * i) = r.2 0 from (u2_a (by omega)).trans (q2 i r hr).2]
        exact K _ 0 _ (Or.inr (Or.inr ⟨g, r, List.mem_of_getElem? hr, by rw [cj]; exact c1, c2, fun r' hr' h1 h2 => by
          obtain ⟨i', hi'⟩ := List.getElem?_of_mem hr'
          exact c3 i' r' (by have := (List.getElem?_eq_some_iff.mp hi').1; omega) hi' (by rw [cj] at h1; exact h1) h2, rfl, rfl⟩)) R'.code (u2_hit _ _ _ _) (((Out.refl m _).u2 0 _ _ (by omega)).u2 0 _ _ (by omega))
    · rcases inv with ⟨e, c1⟩ | ⟨i, r, hi, e, _⟩
      · refine w96_123 o' o' ⟨fun g3 => absurd g2 (Int32.not_lt.mpr g3), fun _ => ?_⟩
        exact K _ 2 0 (Or.inr (Or.inl ⟨g, fun r hr h1 => by
          obtain ⟨i, hi⟩ := List.getElem?_of_mem hr
          exact c1 i r (by have := (List.getElem?_eq_some_iff.mp hi).1; omega) hi (by rw [cj] at h1; exact h1), rfl, rfl⟩)) R'.code (u2_hit _ _ _ _) (((Out.refl m _).u2 0 _ _ (by omega)).u2 0 _ _ (by omega))
      · rw [e] at g2; exact absurd g2 (nI_n0 (by omega))
    · rw [q1, nI_ltI (by omega) (by omega)] at g2; omega
  | succ k ih =>
    intro n f w hn inv
    obtain ⟨r, hr⟩ := get_of (l := sR s) (i := n) (by omega)
    obtain ⟨g1, g2⟩ := q2 n r hr
    have r4 := hlt n r hr
    have e4 : (4 : Int32) * nI n = nI (4 * n) := pk_mul 4 _
    -- the row is passed by
    have no : (∀ z : r.1 = j, fr ≤ r.2 0 → ∃ i r0, i < n ∧ f = nI i ∧ (sR s)[i]? = some r0 ∧ r0.2 0 ≤ r.2 0) → ∀ v : Int32, Ev (d + 1) 96 106 [vR (some m), vI (nI j), vI fr, vI f, vI (nI n), vI v] [vI f] (wI h m 224 0) P := by
      intro hz v
      refine w96_106 ?_
      rw [nI_1]
      refine ih (n + 1) f _ (by omega) ?_
      rcases inv with ⟨e, z⟩ | ⟨i, r0, hi, e, hr0, z1, z2, z3⟩
      · refine Or.inl ⟨e, fun i r' hi hr' h1 => ?_⟩
        rcases Nat.lt_or_ge i n with y | y
        · exact z i r' y hr' h1
        · obtain rfl : i = n := by omega
          rw [hr] at hr'; cases hr'
          refine Int32.not_le.mp (fun q => ?_)
          obtain ⟨i, r0, hi, e', _⟩ := hz h1 q
          rw [e] at e'
          have := congrArg (fun x => decide (x < (0 : Int32))) e'
          simp only [nI_n0 (show i ≤ 100000 by omega), decide_false] at this
          exact absurd this (by decide)
      · refine Or.inr ⟨i, r0, by omega, e, hr0, z1, z2, fun i' r' hi' hr' h1 h2 => ?_⟩
        rcases Nat.lt_or_ge i' n with y | y
        · exact z3 i' r' y hr' h1 h2
        · obtain rfl : i' = n := by omega
          rw [hr] at hr'; cases hr'
          obtain ⟨i2, r2, hi2, e2, hr2, h3⟩ := hz h1 h2
          rw [e, nI_eq (by omega) (by omega)] at e2
          subst e2
          rw [hr0] at hr2; cases hr2; exact h3
    -- the row is the best so far
    have yes : r.1 = j → fr ≤ r.2 0 → (∀ i' r', i' < n → (sR s)[i']? = some r' → r'.1 = j → fr ≤ r'.2 0 → r.2 0 ≤ r'.2 0) → ∀ v : Int32, Ev (d + 1) 96 106 [vR (some m), vI (nI j), vI fr, vI f, vI (nI n), vI v] [vI (nI n)] (wI h m 224 0) P := by
      intro h1 h2 h3 v
      refine w96_106 ?_
      rw [nI_1]
      refine ih (n + 1) (nI n) _ (by omega) (Or.inr ⟨n, r, by omega, rfl, hr, h1, h2, fun i' r' hi' hr' h4 h5 => ?_⟩)
      rcases Nat.lt_or_ge i' n with y | y
      · exact h3 i' r' y hr' h4 h5
      · obtain rfl : i' = n := by omega
        rw [hr] at hr'; cases hr'; exact Int32.le_refl _
    refine w96_31 o' ⟨fun g3 => ?_, fun _ => ⟨i5 (by omega) (by omega), fun g3 => ?_, fun g3 => ⟨by rw [e4]; exact i5 (by omega) (by omega), fun g5 => ?_, fun g5 => ?_⟩⟩⟩
    · rw [q1, nI_leI (by omega) (by omega)] at g3; omega
    · rw [cl (by omega), g1] at g3
      refine w96_69 o' ⟨fun _ => no (fun z => absurd (by rw [z]) g3) 0, fun q => absurd rfl q⟩
    · rw [e4, cl (by omega), g2] at g5
      refine w96_69 o' ⟨fun _ => no (fun _ q => absurd g5 (Int32.not_lt.mpr q)) 0, fun q => absurd rfl q⟩
    · rw [e4, cl (by omega), g2] at g5
      rw [cl (by omega), g1, nI_eq (by omega) (by omega)] at g3
      refine w96_69 o' ⟨fun q => absurd q (by decide), fun _ => ⟨fun g6 => ?_, fun g6 => ?_⟩⟩
      · rcases inv with ⟨e, z⟩ | ⟨i, r0, hi, e, _⟩
        · exact yes g3 g5 (fun i' r' hi' hr' h1 h2 => absurd (z i' r' hi' hr' h1) (Int32.not_lt.mpr h2)) 1
        · rw [e] at g6; exact absurd g6 (nI_n0 (by omega))
      · rcases inv with ⟨e, z⟩ | ⟨i, r0, hi, e, hr0, z1, z2, z3⟩
        · rw [e] at g6; exact absurd g6 (by decide)
        · have e5 : (4 : Int32) * f = nI (4 * i) := by rw [e]; exact pk_mul 4 _
          rw [e4, e5, cl (by omega), cl (by omega), g2, (q2 i r0 hr0).2]
          refine ⟨i5 (by omega) (by omega), i5 (by omega) (by omega), fun g7 => ?_, fun g7 => ?_⟩
          · exact no (fun _ _ => ⟨i, r0, hi, e, hr0, g7⟩) 1
          · exact yes g3 g5 (fun i' r' hi' hr' h1 h2 => Int32.le_trans (Int32.le_of_lt g7) (z3 i' r' hi' hr' h1 h2)) 1
