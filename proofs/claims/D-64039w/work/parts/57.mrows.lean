/-! deps: 25 29 31 36 37 38 50 52 55 56 -/
/-! ===== THE REFERENCE: rows ===== -/
def isK (j : Nat) (key : Int32) (r : Rw) : Prop := r.1 = j ∧ r.2 0 = key
/-- the place of the row with a key, or -1 -/
def RW (R : List Rw) (j : Nat) (key x : Int32) : Prop := (x = -1 ∧ ∀ r ∈ R, ¬ isK j key r) ∨ ∃ i r, x = nI i ∧ R[i]? = some r ∧ isK j key r
def cnT (R : List Rw) (j : Nat) : Nat := R.countP (fun r => decide (r.1 = j))
theorem get_of {α : Type} {l : List α} {i : Nat} (h : i < l.length) : ∃ x, l[i]? = some x := ⟨l[i], List.getElem?_eq_getElem h⟩
theorem m92 {d m j : Nat} {key : Int32} {h : AH} {s : St} {P : PT} (o : OB h m 16 kM) (I : SI s) (R : MR (hI h) m (sR s)) (hj : j < 4) (K : ∀ x, RW (sR s) j key x → P (.inl (some (vI x))) h) : Ev d 92 0 [vR (some m), vI (nI j), vI key, vU, vU] [] h P := by
  have l48 : (sR s).length ≤ 48 := I.2.2.2.1
  have hlt : ∀ (i : Nat) (r : Rw), (sR s)[i]? = some r → r.1 < 4 := fun i r hr => Nat.lt_of_lt_of_le (I.2.2.2.2.1 r (List.mem_of_getElem? hr)) I.1
  refine w92_0 ?_
  suffices L : ∀ k n f, k + n = (sR s).length → ((f = -1 ∧ ∀ i r, i < n → (sR s)[i]? = some r → ¬ isK j key r) ∨ ∃ i r, i < n ∧ f = nI i ∧ (sR s)[i]? = some r ∧ isK j key r) → Ev d 92 5 [vR (some m), vI (nI j), vI key, vI f, vI (nI n)] [] h P from L (sR s).length 0 (-1) (by omega) (Or.inl ⟨rfl, fun i r hi => absurd hi (by omega)⟩)
  intro k
  induction k with
  | zero =>
    intro n f hn inv
    refine w92_5 o ⟨fun _ => K f ?_, fun g => ?_⟩
    · rcases inv with ⟨e, q⟩ | ⟨i, r, hi, e, hr, q⟩
      · refine Or.inl ⟨e, fun r hr => ?_⟩
        obtain ⟨i, hi⟩ := List.getElem?_of_mem hr
        exact q i r (by have := (List.getElem?_eq_some_iff.mp hi).1; omega) hi
      · exact Or.inr ⟨i, r, e, hr, q⟩
    · rw [R.1, nI_ltI (by omega) (by omega)] at g; omega
  | succ k ih =>
    intro n f hn inv
    obtain ⟨r, hr⟩ := get_of (l := sR s) (i := n) (by omega)
    obtain ⟨g1, g2⟩ := R.2 n r hr
    have r4 := hlt n r hr
    have no : ¬ isK j key r → Ev d 92 44 [vR (some m), vI (nI j), vI key, vI f, vI (nI n)] [vI f] h P := by
      intro q
      refine w92_44 ?_
      rw [nI_1]
      refine ih (n + 1) f (by omega) ?_
      rcases inv with ⟨e, z⟩ | ⟨i, r', hi, e, hr', z⟩
      · refine Or.inl ⟨e, fun i r' hi hr' => ?_⟩
        rcases Nat.lt_or_ge i n with y | y
        · exact z i r' y hr'
        · obtain rfl : i = n := by omega
          rw [hr] at hr'; cases hr'; exact q
      · exact Or.inr ⟨i, r', by omega, e, hr', z⟩
    refine w92_5 o ⟨fun g => ?_, fun _ => ⟨i5 (by omega) (by omega), fun g => ?_, fun g => ⟨?_, fun g3 => ?_, fun g3 => ?_⟩⟩⟩
    · rw [R.1, nI_leI (by omega) (by omega)] at g; omega
    · rw [cl (by omega), g1] at g
      exact no (fun q => g (by rw [q.1]))
    · rw [show (4 : Int32) * nI n = nI (4 * n) from pk_mul 4 n]; exact i5 (by omega) (by omega)
    all_goals rw [show (4 : Int32) * nI n = nI (4 * n) from pk_mul 4 n, cl (by omega)] at g3
    all_goals have g4 : hI h (m + 5) (4 * n) = r.2 0 := g2 0 (by omega)
    all_goals rw [g4] at g3
    · exact no (fun q => g3 q.2)
    · refine w92_44 ?_
      rw [nI_1]
      rw [cl (by omega), g1, nI_eq (by omega) (by omega)] at g
      exact ih (n + 1) (nI n) (by omega) (Or.inr ⟨n, r, by omega, rfl, hr, g, g3⟩)
theorem m93 {d m j : Nat} {h : AH} {s : St} {P : PT} (o : OB h m 16 kM) (I : SI s) (R : MR (hI h) m (sR s)) (hj : j < 4) (K : P (.inl (some (vI (nI (cnT (sR s) j))))) h) : Ev d 93 0 [vR (some m), vI (nI j), vU, vU] [] h P := by
  have l48 : (sR s).length ≤ 48 := I.2.2.2.1
  have hlt : ∀ (i : Nat) (r : Rw), (sR s)[i]? = some r → r.1 < 4 := fun i r hr => Nat.lt_of_lt_of_le (I.2.2.2.2.1 r (List.mem_of_getElem? hr)) I.1
  refine w93_0 ?_
  suffices L : ∀ k n, k + n = (sR s).length → Ev d 93 4 [vR (some m), vI (nI j), vI (nI (cnT ((sR s).take n) j)), vI (nI n)] [] h P from L (sR s).length 0 (by omega)
  intro k
  induction k with
  | zero =>
    intro n hn
    refine w93_4 o ⟨fun _ => ?_, fun g => ?_⟩
    · rw [List.take_of_length_le (by omega)]; exact K
    · rw [R.1, nI_ltI (by omega) (by omega)] at g; omega
  | succ k ih =>
    intro n hn
    obtain ⟨r, hr⟩ := get_of (l := sR s) (i := n) (by omega)
    obtain ⟨g1, g2⟩ := R.2 n r hr
    have r4 := hlt n r hr
    have ht : (sR s).take (n + 1) = (sR s).take n ++ [r] := by rw [List.take_add_one, hr]; rfl
    have ih' := ih (n + 1) (by omega)
    refine w93_4 o ⟨fun g => ?_, fun _ => ⟨i5 (by omega) (by omega), fun g => ?_, fun g => ?_⟩⟩
    · rw [R.1, nI_leI (by omega) (by omega)] at g; omega
    all_goals rw [cl (by omega), g1] at g
    · have e : cnT ((sR s).take (n + 1)) j = cnT ((sR s).take n) j := by
        rw [ht]; unfold cnT
        rw [List.countP_append, List.countP_singleton, if_neg (by simpa using fun q => g (by rw [q]))]; rfl
      rw [nI_1, ← e]; exact ih'
    · rw [nI_eq (by omega) (by omega)] at g
      have e : cnT ((sR s).take (n + 1)) j = cnT ((sR s).take n) j + 1 := by
        rw [ht]; unfold cnT
        rw [List.countP_append, List.countP_singleton, if_pos (by simpa using g)]
      rw [nI_1, nI_1, ← e]; exact ih'
/-- rows -/
def oRows (s : St) (t : Int32) : Int32 := if isC t (sN s) = true then nI (cnT (sR s) t.toNatClampNeg) else -1
theorem m97 {d m : Nat} {t : Int32} {h : AH} {s : St} {P : PT} (o : OB h m 16 kM) (I : SI s) (R : RelM (hI h) m s) (K : ∀ g', RelM g' m s → Out m (hI h) g' → P (.inl (some (vI (oRows s t)))) (sI h g')) : Ev (d + 1) 97 0 [vR (some m), vI t] [] h P := by
  have h4 := I.1
  have K' := K _ (R.code (v := 0)) ((Out.refl m _).u2 0 _ _ (by omega))
  have R' := R.code (v := 0)
  refine w97_0 o ?_
  refine m88 (n := sN s) o ((u2_k (by decide)).trans R.1.1) ?_
  have o' : OB (wI h m 224 0) m 16 kM := o
  refine w97_10 o' ⟨fun g => ?_, fun g => ?_⟩
  · rw [bI_0] at g
    unfold oRows at K'
    rw [if_neg (by rw [g]; decide)] at K'
    exact K'
  · rw [bI_0, Bool.not_eq_false] at g
    obtain ⟨j, hj, rfl⟩ := isC_of g (by omega)
    refine m93 (s := s) o' I R'.2.2.1 (by omega) ?_
    refine w97_18 ?_
    unfold oRows at K'
    rw [if_pos g, nI_clamp (by omega)] at K'
    exact K'
/-- insert -/
def InsO (s : St) (t : Int32) (c v : Int32) (s' : St) : Prop :=
  (isC t (sN s) = false ∧ c = 1 ∧ v = 0 ∧ s' = s) ∨ (isC t (sN s) = true ∧ (∃ r ∈ sR s, isK t.toNatClampNeg (sG s 0) r) ∧ c = 2 ∧ v = 0 ∧ s' = s) ∨
  (isC t (sN s) = true ∧ (∀ r ∈ sR s, ¬ isK t.toNatClampNeg (sG s 0) r) ∧ (sR s).length = 48 ∧ c = 3 ∧ v = 0 ∧ s' = s) ∨
  (isC t (sN s) = true ∧ (∀ r ∈ sR s, ¬ isK t.toNatClampNeg (sG s 0) r) ∧ (sR s).length < 48 ∧ c = 0 ∧ v = nI (cnT (sR s) t.toNatClampNeg + 1) ∧ s' = (sN s, sK s, sX s, sG s, sR s ++ [(t.toNatClampNeg, sG s)], sW s, sV s, sO s))
theorem m1_neg : ((-1 : Int32) < 0) := by decide
theorem nI_n0 {n : Nat} (h : n ≤ 100000) : ¬ nI n < 0 := nI_pos (by omega)
theorem SI.ins {s : St} {j : Nat} (I : SI s) (hj : j < sN s) (h1 : ∀ r ∈ sR s, ¬ isK j (sG s 0) r) (h2 : (sR s).length < 48) : SI (sN s, sK s, sX s, sG s, sR s ++ [(j, sG s)], sW s, sV s, sO s) := by
  obtain ⟨i1, i2, i3, i4, i5, i6, i7⟩ := I
  refine ⟨i1, i2, i3, ?_, ?_, ?_, i7⟩
  · show (sR s ++ [(j, sG s)]).length ≤ 48
    rw [List.length_append, List.length_singleton]; omega
  · intro r hr
    rcases List.mem_append.mp hr with hr | hr
    · exact i5 r hr
    · rw [List.mem_singleton.mp hr]; exact hj
  · refine List.pairwise_append.mpr ⟨i6, List.pairwise_singleton _ _, fun a ha b hb => ?_⟩
    rw [List.mem_singleton.mp hb]
    exact fun e1 e2 => h1 a ha ⟨e1, e2⟩
theorem m91 {d m : Nat} {t : Int32} {h : AH} {s : St} {P : PT} (o : OB h m 16 kM) (I : SI s) (R : RelM (hI h) m s)
    (K : ∀ g' c v s', InsO s t c v s' → RelM g' m s' → g' m 224 = c → Out m (hI h) g' → P (.inl (some (vI v))) (sI h g')) : Ev (d + 1) 91 0 [vR (some m), vI t, vU] [] h P := by
  have h4 := I.1
  have l48 : (sR s).length ≤ 48 := I.2.2.2.1
  have bad : ∀ (w : AV) (c : Int32), 0 < c → InsO s t c 0 s → Ev (d + 1) 91 45 [vR (some m), vI t, w] [vI c, vR (some m)] h P := by
    intro w c hc e
    have e0 : hI (wI h m 224 c) m 224 = c := u2_hit _ _ _ _
    refine w91_45 o o ⟨fun g => ?_, fun _ => ?_⟩
    · rw [e0] at g; exact absurd g (Int32.not_le.mpr hc)
    · exact K _ c 0 s e R.code (u2_hit _ _ _ _) ((Out.refl m _).u2 0 _ _ (by omega))
  refine w91_0 o ?_
  refine m88 o R.1.1 ?_
  refine w91_6 o ⟨fun g => ?_, fun g => ?_⟩
  rotate_left
  · rw [bI_0] at g
    exact bad vU 1 (by decide) (Or.inl ⟨g, rfl, rfl, rfl⟩)
  · rw [bI_0, Bool.not_eq_false] at g
    obtain ⟨j, hj, rfl⟩ := isC_of g (by omega)
    have cj : (nI j).toNatClampNeg = j := nI_clamp (by omega)
    refine ⟨i5 (n := 0) (by decide) (by decide), ?_⟩
    rw [show hI h (m + 3) (Int32.toNatClampNeg 0) = sG s 0 from R.2.1 0 (by omega)]
    refine m92 o I R.2.2.1 (by omega) (fun x hx => ?_)
    refine w91_24 o ⟨fun g2 => ⟨fun g3 => ?_, fun g3 => ?_⟩, fun g2 => ?_⟩
    rotate_left
    · rw [R.2.2.1.1, show (48 : Int32) = nI 48 from rfl, nI_eq (by omega) (by omega)] at g3
      rcases hx with ⟨_, q⟩ | ⟨i, r, e, _, _⟩
      · exact bad vU 3 (by decide) (Or.inr (Or.inr (Or.inl ⟨g, by rw [cj]; exact q, g3, rfl, rfl, rfl⟩)))
      · have hi : i < (sR s).length := (List.getElem?_eq_some_iff.mp ‹_›).1
        rw [e] at g2; exact absurd g2 (nI_n0 (by omega))
    · rcases hx with ⟨e, _⟩ | ⟨i, r, e, hr, q⟩
      · rw [e] at g2; exact absurd g2 (by decide)
      · exact bad vU 2 (by decide) (Or.inr (Or.inl ⟨g, ⟨r, List.mem_of_getElem? hr, by rw [cj]; exact q⟩, rfl, rfl, rfl⟩))
    · -- it goes in
      have hno : ∀ r ∈ sR s, ¬ isK j (sG s 0) r := by
        rcases hx with ⟨_, q⟩ | ⟨i, r, e, hr, _⟩
        · exact q
        · have hi : i < (sR s).length := (List.getElem?_eq_some_iff.mp hr).1
          rw [e] at g2; exact absurd g2 (nI_n0 (by omega))
      have hne : (sR s).length < 48 := by
        have : (sR s).length ≠ 48 := fun q => g3 (by rw [R.2.2.1.1, q]; rfl)
        omega
      have e0 : hI (wI h m 224 0) m 224 = 0 := u2_hit _ _ _ _
      have e1 : hI (wI h m 224 0) m 244 = nI (sR s).length := (u2_k (by decide)).trans R.2.2.1.1
      refine w91_45 o o ⟨fun _ => ?_, fun g4 => ?_⟩
      rotate_left
      · rw [e0] at g4; exact absurd g4 (by decide)
      rw [e1, cl (by omega)]
      refine ⟨i5 (by omega) (by omega), ?_⟩
      -- the loop over the cells
      suffices L : ∀ k c (g1 : GF), k + c = 4 → Out m (hI h) g1 → g1 m 224 = 0 → g1 m 244 = nI (sR s).length → g1 (m + 4) (sR s).length = nI j → (∀ i, i < c → g1 (m + 5) (4 * (sR s).length + i) = sG s i) → RelM g1 m s → Ev (d + 1) 91 69 [vR (some m), vI (nI j), vI (nI c)] [] (sI h g1) P by
        refine L 4 0 (u2 (u2 (hI h) m 224 0) (m + 4) (sR s).length (nI j)) rfl (((Out.refl m _).u2 0 _ _ (by omega)).u2 4 _ _ (by omega)) ((u2_a (by omega)).trans (u2_hit _ _ _ _)) ((u2_a (by omega)).trans e1) (u2_hit _ _ _ _) (fun i hi => absurd hi (by omega)) ?_
        have R' := R.code (v := 0)
        refine ⟨R'.1.keep (u2_a (by omega)) (fun i => u2_a (by omega)) (fun i => u2_a (by omega)), R'.2.1.keep (fun i => u2_a (by omega)), ⟨(u2_a (by omega)).trans R'.2.2.1.1, fun i r hr => ⟨?_, fun c hc => ?_⟩⟩, R'.2.2.2.1.keep (u2_a (by omega)) (fun i => u2_a (by omega)), R'.2.2.2.2.keep (u2_a (by omega)) (u2_a (by omega)) (fun i => u2_a (by omega))⟩
        · have hi : i < (sR s).length := (List.getElem?_eq_some_iff.mp hr).1
          rw [u2_k (by omega)]; exact (R'.2.2.1.2 i r hr).1
        · rw [u2_a (by omega)]; exact (R'.2.2.1.2 i r hr).2 c hc
      intro k
      induction k with
      | zero =>
        intro c g1 hc O1 c0 c1 c2 c3 R1
        obtain rfl : c = 4 := by omega
        have o1 : OB (sI h g1) m 16 kM := o
        refine w91_69 o1 ⟨fun _ => ?_, fun g4 => absurd g4 (by decide)⟩
        rw [show hI (sI h g1) m 244 = nI (sR s).length from c1, nI_1]
        have I' := I.ins hj hno hne
        have R2 : RelM (u2 g1 m 244 (nI ((sR s).length + 1))) m (sN s, sK s, sX s, sG s, sR s ++ [(j, sG s)], sW s, sV s, sO s) := by
          refine ⟨R1.1.keep (u2_k (by decide)) (fun i => u2_a (by omega)) (fun i => u2_a (by omega)), R1.2.1.keep (fun i => u2_a (by omega)), ⟨?_, fun i r hr => ?_⟩, R1.2.2.2.1.keep (u2_k (by decide)) (fun i => u2_a (by omega)), R1.2.2.2.2.keep (u2_k (by decide)) (u2_k (by decide)) (fun i => u2_a (by omega))⟩
          · rw [u2_hit]
            show _ = nI (sR s ++ [(j, sG s)]).length
            rw [List.length_append, List.length_singleton]
          · have hr : (sR s ++ [(j, sG s)])[i]? = some r := hr
            by_cases ei : i = (sR s).length
            · rw [ei] at hr ⊢
              have : r = (j, sG s) := by simpa using hr.symm
              subst this
              refine ⟨(u2_a (by omega)).trans c2, fun c hc => (u2_a (by omega)).trans (c3 c hc)⟩
            · have hr' : (sR s)[i]? = some r := by
                rw [List.getElem?_append] at hr
                split at hr
                · exact hr
                · rw [List.getElem?_eq_none (by simp; omega)] at hr; cases hr
              exact ⟨(u2_a (by omega)).trans (R1.2.2.1.2 i r hr').1, fun c hc => (u2_a (by omega)).trans ((R1.2.2.1.2 i r hr').2 c hc)⟩
        have o2 : OB (wI (sI h g1) m 244 (nI ((sR s).length + 1))) m 16 kM := o
        refine m93 (s := (sN s, sK s, sX s, sG s, sR s ++ [(j, sG s)], sW s, sV s, sO s)) o2 I' R2.2.2.1 (by omega) ?_
        refine w91_114 ?_
        have ec : cnT (sR s ++ [(j, sG s)]) j = cnT (sR s) j + 1 := by
          unfold cnT
          rw [List.countP_append, List.countP_singleton, if_pos (by simp)]
        rw [show cnT (sR (sN s, sK s, sX s, sG s, sR s ++ [(j, sG s)], sW s, sV s, sO s)) j = cnT (sR s) j + 1 from ec]
        exact K _ 0 _ _ (Or.inr (Or.inr (Or.inr ⟨g, by rw [cj]; exact hno, hne, rfl, by rw [cj], by rw [cj]⟩))) R2 ((u2_k (by decide)).trans c0) (O1.u2 0 _ _ (by omega))
      | succ k ih =>
        intro c g1 hc O1 c0 c1 c2 c3 R1
        have o1 : OB (sI h g1) m 16 kM := o
        refine w91_69 o1 ⟨fun g4 => ?_, fun _ => ?_⟩
        · rw [show (4 : Int32) = nI 4 from rfl, nI_leI (by omega) (by omega)] at g4; omega
        rw [show hI (sI h g1) m 244 = nI (sR s).length from c1, show (4 : Int32) * nI (sR s).length = nI (4 * (sR s).length) from pk_mul 4 _, nI_add, cl (by omega), cl (by omega), show hI (sI h g1) (m + 3) c = sG s c from R1.2.1 c (by omega), nI_1]
        refine ⟨i5 (by omega) (by omega), i5 (by omega) (by omega), ?_⟩
        refine ih (c + 1) (u2 g1 (m + 5) (4 * (sR s).length + c) (sG s c)) (by omega) (O1.u2 5 _ _ (by omega)) ((u2_a (by omega)).trans c0) ((u2_a (by omega)).trans c1) ((u2_a (by omega)).trans c2) (fun i hi => ?_) ?_
        · by_cases ei : i = c
          · rw [ei]; exact u2_hit _ _ _ _
          · rw [u2_k (by omega)]; exact c3 i (by omega)
        · refine ⟨R1.1.keep (u2_a (by omega)) (fun i => u2_a (by omega)) (fun i => u2_a (by omega)), R1.2.1.keep (fun i => u2_a (by omega)), ⟨(u2_a (by omega)).trans R1.2.2.1.1, fun i r hr => ⟨(u2_a (by omega)).trans (R1.2.2.1.2 i r hr).1, fun q hq => ?_⟩⟩, R1.2.2.2.1.keep (u2_a (by omega)) (fun i => u2_a (by omega)), R1.2.2.2.2.keep (u2_a (by omega)) (u2_a (by omega)) (fun i => u2_a (by omega))⟩
          have hi : i < (sR s).length := (List.getElem?_eq_some_iff.mp hr).1
          rw [u2_k (by omega)]; exact (R1.2.2.1.2 i r hr).2 q hq
