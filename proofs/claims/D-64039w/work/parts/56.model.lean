/-! deps: 25 29 31 36 37 38 50 52 55 -/
/-! ===== THE REFERENCE: tables, columns, staged, words, output ===== -/
def isT (t : Int32) (n : Nat) : Bool := isC t n
theorem m85 {d m : Nat} {h : AH} {P : PT} (o : OB h m 16 kM) (K : P (.inl (some (vI (hI h m 224)))) h) : Ev d 85 0 [vR (some m)] [] h P := w85_0 o K
theorem m88 {d m n : Nat} {t : Int32} {h : AH} {P : PT} (o : OB h m 16 kM) (hn : hI h m 228 = nI n) (K : P (.inl (some (vI (bI (isC t n))))) h) : Ev d 88 0 [vR (some m), vI t] [] h P := by
  refine w88_0 o ⟨fun g => ?_, fun g => ⟨fun g2 => ?_, fun g2 => ?_⟩⟩
  · have : isC t n = false := by unfold isC; simp only [decide_eq_false_iff_not, not_and]; exact fun q => absurd g (Int32.not_lt.mpr q)
    rw [this] at K; exact K
  · rw [hn] at g2
    have : isC t n = false := by unfold isC; simp only [decide_eq_false_iff_not, not_and]; exact fun _ => Int32.not_lt.mpr g2
    rw [this] at K; exact K
  · rw [hn] at g2
    have : isC t n = true := by unfold isC; simp only [decide_eq_true_eq]; exact ⟨g, g2⟩
    rw [this] at K; exact K
theorem m89 {d m j k : Nat} {c : Int32} {h : AH} {P : PT} (o : OB h m 16 kM) (hj : j < 4) (hk : hI h (m + 1) j = nI k) (K : P (.inl (some (vI (bI (isC c k))))) h) : Ev d 89 0 [vR (some m), vI (nI j), vI c] [] h P := by
  refine w89_0 o ⟨fun g => ?_, fun g => ⟨i5 (by omega) (by omega), fun g2 => ?_, fun g2 => ?_⟩⟩
  · have : isC c k = false := by unfold isC; simp only [decide_eq_false_iff_not, not_and]; exact fun q => absurd g (Int32.not_lt.mpr q)
    rw [this] at K; exact K
  · rw [cl (by omega), hk] at g2
    have : isC c k = false := by unfold isC; simp only [decide_eq_false_iff_not, not_and]; exact fun _ => Int32.not_lt.mpr g2
    rw [this] at K; exact K
  · rw [cl (by omega), hk] at g2
    have : isC c k = true := by unfold isC; simp only [decide_eq_true_eq]; exact ⟨g, g2⟩
    rw [this] at K; exact K
/-- table -/
def oTab (s : St) (many : Int32) : Int32 × Int32 × St :=
  if many < 1 ∨ 4 < many then (1, 0, s) else if sN s = 4 then (2, 0, s) else
    (0, nI (sN s), (sN s + 1, fun j => if j = sN s then many.toNatClampNeg else sK s j, fun j c => if j = sN s ∧ c = 0 then true else sX s j c, sG s, sR s, sW s, sV s, sO s))
theorem m86 {d m : Nat} {many : Int32} {h : AH} {s : St} {P : PT} (o : OB h m 16 kM) (I : SI s) (R : RelM (hI h) m s)
    (K : ∀ g', RelM g' m (oTab s many).2.2 → g' m 224 = (oTab s many).1 → Out m (hI h) g' → P (.inl (some (vI (oTab s many).2.1))) (sI h g')) : Ev d 86 0 [vR (some m), vI many] [] h P := by
  have hn := R.1.1
  have h4 := I.1
  have bad : ∀ v : Int32, 0 < v → ((oTab s many) = (v, 0, s)) → Ev d 86 28 [vR (some m), vI many] [vI v, vR (some m)] h P := by
    intro v hv e
    rw [e] at K
    have e0 : hI (wI h m 224 v) m 224 = v := u2_hit _ _ _ _
    refine w86_28 o o ⟨fun g => ?_, fun _ => ?_⟩
    · rw [e0] at g; exact absurd g (Int32.not_le.mpr hv)
    · exact K _ R.code (u2_hit _ _ _ _) ((Out.refl m _).u2 0 _ _ (by omega))
  refine w86_0 o ⟨fun g => w86_11 (bad 1 (by decide) (by unfold oTab; rw [if_pos (Or.inl g)])), fun g => ⟨fun g2 => ⟨fun g3 => ?_, fun g3 => ?_⟩, fun g2 => w86_11 (bad 1 (by decide) (by unfold oTab; rw [if_pos (Or.inr g2)]))⟩⟩
  · have hne : ¬ sN s = 4 := fun q => g3 (by rw [hn, q]; rfl)
    have e : oTab s many = (0, nI (sN s), (sN s + 1, fun j => if j = sN s then many.toNatClampNeg else sK s j, fun j c => if j = sN s ∧ c = 0 then true else sX s j c, sG s, sR s, sW s, sV s, sO s)) := by
      unfold oTab
      rw [if_neg, if_neg hne]
      rintro (q | q)
      · exact absurd q (Int32.not_lt.mpr g)
      · exact absurd q (Int32.not_lt.mpr g2)
    rw [e] at K
    have e0 : ∀ v, hI (wI h m 224 v) m 224 = v := fun v => u2_hit _ _ _ _
    have e1 : ∀ v, hI (wI h m 224 v) m 228 = nI (sN s) := fun v => (u2_k (by decide)).trans hn
    refine w86_28 o o ⟨fun _ => ?_, fun g4 => ?_⟩
    · rw [e1, cl (by omega)]
      have e2 : hI (wI (wI h m 224 0) (m + 1) (sN s) many) m 228 = nI (sN s) := (u2_a (by omega)).trans ((u2_k (by decide)).trans hn)
      rw [e2, show (4 : Int32) * nI (sN s) = nI (4 * sN s) from pk_mul 4 (sN s), cl (by omega)]
      have e3 : hI (wI (wI (wI h m 224 0) (m + 1) (sN s) many) (m + 2) (4 * sN s) 1) m 228 = nI (sN s) := (u2_a (by omega)).trans e2
      rw [e3, nI_1]
      refine ⟨i5 (by omega) (by omega), i5 (by omega) (by omega), ?_⟩
      have e4 : hI (wI (wI (wI (wI h m 224 0) (m + 1) (sN s) many) (m + 2) (4 * sN s) 1) m 228 (nI (sN s + 1))) m 228 = nI (sN s + 1) := u2_hit _ _ _ _
      rw [e4, nI_pred]
      obtain ⟨R1, R2, R3, R4, R5⟩ := R
      refine K _ ⟨⟨u2_hit _ _ _ _, fun j hj => ?_, fun j c hj hc => ?_⟩, ?_, ?_, ?_, ?_⟩ ?_ ?_
      · show u2 (u2 (u2 (u2 (hI h) m 224 0) (m + 1) (sN s) many) (m + 2) (4 * sN s) 1) m 228 (nI (sN s + 1)) (m + 1) j = nI (if j = sN s then many.toNatClampNeg else sK s j)
        rw [u2_a (by omega), u2_a (by omega)]
        by_cases ej : j = sN s
        · rw [if_pos ej, ej, u2_hit]
          obtain ⟨q, hq, rfl⟩ := nI_of (x := many) (Int32.not_lt.mpr (Int32.le_trans (by decide) g))
          rw [nI_clamp hq]
        · rw [if_neg ej, u2_k ej, u2_a (by omega)]
          exact R1.2.1 j (by show j < sN s; have : j < sN s + 1 := hj; omega)
      · show u2 (u2 (u2 (u2 (hI h) m 224 0) (m + 1) (sN s) many) (m + 2) (4 * sN s) 1) m 228 (nI (sN s + 1)) (m + 2) (4 * j + c) = bI (if j = sN s ∧ c = 0 then true else sX s j c)
        rw [u2_a (by omega)]
        by_cases ej : j = sN s ∧ c = 0
        · rw [if_pos ej, ej.1, ej.2]; exact u2_hit _ _ _ _
        · rw [if_neg ej, u2_k (by omega), u2_a (by omega), u2_a (by omega)]
          exact R1.2.2 j c hj hc
      · exact R2.keep (fun i => (u2_a (by omega)).trans ((u2_a (by omega)).trans ((u2_a (by omega)).trans (u2_a (by omega)))))
      · exact R3.keep ((u2_k (by decide)).trans ((u2_a (by omega)).trans ((u2_a (by omega)).trans (u2_k (by decide))))) (fun i => (u2_a (by omega)).trans ((u2_a (by omega)).trans ((u2_a (by omega)).trans (u2_a (by omega))))) (fun i => (u2_a (by omega)).trans ((u2_a (by omega)).trans ((u2_a (by omega)).trans (u2_a (by omega)))))
      · exact R4.keep ((u2_k (by decide)).trans ((u2_a (by omega)).trans ((u2_a (by omega)).trans (u2_k (by decide))))) (fun i => (u2_a (by omega)).trans ((u2_a (by omega)).trans ((u2_a (by omega)).trans (u2_a (by omega)))))
      · exact R5.keep ((u2_k (by decide)).trans ((u2_a (by omega)).trans ((u2_a (by omega)).trans (u2_k (by decide))))) ((u2_k (by decide)).trans ((u2_a (by omega)).trans ((u2_a (by omega)).trans (u2_k (by decide))))) (fun i => (u2_a (by omega)).trans ((u2_a (by omega)).trans ((u2_a (by omega)).trans (u2_a (by omega)))))
      · exact (u2_k (by decide)).trans ((u2_a (by omega)).trans ((u2_a (by omega)).trans (u2_hit _ _ _ _)))
      · exact ((((Out.refl m _).u2 0 _ _ (by omega)).u2 1 _ _ (by omega)).u2 2 _ _ (by omega)).u2 0 _ _ (by omega)
    · rw [e0] at g4; exact absurd g4 (by decide)
  · exact bad 2 (by decide) (by
      unfold oTab
      rw [if_neg, if_pos]
      · rw [hn, show (4 : Int32) = nI 4 from rfl, nI_eq (by omega) (by omega)] at g3; exact g3
      · rintro (q | q)
        · exact absurd q (Int32.not_lt.mpr g)
        · exact absurd q (Int32.not_lt.mpr g2))
/-- index -/
def oIdx (s : St) (t c : Int32) : Int32 × Bool × St :=
  if isC t (sN s) = true ∧ isC c (sK s t.toNatClampNeg) = true then
    if sX s t.toNatClampNeg c.toNatClampNeg = true then (0, false, s) else (0, true, (sN s, sK s, fun j i => if j = t.toNatClampNeg ∧ i = c.toNatClampNeg then true else sX s j i, sG s, sR s, sW s, sV s, sO s))
  else (1, false, s)
theorem m87 {d m : Nat} {t c : Int32} {h : AH} {s : St} {P : PT} (o : OB h m 16 kM) (I : SI s) (R : RelM (hI h) m s)
    (K : ∀ g', RelM g' m (oIdx s t c).2.2 → g' m 224 = (oIdx s t c).1 → Out m (hI h) g' → P (.inl (some (vI (bI (oIdx s t c).2.1)))) (sI h g')) : Ev (d + 1) 87 0 [vR (some m), vI t, vI c] [] h P := by
  have hn := R.1.1
  have h4 := I.1
  have bad : oIdx s t c = (1, false, s) → Ev (d + 1) 87 22 [vR (some m), vI t, vI c] [vR (some m)] h P := by
    intro e
    rw [e] at K
    refine w87_22 ?_
    have e0 : hI (wI h m 224 1) m 224 = 1 := u2_hit _ _ _ _
    refine w87_23 o o ⟨fun _ => ?_, fun g => ?_⟩
    · exact K _ R.code (u2_hit _ _ _ _) ((Out.refl m _).u2 0 _ _ (by omega))
    · rw [e0] at g; exact absurd g (by decide)
  refine w87_0 o ?_
  refine m88 o hn ?_
  refine w87_6 o ⟨fun g => ?_, fun g => ?_⟩
  · rw [bI_0] at g
    exact bad (by unfold oIdx; rw [if_neg (fun q => by rw [g] at q; cases q.1)])
  · rw [bI_0, Bool.not_eq_false] at g
    obtain ⟨j, hj, rfl⟩ := isC_of g (by omega)
    have hk := R.1.2.1 j hj
    have hK := I.2.1 j hj
    refine m89 o (by omega) hk ?_
    refine w87_15 ⟨fun g2 => ?_, fun g2 => ?_⟩
    · rw [bI_0] at g2
      exact bad (by unfold oIdx; rw [if_neg (fun q => by rw [nI_clamp (by omega), g2] at q; cases q.2)])
    · rw [bI_0, Bool.not_eq_false] at g2
      obtain ⟨i, hi, rfl⟩ := isC_of g2 (by omega)
      have e : oIdx s (nI j) (nI i) = if sX s j i = true then (0, false, s) else (0, true, (sN s, sK s, fun j' i' => if j' = j ∧ i' = i then true else sX s j' i', sG s, sR s, sW s, sV s, sO s)) := by
        unfold oIdx
        rw [nI_clamp (by omega), nI_clamp (by omega), if_pos ⟨g, g2⟩]
      rw [e] at K
      have e0 : hI (wI h m 224 0) m 224 = 0 := u2_hit _ _ _ _
      have e1 : (4 : Int32) * nI j + nI i = nI (4 * j + i) := by rw [show (4 : Int32) * nI j = nI (4 * j) from pk_mul 4 j, nI_add]
      refine w87_23 o o ⟨fun g3 => ?_, fun _ => ?_⟩
      · rw [e0] at g3; exact absurd g3 (by decide)
      rw [e1, cl (by omega)]
      have e2 : hI (wI h m 224 0) (m + 2) (4 * j + i) = bI (sX s j i) := (u2_a (by omega)).trans (R.1.2.2 j i (by omega) (by omega))
      rw [e2]
      refine ⟨i5 (by omega) (by omega), fun g3 => ⟨i5 (by omega) (by omega), ?_⟩, fun g3 => ?_⟩
      · rw [bI_0] at g3
        rw [if_neg (by rw [g3]; decide)] at K
        obtain ⟨R1, R2, R3, R4, R5⟩ := R
        refine K _ ⟨⟨(u2_a (by omega)).trans ((u2_k (by decide)).trans hn), fun j' hj' => (u2_a (by omega)).trans ((u2_a (by omega)).trans (R1.2.1 j' hj')), fun j' c' hj' hc' => ?_⟩, R2.keep (fun i => (u2_a (by omega)).trans (u2_a (by omega))), R3.keep ((u2_a (by omega)).trans (u2_k (by decide))) (fun i => (u2_a (by omega)).trans (u2_a (by omega))) (fun i => (u2_a (by omega)).trans (u2_a (by omega))), R4.keep ((u2_a (by omega)).trans (u2_k (by decide))) (fun i => (u2_a (by omega)).trans (u2_a (by omega))), R5.keep ((u2_a (by omega)).trans (u2_k (by decide))) ((u2_a (by omega)).trans (u2_k (by decide))) (fun i => (u2_a (by omega)).trans (u2_a (by omega)))⟩ ((u2_a (by omega)).trans (u2_hit _ _ _ _)) (((Out.refl m _).u2 0 _ _ (by omega)).u2 2 _ _ (by omega))
        show u2 (u2 (hI h) m 224 0) (m + 2) (4 * j + i) 1 (m + 2) (4 * j' + c') = bI (if j' = j ∧ c' = i then true else sX s j' c')
        by_cases ej : j' = j ∧ c' = i
        · rw [if_pos ej, ej.1, ej.2]; exact u2_hit _ _ _ _
        · rw [if_neg ej, u2_k (by omega), u2_a (by omega)]; exact R1.2.2 j' c' hj' hc'
      · rw [bI_0, Bool.not_eq_false] at g3
        rw [if_pos g3] at K
        exact K _ R.code (u2_hit _ _ _ _) ((Out.refl m _).u2 0 _ _ (by omega))
/-- stage -/
def oStg (s : St) (c v : Int32) : Bool × St := if c < 0 ∨ 3 < c then (false, s) else (true, (sN s, sK s, sX s, fun j => if j = c.toNatClampNeg then v else sG s j, sR s, sW s, sV s, sO s))
theorem m90 {d m : Nat} {c v : Int32} {h : AH} {s : St} {P : PT} (o : OB h m 16 kM) (R : RelM (hI h) m s)
    (K : ∀ g', RelM g' m (oStg s c v).2 → Out m (hI h) g' → P (.inl (some (vI (bI (oStg s c v).1)))) (sI h g')) : Ev d 90 0 [vR (some m), vI c, vI v] [] h P := by
  have bad : oStg s c v = (false, s) → P (.inl (some (vI 0))) (wI h m 224 0) := fun e => by
    rw [e] at K; exact K _ R.code ((Out.refl m _).u2 0 _ _ (by omega))
  refine w90_0 o ⟨fun g => bad (by unfold oStg; rw [if_pos (Or.inl g)]), fun g => ⟨fun g2 => ?_, fun g2 => bad (by unfold oStg; rw [if_pos (Or.inr g2)])⟩⟩
  obtain ⟨j, hj, rfl⟩ := nI_of2 (M := 3) (n := 3) (by decide) (Int32.not_lt.mpr g) g2
  have e : oStg s (nI j) v = (true, (sN s, sK s, sX s, fun i => if i = j then v else sG s i, sR s, sW s, sV s, sO s)) := by
    unfold oStg
    rw [if_neg, nI_clamp (by omega)]
    rintro (q | q)
    · exact absurd q (Int32.not_lt.mpr g)
    · exact absurd q (Int32.not_lt.mpr g2)
  rw [e] at K
  rw [cl (by omega)]
  refine ⟨i5 (by omega) (by omega), ?_⟩
  obtain ⟨R1, R2, R3, R4, R5⟩ := R
  refine K _ ⟨R1.keep ((u2_a (by omega)).trans (u2_k (by decide))) (fun i => (u2_a (by omega)).trans (u2_a (by omega))) (fun i => (u2_a (by omega)).trans (u2_a (by omega))), fun i hi => ?_, R3.keep ((u2_a (by omega)).trans (u2_k (by decide))) (fun i => (u2_a (by omega)).trans (u2_a (by omega))) (fun i => (u2_a (by omega)).trans (u2_a (by omega))), R4.keep ((u2_a (by omega)).trans (u2_k (by decide))) (fun i => (u2_a (by omega)).trans (u2_a (by omega))), R5.keep ((u2_a (by omega)).trans (u2_k (by decide))) ((u2_a (by omega)).trans (u2_k (by decide))) (fun i => (u2_a (by omega)).trans (u2_a (by omega)))⟩ (((Out.refl m _).u2 0 _ _ (by omega)).u2 3 _ _ (by omega))
  show u2 (u2 (hI h) m 224 0) (m + 3) j v (m + 3) i = if i = j then v else sG s i
  by_cases ei : i = j
  · rw [if_pos ei, ei]; exact u2_hit _ _ _ _
  · rw [if_neg ei, u2_k ei, u2_a (by omega)]; exact R2 i hi
/-- word, clear -/
def oWrd (s : St) (w : Int32) : Bool × St := if (sW s).length = 40 then (false, s) else (true, (sN s, sK s, sX s, sG s, sR s, sW s ++ [w], sV s, sO s))
theorem m98 {d m : Nat} {w : Int32} {h : AH} {s : St} {P : PT} (o : OB h m 16 kM) (I : SI s) (R : RelM (hI h) m s)
    (K : ∀ g', RelM g' m (oWrd s w).2 → Out m (hI h) g' → P (.inl (some (vI (bI (oWrd s w).1)))) (sI h g')) : Ev d 98 0 [vR (some m), vI w] [] h P := by
  obtain ⟨R1, R2, R3, R4, R5⟩ := R
  have l40 := I.2.2.2.2.2.2.1
  have e1 : hI (wI h m 224 0) m 256 = nI (sW s).length := (u2_k (by decide)).trans R4.1
  refine w98_0 o ⟨fun g => ?_, fun g => ?_⟩
  · rw [e1] at g ⊢
    have hne : ¬ (sW s).length = 40 := fun q => g (by rw [q]; rfl)
    rw [cl (by omega)]
    refine ⟨i5 (by omega) (by omega), ?_⟩
    have e2 : hI (wI (wI h m 224 0) (m + 6) (sW s).length w) m 256 = nI (sW s).length := (u2_a (by omega)).trans e1
    rw [e2, nI_1]
    have e : oWrd s w = (true, (sN s, sK s, sX s, sG s, sR s, sW s ++ [w], sV s, sO s)) := if_neg hne
    rw [e] at K
    refine K _ ⟨R1.keep ((u2_k (by decide)).trans ((u2_a (by omega)).trans (u2_k (by decide)))) (fun i => (u2_a (by omega)).trans ((u2_a (by omega)).trans (u2_a (by omega)))) (fun i => (u2_a (by omega)).trans ((u2_a (by omega)).trans (u2_a (by omega)))), R2.keep (fun i => (u2_a (by omega)).trans ((u2_a (by omega)).trans (u2_a (by omega)))), R3.keep ((u2_k (by decide)).trans ((u2_a (by omega)).trans (u2_k (by decide)))) (fun i => (u2_a (by omega)).trans ((u2_a (by omega)).trans (u2_a (by omega)))) (fun i => (u2_a (by omega)).trans ((u2_a (by omega)).trans (u2_a (by omega)))), ⟨?_, fun i x hx => ?_⟩, R5.keep ((u2_k (by decide)).trans ((u2_a (by omega)).trans (u2_k (by decide)))) ((u2_k (by decide)).trans ((u2_a (by omega)).trans (u2_k (by decide)))) (fun i => (u2_a (by omega)).trans ((u2_a (by omega)).trans (u2_a (by omega))))⟩ ((((Out.refl m _).u2 0 _ _ (by omega)).u2 6 _ _ (by omega)).u2 0 _ _ (by omega))
    · show u2 _ m 256 (nI ((sW s).length + 1)) m 256 = nI (sW s ++ [w]).length
      rw [u2_hit, List.length_append, List.length_singleton]
    · show u2 (u2 (u2 (hI h) m 224 0) (m + 6) (sW s).length w) m 256 (nI ((sW s).length + 1)) (m + 6) i = x
      rw [u2_a (by omega)]
      have hx : (sW s ++ [w])[i]? = some x := hx
      by_cases ei : i = (sW s).length
      · rw [ei] at hx ⊢
        rw [u2_hit]
        simpa using hx
      · rw [u2_k ei, u2_a (by omega)]
        refine R4.2 i x ?_
        rw [List.getElem?_append] at hx
        split at hx
        · exact hx
        · have : i - (sW s).length ≠ 0 := by omega
          rw [List.getElem?_eq_none (by simp; omega)] at hx; cases hx
  · rw [e1, show (40 : Int32) = nI 40 from rfl, nI_eq (by omega) (by omega)] at g
    have e : oWrd s w = (false, s) := if_pos g
    rw [e] at K
    exact K _ (RelM.code ⟨R1, R2, R3, R4, R5⟩) ((Out.refl m _).u2 0 _ _ (by omega))
def oClr (s : St) : Int32 × St := (nI (sW s).length, (sN s, sK s, sX s, sG s, sR s, [], sV s, sO s))
theorem m99 {d m : Nat} {h : AH} {s : St} {P : PT} (o : OB h m 16 kM) (R : RelM (hI h) m s)
    (K : ∀ g', RelM g' m (oClr s).2 → Out m (hI h) g' → P (.inl (some (vI (oClr s).1))) (sI h g')) : Ev d 99 0 [vR (some m), vU] [] h P := by
  obtain ⟨R1, R2, R3, R4, R5⟩ := R
  refine w99_0 o ?_
  have e1 : hI (wI h m 224 0) m 256 = nI (sW s).length := (u2_k (by decide)).trans R4.1
  rw [e1]
  exact K _ ⟨R1.keep ((u2_k (by decide)).trans (u2_k (by decide))) (fun i => (u2_a (by omega)).trans (u2_a (by omega))) (fun i => (u2_a (by omega)).trans (u2_a (by omega))), R2.keep (fun i => (u2_a (by omega)).trans (u2_a (by omega))), R3.keep ((u2_k (by decide)).trans (u2_k (by decide))) (fun i => (u2_a (by omega)).trans (u2_a (by omega))) (fun i => (u2_a (by omega)).trans (u2_a (by omega))), ⟨u2_hit _ _ _ _, fun i x hx => by cases hx⟩, R5.keep ((u2_k (by decide)).trans (u2_k (by decide))) ((u2_k (by decide)).trans (u2_k (by decide))) (fun i => (u2_a (by omega)).trans (u2_a (by omega)))⟩ (((Out.refl m _).u2 0 _ _ (by omega)).u2 0 _ _ (by omega))
/-- visits, size, out -/
theorem m128 {d m : Nat} {h : AH} {s : St} {P : PT} (o : OB h m 16 kM) (R : RelM (hI h) m s) (K : ∀ g', RelM g' m s → Out m (hI h) g' → P (.inl (some (vI (sV s)))) (sI h g')) : Ev d 128 0 [vR (some m)] [] h P := by
  refine w128_0 o ?_
  rw [show hI (wI h m 224 0) m 340 = sV s from (u2_k (by decide)).trans R.2.2.2.2.1]
  exact K _ R.code ((Out.refl m _).u2 0 _ _ (by omega))
theorem m129 {d m : Nat} {h : AH} {s : St} {P : PT} (o : OB h m 16 kM) (R : RelM (hI h) m s) (K : ∀ g', RelM g' m s → Out m (hI h) g' → P (.inl (some (vI (nI (sO s).length)))) (sI h g')) : Ev d 129 0 [vR (some m)] [] h P := by
  refine w129_0 o ?_
  rw [show hI (wI h m 224 0) m 344 = nI (sO s).length from (u2_k (by decide)).trans R.2.2.2.2.2.1]
  exact K _ R.code ((Out.refl m _).u2 0 _ _ (by omega))
def oOut (s : St) (i : Int32) : Int32 := if isC i (sO s).length = true then (sO s).getD i.toNatClampNeg 0 else 0
theorem m130 {d m : Nat} {i : Int32} {h : AH} {s : St} {P : PT} (o : OB h m 16 kM) (I : SI s) (R : RelM (hI h) m s) (K : ∀ g', RelM g' m s → Out m (hI h) g' → P (.inl (some (vI (oOut s i)))) (sI h g')) : Ev d 130 0 [vR (some m), vI i] [] h P := by
  have l64 : (sO s).length ≤ 64 := I.2.2.2.2.2.2.2
  have e1 : hI (wI h m 224 0) m 344 = nI (sO s).length := (u2_k (by decide)).trans R.2.2.2.2.2.1
  have K' := K _ (R.code (v := 0)) ((Out.refl m _).u2 0 _ _ (by omega))
  refine w130_0 o ⟨fun g => ?_, fun g => ⟨fun g2 => ?_, fun g2 => ?_⟩⟩
  · have : oOut s i = 0 := by
      unfold oOut isC
      rw [if_neg]
      simp only [decide_eq_true_eq]
      exact fun q => absurd g (Int32.not_lt.mpr q.1)
    rw [this] at K'; exact K'
  · rw [e1] at g2
    have : oOut s i = 0 := by
      unfold oOut isC
      rw [if_neg]
      simp only [decide_eq_true_eq]
      exact fun q => absurd q.2 (Int32.not_lt.mpr g2)
    rw [this] at K'; exact K'
  · rw [e1] at g2
    have hc : isC i (sO s).length = true := by unfold isC; simp only [decide_eq_true_eq]; exact ⟨g, g2⟩
    obtain ⟨j, hj, rfl⟩ := isC_of hc (by omega)
    rw [cl (by omega)]
    have : oOut s (nI j) = hI (wI h m 224 0) (m + 15) j := by
      unfold oOut
      rw [if_pos hc, nI_clamp (by omega)]
      have hg : (sO s)[j]? = some ((sO s).getD j 0) := by
        rw [List.getD_eq_getElem?_getD, List.getElem?_eq_getElem hj]; rfl
      have := R.2.2.2.2.2.2 j _ hg
      rw [hI_wI, if_neg (by omega)]; exact this.symm
    rw [this] at K'
    exact ⟨i5 (by omega) (by omega), K'⟩
