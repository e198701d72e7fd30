/-! deps: 25 29 31 36 37 38 50 52 55 56 57 -/
/-! ===== THE REFERENCE: delete, cell, keyFrom ===== -/
abbrev sWithR (s : St) (R : List Rw) : St := (sN s, sK s, sX s, sG s, R, sW s, sV s, sO s)
def DelO (s : St) (t key : Int32) (c v : Int32) (s' : St) : Prop :=
  (isC t (sN s) = false ∧ c = 1 ∧ v = 0 ∧ s' = s) ∨ (isC t (sN s) = true ∧ (∀ r ∈ sR s, ¬ isK t.toNatClampNeg key r) ∧ c = 2 ∧ v = 0 ∧ s' = s) ∨
  (isC t (sN s) = true ∧ ∃ r R', isK t.toNatClampNeg key r ∧ (sR s).Perm (r :: R') ∧ c = 0 ∧ v = nI (cnT R' t.toNatClampNeg) ∧ s' = sWithR s R')
theorem SI.perm {s : St} {R' : List Rw} (I : SI s) (p : (sR s).Perm R') : SI (sWithR s R') := by
  obtain ⟨i1, i2, i3, i4, i5, i6, i7⟩ := I
  refine ⟨i1, i2, i3, by show R'.length ≤ 48; rw [← p.length_eq]; exact i4, fun r hr => i5 r (p.mem_iff.mpr hr), ?_, i7⟩
  exact (p.pairwise_iff (fun {a b} h e1 e2 => h e1.symm e2.symm)).mp i6
theorem SI.tail {s : St} {r : Rw} {R' : List Rw} (I : SI s) (p : (sR s).Perm (r :: R')) : SI (sWithR s R') := by
  have I' := I.perm p
  obtain ⟨i1, i2, i3, i4, i5, i6, i7⟩ := I'
  have i4 : (r :: R').length ≤ 48 := i4
  have i6 : (r :: R').Pairwise (fun a b => a.1 = b.1 → a.2 0 ≠ b.2 0) := i6
  refine ⟨i1, i2, i3, by show R'.length ≤ 48; simp at i4; omega, fun q hq => i5 q (List.mem_cons_of_mem _ hq), (List.pairwise_cons.mp i6).2, i7⟩
/-- the last one comes to the place i -/
def swp (R : List Rw) (i n : Nat) (l : Rw) : List Rw := (R.set i l).take n
theorem swp_perm {R : List Rw} {i n : Nat} {r l : Rw} (hn : R.length = n + 1) (hi : R[i]? = some r) (hl : R[n]? = some l) : R.Perm (r :: swp R i n l) := by
  obtain ⟨B, x, hB⟩ : ∃ B x, R = B ++ [x] := ⟨R.take n, l, by
    have := List.take_append_drop n R
    rw [List.drop_eq_getElem_cons (by omega)] at this
    rw [List.getElem?_eq_getElem (by omega)] at hl
    rw [Option.some.inj hl, List.drop_eq_nil_of_le (by omega)] at this
    exact this.symm⟩
  subst hB
  have lB : B.length = n := by simpa using hn
  have : x = l := by rw [← lB] at hl; simpa using hl
  subst this
  have hil : i < (B ++ [x]).length := (List.getElem?_eq_some_iff.mp hi).1
  rcases Nat.lt_or_ge i B.length with q | q
  · have hi' : B[i]? = some r := by rw [List.getElem?_append_left q] at hi; exact hi
    have hb : B = B.take i ++ r :: B.drop (i + 1) := by
      have := List.take_append_drop i B
      rw [List.drop_eq_getElem_cons q] at this
      rw [List.getElem?_eq_getElem q] at hi'
      rw [Option.some.inj hi'] at this
      exact this.symm
    have e1 : swp (B ++ [x]) i n x = B.set i x := by
      unfold swp
      rw [List.set_append_left _ _ q, List.take_append_of_le_length (by rw [List.length_set]; omega), List.take_of_length_le (by rw [List.length_set]; omega)]
    have e2 : B.set i x = B.take i ++ x :: B.drop (i + 1) := by rw [List.set_eq_take_append_cons_drop, if_pos q]
    rw [e1, e2]
    have : (B ++ [x]).Perm (r :: (B.take i ++ x :: B.drop (i + 1))) := by
      have h1 : (B ++ [x]).Perm ((B.take i ++ r :: B.drop (i + 1)) ++ [x]) := by rw [← hb]
      refine h1.trans ?_
      have h2 : ((B.take i ++ r :: B.drop (i + 1)) ++ [x]).Perm (x :: (B.take i ++ r :: B.drop (i + 1))) := List.perm_append_singleton _ _
      refine h2.trans ?_
      have h3 : (B.take i ++ r :: B.drop (i + 1)).Perm (r :: (B.take i ++ B.drop (i + 1))) := List.perm_middle
      have h4 : (B.take i ++ x :: B.drop (i + 1)).Perm (x :: (B.take i ++ B.drop (i + 1))) := List.perm_middle
      exact (List.Perm.cons x h3).trans ((List.Perm.swap r x _).trans (List.Perm.cons r h4.symm))
    exact this
  · have hi2 : i = B.length := by simp at hil; omega
    have : r = x := by rw [hi2] at hi; simpa using hi.symm
    subst this
    have e1 : swp (B ++ [r]) i n r = B := by
      unfold swp
      rw [hi2, List.set_append_right _ _ (Nat.le_refl _)]
      simp [← lB]
    rw [e1]
    exact List.perm_append_singleton _ _
theorem m94 {d m : Nat} {t key : Int32} {h : AH} {s : St} {P : PT} (o : OB h m 16 kM) (I : SI s) (R : RelM (hI h) m s)
    (K : ∀ g' c v s', DelO s t key c v s' → RelM g' m s' → g' m 224 = c → Out m (hI h) g' → P (.inl (some (vI v))) (sI h g')) : Ev (d + 1) 94 0 [vR (some m), vI t, vI key, vU, vU] [] h P := by
  have h4 := I.1
  have l48 : (sR s).length ≤ 48 := I.2.2.2.1
  have bad : ∀ (w w' : AV) (c : Int32), 0 < c → DelO s t key c 0 s → Ev (d + 1) 94 27 [vR (some m), vI t, vI key, w, w'] [vI c, vR (some m)] h P := by
    intro w w' c hc e
    have e0 : hI (wI h m 224 c) m 224 = c := u2_hit _ _ _ _
    refine w94_27 o o ⟨fun g => ?_, fun _ => ?_⟩
    · rw [e0] at g; exact absurd g (Int32.not_le.mpr hc)
    · exact K _ c 0 s e R.code (u2_hit _ _ _ _) ((Out.refl m _).u2 0 _ _ (by omega))
  refine w94_0 o ?_
  refine m88 o R.1.1 ?_
  refine w94_6 o ⟨fun g => ?_, fun g => ?_⟩
  rotate_left
  · rw [bI_0] at g
    exact bad vU vU 1 (by decide) (Or.inl ⟨g, rfl, rfl, rfl⟩)
  rw [bI_0, Bool.not_eq_false] at g
  obtain ⟨j, hj, rfl⟩ := isC_of g (by omega)
  have cj : (nI j).toNatClampNeg = j := nI_clamp (by omega)
  refine m92 o I R.2.2.1 (by omega) (fun x hx => ?_)
  refine w94_19 ⟨fun g2 => ?_, fun g2 => ?_⟩
  rotate_left
  · rcases hx with ⟨_, q⟩ | ⟨i, r, e, hr, q⟩
    · exact bad vU vU 2 (by decide) (Or.inr (Or.inl ⟨g, by rw [cj]; exact q, rfl, rfl, rfl⟩))
    · have hi : i < (sR s).length := (List.getElem?_eq_some_iff.mp hr).1
      rw [e] at g2; exact absurd g2 (nI_n0 (by omega))
  have hex : ∃ r ∈ sR s, isK j key r := by
    rcases hx with ⟨e, _⟩ | ⟨i, r, e, hr, q⟩
    · rw [e] at g2; exact absurd g2 (by decide)
    · exact ⟨r, List.mem_of_getElem? hr, q⟩
  have e0 : hI (wI h m 224 0) m 224 = 0 := u2_hit _ _ _ _
  refine w94_27 o o ⟨fun _ => ?_, fun g3 => ?_⟩
  rotate_left
  · rw [e0] at g3; exact absurd g3 (by decide)
  have R' := R.code (v := 0)
  have o' : OB (wI h m 224 0) m 16 kM := o
  refine m92 (s := s) o' I R'.2.2.1 (by omega) (fun x2 hx2 => ?_)
  obtain ⟨i, r, rfl, hr, hk⟩ : ∃ i r, x2 = nI i ∧ (sR s)[i]? = some r ∧ isK j key r := by
    rcases hx2 with ⟨_, q⟩ | q
    · obtain ⟨r, h1, h2⟩ := hex
      exact absurd h2 (q r h1)
    · exact q
  have hi : i < (sR s).length := (List.getElem?_eq_some_iff.mp hr).1
  obtain ⟨n, hn⟩ : ∃ n, (sR s).length = n + 1 := ⟨(sR s).length - 1, by omega⟩
  obtain ⟨l, hl⟩ := get_of (l := sR s) (i := n) (by omega)
  have pm := swp_perm hn hr hl
  have I' := I.tail pm
  refine w94_45 o' ?_
  have e1 : hI (wI h m 224 0) m 244 = nI (n + 1) := by rw [← hn]; exact (u2_k (by decide)).trans R.2.2.1.1
  rw [e1, nI_pred]
  have e2 : hI (wI (wI h m 224 0) m 244 (nI n)) m 244 = nI n := u2_hit _ _ _ _
  have e3 : hI (wI (wI h m 224 0) m 244 (nI n)) (m + 4) n = nI l.1 := (u2_a (by omega)).trans ((u2_a (by omega)).trans (R.2.2.1.2 n l hl).1)
  rw [e2, cl (by omega), cl (by omega), e3]
  refine ⟨i5 (by omega) (by omega), i5 (by omega) (by omega), ?_⟩
  -- the loop over the cells
  suffices L : ∀ k c (g1 : GF), k + c = 4 → Out m (hI h) g1 → g1 m 224 = 0 → g1 m 244 = nI n → (∀ q, q ≠ i → g1 (m + 4) q = hI h (m + 4) q) → g1 (m + 4) i = nI l.1 → (∀ q, (∀ b, b < c → q ≠ 4 * i + b) → g1 (m + 5) q = hI h (m + 5) q) → (∀ b, b < c → g1 (m + 5) (4 * i + b) = l.2 b) → (∀ b f, b ≠ m + 4 → b ≠ m + 5 → ¬ (b = m ∧ (f = 224 ∨ f = 244)) → g1 b f = hI h b f) → Ev (d + 1) 94 74 [vR (some m), vI (nI j), vI key, vI (nI i), vI (nI c)] [] (sI h g1) P by
    refine L 4 0 (u2 (u2 (u2 (hI h) m 224 0) m 244 (nI n)) (m + 4) i (nI l.1)) rfl ((((Out.refl m _).u2 0 _ _ (by omega)).u2 0 _ _ (by omega)).u2 4 _ _ (by omega)) ((u2_a (by omega)).trans ((u2_k (by decide)).trans (u2_hit _ _ _ _))) ((u2_a (by omega)).trans (u2_hit _ _ _ _)) (fun q hq => (u2_k hq).trans ((u2_a (by omega)).trans (u2_a (by omega)))) (u2_hit _ _ _ _) (fun q _ => (u2_a (by omega)).trans ((u2_a (by omega)).trans (u2_a (by omega)))) (fun b hb => absurd hb (by omega)) (fun b f h1 h2 h3 => ?_)
    rw [u2_a h1]
    show (if b = m ∧ f = 244 then _ else if b = m ∧ f = 224 then _ else _) = _
    rw [if_neg (fun q => h3 ⟨q.1, Or.inr q.2⟩), if_neg (fun q => h3 ⟨q.1, Or.inl q.2⟩)]
  intro k
  induction k with
  | zero =>
    intro c g1 hc O1 c0 c1 c2 c3 c4 c5 c6
    obtain rfl : c = 4 := by omega
    have o1 : OB (sI h g1) m 16 kM := o
    refine w94_74 o1 ⟨fun _ => ?_, fun g4 => absurd g4 (by decide)⟩
    have lw : (swp (sR s) i n l).length = n := by
      unfold swp
      rw [List.length_take, List.length_set]; omega
    have R2 : RelM g1 m (sWithR s (swp (sR s) i n l)) := by
      refine ⟨R.1.keep (c6 _ _ (by omega) (by omega) (by omega)) (fun q => c6 _ _ (by omega) (by omega) (by omega)) (fun q => c6 _ _ (by omega) (by omega) (by omega)), R.2.1.keep (fun q => c6 _ _ (by omega) (by omega) (by omega)), ⟨?_, fun q x hx => ?_⟩, R.2.2.2.1.keep (c6 _ _ (by omega) (by omega) (by omega)) (fun q => c6 _ _ (by omega) (by omega) (by omega)), R.2.2.2.2.keep (c6 _ _ (by omega) (by omega) (by omega)) (c6 _ _ (by omega) (by omega) (by omega)) (fun q => c6 _ _ (by omega) (by omega) (by omega))⟩
      · show g1 m 244 = nI (swp (sR s) i n l).length
        rw [lw]; exact c1
      · have hx : (swp (sR s) i n l)[q]? = some x := hx
        have hq : q < n := by rw [← lw]; exact (List.getElem?_eq_some_iff.mp hx).1
        unfold swp at hx
        rw [List.getElem?_take_of_lt hq, List.getElem?_set] at hx
        by_cases eq : i = q
        · rw [if_pos eq, if_pos (by omega)] at hx
          cases hx
          rw [← eq]
          exact ⟨c3, fun b hb => c5 b hb⟩
        · rw [if_neg eq] at hx
          refine ⟨(c2 q (fun z => eq z.symm)).trans (R.2.2.1.2 q x hx).1, fun b hb => ?_⟩
          rw [c4 _ (fun z hz => by omega)]
          exact (R.2.2.1.2 q x hx).2 b hb
    refine m93 (s := sWithR s (swp (sR s) i n l)) o1 I' R2.2.2.1 (by omega) ?_
    refine w94_116 ?_
    exact K _ 0 _ _ (Or.inr (Or.inr ⟨g, r, swp (sR s) i n l, by rw [cj]; exact hk, pm, rfl, by rw [cj], rfl⟩)) R2 c0 O1
  | succ k ih =>
    intro c g1 hc O1 c0 c1 c2 c3 c4 c5 c6
    have o1 : OB (sI h g1) m 16 kM := o
    refine w94_74 o1 ⟨fun g4 => ?_, fun _ => ?_⟩
    · rw [show (4 : Int32) = nI 4 from rfl, nI_leI (by omega) (by omega)] at g4; omega
    rw [show hI (sI h g1) m 244 = nI n from c1, show (4 : Int32) * nI n = nI (4 * n) from pk_mul 4 _, show (4 : Int32) * nI i = nI (4 * i) from pk_mul 4 _, nI_add, nI_add, cl (by omega), cl (by omega), nI_1]
    have hv : hI (sI h g1) (m + 5) (4 * n + c) = l.2 c := by
      show g1 (m + 5) (4 * n + c) = l.2 c
      rw [c4 _ (fun b hb => by omega)]
      exact (R.2.2.1.2 n l hl).2 c (by omega)
    rw [hv]
    refine ⟨i5 (by omega) (by omega), i5 (by omega) (by omega), ?_⟩
    refine ih (c + 1) (u2 g1 (m + 5) (4 * i + c) (l.2 c)) (by omega) (O1.u2 5 _ _ (by omega)) ((u2_a (by omega)).trans c0) ((u2_a (by omega)).trans c1) (fun q hq => (u2_a (by omega)).trans (c2 q hq)) ((u2_a (by omega)).trans c3) (fun q hq => ?_) (fun b hb => ?_) (fun b f h1 h2 h3 => (u2_a h2).trans (c6 b f h1 h2 h3))
    · rw [u2_k (hq c (by omega))]; exact c4 q (fun b hb => hq b (by omega))
    · by_cases eb : b = c
      · rw [eb]; exact u2_hit _ _ _ _
      · rw [u2_k (by omega)]; exact c5 b (by omega)
/-- cell -/
def CelO (s : St) (t key cc : Int32) (c v : Int32) : Prop :=
  (¬ (isC t (sN s) = true ∧ isC cc (sK s t.toNatClampNeg) = true) ∧ c = 1 ∧ v = 0) ∨ ((isC t (sN s) = true ∧ isC cc (sK s t.toNatClampNeg) = true) ∧ (∀ r ∈ sR s, ¬ isK t.toNatClampNeg key r) ∧ c = 2 ∧ v = 0) ∨
  ((isC t (sN s) = true ∧ isC cc (sK s t.toNatClampNeg) = true) ∧ ∃ r ∈ sR s, isK t.toNatClampNeg key r ∧ c = 0 ∧ v = r.2 cc.toNatClampNeg)
theorem m95 {d m : Nat} {t key cc : Int32} {h : AH} {s : St} {P : PT} (o : OB h m 16 kM) (I : SI s) (R : RelM (hI h) m s)
    (K : ∀ g' c v, CelO s t key cc c v → RelM g' m s → g' m 224 = c → Out m (hI h) g' → P (.inl (some (vI v))) (sI h g')) : Ev (d + 1) 95 0 [vR (some m), vI t, vI key, vI cc] [] h P := by
  have h4 := I.1
  have l48 : (sR s).length ≤ 48 := I.2.2.2.1
  have bad : ∀ (c : Int32), 0 < c → CelO s t key cc c 0 → Ev (d + 1) 95 36 [vR (some m), vI t, vI key, vI cc] [vI c, vR (some m)] h P := by
    intro c hc e
    have e0 : hI (wI h m 224 c) m 224 = c := u2_hit _ _ _ _
    refine w95_36 o o ⟨fun g => ?_, fun _ => ?_⟩
    · rw [e0] at g; exact absurd g (Int32.not_le.mpr hc)
    · exact K _ c 0 e R.code (u2_hit _ _ _ _) ((Out.refl m _).u2 0 _ _ (by omega))
  refine w95_0 o ?_
  refine m88 o R.1.1 ?_
  refine w95_6 o ⟨fun g => ?_, fun g => ?_⟩
  · rw [bI_0] at g
    exact w95_18 (bad 1 (by decide) (Or.inl ⟨fun q => (by rw [g] at q; cases q.1), rfl, rfl⟩))
  rw [bI_0, Bool.not_eq_false] at g
  obtain ⟨j, hj, rfl⟩ := isC_of g (by omega)
  have cj : (nI j).toNatClampNeg = j := nI_clamp (by omega)
  refine m89 o (by omega) (R.1.2.1 j hj) ?_
  refine w95_15 o ⟨fun g2 => ?_, fun g2 => ?_⟩
  rotate_left
  · rw [bI_0] at g2
    exact w95_18 (bad 1 (by decide) (Or.inl ⟨fun q => (by rw [cj, g2] at q; cases q.2), rfl, rfl⟩))
  rw [bI_0, Bool.not_eq_false] at g2
  have hK := I.2.1 j hj
  obtain ⟨b, hb, rfl⟩ := isC_of g2 (by omega)
  have gg : isC (nI j) (sN s) = true ∧ isC (nI b) (sK s (nI j).toNatClampNeg) = true := ⟨g, by rw [cj]; exact g2⟩
  refine m92 o I R.2.2.1 (by omega) (fun x hx => ?_)
  refine w95_28 ⟨fun g3 => ?_, fun g3 => ?_⟩
  rotate_left
  · rcases hx with ⟨_, q⟩ | ⟨i, r, e, hr, q⟩
    · exact bad 2 (by decide) (Or.inr (Or.inl ⟨gg, by rw [cj]; exact q, rfl, rfl⟩))
    · have hi : i < (sR s).length := (List.getElem?_eq_some_iff.mp hr).1
      rw [e] at g3; exact absurd g3 (nI_n0 (by omega))
  have hex : ∃ r ∈ sR s, isK j key r := by
    rcases hx with ⟨e, _⟩ | ⟨i, r, e, hr, q⟩
    · rw [e] at g3; exact absurd g3 (by decide)
    · exact ⟨r, List.mem_of_getElem? hr, q⟩
  have e0 : hI (wI h m 224 0) m 224 = 0 := u2_hit _ _ _ _
  refine w95_36 o o ⟨fun _ => ?_, fun g4 => ?_⟩
  rotate_left
  · rw [e0] at g4; exact absurd g4 (by decide)
  have R' := R.code (v := 0)
  have o' : OB (wI h m 224 0) m 16 kM := o
  refine m92 (s := s) o' I R'.2.2.1 (by omega) (fun x2 hx2 => ?_)
  obtain ⟨i, r, rfl, hr, hk⟩ : ∃ i r, x2 = nI i ∧ (sR s)[i]? = some r ∧ isK j key r := by
    rcases hx2 with ⟨_, q⟩ | q
    · obtain ⟨r, h1, h2⟩ := hex
      exact absurd h2 (q r h1)
    · exact q
  have hi : i < (sR s).length := (List.getElem?_eq_some_iff.mp hr).1
  refine w95_61 ⟨192, o.2.2.2.2.2.1.2, ?_⟩
  rw [show (4 : Int32) * nI i = nI (4 * i) from pk_mul 4 _, nI_add, cl (by omega)]
  refine ⟨i5 (by omega) (by omega), ?_⟩
  rw [show hI (wI h m 224 0) (m + 5) (4 * i + b) = r.2 b from (R'.2.2.1.2 i r hr).2 b (by omega)]
  exact K _ 0 _ (Or.inr (Or.inr ⟨gg, r, List.mem_of_getElem? hr, by rw [cj]; exact hk, rfl, by rw [nI_clamp (by omega)]⟩)) R' (u2_hit _ _ _ _) ((Out.refl m _).u2 0 _ _ (by omega))
