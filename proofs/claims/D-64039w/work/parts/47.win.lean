/-! deps: 25 26 27 36 37 38 39 40 41 42 43 46 -/
/-! ===== TREE: windows of two pages, over trees ===== -/
theorem Sp_mid {x y : List En} {C : List (List En)} {k0 : Int64} {KB : List Int64} (h : Sp (x :: y :: C) (k0 :: KB)) (hy : y ≠ []) : (∀ e ∈ x ++ y, ∀ k2 KB', KB = k2 :: KB' → e.1 < k2) := by
  obtain ⟨⟨h1, h2⟩, h3⟩ := h
  intro e he k2 KB' hk
  subst hk
  obtain ⟨⟨g1, g2⟩, g3⟩ := h3
  rcases List.mem_append.mp he with he | he
  · obtain ⟨z, hz⟩ : ∃ z, z ∈ y := by
      cases hy' : y with
      | nil => exact absurd hy' hy
      | cons z _ => exact ⟨z, List.mem_cons_self⟩
    exact Int64.lt_trans (Int64.lt_of_lt_of_le (h1 e he) (h2 z (by rw [List.flatten_cons]; exact List.mem_append_left _ hz))) (g1 z hz)
  · exact g1 e he
theorem Sp_two {A C : List (List En)} {x y x' y' : List En} {KA KB : List Int64} {k0 k1 : Int64} (hl : A.length = KA.length) (h : Sp (A ++ x :: y :: C) (KA ++ k0 :: KB)) (hy : y ≠ []) (hy' : y' ≠ []) (e : x ++ y = x' ++ y') (h1 : ∀ e ∈ x', e.1 < k1) (h2 : ∀ e ∈ y', k1 ≤ e.1) : Sp (A ++ x' :: y' :: C) (KA ++ k1 :: KB) := by
  obtain ⟨g1, g2⟩ := Sp_in A KA (x :: y :: C) (k0 :: KB) hl (List.cons_ne_nil _ _) h
  refine Sp_pre A KA (x :: y :: C) (x' :: y' :: C) (k0 :: KB) (k1 :: KB) hl h (List.cons_ne_nil _ _) (fun k hk q hq => g2 k hk q ?_) ?_
  · rw [List.flatten_cons, List.flatten_cons, ← List.append_assoc] at hq ⊢
    rw [e]; exact hq
  · have m := Sp_mid g1 hy
    rw [e] at m
    obtain ⟨_, g4⟩ := g1
    cases KB with
    | nil =>
      have : C = [] := g4
      subst this
      exact ⟨⟨h1, fun q hq => h2 q (by simpa using hq)⟩, rfl⟩
    | cons k2 KB =>
      obtain ⟨⟨g5, g6⟩, g7⟩ := g4
      refine ⟨⟨h1, fun q hq => ?_⟩, ⟨fun q hq => m q (List.mem_append_right _ hq) k2 KB rfl, g6⟩, g7⟩
      rw [List.flatten_cons, List.mem_append] at hq
      rcases hq with hq | hq
      · exact h2 q hq
      · obtain ⟨z, hz⟩ : ∃ z, z ∈ y' := by
          cases hyy : y' with
          | nil => exact absurd hyy hy'
          | cons z _ => exact ⟨z, List.mem_cons_self⟩
        exact Int64.le_trans (Int64.le_of_lt (Int64.lt_of_le_of_lt (h2 z hz) (m z (List.mem_append_right _ hz) k2 KB rfl))) (g6 q hq)
theorem Sp_one {A C : List (List En)} {x y : List En} {KA KB : List Int64} {k0 : Int64} (hl : A.length = KA.length) (h : Sp (A ++ x :: y :: C) (KA ++ k0 :: KB)) (hy : y ≠ []) : Sp (A ++ (x ++ y) :: C) (KA ++ KB) := by
  obtain ⟨g1, g2⟩ := Sp_in A KA (x :: y :: C) (k0 :: KB) hl (List.cons_ne_nil _ _) h
  refine Sp_pre A KA (x :: y :: C) _ (k0 :: KB) KB hl h (List.cons_ne_nil _ _) (fun k hk q hq => g2 k hk q ?_) ?_
  · rw [List.flatten_cons] at hq
    rw [List.flatten_cons, List.flatten_cons, ← List.append_assoc]; exact hq
  · have m := Sp_mid g1 hy
    obtain ⟨_, g4⟩ := g1
    cases KB with
    | nil => exact g4
    | cons k2 KB =>
      obtain ⟨⟨g5, g6⟩, g7⟩ := g4
      exact ⟨⟨fun q hq => m q hq k2 KB rfl, g6⟩, g7⟩
theorem snoc_of {α : Type} {l : List α} (h : 0 < l.length) : ∃ m x, l = m ++ [x] := ⟨l.dropLast, l.getLast (fun e => by rw [e] at h; simp at h), (List.dropLast_concat_getLast _).symm⟩
theorem cons_of {α : Type} {l : List α} (h : 0 < l.length) : ∃ x m, l = x :: m := by
  cases l with
  | nil => simp at h
  | cons x m => exact ⟨x, m, rfl⟩
/-- what a window of two pages has become: two again -/
def Two (n a l r : Nat) (KA KB : List Int64) (W BA BB : List (Option Nat)) (pn : Option Nat) (el er : List En) (fl fr : List Nat) (fsl : Nat) (nx : Option Nat) (h : AH) (σ : PS) (h' : AH) : Prop := ∃ (σ' : PS) (el' er' : List En) (fl' fr' : List Nat) (x : Int64) (fsr' : Nat), PSt h' σ' ∧ σ' a = some (false, KA ++ x :: KB, W, BA ++ some l :: some r :: BB, pn) ∧ Bt σ' n 2 4 l el' fl' fsl (some fsr') ∧ Bt σ' n 2 4 r er' fr' fsr' nx ∧ el ++ er = el' ++ er' ∧ (∀ e ∈ el', e.1 < x) ∧ (∀ e ∈ er', x ≤ e.1) ∧ er' ≠ [] ∧ (fl' ++ fr').Perm (fl ++ fr) ∧ (∀ c, c ≠ a → c ∉ fl → c ∉ fr → σ' c = σ c) ∧ NP h h' 0 0 ∧ hN h' = hN h
theorem All_fr {σ σ' : PS} {n : Nat} {cs : List Cd} {nx : Option Nat} (h : ∀ b ∈ cs.flatMap cF, σ' b = σ b) (k : All (Bt σ n 2 4) cs nx) : All (Bt σ' n 2 4) cs nx :=
  All_mono cs nx (fun x hx _ z => Bt_frame _ _ _ _ _ _ _ _ (fun b hb => h b (List.mem_flatMap.mpr ⟨x, hx, hb⟩)) z) k
theorem Bt_ne {σ : PS} {n lo hi a : Nat} {es : List En} {fp : List Nat} {fs : Nat} {nx : Option Nat} (k : Bt σ n lo hi a es fp fs nx) (h : 1 ≤ lo) : es ≠ [] := by
  intro e
  have := Bt_many _ _ _ _ _ _ _ _ k h
  rw [e] at this; simp at this; omega
/-- fromLeft -/
theorem m78 {n d a l r : Nat} {h : AH} {σ : PS} {KA KB : List Int64} {k0 : Int64} {BA BB W : List (Option Nat)} {pn nx : Option Nat} {el er : List En} {fl fr : List Nat} {fsl fsr : Nat} {P : PT} (S : PSt h σ)
    (hp : σ a = some (false, KA ++ k0 :: KB, W, BA ++ some l :: some r :: BB, pn)) (hAB : BA.length = KA.length) (Bl : Bt σ n 3 4 l el fl fsl (some fsr)) (Br : Bt σ n 1 3 r er fr fsr nx) (st : Srt (el ++ er)) (hk1 : ∀ e ∈ el, e.1 < k0) (hk2 : ∀ e ∈ er, k0 ≤ e.1) (nd : (a :: (fl ++ fr)).Nodup)
    (K : ∀ h', Two n a l r KA KB W BA BB pn el er fl fr fsl nx h σ h' → P (.inl none) h') :
    Ev (d + 1) 78 0 [vR (some a), vI (nI (KA.length + 1)), vU, vU, vU, vU] [] h P := by
  obtain ⟨nd1, nd2⟩ := List.nodup_cons.mp nd
  obtain ⟨ndl, ndr, ndx⟩ := List.nodup_append.mp nd2
  have ml := Bt_mem Bl
  have mr := Bt_mem Br
  have al : a ≠ l := fun q => nd1 (q ▸ List.mem_append_left _ ml)
  have ar : a ≠ r := fun q => nd1 (q ▸ List.mem_append_right _ mr)
  have lr : l ≠ r := fun q => ndx l ml r mr q
  cases n with
  | zero =>
    obtain ⟨p, k1, k2, k3, k4, k5, k6, k7, k8, k9⟩ := Bl
    obtain ⟨q, j1, j2, j3, j4, j5, j6, j7, j8, j9⟩ := Br
    obtain ⟨e1, z, rfl⟩ := snoc_of (l := el) (by omega)
    obtain ⟨pf, pk, pw, pb, pn'⟩ := p
    obtain ⟨qf, qk, qw, qb, qn⟩ := q
    simp only [pF, pK, pW, pN] at k2 k3 k4 k5 j2 j3 j4 j5
    subst k2 k3 k4 k5 j2 j3 j4 j5
    rw [List.map_append] at k1
    rw [List.map_append] at k1
    refine m78l (lk := e1.map (fun e => e.1)) (x := z.1) (lw := e1.map (fun e => some e.2)) (w := some z.2) S hp hAB k1 j1 (by rw [List.length_map]; omega) al ar lr ?_
    intro h' σ' lb' rb' S' sa sl sr so N' n'
    refine K h' ⟨σ', e1, z :: er, [l], [r], z.1, r, S', sa, ⟨_, sl, rfl, rfl, rfl, by simp only [pN]; rw [j7], rfl, k7, ?_, ?_⟩, ⟨_, sr, rfl, rfl, rfl, rfl, rfl, rfl, ?_, ?_⟩, by simp, fun e he => ?_, fun e he => ?_, List.cons_ne_nil _ _, by rw [k6, j6], fun c c1 c2 c3 => so c c1 (fun q => c2 (by rw [k6, q]; simp)) (fun q => c3 (by rw [j6, q]; simp)), N', n'⟩
    · simp at k8; omega
    · simp at k9; omega
    · simp; omega
    · simp; omega
    · unfold Srt at st
      rw [List.append_assoc, List.pairwise_append] at st
      exact st.2.2 e he z (by simp)
    · rcases List.mem_cons.mp he with rfl | he
      · exact Int64.le_refl _
      · exact Int64.le_of_lt (Int64.lt_of_lt_of_le (hk1 z (by simp)) (hk2 e he))
  | succ n =>
    obtain ⟨p, cs, k1, k2, k3, k4, k5, k6, k7, k8, k9, k10⟩ := Bl
    obtain ⟨q, ds, j1, j2, j3, j4, j5, j6, j7, j8, j9, j10⟩ := Br
    have lcs := Sp_len _ _ k10
    have lds := Sp_len _ _ j10
    rw [List.length_map] at lcs lds
    obtain ⟨cs', m, rfl⟩ := snoc_of (l := cs) (by omega)
    obtain ⟨pf, pk, pw, pb, pn'⟩ := p
    obtain ⟨qf, qk, qw, qb, qn⟩ := q
    simp only [pF, pK, pW, pB, pN] at k2 k3 k4 k5 k10 j2 j3 j4 j5 j10 lcs lds
    obtain ⟨kk, x, rfl⟩ := snoc_of (l := pk) (by omega)
    obtain ⟨d0, ds', rfl⟩ := cons_of (l := ds) (by omega)
    subst k2 k5 j2 j5
    rw [List.map_append] at k1
    refine m78b (lk := kk) (x := x) (lb := cs'.map (fun c => some c.1)) (m := m.1) S hp hAB k1 j1 (by omega) al ar lr ?_
    intro h' σ' lw' rw' S' sa sl sr so N' n'
    have foc : ∀ c ∈ (cs' ++ [m]).flatMap cF, σ' c = σ c := by
      intro c hc
      refine so c (fun q => nd1 (q ▸ List.mem_append_left _ (by rw [k7]; exact List.mem_cons_of_mem _ hc))) (fun q => ?_) (fun q => ?_)
      · rw [k7] at ndl; exact (List.nodup_cons.mp ndl).1 (q ▸ hc)
      · exact ndx c (by rw [k7]; exact List.mem_cons_of_mem _ hc) r mr q
    have fod : ∀ c ∈ (d0 :: ds').flatMap cF, σ' c = σ c := by
      intro c hc
      refine so c (fun q => nd1 (q ▸ List.mem_append_right _ (by rw [j7]; exact List.mem_cons_of_mem _ hc))) (fun q => ?_) (fun q => ?_)
      · exact ndx l ml c (by rw [j7]; exact List.mem_cons_of_mem _ hc) q.symm
      · rw [j7] at ndr; exact (List.nodup_cons.mp ndr).1 (q ▸ hc)
    have k9' := All_fr foc k9
    have j9' := All_fr fod j9
    obtain ⟨aA, aM⟩ := (All_append cs' [m] (some fsr)).mp k9'
    have mne : cE m ≠ [] := Bt_ne aM.1 (by omega)
    simp only [List.length_append, List.length_cons, List.length_nil] at lcs lds k3 k4 j3 j4
    obtain ⟨cs'', c2, rfl⟩ := snoc_of (l := cs') (by omega)
    simp only [List.length_append, List.length_cons, List.length_nil] at lcs
    have hml : (cs''.map cE).length = kk.length := by rw [List.length_map]; omega
    have k10' : Sp (cs''.map cE ++ cE c2 :: [cE m]) (kk ++ x :: []) := by simpa using k10
    have spl := Sp_cut _ _ _ _ _ _ hml k10'
    obtain ⟨⟨⟨g1, g2⟩, _⟩, _⟩ := Sp_in _ _ _ _ hml (List.cons_ne_nil _ _) k10'
    have c2ne : cE c2 ≠ [] := by
      obtain ⟨_, a2⟩ := (All_append cs'' [c2] _).mp aA
      exact Bt_ne a2.1 (by omega)
    obtain ⟨z2, hz2⟩ : ∃ z, z ∈ cE c2 := by
      cases hq : cE c2 with
      | nil => exact absurd hq c2ne
      | cons z _ => exact ⟨z, List.mem_cons_self⟩
    obtain ⟨zm, hzm⟩ : ∃ z, z ∈ cE m := by
      cases hq : cE m with
      | nil => exact absurd hq mne
      | cons z _ => exact ⟨z, List.mem_cons_self⟩
    have hel : el = cs''.flatMap cE ++ (cE c2 ++ cE m) := by rw [k6]; simp
    have xm : ∀ e ∈ cE m, x ≤ e.1 := fun e he => g2 e (by simpa using he)
    refine K h' ⟨σ', (cs'' ++ [c2]).flatMap cE, cE m ++ er, l :: (cs'' ++ [c2]).flatMap cF, r :: (m :: d0 :: ds').flatMap cF, x, m.2.2.2, S', sa, ⟨_, cs'' ++ [c2], sl, rfl, ?_, ?_, rfl, rfl, rfl, ?_, aA, ?_⟩, ⟨_, m :: d0 :: ds', sr, rfl, ?_, ?_, rfl, ?_, rfl, rfl, ⟨?_, j9'⟩, ?_⟩, ?_, fun e he => ?_, fun e he => ?_, ?_, ?_, fun c c1 c2 c3 => so c c1 (fun q => c2 (q ▸ ml)) (fun q => c3 (q ▸ mr)), N', n'⟩
    · show 2 ≤ kk.length; omega
    · show kk.length ≤ 4; omega
    · rw [← k8, hd_append (cs'' ++ [c2]) [m]]
      cases cs'' <;> rfl
    · rw [List.map_append]; exact spl
    · show 2 ≤ (k0 :: qk).length; simp; omega
    · show (k0 :: qk).length ≤ 4; simp; omega
    · rw [j6]; rfl
    · rw [j8]; exact aM.1
    · refine ⟨⟨fun e he => hk1 e (by rw [hel]; simp only [List.mem_append]; exact Or.inr (Or.inr he)), fun e he => hk2 e (by rw [j6, List.flatMap_def]; exact he)⟩, j10⟩
    · rw [hel]; simp
    · rw [List.flatMap_append, List.mem_append] at he
      rcases he with he | he
      · unfold Srt at st
        rw [hel] at st
        have s1 := (List.pairwise_append.mp st).1
        rw [List.pairwise_append] at s1
        exact Int64.lt_trans (s1.2.2 e he z2 (List.mem_append_left _ hz2)) (g1 z2 hz2)
      · exact g1 e (by simpa using he)
    · rcases List.mem_append.mp he with he | he
      · exact xm e he
      · exact Int64.le_of_lt (Int64.lt_of_lt_of_le (Int64.lt_of_le_of_lt (xm zm hzm) (hk1 zm (by rw [hel]; simp only [List.mem_append]; exact Or.inr (Or.inr hzm)))) (hk2 e he))
    · intro q
      exact mne (List.append_eq_nil_iff.mp q).1
    · rw [k7, j7, List.perm_iff_count]
      intro z
      simp only [List.flatMap_append, List.flatMap_cons, List.flatMap_nil, List.append_nil, List.count_append, List.count_cons]
      omega
/-- fromRight -/
theorem m79 {n d a l r : Nat} {h : AH} {σ : PS} {KA KB : List Int64} {k0 : Int64} {BA BB W : List (Option Nat)} {pn nx : Option Nat} {el er : List En} {fl fr : List Nat} {fsl fsr : Nat} {P : PT} (S : PSt h σ)
    (hp : σ a = some (false, KA ++ k0 :: KB, W, BA ++ some l :: some r :: BB, pn)) (hAB : BA.length = KA.length) (Bl : Bt σ n 1 3 l el fl fsl (some fsr)) (Br : Bt σ n 3 4 r er fr fsr nx) (st : Srt (el ++ er)) (hk1 : ∀ e ∈ el, e.1 < k0) (hk2 : ∀ e ∈ er, k0 ≤ e.1) (nd : (a :: (fl ++ fr)).Nodup)
    (K : ∀ h', Two n a l r KA KB W BA BB pn el er fl fr fsl nx h σ h' → P (.inl none) h') :
    Ev (d + 2) 79 0 [vR (some a), vI (nI KA.length), vU, vU] [] h P := by
  obtain ⟨nd1, nd2⟩ := List.nodup_cons.mp nd
  obtain ⟨ndl, ndr, ndx⟩ := List.nodup_append.mp nd2
  have ml := Bt_mem Bl
  have mr := Bt_mem Br
  have al : a ≠ l := fun q => nd1 (q ▸ List.mem_append_left _ ml)
  have ar : a ≠ r := fun q => nd1 (q ▸ List.mem_append_right _ mr)
  have lr : l ≠ r := fun q => ndx l ml r mr q
  cases n with
  | zero =>
    obtain ⟨p, k1, k2, k3, k4, k5, k6, k7, k8, k9⟩ := Bl
    obtain ⟨q, j1, j2, j3, j4, j5, j6, j7, j8, j9⟩ := Br
    obtain ⟨z, er1, rfl⟩ := cons_of (l := er) (by omega)
    obtain ⟨y, er2, rfl⟩ := cons_of (l := er1) (by simp at j8; omega)
    obtain ⟨pf, pk, pw, pb, pn'⟩ := p
    obtain ⟨qf, qk, qw, qb, qn⟩ := q
    simp only [pF, pK, pW, pN] at k2 k3 k4 k5 j2 j3 j4 j5
    subst k2 k3 k4 k5 j2 j3 j4 j5
    refine m79l (x := z.1) (y := y.1) (rk := er2.map (fun e : En => e.1)) (w := some z.2) (rw_ := (y :: er2).map (fun e : En => some e.2)) S hp hAB k1 j1 (by rw [List.length_map]; omega) al ar lr ?_
    intro h' σ' lb' rb' S' sa sl sr so N' n'
    refine K h' ⟨σ', el ++ [z], y :: er2, [l], [r], y.1, r, S', sa, ⟨_, sl, rfl, by simp [pK], by simp [pW], by simp only [pN]; rw [j7], rfl, k7, ?_, ?_⟩, ⟨_, sr, rfl, rfl, rfl, rfl, rfl, rfl, ?_, ?_⟩, by simp, fun e he => ?_, fun e he => ?_, List.cons_ne_nil _ _, by rw [k6, j6], fun c c1 c2 c3 => so c c1 (fun q => c2 (by rw [k6, q]; simp)) (fun q => c3 (by rw [j6, q]; simp)), N', n'⟩
    · simp; omega
    · simp; omega
    · simp at j8 ⊢; omega
    · simp at j9 ⊢; omega
    · unfold Srt at st
      rw [show el ++ z :: y :: er2 = (el ++ [z]) ++ (y :: er2) by simp, List.pairwise_append] at st
      exact st.2.2 e he y List.mem_cons_self
    · unfold Srt at st
      rw [show el ++ z :: y :: er2 = (el ++ [z]) ++ (y :: er2) by simp, List.pairwise_append] at st
      rcases List.mem_cons.mp he with rfl | he
      · exact Int64.le_refl _
      · exact Int64.le_of_lt ((List.pairwise_cons.mp st.2.1).1 e he)
  | succ n =>
    obtain ⟨p, cs, k1, k2, k3, k4, k5, k6, k7, k8, k9, k10⟩ := Bl
    obtain ⟨q, ds, j1, j2, j3, j4, j5, j6, j7, j8, j9, j10⟩ := Br
    have lcs := Sp_len _ _ k10
    have lds := Sp_len _ _ j10
    rw [List.length_map] at lcs lds
    obtain ⟨m, ds', rfl⟩ := cons_of (l := ds) (by omega)
    obtain ⟨pf, pk, pw, pb, pn'⟩ := p
    obtain ⟨qf, qk, qw, qb, qn⟩ := q
    simp only [pF, pK, pW, pB, pN] at k2 k3 k4 k5 k10 j2 j3 j4 j5 j10 lcs lds
    obtain ⟨x, qk', rfl⟩ := cons_of (l := qk) (by omega)
    subst k2 k5 j2 j5
    refine m79b (x := x) (rk := qk') (b0 := some m.1) (rb := ds'.map (fun c => some c.1)) S hp hAB k1 j1 (by omega) al ar lr ?_
    intro h' σ' lw' rw' S' sa sl sr so N' n'
    have foc : ∀ c ∈ cs.flatMap cF, σ' c = σ c := by
      intro c hc
      refine so c (fun q => nd1 (q ▸ List.mem_append_left _ (by rw [k7]; exact List.mem_cons_of_mem _ hc))) (fun q => ?_) (fun q => ?_)
      · rw [k7] at ndl; exact (List.nodup_cons.mp ndl).1 (q ▸ hc)
      · exact ndx c (by rw [k7]; exact List.mem_cons_of_mem _ hc) r mr q
    have fod : ∀ c ∈ (m :: ds').flatMap cF, σ' c = σ c := by
      intro c hc
      refine so c (fun q => nd1 (q ▸ List.mem_append_right _ (by rw [j7]; exact List.mem_cons_of_mem _ hc))) (fun q => ?_) (fun q => ?_)
      · exact ndx l ml c (by rw [j7]; exact List.mem_cons_of_mem _ hc) q.symm
      · rw [j7] at ndr; exact (List.nodup_cons.mp ndr).1 (q ▸ hc)
    have k9' := All_fr foc k9
    obtain ⟨aM, aD⟩ := All_fr fod j9
    simp only [List.length_cons] at lcs lds k3 k4 j3 j4
    obtain ⟨d1, ds2, rfl⟩ := cons_of (l := ds') (by omega)
    have mne : cE m ≠ [] := Bt_ne aM (by omega)
    have dne : cE d1 ≠ [] := Bt_ne aD.1 (by omega)
    obtain ⟨⟨g1, g2⟩, g3⟩ := j10
    have her : er = cE m ++ (d1 :: ds2).flatMap cE := by rw [j6]; rfl
    have hmfs : m.2.2.2 = fsr := Option.some.inj j8
    have km : ∀ e ∈ cE m, k0 ≤ e.1 := fun e he => hk2 e (by rw [her]; exact List.mem_append_left _ he)
    refine K h' ⟨σ', el ++ cE m, (d1 :: ds2).flatMap cE, l :: (cs ++ [m]).flatMap cF, r :: (d1 :: ds2).flatMap cF, x, d1.2.2.2, S', sa, ⟨_, cs ++ [m], sl, rfl, ?_, ?_, ?_, ?_, rfl, ?_, ?_, ?_⟩, ⟨_, d1 :: ds2, sr, rfl, ?_, ?_, rfl, rfl, rfl, rfl, aD, g3⟩, ?_, fun e he => ?_, fun e he => g2 e (by rw [List.flatMap_def] at he; exact he), ?_, ?_, fun c c1 c2 c3 => so c c1 (fun q => c2 (q ▸ ml)) (fun q => c3 (q ▸ mr)), N', n'⟩
    · show 2 ≤ (pk ++ [k0]).length; simp; omega
    · show (pk ++ [k0]).length ≤ 4; simp; omega
    · simp [pB]
    · rw [k6]; simp
    · rw [hd_append, ← k8]
      cases cs with
      | nil => simp at lcs
      | cons c cs => rfl
    · refine (All_append cs [m] _).mpr ⟨?_, aM, trivial⟩
      rw [show hd [m] (some d1.2.2.2) = some fsr by rw [← hmfs]; rfl]
      exact k9'
    · show Sp ((cs ++ [m]).map cE) (pk ++ [k0])
      obtain ⟨cs0, c0, hcs⟩ := snoc_of (l := cs) (by omega)
      have hl0 : (cs0.map cE).length = pk.length := by
        rw [List.length_map]
        have := congrArg List.length hcs
        simp at this; omega
      have ext : ∀ (A : List (List En)) (KA : List Int64) (c : List En), A.length = KA.length → Sp (A ++ [c]) KA → (∀ e ∈ A.flatten ++ c, e.1 < k0) → (∀ k ∈ KA, k ≤ k0) → Sp (A ++ [c, cE m]) (KA ++ [k0]) := by
        intro A
        induction A with
        | nil =>
          intro KA c hA hS he hk
          cases KA with
          | nil => exact ⟨⟨fun e he2 => he e (by simpa using he2), fun e he2 => km e (by simpa using he2)⟩, rfl⟩
          | cons _ _ => simp at hA
        | cons a0 A ih =>
          intro KA c hA hS he hk
          cases KA with
          | nil => simp at hA
          | cons k1 KA =>
            obtain ⟨⟨t1, t2⟩, t3⟩ := hS
            refine ⟨⟨t1, fun e he2 => ?_⟩, ih KA c (by simpa using hA) t3 (fun e he2 => he e (by simp only [List.flatten_cons, List.mem_append] at he2 ⊢; grind)) (fun k hk2 => hk k (List.mem_cons_of_mem _ hk2))⟩
            have he3 : e ∈ (A ++ [c, cE m]).flatten := he2
            rw [show A ++ [c, cE m] = (A ++ [c]) ++ [cE m] by simp, List.flatten_append, List.mem_append] at he3
            rcases he3 with he3 | he3
            · exact t2 e he3
            · exact Int64.le_trans (hk k1 List.mem_cons_self) (km e (by simpa using he3))
      rw [hcs] at k10 ⊢
      rw [List.map_append] at k10
      have := ext (cs0.map cE) pk (cE c0) hl0 k10 (fun e he => hk1 e ?_) (fun k hk => ?_)
      · simpa using this
      · rw [k6, hcs, List.flatMap_append, List.flatMap_def]
        simpa using he
      · -- a separator of the left page is below an entry of its last page
        have c0ne : cE c0 ≠ [] := by
          rw [hcs] at k9'
          obtain ⟨_, a2⟩ := (All_append cs0 [c0] _).mp k9'
          exact Bt_ne a2.1 (by omega)
        obtain ⟨z, hz⟩ : ∃ z, z ∈ cE c0 := by
          cases hq : cE c0 with
          | nil => exact absurd hq c0ne
          | cons z _ => exact ⟨z, List.mem_cons_self⟩
        have k10'' : Sp (cs0.map cE ++ [cE c0]) (pk ++ []) := by simpa using k10
        have := (Sp_in _ _ _ _ hl0 (List.cons_ne_nil _ _) k10'').2 k hk z (by simpa using hz)
        exact Int64.le_trans this (Int64.le_of_lt (hk1 z (by rw [k6, hcs]; simp only [List.flatMap_append, List.flatMap_cons, List.flatMap_nil, List.append_nil, List.mem_append]; exact Or.inr hz)))
    · show 2 ≤ qk'.length; omega
    · show qk'.length ≤ 4; omega
    · rw [her]; simp
    · rcases List.mem_append.mp he with he | he
      · obtain ⟨z, hz⟩ : ∃ z, z ∈ cE m := by
          cases hq : cE m with
          | nil => exact absurd hq mne
          | cons z _ => exact ⟨z, List.mem_cons_self⟩
        exact Int64.lt_trans (Int64.lt_of_lt_of_le (hk1 e he) (km z hz)) (g1 z hz)
      · exact g1 e he
    · rw [List.flatMap_cons]
      intro q
      exact dne (List.append_eq_nil_iff.mp q).1
    · rw [k7, j7, List.perm_iff_count]
      intro z
      simp only [List.flatMap_append, List.flatMap_cons, List.flatMap_nil, List.append_nil, List.count_append, List.count_cons]
      omega
