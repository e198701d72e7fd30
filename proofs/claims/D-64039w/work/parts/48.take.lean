/-! deps: 25 26 27 36 37 38 39 40 41 42 43 44 46 47 -/
/-! ===== TREE: join, fill, take, remove ===== -/
def One (n a l : Nat) (KA KB : List Int64) (BA BB : List (Option Nat)) (pn : Option Nat) (el er : List En) (fl fr : List Nat) (fsl : Nat) (nx : Option Nat) (h : AH) (σ : PS) (h' : AH) : Prop := ∃ (σ' : PS) (fl' D : List Nat) (W' : List (Option Nat)), PSt h' σ' ∧ σ' a = some (false, KA ++ KB, W', BA ++ some l :: BB, pn) ∧ Bt σ' n 2 4 l (el ++ er) fl' fsl nx ∧ (fl ++ fr).Perm (D ++ fl') ∧ (∀ c, c ≠ a → c ∉ fl → c ∉ fr → σ' c = σ c) ∧ NP h h' 0 0 ∧ hN h' = hN h
theorem Sp_join : ∀ (A : List (List En)) (KA : List Int64) (c : List En) (B : List (List En)) (KB : List Int64) (k0 : Int64), A.length = KA.length → Sp (A ++ [c]) KA → Sp B KB → (∀ e ∈ (A ++ [c]).flatten, e.1 < k0) → (∀ e ∈ B.flatten, k0 ≤ e.1) → (∀ k ∈ KA, k ≤ k0) → Sp (A ++ c :: B) (KA ++ k0 :: KB)
  | [], [], c, B, KB, k0, _, _, hB, h1, h2, _ => ⟨⟨fun e he => h1 e (by simpa using he), h2⟩, hB⟩
  | a :: A, k :: KA, c, B, KB, k0, hl, h, hB, h1, h2, h3 => by
    obtain ⟨⟨t1, t2⟩, t3⟩ := h
    refine ⟨⟨t1, fun e he => ?_⟩, Sp_join A KA c B KB k0 (by simpa using hl) t3 hB (fun e he => h1 e (by
      show e ∈ (a :: (A ++ [c])).flatten
      rw [List.flatten_cons]; exact List.mem_append_right _ he)) h2 (fun q hq => h3 q (List.mem_cons_of_mem _ hq))⟩
    have he : e ∈ (A ++ c :: B).flatten := he
    rw [show A ++ c :: B = (A ++ [c]) ++ B by simp, List.flatten_append, List.mem_append] at he
    rcases he with he | he
    · exact t2 e he
    · exact Int64.le_trans (h3 k List.mem_cons_self) (h2 e he)
/-- join -/
theorem m80B {n d a l r : Nat} {h : AH} {σ : PS} {KA KB : List Int64} {k0 : Int64} {BA BB W : List (Option Nat)} {pn nx : Option Nat} {el er : List En} {fl fr : List Nat} {fsl fsr : Nat} {P : PT} (S : PSt h σ)
    (hp : σ a = some (false, KA ++ k0 :: KB, W, BA ++ some l :: some r :: BB, pn)) (hAB : BA.length = KA.length) (Bl : Bt σ n 1 4 l el fl fsl (some fsr)) (Br : Bt σ n 1 4 r er fr fsr nx) (hk1 : ∀ e ∈ el, e.1 < k0) (hk2 : ∀ e ∈ er, k0 ≤ e.1) (nd : (a :: (fl ++ fr)).Nodup) (h3 : ∀ p q, σ l = some p → σ r = some q → (pK p).length + (pK q).length = 3)
    (K : ∀ h', One n a l KA KB BA BB pn el er fl fr fsl nx h σ h' → P (.inl none) h') :
    Ev (d + 1) 80 0 [vR (some a), vI (nI KA.length), vU, vU, vU] [] h P := by
  obtain ⟨nd1, nd2⟩ := List.nodup_cons.mp nd
  obtain ⟨ndl, ndr, ndx⟩ := List.nodup_append.mp nd2
  have ml := Bt_mem Bl
  have mr := Bt_mem Br
  have al : a ≠ l := fun q => nd1 (q ▸ List.mem_append_left _ ml)
  have ar : a ≠ r := fun q => nd1 (q ▸ List.mem_append_right _ mr)
  have lr : l ≠ r := fun q => ndx l ml r mr q
  cases n with
  | zero =>
    obtain ⟨p, k1, k2, k3, k4, k5, k6, k7, k8, k9⟩ := Bl
    obtain ⟨q, j1, j2, j3, j4, j5, j6, j7, j8, j9⟩ := Br
    have hc := h3 p q k1 j1
    have qbl := pg_bl S j1
    obtain ⟨b0, rb, hrb⟩ := cons_of (l := pB q) (by omega)
    obtain ⟨pf, pk, pw, pb, pn'⟩ := p
    obtain ⟨qf, qk, qw, qb, qn⟩ := q
    simp only [pF, pK, pW, pN, pB] at k2 k3 k4 k5 j2 j3 j4 j5 hc hrb
    subst k2 k3 k4 k5 j2 j3 j4 j5 hrb
    simp only [List.length_map] at hc
    refine m80 S hp hAB k1 j1 (by simp only [List.length_map]; omega) al ar lr ?_
    intro h' σ' W' lw' lb' S' sa sl c1 _ so N' n'
    rw [c1 rfl] at sl
    refine K h' ⟨σ', [l], [r], W', S', sa, ⟨_, sl, rfl, ?_, ?_, rfl, rfl, k7, ?_, ?_⟩, ?_, fun c c1 c2 c3 => so c c1 (fun q => c2 (q ▸ ml)) (fun q => c3 (q ▸ mr)), N', n'⟩
    · simp [pK]
    · simp [pW]
    · rw [List.length_append]; omega
    · rw [List.length_append]; omega
    · rw [k6, j6]; exact List.Perm.swap _ _ _
  | succ n =>
    obtain ⟨p, cs, k1, k2, k3, k4, k5, k6, k7, k8, k9, k10⟩ := Bl
    obtain ⟨q, ds, j1, j2, j3, j4, j5, j6, j7, j8, j9, j10⟩ := Br
    have hc := h3 p q k1 j1
    have lcs := Sp_len _ _ k10
    have lds := Sp_len _ _ j10
    rw [List.length_map] at lcs lds
    obtain ⟨d0, ds', rfl⟩ := cons_of (l := ds) (by omega)
    obtain ⟨cs0, c0, rfl⟩ := snoc_of (l := cs) (by omega)
    obtain ⟨pf, pk, pw, pb, pn'⟩ := p
    obtain ⟨qf, qk, qw, qb, qn⟩ := q
    simp only [pF, pK, pW, pB, pN] at k2 k3 k4 k5 k10 j2 j3 j4 j5 j10 lcs lds hc
    subst k2 k5 j2 j5
    refine m80 (b0 := some d0.1) (rb := ds'.map (fun c : Cd => some c.1)) S hp hAB k1 j1 (by omega) al ar lr ?_
    intro h' σ' W' lw' lb' S' sa sl _ c2 so N' n'
    rw [c2 rfl] at sl
    have foc : ∀ c ∈ (cs0 ++ [c0]).flatMap cF, σ' c = σ c := by
      intro c hc
      refine so c (fun q => nd1 (q ▸ List.mem_append_left _ (by rw [k7]; exact List.mem_cons_of_mem _ hc))) (fun q => ?_) (fun q => ?_)
      · rw [k7] at ndl; exact (List.nodup_cons.mp ndl).1 (q ▸ hc)
      · exact ndx c (by rw [k7]; exact List.mem_cons_of_mem _ hc) r mr q
    have fod : ∀ c ∈ (d0 :: ds').flatMap cF, σ' c = σ c := by
      intro c hc
      refine so c (fun q => nd1 (q ▸ List.mem_append_right _ (by rw [j7]; exact List.mem_cons_of_mem _ hc))) (fun q => ?_) (fun q => ?_)
      · exact ndx l ml c (by rw [j7]; exact List.mem_cons_of_mem _ hc) q.symm
      · rw [j7] at ndr; exact (List.nodup_cons.mp ndr).1 (q ▸ hc)
    have k9' := All_fr foc k9
    have j9' := All_fr fod j9
    have hl0 : (cs0.map cE).length = pk.length := by
      rw [List.length_map]
      simp only [List.length_append, List.length_cons, List.length_nil] at lcs
      omega
    rw [List.map_append] at k10
    have hel : ∀ e ∈ (cs0.map cE ++ [cE c0]).flatten, e.1 < k0 := fun e he => hk1 e (by rw [k6, List.flatMap_def, List.map_append]; exact he)
    have c0ne : cE c0 ≠ [] := by
      obtain ⟨_, a2⟩ := (All_append cs0 [c0] _).mp k9'
      exact Bt_ne a2.1 (by omega)
    refine K h' ⟨σ', l :: ((cs0 ++ [c0]) ++ d0 :: ds').flatMap cF, [r], W', S', sa, ⟨_, (cs0 ++ [c0]) ++ d0 :: ds', sl, rfl, ?_, ?_, ?_, ?_, rfl, ?_, ?_, ?_⟩, ?_, fun c c1 c2 c3 => so c c1 (fun q => c2 (q ▸ ml)) (fun q => c3 (q ▸ mr)), N', n'⟩
    · show 2 ≤ (pk ++ k0 :: qk).length
      rw [List.length_append, List.length_cons]; omega
    · show (pk ++ k0 :: qk).length ≤ 4
      rw [List.length_append, List.length_cons]; omega
    · show (cs0 ++ [c0]).map _ ++ _ = _
      rw [List.map_append (l₁ := cs0 ++ [c0])]; rfl
    · rw [k6, j6, ← List.flatMap_append]
    · rw [← k8, hd_append (cs0 ++ [c0]) (d0 :: ds')]
      cases cs0 <;> rfl
    · refine (All_append _ _ _).mpr ⟨?_, j9'⟩
      rw [j8]; exact k9'
    · show Sp (((cs0 ++ [c0]) ++ d0 :: ds').map cE) (pk ++ k0 :: qk)
      have := Sp_join (cs0.map cE) pk (cE c0) ((d0 :: ds').map cE) qk k0 hl0 k10 j10 hel (fun e he => hk2 e (by rw [j6, List.flatMap_def]; exact he)) (fun k hk => ?_)
      · simpa using this
      · obtain ⟨z, hz⟩ : ∃ z, z ∈ cE c0 := by
          cases hq : cE c0 with
          | nil => exact absurd hq c0ne
          | cons z _ => exact ⟨z, List.mem_cons_self⟩
        have k10'' : Sp (cs0.map cE ++ [cE c0]) (pk ++ []) := by simpa using k10
        have := (Sp_in _ _ _ _ hl0 (List.cons_ne_nil _ _) k10'').2 k hk z (by simpa using hz)
        exact Int64.le_trans this (Int64.le_of_lt (hel z (by rw [List.flatten_append, List.mem_append]; right; simpa using hz)))
    · rw [k7, j7, List.perm_iff_count]
      intro z
      simp only [List.flatMap_append, List.flatMap_cons, List.flatMap_nil, List.append_nil, List.count_append, List.count_cons, List.count_nil]
      omega
/-- a page below a, filled again -/
def Fin (n a : Nat) (cs : List Cd) (nk : Nat) (pn nx : Option Nat) (h : AH) (σ : PS) (h' : AH) : Prop := ∃ (σ' : PS) (cs' : List Cd) (ks' : List Int64) (W' : List (Option Nat)) (D : List Nat), PSt h' σ' ∧ σ' a = some (false, ks', W', cs'.map (fun c => some c.1), pn) ∧ cs'.flatMap cE = cs.flatMap cE ∧ hd cs' nx = hd cs nx ∧ All (Bt σ' n 2 4) cs' nx ∧ Sp (cs'.map cE) ks' ∧ nk ≤ ks'.length + 1 ∧ ks'.length ≤ nk ∧ (cs.flatMap cF).Perm (D ++ cs'.flatMap cF) ∧ (∀ b, b ≠ a → b ∉ cs.flatMap cF → σ' b = σ b) ∧ NP h h' 0 0 ∧ hN h' = hN h
theorem win_nd {a : Nat} {A C : List Nat} {x y : List Nat} (nd : (a :: (A ++ (x ++ (y ++ C)))).Nodup) : (a :: (x ++ y)).Nodup ∧ (∀ b ∈ A, b ≠ a ∧ b ∉ x ∧ b ∉ y) ∧ (∀ b ∈ C, b ≠ a ∧ b ∉ x ∧ b ∉ y) := by
  obtain ⟨n1, n2⟩ := List.nodup_cons.mp nd
  obtain ⟨nA, n3, nx⟩ := List.nodup_append.mp n2
  obtain ⟨nX, n4, ny⟩ := List.nodup_append.mp n3
  obtain ⟨nY, nC, nz⟩ := List.nodup_append.mp n4
  refine ⟨List.nodup_cons.mpr ⟨fun q => n1 ?_, List.nodup_append.mpr ⟨nX, nY, fun u hu v hv => ny u hu v (List.mem_append_left _ hv)⟩⟩, fun b hb => ⟨fun q => n1 (q ▸ List.mem_append_left _ hb), fun q => nx b hb b (List.mem_append_left _ q) rfl, fun q => nx b hb b (List.mem_append_right _ (List.mem_append_left _ q)) rfl⟩, fun b hb => ⟨fun q => n1 (q ▸ List.mem_append_right _ (List.mem_append_right _ (List.mem_append_right _ hb))), fun q => ny b q b (List.mem_append_right _ hb) rfl, fun q => nz b q b hb rfl⟩⟩
  rcases List.mem_append.mp q with q | q
  · exact List.mem_append_right _ (List.mem_append_left _ q)
  · exact List.mem_append_right _ (List.mem_append_right _ (List.mem_append_left _ q))
theorem fin_two {n a : Nat} {A0 C0 : List Cd} {x y : Cd} {KA0 KB0 : List Int64} {k0 : Int64} {W : List (Option Nat)} {pn nx : Option Nat} {h h' : AH} {σ : PS} (hl : A0.length = KA0.length) (kA : All (Bt σ n 2 4) A0 (some x.2.2.2)) (kC : All (Bt σ n 2 4) C0 nx) (sp : Sp ((A0 ++ x :: y :: C0).map cE) (KA0 ++ k0 :: KB0)) (hy : cE y ≠ []) (nd : (a :: (A0 ++ x :: y :: C0).flatMap cF).Nodup)
    (T : Two n a x.1 y.1 KA0 KB0 W (A0.map (fun c => some c.1)) (C0.map (fun c => some c.1)) pn (cE x) (cE y) (cF x) (cF y) x.2.2.2 (hd C0 nx) h σ h') : Fin n a (A0 ++ x :: y :: C0) (KA0 ++ k0 :: KB0).length pn nx h σ h' := by
  obtain ⟨σ', el', er', fl', fr', k1, fsr', S', sa, Bl, Br, e1, h1, h2, h3, pm, fr, N', n'⟩ := T
  rw [List.flatMap_append, List.flatMap_cons, List.flatMap_cons] at nd
  obtain ⟨nd1, ndA, ndC⟩ := win_nd nd
  refine ⟨σ', A0 ++ (x.1, el', fl', x.2.2.2) :: (y.1, er', fr', fsr') :: C0, KA0 ++ k1 :: KB0, W, [], S', ?_, ?_, ?_, (All_append _ _ _).mpr ⟨?_, Bl, Br, ?_⟩, ?_, ?_, ?_, ?_, fun b hb hb2 => fr b hb (fun q => hb2 ?_) (fun q => hb2 ?_), N', n'⟩
  · rw [sa]; simp
  · simp only [List.flatMap_append, List.flatMap_cons]
    rw [← List.append_assoc el', ← e1]; simp
  · rw [hd_append, hd_append]; rfl
  · exact All_fr (fun b hb => fr b (ndA b hb).1 (ndA b hb).2.1 (ndA b hb).2.2) kA
  · exact All_fr (fun b hb => fr b (ndC b hb).1 (ndC b hb).2.1 (ndC b hb).2.2) kC
  · rw [List.map_append, List.map_cons, List.map_cons] at sp ⊢
    exact Sp_two (by rw [List.length_map]; exact hl) sp hy h3 e1 h1 h2
  · simp
  · simp
  · rw [List.perm_iff_count] at pm ⊢
    intro z
    have := pm z
    simp only [cF, List.flatMap_append, List.flatMap_cons, List.count_append, List.nil_append] at this ⊢
    omega
  · simp only [List.flatMap_append, List.flatMap_cons, List.mem_append]; exact Or.inr (Or.inl q)
  · simp only [List.flatMap_append, List.flatMap_cons, List.mem_append]; exact Or.inr (Or.inr (Or.inl q))
theorem fin_one {n a : Nat} {A0 C0 : List Cd} {x y : Cd} {KA0 KB0 : List Int64} {k0 : Int64} {pn nx : Option Nat} {h h' : AH} {σ : PS} (hl : A0.length = KA0.length) (kA : All (Bt σ n 2 4) A0 (some x.2.2.2)) (kC : All (Bt σ n 2 4) C0 nx) (sp : Sp ((A0 ++ x :: y :: C0).map cE) (KA0 ++ k0 :: KB0)) (hy : cE y ≠ []) (nd : (a :: (A0 ++ x :: y :: C0).flatMap cF).Nodup)
    (T : One n a x.1 KA0 KB0 (A0.map (fun c => some c.1)) (C0.map (fun c => some c.1)) pn (cE x) (cE y) (cF x) (cF y) x.2.2.2 (hd C0 nx) h σ h') : Fin n a (A0 ++ x :: y :: C0) (KA0 ++ k0 :: KB0).length pn nx h σ h' := by
  obtain ⟨σ', fl', D, W', S', sa, Bl, pm, fr, N', n'⟩ := T
  rw [List.flatMap_append, List.flatMap_cons, List.flatMap_cons] at nd
  obtain ⟨nd1, ndA, ndC⟩ := win_nd nd
  refine ⟨σ', A0 ++ (x.1, cE x ++ cE y, fl', x.2.2.2) :: C0, KA0 ++ KB0, W', D, S', ?_, ?_, ?_, (All_append _ _ _).mpr ⟨?_, Bl, ?_⟩, ?_, ?_, ?_, ?_, fun b hb hb2 => fr b hb (fun q => hb2 ?_) (fun q => hb2 ?_), N', n'⟩
  · rw [sa]; simp
  · simp [cE]
  · rw [hd_append, hd_append]; rfl
  · exact All_fr (fun b hb => fr b (ndA b hb).1 (ndA b hb).2.1 (ndA b hb).2.2) kA
  · exact All_fr (fun b hb => fr b (ndC b hb).1 (ndC b hb).2.1 (ndC b hb).2.2) kC
  · rw [List.map_append, List.map_cons, List.map_cons] at sp
    rw [List.map_append, List.map_cons]
    exact Sp_one (by rw [List.length_map]; exact hl) sp hy
  · simp only [List.length_append, List.length_cons]; omega
  · simp only [List.length_append, List.length_cons]; omega
  · rw [List.perm_iff_count] at pm ⊢
    intro z
    have := pm z
    simp only [cF, List.flatMap_append, List.flatMap_cons, List.count_append] at this ⊢
    omega
  · simp only [List.flatMap_append, List.flatMap_cons, List.mem_append]; exact Or.inr (Or.inl q)
  · simp only [List.flatMap_append, List.flatMap_cons, List.mem_append]; exact Or.inr (Or.inr (Or.inl q))
/-- fill: the k-th page below a has one key -/
theorem m77 {n d a : Nat} {h : AH} {σ : PS} {A C : List Cd} {c : Cd} {KA KB : List Int64} {W : List (Option Nat)} {pn nx : Option Nat} {P : PT} (S : PSt h σ)
    (hp : σ a = some (false, KA ++ KB, W, (A ++ c :: C).map (fun c => some c.1), pn)) (hl : A.length = KA.length) (kA : All (Bt σ n 2 4) A (some c.2.2.2)) (kc : Bt σ n 1 1 c.1 (cE c) (cF c) c.2.2.2 (hd C nx)) (kC : All (Bt σ n 2 4) C nx) (sp : Sp ((A ++ c :: C).map cE) (KA ++ KB)) (h1 : 1 ≤ (KA ++ KB).length) (st : Srt ((A ++ c :: C).flatMap cE)) (nd : (a :: (A ++ c :: C).flatMap cF).Nodup)
    (K : ∀ h', Fin n a (A ++ c :: C) (KA ++ KB).length pn nx h σ h' → P (.inl none) h') :
    Ev (d + 3) 77 0 [vR (some a), vI (nI A.length)] [] h P := by
  obtain ⟨pa1, pa2, pa3⟩ := ps_len S hp
  have lsp := Sp_len _ _ sp
  simp only [pK, pW, pB, List.length_append, List.length_map, List.length_cons] at pa1 pa2 pa3 lsp h1
  have cnt : ∀ {b : Nat} {lo hi : Nat} {es : List En} {fp : List Nat} {fs : Nat} {nx : Option Nat}, Bt σ n lo hi b es fp fs nx → ∃ q, σ b = some q ∧ hI h b 96 = nI (pK q).length ∧ OB h b 7 kP ∧ lo ≤ (pK q).length ∧ (pK q).length ≤ hi ∧ (pK q).length ≤ 5 := by
    intro b lo hi es fp fs nx B
    obtain ⟨q, q1, q2, q3, q4⟩ := Bt_top B
    exact ⟨q, q1, pg_n S q1, pg_o S q1, q3, q4, pg_5 S q1⟩
  obtain ⟨qc, qc1, qc2, qc3, qc4, qc5, qc6⟩ := cnt kc
  have end1 : ∀ {h' : AH}, P (.inl none) h' → Ev (d + 3) 77 73 [vR (some a), vI (nI A.length)] [] h' P := fun k => w77_73 k
  -- the window on the left
  have left : ∀ (A0 : List Cd) (x : Cd), A = A0 ++ [x] → ∃ KA0 k0, KA = KA0 ++ [k0] ∧ A0.length = KA0.length ∧ Bt σ n 2 4 x.1 (cE x) (cF x) x.2.2.2 (some c.2.2.2) ∧ All (Bt σ n 2 4) A0 (some x.2.2.2) ∧ (∀ e ∈ cE x, e.1 < k0) ∧ (∀ e ∈ cE c, k0 ≤ e.1) := by
    intro A0 x hA
    subst hA
    obtain ⟨KA0, k0, hKA⟩ := snoc_of (l := KA) (by rw [← hl]; simp)
    subst hKA
    obtain ⟨a1, a2⟩ := (All_append A0 [x] _).mp kA
    have l0 : A0.length = KA0.length := by simpa using hl
    have sp' : Sp (A0.map cE ++ cE x :: cE c :: C.map cE) (KA0 ++ k0 :: KB) := by simpa using sp
    obtain ⟨⟨⟨g1, g2⟩, _⟩, _⟩ := Sp_in _ _ _ _ (by rw [List.length_map]; exact l0) (List.cons_ne_nil _ _) sp'
    exact ⟨KA0, k0, rfl, l0, a2.1, a1, g1, fun e he => g2 e (by rw [List.flatten_cons]; exact List.mem_append_left _ he)⟩
  have right : ∀ (y : Cd) (C0 : List Cd), C = y :: C0 → ∃ k0 KB0, KB = k0 :: KB0 ∧ Bt σ n 2 4 y.1 (cE y) (cF y) y.2.2.2 (hd C0 nx) ∧ All (Bt σ n 2 4) C0 nx ∧ (∀ e ∈ cE c, e.1 < k0) ∧ (∀ e ∈ cE y, k0 ≤ e.1) := by
    intro y C0 hC
    subst hC
    obtain ⟨k0, KB0, hKB⟩ := cons_of (l := KB) (by simp at lsp; omega)
    subst hKB
    have sp' : Sp (A.map cE ++ cE c :: cE y :: C0.map cE) (KA ++ k0 :: KB0) := by simpa using sp
    obtain ⟨⟨⟨g1, g2⟩, _⟩, _⟩ := Sp_in _ _ _ _ (by rw [List.length_map]; exact hl) (List.cons_ne_nil _ _) sp'
    exact ⟨k0, KB0, rfl, kC.1, kC.2, g1, fun e he => g2 e (by rw [List.flatten_cons]; exact List.mem_append_left _ he)⟩
  have cne : cE c ≠ [] := Bt_ne kc (by omega)
  -- join on the left
  have jl : ∀ (A0 : List Cd) (x : Cd), A = A0 ++ [x] → (∀ q, σ x.1 = some q → (pK q).length ≤ 2) → Ev (d + 2) 80 0 [vR (some a), vI (nI A.length - 1), vU, vU, vU] [] h (CK (d + 2) 77 P 70 [vR (some a), vI (nI A.length)] []) := by
    intro A0 x hA hq
    obtain ⟨KA0, k0, e1, l0, Bx, kA0, g1, g2⟩ := left A0 x hA
    subst hA e1
    have : A0 ++ [x] ++ c :: C = A0 ++ x :: c :: C := by simp
    have e2 : KA0 ++ [k0] ++ KB = KA0 ++ k0 :: KB := by simp
    rw [this] at hp sp st nd K
    rw [e2] at hp sp K
    rw [List.length_append, List.length_singleton, nI_pred, l0]
    have nd' := nd
    rw [List.flatMap_append, List.flatMap_cons, List.flatMap_cons] at nd'
    rw [List.length_append, List.length_singleton, l0] at end1
    refine m80B (W := W) (KA := KA0) (KB := KB) (k0 := k0) (BA := A0.map (fun c : Cd => some c.1)) (BB := C.map (fun c : Cd => some c.1)) (pn := pn) (n := n) (l := x.1) (r := c.1) (fsr := c.2.2.2) (el := cE x) (er := cE c) (nx := hd C nx) S (by rw [hp]; simp) (by rw [List.length_map]; exact l0) (Bt_weak (by omega) (by omega) Bx) (Bt_weak (by omega) (by omega) kc) g1 g2 (win_nd nd').1 ?_ (fun h' T => end1 (K h' (fin_one l0 kA0 kC sp cne nd T)))
    intro p q hp2 hq2
    obtain ⟨u, u1, _, _, u2, u3, _⟩ := cnt Bx
    rw [hp2] at u1; cases u1
    rw [hq2] at qc1; cases qc1
    have := hq _ hp2
    omega
  have jr : A = [] → (∀ y C0 q, C = y :: C0 → σ y.1 = some q → (pK q).length ≤ 2) → Ev (d + 2) 80 0 [vR (some a), vI (nI A.length), vU, vU, vU] [] h (CK (d + 2) 77 P 70 [vR (some a), vI (nI A.length)] []) := by
    intro hA hq
    subst hA
    obtain rfl : KA = [] := List.eq_nil_of_length_eq_zero (by rw [← hl]; rfl)
    obtain ⟨y, C0, hC⟩ := cons_of (l := C) (by simp at lsp h1; omega)
    obtain ⟨k0, KB0, e1, By, kC0, g1, g2⟩ := right y C0 hC
    subst hC e1
    have nd' := nd
    rw [List.flatMap_append, List.flatMap_cons, List.flatMap_cons] at nd'
    refine m80B (W := W) (KA := []) (KB := KB0) (k0 := k0) (BB := C0.map (fun c : Cd => some c.1)) (pn := pn) (n := n) (l := c.1) (r := y.1) (fsr := y.2.2.2) (el := cE c) (er := cE y) (nx := hd C0 nx) (BA := ([] : List Cd).map (fun c => some c.1)) S (by rw [hp]; simp) rfl (Bt_weak (by omega) (by omega) kc) (Bt_weak (by omega) (by omega) By) g1 g2 (win_nd nd').1 ?_ (fun h' T => end1 (K h' (fin_one (A0 := []) (KA0 := []) rfl trivial kC0 sp (Bt_ne By (by omega)) nd T)))
    intro p q hp2 hq2
    obtain ⟨u, u1, _, _, u2, u3, _⟩ := cnt By
    rw [hq2] at u1; cases u1
    rw [hp2] at qc1; cases qc1
    have := hq y C0 _ rfl hq2
    omega
  -- from the right
  have rr : ∀ y C0, C = y :: C0 → (∀ q, σ y.1 = some q → 2 < (pK q).length) → Ev (d + 2) 79 0 [vR (some a), vI (nI A.length), vU, vU] [] h (CK (d + 2) 77 P 52 [vR (some a), vI (nI A.length)] []) := by
    intro y C0 hC hq
    obtain ⟨k0, KB0, e1, By, kC0, g1, g2⟩ := right y C0 hC
    subst hC e1
    have nd' := nd
    rw [List.flatMap_append, List.flatMap_cons, List.flatMap_cons] at nd'
    obtain ⟨u, u1, _, _, u2, u3, _⟩ := cnt By
    rw [hl]
    refine m79 (W := W) (KA := KA) (KB := KB0) (k0 := k0) (BA := A.map (fun c : Cd => some c.1)) (BB := C0.map (fun c : Cd => some c.1)) (pn := pn) (n := n) (l := c.1) (r := y.1) (fsr := y.2.2.2) (el := cE c) (er := cE y) (nx := hd C0 nx) S (by rw [hp]; simp) (by rw [List.length_map]; exact hl) (Bt_weak (by omega) (by omega) kc) (Bt_cnt By u1 (hq _ u1) u3) ?_ g1 g2 (win_nd nd').1 (fun h' T => ?_)
    · rw [List.flatMap_append, List.flatMap_cons, List.flatMap_cons, ← List.append_assoc (cE c)] at st
      exact (Srt.sub st).1
    · rw [← hl]
      exact w77_55 (end1 (K h' (fin_two hl kA kC0 sp (Bt_ne By (by omega)) nd T)))
  have ll : ∀ A0 x, A = A0 ++ [x] → (∀ q, σ x.1 = some q → 2 < (pK q).length) → Ev (d + 2) 78 0 [vR (some a), vI (nI A.length), vU, vU, vU, vU] [] h (CK (d + 2) 77 P 21 [vR (some a), vI (nI A.length)] []) := by
    intro A0 x hA hq
    obtain ⟨KA0, k0, e1, l0, Bx, kA0, g1, g2⟩ := left A0 x hA
    subst hA e1
    have : A0 ++ [x] ++ c :: C = A0 ++ x :: c :: C := by simp
    have e2 : KA0 ++ [k0] ++ KB = KA0 ++ k0 :: KB := by simp
    rw [this] at hp sp st nd K
    rw [e2] at hp sp K
    have nd' := nd
    rw [List.flatMap_append, List.flatMap_cons, List.flatMap_cons] at nd'
    obtain ⟨u, u1, _, _, u2, u3, _⟩ := cnt Bx
    rw [List.length_append, List.length_singleton, l0]
    refine m78 (W := W) (KA := KA0) (KB := KB) (k0 := k0) (BA := A0.map (fun c : Cd => some c.1)) (BB := C.map (fun c : Cd => some c.1)) (pn := pn) (n := n) (l := x.1) (r := c.1) (fsr := c.2.2.2) (el := cE x) (er := cE c) (nx := hd C nx) S (by rw [hp]; simp) (by rw [List.length_map]; exact l0) (Bt_cnt Bx u1 (hq _ u1) u3) (Bt_weak (by omega) (by omega) kc) ?_ g1 g2 (win_nd nd').1 (fun h' T => ?_)
    · rw [List.flatMap_append, List.flatMap_cons, List.flatMap_cons, ← List.append_assoc (cE x)] at st
      exact (Srt.sub st).1
    · rw [List.length_append, List.length_singleton, l0] at end1
      exact w77_24 (end1 (K h' (fin_two l0 kA0 kC sp cne nd T)))
  have e0 : (0 : Int32) = nI 0 := rfl
  have e2 : (2 : Int32) = nI 2 := rfl
  have hcnt : hI h a 96 = nI (KA ++ KB).length := pg_n S hp
  have lA : A.length ≤ 5 := by omega
  -- a look at the page on the right
  have rgt : ∀ (J : Ev (d + 2) 80 0 [vR (some a), vI (nI A.length), vU, vU, vU] [] h (CK (d + 2) 77 P 70 [vR (some a), vI (nI A.length)] []) ∨ 0 < A.length), True := fun _ => trivial
  refine w77_0 (pg_o S hp) ⟨fun g => ⟨fun g2 => ⟨fun _ => ?_, fun g3 => ?_⟩, fun g2 => ?_⟩, fun g => ?_⟩
  · -- k = 0 and no page on the right
    rw [e0, nI_leI (by omega) (by omega)] at g
    refine jr (List.eq_nil_of_length_eq_zero (by omega)) (fun y C0 q hC hq => ?_)
    rw [hcnt, nI_leI (by rw [List.length_append]; omega) (by omega), List.length_append] at g2
    omega
  · rw [e0, nI_leI (by omega) (by omega)] at g
    rw [e0, nI_ltI (by omega) (by omega)] at g3
    omega
  · rw [e0, nI_leI (by omega) (by omega)] at g
    rw [hcnt, nI_ltI (by omega) (by rw [List.length_append]; omega), List.length_append] at g2
    have hA : A = [] := List.eq_nil_of_length_eq_zero (by omega)
    obtain ⟨y, C0, hC⟩ := cons_of (l := C) (by omega)
    obtain ⟨k0, KB0, e1, By, kC0, _, _⟩ := right y C0 hC
    obtain ⟨u, u1, u2, u3, u4, u5, u6⟩ := cnt By
    have gy : hR h (a + 3) (A.length + 1) = some y.1 := (pg_b S hp (i := A.length + 1) (by
      show ((A ++ c :: C).map (fun c => some c.1))[A.length + 1]? = _
      rw [hC]; simp)).1
    rw [nI_1, cl (by omega)]
    refine ⟨i5 (by omega) (by omega), y.1, gy, u3, fun g3 => ⟨fun _ => ?_, fun g4 => ?_⟩, fun g3 => ?_⟩
    · rw [u2, e2, nI_leI (by omega) (by omega)] at g3
      refine jr hA (fun y' C0' q hC' hq => ?_)
      rw [hC] at hC'; cases hC'
      rw [hq] at u1; cases u1; exact g3
    · rw [e0, nI_ltI (by omega) (by omega)] at g4; omega
    · rw [u2, e2, nI_ltI (by omega) (by omega)] at g3
      exact rr y C0 hC (fun q hq => by rw [hq] at u1; cases u1; exact g3)
  · rw [e0, nI_ltI (by omega) (by omega)] at g
    obtain ⟨A0, x, hA⟩ := snoc_of (l := A) g
    obtain ⟨KA0, k0, e1, l0, Bx, kA0, _, _⟩ := left A0 x hA
    obtain ⟨u, u1, u2, u3, u4, u5, u6⟩ := cnt Bx
    have lA0 : A.length = A0.length + 1 := by rw [hA]; simp
    have gx : hR h (a + 3) A0.length = some x.1 := (pg_b S hp (i := A0.length) (by
      show ((A ++ c :: C).map (fun c => some c.1))[A0.length]? = _
      rw [hA]; simp)).1
    have e3 : nI A.length - 1 = nI A0.length := by rw [lA0, nI_pred]
    refine ⟨by rw [e3]; exact i5 (by omega) (by omega), x.1, by rw [e3, cl (by omega)]; exact gx, u3, fun g2 => ⟨fun g3 => ⟨fun g4 => ?_, fun _ => ?_⟩, fun g3 => ?_⟩, fun g2 => ?_⟩
    · rw [e0, nI_leI (by omega) (by omega)] at g4; omega
    · rw [u2, e2, nI_leI (by omega) (by omega)] at g2
      exact jl A0 x hA (fun q hq => by rw [hq] at u1; cases u1; exact g2)
    · rw [u2, e2, nI_leI (by omega) (by omega)] at g2
      rw [hcnt, nI_ltI (by omega) (by rw [List.length_append]; omega), List.length_append] at g3
      obtain ⟨y, C0, hC⟩ := cons_of (l := C) (by omega)
      obtain ⟨k1, KB0, e4, By, kC0, _, _⟩ := right y C0 hC
      obtain ⟨v, v1, v2, v3, v4, v5, v6⟩ := cnt By
      have gy : hR h (a + 3) (A.length + 1) = some y.1 := (pg_b S hp (i := A.length + 1) (by
        show ((A ++ c :: C).map (fun c => some c.1))[A.length + 1]? = _
        rw [hC]; simp)).1
      rw [nI_1, cl (by omega)]
      refine ⟨i5 (by omega) (by omega), y.1, gy, v3, fun g4 => ⟨fun g5 => ?_, fun _ => ?_⟩, fun g4 => ?_⟩
      · rw [e0, nI_leI (by omega) (by omega)] at g5; omega
      · exact jl A0 x hA (fun q hq => by rw [hq] at u1; cases u1; exact g2)
      · rw [v2, e2, nI_ltI (by omega) (by omega)] at g4
        exact rr y C0 hC (fun q hq => by rw [hq] at v1; cases v1; exact g4)
    · rw [u2, e2, nI_ltI (by omega) (by omega)] at g2
      exact ll A0 x hA (fun q hq => by rw [hq] at u1; cases u1; exact g2)
