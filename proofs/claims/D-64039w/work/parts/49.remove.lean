/-! deps: 25 26 27 36 37 38 39 40 41 42 43 44 46 47 48 -/
/-! ===== TREE: take, remove ===== -/
def DelR (key : Int64) (es es' : List En) : Prop := ∃ X r Y, es = X ++ (key, r) :: Y ∧ es' = X ++ Y
theorem DelR.ctx {key : Int64} {es es' A C : List En} (k : DelR key es es') : DelR key (A ++ (es ++ C)) (A ++ (es' ++ C)) := by
  obtain ⟨X, r, Y, rfl, rfl⟩ := k
  exact ⟨A ++ X, r, Y ++ C, by simp, by simp⟩
theorem DelR.srt {key : Int64} {es es' : List En} (k : DelR key es es') (s : Srt es) : Srt es' := by
  obtain ⟨X, r, Y, rfl, rfl⟩ := k
  unfold Srt at *
  rw [List.pairwise_append] at s ⊢
  exact ⟨s.1, (List.pairwise_cons.mp s.2.1).2, fun x hx y hy => s.2.2 x hx y (List.mem_cons_of_mem _ hy)⟩
theorem DelR.mem {key : Int64} {es es' : List En} (k : DelR key es es') (s : Srt es) (e : En) : e ∈ es' ↔ e ∈ es ∧ e.1 ≠ key := by
  obtain ⟨X, r, Y, rfl, rfl⟩ := k
  unfold Srt at s
  rw [List.pairwise_append] at s
  have s2 := List.pairwise_cons.mp s.2.1
  simp only [List.mem_append, List.mem_cons]
  constructor
  · rintro (h | h)
    · exact ⟨Or.inl h, Int64.ne_of_lt (s.2.2 e h (key, r) List.mem_cons_self)⟩
    · exact ⟨Or.inr (Or.inr h), Ne.symm (Int64.ne_of_lt (s2.1 e h))⟩
  · rintro ⟨h | rfl | h, q⟩
    · exact Or.inl h
    · exact absurd rfl q
    · exact Or.inr h
theorem DelR.sub {key : Int64} {es es' : List En} (k : DelR key es es') (e : En) (h : e ∈ es') : e ∈ es := by
  obtain ⟨X, r, Y, rfl, rfl⟩ := k
  simp only [List.mem_append, List.mem_cons] at h ⊢
  rcases h with h | h
  · exact Or.inl h
  · exact Or.inr (Or.inr h)
theorem m76 : ∀ (n d a lo : Nat) (es : List En) (fp : List Nat) (fs : Nat) (nx : Option Nat) (h : AH) (σ : PS) (key : Int64) (row : Nat) (P : PT), PSt h σ → Bt σ n lo 4 a es fp fs nx → (n ≠ 0 → 1 ≤ lo) → fp.Nodup → Srt es → (key, row) ∈ es →
    (∀ h' σ' es' fp' D, PSt h' σ' → Bt σ' n (lo - 1) 4 a es' fp' fs nx → DelR key es es' → fp.Perm (D ++ fp') → (∀ b, b ∉ fp → σ' b = σ b) → NP h h' 0 0 → hN h' = hN h → P (.inl none) h') →
    Ev (n + 4 + d) 76 0 [vR (some a), vL key, vU, vU] [] h P := by
  intro n
  induction n with
  | zero =>
    intro d a lo es fp fs nx h σ key row P S B _ nd st hm K
    obtain ⟨p, k1, k2, k3, k4, k5, k6, k7, k8, k9⟩ := B
    rw [show 0 + 4 + d = (d + 3) + 1 by omega]
    refine w76_0 (pg_o S k1) ⟨fun e => ?_, fun _ => ?_⟩
    · rw [pg_f S k1, k2] at e; exact absurd e (by decide)
    refine m46 S k1 ?_
    obtain ⟨X, Y, e1, e2, e3, e4⟩ := srt_cut2 (key := key) st
    rw [e1] at hm
    have hmY : (key, row) ∈ Y := by
      rcases List.mem_append.mp hm with q | q
      · exact absurd (e2 _ q) Int64.lt_irrefl
      · exact q
    obtain ⟨y, Y', rfl⟩ : ∃ y Y', Y = y :: Y' := by
      cases Y with
      | nil => cases hmY
      | cons y Y' => exact ⟨y, Y', rfl⟩
    have hy : y = (key, row) := by
      rcases List.mem_cons.mp hmY with q | q
      · exact q.symm
      · have st' := st
        rw [e1] at st'
        have := (List.pairwise_cons.mp (List.pairwise_append.mp st').2.1).1 _ q
        exact absurd (Int64.lt_of_le_of_lt (e3 y List.mem_cons_self) this) Int64.lt_irrefl
    subst hy
    have lk : (pK p).length = X.length + (Y'.length + 1) := by rw [k3, e1, List.length_map, List.length_append, List.length_cons]
    have h5 := pg_5 S k1
    rw [k3, e4]
    have gk : hL h (a + 1) X.length = key := gk_of S k1 (by rw [k3, e1]; simp)
    refine w76_12 (pg_o S k1) ⟨fun g => ?_, fun g => ⟨i5 (by omega) (by omega), fun g2 => ?_, fun _ => ?_⟩⟩
    · rw [pg_n S k1, nI_leI (by omega) (by omega)] at g; omega
    · rw [cl (by omega)] at g2; exact absurd gk g2
    · refine m48 (i := X.length) S k1 (by omega) (fun h' S' N' n' => ?_)
      refine w76_37 ?_
      refine K h' _ (X ++ Y') [a] [] S' ⟨_, up_same _ _ _, k2, ?_, ?_, k5, rfl, k7, ?_, ?_⟩ ⟨X, row, Y', e1, rfl⟩ (by rw [k6]; exact List.Perm.refl _) (fun b hb => up_ne (fun e => hb (by rw [k6, e]; exact List.mem_singleton.mpr rfl))) N' n'
      · show (pK p).eraseIdx X.length = _
        rw [k3, e1]
        have := era_at (X.map (fun e => e.1)) (Y'.map (fun e => e.1)) key
        simpa using this
      · show (pW p).eraseIdx X.length = _
        rw [k4, e1]
        have := era_at (X.map (fun e => some e.2)) (Y'.map (fun e => some e.2)) (some row)
        simpa using this
      · rw [e1] at k8; simp at k8 ⊢; omega
      · rw [e1] at k9; simp at k9 ⊢; omega
  | succ n ih =>
    intro d a lo es fp fs nx h σ key row P S B hlo nd st hm K
    obtain ⟨p, cs, k1, k2, k3, k4, k5, k6, k7, k8, k9, k10⟩ := B
    have hlo := hlo (by omega)
    rw [show n + 1 + 4 + d = (n + 4 + d) + 1 by omega]
    refine w76_0 (pg_o S k1) ⟨fun _ => ?_, fun e => ?_⟩
    rotate_left
    · rw [pg_f S k1, k2] at e; exact absurd rfl e
    refine m45 S k1 ?_
    obtain ⟨A, c, C, KA, KB, e1, e2, e3, e4, e5, e6, e7, e8⟩ := route (key := key) k10
    rw [← e4, ← e3]
    have hbk : (pB p)[A.length]? = some (some c.1) := by
      rw [k5, e1, List.map_append, List.map_cons]
      have := get_at (A.map (fun c => some c.1)) (C.map (fun c => some c.1)) (some c.1)
      simpa using this
    obtain ⟨hR1, hi1⟩ := pg_b S k1 hbk
    refine w76_43 (pg_o S k1) ⟨i5 (by omega) (by omega), c.1, by rw [cl (by omega)]; exact hR1, ?_⟩
    rw [e1] at k9
    obtain ⟨kA, kc, kC⟩ := (All_append A (c :: C) nx).mp k9
    have hes : es = A.flatMap cE ++ (cE c ++ C.flatMap cE) := by rw [k6, e1]; simp
    have hfp : fp = a :: (A.flatMap cF ++ (cF c ++ C.flatMap cF)) := by rw [k7, e1]; simp
    obtain ⟨st1, st2, st3⟩ := Srt.sub (by rw [← hes]; exact st)
    have nd0 := nd
    rw [hfp] at nd
    obtain ⟨nda, nd1⟩ := List.nodup_cons.mp nd
    obtain ⟨ndA, nd2, ndx⟩ := List.nodup_append.mp nd1
    obtain ⟨ndc, ndC, ndy⟩ := List.nodup_append.mp nd2
    have hmc : (key, row) ∈ cE c := by
      rw [hes] at hm
      simp only [List.mem_append] at hm
      rcases hm with q | q | q
      · exact absurd (e6 _ q) Int64.lt_irrefl
      · exact q
      · exact absurd (e7 _ q) Int64.lt_irrefl
    refine ih d c.1 2 (cE c) (cF c) c.2.2.2 (hd C nx) h σ key row _ S kc (fun _ => by omega) ndc st1 hmc ?_
    intro h1 σ1 ec fc D S1 B1 I1 P1 fr1 NP1 n1
    have fcm : ∀ b, b ∈ fc → b ∈ cF c := fun b hb => by rw [P1.mem_iff, List.mem_append]; exact Or.inr hb
    have ma : a ∉ cF c := fun q => nda (List.mem_append_right _ (List.mem_append_left _ q))
    have ha1 : σ1 a = some p := (fr1 a ma).trans k1
    have frA : ∀ b ∈ A.flatMap cF, σ1 b = σ b := fun b hb => fr1 b (fun q => ndx b hb b (List.mem_append_left _ q) rfl)
    have frC : ∀ b ∈ C.flatMap cF, σ1 b = σ b := fun b hb => fr1 b (fun q => ndy b q b hb rfl)
    have hbk1 : hR h1 (a + 3) A.length = some c.1 := (pg_b S1 ha1 hbk).1
    have sp1 : Sp ((A ++ (c.1, ec, fc, c.2.2.2) :: C).map cE) (pK p) := by
      rw [e1, List.map_append, List.map_cons] at k10
      rw [e2] at k10 ⊢
      rw [List.map_append, List.map_cons]
      obtain ⟨g1, g2⟩ := Sp_in (A.map cE) KA (cE c :: C.map cE) KB (by simpa using e3) (List.cons_ne_nil _ _) k10
      refine Sp_pre (A.map cE) KA (cE c :: C.map cE) _ KB KB (by simpa using e3) k10 (List.cons_ne_nil _ _) (fun k hk e he => ?_) ?_
      · rw [List.flatten_cons, List.mem_append] at he
        rcases he with he | he
        · exact g2 k hk e (by rw [List.flatten_cons]; exact List.mem_append_left _ (I1.sub e he))
        · exact g2 k hk e (by rw [List.flatten_cons]; exact List.mem_append_right _ he)
      · rcases e8 with ⟨rfl, rfl⟩ | ⟨k, KB', rfl, hk, _⟩
        · rfl
        · obtain ⟨⟨g3, g4⟩, g5⟩ := g1
          exact ⟨⟨fun e he => g3 e (I1.sub e he), g4⟩, g5⟩
    have hdel : DelR key es (A.flatMap cE ++ (ec ++ C.flatMap cE)) := by rw [hes]; exact I1.ctx
    have hdA : hd A (some c.2.2.2) = some fs := by rw [← k8, e1, hd_append]; rfl
    refine w76_54 (pg_o S1 ha1) ⟨i5 (by omega) (by omega), c.1, by rw [cl (by omega)]; exact hbk1, ?_⟩
    obtain ⟨q, hq, hqF, hq2, hq5⟩ := Bt_top B1
    refine ⟨pg_o S1 hq, fun e => ?_, fun e => ?_⟩
    · -- enough
      rw [pg_n S1 hq, show (2 : Int32) = nI 2 from rfl, nI_leI (by omega) (by omega)] at e
      refine w76_72 ?_
      have B2 := Bt_cnt B1 hq (lo' := 2) (hi' := 4) e hq5
      refine K h1 σ1 (A.flatMap cE ++ (ec ++ C.flatMap cE)) (a :: (A.flatMap cF ++ (fc ++ C.flatMap cF))) D S1 ⟨p, A ++ (c.1, ec, fc, c.2.2.2) :: C, ha1, k2, by omega, k4, ?_, ?_, ?_, ?_, ?_, sp1⟩ hdel ?_ ?_ NP1 n1
      · rw [k5, e1]; simp
      · simp
      · simp
      · rw [hd_append]; exact hdA
      · exact (All_append _ _ _).mpr ⟨All_fr frA kA, B2, All_fr frC kC⟩
      · rw [hfp, List.perm_iff_count]
        rw [List.perm_iff_count] at P1
        intro x
        have := P1 x
        simp only [List.count_append, List.count_cons] at this ⊢
        omega
      · intro b hb
        refine fr1 b (fun q => hb ?_)
        rw [hfp]; exact List.mem_cons_of_mem _ (List.mem_append_right _ (List.mem_append_left _ q))
    · -- too few
      rw [pg_n S1 hq, show (2 : Int32) = nI 2 from rfl, nI_ltI (by omega) (by omega)] at e
      have B2 := Bt_cnt B1 hq (lo' := 1) (hi' := 1) (by omega) (by omega)
      rw [show n + 4 + d = (n + 1 + d) + 3 by omega]
      obtain ⟨pf, pk, pw, pb, pn'⟩ := p
      simp only [pF, pK, pB] at k2 k3 k4 k5 e2 sp1
      subst k2 e2
      have ndf : (a :: (A ++ (c.1, ec, fc, c.2.2.2) :: C).flatMap cF).Nodup := by
        have : (a :: (A.flatMap cF ++ (fc ++ C.flatMap cF))).Nodup := by
          refine List.nodup_cons.mpr ⟨fun q => nda ?_, List.nodup_append.mpr ⟨ndA, List.nodup_append.mpr ⟨?_, ndC, fun x hx y hy => ndy x (fcm x hx) y hy⟩, fun x hx y hy => ndx x hx y ?_⟩⟩
          · simp only [List.mem_append] at q ⊢
            rcases q with q | q | q
            · exact Or.inl q
            · exact Or.inr (Or.inl (fcm _ q))
            · exact Or.inr (Or.inr q)
          · exact (List.nodup_append.mp (nd_perm P1.symm ndc)).2.1
          · simp only [List.mem_append] at hy ⊢
            rcases hy with q | q
            · exact Or.inl (fcm _ q)
            · exact Or.inr q
        simpa using this
      refine m77 (n := n) (A := A) (C := C) (c := (c.1, ec, fc, c.2.2.2)) (KA := KA) (KB := KB) (W := pw) (pn := pn') (nx := nx) S1 (by rw [ha1, k5, e1]; simp) e3 (All_fr frA kA) B2 (All_fr frC kC) sp1 (by omega) ?_ ndf ?_
      · have := hdel.srt st
        simpa using this
      · rintro h' ⟨σ', cs', ks', W', D', S', sa, f1, f2, f3, f4, f5, f6, f7, f8, f9, f10⟩
        refine w76_72 ?_
        refine K h' σ' (A.flatMap cE ++ (ec ++ C.flatMap cE)) (a :: cs'.flatMap cF) (D ++ D') S' ⟨_, cs', sa, rfl, ?_, ?_, rfl, ?_, rfl, ?_, f3, f4⟩ hdel ?_ ?_ (NP1.trans f9) (f10.trans n1)
        · show lo - 1 ≤ ks'.length; omega
        · show ks'.length ≤ 4; omega
        · rw [f1]; simp
        · rw [f2, hd_append]; exact hdA
        · rw [hfp, List.perm_iff_count]
          rw [List.perm_iff_count] at P1 f7
          intro x
          have := P1 x
          have := f7 x
          simp only [cF, List.flatMap_append, List.flatMap_cons, List.count_append, List.count_cons] at *
          omega
        · intro b hb
          have hbc : b ∉ cF c := fun q => hb (by rw [hfp]; exact List.mem_cons_of_mem _ (List.mem_append_right _ (List.mem_append_left _ q)))
          refine (f8 b (fun q => hb (by rw [hfp, q]; exact List.mem_cons_self)) (fun q => hb ?_)).trans (fr1 b hbc)
          rw [hfp]
          have : b ∈ A.flatMap cF ++ (fc ++ C.flatMap cF) := by simpa using q
          refine List.mem_cons_of_mem _ ?_
          simp only [List.mem_append] at this ⊢
          rcases this with q | q | q
          · exact Or.inl q
          · exact Or.inr (Or.inl (fcm _ q))
          · exact Or.inr (Or.inr q)
theorem m75 {n d t : Nat} {es : List En} {fp : List Nat} {h : AH} {σ : PS} {key : Int64} {row : Nat} {P : PT} (S : PSt h σ) (T : Tre h σ t n es fp) (hm : (key, row) ∈ es)
    (K : ∀ h' σ' n' es' fp' D, PSt h' σ' → Tre h' σ' t n' es' fp' → DelR key es es' → fp.Perm (D ++ fp') → (∀ b, b ∉ fp → σ' b = σ b) → NPt h h' t 0 0 → hN h' = hN h → P (.inl none) h') :
    Ev (n + 5 + d) 75 0 [vR (some t), vL key, vU] [] h P := by
  obtain ⟨T1, T2, T3, root, fs, T4, T5⟩ := T
  have hnp : ¬ pgt (hT h t) := not_pgt T1 (by decide) (by decide) (by decide) (by decide)
  rw [show n + 5 + d = (n + 4 + d) + 1 by omega]
  refine w75_0 ⟨T1, trivial⟩ ⟨root, T4, ?_⟩
  refine m76 n d root (rlo n) es fp fs none h σ key row _ S T5 (fun q => by unfold rlo; rw [if_neg q]; omega) T2 T3 hm ?_
  intro h1 σ1 es1 fp1 D S1 B1 I1 P1 fr1 NP1 n1
  have T1' := npT NP1 S.1 T1
  have T4' := (npR NP1 S.1 T1 hnp 106).trans T4
  have nd1 : fp1.Nodup := (List.nodup_append.mp (nd_perm P1.symm T2)).2.1
  obtain ⟨q, hq, hqF, hq2, hq5⟩ := Bt_top B1
  have fin : (rlo n ≤ (pK q).length) → Ev (n + 4 + d + 1) 75 41 [vR (some t), vL key, vU] [] h1 P := fun g => w75_41 (K h1 σ1 n es1 fp1 D S1 ⟨T1', nd1, I1.srt T3, root, fs, T4', Bt_cnt B1 hq g hq5⟩ I1 P1 fr1 NP1.t n1)
  refine w75_8 ⟨T1', trivial⟩ ⟨root, T4', pg_o S1 hq, fun e => fin ?_, fun e => ⟨root, T4', pg_o S1 hq, fun e2 => fin ?_, fun e2 => ?_⟩⟩
  · rw [pg_f S1 hq, hqF] at e
    have : n = 0 := by
      cases n with
      | zero => rfl
      | succ n => exact absurd rfl e
    rw [this]; exact Nat.zero_le _
  · rw [pg_n S1 hq] at e2
    have : (pK q).length ≠ 0 := fun g => e2 (by rw [g]; rfl)
    unfold rlo; split <;> omega
  · rw [pg_f S1 hq, hqF] at e
    have hn : n ≠ 0 := fun g => by rw [g] at e; exact absurd e (by decide)
    obtain ⟨n, rfl⟩ : ∃ m, n = m + 1 := ⟨n - 1, by omega⟩
    rw [pg_n S1 hq, show (0 : Int32) = nI 0 from rfl, nI_eq (by omega) (by omega)] at e2
    obtain ⟨p, cs, k1, k2, k3, k4, k5, k6, k7, k8, k9, k10⟩ := B1
    rw [k1] at hq; cases hq
    have lcs := Sp_len _ _ k10
    rw [List.length_map, e2] at lcs
    obtain ⟨c, rfl⟩ : ∃ c, cs = [c] := by
      match cs, lcs with
      | [c], _ => exact ⟨c, rfl⟩
    have gb : hR h1 (root + 3) 0 = some c.1 := (pg_b S1 k1 (i := 0) (by rw [k5]; rfl)).1
    refine ⟨root, T4', pg_o S1 k1, i5 (n := 0) (by decide) (by decide), c.1, gb, ?_⟩
    refine w75_41 ?_
    have hnp1 : ¬ pgt (hT h1 t) := not_pgt T1' (by decide) (by decide) (by decide) (by decide)
    have S2 := ps_pu S1 (pu_wR (j := 106) (r := some c.1) S1.1 T1' hnp1)
    have hfs : c.2.2.2 = fs := Option.some.inj k8
    refine K _ σ1 n es1 (cF c) (D ++ [root]) S2 ⟨T1', ?_, I1.srt T3, c.1, fs, ?_, ?_⟩ I1 ?_ fr1 (NP1.t.trans npt_wR) n1
    · rw [k7] at nd1
      have := (List.nodup_cons.mp nd1).2
      simpa using this
    · rw [hR_wR, if_pos ⟨rfl, rfl⟩]
    · have := k9.1
      rw [k6, ← hfs]
      have e3 : [c].flatMap cE = c.2.1 := by simp
      rw [e3]
      exact Bt_weak (by unfold rlo; split <;> omega) (by omega) this
    · rw [k7] at P1
      rw [List.perm_iff_count] at P1 ⊢
      intro x
      have := P1 x
      simp only [cF, List.flatMap_cons, List.flatMap_nil, List.append_nil, List.count_append, List.count_cons, List.count_nil] at this ⊢
      omega
