/-! deps: 25 26 27 36 37 38 39 40 41 -/
/-! ===== TREE: put ===== -/
theorem nd_perm {l m : List Nat} (h : l.Perm m) (n : m.Nodup) : l.Nodup := h.nodup_iff.mpr n
theorem m72 : ∀ (n d a lo : Nat) (es : List En) (fp : List Nat) (fs : Nat) (nx : Option Nat) (h : AH) (σ : PS) (key : Int64) (row : Nat) (P : PT), PSt h σ → Bt σ n lo 4 a es fp fs nx → fp.Nodup → Srt es → (∀ e ∈ es, e.1 ≠ key) → RT h (some row) 9 → 4 * n ≤ hC h → 22 * n ≤ hS h →
    (∀ h' σ' es' fp' N, PSt h' σ' → Bt σ' n lo 5 a es' fp' fs nx → InsR key row es es' → fp'.Perm (N ++ fp) → N.Nodup → (∀ b ∈ N, hN h ≤ b) → (∀ b, b ∉ fp → b < hN h → σ' b = σ b) → NP h h' (4 * n) (22 * n) → P (.inl none) h') →
    Ev (n + 2 + d) 72 0 [vR (some a), vL key, vU, vR (some row), vU] [] h P := by
  intro n
  induction n with
  | zero =>
    intro d a lo es fp fs nx h σ key row P S B nd st hn hr hC0 hS0 K
    obtain ⟨p, k1, k2, k3, k4, k5, k6, k7, k8, k9⟩ := B
    rw [show 0 + 2 + d = (d + 1) + 1 by omega]
    refine w72_0 (pg_o S k1) ⟨fun e => ?_, fun _ => ?_⟩
    · rw [pg_f S k1, k2] at e; exact absurd e (by decide)
    refine m46 S k1 ?_
    refine w72_13 (pg_o S k1) ?_
    obtain ⟨X, Y, e1, e2, e3, e4⟩ := srt_cut st hn
    have lk : (pK p).length = es.length := by rw [k3, List.length_map]
    have lx : X.length ≤ es.length := by rw [e1, List.length_append]; omega
    have h5 := pg_5 S k1
    refine m47 (p := p) S k1 (by rw [k3, e4, ← k3, lk]; exact lx) (by omega) hr RT_none (fun h' S' N' n' => ?_)
    refine w72_19 ?_
    refine K h' _ (X ++ (key, row) :: Y) [a] [] S' ⟨_, up_same _ _ _, k2, ?_, ?_, k5, rfl, k7, ?_, ?_⟩ ⟨X, Y, e1, rfl, e2, e3⟩ (by rw [k6]; exact List.Perm.refl _) List.nodup_nil (fun b hb => by cases hb) (fun b hb _ => up_ne (fun e => hb (by rw [k6, e]; exact List.mem_singleton.mpr rfl))) (by simpa using N')
    · show (pK p).insertIdx (cLt key (pK p)) key = _
      rw [k3, e4, e1]
      have := ins_at (X.map (fun e => e.1)) (Y.map (fun e => e.1)) key
      simpa using this
    · show (pW p).insertIdx (cLt key (pK p)) (some row) = _
      rw [k3, e4, k4, e1]
      have := ins_at (X.map (fun e => some e.2)) (Y.map (fun e => some e.2)) (some row)
      simpa using this
    · rw [e1] at k8; simp at k8 ⊢; omega
    · rw [e1] at k9; simp at k9 ⊢; omega
  | succ n ih =>
    intro d a lo es fp fs nx h σ key row P S B nd st hn hr hC0 hS0 K
    obtain ⟨p, cs, k1, k2, k3, k4, k5, k6, k7, k8, k9, k10⟩ := B
    rw [show n + 1 + 2 + d = (n + 2 + d) + 1 by omega]
    refine w72_0 (pg_o S k1) ⟨fun _ => ?_, fun e => ?_⟩
    rotate_left
    · rw [pg_f S k1, k2] at e; exact absurd rfl e
    refine m45 S k1 ?_
    obtain ⟨A, c, C, KA, KB, e1, e2, e3, e4, e5, e6, e7, e8⟩ := route (key := key) k10
    rw [← e4, ← e3]
    have hbk : (pB p)[A.length]? = some (some c.1) := by
      rw [k5, e1, List.map_append, List.map_cons]
      have := get_at (A.map (fun c => some c.1)) (C.map (fun c => some c.1)) (some c.1)
      simpa using this
    obtain ⟨hR1, hi1⟩ := pg_b S k1 hbk
    have hAl : A.length ≤ 4 := by omega
    refine w72_25 (pg_o S k1) ⟨i5 (by omega) (by omega), c.1, by rw [cl (by omega)]; exact hR1, ?_⟩
    rw [e1] at k9
    obtain ⟨kA, kc, kC⟩ := (All_append A (c :: C) nx).mp k9
    have hes : es = A.flatMap cE ++ (cE c ++ C.flatMap cE) := by rw [k6, e1]; simp
    have hfp : fp = a :: (A.flatMap cF ++ (cF c ++ C.flatMap cF)) := by rw [k7, e1]; simp
    obtain ⟨st1, st2, st3⟩ := Srt.sub (by rw [← hes]; exact st)
    rw [hfp] at nd
    obtain ⟨nda, nd1⟩ := List.nodup_cons.mp nd
    obtain ⟨ndA, nd2, ndx⟩ := List.nodup_append.mp nd1
    obtain ⟨ndc, ndC, ndy⟩ := List.nodup_append.mp nd2
    refine ih d c.1 2 (cE c) (cF c) c.2.2.2 (hd C nx) h σ key row _ S kc ndc st1 (fun e he => hn e (by rw [hes]; simp only [List.mem_append]; exact Or.inr (Or.inl he))) hr (by omega) (by omega) ?_
    intro h1 σ1 ec fc N S1 B1 I1 P1 ndN hN1 fr1 NP1
    have fcm : ∀ b, b ∈ fc ↔ b ∈ N ∨ b ∈ cF c := fun b => by rw [P1.mem_iff, List.mem_append]
    have ma : a ∉ cF c := fun q => nda (List.mem_append_right _ (List.mem_append_left _ q))
    have ha1 : σ1 a = some p := (fr1 a ma (pg_lt S k1)).trans k1
    have frA : ∀ b ∈ A.flatMap cF, σ1 b = σ b := by
      intro b hb
      obtain ⟨x, hx, hbx⟩ := List.mem_flatMap.mp hb
      obtain ⟨A1, A2, hA⟩ := List.append_of_mem hx
      rw [hA] at kA
      obtain ⟨pb, hpb⟩ := Bt_dom _ _ _ _ _ _ _ _ ((All_append A1 (x :: A2) _).mp kA).2.1 b hbx
      exact fr1 b (fun q => ndx b hb b (List.mem_append_left _ q) rfl) (pg_lt S hpb)
    have frC : ∀ b ∈ C.flatMap cF, σ1 b = σ b := by
      intro b hb
      obtain ⟨x, hx, hbx⟩ := List.mem_flatMap.mp hb
      obtain ⟨A1, A2, hA⟩ := List.append_of_mem hx
      rw [hA] at kC
      obtain ⟨pb, hpb⟩ := Bt_dom _ _ _ _ _ _ _ _ ((All_append A1 (x :: A2) _).mp kC).2.1 b hbx
      exact fr1 b (fun q => ndy b q b hb rfl) (pg_lt S hpb)
    have hbk1 : hR h1 (a + 3) A.length = some c.1 := (pg_b S1 ha1 hbk).1
    refine w72_39 (pg_o S1 ha1) ⟨i5 (by omega) (by omega), c.1, by rw [cl (by omega)]; exact hbk1, ?_⟩
    obtain ⟨q, hq, hqF, hq2, hq5⟩ := Bt_top B1
    refine ⟨pg_o S1 hq, fun e => ?_, fun e => ?_⟩
    · -- no split
      rw [pg_n S1 hq, show (4 : Int32) = nI 4 from rfl, nI_leI (by omega) (by omega)] at e
      refine w72_59 ?_
      have B2 := Bt_cnt B1 hq (lo' := 2) (hi' := 4) hq2 e
      refine K h1 σ1 (A.flatMap cE ++ (ec ++ C.flatMap cE)) (a :: (A.flatMap cF ++ (fc ++ C.flatMap cF))) N S1 ⟨p, A ++ (c.1, ec, fc, c.2.2.2) :: C, ha1, k2, k3, by omega, ?_, ?_, ?_, ?_, ?_, ?_⟩ (by rw [hes]; exact I1.ctx e6 e7) ?_ ndN hN1 ?_ (NP1.weak (by omega) (by omega))
      · rw [k5, e1]; simp
      · simp
      · simp
      · rw [← k8, e1, hd_append, hd_append]; rfl
      · refine (All_append _ _ _).mpr ⟨?_, B2, ?_⟩
        · refine All_mono A _ (fun x hx y z => Bt_frame _ _ _ _ _ _ _ _ (fun b hb => frA b (List.mem_flatMap.mpr ⟨x, hx, hb⟩)) z) ?_
          exact kA
        · exact All_mono C _ (fun x hx y z => Bt_frame _ _ _ _ _ _ _ _ (fun b hb => frC b (List.mem_flatMap.mpr ⟨x, hx, hb⟩)) z) kC
      · rw [e1, List.map_append, List.map_cons] at k10
        rw [e2] at k10 ⊢
        rw [List.map_append, List.map_cons]
        obtain ⟨g1, g2⟩ := Sp_in (A.map cE) KA (cE c :: C.map cE) KB (by simpa using e3) (List.cons_ne_nil _ _) k10
        refine Sp_pre (A.map cE) KA (cE c :: C.map cE) _ KB KB (by simpa using e3) k10 (List.cons_ne_nil _ _) (fun k hk e he => ?_) ?_
        · rw [List.flatten_cons, List.mem_append] at he
          rcases he with he | he
          · rcases (I1.mem e).mp he with he | rfl
            · exact g2 k hk e (by rw [List.flatten_cons]; exact List.mem_append_left _ he)
            · exact e5 k hk
          · exact g2 k hk e (by rw [List.flatten_cons]; exact List.mem_append_right _ he)
        · rcases e8 with ⟨rfl, rfl⟩ | ⟨k, KB', rfl, hk, _⟩
          · rfl
          · obtain ⟨⟨g3, g4⟩, g5⟩ := g1
            refine ⟨⟨fun e he => ?_, g4⟩, g5⟩
            rcases (I1.mem e).mp he with he | rfl
            · exact g3 e he
            · exact hk
      · rw [hfp, List.perm_iff_count]
        rw [List.perm_iff_count] at P1
        intro x
        have := P1 x
        simp only [List.count_append, List.count_cons] at this ⊢
        omega
      · intro b hb hb2
        refine fr1 b (fun q => hb ?_) hb2
        rw [hfp]; exact List.mem_cons_of_mem _ (List.mem_append_right _ (List.mem_append_left _ q))
    · -- split
      rw [pg_n S1 hq, show (4 : Int32) = nI 4 from rfl, nI_ltI (by omega) (by omega)] at e
      have h5 : (pK q).length = 5 := by omega
      obtain ⟨mid, hm⟩ : ∃ mid, (pK q)[2]? = some mid := ⟨(pK q)[2]'(by omega), List.getElem?_eq_getElem (by omega)⟩
      have N1l := NP1.2.1
      have N1s := NP1.2.2.1
      have N1n := NP1.1
      have hac : a ≠ c.1 := fun q => ma (q ▸ Bt_mem kc)
      rw [show n + 2 + d = (n + 1 + d) + 1 by omega]
      refine m73 (mid := mid) S1 ha1 (by omega) hbk hq h5 hac (by omega) (by omega) hm ?_
      intro h2 σ2 S2 sa sb sc so NP2 n2
      refine w72_59 ?_
      have ndfc : fc.Nodup := nd_perm P1 (List.nodup_append.mpr ⟨ndN, ndc, fun x hx y hy => by
        rintro rfl
        obtain ⟨pb, hpb⟩ := Bt_dom _ _ _ _ _ _ _ _ kc x hy
        have := pg_lt S hpb
        have := hN1 x hx
        omega⟩)
      have cnew : ∀ b ∈ fc, b ≠ hN h1 := fun b hb q => by
        obtain ⟨pb, hpb⟩ := Bt_dom _ _ _ _ _ _ _ _ B1 b hb
        have := pg_lt S1 hpb
        omega
      have afc : a ∉ fc := fun q => by
        rcases (fcm a).mp q with q | q
        · have := hN1 a q
          have := pg_lt S k1
          omega
        · exact ma q
      obtain ⟨x1, x2, f1, f2, fs2, z1, z2, z3, z4, z5, z6, z7⟩ := split_law (σ' := σ2) (c := hN h1) B1 (I1.srt st1) ndfc hq h5 hm sb sc (fun x hx hxb => so x (fun q => afc (q ▸ hx)) hxb (cnew x hx))
      have fr2 : ∀ b, b < hN h → b ∉ fc → b ≠ a → σ2 b = σ1 b := fun b hb hb2 hb3 => so b hb3 (fun q => hb2 (q ▸ Bt_mem B1)) (by omega)
      have frA2 : ∀ b ∈ A.flatMap cF, σ2 b = σ b := by
        intro b hb
        obtain ⟨x, hx, hbx⟩ := List.mem_flatMap.mp hb
        obtain ⟨A1, A2, hA⟩ := List.append_of_mem hx
        rw [hA] at kA
        obtain ⟨pb, hpb⟩ := Bt_dom _ _ _ _ _ _ _ _ ((All_append A1 (x :: A2) _).mp kA).2.1 b hbx
        refine (fr2 b (pg_lt S hpb) (fun q => ?_) (fun q => nda (q ▸ List.mem_append_left _ hb))).trans (frA b hb)
        rcases (fcm b).mp q with q | q
        · have := hN1 b q
          have := pg_lt S hpb
          omega
        · exact ndx b hb b (List.mem_append_left _ q) rfl
      have frC2 : ∀ b ∈ C.flatMap cF, σ2 b = σ b := by
        intro b hb
        obtain ⟨x, hx, hbx⟩ := List.mem_flatMap.mp hb
        obtain ⟨A1, A2, hA⟩ := List.append_of_mem hx
        rw [hA] at kC
        obtain ⟨pb, hpb⟩ := Bt_dom _ _ _ _ _ _ _ _ ((All_append A1 (x :: A2) _).mp kC).2.1 b hbx
        refine (fr2 b (pg_lt S hpb) (fun q => ?_) (fun q => nda (q ▸ List.mem_append_right _ (List.mem_append_right _ hb)))).trans (frC b hb)
        rcases (fcm b).mp q with q | q
        · have := hN1 b q
          have := pg_lt S hpb
          omega
        · exact ndy b q b hb rfl
      have lK : ((pK p).insertIdx A.length mid).length = (pK p).length + 1 := by rw [List.length_insertIdx, if_pos hi1]
      refine K h2 σ2 (A.flatMap cE ++ (ec ++ C.flatMap cE)) (a :: (A.flatMap cF ++ (f1 ++ (f2 ++ C.flatMap cF)))) (hN h1 :: N) S2 ⟨_, A ++ (c.1, x1, f1, c.2.2.2) :: (hN h1, x2, f2, fs2) :: C, sa, k2, ?_, ?_, ?_, ?_, ?_, ?_, ?_, ?_⟩ (by rw [hes]; exact I1.ctx e6 e7) ?_ ?_ ?_ ?_ ((NP1.trans NP2).weak (by omega) (by omega))
      · show lo ≤ ((pK p).insertIdx A.length mid).length
        omega
      · show ((pK p).insertIdx A.length mid).length ≤ 5
        omega
      · show (pB p).insertIdx (A.length + 1) (some (hN h1)) = _
        rw [k5, e1]
        have := ins_at1 (A.map (fun c => some c.1)) (C.map (fun c => some c.1)) (some c.1) (some (hN h1))
        simpa using this
      · rw [z1]; simp
      · simp
      · rw [← k8, e1, hd_append, hd_append]; rfl
      · refine (All_append _ _ _).mpr ⟨?_, z2, z3, ?_⟩
        · refine All_mono A _ (fun x hx y z => Bt_frame _ _ _ _ _ _ _ _ (fun b hb => frA2 b (List.mem_flatMap.mpr ⟨x, hx, hb⟩)) z) ?_
          exact kA
        · exact All_mono C _ (fun x hx y z => Bt_frame _ _ _ _ _ _ _ _ (fun b hb => frC2 b (List.mem_flatMap.mpr ⟨x, hx, hb⟩)) z) kC
      · show Sp _ ((pK p).insertIdx A.length mid)
        rw [e1, List.map_append, List.map_cons] at k10
        rw [e2] at k10 ⊢
        rw [e3, ins_at, List.map_append, List.map_cons, List.map_cons]
        obtain ⟨g1, g2⟩ := Sp_in (A.map cE) KA (cE c :: C.map cE) KB (by simpa using e3) (List.cons_ne_nil _ _) k10
        have hin : ∀ e, (e ∈ x1 ∨ e ∈ x2) → e ∈ cE c ∨ e = (key, row) := fun e he => (I1.mem e).mp (by rw [z1]; exact List.mem_append.mpr he)
        refine Sp_pre (A.map cE) KA (cE c :: C.map cE) _ KB _ (by simpa using e3) k10 (List.cons_ne_nil _ _) (fun k hk e he => ?_) ?_
        · rw [List.flatten_cons, List.flatten_cons, List.mem_append, List.mem_append] at he
          have : e ∈ cE c ∨ e = (key, row) ∨ e ∈ (C.map cE).flatten := by
            rcases he with he | he | he
            · rcases hin e (Or.inl he) with q | q
              · exact Or.inl q
              · exact Or.inr (Or.inl q)
            · rcases hin e (Or.inr he) with q | q
              · exact Or.inl q
              · exact Or.inr (Or.inl q)
            · exact Or.inr (Or.inr he)
          rcases this with q | rfl | q
          · exact g2 k hk e (by rw [List.flatten_cons]; exact List.mem_append_left _ q)
          · exact e5 k hk
          · exact g2 k hk e (by rw [List.flatten_cons]; exact List.mem_append_right _ q)
        · rcases e8 with ⟨rfl, rfl⟩ | ⟨k, KB', rfl, hk, _⟩
          · exact ⟨⟨z4, fun e he => z5 e (by simpa using he)⟩, rfl⟩
          · obtain ⟨⟨g3, g4⟩, g5⟩ := g1
            have lk : ∀ e, (e ∈ x1 ∨ e ∈ x2) → e.1 < k := fun e he => by
              rcases hin e he with q | rfl
              · exact g3 e q
              · exact hk
            obtain ⟨y, hy⟩ : ∃ y, y ∈ x2 := by
              cases hx : x2 with
              | nil => exact absurd hx z6
              | cons y _ => exact ⟨y, List.mem_cons_self⟩
            refine ⟨⟨z4, fun e he => ?_⟩, ⟨fun e he => lk e (Or.inr he), g4⟩, g5⟩
            rw [List.flatten_cons, List.mem_append] at he
            rcases he with he | he
            · exact z5 e he
            · exact Int64.le_trans (Int64.le_of_lt (Int64.lt_of_le_of_lt (z5 y hy) (lk y (Or.inr hy)))) (g4 e he)
      · rw [hfp, List.perm_iff_count]
        rw [List.perm_iff_count] at P1 z7
        intro x
        have := P1 x
        have := z7 x
        simp only [List.count_append, List.count_cons] at *
        omega
      · refine List.nodup_cons.mpr ⟨fun q => ?_, ndN⟩
        exact cnew _ ((fcm _).mpr (Or.inl q)) rfl
      · intro b hb
        rcases List.mem_cons.mp hb with rfl | hb
        · exact N1n
        · exact hN1 b hb
      · intro b hb hb2
        have hb' : b ∉ fc := fun q => by
          rcases (fcm b).mp q with q | q
          · have := hN1 b q; omega
          · exact hb (by rw [hfp]; exact List.mem_cons_of_mem _ (List.mem_append_right _ (List.mem_append_left _ q)))
        refine (fr2 b hb2 hb' (fun q => hb (by rw [hfp, q]; exact List.mem_cons_self))).trans (fr1 b (fun q => hb' ((fcm b).mpr (Or.inr q))) hb2)
