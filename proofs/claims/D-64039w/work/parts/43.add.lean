/-! deps: 25 26 27 36 37 38 39 40 41 42 -/
/-! ===== TREE: add, leafFor, find ===== -/
def rlo (n : Nat) : Nat := if n = 0 then 0 else 1
/-- a tree object: its height, entries, pages -/
def Tre (h : AH) (σ : PS) (t n : Nat) (es : List En) (fp : List Nat) : Prop := hT h t = some (14, 0) ∧ fp.Nodup ∧ Srt es ∧ ∃ root fs, hR h t 106 = some root ∧ Bt σ n (rlo n) 4 root es fp fs none
/-- what isn't part of a page, nor the object t, stays -/
def NPt (h h' : AH) (t c s : Nat) : Prop := hN h ≤ hN h' ∧ hC h ≤ hC h' + c ∧ hS h ≤ hS h' + s ∧ (∀ b, b < hN h → hT h' b = hT h b) ∧
  ∀ b, b < hN h → ¬ pgt (hT h b) → b ≠ t → (∀ j, hI h' b j = hI h b j) ∧ (∀ j, hL h' b j = hL h b j) ∧ ∀ j, hR h' b j = hR h b j
theorem NP.t {h h' : AH} {t c s : Nat} (a : NP h h' c s) : NPt h h' t c s := ⟨a.1, a.2.1, a.2.2.1, a.2.2.2.1, fun b hb hn _ => a.2.2.2.2 b hb hn⟩
theorem NPt.trans {h h' h'' : AH} {t c c' s s' : Nat} (a : NPt h h' t c s) (b : NPt h' h'' t c' s') : NPt h h'' t (c + c') (s + s') := by
  obtain ⟨a1, a2, a3, a4, a5⟩ := a
  obtain ⟨b1, b2, b3, b4, b5⟩ := b
  refine ⟨by omega, by omega, by omega, fun q hq => (b4 q (by omega)).trans (a4 q hq), fun q hq hn ht => ?_⟩
  obtain ⟨x1, x2, x3⟩ := a5 q hq hn ht
  obtain ⟨y1, y2, y3⟩ := b5 q (by omega) (by rw [a4 q hq]; exact hn) ht
  exact ⟨fun j => (y1 j).trans (x1 j), fun j => (y2 j).trans (x2 j), fun j => (y3 j).trans (x3 j)⟩
theorem NPt.weak {h h' : AH} {t c c' s s' : Nat} (a : NPt h h' t c s) (hc : c ≤ c') (hs : s ≤ s') : NPt h h' t c' s' := by
  obtain ⟨a1, a2, a3, a4, a5⟩ := a
  exact ⟨a1, by omega, by omega, a4, a5⟩
theorem npt_wR {h : AH} {t : Nat} {r : Option Nat} : NPt h (wR h t 106 r) t 0 0 :=
  ⟨Nat.le_refl _, Nat.le_refl _, Nat.le_refl _, fun _ _ => rfl, fun b _ _ ht => ⟨fun _ => rfl, fun _ => rfl, fun j => by rw [hR_wR, if_neg (fun q => ht q.1)]⟩⟩
theorem pu_wR {h : AH} {t f n : Nat} {r : Option Nat} (w : HW h) (ht : hT h t = some (f, n)) (hp : ¬ pgt (hT h t)) {j : Nat} : PU h (wR h t j r) := by
  refine ⟨w, fun _ _ => rfl, fun b _ hb => ⟨fun _ => rfl, fun _ => rfl, fun i => ?_⟩⟩
  rw [hR_wR, if_neg]
  rintro ⟨rfl, _⟩; exact hp hb
theorem not_pgt {h : AH} {t c n : Nat} (ht : hT h t = some (c, n)) (h1 : (c, n) ≠ (7, 0)) (h2 : (c, n) ≠ (102, 5)) (h3 : (c, n) ≠ (103, 5)) (h4 : (c, n) ≠ (104, 6)) : ¬ pgt (hT h t) := by
  rintro (q | q | q | q) <;> rw [ht] at q
  · exact h1 (Option.some.inj q)
  · exact h2 (Option.some.inj q)
  · exact h3 (Option.some.inj q)
  · exact h4 (Option.some.inj q)
theorem npR {h h' : AH} {c s b k n : Nat} (a : NP h h' c s) (w : HW h) (ht : hT h b = some (k, n)) (hp : ¬ pgt (hT h b)) (j : Nat) : hR h' b j = hR h b j := (a.2.2.2.2 b (w.lt ht) hp).2.2 j
theorem npT {h h' : AH} {c s b : Nat} {t : Nat × Nat} (a : NP h h' c s) (w : HW h) (ht : hT h b = some t) : hT h' b = some t := by rw [a.2.2.2.1 b (w.lt ht)]; exact ht
theorem m71 {n d t : Nat} {es : List En} {fp : List Nat} {h : AH} {σ : PS} {key : Int64} {row : Nat} {P : PT} (S : PSt h σ) (T : Tre h σ t n es fp) (hn : ∀ e ∈ es, e.1 ≠ key) (hr : RT h (some row) 9) (hC0 : 4 * (n + 2) ≤ hC h) (hS0 : 22 * (n + 2) ≤ hS h)
    (K : ∀ h' σ' n' es' fp' N, PSt h' σ' → Tre h' σ' t n' es' fp' → InsR key row es es' → fp'.Perm (N ++ fp) → (∀ b ∈ N, hN h ≤ b) → (∀ b, b ∉ fp → b < hN h → σ' b = σ b) → NPt h h' t (4 * (n + 2)) (22 * (n + 2)) → P (.inl none) h') :
    Ev (n + 3 + d) 71 0 [vR (some t), vL key, vU, vR (some row), vU] [] h P := by
  obtain ⟨T1, T2, T3, root, fs, T4, T5⟩ := T
  rw [show n + 3 + d = (n + 2 + d) + 1 by omega]
  have hnp : ¬ pgt (hT h t) := not_pgt T1 (by decide) (by decide) (by decide) (by decide)
  refine w71_0 ⟨T1, trivial⟩ ⟨root, T4, ?_⟩
  refine m72 n d root (rlo n) es fp fs none h σ key row _ S T5 T2 T3 hn hr (by omega) (by omega) ?_
  intro h1 σ1 es1 fp1 N S1 B1 I1 P1 ndN hN1 fr1 NP1
  have T1' := npT NP1 S.1 T1
  have T4' := (npR NP1 S.1 T1 hnp 106).trans T4
  have nd1 : fp1.Nodup := nd_perm P1 (List.nodup_append.mpr ⟨ndN, T2, fun x hx y hy => by
    rintro rfl
    obtain ⟨pb, hpb⟩ := Bt_dom _ _ _ _ _ _ _ _ T5 x hy
    have := pg_lt S hpb
    have := hN1 x hx
    omega⟩)
  obtain ⟨q, hq, hqF, hq2, hq5⟩ := Bt_top B1
  refine w71_9 ⟨T1', trivial⟩ ⟨root, T4', pg_o S1 hq, fun e => ?_, fun e => ?_⟩
  · rw [pg_n S1 hq, show (4 : Int32) = nI 4 from rfl, nI_leI (by omega) (by omega)] at e
    refine w71_53 ?_
    exact K h1 σ1 n es1 fp1 N S1 ⟨T1', nd1, I1.srt T3, root, fs, T4', Bt_cnt B1 hq hq2 e⟩ I1 P1 hN1 fr1 (NP1.t.weak (by omega) (by omega))
  · rw [pg_n S1 hq, show (4 : Int32) = nI 4 from rfl, nI_ltI (by omega) (by omega)] at e
    have h5 : (pK q).length = 5 := by omega
    have N1l := NP1.2.1
    have N1s := NP1.2.2.1
    have N1n := NP1.1
    refine ⟨by omega, by omega, ?_⟩
    refine w71_23 ?_
    refine m44 (b := false) S1 (by omega) (by omega) (fun h2 S2 NP2 n2 => ?_)
    have hnp1 : ¬ pgt (hT h1 t) := not_pgt T1' (by decide) (by decide) (by decide) (by decide)
    have T1'' := npT NP2 S1.1 T1'
    have T4'' := (npR NP2 S1.1 T1' hnp1 106).trans T4'
    have hc2 := up_same σ1 (hN h1) (false, [], [], [none], none)
    have lr := pg_lt S1 hq
    have hq2' : up σ1 (hN h1) (false, [], [], [none], none) root = some q := (up_ne (by omega)).trans hq
    refine w71_28 (pg_o S2 hc2) ⟨T1'', trivial⟩ ⟨root, T4'', i5 (n := 0) (by decide) (by decide), pg_t S2 hq2', ?_⟩
    obtain ⟨S3, NP3⟩ := ps_wB (i := 0) (v := some root) S2 hc2 (by simp [pK]) (pg_t S2 hq2')
    have hc3 := up_same (up σ1 (hN h1) (false, [], [], [none], none)) (hN h1) (false, [], [], [some root], none)
    have ho3 : ∀ c, c ≠ hN h1 → up (up σ1 (hN h1) (false, [], [], [none], none)) (hN h1) (false, [], [], [some root], none) c = σ1 c := fun c hc => (up_ne hc).trans (up_ne hc)
    have n3 : hN (wR h2 (hN h1 + 3) 0 (some root)) = hN h1 + 4 := n2
    have T13 : hT (wR h2 (hN h1 + 3) 0 (some root)) t = some (14, 0) := T1''
    have T43 : hR (wR h2 (hN h1 + 3) 0 (some root)) t 106 = some root := (npR NP3 S2.1 T1'' (not_pgt T1'' (by decide) (by decide) (by decide) (by decide)) 106).trans T4''
    refine w71_41 ?_
    replace S3 : PSt (wR h2 (hN h1 + 3) 0 (some root)) (up (up σ1 (hN h1) (false, [], [], [none], none)) (hN h1) (false, [], [], [some root], none)) := S3
    have NP03 := (NP1.trans NP2).trans NP3
    have C3 := NP03.2.1
    have C4 := NP03.2.2.1
    generalize up (up σ1 (hN h1) (false, [], [], [none], none)) (hN h1) (false, [], [], [some root], none) = σ3 at S3 hc3 ho3
    change Ev (n + 2 + d) 73 0 _ _ (wR h2 (hN h1 + 3) 0 (some root)) _
    generalize wR h2 (hN h1 + 3) 0 (some root) = h3 at S3 NP3 NP03 n3 T13 T43 C3 C4 ⊢
    obtain ⟨mid, hm⟩ : ∃ mid, (pK q)[2]? = some mid := ⟨(pK q)[2]'(by omega), List.getElem?_eq_getElem (by omega)⟩
    rw [show n + 2 + d = (n + 1 + d) + 1 by omega]
    have hq3 : σ3 root = some q := (ho3 root (by omega)).trans hq
    refine m73 (k := 0) (mid := mid) S3 hc3 (by simp [pK]) rfl hq3 h5 (by omega) (by omega) (by omega) hm ?_
    intro h4 σ4 S4 sa sb sc so NP4 n4
    have T14 := npT NP4 S3.1 T13
    refine w71_47 ⟨T14, trivial⟩ ?_
    refine w71_53 ?_
    have hnp4 : ¬ pgt (hT h4 t) := not_pgt T14 (by decide) (by decide) (by decide) (by decide)
    have S5 := ps_pu S4 (pu_wR (j := 106) (r := some (hN h1)) S4.1 T14 hnp4)
    have fnew : ∀ b ∈ fp1, b < hN h1 := fun b hb => by
      obtain ⟨pb, hpb⟩ := Bt_dom _ _ _ _ _ _ _ _ B1 b hb
      exact pg_lt S1 hpb
    have B3 : Bt σ3 n 2 5 root es1 fp1 fs none := Bt_cnt (Bt_frame _ _ _ _ _ _ _ _ (fun b hb => ho3 b (by have := fnew b hb; omega)) B1) hq3 (by omega) (by omega)
    obtain ⟨x1, x2, f1, f2, fs2, z1, z2, z3, z4, z5, z6, z7⟩ := split_law (σ' := σ4) (c := hN h3) B3 (I1.srt T3) nd1 hq3 h5 hm sb sc (fun x hx hxb => so x (by have := fnew x hx; omega) hxb (by have := fnew x hx; omega))
    have hN13 : hN h ≤ hN h1 := N1n
    refine K _ σ4 (n + 1) es1 (hN h1 :: (f1 ++ f2)) (hN h1 :: hN h3 :: N) S5 ⟨T14, ?_, I1.srt T3, hN h1, fs, ?_, ?_⟩ I1 ?_ ?_ ?_ ((((NP03.trans NP4).t).trans npt_wR).weak (by omega) (by omega))
    · refine List.nodup_cons.mpr ⟨fun q => ?_, nd_perm z7 (List.nodup_cons.mpr ⟨fun q => ?_, nd1⟩)⟩
      · rcases List.mem_cons.mp (z7.mem_iff.mp q) with q | q
        · omega
        · have := fnew _ q; omega
      · have := fnew _ q; omega
    · rw [hR_wR, if_pos ⟨rfl, rfl⟩]
    · refine ⟨_, [(root, x1, f1, fs), (hN h3, x2, f2, fs2)], sa, rfl, ?_, ?_, rfl, ?_, ?_, rfl, ⟨z2, z3, trivial⟩, ?_⟩
      · exact (by decide : 1 ≤ 1)
      · exact (by decide : 1 ≤ 4)
      · rw [z1]; simp
      · simp
      · exact ⟨⟨z4, fun e he => z5 e (by simpa using he)⟩, rfl⟩
    · rw [List.perm_iff_count]
      rw [List.perm_iff_count] at P1 z7
      intro x
      have := P1 x
      have := z7 x
      simp only [List.count_append, List.count_cons] at *
      omega
    · intro b hb
      rcases List.mem_cons.mp hb with rfl | hb
      · omega
      · rcases List.mem_cons.mp hb with rfl | hb
        · omega
        · exact hN1 b hb
    · intro b hb hb2
      have : b ∉ fp1 := fun q => by
        rcases List.mem_append.mp (P1.mem_iff.mp q) with q | q
        · have := hN1 b q; omega
        · exact hb q
      refine (so b (by omega) (fun q => this (q ▸ Bt_mem B1)) (by omega)).trans ((ho3 b (by omega)).trans (fr1 b hb hb2))
