/-! deps: 25 26 27 28 32 34 36 37 38 39 40 41 42 43 44 45 46 47 48 49 50 51 52 53 54 55 56 57 58 59 60 -/
/-! ===== THE COMPONENT: word, clear, find, cell, keyFrom ===== -/
theorem SI.wrd {s : St} {w : Int32} (I : SI s) : SI (oWrd s w).2 := by
  unfold oWrd
  split
  · exact I
  · rename_i hne
    obtain ⟨i1, i2, i3, i4, i5, i6, i7, i8⟩ := I
    refine ⟨i1, i2, i3, i4, i5, i6, ?_, i8⟩
    show (sW s ++ [w]).length ≤ 40
    rw [List.length_append, List.length_singleton]; omega
theorem m3 {d x : Nat} {w : Int32} {h : AH} {σ : PS} {s : St} {P : PT} (R : RelX h σ x s) (K : ∀ h', RelX h' σ x (oWrd s w).2 → XFr h h' x 0 0 → hN h' = hN h → P (.inl (some (vI (bI (oWrd s w).1)))) h') : Ev d 3 0 [vR (some x), vI w] [] h P := by
  have R0 := R
  obtain ⟨I, S, B, X, ta, tr, es, fp, rs, T⟩ := R
  have I' := I.wrd (w := w)
  have l40 : (sW s).length ≤ 40 := I.2.2.2.2.2.2.1
  have e1 := X.2.2.2.1
  refine w3_0 B.1 ⟨fun g => ?_, fun g => ?_⟩
  · rw [e1] at g ⊢
    have hne : ¬ (sW s).length = 40 := fun q => g (by rw [q]; rfl)
    rw [cl (by omega), nI_1]
    have e : oWrd s w = (true, (sN s, sK s, sX s, sG s, sR s, sW s ++ [w], sV s, sO s)) := if_neg hne
    rw [e] at K I'
    have t1 : TF h (wI h x 56 (nI ((sW s).length + 1))) := tf_wI S.1 B.n0
    have B1 : XB (wI h x 56 (nI ((sW s).length + 1))) x := B.keep rfl rfl
    have t2 : TF h (wI (wI h x 56 (nI ((sW s).length + 1))) (x + 3) (sW s).length w) := t1.trans (tf_wI S.1 B1.n3) S.1 (Nat.le_refl _)
    refine ⟨i5 (by omega) (by omega), K _ ⟨I', ps_pu S t2.pu, B.keep rfl rfl, ?_, ta, tr, es, fp, rs, XT_st (XT_keep I T S.1 B.x1 t2) rfl rfl rfl rfl⟩ ((xf_wI S.1 x 0 _ _ (by omega)).trans (xf_wI (h := wI h x 56 (nI ((sW s).length + 1))) S.1 x 3 _ _ (by omega))) rfl⟩
    obtain ⟨x1, x2, x3, x4, x5, x6, x7, x8⟩ := X
    have f0 : ∀ b j, (b = x → j ≠ 56) → b ≠ x + 3 → hI (wI (wI h x 56 (nI ((sW s).length + 1))) (x + 3) (sW s).length w) b j = hI h b j := fun b j h1 h2 => by
      rw [hI_wI, if_neg (fun q => h2 q.1), hI_wI, if_neg (fun q => h1 q.1 q.2)]
    refine ⟨(f0 _ _ (fun _ => by decide) (by omega)).trans x1, (f0 _ _ (fun _ => by decide) (by omega)).trans x2, fun c hc => (f0 _ _ (fun q => by omega) (by omega)).trans (x3 c hc), ?_, fun i v hv => ?_, (f0 _ _ (fun _ => by decide) (by omega)).trans x6, (f0 _ _ (fun _ => by decide) (by omega)).trans x7, fun i v hv => (f0 _ _ (fun q => by omega) (by omega)).trans (x8 i v hv)⟩
    · rw [hI_wI, if_neg (by omega), hI_wI, if_pos ⟨rfl, rfl⟩]
      show _ = nI (sW s ++ [w]).length
      rw [List.length_append, List.length_singleton]
    · have hv : (sW s ++ [w])[i]? = some v := hv
      by_cases ei : i = (sW s).length
      · rw [hI_wI, if_pos ⟨rfl, ei⟩]
        rw [ei] at hv; simpa using hv
      · rw [hI_wI, if_neg (fun q => ei q.2), hI_wI, if_neg (by omega)]
        refine x5 i v ?_
        rw [List.getElem?_append] at hv
        split at hv
        · exact hv
        · rw [List.getElem?_eq_none (by simp; omega)] at hv; cases hv
  · rw [e1, show (40 : Int32) = nI 40 from rfl, nI_eq (by omega) (by omega)] at g
    have e : oWrd s w = (false, s) := if_pos g
    rw [e] at K
    exact K h R0 (XFr.refl S.1 x) rfl
theorem m4 {d x : Nat} {h : AH} {σ : PS} {s : St} {P : PT} (R : RelX h σ x s) (K : ∀ h', RelX h' σ x (oClr s).2 → XFr h h' x 0 0 → hN h' = hN h → P (.inl (some (vI (oClr s).1))) h') : Ev d 4 0 [vR (some x), vU] [] h P := by
  obtain ⟨I, S, B, X, ta, tr, es, fp, rs, T⟩ := R
  refine w4_0 B.1 ?_
  have t1 : TF h (wI h x 56 0) := tf_wI S.1 B.n0
  obtain ⟨x1, x2, x3, x4, x5, x6, x7, x8⟩ := X
  rw [x4]
  obtain ⟨i1, i2, i3, i4, i5, i6, i7, i8⟩ := I
  have f0 : ∀ b j, (b = x → j ≠ 56) → hI (wI h x 56 0) b j = hI h b j := fun b j h1 => by rw [hI_wI, if_neg (fun q => h1 q.1 q.2)]
  refine K _ ⟨⟨i1, i2, i3, i4, i5, i6, Nat.zero_le _, i8⟩, ps_pu S t1.pu, B.keep rfl rfl, ⟨(f0 _ _ (fun _ => by decide)).trans x1, (f0 _ _ (fun _ => by decide)).trans x2, fun c hc => (f0 _ _ (fun q => by omega)).trans (x3 c hc), by rw [hI_wI, if_pos ⟨rfl, rfl⟩]; rfl, fun i v hv => (by cases hv), (f0 _ _ (fun _ => by decide)).trans x6, (f0 _ _ (fun _ => by decide)).trans x7, fun i v hv => (f0 _ _ (fun q => by omega)).trans (x8 i v hv)⟩, ta, tr, es, fp, rs, XT_st (XT_keep ⟨i1, i2, i3, i4, i5, i6, i7, i8⟩ T S.1 B.x1 t1) rfl rfl rfl rfl⟩ (xf_wI S.1 x 0 _ _ (by omega)) rfl
/-- the private find: a table, or an exception -/
theorem m12 {d x : Nat} {t : Int32} {h : AH} {σ : PS} {s : St} {P : PT} (R : RelX h σ x s) (hc : 1 ≤ hC h) (hs : 6 ≤ hS h) {ta : Nat → Nat} (hta : ∀ j, j < sN s → hR h (x + 1) j = some (ta j))
    (K1 : isC t (sN s) = false → P (.inr (hN h)) (al h (52, 0) 6)) (K2 : ∀ j, j < sN s → t = nI j → P (.inl (some (vR (some (ta j))))) h) : Ev d 12 0 [vR (some x), vI t] [] h P := by
  obtain ⟨I, S, B, X, _⟩ := R
  have h4 := I.1
  have e1 := X.1
  refine w12_0 B.1 ⟨fun g => ⟨hc, hs, K1 ?_⟩, fun g => ⟨fun g2 => ?_, fun g2 => ⟨hc, hs, K1 ?_⟩⟩⟩
  · unfold isC; simp only [decide_eq_false_iff_not, not_and]; exact fun q => absurd g (Int32.not_lt.mpr q)
  · rw [e1] at g2
    have hcc : isC t (sN s) = true := by unfold isC; simp only [decide_eq_true_eq]; exact ⟨g, g2⟩
    obtain ⟨j, hj, rfl⟩ := isC_of hcc (by omega)
    exact ⟨i5 (by omega) (by omega), ta j, by rw [cl (by omega)]; exact hta j hj, K2 j hj rfl⟩
  · rw [e1] at g2
    unfold isC; simp only [decide_eq_false_iff_not, not_and]; exact fun _ => Int32.not_lt.mpr g2
/-- a new exception, or whatever else is new, leaves all as it is -/
theorem RelX.ax {h h' : AH} {σ : PS} {x : Nat} {s : St} {c u : Nat} (R : RelX h σ x s) (a : AX h h' c u) (w : HW h') : RelX h' σ x s := by
  obtain ⟨I, S, B, X, ta, tr, es, fp, rs, T⟩ := R
  have k : ∀ {b t}, hT h b = some t → (hT h' b = some t) ∧ (∀ j, hI h' b j = hI h b j) ∧ ∀ j, hR h' b j = hR h b j := fun {b t} hb => by
    have := a.2.2.2 b (S.1.lt hb)
    exact ⟨by rw [this.1]; exact hb, this.2.1, this.2.2.2⟩
  have k0 := k B.1.1
  have k1 := k B.x1
  have k2 := k B.x2
  have k3 := k B.x3
  have k4 := k B.x4
  have k5 := k B.x5
  have k6 := k B.x6
  refine ⟨I, ps_pu S (a.pu w), ?_, ?_, ta, tr, es, fp, rs, XT_keep I T S.1 B.x1 (a.tf w)⟩
  · obtain ⟨⟨o1, ⟨o2, p2⟩, ⟨o3, p3⟩, ⟨o4, p4⟩, ⟨o5, p5⟩, ⟨o6, p6⟩, ⟨o7, p7⟩, _⟩, b2, b3⟩ := B
    exact ⟨⟨k0.1, ⟨by rw [k0.2.2]; exact o2, k1.1⟩, ⟨by rw [k0.2.2]; exact o3, k2.1⟩, ⟨by rw [k0.2.2]; exact o4, k3.1⟩, ⟨by rw [k0.2.2]; exact o5, k4.1⟩, ⟨by rw [k0.2.2]; exact o6, k5.1⟩, ⟨by rw [k0.2.2]; exact o7, k6.1⟩, trivial⟩, by rw [k4.2.2]; exact b2, by rw [k4.2.2]; exact b3⟩
  · obtain ⟨x1, x2, x3, x4, x5, x6, x7, x8⟩ := X
    exact ⟨by rw [k0.2.1]; exact x1, by rw [k0.2.1]; exact x2, fun c hc => by rw [k2.2.1]; exact x3 c hc, by rw [k0.2.1]; exact x4, fun i v hv => by rw [k3.2.1]; exact x5 i v hv, by rw [k0.2.1]; exact x6, by rw [k0.2.1]; exact x7, fun i v hv => by rw [k6.2.1]; exact x8 i v hv⟩
/-- an exception thrown by the component: its class, and all as before -/
def Thr (h : AH) (σ : PS) (x : Nat) (s : St) (e : Nat) (P : PT) : Prop := ∀ a h', RelX h' σ x s → XFr h h' x 10 40 → hT h' a = some (e, 0) → P (.inr a) h'
theorem act0 {s : St} (I : SI s) {j : Nat} (hj : j < sN s) : actS s (4 * j) := by
  unfold actS
  rw [show 4 * j / 4 = j by omega, show 4 * j % 4 = 0 by omega]
  exact (I.2.1 j hj).2.2
theorem cols0 {h : AH} {σ : PS} {x : Nat} {s : St} {ta tr : TrF} {es : EsF} {fp : FpF} {rs : RsF} (I : SI s) (T : XT h σ x s ta tr es fp rs) {j : Nat} (hj : j < sN s) : hR h (ta j + 1) 0 = some (tr (4 * j)) := by
  obtain ⟨a1, a2, a3, a4, a5⟩ := T.1 j hj
  rcases a5 0 (by have := (I.2.1 j hj).1; omega) with q | q
  · exact q.2
  · exact absurd (act0 I hj) q.1
/-- Table.find over the pure rows -/
theorem m63x {d x j : Nat} {key : Int32} {h : AH} {σ : PS} {s : St} {P : PT} {ta tr : TrF} {es : EsF} {fp : FpF} {rs : RsF} (I : SI s) (S : PSt h σ) (T : XT h σ x s ta tr es fp rs) (hj : j < sN s)
    (K1 : (∀ w ∈ sR s, ¬ isK j key w) → (∀ r ∈ rs j, hI h (r + 1) 0 ≠ key) → P (.inl (some (vR none))) h)
    (K2 : ∀ r, r ∈ rs j → hI h (r + 1) 0 = key → (∃ w ∈ sR s, isK j key w ∧ ∀ c, c < sK s j → w.2 c = hI h (r + 1) c) → P (.inl (some (vR (some r)))) h) : Ev (d + 3) 63 0 [vR (some (ta j)), vI key] [] h P := by
  obtain ⟨a1, a2, a3, a4, a5⟩ := T.1 j hj
  have ha := act0 I hj
  obtain ⟨n, Tr⟩ := T.2.2.1.1 (4 * j) ha
  obtain ⟨z1, z2⟩ := T.2.2.2.2 (4 * j) ha
  rw [show 4 * j / 4 = j by omega, show 4 * j % 4 = 0 by omega] at z2
  obtain ⟨b1, b2, b3, b4, b5, b6⟩ := T.2.2.2.1 j hj
  have k1 := (I.2.1 j hj).1
  refine m63 S a2 (cols0 I T hj) Tr (fun r hr => ?_)
  rcases hr with ⟨rfl, q⟩ | ⟨row, rfl, q⟩
  · have hr : ∀ r ∈ rs j, hI h (r + 1) 0 ≠ key := fun r hr e => q (plc key key, r) ((z2 _).mpr ⟨hr, by rw [e]⟩) rfl
    refine K1 (fun w hw hk => ?_) hr
    obtain ⟨r, r1, r2⟩ := b6 w hw hk.1
    exact hr r r1 (by rw [r2 0 (by omega)]; exact hk.2)
  · obtain ⟨q1, q2⟩ := (z2 _).mp q
    have hk := (plc_inj q2).1
    obtain ⟨w, w1, w2, w3⟩ := b5 row q1
    exact K2 row q1 hk.symm ⟨w, w1, ⟨w2, by rw [w3 0 (by omega)]; exact hk.symm⟩, w3⟩
theorem ck_out {d M : Nat} {P : PT} {pc : Nat} {ls rest : List AV} {a e n : Nat} {h : AH} (ht : hT h a = some (e, n)) (h1 : 50 ≤ e ∧ e < 55) (hf : hfnd (mH M) pc e = none) (k : P (.inr a) h) : CK d M P pc ls rest (.inr a) h := thr_out ht h1 hf k
theorem ck_in {d M : Nat} {P : PT} {pc hp : Nat} {ls rest : List AV} {a e n : Nat} {h : AH} (ht : hT h a = some (e, n)) (h1 : 50 ≤ e ∧ e < 55) (hf : hfnd (mH M) pc e = some hp) (k : Ev (d + 1) M hp ls [vR (some a)] h P) : CK d M P pc ls rest (.inr a) h := thr_in ht h1 hf k
/-- wanted -/
theorem m15 {d x j : Nat} {key : Int32} {h : AH} {σ : PS} {s : St} {P : PT} {ta tr : TrF} {es : EsF} {fp : FpF} {rs : RsF} (I : SI s) (S : PSt h σ) (T : XT h σ x s ta tr es fp rs) (hj : j < sN s) (hc : 1 ≤ hC h) (hs : 6 ≤ hS h)
    (K1 : (∀ w ∈ sR s, ¬ isK j key w) → P (.inr (hN h)) (al h (54, 0) 6))
    (K2 : ∀ r, r ∈ rs j → hI h (r + 1) 0 = key → (∃ w ∈ sR s, isK j key w ∧ ∀ c, c < sK s j → w.2 c = hI h (r + 1) c) → P (.inl (some (vR (some r)))) h) : Ev (d + 4) 15 0 [vR (some (ta j)), vI key, vU] [] h P := by
  refine w15_0 (T.1 j hj).2.1 ?_
  refine m63x I S T hj (fun q _ => ?_) (fun r r1 r2 r3 => ?_)
  · exact w15_5 ⟨fun _ => ⟨hc, hs, K1 q⟩, fun g => absurd rfl g⟩
  · exact w15_5 ⟨fun g => (by cases g), fun _ => K2 r r1 r2 r3⟩
/-- cell: an answer, or an exception by its code (1: 52, 2: 54) -/
theorem m16 {d x : Nat} {t key cc : Int32} {h : AH} {σ : PS} {s : St} {P : PT} (R : RelX h σ x s) (hc : 1 ≤ hC h) (hs : 6 ≤ hS h)
    (K0 : ∀ v, CelO s t key cc 0 v → P (.inl (some (vI v))) h) (K1 : CelO s t key cc 1 0 → P (.inr (hN h)) (al h (52, 0) 6)) (K2 : CelO s t key cc 2 0 → P (.inr (hN h)) (al h (54, 0) 6)) : Ev (d + 6) 16 0 [vR (some x), vI t, vI key, vI cc, vU] [] h P := by
  have R0 := R
  obtain ⟨I, S, B, X, ta, tr, es, fp, rs, T⟩ := R
  have h4 := I.1
  have tx : hT (al h (52, 0) 6) (hN h) = some (52, 0) := by rw [hT_al, if_pos rfl]
  have tx4 : hT (al h (54, 0) 6) (hN h) = some (54, 0) := by rw [hT_al, if_pos rfl]
  refine w16_0 B.1 ?_
  refine m12 R0 hc hs (fun j hj => (T.1 j hj).1) (fun g => ?_) (fun j hj e => ?_)
  · exact ck_out tx (by decide) rfl (K1 (Or.inl ⟨fun q => (by rw [g] at q; cases q.1), rfl, rfl⟩))
  · subst e
    have cj : (nI j).toNatClampNeg = j := nI_clamp (by omega)
    obtain ⟨a1, a2, a3, a4, a5⟩ := T.1 j hj
    have hK := I.2.1 j hj
    refine w16_5 a2 ?_
    refine m58 a2 a3 ?_
    have it : isC (nI j) (sN s) = true := isC_n hj (by omega)
    refine w16_13 ⟨fun g => ?_, fun g => ⟨hc, hs, ?_⟩⟩
    · rw [bI_0, Bool.not_eq_false] at g
      obtain ⟨b, hb, rfl⟩ := isC_of g (by omega)
      have gg : isC (nI j) (sN s) = true ∧ isC (nI b) (sK s (nI j).toNatClampNeg) = true := ⟨it, by rw [cj]; exact g⟩
      refine m15 I S T hj hc hs (fun q => ?_) (fun r r1 r2 r3 => ?_)
      · exact ck_out tx4 (by decide) rfl (K2 (Or.inr (Or.inl ⟨gg, by rw [cj]; exact q, rfl, rfl⟩)))
      · refine w16_32 ((T.2.2.2.1 j hj).1 r r1) ⟨i5 (by omega) (by omega), ?_⟩
        rw [cl (by omega)]
        obtain ⟨w, w1, w2, w3⟩ := r3
        exact K0 _ (Or.inr (Or.inr ⟨gg, w, w1, by rw [cj]; exact w2, rfl, by rw [nI_clamp (by omega), w3 b hb]⟩))
    · rw [bI_0] at g
      exact K1 (Or.inl ⟨fun q => (by rw [cj, g] at q; cases q.2), rfl, rfl⟩)
