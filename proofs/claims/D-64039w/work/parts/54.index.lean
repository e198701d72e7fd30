/-! deps: 25 26 27 28 34 36 37 38 39 40 41 42 43 44 45 46 47 48 49 50 51 52 53 -/
/-! ===== TABLE: index ===== -/
theorem InsR.len {key : Int64} {r : Nat} {es es' : List En} (k : InsR key r es es') : es'.length = es.length + 1 := by
  obtain ⟨X, Y, rfl, rfl, _, _⟩ := k
  simp only [List.length_append, List.length_cons]; omega
theorem row_n {h h' : AH} {r c s : Nat} (N : NP h h' c s) (w : HW h) (o : OB h r 9 kR) : OB h' r 9 kR ∧ (∀ j, hI h' (r + 1) j = hI h (r + 1) j) := by
  obtain ⟨o1, ⟨o2, o3⟩, _⟩ := o
  have o3 : hT h (r + 1) = some (100, 4) := o3
  have m1 := N.2.2.2.2 r (w.lt o1) (not_pgt o1 (by decide) (by decide) (by decide) (by decide))
  have m2 := N.2.2.2.2 (r + 1) (w.lt o3) (not_pgt o3 (by decide) (by decide) (by decide) (by decide))
  exact ⟨⟨npT N w o1, ⟨by rw [m1.2.2]; exact o2, npT N w o3⟩, trivial⟩, m2.1⟩
theorem tab_n {h h' : AH} {t c s : Nat} (N : NP h h' c s) (w : HW h) (o : OB h t 12 kT) : OB h' t 12 kT ∧ (∀ j, hI h' t j = hI h t j) ∧ (∀ j, hR h' (t + 1) j = hR h (t + 1) j) := by
  obtain ⟨o1, ⟨o2, o3⟩, _⟩ := o
  have o3 : hT h (t + 1) = some (105, 4) := o3
  have m1 := N.2.2.2.2 t (w.lt o1) (not_pgt o1 (by decide) (by decide) (by decide) (by decide))
  have m2 := N.2.2.2.2 (t + 1) (w.lt o3) (not_pgt o3 (by decide) (by decide) (by decide) (by decide))
  exact ⟨⟨npT N w o1, ⟨by rw [m1.2.2]; exact o2, npT N w o3⟩, trivial⟩, m1.1, m2.2.2⟩
theorem NPt.old {h h0 h' : AH} {t c s c' s' : Nat} (a : NP h0 h c s) (b : NPt h h' t c' s') (w : HW h0) (ht : hN h0 ≤ t) : NP h0 h' (c + c') (s + s') := by
  obtain ⟨a1, a2, a3, a4, a5⟩ := a
  obtain ⟨b1, b2, b3, b4, b5⟩ := b
  refine ⟨by omega, by omega, by omega, fun q hq => (b4 q (by omega)).trans (a4 q hq), fun q hq hn => ?_⟩
  obtain ⟨x1, x2, x3⟩ := a5 q hq hn
  obtain ⟨y1, y2, y3⟩ := b5 q (by omega) (by rw [a4 q hq]; exact hn) (by omega)
  exact ⟨fun j => (y1 j).trans (x1 j), fun j => (y2 j).trans (x2 j), fun j => (y3 j).trans (x3 j)⟩
theorem OO.old {h h0 h' : AH} {w c s : Nat} (a : NP h0 h c s) (b : OO h h' w) (hw : hN h0 ≤ w) : NP h0 h' c s := by
  obtain ⟨a1, a2, a3, a4, a5⟩ := a
  obtain ⟨b1, b2, b3, b4, b5⟩ := b
  refine ⟨by omega, by omega, by omega, fun q hq => by rw [b1]; exact a4 q hq, fun q hq hn => ?_⟩
  obtain ⟨x1, x2, x3⟩ := a5 q hq hn
  obtain ⟨y1, y2, y3⟩ := b5 q (by omega)
  exact ⟨fun j => (y1 j).trans (x1 j), fun j => (y2 j).trans (x2 j), fun j => (y3 j).trans (x3 j)⟩
theorem m60 {t c q0 : Nat} {act : Nat → Prop} {tr : TrF} {P : PT} {h : AH} {d : Nat} {σ : PS} {es : EsF} {fp : FpF} (S : PSt h σ) (R : Rg h σ act tr es fp) (o : OB h t 12 kT) (hc : c < 4) (ht : hR h (t + 1) 0 = some (tr q0)) (ha : act q0) (hna : ¬ act (q0 + c)) (hro : ∀ e ∈ es q0, OB h e.2 9 kR) (hch : ∀ e ∈ es q0, e.1 = plc (hI h (e.2 + 1) 0) (hI h (e.2 + 1) 0)) (hlen : (es q0).length ≤ 48) (hC0 : 1200 ≤ hC h) (hS0 : 6400 ≤ hS h)
    (K : ∀ h' σ' tn esn fpn, PSt (wR h' (t + 1) c (some tn)) σ' → Rg (wR h' (t + 1) c (some tn)) σ' (fun i => i = q0 + c ∨ act i) (fu tr (q0 + c) tn) (fu es (q0 + c) esn) (fu fp (q0 + c) fpn) → (∀ e, e ∈ esn ↔ ∃ x ∈ es q0, e = (plc (hI h (x.2 + 1) c) (hI h (x.2 + 1) 0), x.2)) → esn.length = (es q0).length → NP h h' 1200 6400 → P (.inl none) (wR h' (t + 1) c (some tn))) :
    Ev (10 + d) 60 0 [vR (some t), vI (nI c), vU, vU, vU] [] h P := by
  obtain ⟨n0, T0⟩ := R.1 q0 ha
  rw [show 10 + d = (9 + d) + 1 by omega]
  refine w60_0 ⟨by omega, by omega, ?_⟩
  refine w60_3 ?_
  rw [show 9 + d = (8 + d) + 1 by omega]
  refine m69 S (by omega) (by omega) (fun h1 σ1 S1 T1 f1 N1 n1 => ?_)
  have c1 := N1.2.1
  have s1 := N1.2.2.1
  refine w60_7 ⟨by omega, by omega, ?_⟩
  refine w60_11 ?_
  refine w81_0 ?_
  have S2 := ps_pu S1 ((ax_al h1 (15, 0) 3).pu (hw_al S1.1 _ _))
  have N2 := N1.trans (ax_al h1 (15, 0) 3).np
  have tw : hT (al h1 (15, 0) 3) (hN h1) = some (15, 0) := by rw [hT_al, if_pos rfl]
  obtain ⟨o2, _, oR2⟩ := tab_n N2 S.1 o
  have l0 := S.1.lt T0.1
  have T02 : Tre (al h1 (15, 0) 3) σ1 (tr q0) n0 (es q0) (fp q0) := T0.keep (N2.2.2.2.1 _ l0) ((N2.2.2.2.2 _ l0 (not_pgt T0.1 (by decide) (by decide) (by decide) (by decide))).2.2 106) (fun b hb => f1 b (T0.dom S b hb))
  have T12 : Tre (al h1 (15, 0) 3) σ1 (hN h) 0 [] [hN h + 1] := by
    have l1 := S1.1.lt T1.1
    have := (ax_al h1 (15, 0) 3).2.2.2 (hN h) l1
    exact T1.keep this.1 (this.2.2.2 106) (fun _ _ => rfl)
  refine w60_15 o2 ⟨tw, trivial⟩ ⟨i5 (n := 0) (by decide) (by decide), tr q0, by rw [oR2]; exact ht, ?_⟩
  rw [show (8 + d) + 1 = (7 + d) + 2 by omega]
  refine m82 S2 T02 tw (fun h3 X0 rem0 O3 W3 e3 x3 _ => ?_)
  have X0e : X0 = [] := by
    cases X0 with
    | nil => rfl
    | cons x X0 => exact absurd (x3 x List.mem_cons_self) (Int64.not_lt.mpr (Int64.minValue_le x.1))
  subst X0e
  have e3 : es q0 = rem0 := e3
  have S3 := ps_pu S2 (O3.pu S2.1 (wk_np tw))
  have wn : hN h1 ≠ hN h := by omega
  have T13 := T12.oo O3 (Ne.symm wn)
  have N3 : NP h h3 6 26 := (OO.old N2 O3 (by omega)).weak (by omega) (by omega)
  have n3 : hN h3 = hN h1 + 1 := O3.2.1.trans (hN_al _ _ _)
  -- the end
  have F : ∀ (h4 : AH) (σ4 : PS) (n : Nat) (esn : List En) (fpn : List Nat), PSt h4 σ4 → Tre h4 σ4 (hN h) n esn fpn → (∀ b ∈ fpn, hN h ≤ b) → (∀ b, b < hN h → σ4 b = σ b) → NP h h4 1200 6400 → (∀ e, e ∈ esn ↔ ∃ x ∈ es q0, e = (plc (hI h (x.2 + 1) c) (hI h (x.2 + 1) 0), x.2)) → esn.length = (es q0).length →
      Ev (9 + d + 1) 60 38 [vR (some t), vI (nI c), vR (some (hN h)), vR (some (hN h1)), vR none] [] h4 P := by
    intro h4 σ4 n esn fpn S4 T4 hf4 fr4 N4 m4 len4
    obtain ⟨o4, _, _⟩ := tab_n N4 S.1 o
    refine w60_38 o4 ⟨fun _ => ⟨i5 (by omega) (by omega), RT_some T4.1, ?_⟩, fun g => absurd rfl g⟩
    refine w60_71 ?_
    rw [cl (by omega)]
    have t5 : hT h4 (t + 1) = some (105, 4) := o4.2.1.2
    have np5 : ¬ pgt (hT h4 (t + 1)) := not_pgt t5 (by decide) (by decide) (by decide) (by decide)
    have S5 := ps_pu S4 (pu_wR (j := c) (r := some (hN h)) S4.1 t5 np5)
    have ot : hT h (t + 1) = some (105, 4) := o.2.1.2
    have lt1 := S.1.lt ot
    have ne5 : hN h ≠ t + 1 := by omega
    refine K h4 σ4 (hN h) esn fpn S5 (R.add S hna (T4.keep rfl ?_ (fun _ _ => rfl)) (Nat.le_refl _) hf4 fr4 (fun b hb => ?_)) m4 len4 N4
    · rw [hR_wR, if_neg (fun q => ne5 q.1)]
    · have lb := S.1.lt hb
      have nb : b ≠ t + 1 := ne_t hb ot (by decide)
      refine ⟨N4.2.2.2.1 b lb, ?_⟩
      rw [hR_wR, if_neg (fun q => nb q.1)]
      exact (N4.2.2.2.2 b lb (not_pgt hb (by decide) (by decide) (by decide) (by decide))).2.2 106
  -- the loop
  have L : ∀ (rem : List En) (X : List En) (x : En) (h4 : AH) (σ4 : PS) (n : Nat) (esn : List En) (fpn : List Nat), es q0 = X ++ x :: rem → PSt h4 σ4 → Tre h4 σ4 (hN h) n esn fpn → (∀ b ∈ fpn, hN h ≤ b) → (∀ b, b < hN h → σ4 b = σ b) → NP h h4 (6 + 24 * X.length) (26 + 132 * X.length) → (∀ e, e ∈ esn ↔ ∃ x ∈ X, e = (plc (hI h (x.2 + 1) c) (hI h (x.2 + 1) 0), x.2)) → esn.length = X.length → Wk h4 σ4 (hN h1) rem 9223372036854775807 (fp q0) →
      Ev (9 + d + 1) 60 38 [vR (some t), vI (nI c), vR (some (hN h)), vR (some (hN h1)), vR (some x.2)] [] h4 P := by
    intro rem
    induction rem with
    | nil =>
      intro X x h4 σ4 n esn fpn e4 S4 T4 hf4 fr4 N4 m4 len4 W4
      have lX : X.length ≤ 47 := by
        have := congrArg List.length e4
        simp only [List.length_append, List.length_cons, List.length_nil] at this; omega
      obtain ⟨o4, _, _⟩ := tab_n N4 S.1 o
      refine w60_38 o4 ⟨fun g => (by cases g), fun _ => ?_⟩
      have hx : x ∈ es q0 := by rw [e4]; simp
      obtain ⟨ro4, rI4⟩ := row_n N4 S.1 (hro x hx)
      rw [show 9 + d = (8 + d) + 1 by omega]
      refine m61 ro4 (by omega) ?_
      rw [rI4, rI4]
      have n4 := T4.low (by omega)
      have c4 := N4.2.1
      have s4 := N4.2.2.1
      refine w60_50 ⟨T4.1, trivial⟩ ?_
      rw [show (8 + d) + 1 = n + 3 + (6 - n + d) by omega]
      have fresh : ∀ e ∈ esn, e.1 ≠ plc (hI h (x.2 + 1) c) (hI h (x.2 + 1) 0) := by
        intro e he q
        obtain ⟨y, hy, rfl⟩ := (m4 e).mp he
        have hk := (plc_inj q).2
        have hy' : y ∈ es q0 := by rw [e4]; simp [hy]
        have e5 : y.1 = x.1 := by rw [hch y hy', hch x hx, hk]
        have st := T0.2.2.1
        unfold Srt at st
        rw [e4, List.pairwise_append] at st
        have := st.2.2 y hy x List.mem_cons_self
        rw [e5] at this; exact absurd this Int64.lt_irrefl
      refine m71 S4 T4 fresh (RT_some ro4.1) (by omega) (by omega) ?_
      intro h5 σ5 n5 es5 fp5 Nl S5 T5 I5 P5 hN5 fr5 NP5
      have N5 := NPt.old N4 NP5 S.1 (Nat.le_refl _)
      have tw4 : hT h4 (hN h1) = some (15, 0) := W4.1
      have wk5 := NP5.2.2.2.2 (hN h1) (S4.1.lt tw4) (wk_np tw4) wn
      have fr5' : ∀ b, b < hN h → σ5 b = σ b := fun b hb => (fr5 b (fun q => by have := hf4 b q; omega) (by have := N4.1; omega)).trans (fr4 b hb)
      have W5 := W4.keep (σ' := σ5) (NP5.2.2.2.1 _ (S4.1.lt tw4)) wk5.1 wk5.2.1 wk5.2.2 (fun b hb => by
        have := T0.dom S b hb
        rw [fr5' b this, fr4 b this])
      have hf5 : ∀ b ∈ fp5, hN h ≤ b := fun b hb => by
        rcases List.mem_append.mp (P5.mem_iff.mp hb) with q | q
        · have := hN5 b q; have := N4.1; omega
        · exact hf4 b q
      have m5 : ∀ e, e ∈ es5 ↔ ∃ y ∈ X ++ [x], e = (plc (hI h (y.2 + 1) c) (hI h (y.2 + 1) 0), y.2) := by
        intro e
        rw [I5.mem, m4]
        constructor
        · rintro (⟨y, hy, rfl⟩ | rfl)
          · exact ⟨y, List.mem_append_left _ hy, rfl⟩
          · exact ⟨x, by simp, rfl⟩
        · rintro ⟨y, hy, rfl⟩
          rcases List.mem_append.mp hy with hy | hy
          · exact Or.inl ⟨y, hy, rfl⟩
          · rw [List.mem_singleton.mp hy]; exact Or.inr rfl
      rw [show n + 3 + (6 - n + d) = (8 + d) + 1 by omega]
      refine w60_55 ⟨W5.1, trivial⟩ ?_
      refine m83' S5 W5 (fun _ h6 O6 W6 => ?_) (fun e rem' hr => (by cases hr))
      refine w60_59 ?_
      rw [show 8 + d + 1 + 1 = 9 + d + 1 by omega]
      have S6 := ps_pu S5 (O6.pu S5.1 (wk_np W5.1))
      refine F h6 σ5 n5 es5 fp5 S6 (T5.oo O6 (Ne.symm wn)) hf5 fr5' ((OO.old N5 O6 (by omega)).weak (by omega) (by omega)) ?_ ?_
      · rw [e4]; exact m5
      · rw [I5.len, len4, e4]; simp
    | cons z rem ih =>
      intro X x h4 σ4 n esn fpn e4 S4 T4 hf4 fr4 N4 m4 len4 W4
      have lX : X.length ≤ 46 := by
        have := congrArg List.length e4
        simp only [List.length_append, List.length_cons] at this; omega
      obtain ⟨o4, _, _⟩ := tab_n N4 S.1 o
      refine w60_38 o4 ⟨fun g => (by cases g), fun _ => ?_⟩
      have hx : x ∈ es q0 := by rw [e4]; simp
      obtain ⟨ro4, rI4⟩ := row_n N4 S.1 (hro x hx)
      rw [show 9 + d = (8 + d) + 1 by omega]
      refine m61 ro4 (by omega) ?_
      rw [rI4, rI4]
      have n4 := T4.low (by omega)
      have c4 := N4.2.1
      have s4 := N4.2.2.1
      refine w60_50 ⟨T4.1, trivial⟩ ?_
      rw [show (8 + d) + 1 = n + 3 + (6 - n + d) by omega]
      have fresh : ∀ e ∈ esn, e.1 ≠ plc (hI h (x.2 + 1) c) (hI h (x.2 + 1) 0) := by
        intro e he q
        obtain ⟨y, hy, rfl⟩ := (m4 e).mp he
        have hk := (plc_inj q).2
        have hy' : y ∈ es q0 := by rw [e4]; simp [hy]
        have e5 : y.1 = x.1 := by rw [hch y hy', hch x hx, hk]
        have st := T0.2.2.1
        unfold Srt at st
        rw [e4, List.pairwise_append] at st
        have := st.2.2 y hy x List.mem_cons_self
        rw [e5] at this; exact absurd this Int64.lt_irrefl
      refine m71 S4 T4 fresh (RT_some ro4.1) (by omega) (by omega) ?_
      intro h5 σ5 n5 es5 fp5 Nl S5 T5 I5 P5 hN5 fr5 NP5
      have N5 := NPt.old N4 NP5 S.1 (Nat.le_refl _)
      have tw4 : hT h4 (hN h1) = some (15, 0) := W4.1
      have wk5 := NP5.2.2.2.2 (hN h1) (S4.1.lt tw4) (wk_np tw4) wn
      have fr5' : ∀ b, b < hN h → σ5 b = σ b := fun b hb => (fr5 b (fun q => by have := hf4 b q; omega) (by have := N4.1; omega)).trans (fr4 b hb)
      have W5 := W4.keep (σ' := σ5) (NP5.2.2.2.1 _ (S4.1.lt tw4)) wk5.1 wk5.2.1 wk5.2.2 (fun b hb => by
        have := T0.dom S b hb
        rw [fr5' b this, fr4 b this])
      have hf5 : ∀ b ∈ fp5, hN h ≤ b := fun b hb => by
        rcases List.mem_append.mp (P5.mem_iff.mp hb) with q | q
        · have := hN5 b q; have := N4.1; omega
        · exact hf4 b q
      have m5 : ∀ e, e ∈ es5 ↔ ∃ y ∈ X ++ [x], e = (plc (hI h (y.2 + 1) c) (hI h (y.2 + 1) 0), y.2) := by
        intro e
        rw [I5.mem, m4]
        constructor
        · rintro (⟨y, hy, rfl⟩ | rfl)
          · exact ⟨y, List.mem_append_left _ hy, rfl⟩
          · exact ⟨x, by simp, rfl⟩
        · rintro ⟨y, hy, rfl⟩
          rcases List.mem_append.mp hy with hy | hy
          · exact Or.inl ⟨y, hy, rfl⟩
          · rw [List.mem_singleton.mp hy]; exact Or.inr rfl
      rw [show n + 3 + (6 - n + d) = (8 + d) + 1 by omega]
      refine w60_55 ⟨W5.1, trivial⟩ ?_
      refine m83' S5 W5 (fun hr => ?_) (fun e rem' hr _ h6 O6 W6 => ?_)
      · exfalso
        rcases hr with hr | ⟨e, r', _, hr⟩
        · cases hr
        · exact absurd hr (Int64.not_lt.mpr (Int64.le_maxValue _))
      · cases hr
        refine w60_59 ?_
        rw [show 8 + d + 1 + 1 = 9 + d + 1 by omega]
        have S6 := ps_pu S5 (O6.pu S5.1 (wk_np W5.1))
        refine ih (X ++ [x]) z h6 σ5 n5 es5 fp5 (by rw [e4]; simp) S6 (T5.oo O6 (Ne.symm wn)) hf5 fr5' ((OO.old N5 O6 (by omega)).weak ?_ ?_) m5 ?_ W6
        · simp only [List.length_append, List.length_singleton]; omega
        · simp only [List.length_append, List.length_singleton]; omega
        · rw [I5.len, len4]; simp
  rw [show (7 + d) + 2 = 9 + d by omega]
  refine w60_32 ⟨W3.1, trivial⟩ ?_
  refine m83' S3 W3 (fun hr h6 O6 W6 => ?_) (fun e rem' hr _ h6 O6 W6 => ?_)
  · refine w60_36 ?_
    have S6 := ps_pu S3 (O6.pu S3.1 (wk_np W3.1))
    have re : rem0 = [] := by
      rcases hr with hr | ⟨e, r', _, hr⟩
      · exact hr
      · exact absurd hr (Int64.not_lt.mpr (Int64.le_maxValue _))
    refine F h6 σ1 0 [] [hN h + 1] S6 (T13.oo O6 (Ne.symm wn)) (fun b hb => by rw [List.mem_singleton.mp hb]; omega) f1 ((OO.old N3 O6 (by omega)).weak (by omega) (by omega)) ?_ ?_
    · rw [e3, re]; simp
    · rw [e3, re]
  · refine w60_36 ?_
    have S6 := ps_pu S3 (O6.pu S3.1 (wk_np W3.1))
    refine L rem' [] e h6 σ1 0 [] [hN h + 1] (by rw [e3, hr]; rfl) S6 (T13.oo O6 (Ne.symm wn)) (fun b hb => by rw [List.mem_singleton.mp hb]; omega) f1 (OO.old N3 O6 (by omega)) (by simp) rfl W6
