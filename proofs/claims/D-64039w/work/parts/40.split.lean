/-! deps: 25 26 27 36 37 38 39 -/
/-! ===== TREE: split ===== -/
theorem ins_end {α : Type} {l : List α} {i : Nat} {x : α} (h : l[i]? = some x) : (l.take i).insertIdx i x = l.take (i + 1) := by
  have hi : i < l.length := (List.getElem?_eq_some_iff.mp h).1
  have : (l.take i).length = i := by rw [List.length_take]; omega
  rw [List.take_succ, h]
  conv => lhs; arg 2; rw [← this]
  rw [List.insertIdx_length_self]; rfl
theorem era_end {α : Type} {l : List α} {i : Nat} (h : i < l.length) : (l.take (i + 1)).eraseIdx i = l.take i := by
  rw [List.eraseIdx_eq_take_drop_succ, List.take_take, List.drop_eq_nil_of_le (by rw [List.length_take]; omega), List.append_nil, Nat.min_eq_left (by omega)]
theorem ob_al {h : AH} {a c : Nat} {t : Nat × Nat} {n : Nat} (w : HW h) (o : OB h a 7 kP) : OB (al h t n) a 7 kP := by
  have l0 := w.lt o.1
  have l1 := w.lt o.t1
  have l2 := w.lt o.t2
  have l3 := w.lt o.t3
  obtain ⟨o1, ⟨o2, o3⟩, ⟨o4, o5⟩, ⟨o6, o7⟩, _⟩ := o
  exact ⟨by rw [hT_al, if_neg (by omega)]; exact o1, ⟨by rw [hR_al, if_neg (by omega)]; exact o2, by rw [hT_al, if_neg (by show a + 1 ≠ _; omega)]; exact o3⟩, ⟨by rw [hR_al, if_neg (by omega)]; exact o4, by rw [hT_al, if_neg (by show a + 2 ≠ _; omega)]; exact o5⟩, ⟨by rw [hR_al, if_neg (by omega)]; exact o6, by rw [hT_al, if_neg (by show a + 3 ≠ _; omega)]; exact o7⟩, trivial⟩
theorem pg_b {h : AH} {σ : PS} {a i : Nat} {p : Pg} {x : Option Nat} (S : PSt h σ) (hp : σ a = some p) (hb : (pB p)[i]? = some x) : hR h (a + 3) i = x ∧ i ≤ (pK p).length := by
  obtain ⟨o, c1, c2, c3, c4, c5, c6, c7, c8, c9, c10, c11, c12⟩ := S.2 a p hp
  have hi : i < (pB p).length := (List.getElem?_eq_some_iff.mp hb).1
  have := c8 i (by omega)
  rw [hb] at this
  exact ⟨(Option.some.inj this).symm, by omega⟩
theorem pg_lt {h : AH} {σ : PS} {a : Nat} {p : Pg} (S : PSt h σ) (hp : σ a = some p) : a < hN h := S.1.lt (S.2 a p hp).1.1
theorem pg_f {h : AH} {σ : PS} {a : Nat} {p : Pg} (S : PSt h σ) (hp : σ a = some p) : hI h a 83 = bI (pF p) := (S.2 a p hp).2.1
theorem pg_n {h : AH} {σ : PS} {a : Nat} {p : Pg} (S : PSt h σ) (hp : σ a = some p) : hI h a 96 = nI (pK p).length := (S.2 a p hp).2.2.1
theorem pg_o {h : AH} {σ : PS} {a : Nat} {p : Pg} (S : PSt h σ) (hp : σ a = some p) : OB h a 7 kP := (S.2 a p hp).1
theorem pg_5 {h : AH} {σ : PS} {a : Nat} {p : Pg} (S : PSt h σ) (hp : σ a = some p) : (pK p).length ≤ 5 := (S.2 a p hp).2.2.2.1
theorem pg_k {h : AH} {σ : PS} {a i : Nat} {p : Pg} (S : PSt h σ) (hp : σ a = some p) (hi : i < (pK p).length) : (pK p)[i]? = some (hL h (a + 1) i) := (S.2 a p hp).2.2.2.2.1 i hi
theorem pg_wl {h : AH} {σ : PS} {a : Nat} {p : Pg} (S : PSt h σ) (hp : σ a = some p) : (pW p).length = (pK p).length := (S.2 a p hp).2.2.2.2.2.1
theorem pg_w {h : AH} {σ : PS} {a i : Nat} {p : Pg} (S : PSt h σ) (hp : σ a = some p) (hi : i < (pK p).length) : (pW p)[i]? = some (hR h (a + 2) i) := (S.2 a p hp).2.2.2.2.2.2.1 i hi
theorem pg_bl {h : AH} {σ : PS} {a : Nat} {p : Pg} (S : PSt h σ) (hp : σ a = some p) : (pB p).length = (pK p).length + 1 := (S.2 a p hp).2.2.2.2.2.2.2.1
theorem pg_bb {h : AH} {σ : PS} {a i : Nat} {p : Pg} (S : PSt h σ) (hp : σ a = some p) (hi : i ≤ (pK p).length) : (pB p)[i]? = some (hR h (a + 3) i) := (S.2 a p hp).2.2.2.2.2.2.2.2.1 i hi
theorem pg_rw {h : AH} {σ : PS} {a i : Nat} {p : Pg} (S : PSt h σ) (hp : σ a = some p) (hi : i < (pK p).length) : RT h (hR h (a + 2) i) 9 := (S.2 a p hp).2.2.2.2.2.2.2.2.2.1 _ (List.mem_of_getElem? (pg_w S hp hi))
theorem pg_rb {h : AH} {σ : PS} {a i : Nat} {p : Pg} (S : PSt h σ) (hp : σ a = some p) (hi : i ≤ (pK p).length) : RT h (hR h (a + 3) i) 7 := (S.2 a p hp).2.2.2.2.2.2.2.2.2.2.1 _ (List.mem_of_getElem? (pg_bb S hp hi))
theorem pg_x {h : AH} {σ : PS} {a : Nat} {p : Pg} (S : PSt h σ) (hp : σ a = some p) : hR h a 102 = pN p ∧ RT h (pN p) 7 := (S.2 a p hp).2.2.2.2.2.2.2.2.2.2.2
theorem pg_t {h : AH} {σ : PS} {a : Nat} {p : Pg} (S : PSt h σ) (hp : σ a = some p) : RT h (some a) 7 := RT_some (pg_o S hp).1
theorem bI_0 (b : Bool) : bI b = 0 ↔ b = false := by cases b <;> simp [bI]
/-- where the right page begins -/
abbrev spm (q : Pg) : Nat := if pF q then 2 else 3
theorem m73 {d a k b : Nat} {h : AH} {σ : PS} {p q : Pg} {mid : Int64} {P : PT} (S : PSt h σ) (hp : σ a = some p) (hp4 : (pK p).length < 5) (hb : (pB p)[k]? = some (some b)) (hq : σ b = some q) (h5 : (pK q).length = 5) (hab : a ≠ b) (hc : 4 ≤ hC h) (hs : 22 ≤ hS h) (hm : (pK q)[2]? = some mid)
    (K : ∀ h' σ', PSt h' σ' → σ' a = some (pF p, (pK p).insertIdx k mid, (pW p).insertIdx k none, (pB p).insertIdx (k + 1) (some (hN h)), pN p) →
      σ' b = some (pF q, (pK q).take 2, (pW q).take 2, (pB q).take 3, if pF q then some (hN h) else pN q) →
      σ' (hN h) = some (pF q, (pK q).drop (spm q), (pW q).drop (spm q), (pB q).drop (spm q), if pF q then pN q else none) →
      (∀ c, c ≠ a → c ≠ b → c ≠ hN h → σ' c = σ c) → NP h h' 4 22 → hN h' = hN h + 4 → P (.inl none) h') :
    Ev (d + 1) 73 0 [vR (some a), vI (nI k), vU, vU, vU, vU, vU, vU] [] h P := by
  obtain ⟨e1, hk⟩ := pg_b S hp hb
  have la := pg_lt S hp
  have lb := pg_lt S hq
  have wl := pg_wl S hq
  have bl := pg_bl S hq
  refine w73_0 (pg_o S hp) ⟨i5 (by omega) (by omega), b, by rw [cl (by omega)]; exact e1, by omega, by omega, ?_⟩
  refine w73_10 (ob_al (c := 0) S.1 (pg_o S hq)) ?_
  have ef : hI (al h (7, 0) 6) b 83 = bI (pF q) := by rw [hI_al, if_neg (by omega)]; exact pg_f S hq
  rw [ef]
  refine m44 S hc hs (fun h1 S1 N1 n1 => ?_)
  have ha1 : up σ (hN h) (pF q, [], [], [none], none) a = some p := (up_ne (by omega)).trans hp
  have hb1 : up σ (hN h) (pF q, [], [], [none], none) b = some q := (up_ne (by omega)).trans hq
  have hc1 := up_same σ (hN h) (pF q, [], [], [none], none)
  have k2 : hL h1 (b + 1) 2 = mid := by
    have := pg_k S1 hb1 (i := 2) (by omega)
    rw [hm] at this; exact (Option.some.inj this).symm
  have sm : spm q = 2 ∨ spm q = 3 := by unfold spm; split <;> omega
  -- the loops, from the state behind the first write on
  suffices H : ∀ (w7 : AV), Ev (d + 1) 73 54 [vR (some a), vI (nI k), vR (some b), vR (some (hN h)), vI (nI (spm q)), vL mid, vU, w7] [] (wR h1 (hN h + 3) 0 (hR h1 (b + 3) (spm q))) P by
    refine w73_18 (pg_o S1 hb1) (pg_o S1 hc1) ⟨fun e => ?_, fun e => ?_⟩
    · rw [pg_f S1 hb1, bI_0] at e
      have := H vU
      simp only [spm, e, if_false, Bool.false_eq_true] at this
      refine ⟨i5 (n := 2) (by decide) (by decide), i5 (n := 3) (by decide) (by decide), i5 (n := 0) (by decide) (by decide), pg_rb S1 hb1 (i := 3) (by omega), ?_⟩
      rw [← k2] at this; exact this
    · rw [pg_f S1 hb1, bI_0, Bool.not_eq_false] at e
      have := H vU
      simp only [spm, e, if_true] at this
      refine ⟨i5 (n := 2) (by decide) (by decide), i5 (n := 2) (by decide) (by decide), i5 (n := 0) (by decide) (by decide), pg_rb S1 hb1 (i := 2) (by omega), ?_⟩
      rw [← k2] at this; exact this
  intro w7
  obtain ⟨S2, N2⟩ := ps_wB (i := 0) S1 hc1 (by simp [pK]) (pg_rb S1 hb1 (i := spm q) (by omega))
  refine w73_54 ?_
  have N02 := N1.trans N2
  have n2 : hN (wR h1 (hN h + 3) 0 (hR h1 (b + 3) (spm q))) = hN h + 4 := n1
  have hc2 := up_same (up σ (hN h) (pF q, [], [], [none], none)) (hN h) (pF q, [], [], ([none] : List (Option Nat)).set 0 (hR h1 (b + 3) (spm q)), none)
  have ho2 : ∀ c, c ≠ hN h → up (up σ (hN h) (pF q, [], [], [none], none)) (hN h) (pF q, [], [], ([none] : List (Option Nat)).set 0 (hR h1 (b + 3) (spm q)), none) c = σ c := fun c hc => by rw [up_ne hc, up_ne hc]
  have b0 : (pB q)[spm q]? = some (hR h1 (b + 3) (spm q)) := pg_bb S1 hb1 (by omega)
  generalize wR h1 (hN h + 3) 0 (hR h1 (b + 3) (spm q)) = h2 at S2 N2 N02 n2 ⊢
  generalize up (up σ (hN h) (pF q, [], [], [none], none)) (hN h) (pF q, [], [], ([none] : List (Option Nat)).set 0 (hR h1 (b + 3) (spm q)), none) = σ2 at S2 hc2 ho2
  -- first loop
  suffices L1 : ∀ (m j : Nat) (h2 : AH) (σ2 : PS), m + j = 5 → spm q ≤ j → PSt h2 σ2 → NP h h2 4 22 → hN h2 = hN h + 4 → (∀ c, c ≠ hN h → σ2 c = σ c) →
      σ2 (hN h) = some (pF q, ((pK q).drop (spm q)).take (j - spm q), ((pW q).drop (spm q)).take (j - spm q), ((pB q).drop (spm q)).take (j - spm q + 1), none) →
      Ev (d + 1) 73 58 [vR (some a), vI (nI k), vR (some b), vR (some (hN h)), vI (nI (spm q)), vL mid, vU, vI (nI j)] [] h2 P by
    refine L1 (5 - spm q) (spm q) h2 σ2 (by omega) (Nat.le_refl _) S2 (by simpa using N02) n2 ho2 ?_
    rw [hc2, Nat.sub_self]
    have : ((pB q).drop (spm q)).take (0 + 1) = [hR h1 (b + 3) (spm q)] := by
      rw [List.take_succ, List.getElem?_drop, Nat.add_zero, b0]; rfl
    rw [this]; rfl
  clear hc2 ho2 S2 N2 N02 n2 h2 σ2
  intro m
  induction m with
  | succ m ih =>
    intro j h2 σ2 hj hmj S2 N2 n2 ho2 hc2
    have hb2 : σ2 b = some q := (ho2 b (by omega)).trans hq
    refine w73_58 (pg_o S2 hb2) (pg_o S2 hc2) ⟨fun e => ?_, fun e => ?_⟩
    · rw [pg_n S2 hb2, h5, nI_leI (by omega) (by omega)] at e; omega
    · rw [nI_1, cl (by omega), cl (by omega), pg_n S2 hc2]
      refine ⟨i5 (by omega) (by omega), i5 (by omega) (by omega), i5 (by omega) (by omega), ?_⟩
      have ln : (((pK q).drop (spm q)).take (j - spm q)).length = j - spm q := by rw [List.length_take, List.length_drop]; omega
      refine m47 (p := (pF q, ((pK q).drop (spm q)).take (j - spm q), ((pW q).drop (spm q)).take (j - spm q), ((pB q).drop (spm q)).take (j - spm q + 1), none)) S2 hc2 (Nat.le_refl _) (by simp only [pK] at ln ⊢; omega) (pg_rw S2 hb2 (by omega)) (pg_rb S2 hb2 (by omega)) (fun h3 S3 N3 n3 => ?_)
      refine w73_98 ?_
      rw [nI_1]
      refine ih (j + 1) h3 _ (by omega) (by omega) S3 (by simpa using N2.trans N3) (n3.trans n2) (fun c hc => (up_ne hc).trans (ho2 c hc)) ?_
      rw [up_same]
      have g1 := pg_k S2 hb2 (i := j) (by omega)
      have g2 := pg_w S2 hb2 (i := j) (by omega)
      have g3 := pg_bb S2 hb2 (i := j + 1) (by omega)
      have x1 : ((pK q).drop (spm q))[j - spm q]? = some (hL h2 (b + 1) j) := by rw [List.getElem?_drop, ← g1]; congr 1; omega
      have x2 : ((pW q).drop (spm q))[j - spm q]? = some (hR h2 (b + 2) j) := by rw [List.getElem?_drop, ← g2]; congr 1; omega
      have x3 : ((pB q).drop (spm q))[j - spm q + 1]? = some (hR h2 (b + 3) (j + 1)) := by rw [List.getElem?_drop, ← g3]; congr 1; omega
      have y1 := ins_end x1
      have y2 := ins_end x2
      have y3 := ins_end x3
      simp only [pK, pW, pB, pF, pN] at ln y1 y2 y3 ⊢
      rw [ln, y1, y2, y3]
      have : j + 1 - (if q.1 = true then 2 else 3) = j - (if q.1 = true then 2 else 3) + 1 := by
        simp only [spm, pF] at hmj; omega
      simp only [spm, pF, this]
  | zero =>
    intro j h2 σ2 hj hmj S2 N2 n2 ho2 hc2
    obtain rfl : j = 5 := by omega
    have hb2 : σ2 b = some q := (ho2 b (by omega)).trans hq
    have ha2 : σ2 a = some p := (ho2 a (by omega)).trans hp
    refine w73_58 (pg_o S2 hb2) (pg_o S2 hc2) ⟨fun _ => ?_, fun e => ?_⟩
    · -- second loop
      have tk : ∀ {α : Type} (l : List α) (n : Nat), l.length - spm q ≤ n → (l.drop (spm q)).take n = l.drop (spm q) := fun l n hn => List.take_of_length_le (by rw [List.length_drop]; exact hn)
      rw [tk _ _ (by omega), tk _ _ (by omega), tk _ _ (by omega)] at hc2
      suffices L2 : ∀ (m j : Nat) (h3 : AH) (σ3 : PS), j = m + 2 → j ≤ 5 → PSt h3 σ3 → NP h h3 4 22 → hN h3 = hN h + 4 → (∀ c, c ≠ hN h → c ≠ b → σ3 c = σ c) → σ3 (hN h) = σ2 (hN h) → σ3 b = some (pF q, (pK q).take j, (pW q).take j, (pB q).take (j + 1), pN q) →
          Ev (d + 1) 73 104 [vR (some a), vI (nI k), vR (some b), vR (some (hN h)), vI (nI (spm q)), vL mid, vU, vI (nI 5)] [] h3 P by
        refine L2 3 5 h2 σ2 rfl (by omega) S2 N2 n2 (fun c hc _ => ho2 c hc) rfl ?_
        rw [hb2, List.take_of_length_le (by omega), List.take_of_length_le (by omega), List.take_of_length_le (by omega)]
      intro m
      induction m with
      | succ m ih =>
        intro j h3 σ3 hj hj5 S3 N3 n3 ho3 hc3 hb3
        rw [hc2] at hc3
        have ln : ((pK q).take j).length = m + 3 := by rw [List.length_take]; omega
        refine w73_104 (pg_o S3 hb3) (pg_o S3 hc3) ⟨fun e => ?_, fun e => ?_⟩
        · rw [pg_n S3 hb3, show (2 : Int32) = nI 2 from rfl, nI_leI (by simp only [pK] at ln ⊢; omega) (by omega)] at e
          simp only [pK] at ln e; omega
        · rw [pg_n S3 hb3]
          simp only [pK] at ln ⊢
          rw [ln, nI_pred]
          refine m48 (i := m + 2) S3 hb3 (by simp only [pK]; omega) (fun h4 S4 N4 n4 => ?_)
          refine w73_122 ?_
          refine ih (m + 2) h4 _ rfl (by omega) S4 (by simpa using N3.trans N4) (n4.trans n3) (fun c h1 h2 => (up_ne h2).trans (ho3 c h1 h2)) ?_ ?_
          · rw [up_ne (by omega), hc3, hc2]
          · rw [up_same]
            obtain rfl : j = m + 3 := hj
            have y1 := era_end (l := pK q) (i := m + 2) (by omega)
            have y2 := era_end (l := pW q) (i := m + 2) (by omega)
            have y3 := era_end (l := pB q) (i := m + 3) (by omega)
            simp only [pK, pW, pB, pF, pN] at y1 y2 y3 ⊢
            rw [show m + 2 + 1 = m + 3 from rfl] at *
            rw [y1, y2, y3]
      | zero =>
        intro j h3 σ3 hj hj5 S3 N3 n3 ho3 hc3 hb3
        obtain rfl : j = 2 := hj
        rw [hc2] at hc3
        have ln : ((pK q).take 2).length = 2 := by rw [List.length_take]; omega
        have ha3 : σ3 a = some p := (ho3 a (by omega) hab).trans hp
        -- the end
        have E : ∀ (h4 : AH) (σ4 : PS), PSt h4 σ4 → NP h h4 4 22 → hN h4 = hN h + 4 → (∀ c, c ≠ hN h → c ≠ b → σ4 c = σ c) →
            σ4 b = some (pF q, (pK q).take 2, (pW q).take 2, (pB q).take 3, if pF q then some (hN h) else pN q) →
            σ4 (hN h) = some (pF q, (pK q).drop (spm q), (pW q).drop (spm q), (pB q).drop (spm q), if pF q then pN q else none) →
            Ev (d + 1) 73 145 [vR (some a), vI (nI k), vR (some b), vR (some (hN h)), vI (nI (spm q)), vL mid, vU, vI (nI 5)] [] h4 P := by
          intro h4 σ4 S4 N4 n4 ho4 hb4 hc4
          have ha4 : σ4 a = some p := (ho4 a (by omega) hab).trans hp
          refine w73_145 (pg_o S4 ha4) ?_
          refine m47 (p := p) S4 ha4 hk hp4 RT_none (pg_t S4 hc4) (fun h5 S5 N5 n5 => ?_)
          refine w73_154 ?_
          refine K h5 _ S5 (up_same _ _ _) ?_ ?_ (fun c c1 c2 c3 => (up_ne c1).trans (ho4 c c3 c2)) (by simpa using N4.trans N5) (n5.trans n4)
          · rw [up_ne (Ne.symm hab)]; exact hb4
          · rw [up_ne (by omega)]; exact hc4
        refine w73_104 (pg_o S3 hb3) (pg_o S3 hc3) ⟨fun _ => ⟨fun e => ?_, fun e => ?_⟩, fun e => ?_⟩
        · rw [pg_f S3 hb3, bI_0] at e
          have e : pF q = false := e
          refine E h3 σ3 S3 N3 n3 ho3 ?_ ?_
          · rw [hb3, e]; rfl
          · rw [hc3, e]; rfl
        · rw [pg_f S3 hb3, bI_0, Bool.not_eq_false] at e
          have e : pF q = true := e
          obtain ⟨z1, z2⟩ := pg_x S3 hb3
          rw [z1]
          obtain ⟨S4, N4⟩ := ps_wN S3 hc3 z2
          have hb4 := (up_ne (σ := σ3) (a := hN h) (p := (pF q, (pK q).drop (spm q), (pW q).drop (spm q), (pB q).drop (spm q), pN q)) (by omega : b ≠ hN h)).trans hb3
          refine w73_140 (pg_o S4 hb4) ?_
          obtain ⟨S5, N5⟩ := ps_wN (v := some (hN h)) S4 hb4 (pg_t S4 (up_same _ _ _))
          refine E _ _ S5 (by simpa using (N3.trans N4).trans N5) n3 (fun c h1 h2 => ((up_ne h2).trans (up_ne h1)).trans (ho3 c h1 h2)) ?_ ?_
          · rw [up_same, e]; rfl
          · rw [up_ne (by omega), up_same, e]; rfl
        · rw [pg_n S3 hb3] at e
          simp only [pK] at ln e
          rw [ln] at e
          exact absurd e (by decide)
    · rw [pg_n S2 hb2, h5, nI_ltI (by omega) (by omega)] at e; omega
