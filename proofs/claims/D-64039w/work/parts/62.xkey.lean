/-! deps: 25 26 27 28 32 34 36 37 38 39 40 41 42 43 44 45 46 47 48 49 50 51 52 53 54 55 56 57 58 59 60 61 -/
/-! ===== THE COMPONENT: keyFrom ===== -/
theorem AX.oo {h h1 h2 : AH} {w c s : Nat} (a : AX h h1 c s) (b : OO h1 h2 w) (hw : hN h ≤ w) : AX h h2 c s := by
  obtain ⟨a1, a2, a3, a4⟩ := a
  obtain ⟨b1, b2, b3, b4, b5⟩ := b
  refine ⟨by omega, by omega, by omega, fun q hq => ?_⟩
  obtain ⟨x0, x1, x2, x3⟩ := a4 q hq
  obtain ⟨y1, y2, y3⟩ := b5 q (by omega)
  exact ⟨by rw [b1]; exact x0, fun j => (y1 j).trans (x1 j), fun j => (y2 j).trans (x2 j), fun j => (y3 j).trans (x3 j)⟩
theorem OO.hw {h h' : AH} {w : Nat} (b : OO h h' w) (W : HW h) : HW h' := fun q hq => by rw [b.1]; exact W q (by rw [← b.2.1]; exact hq)
theorem plc_top (c k : Int32) : ¬ plc 2147483647 2147483647 < plc c k := by
  rw [plc_lt]
  have h1 := c.toInt_lt
  have h2 := k.toInt_lt
  rintro (q | ⟨_, q⟩)
  · rw [Int32.lt_iff_toInt_lt, show (2147483647 : Int32).toInt = 2147483647 by decide] at q; omega
  · rw [Int32.lt_iff_toInt_lt, show (2147483647 : Int32).toInt = 2147483647 by decide] at q; omega
theorem plc_from (c k f : Int32) : plc c k < plc f (-2147483648) ↔ c < f := by
  rw [plc_lt]
  constructor
  · rintro (q | ⟨_, q⟩)
    · exact q
    · have h2 := k.minValue_le_toInt
      rw [Int32.lt_iff_toInt_lt, show (-2147483648 : Int32).toInt = -2147483648 by decide] at q
      rw [show Int32.minValue.toInt = -2147483648 by decide] at h2
      omega
  · exact Or.inl
theorem m17 {d x : Nat} {t fr : Int32} {h : AH} {σ : PS} {s : St} {P : PT} (R : RelX h σ x s) (hc : 2 ≤ hC h) (hs : 9 ≤ hS h)
    (K0 : ∀ v h', KeyO s t fr 0 v → AX h h' 1 3 → HW h' → P (.inl (some (vI v))) h')
    (KE : ∀ c e a h', KeyO s t fr c 0 → (c = 1 ∧ e = 52) ∨ (c = 2 ∧ e = 54) → AX h h' 2 9 → HW h' → hT h' a = some (e, 0) → P (.inr a) h') : Ev (d + 6) 17 0 [vR (some x), vI t, vI fr, vU, vU, vU] [] h P := by
  have R0 := R
  obtain ⟨I, S, B, X, ta, tr, es, fp, rs, T⟩ := R
  have h4 := I.1
  refine w17_0 B.1 ?_
  refine m12 R0 (by omega) (by omega) (fun j hj => (T.1 j hj).1) (fun g => ?_) (fun j hj e => ?_)
  · have tx : hT (al h (52, 0) 6) (hN h) = some (52, 0) := by rw [hT_al, if_pos rfl]
    exact ck_out tx (by decide) rfl (KE 1 52 _ _ (Or.inl ⟨g, rfl, rfl⟩) (Or.inl ⟨rfl, rfl⟩) ((ax_al h (52, 0) 6).weak (by omega) (by omega)) (hw_al S.1 _ _) tx)
  · subst e
    have cj : (nI j).toNatClampNeg = j := nI_clamp (by omega)
    have it : isC (nI j) (sN s) = true := isC_n hj (by omega)
    refine w17_5 ⟨by omega, by omega, ?_⟩
    refine w17_9 ?_
    refine w81_0 ?_
    have A1 := ax_al h (15, 0) 3
    have W1 := hw_al S.1 (15, 0) 3
    obtain ⟨I1, S1, B1, X1, _⟩ := R0.ax A1 W1
    have T1 := XT_keep I T S.1 B.x1 (A1.tf W1)
    have tw : hT (al h (15, 0) 3) (hN h) = some (15, 0) := by rw [hT_al, if_pos rfl]
    obtain ⟨a1, a2, a3, a4, a5⟩ := T1.1 j hj
    have ha := act0 I hj
    obtain ⟨n, Tr⟩ := T1.2.2.1.1 (4 * j) ha
    obtain ⟨z1, z2⟩ := T1.2.2.2.2 (4 * j) ha
    rw [show 4 * j / 4 = j by omega, show 4 * j % 4 = 0 by omega] at z2
    obtain ⟨b1, b2, b3, b4, b5, b6⟩ := T1.2.2.2.1 j hj
    have k1 := (I.2.1 j hj).1
    refine w17_13 a2 ?_
    refine m66 (c := 0) S1 a2 (by omega) (cols0 I T1 hj) Tr tw (fun h2 Xs rem O2 W2 e2 x2 r2 => ?_)
    have A2 := A1.oo O2 (Nat.le_refl _)
    have HW2 := O2.hw W1
    have S2 := ps_pu S1 (O2.pu W1 (wk_np tw))
    refine w17_25 ⟨W2.1, trivial⟩ ?_
    have key0 : ∀ e ∈ es (4 * j), ∃ k, e.1 = plc k k ∧ k = hI (al h (15, 0) 3) (e.2 + 1) 0 := fun e he => ⟨_, ((z2 e).mp he).2, rfl⟩
    refine m83' S2 W2 (fun hr h3 O3 W3 => ?_) (fun e rem' hr _ h3 O3 W3 => ?_)
    · have A3 := A2.oo O3 (Nat.le_refl _)
      have HW3 := O3.hw HW2
      have re : rem = [] := by
        rcases hr with q | ⟨e, r', q, q2⟩
        · exact q
        · obtain ⟨k, hk, _⟩ := key0 e (by rw [e2, q]; simp)
          rw [hk] at q2; exact absurd q2 (plc_top k k)
      have c3 := A3.2.1
      have s3 := A3.2.2.1
      refine w17_30 ⟨fun _ => ⟨by omega, by omega, ?_⟩, fun g => absurd rfl g⟩
      refine KE 2 54 _ _ (Or.inr (Or.inl ⟨it, fun w hw hwj => ?_, rfl, rfl⟩)) (Or.inr ⟨rfl, rfl⟩) ((A3.trans (ax_al h3 (54, 0) 6)).weak (by omega) (by omega)) (hw_al HW3 _ _) (by rw [hT_al, if_pos rfl])
      rw [cj] at hwj
      obtain ⟨r, q1, q2⟩ := b6 w hw hwj
      have hm : (plc (w.2 0) (w.2 0), r) ∈ es (4 * j) := (z2 _).mpr ⟨q1, by rw [q2 0 (by omega)]⟩
      rw [e2, re, List.append_nil] at hm
      have x3 : plc (w.2 0) (w.2 0) < plc fr (-2147483648) := x2 (plc (w.2 0) (w.2 0), r) hm
      exact (plc_from (w.2 0) (w.2 0) fr).mp x3
    · have A3 := A2.oo O3 (Nat.le_refl _)
      have HW3 := O3.hw HW2
      have hm : e ∈ es (4 * j) := by rw [e2, hr]; simp
      obtain ⟨q1, q2⟩ := (z2 e).mp hm
      obtain ⟨w, w1, w2, w3⟩ := b5 e.2 q1
      have ro1 := b1 e.2 q1
      have lr := S1.1.lt ro1.1
      have t1 : hT (al h (15, 0) 3) (e.2 + 1) = some (100, 4) := ro1.2.1.2
      have ne1 : e.2 ≠ hN h := ne_t ro1.1 tw (by decide)
      have ne2 : e.2 + 1 ≠ hN h := ne_t t1 tw (by decide)
      have ro3 : OB h3 e.2 9 kR := by
        have OO13 := O2.trans O3
        exact ⟨by rw [OO13.1]; exact ro1.1, ⟨by rw [(OO13.2.2.2.2 _ ne1).2.2]; exact ro1.2.1.1, by rw [OO13.1]; exact t1⟩, trivial⟩
      have v3 : hI h3 (e.2 + 1) 0 = w.2 0 := by
        rw [((O2.trans O3).2.2.2.2 _ ne2).1, w3 0 (by omega)]
      refine w17_30 ⟨fun g => (by cases g), fun _ => ⟨e.2, rfl, ro3, i5 (n := 0) (by decide) (by decide), ?_⟩⟩
      rw [show hI h3 (e.2 + 1) (Int32.toNatClampNeg 0) = w.2 0 from v3]
      have ek : e.1 = plc (w.2 0) (w.2 0) := by rw [q2, w3 0 (by omega)]
      refine K0 _ _ (Or.inr (Or.inr ⟨it, w, w1, by rw [cj]; exact w2, ?_, fun w' hw' h1 h2 => ?_, rfl, rfl⟩)) A3 HW3
      · refine Int32.not_lt.mp (fun q => ?_)
        have := r2 e (by rw [hr]; simp)
        rw [ek] at this
        exact absurd ((plc_from (w.2 0) (w.2 0) fr).mpr q) (Int64.not_lt.mpr this)
      · rw [cj] at h1
        obtain ⟨r, p1, p2⟩ := b6 w' hw' h1
        have hm' : (plc (w'.2 0) (w'.2 0), r) ∈ es (4 * j) := (z2 _).mpr ⟨p1, by rw [p2 0 (by omega)]⟩
        rw [e2] at hm'
        rcases List.mem_append.mp hm' with q | q
        · have x3 : plc (w'.2 0) (w'.2 0) < plc fr (-2147483648) := x2 (plc (w'.2 0) (w'.2 0), r) q
          exact absurd ((plc_from (w'.2 0) (w'.2 0) fr).mp x3) (Int32.not_lt.mpr h2)
        · refine Int32.not_lt.mp (fun z => ?_)
          have lt : plc (w'.2 0) (w'.2 0) < e.1 := by rw [ek, plc_lt]; exact Or.inl z
          rw [hr] at q
          rcases List.mem_cons.mp q with q | q
          · rw [← q] at lt; exact absurd lt Int64.lt_irrefl
          · have st := Tr.2.2.1
            unfold Srt at st
            rw [e2, hr, List.pairwise_append] at st
            exact absurd (Int64.lt_trans lt ((List.pairwise_cons.mp st.2.1).1 _ q)) Int64.lt_irrefl
