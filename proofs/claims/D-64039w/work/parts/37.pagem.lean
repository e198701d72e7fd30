/-! deps: 25 26 36 -/
/-! ===== PAGE: place, branch, insert, remove ===== -/
theorem i5 {n m : Nat} (h : n < m) (hm : m ≤ 1000) : vp_in (nI n) m := vp_in_nI h (by omega)
theorem cl {n : Nat} (h : n ≤ 100000) : (nI n).toNatClampNeg = n := nI_clamp (by omega)
theorem cLt_le (key : Int64) (ks : List Int64) : cLt key ks ≤ ks.length := by
  unfold cLt; exact (List.takeWhile_sublist _).length_le
theorem cLe_le (key : Int64) (ks : List Int64) : cLe key ks ≤ ks.length := by
  unfold cLe; exact (List.takeWhile_sublist _).length_le
theorem m46 {d a : Nat} {key : Int64} {h : AH} {σ : PS} {p : Pg} {P : PT} (S : PSt h σ) (hp : σ a = some p) (k : P (.inl (some (vI (nI (cLt key (pK p)))))) h) : Ev d 46 0 [vR (some a), vL key, vU, vU] [] h P := by
  obtain ⟨o, c1, c2, c3, c4, _⟩ := S.2 a p hp
  refine w46_0 ?_
  suffices H : ∀ m n, m + n = (pK p).length → (∀ i x, i < n → (pK p)[i]? = some x → x < key) → Ev d 46 2 [vR (some a), vL key, vU, vI (nI n)] [] h P from H (pK p).length 0 (by omega) (fun i x hi => absurd hi (by omega))
  intro m
  induction m with
  | zero =>
    intro n hn hl
    refine w46_2 o ⟨fun _ => ?_, fun q => ?_⟩
    · have : cLt key (pK p) = n := tw_len _ _ _ (fun i x hi hx => by simpa using hl i x hi hx) (by omega) (fun x hx => by rw [List.getElem?_eq_none (by omega)] at hx; cases hx)
      rw [this] at k; exact k
    · rw [c2, nI_ltI (by omega) (by omega)] at q; omega
  | succ m ih =>
    intro n hn hl
    have hk := c4 n (by omega)
    refine w46_2 o ⟨fun q => ?_, fun q => ⟨i5 (by omega) (by omega), fun q2 => ?_, fun q2 => ?_⟩⟩
    · rw [c2, nI_leI (by omega) (by omega)] at q; omega
    · rw [cl (by omega)] at q2
      have : cLt key (pK p) = n := tw_len _ _ _ (fun i x hi hx => by simpa using hl i x hi hx) (by omega) (fun x hx => by rw [hk] at hx; cases hx; simpa using q2)
      rw [this] at k; exact k
    · rw [cl (by omega)] at q2
      rw [nI_1]
      refine ih (n + 1) (by omega) (fun i x hi hx => ?_)
      rcases Nat.lt_or_ge i n with g | g
      · exact hl i x g hx
      · have : i = n := by omega
        subst this; rw [hk] at hx; cases hx; exact q2
theorem m45 {d a : Nat} {key : Int64} {h : AH} {σ : PS} {p : Pg} {P : PT} (S : PSt h σ) (hp : σ a = some p) (k : P (.inl (some (vI (nI (cLe key (pK p)))))) h) : Ev d 45 0 [vR (some a), vL key, vU, vU] [] h P := by
  obtain ⟨o, c1, c2, c3, c4, _⟩ := S.2 a p hp
  refine w45_0 ?_
  suffices H : ∀ m n, m + n = (pK p).length → (∀ i x, i < n → (pK p)[i]? = some x → x ≤ key) → Ev d 45 2 [vR (some a), vL key, vU, vI (nI n)] [] h P from H (pK p).length 0 (by omega) (fun i x hi => absurd hi (by omega))
  intro m
  induction m with
  | zero =>
    intro n hn hl
    refine w45_2 o ⟨fun _ => ?_, fun q => ?_⟩
    · have : cLe key (pK p) = n := tw_len _ _ _ (fun i x hi hx => by simpa using hl i x hi hx) (by omega) (fun x hx => by rw [List.getElem?_eq_none (by omega)] at hx; cases hx)
      rw [this] at k; exact k
    · rw [c2, nI_ltI (by omega) (by omega)] at q; omega
  | succ m ih =>
    intro n hn hl
    have hk := c4 n (by omega)
    refine w45_2 o ⟨fun q => ?_, fun q => ⟨i5 (by omega) (by omega), fun q2 => ?_, fun q2 => ?_⟩⟩
    · rw [c2, nI_leI (by omega) (by omega)] at q; omega
    · rw [cl (by omega)] at q2
      have : cLe key (pK p) = n := tw_len _ _ _ (fun i x hi hx => by simpa using hl i x hi hx) (by omega) (fun x hx => by rw [hk] at hx; cases hx; simpa using q2)
      rw [this] at k; exact k
    · rw [cl (by omega)] at q2
      rw [nI_1]
      refine ih (n + 1) (by omega) (fun i x hi hx => ?_)
      rcases Nat.lt_or_ge i n with g | g
      · exact hl i x g hx
      · have : i = n := by omega
        subst this; rw [hk] at hx; cases hx; exact q2
/-- keys, rows and pages moved up from k to c -/
def shU (h : AH) (a k c : Nat) : AH := (hT h, hI h, fun b j => if b = a + 1 ∧ k < j ∧ j ≤ c then hL h b (j - 1) else hL h b j,
  fun b j => if b = a + 2 ∧ k < j ∧ j ≤ c then hR h b (j - 1) else if b = a + 3 ∧ k + 1 < j ∧ j ≤ c + 1 then hR h b (j - 1) else hR h b j, hN h, hC h, hS h)
theorem shU_0 (h : AH) (a c : Nat) : shU h a c c = h := by
  unfold shU
  have e1 : (fun b j => if b = a + 1 ∧ c < j ∧ j ≤ c then hL h b (j - 1) else hL h b j) = hL h := by
    funext b j; rw [if_neg (by omega)]
  have e2 : (fun b j => if b = a + 2 ∧ c < j ∧ j ≤ c then hR h b (j - 1) else if b = a + 3 ∧ c + 1 < j ∧ j ≤ c + 1 then hR h b (j - 1) else hR h b j) = hR h := by
    funext b j; rw [if_neg (by omega), if_neg (by omega)]
  rw [e1, e2]; rfl
theorem shU_s (h : AH) (a k c : Nat) (hk : k < c) : wR (wR (wL (shU h a (k + 1) c) (a + 1) (k + 1) (hL h (a + 1) k)) (a + 2) (k + 1) (hR h (a + 2) k)) (a + 3) (k + 2) (hR h (a + 3) (k + 1)) = shU h a k c := by
  refine Prod.ext rfl (Prod.ext rfl (Prod.ext ?_ (Prod.ext ?_ rfl)))
  · funext b j
    show u2 (fun b j => if b = a + 1 ∧ k + 1 < j ∧ j ≤ c then hL h b (j - 1) else hL h b j) (a + 1) (k + 1) (hL h (a + 1) k) b j = if b = a + 1 ∧ k < j ∧ j ≤ c then hL h b (j - 1) else hL h b j
    simp only [u2]
    grind (splits := 30)
  · funext b j
    show u2 (u2 (fun b j => if b = a + 2 ∧ k + 1 < j ∧ j ≤ c then hR h b (j - 1) else if b = a + 3 ∧ k + 1 + 1 < j ∧ j ≤ c + 1 then hR h b (j - 1) else hR h b j) (a + 2) (k + 1) (hR h (a + 2) k)) (a + 3) (k + 2) (hR h (a + 3) (k + 1)) b j = if b = a + 2 ∧ k < j ∧ j ≤ c then hR h b (j - 1) else if b = a + 3 ∧ k + 1 < j ∧ j ≤ c + 1 then hR h b (j - 1) else hR h b j
    simp only [u2]
    grind (splits := 30)
theorem shU_PA (h : AH) (a k c : Nat) : PA h (shU h a k c) a := by
  refine ⟨rfl, rfl, rfl, rfl, fun _ _ _ => rfl, fun b j hb => ?_, fun b j h2 h3 _ => ?_⟩
  · show (if b = a + 1 ∧ k < j ∧ j ≤ c then hL h b (j - 1) else hL h b j) = _
    rw [if_neg (fun q => hb q.1)]
  · show (if b = a + 2 ∧ k < j ∧ j ≤ c then hR h b (j - 1) else if b = a + 3 ∧ k + 1 < j ∧ j ≤ c + 1 then hR h b (j - 1) else hR h b j) = _
    rw [if_neg (fun q => h2 q.1), if_neg (fun q => h3 q.1)]
theorem PA.refl (h : AH) (a : Nat) : PA h h a := ⟨rfl, rfl, rfl, rfl, fun _ _ _ => rfl, fun _ _ _ => rfl, fun _ _ _ _ _ => rfl⟩
theorem PA.trans {h h' h'' : AH} {a : Nat} (x : PA h h' a) (y : PA h' h'' a) : PA h h'' a := by
  obtain ⟨x1, x2, x3, x4, x5, x6, x7⟩ := x
  obtain ⟨y1, y2, y3, y4, y5, y6, y7⟩ := y
  exact ⟨y1.trans x1, y2.trans x2, y3.trans x3, y4.trans x4, fun b j q => (y5 b j q).trans (x5 b j q), fun b j q => (y6 b j q).trans (x6 b j q), fun b j q r s => (y7 b j q r s).trans (x7 b j q r s)⟩
theorem PA.wL (h : AH) (a i : Nat) (v : Int64) : PA h (wL h (a + 1) i v) a :=
  ⟨rfl, rfl, rfl, rfl, fun _ _ _ => rfl, fun b j q => by rw [hL_wL, if_neg (fun e => q e.1)], fun _ _ _ _ _ => rfl⟩
theorem PA.wW (h : AH) (a i : Nat) (v : Option Nat) : PA h (wR h (a + 2) i v) a :=
  ⟨rfl, rfl, rfl, rfl, fun _ _ _ => rfl, fun _ _ _ => rfl, fun b j q _ _ => by rw [hR_wR, if_neg (fun e => q e.1)]⟩
theorem PA.wB (h : AH) (a i : Nat) (v : Option Nat) : PA h (wR h (a + 3) i v) a :=
  ⟨rfl, rfl, rfl, rfl, fun _ _ _ => rfl, fun _ _ _ => rfl, fun b j _ q _ => by rw [hR_wR, if_neg (fun e => q e.1)]⟩
theorem PA.wN (h : AH) (a : Nat) (v : Option Nat) : PA h (wR h a 102 v) a :=
  ⟨rfl, rfl, rfl, rfl, fun _ _ _ => rfl, fun _ _ _ => rfl, fun b j _ _ q => by rw [hR_wR, if_neg q]⟩
theorem PA.wC (h : AH) (a : Nat) (v : Int32) : PA h (wI h a 96 v) a :=
  ⟨rfl, rfl, rfl, rfl, fun b j q => by rw [hI_wI, if_neg q], fun _ _ _ => rfl, fun _ _ _ _ _ => rfl⟩
/-- the keys, rows and pages of a page within its bounds -/
theorem PgC.mk {h h' : AH} {a : Nat} {p p' : Pg} (c : PgC h a p) (pa : PA h h' a) (w : HW h) (hF : pF p' = pF p) (hc : hI h' a 96 = nI (pK p').length) (h5 : (pK p').length ≤ 5) (hk : ∀ i, i < (pK p').length → (pK p')[i]? = some (hL h' (a + 1) i)) (hw0 : (pW p').length = (pK p').length) (hw : ∀ i, i < (pK p').length → (pW p')[i]? = some (hR h' (a + 2) i)) (hb0 : (pB p').length = (pK p').length + 1) (hb : ∀ i, i ≤ (pK p').length → (pB p')[i]? = some (hR h' (a + 3) i)) (rw_ : ∀ r ∈ pW p', RT h r 9) (rb : ∀ r ∈ pB p', RT h r 7) (hn : hR h' a 102 = pN p') (rn : RT h (pN p') 7) : PgC h' a p' := by
  have hT' : ∀ b, b < hN h → hT h' b = hT h b := fun b _ => by rw [pa.1]
  refine ⟨pa.ob c.1 c.1, ?_, hc, h5, hk, hw0, hw, hb0, hb, fun r hr => RT_T w hT' (rw_ r hr), fun r hr => RT_T w hT' (rb r hr), hn, RT_T w hT' rn⟩
  rw [pa.2.2.2.2.1 _ _ (by omega), hF]; exact c.2.1
theorem mem_insertIdx' {α : Type} {x y : α} {xs : List α} {i : Nat} (h : x ∈ xs.insertIdx i y) : x = y ∨ x ∈ xs := by
  rcases Nat.lt_or_ge xs.length i with q | q
  · rw [List.insertIdx_of_length_lt q] at h; exact Or.inr h
  · exact (List.mem_insertIdx q).mp h
theorem m47 {d a i : Nat} {key : Int64} {r b : Option Nat} {h : AH} {σ : PS} {p : Pg} {P : PT} (S : PSt h σ) (hp : σ a = some p) (hi : i ≤ (pK p).length) (h4 : (pK p).length < 5) (hr : RT h r 9) (hb : RT h b 7)
    (k : ∀ h', PSt h' (up σ a (pF p, (pK p).insertIdx i key, (pW p).insertIdx i r, (pB p).insertIdx (i + 1) b, pN p)) → NP h h' 0 0 → hN h' = hN h → P (.inl none) h') : Ev d 47 0 [vR (some a), vI (nI i), vL key, vU, vR r, vR b, vU] [] h P := by
  have C := S.2 a p hp
  obtain ⟨o, c1, c2, c3, c4, c5, c6, c7, c8, c9, c10, c11, c12⟩ := C
  refine w47_0 o ?_
  rw [c2]
  have hget : ∀ {α : Type} {xs : List α} {f : Nat → α} {n : Nat}, (∀ i, i < n → xs[i]? = some (f i)) → ∀ i, i < n → f i ∈ xs := fun hx i hi => List.mem_of_getElem? (hx i hi)
  have hT' : ∀ m b, b < hN h → hT (shU h a m (pK p).length) b = hT h b := fun _ _ _ => rfl
  suffices H : ∀ m n, m + i = n → n ≤ (pK p).length → Ev d 47 6 [vR (some a), vI (nI i), vL key, vU, vR r, vR b, vI (nI n)] [] (shU h a n (pK p).length) P by
    have := H ((pK p).length - i) (pK p).length (by omega) (Nat.le_refl _)
    rw [shU_0] at this; exact this
  intro m
  induction m with
  | succ m ih =>
    intro n hn hl
    obtain ⟨n, rfl⟩ : ∃ q, n = q + 1 := ⟨n - 1, by omega⟩
    have o1 : OB (shU h a (n + 1) (pK p).length) a 7 kP := (shU_PA h a _ _).ob o o
    refine w47_6 o1 ⟨fun q => ?_, fun q => ?_⟩
    · rw [nI_leI (by omega) (by omega)] at q; omega
    · rw [nI_pred, cl (by omega), cl (by omega)]
      have e1 : hL (shU h a (n + 1) (pK p).length) (a + 1) n = hL h (a + 1) n := if_neg (by omega)
      have e2 : ∀ v, hR (wL (shU h a (n + 1) (pK p).length) (a + 1) (n + 1) v) (a + 2) n = hR h (a + 2) n := fun v => (if_neg (by omega)).trans (if_neg (by omega))
      refine ⟨i5 (by omega) (by omega), i5 (by omega) (by omega), i5 (by omega) (by omega), i5 (by omega) (by omega), ?_, ?_⟩
      · rw [e2]; exact c9 _ (hget c6 n (by omega))
      · rw [e2, e1]
        have o2 := ((PA.wL (shU h a (n + 1) (pK p).length) a (n + 1) (hL h (a + 1) n)).trans (PA.wW _ a (n + 1) (hR h (a + 2) n))).ob o1 o1
        refine w47_44 o2 ?_
        rw [cl (by omega), nI_1, cl (by omega)]
        have e3 : hR (wR (wL (shU h a (n + 1) (pK p).length) (a + 1) (n + 1) (hL h (a + 1) n)) (a + 2) (n + 1) (hR h (a + 2) n)) (a + 3) (n + 1) = hR h (a + 3) (n + 1) := (if_neg (by omega)).trans ((if_neg (by omega)).trans (if_neg (by omega)))
        rw [e3]
        refine ⟨i5 (by omega) (by omega), i5 (by omega) (by omega), c10 _ (hget (n := (pK p).length + 1) (fun i hi => c8 i (by omega)) (n + 1) (by omega)), ?_⟩
        rw [shU_s h a n _ (by omega)]
        refine w47_60 ?_
        rw [sb_m1 (by omega)]
        exact ih n (by omega) (by omega)
  | zero =>
    intro n hn hl
    have : n = i := by omega
    subst this
    have A1 := shU_PA h a n (pK p).length
    have o1 : OB (shU h a n (pK p).length) a 7 kP := A1.ob o o
    refine w47_6 o1 ⟨fun q => ?_, fun q => ?_⟩
    · rw [cl (by omega)]
      refine ⟨i5 (by omega) (by omega), i5 (by omega) (by omega), hr, ?_⟩
      have A2 := (A1.trans (PA.wL _ a n key)).trans (PA.wW _ a n r)
      refine w47_81 (A2.ob o o) ?_
      rw [nI_1, cl (by omega)]
      refine ⟨i5 (by omega) (by omega), hb, ?_⟩
      have A3 := A2.trans (PA.wB _ a (n + 1) b)
      refine w47_91 (A3.ob o o) ?_
      have e : ∀ v w z, hI (wR (wR (wL (shU h a n (pK p).length) (a + 1) n v) (a + 2) n w) (a + 3) (n + 1) z) a 96 = nI (pK p).length := fun _ _ _ => c2
      rw [e, nI_1]
      have A4 := A3.trans (PA.wC _ a (nI ((pK p).length + 1)))
      have Cn := PgC.mk (p' := (pF p, (pK p).insertIdx n key, (pW p).insertIdx n r, (pB p).insertIdx (n + 1) b, pN p)) (S.2 a p hp) A4 S.1 rfl ?_ ?_ ?_ ?_ ?_ ?_ ?_ ?_ ?_ ?_ c12
      · obtain ⟨x1, x2⟩ := ps_of S hp A4 Cn
        exact k _ x1 x2 rfl
      · show (if a = a ∧ 96 = 96 then nI ((pK p).length + 1) else _) = _
        rw [if_pos ⟨rfl, rfl⟩]
        simp only [pK, List.length_insertIdx]
        rw [if_pos hi]
      · show ((pK p).insertIdx n key).length ≤ 5
        rw [List.length_insertIdx]; split <;> omega
      · simp only [pK, List.length_insertIdx, if_pos hi]
        intro j hj
        rw [List.getElem?_insertIdx]
        show _ = some (u2 (fun b j => if b = a + 1 ∧ n < j ∧ j ≤ (pK p).length then hL h b (j - 1) else hL h b j) (a + 1) n key (a + 1) j)
        simp only [u2]
        have x1 := c4 j
        have x2 := c4 (j - 1)
        grind (splits := 30)
      · show ((pW p).insertIdx n r).length = ((pK p).insertIdx n key).length
        rw [List.length_insertIdx, List.length_insertIdx, if_pos hi, if_pos (by omega)]; omega
      · simp only [pK, pW, List.length_insertIdx, if_pos hi]
        intro j hj
        rw [List.getElem?_insertIdx]
        show _ = some (u2 (u2 (fun b j => if b = a + 2 ∧ n < j ∧ j ≤ (pK p).length then hR h b (j - 1) else if b = a + 3 ∧ n + 1 < j ∧ j ≤ (pK p).length + 1 then hR h b (j - 1) else hR h b j) (a + 2) n r) (a + 3) (n + 1) b (a + 2) j)
        simp only [u2]
        have x1 := c6 j
        have x2 := c6 (j - 1)
        grind (splits := 30)
      · show ((pB p).insertIdx (n + 1) b).length = ((pK p).insertIdx n key).length + 1
        rw [List.length_insertIdx, List.length_insertIdx, if_pos hi, if_pos (by omega)]; omega
      · simp only [pK, pB, List.length_insertIdx, if_pos hi]
        intro j hj
        rw [List.getElem?_insertIdx]
        show _ = some (u2 (u2 (fun b j => if b = a + 2 ∧ n < j ∧ j ≤ (pK p).length then hR h b (j - 1) else if b = a + 3 ∧ n + 1 < j ∧ j ≤ (pK p).length + 1 then hR h b (j - 1) else hR h b j) (a + 2) n r) (a + 3) (n + 1) b (a + 3) j)
        simp only [u2]
        have x1 := c8 j
        have x2 := c8 (j - 1)
        grind (splits := 30)
      · intro x hx
        rcases mem_insertIdx' hx with rfl | hx
        · exact hr
        · exact c9 x hx
      · intro x hx
        rcases mem_insertIdx' hx with rfl | hx
        · exact hb
        · exact c10 x hx
      · exact ((if_neg (by omega)).trans ((if_neg (by omega)).trans ((if_neg (by omega)).trans (if_neg (by omega))))).trans c11
    · rw [nI_ltI (by omega) (by omega)] at q; omega
