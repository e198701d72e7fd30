/-! deps: 25 26 27 36 37 38 39 40 41 42 43 -/
/-! ===== TREE: the chain of leaves, leafFor, find; WALKER ===== -/
abbrev Lf : Type := Nat × List En
def Lseg (σ : PS) : Option Nat → List Lf → Option Nat → Prop
  | r, [], nx => r = nx
  | r, l :: L, nx => r = some l.1 ∧ ∃ p, σ l.1 = some p ∧ pF p = true ∧ pK p = l.2.map (fun e => e.1) ∧ pW p = l.2.map (fun e => some e.2) ∧ Lseg σ (pN p) L nx
abbrev lE (l : Lf) : List En := l.2
theorem Lseg_app {σ : PS} : ∀ {L M : List Lf} {r x y : Option Nat}, Lseg σ r L x → Lseg σ x M y → Lseg σ r (L ++ M) y
  | [], M, r, x, y, h, k => by
    have : r = x := h
    rw [this]; exact k
  | l :: L, M, r, x, y, h, k => by
    obtain ⟨h1, p, h2, h3, h4, h5, h6⟩ := h
    exact ⟨h1, p, h2, h3, h4, h5, Lseg_app h6 k⟩
theorem Bt_seg {σ : PS} : ∀ (n lo hi a : Nat) (es : List En) (fp : List Nat) (fs : Nat) (nx : Option Nat), Bt σ n lo hi a es fp fs nx → ∃ L, Lseg σ (some fs) L nx ∧ es = L.flatMap lE ∧ (∀ l ∈ L, l.1 ∈ fp)
  | 0, lo, hi, a, es, fp, fs, nx, k => by
    obtain ⟨p, k1, k2, k3, k4, k5, k6, k7, k8, k9⟩ := k
    refine ⟨[(a, es)], ⟨by rw [k7], p, k1, k2, k3, k4, k5⟩, by simp, fun l hl => ?_⟩
    rw [List.mem_singleton.mp hl, k6]; exact List.mem_singleton.mpr rfl
  | n + 1, lo, hi, a, es, fp, fs, nx, k => by
    obtain ⟨p, cs, k1, k2, k3, k4, k5, k6, k7, k8, k9, k10⟩ := k
    have X : ∀ (cs : List Cd), All (Bt σ n 2 4) cs nx → ∃ L, Lseg σ (hd cs nx) L nx ∧ cs.flatMap cE = L.flatMap lE ∧ (∀ l ∈ L, l.1 ∈ cs.flatMap cF) := by
      intro cs
      induction cs with
      | nil => intro _; exact ⟨[], rfl, rfl, fun _ h => (by cases h)⟩
      | cons c cs ih =>
        intro q
        obtain ⟨L2, h1, h2, h3⟩ := ih q.2
        obtain ⟨L1, g1, g2, g3⟩ := Bt_seg n 2 4 _ _ _ _ _ q.1
        refine ⟨L1 ++ L2, Lseg_app g1 h1, ?_, fun l hl => ?_⟩
        · rw [List.flatMap_cons, List.flatMap_append, h2, ← g2]
        · rw [List.flatMap_cons, List.mem_append]
          rcases List.mem_append.mp hl with hl | hl
          · exact Or.inl (g3 l hl)
          · exact Or.inr (h3 l hl)
    obtain ⟨L, h1, h2, h3⟩ := X cs k9
    rw [k8] at h1
    exact ⟨L, h1, by rw [k6, h2], fun l hl => by rw [k7]; exact List.mem_cons_of_mem _ (h3 l hl)⟩
/-- the leaf b among the leaves, where a key stands or would stand -/
def At (σ : PS) (key : Int64) (b : Nat) (fs : Nat) (nx : Option Nat) (es : List En) (fp : List Nat) : Prop := ∃ L1 e L2, Lseg σ (some fs) (L1 ++ (b, e) :: L2) nx ∧ es = L1.flatMap lE ++ (e ++ L2.flatMap lE) ∧ (∀ x ∈ L1.flatMap lE, x.1 < key) ∧ (∀ x ∈ L2.flatMap lE, key < x.1) ∧ ∀ l ∈ L1 ++ (b, e) :: L2, l.1 ∈ fp
theorem leaf_loop {d t : Nat} {key : Int64} {h : AH} {σ : PS} (S : PSt h σ) : ∀ (n lo a : Nat) (es : List En) (fp : List Nat) (fs : Nat) (nx : Option Nat) (P : PT), Bt σ n lo 4 a es fp fs nx → (∀ b, At σ key b fs nx es fp → P (.inl (some (vR (some b)))) h) → Ev (d + 1) 70 5 [vR (some t), vL key, vU, vR (some a)] [] h P := by
  intro n
  induction n with
  | zero =>
    intro lo a es fp fs nx P B K
    obtain ⟨p, k1, k2, k3, k4, k5, k6, k7, k8, k9⟩ := B
    refine w70_5 (pg_o S k1) ⟨fun _ => ?_, fun e => ?_⟩
    · refine K a ⟨[], es, [], ⟨by rw [k7], p, k1, k2, k3, k4, k5⟩, by simp, fun _ h => (by cases h), fun _ h => (by cases h), fun l hl => ?_⟩
      have : l = (a, es) := by simpa using hl
      rw [this, k6]; exact List.mem_singleton.mpr rfl
    · rw [pg_f S k1, k2] at e; exact absurd e (by decide)
  | succ n ih =>
    intro lo a es fp fs nx P B K
    obtain ⟨p, cs, k1, k2, k3, k4, k5, k6, k7, k8, k9, k10⟩ := B
    refine w70_5 (pg_o S k1) ⟨fun e => ?_, fun _ => ?_⟩
    · rw [pg_f S k1, k2] at e; exact absurd rfl e
    refine m45 S k1 ?_
    obtain ⟨A, c, C, KA, KB, e1, e2, e3, e4, e5, e6, e7, e8⟩ := route (key := key) k10
    rw [← e4, ← e3]
    have hbk : (pB p)[A.length]? = some (some c.1) := by
      rw [k5, e1, List.map_append, List.map_cons]
      have := get_at (A.map (fun c => some c.1)) (C.map (fun c => some c.1)) (some c.1)
      simpa using this
    obtain ⟨hR1, hi1⟩ := pg_b S k1 hbk
    refine w70_21 ⟨6, (pg_o S k1).t3, i5 (by omega) (by omega), c.1, by rw [cl (by omega)]; exact hR1, ?_⟩
    rw [e1] at k9
    obtain ⟨kA, kc, kC⟩ := (All_append A (c :: C) nx).mp k9
    refine ih 2 c.1 (cE c) (cF c) c.2.2.2 (hd C nx) P kc (fun b hb => K b ?_)
    have X : ∀ (cs : List Cd) (nx : Option Nat), All (Bt σ n 2 4) cs nx → ∃ L, Lseg σ (hd cs nx) L nx ∧ cs.flatMap cE = L.flatMap lE ∧ (∀ l ∈ L, l.1 ∈ cs.flatMap cF) := by
      intro cs
      induction cs with
      | nil => intro nx _; exact ⟨[], rfl, rfl, fun _ h => (by cases h)⟩
      | cons c cs ih =>
        intro nx q
        obtain ⟨L2, h1, h2, h3⟩ := ih nx q.2
        obtain ⟨L1, g1, g2, g3⟩ := Bt_seg n 2 4 _ _ _ _ _ q.1
        refine ⟨L1 ++ L2, Lseg_app g1 h1, ?_, fun l hl => ?_⟩
        · rw [List.flatMap_cons, List.flatMap_append, h2, ← g2]
        · rw [List.flatMap_cons, List.mem_append]
          rcases List.mem_append.mp hl with hl | hl
          · exact Or.inl (g3 l hl)
          · exact Or.inr (h3 l hl)
    obtain ⟨M1, x1, x2, x3⟩ := X A _ kA
    obtain ⟨M2, y1, y2, y3⟩ := X C nx kC
    obtain ⟨L1, e, L2, z1, z2, z3, z4, z5⟩ := hb
    have hfs : hd A (some c.2.2.2) = some fs := by rw [← k8, e1, hd_append]; rfl
    rw [show hd (c :: C) nx = some c.2.2.2 from rfl, hfs] at x1
    refine ⟨M1 ++ L1, e, L2 ++ M2, ?_, ?_, ?_, ?_, ?_⟩
    · have := Lseg_app (Lseg_app x1 z1) y1
      simpa using this
    · rw [k6, e1, List.flatMap_append, List.flatMap_cons, z2, x2, y2]; simp
    · intro x hx
      rw [List.flatMap_append, List.mem_append] at hx
      rcases hx with hx | hx
      · exact e6 x (by rw [x2]; exact hx)
      · exact z3 x hx
    · intro x hx
      rw [List.flatMap_append, List.mem_append] at hx
      rcases hx with hx | hx
      · exact z4 x hx
      · exact e7 x (by rw [y2]; exact hx)
    · intro l hl
      rw [k7, e1]
      refine List.mem_cons_of_mem _ ?_
      rw [List.flatMap_append, List.flatMap_cons, List.mem_append, List.mem_append]
      have : l ∈ M1 ∨ l ∈ L1 ++ (b, e) :: L2 ∨ l ∈ M2 := by
        simp only [List.mem_append, List.mem_cons] at hl ⊢
        grind
      rcases this with q | q | q
      · exact Or.inl (x3 l q)
      · exact Or.inr (Or.inl (z5 l q))
      · exact Or.inr (Or.inr (y3 l q))
theorem m70 {n d t : Nat} {es : List En} {fp : List Nat} {h : AH} {σ : PS} {key : Int64} {P : PT} (S : PSt h σ) (T : Tre h σ t n es fp) (K : ∀ b fs, At σ key b fs none es fp → P (.inl (some (vR (some b)))) h) : Ev (d + 1) 70 0 [vR (some t), vL key, vU, vU] [] h P := by
  obtain ⟨T1, T2, T3, root, fs, T4, T5⟩ := T
  refine w70_0 ⟨T1, trivial⟩ ⟨root, T4, ?_⟩
  exact leaf_loop S n _ root es fp fs none P T5 (fun b hb => K b fs hb)
/-- a sorted list cut at a key that may be there -/
theorem srt_cut2 {key : Int64} : ∀ {es : List En}, Srt es → ∃ X Y, es = X ++ Y ∧ (∀ e ∈ X, e.1 < key) ∧ (∀ e ∈ Y, key ≤ e.1) ∧ cLt key (es.map (fun e => e.1)) = X.length
  | [], _ => ⟨[], [], rfl, fun _ h => (by cases h), fun _ h => (by cases h), rfl⟩
  | x :: es, s => by
    have s' := List.pairwise_cons.mp s
    by_cases h : x.1 < key
    · obtain ⟨X, Y, e, h1, h2, h3⟩ := srt_cut2 (key := key) (es := es) s'.2
      refine ⟨x :: X, Y, by rw [e]; rfl, fun e he => ?_, h2, ?_⟩
      · rcases List.mem_cons.mp he with rfl | he
        · exact h
        · exact h1 e he
      · unfold cLt at h3 ⊢
        rw [List.map_cons, List.takeWhile_cons, if_pos (by simpa using h), List.length_cons, h3]; rfl
    · have hx := Int64.not_lt.mp h
      refine ⟨[], x :: es, rfl, fun _ h => (by cases h), fun e he => ?_, ?_⟩
      · rcases List.mem_cons.mp he with rfl | he
        · exact hx
        · exact Int64.le_of_lt (Int64.lt_of_le_of_lt hx (s'.1 e he))
      · unfold cLt
        rw [List.map_cons, List.takeWhile_cons, if_neg (by simpa using h)]; rfl
theorem Lseg_at {σ : PS} : ∀ {L1 : List Lf} {l : Lf} {L2 : List Lf} {r nx : Option Nat}, Lseg σ r (L1 ++ l :: L2) nx → ∃ p, σ l.1 = some p ∧ pF p = true ∧ pK p = l.2.map (fun e => e.1) ∧ pW p = l.2.map (fun e => some e.2) ∧ Lseg σ (pN p) L2 nx
  | [], l, L2, r, nx, h => h.2
  | _ :: L1, l, L2, r, nx, h => by
    obtain ⟨_, p, _, _, _, _, h⟩ := h
    exact Lseg_at h
theorem m74 {n d t : Nat} {es : List En} {fp : List Nat} {h : AH} {σ : PS} {key : Int64} {P : PT} (S : PSt h σ) (T : Tre h σ t n es fp) (K : ∀ r, (r = none ∧ ∀ e ∈ es, e.1 ≠ key) ∨ (∃ row, r = some row ∧ (key, row) ∈ es) → P (.inl (some (vR r))) h) : Ev (d + 2) 74 0 [vR (some t), vL key, vU, vU, vU] [] h P := by
  refine w74_0 ⟨T.1, trivial⟩ ?_
  refine m70 S T (fun b fs ⟨L1, e, L2, h1, h2, h3, h4, _⟩ => ?_)
  obtain ⟨p, q1, q2, q3, q4, q5⟩ := Lseg_at h1
  refine w74_5 (pg_o S q1) ?_
  refine m46 S q1 ?_
  have st := T.2.2.1
  rw [h2] at st
  obtain ⟨st1, st2, st3⟩ := Srt.sub st
  obtain ⟨X, Y, e1, e2, e3, e4⟩ := srt_cut2 (key := key) st1
  have q3 : pK p = e.map (fun e => e.1) := q3
  have q4 : pW p = e.map (fun e => some e.2) := q4
  have lk : (pK p).length = X.length + Y.length := by rw [q3, e1, List.length_map, List.length_append]
  have h5 := pg_5 S q1
  rw [q3, e4]
  have nf : (∀ y ∈ Y, y.1 ≠ key) → ∀ x ∈ es, x.1 ≠ key := by
    intro hY x hx
    rw [h2, e1] at hx
    simp only [List.mem_append] at hx
    rcases hx with hx | (hx | hx) | hx
    · exact Int64.ne_of_lt (h3 x hx)
    · exact Int64.ne_of_lt (e2 x hx)
    · exact hY x hx
    · exact Ne.symm (Int64.ne_of_lt (h4 x hx))
  refine w74_11 (pg_o S q1) ⟨fun g => ?_, fun g => ⟨?_, fun g2 => ?_, fun g2 => ⟨?_, ?_⟩⟩⟩
  · rw [pg_n S q1, nI_leI (by omega) (by omega)] at g
    have : Y = [] := List.eq_nil_of_length_eq_zero (by omega)
    exact K none (Or.inl ⟨rfl, nf (by rw [this]; exact fun _ h => (by cases h))⟩)
  all_goals rw [pg_n S q1, nI_ltI (by omega) (by omega)] at g
  · exact i5 (by omega) (by omega)
  · rw [cl (by omega)] at g2
    have gk := pg_k S q1 (i := X.length) (by omega)
    obtain ⟨y, Y', rfl⟩ : ∃ y Y', Y = y :: Y' := by
      cases Y with
      | nil => simp at lk; omega
      | cons y Y' => exact ⟨y, Y', rfl⟩
    have : (pK p)[X.length]? = some y.1 := by rw [q3, e1]; simp
    rw [this] at gk
    rw [← Option.some.inj gk] at g2
    refine K none (Or.inl ⟨rfl, nf (fun z hz => ?_)⟩)
    rcases List.mem_cons.mp hz with rfl | hz
    · exact g2
    · rw [e1] at st1
      have := (List.pairwise_cons.mp (List.pairwise_append.mp st1).2.1).1 z hz
      exact Ne.symm (Int64.ne_of_lt (Int64.lt_of_le_of_lt (e3 y List.mem_cons_self) this))
  · exact i5 (by omega) (by omega)
  · rw [cl (by omega)] at g2 ⊢
    have gk := pg_k S q1 (i := X.length) (by omega)
    have gw := pg_w S q1 (i := X.length) (by omega)
    obtain ⟨y, Y', rfl⟩ : ∃ y Y', Y = y :: Y' := by
      cases Y with
      | nil => simp at lk; omega
      | cons y Y' => exact ⟨y, Y', rfl⟩
    have t1 : (pK p)[X.length]? = some y.1 := by rw [q3, e1]; simp
    have t2 : (pW p)[X.length]? = some (some y.2) := by rw [q4, e1]; simp
    rw [t1] at gk
    rw [t2] at gw
    rw [← Option.some.inj gk] at g2
    rw [← Option.some.inj gw]
    refine K (some y.2) (Or.inr ⟨y.2, rfl, ?_⟩)
    rw [h2, e1, ← g2]; simp
