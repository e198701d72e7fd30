/-! deps: 25 36 37 39 -/
/-! ===== TREES: pure laws of routing, insertion and splitting ===== -/
def Srt (es : List En) : Prop := es.Pairwise (fun x y => x.1 < y.1)
def InsR (key : Int64) (r : Nat) (es es' : List En) : Prop := ∃ X Y, es = X ++ Y ∧ es' = X ++ (key, r) :: Y ∧ (∀ e ∈ X, e.1 < key) ∧ ∀ e ∈ Y, key < e.1
theorem InsR.ctx {key : Int64} {r : Nat} {es es' A C : List En} (k : InsR key r es es') (hA : ∀ e ∈ A, e.1 < key) (hC : ∀ e ∈ C, key < e.1) : InsR key r (A ++ (es ++ C)) (A ++ (es' ++ C)) := by
  obtain ⟨X, Y, rfl, rfl, h1, h2⟩ := k
  refine ⟨A ++ X, Y ++ C, by simp, by simp, fun e he => ?_, fun e he => ?_⟩
  · rcases List.mem_append.mp he with he | he
    · exact hA e he
    · exact h1 e he
  · rcases List.mem_append.mp he with he | he
    · exact h2 e he
    · exact hC e he
theorem InsR.mem {key : Int64} {r : Nat} {es es' : List En} (k : InsR key r es es') (e : En) : e ∈ es' ↔ e ∈ es ∨ e = (key, r) := by
  obtain ⟨X, Y, rfl, rfl, h1, h2⟩ := k
  simp only [List.mem_append, List.mem_cons]
  constructor
  · rintro (h | h | h)
    · exact Or.inl (Or.inl h)
    · exact Or.inr h
    · exact Or.inl (Or.inr h)
  · rintro ((h | h) | h)
    · exact Or.inl h
    · exact Or.inr (Or.inr h)
    · exact Or.inr (Or.inl h)
theorem InsR.srt {key : Int64} {r : Nat} {es es' : List En} (k : InsR key r es es') (s : Srt es) : Srt es' := by
  obtain ⟨X, Y, rfl, rfl, h1, h2⟩ := k
  unfold Srt at *
  rw [List.pairwise_append] at s ⊢
  refine ⟨s.1, List.pairwise_cons.mpr ⟨fun e he => h2 e he, s.2.1⟩, fun x hx y hy => ?_⟩
  rcases List.mem_cons.mp hy with rfl | hy
  · exact h1 x hx
  · exact s.2.2 x hx y hy
theorem ins_at {α : Type} (A B : List α) (x : α) : (A ++ B).insertIdx A.length x = A ++ x :: B := by
  induction A with
  | nil => simp
  | cons a A ih => simp [List.insertIdx_succ_cons, ih]
theorem ins_at1 {α : Type} (A B : List α) (y x : α) : (A ++ y :: B).insertIdx (A.length + 1) x = A ++ y :: x :: B := by
  have := ins_at (A ++ [y]) B x
  simpa using this
theorem get_at {α : Type} (A B : List α) (x : α) : (A ++ x :: B)[A.length]? = some x := by simp
/-- a sorted list cut at a key -/
theorem srt_cut {key : Int64} : ∀ {es : List En}, Srt es → (∀ e ∈ es, e.1 ≠ key) → ∃ X Y, es = X ++ Y ∧ (∀ e ∈ X, e.1 < key) ∧ (∀ e ∈ Y, key < e.1) ∧ cLt key (es.map (fun e => e.1)) = X.length
  | [], _, _ => ⟨[], [], rfl, fun _ h => (by cases h), fun _ h => (by cases h), rfl⟩
  | x :: es, s, hn => by
    have s' := List.pairwise_cons.mp s
    by_cases h : x.1 < key
    · obtain ⟨X, Y, e, h1, h2, h3⟩ := srt_cut (es := es) s'.2 (fun e he => hn e (List.mem_cons_of_mem _ he))
      refine ⟨x :: X, Y, by rw [e]; rfl, fun e he => ?_, h2, ?_⟩
      · rcases List.mem_cons.mp he with rfl | he
        · exact h
        · exact h1 e he
      · unfold cLt at h3 ⊢
        rw [List.map_cons, List.takeWhile_cons, if_pos (by simpa using h), List.length_cons, h3]; rfl
    · have hx : key < x.1 := by
        have := hn x List.mem_cons_self
        exact Int64.lt_of_le_of_ne (Int64.not_lt.mp h) (Ne.symm this)
      refine ⟨[], x :: es, rfl, fun _ h => (by cases h), fun e he => ?_, ?_⟩
      · rcases List.mem_cons.mp he with rfl | he
        · exact hx
        · exact Int64.lt_trans hx (s'.1 e he)
      · unfold cLt
        rw [List.map_cons, List.takeWhile_cons, if_neg (by simpa using h)]; rfl
/-- where a key goes among the pages below -/
theorem route {key : Int64} : ∀ {cs : List Cd} {ks : List Int64}, Sp (cs.map cE) ks → ∃ A c C KA KB, cs = A ++ c :: C ∧ ks = KA ++ KB ∧ A.length = KA.length ∧ KA.length = cLe key ks ∧ (∀ k ∈ KA, k ≤ key) ∧ (∀ e ∈ A.flatMap cE, e.1 < key) ∧ (∀ e ∈ C.flatMap cE, key < e.1) ∧ ((KB = [] ∧ C = []) ∨ ∃ k KB', KB = k :: KB' ∧ key < k ∧ ∀ e ∈ C.flatMap cE, k ≤ e.1)
  | [], _, h => h.elim
  | c :: cs, [], h => by
    have : cs.map cE = [] := h
    have : cs = [] := by simpa using this
    subst this
    exact ⟨[], c, [], [], [], rfl, rfl, rfl, rfl, fun _ h => (by cases h), fun _ h => (by simp at h), fun _ h => (by simp at h), Or.inl ⟨rfl, rfl⟩⟩
  | c :: cs, k :: ks, h => by
    obtain ⟨⟨h1, h2⟩, h3⟩ := h
    by_cases hk : k ≤ key
    · obtain ⟨A, d, C, KA, KB, e1, e2, e3, e4, e5, e6, e7, e8⟩ := route (key := key) h3
      refine ⟨c :: A, d, C, k :: KA, KB, by rw [e1]; rfl, by rw [e2]; rfl, by simp [e3], ?_, fun q hq => ?_, fun e he => ?_, e7, e8⟩
      · unfold cLe at e4 ⊢
        rw [List.takeWhile_cons, if_pos (by simpa using hk), List.length_cons, List.length_cons, e4]
      · rcases List.mem_cons.mp hq with rfl | hq
        · exact hk
        · exact e5 q hq
      · rw [List.flatMap_cons, List.mem_append] at he
        rcases he with he | he
        · exact Int64.lt_of_lt_of_le (h1 e he) hk
        · exact e6 e he
    · have hk' := Int64.not_le.mp hk
      have hC : ∀ e ∈ cs.flatMap cE, k ≤ e.1 := fun e he => h2 e (by rw [← List.flatMap_def]; exact he)
      refine ⟨[], c, cs, [], k :: ks, rfl, rfl, rfl, ?_, fun _ h => (by cases h), fun _ h => (by simp at h), fun e he => Int64.lt_of_lt_of_le hk' (hC e he), Or.inr ⟨k, ks, rfl, hk', hC⟩⟩
      unfold cLe
      rw [List.takeWhile_cons, if_neg (by simpa using hk)]
theorem Srt.sub {A B C : List En} (s : Srt (A ++ (B ++ C))) : Srt B ∧ (∀ x ∈ A, ∀ y ∈ B, x.1 < y.1) ∧ (∀ x ∈ B, ∀ y ∈ C, x.1 < y.1) := by
  unfold Srt at *
  rw [List.pairwise_append, List.pairwise_append] at s
  exact ⟨s.2.1.1, fun x hx y hy => s.2.2 x hx y (List.mem_append_left _ hy), s.2.1.2.2⟩
theorem Sp_cut : ∀ (A : List (List En)) (KA : List Int64) (c : List En) (k : Int64) (B : List (List En)) (KB : List Int64), A.length = KA.length → Sp (A ++ c :: B) (KA ++ k :: KB) → Sp (A ++ [c]) KA
  | [], [], c, k, B, KB, _, _ => rfl
  | x :: A, y :: KA, c, k, B, KB, hl, h => by
    obtain ⟨⟨h1, h2⟩, h3⟩ := h
    refine ⟨⟨h1, fun e he => h2 e ?_⟩, Sp_cut A KA c k B KB (by simpa using hl) h3⟩
    show e ∈ (A ++ c :: B).flatten
    have he : e ∈ (A ++ [c]).flatten := he
    simp only [List.flatten_append, List.flatten_cons, List.mem_append, List.flatten_nil, List.append_nil] at he ⊢
    rcases he with he | he
    · exact Or.inl he
    · exact Or.inr (Or.inl he)
theorem hd_take {cs : List Cd} {n : Nat} {nx nx' : Option Nat} (h : 0 < n) (hc : cs ≠ []) : hd (cs.take n) nx' = hd cs nx := by
  cases cs with
  | nil => exact absurd rfl hc
  | cons c cs => cases n with
    | zero => omega
    | succ n => rfl
theorem hd_some {R : Nat → List En → List Nat → Nat → Option Nat → Prop} {cs : List Cd} {nx : Option Nat} (hc : cs ≠ []) : ∃ f, hd cs nx = some f := by
  cases cs with
  | nil => exact absurd rfl hc
  | cons c cs => exact ⟨_, rfl⟩
/-- a page with five keys, split -/
theorem split_law {σ σ' : PS} {n b c : Nat} {es : List En} {fp : List Nat} {fs : Nat} {nx : Option Nat} {q : Pg} {mid : Int64} (k : Bt σ n 2 5 b es fp fs nx) (s : Srt es) (nd : fp.Nodup) (hq : σ b = some q) (h5 : (pK q).length = 5) (hm : (pK q)[2]? = some mid)
    (hb : σ' b = some (pF q, (pK q).take 2, (pW q).take 2, (pB q).take 3, if pF q then some c else pN q))
    (hc : σ' c = some (pF q, (pK q).drop (if pF q then 2 else 3), (pW q).drop (if pF q then 2 else 3), (pB q).drop (if pF q then 2 else 3), if pF q then pN q else none))
    (ho : ∀ x ∈ fp, x ≠ b → σ' x = σ x) :
    ∃ e1 e2 f1 f2 fs2, es = e1 ++ e2 ∧ Bt σ' n 2 4 b e1 f1 fs (some fs2) ∧ Bt σ' n 2 4 c e2 f2 fs2 nx ∧ (∀ x ∈ e1, x.1 < mid) ∧ (∀ x ∈ e2, mid ≤ x.1) ∧ e2 ≠ [] ∧ (f1 ++ f2).Perm (c :: fp) := by
  cases n with
  | zero =>
    obtain ⟨p, k1, k2, k3, k4, k5, k6, k7, k8, k9⟩ := k
    rw [hq] at k1; cases k1
    rw [k2] at hb hc
    simp only [if_true] at hb hc
    have l5 : es.length = 5 := by rw [k3, List.length_map] at h5; exact h5
    have sp : Srt (es.take 2 ++ es.drop 2) := by rw [List.take_append_drop]; exact s
    obtain ⟨em, hem⟩ : ∃ em, es[2]? = some em ∧ em.1 = mid := by
      rw [k3, List.getElem?_map] at hm
      cases h : es[2]? with
      | none => rw [h] at hm; cases hm
      | some em => rw [h] at hm; exact ⟨em, rfl, Option.some.inj hm⟩
    have hd2 : es.drop 2 = em :: es.drop 3 := by
      have := List.drop_eq_getElem_cons (l := es) (i := 2) (by omega)
      rw [this]
      have := hem.1
      rw [List.getElem?_eq_getElem (by omega)] at this
      rw [Option.some.inj this]
    unfold Srt at sp
    rw [List.pairwise_append] at sp
    refine ⟨es.take 2, es.drop 2, [b], [c], c, (List.take_append_drop 2 es).symm, ⟨_, hb, rfl, ?_, ?_, rfl, rfl, k7, ?_, ?_⟩, ⟨_, hc, rfl, ?_, ?_, k5, rfl, rfl, ?_, ?_⟩, fun x hx => ?_, fun x hx => ?_, ?_, ?_⟩
    · show (pK q).take 2 = _
      rw [k3, List.map_take]
    · show (pW q).take 2 = _
      rw [k4, List.map_take]
    · rw [List.length_take]; omega
    · rw [List.length_take]; omega
    · show (pK q).drop 2 = _
      rw [k3, List.map_drop]
    · show (pW q).drop 2 = _
      rw [k4, List.map_drop]
    · rw [List.length_drop]; omega
    · rw [List.length_drop]; omega
    · rw [← hem.2]; exact sp.2.2 x hx em (by rw [hd2]; exact List.mem_cons_self)
    · rw [hd2] at hx
      rcases List.mem_cons.mp hx with rfl | hx
      · rw [hem.2]; exact Int64.le_refl _
      · rw [← hem.2]
        have := sp.2.1
        rw [hd2] at this
        exact Int64.le_of_lt ((List.pairwise_cons.mp this).1 x hx)
    · rw [hd2]; exact List.cons_ne_nil _ _
    · rw [k6]; exact List.Perm.swap _ _ _
  | succ n =>
    obtain ⟨p, cs, k1, k2, k3, k4, k5, k6, k7, k8, k9, k10⟩ := k
    rw [hq] at k1; cases k1
    rw [k2] at hb hc
    simp only [Bool.false_eq_true, if_false] at hb hc
    have lc : cs.length = 6 := by
      have := Sp_len _ _ k10
      rw [List.length_map, h5] at this; exact this
    obtain ⟨c0, c1, c2, c3, c4, c5, rfl⟩ : ∃ c0 c1 c2 c3 c4 c5, cs = [c0, c1, c2, c3, c4, c5] := by
      match cs, lc with
      | [c0, c1, c2, c3, c4, c5], _ => exact ⟨_, _, _, _, _, _, rfl⟩
    obtain ⟨q0, q1, q2, q3, q4, hqk⟩ : ∃ q0 q1 q2 q3 q4, pK q = [q0, q1, q2, q3, q4] := by
      match h : pK q, h5 with
      | [q0, q1, q2, q3, q4], _ => exact ⟨_, _, _, _, _, rfl⟩
    rw [hqk] at hm k10
    obtain rfl : q2 = mid := by simpa using hm
    rw [k5, hqk] at hb hc
    obtain ⟨a0, a1, a2, a3, a4, a5, _⟩ := k9
    have hfr : ∀ d ∈ [c0, c1, c2, c3, c4, c5], ∀ x ∈ cF d, σ' x = σ x := by
      intro d hd x hx
      have hx' : x ∈ [c0, c1, c2, c3, c4, c5].flatMap cF := List.mem_flatMap.mpr ⟨d, hd, hx⟩
      refine ho x (by rw [k7]; exact List.mem_cons_of_mem _ hx') ?_
      rintro rfl
      rw [k7] at nd
      exact (List.nodup_cons.mp nd).1 hx'
    have fr : ∀ d ∈ [c0, c1, c2, c3, c4, c5], ∀ {fs nx}, Bt σ n 2 4 d.1 d.2.1 d.2.2.1 fs nx → Bt σ' n 2 4 d.1 d.2.1 d.2.2.1 fs nx := fun d hd _ _ q => Bt_frame _ _ _ _ _ _ _ _ (hfr d hd) q
    have z2 := Bt_many _ _ _ _ _ _ _ _ a2 (by omega)
    have z3 := Bt_many _ _ _ _ _ _ _ _ a3 (by omega)
    obtain ⟨g0, g1, g2, g3, g4, g5⟩ := k10
    obtain ⟨x2, hx2⟩ : ∃ x, x ∈ cE c2 := by
      match h : cE c2, z2 with
      | x :: _, _ => exact ⟨x, List.mem_cons_self⟩
      | [], z => simp only [cE] at h; rw [h] at z; simp at z
    have hes : es = (cE c0 ++ cE c1 ++ cE c2) ++ (cE c3 ++ cE c4 ++ cE c5) := by rw [k6]; simp
    have c2q : ∀ x ∈ cE c2, x.1 < q2 := g2.1
    refine ⟨cE c0 ++ cE c1 ++ cE c2, cE c3 ++ cE c4 ++ cE c5, b :: (cF c0 ++ cF c1 ++ cF c2), c :: (cF c3 ++ cF c4 ++ cF c5), c3.2.2.2, hes, ⟨_, [c0, c1, c2], hb, rfl, ?_, ?_, rfl, by simp, by simp, k8, ⟨fr c0 (by simp) a0, fr c1 (by simp) a1, fr c2 (by simp) a2, trivial⟩, ?_⟩, ⟨_, [c3, c4, c5], hc, rfl, ?_, ?_, rfl, by simp, by simp, rfl, ⟨fr c3 (by simp) a3, fr c4 (by simp) a4, fr c5 (by simp) a5, trivial⟩, ?_⟩, fun x hx => ?_, fun x hx => ?_, ?_, ?_⟩
    · exact (by decide : 2 ≤ 2)
    · exact (by decide : 2 ≤ 4)
    · exact ⟨⟨g0.1, fun e he => g0.2 e (by simp only [List.map, List.flatten_cons, List.flatten_nil, List.mem_append] at he ⊢; grind)⟩, ⟨g1.1, fun e he => g1.2 e (by simp only [List.map, List.flatten_cons, List.flatten_nil, List.mem_append] at he ⊢; grind)⟩, rfl⟩
    · exact (by decide : 2 ≤ 2)
    · exact (by decide : 2 ≤ 4)
    · exact ⟨g3, g4, g5⟩
    · rw [hes] at s
      have s1 := (List.pairwise_append.mp s).1
      rw [List.pairwise_append] at s1
      rcases List.mem_append.mp hx with hx | hx
      · exact Int64.lt_trans (s1.2.2 x hx x2 hx2) (c2q x2 hx2)
      · exact c2q x hx
    · refine g2.2 x ?_
      simp only [List.map, List.flatten_cons, List.flatten_nil, List.mem_append] at hx ⊢
      grind
    · intro e
      have : (cE c3).length = 0 := by
        have := congrArg List.length e
        simp at this
        simp [this]
      simp only [cE] at this z3; omega
    · rw [k7, List.perm_iff_count]
      intro x
      simp only [List.flatMap_cons, List.flatMap_nil, List.append_nil, List.count_append, List.count_cons]
      omega
