/-! deps: 25 26 27 36 37 38 39 40 41 42 43 44 45 46 47 48 49 -/
/-! ===== THE TREES OF ALL TABLES: a registry ===== -/
theorem Bt_pow {σ : PS} : ∀ (n a : Nat) (es : List En) (fp : List Nat) (fs : Nat) (nx : Option Nat), Bt σ n 2 4 a es fp fs nx → 2 ^ (n + 1) ≤ es.length
  | 0, a, es, fp, fs, nx, k => by
    obtain ⟨p, k1, k2, k3, k4, k5, k6, k7, k8, k9⟩ := k
    exact k8
  | n + 1, a, es, fp, fs, nx, k => by
    obtain ⟨p, cs, k1, k2, k3, k4, k5, k6, k7, k8, k9, k10⟩ := k
    have hl := Sp_len _ _ k10
    rw [List.length_map] at hl
    have X : ∀ (cs : List Cd) nx, All (Bt σ n 2 4) cs nx → cs.length * 2 ^ (n + 1) ≤ (cs.flatMap cE).length := by
      intro cs
      induction cs with
      | nil => intro nx _; simp
      | cons c cs ih =>
        intro nx q
        have := Bt_pow n _ _ _ _ _ q.1
        have := ih nx q.2
        simp only [List.flatMap_cons, List.length_append, List.length_cons, Nat.add_mul]
        simp only [cE] at *
        omega
    have := X cs nx k9
    rw [k6]
    have h2 : 2 * 2 ^ (n + 1) ≤ cs.length * 2 ^ (n + 1) := Nat.mul_le_mul_right _ (by omega)
    have : 2 ^ (n + 1 + 1) = 2 * 2 ^ (n + 1) := by rw [Nat.pow_succ]; omega
    omega
/-- a tree with few entries is not high -/
theorem Tre.low {h : AH} {σ : PS} {t n : Nat} {es : List En} {fp : List Nat} (T : Tre h σ t n es fp) (hl : es.length ≤ 48) : n ≤ 4 := by
  obtain ⟨T1, T2, T3, root, fs, T4, T5⟩ := T
  cases n with
  | zero => omega
  | succ n =>
    obtain ⟨p, cs, k1, k2, k3, k4, k5, k6, k7, k8, k9, k10⟩ := T5
    have l1 := Sp_len _ _ k10
    rw [List.length_map] at l1
    have k3 : 1 ≤ (pK p).length := k3
    match cs, l1 with
    | c :: d :: cs, _ =>
      have a1 := Bt_pow _ _ _ _ _ _ k9.1
      have a2 := Bt_pow _ _ _ _ _ _ k9.2.1
      rw [k6] at hl
      simp only [List.flatMap_cons, List.length_append, cE] at hl
      rcases Nat.lt_or_ge n 4 with q | q
      · omega
      · have : 2 ^ 5 ≤ 2 ^ (n + 1) := Nat.pow_le_pow_right (by omega) (by omega)
        omega
    | [c], l => exact absurd (show 1 = (pK p).length + 1 from l) (by omega)
/-- what is neither part of a page nor a tree stays -/
def NQ (h h' : AH) (c s : Nat) : Prop := hN h ≤ hN h' ∧ hC h ≤ hC h' + c ∧ hS h ≤ hS h' + s ∧ (∀ b, b < hN h → hT h' b = hT h b) ∧
  ∀ b, b < hN h → ¬ pgt (hT h b) → hT h b ≠ some (14, 0) → (∀ j, hI h' b j = hI h b j) ∧ (∀ j, hL h' b j = hL h b j) ∧ ∀ j, hR h' b j = hR h b j
theorem NQ.refl (h : AH) : NQ h h 0 0 := ⟨Nat.le_refl _, Nat.le_refl _, Nat.le_refl _, fun _ _ => rfl, fun _ _ _ _ => ⟨fun _ => rfl, fun _ => rfl, fun _ => rfl⟩⟩
theorem NQ.trans {h h' h'' : AH} {c c' s s' : Nat} (a : NQ h h' c s) (b : NQ h' h'' c' s') : NQ h h'' (c + c') (s + s') := by
  obtain ⟨a1, a2, a3, a4, a5⟩ := a
  obtain ⟨b1, b2, b3, b4, b5⟩ := b
  refine ⟨by omega, by omega, by omega, fun q hq => (b4 q (by omega)).trans (a4 q hq), fun q hq hn ht => ?_⟩
  obtain ⟨x1, x2, x3⟩ := a5 q hq hn ht
  obtain ⟨y1, y2, y3⟩ := b5 q (by omega) (by rw [a4 q hq]; exact hn) (by rw [a4 q hq]; exact ht)
  exact ⟨fun j => (y1 j).trans (x1 j), fun j => (y2 j).trans (x2 j), fun j => (y3 j).trans (x3 j)⟩
theorem NQ.weak {h h' : AH} {c c' s s' : Nat} (a : NQ h h' c s) (hc : c ≤ c') (hs : s ≤ s') : NQ h h' c' s' := by
  obtain ⟨a1, a2, a3, a4, a5⟩ := a
  exact ⟨a1, by omega, by omega, a4, a5⟩
theorem NPt.q {h h' : AH} {t c s : Nat} (a : NPt h h' t c s) (ht : hT h t = some (14, 0)) : NQ h h' c s :=
  ⟨a.1, a.2.1, a.2.2.1, a.2.2.2.1, fun b hb hn h14 => a.2.2.2.2 b hb hn (fun q => h14 (q ▸ ht))⟩
theorem NQ.T {h h' : AH} {c s b : Nat} {t : Nat × Nat} (a : NQ h h' c s) (w : HW h) (ht : hT h b = some t) : hT h' b = some t := by rw [a.2.2.2.1 b (w.lt ht)]; exact ht
theorem NQ.mem {h h' : AH} {c s b : Nat} {t : Nat × Nat} (a : NQ h h' c s) (w : HW h) (ht : hT h b = some t) (h1 : t ≠ (7, 0)) (h2 : t ≠ (102, 5)) (h3 : t ≠ (103, 5)) (h4 : t ≠ (104, 6)) (h5 : t ≠ (14, 0)) : (∀ j, hI h' b j = hI h b j) ∧ (∀ j, hL h' b j = hL h b j) ∧ ∀ j, hR h' b j = hR h b j := by
  refine a.2.2.2.2 b (w.lt ht) ?_ (by rw [ht]; exact fun q => h5 (Option.some.inj q))
  rintro (q | q | q | q) <;> rw [ht] at q
  · exact h1 (Option.some.inj q)
  · exact h2 (Option.some.inj q)
  · exact h3 (Option.some.inj q)
  · exact h4 (Option.some.inj q)
abbrev TrF : Type := Nat → Nat
abbrev EsF : Type := Nat → List En
abbrev FpF : Type := Nat → List Nat
def fu {α : Type} (f : Nat → α) (q : Nat) (x : α) : Nat → α := fun i => if i = q then x else f i
theorem fu_same {α : Type} (f : Nat → α) (q : Nat) (x : α) : fu f q x q = x := if_pos rfl
theorem fu_ne {α : Type} {f : Nat → α} {q i : Nat} {x : α} (h : i ≠ q) : fu f q x i = f i := if_neg h
/-- the trees that are there: each is one, and no two have a page in common -/
def Rg (h : AH) (σ : PS) (act : Nat → Prop) (tr : TrF) (es : EsF) (fp : FpF) : Prop := (∀ q, act q → ∃ n, Tre h σ (tr q) n (es q) (fp q)) ∧ ∀ q q', act q → act q' → q ≠ q' → tr q ≠ tr q' ∧ ∀ b ∈ fp q, b ∉ fp q'
theorem Tre.dom {h : AH} {σ : PS} {t n : Nat} {es : List En} {fp : List Nat} (S : PSt h σ) (T : Tre h σ t n es fp) : ∀ b ∈ fp, b < hN h := by
  obtain ⟨T1, T2, T3, root, fs, T4, T5⟩ := T
  intro b hb
  obtain ⟨p, hp⟩ := Bt_dom _ _ _ _ _ _ _ _ T5 b hb
  exact pg_lt S hp
theorem Tre.keep {h h' : AH} {σ σ' : PS} {t n : Nat} {es : List En} {fp : List Nat} (T : Tre h σ t n es fp) (h1 : hT h' t = hT h t) (h2 : hR h' t 106 = hR h t 106) (h3 : ∀ b ∈ fp, σ' b = σ b) : Tre h' σ' t n es fp := by
  obtain ⟨T1, T2, T3, root, fs, T4, T5⟩ := T
  exact ⟨h1.trans T1, T2, T3, root, fs, h2.trans T4, Bt_frame _ _ _ _ _ _ _ _ h3 T5⟩
theorem Rg.upd {h h' : AH} {σ σ' : PS} {act : Nat → Prop} {tr : TrF} {es : EsF} {fp : FpF} {q c s n' : Nat} {es' : List En} {fp' : List Nat} (S : PSt h σ) (R : Rg h σ act tr es fp) (hq : act q) (T' : Tre h' σ' (tr q) n' es' fp') (hf : ∀ b ∈ fp', b ∈ fp q ∨ hN h ≤ b) (fr : ∀ b, b ∉ fp q → b < hN h → σ' b = σ b) (N : NPt h h' (tr q) c s) : Rg h' σ' act tr (fu es q es') (fu fp q fp') := by
  obtain ⟨R1, R2⟩ := R
  refine ⟨fun i hi => ?_, fun i j hi hj hij => ⟨(R2 i j hi hj hij).1, ?_⟩⟩
  · by_cases e : i = q
    · subst e; rw [fu_same, fu_same]; exact ⟨n', T'⟩
    · rw [fu_ne e, fu_ne e]
      obtain ⟨n, T⟩ := R1 i hi
      refine ⟨n, T.keep (N.2.2.2.1 _ (S.1.lt T.1)) ?_ (fun b hb => fr b ((R2 i q hi hq e).2 b hb) (T.dom S b hb))⟩
      exact (N.2.2.2.2 _ (S.1.lt T.1) (not_pgt T.1 (by decide) (by decide) (by decide) (by decide)) (R2 i q hi hq e).1).2.2 106
  · intro b hb hb2
    by_cases ei : i = q
    · subst ei
      rw [fu_same] at hb
      rw [fu_ne (Ne.symm hij)] at hb2
      obtain ⟨n, T⟩ := R1 j hj
      rcases hf b hb with g | g
      · exact (R2 i j hi hj hij).2 b g hb2
      · have := T.dom S b hb2; omega
    · rw [fu_ne ei] at hb
      by_cases ej : j = q
      · subst ej
        rw [fu_same] at hb2
        obtain ⟨n, T⟩ := R1 i hi
        rcases hf b hb2 with g | g
        · exact (R2 i j hi hj hij).2 b hb g
        · have := T.dom S b hb; omega
      · rw [fu_ne ej] at hb2
        exact (R2 i j hi hj hij).2 b hb hb2
/-- nothing of the trees has changed -/
theorem Rg.keep {h h' : AH} {σ : PS} {act : Nat → Prop} {tr : TrF} {es : EsF} {fp : FpF} (R : Rg h σ act tr es fp) (k : ∀ q n, act q → Tre h σ (tr q) n (es q) (fp q) → hT h' (tr q) = hT h (tr q) ∧ hR h' (tr q) 106 = hR h (tr q) 106) : Rg h' σ act tr es fp := by
  refine ⟨fun i hi => ?_, R.2⟩
  obtain ⟨n, T⟩ := R.1 i hi
  obtain ⟨k1, k2⟩ := k i n hi T
  exact ⟨n, T.keep k1 k2 (fun _ _ => rfl)⟩
/-- one tree more -/
theorem Rg.add {h h' : AH} {σ σ' : PS} {act : Nat → Prop} {tr : TrF} {es : EsF} {fp : FpF} {q t n' : Nat} {es' : List En} {fp' : List Nat} (S : PSt h σ) (R : Rg h σ act tr es fp) (hq : ¬ act q) (T' : Tre h' σ' t n' es' fp') (ht : hN h ≤ t) (hf : ∀ b ∈ fp', hN h ≤ b) (fr : ∀ b, b < hN h → σ' b = σ b) (k : ∀ b, hT h b = some (14, 0) → hT h' b = hT h b ∧ hR h' b 106 = hR h b 106) : Rg h' σ' (fun i => i = q ∨ act i) (fu tr q t) (fu es q es') (fu fp q fp') := by
  obtain ⟨R1, R2⟩ := R
  have ne : ∀ i, act i → i ≠ q := fun i hi e => hq (e ▸ hi)
  refine ⟨fun i hi => ?_, fun i j hi hj hij => ?_⟩
  · rcases hi with rfl | hi
    · rw [fu_same, fu_same, fu_same]; exact ⟨n', T'⟩
    · rw [fu_ne (ne i hi), fu_ne (ne i hi), fu_ne (ne i hi)]
      obtain ⟨n, T⟩ := R1 i hi
      exact ⟨n, T.keep (k _ T.1).1 (k _ T.1).2 (fun b hb => fr b (T.dom S b hb))⟩
  · rcases hi with rfl | hi
    · rcases hj with rfl | hj
      · exact absurd rfl hij
      · obtain ⟨n, T⟩ := R1 j hj
        rw [fu_same, fu_same, fu_ne (ne j hj), fu_ne (ne j hj)]
        have := S.1.lt T.1
        refine ⟨by omega, fun b hb hb2 => ?_⟩
        have := T.dom S b hb2
        have := hf b hb
        omega
    · rcases hj with rfl | hj
      · obtain ⟨n, T⟩ := R1 i hi
        rw [fu_same, fu_same, fu_ne (ne i hi), fu_ne (ne i hi)]
        have := S.1.lt T.1
        refine ⟨by omega, fun b hb hb2 => ?_⟩
        have := T.dom S b hb
        have := hf b hb2
        omega
      · rw [fu_ne (ne i hi), fu_ne (ne i hi), fu_ne (ne j hj), fu_ne (ne j hj)]
        exact R2 i j hi hj hij
