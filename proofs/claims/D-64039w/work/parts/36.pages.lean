/-! deps: 25 -/
/-! ===== PAGES: a store of page records over the heap ===== -/
/-- a page: leaf, keys, rows, pages below, next -/
abbrev Pg : Type := Bool × List Int64 × List (Option Nat) × List (Option Nat) × Option Nat
abbrev pF (p : Pg) : Bool := p.1
abbrev pK (p : Pg) : List Int64 := p.2.1
abbrev pW (p : Pg) : List (Option Nat) := p.2.2.1
abbrev pB (p : Pg) : List (Option Nat) := p.2.2.2.1
abbrev pN (p : Pg) : Option Nat := p.2.2.2.2
def bI (b : Bool) : Int32 := if b then 1 else 0
def PgC (h : AH) (a : Nat) (p : Pg) : Prop :=
  OB h a 7 kP ∧ hI h a 83 = bI (pF p) ∧ hI h a 96 = nI (pK p).length ∧ (pK p).length ≤ 5 ∧ (∀ i, i < (pK p).length → (pK p)[i]? = some (hL h (a + 1) i)) ∧
  (pW p).length = (pK p).length ∧ (∀ i, i < (pK p).length → (pW p)[i]? = some (hR h (a + 2) i)) ∧
  (pB p).length = (pK p).length + 1 ∧ (∀ i, i ≤ (pK p).length → (pB p)[i]? = some (hR h (a + 3) i)) ∧
  (∀ r ∈ pW p, RT h r 9) ∧ (∀ r ∈ pB p, RT h r 7) ∧ hR h a 102 = pN p ∧ RT h (pN p) 7
abbrev PS : Type := Nat → Option Pg
def up (σ : PS) (a : Nat) (p : Pg) : PS := fun b => if b = a then some p else σ b
theorem up_same (σ : PS) (a : Nat) (p : Pg) : up σ a p a = some p := if_pos rfl
theorem up_ne {σ : PS} {a b : Nat} {p : Pg} (h : b ≠ a) : up σ a p b = σ b := if_neg h
/-- beyond the next address there is nothing -/
def HW (h : AH) : Prop := ∀ b, hN h ≤ b → hT h b = none
theorem HW.lt {h : AH} (w : HW h) {b : Nat} {t : Nat × Nat} (ht : hT h b = some t) : b < hN h := by
  rcases Nat.lt_or_ge b (hN h) with q | q
  · exact q
  · rw [w b q] at ht; cases ht
def PSt (h : AH) (σ : PS) : Prop := HW h ∧ ∀ a p, σ a = some p → PgC h a p
def pgt (t : Option (Nat × Nat)) : Prop := t = some (7, 0) ∨ t = some (102, 5) ∨ t = some (103, 5) ∨ t = some (104, 6)
/-- what isn't part of a page stays; so many cells and slots are used -/
def NP (h h' : AH) (c s : Nat) : Prop := hN h ≤ hN h' ∧ hC h ≤ hC h' + c ∧ hS h ≤ hS h' + s ∧ (∀ b, b < hN h → hT h' b = hT h b) ∧
  ∀ b, b < hN h → ¬ pgt (hT h b) → (∀ j, hI h' b j = hI h b j) ∧ (∀ j, hL h' b j = hL h b j) ∧ ∀ j, hR h' b j = hR h b j
theorem NP.refl (h : AH) : NP h h 0 0 := ⟨Nat.le_refl _, Nat.le_refl _, Nat.le_refl _, fun _ _ => rfl, fun _ _ _ => ⟨fun _ => rfl, fun _ => rfl, fun _ => rfl⟩⟩
theorem NP.trans {h h' h'' : AH} {c c' s s' : Nat} (a : NP h h' c s) (b : NP h' h'' c' s') : NP h h'' (c + c') (s + s') := by
  obtain ⟨a1, a2, a3, a4, a5⟩ := a
  obtain ⟨b1, b2, b3, b4, b5⟩ := b
  refine ⟨by omega, by omega, by omega, fun q hq => (b4 q (by omega)).trans (a4 q hq), fun q hq hn => ?_⟩
  obtain ⟨x1, x2, x3⟩ := a5 q hq hn
  obtain ⟨y1, y2, y3⟩ := b5 q (by omega) (by rw [a4 q hq]; exact hn)
  exact ⟨fun j => (y1 j).trans (x1 j), fun j => (y2 j).trans (x2 j), fun j => (y3 j).trans (x3 j)⟩
theorem NP.weak {h h' : AH} {c c' s s' : Nat} (a : NP h h' c s) (hc : c ≤ c') (hs : s ≤ s') : NP h h' c' s' := by
  obtain ⟨a1, a2, a3, a4, a5⟩ := a
  exact ⟨a1, by omega, by omega, a4, a5⟩
theorem RT_T {h h' : AH} {r : Option Nat} {c : Nat} (w : HW h) (hT' : ∀ b, b < hN h → hT h' b = hT h b) (k : RT h r c) : RT h' r c := by
  intro b hb
  obtain ⟨n, hn⟩ := k b hb
  exact ⟨n, by rw [hT' b (w.lt hn)]; exact hn⟩
theorem RT_none {h : AH} {c : Nat} : RT h none c := fun _ e => by cases e
theorem RT_some {h : AH} {a c n : Nat} (e : hT h a = some (c, n)) : RT h (some a) c := fun b hb => by cases hb; exact ⟨n, e⟩
/-- only the page a has changed -/
def PA (h h' : AH) (a : Nat) : Prop := hT h' = hT h ∧ hN h' = hN h ∧ hC h' = hC h ∧ hS h' = hS h ∧ (∀ b j, ¬ (b = a ∧ j = 96) → hI h' b j = hI h b j) ∧
  (∀ b j, b ≠ a + 1 → hL h' b j = hL h b j) ∧ (∀ b j, b ≠ a + 2 → b ≠ a + 3 → ¬ (b = a ∧ j = 102) → hR h' b j = hR h b j)
theorem OB.t1 {h : AH} {a : Nat} (o : OB h a 7 kP) : hT h (a + 1) = some (102, 5) := o.2.1.2
theorem OB.t2 {h : AH} {a : Nat} (o : OB h a 7 kP) : hT h (a + 2) = some (103, 5) := o.2.2.1.2
theorem OB.t3 {h : AH} {a : Nat} (o : OB h a 7 kP) : hT h (a + 3) = some (104, 6) := o.2.2.2.1.2
theorem ne_t {h : AH} {a b : Nat} {s t : Nat × Nat} (ha : hT h a = some s) (hb : hT h b = some t) (n : s ≠ t) : a ≠ b := by
  rintro rfl; rw [ha] at hb; exact n (Option.some.inj hb)
theorem PA.ob {h h' : AH} {a b : Nat} (k : PA h h' a) (ha : OB h a 7 kP) (o : OB h b 7 kP) : OB h' b 7 kP := by
  obtain ⟨k1, k2, k3, k4, k5, k6, k7⟩ := k
  have e : ∀ j, j ≠ 102 → hR h' b j = hR h b j := fun j hj => k7 b j (ne_t o.1 ha.t2 (by decide)) (ne_t o.1 ha.t3 (by decide)) (fun q => hj q.2)
  obtain ⟨o1, ⟨o2, o3⟩, ⟨o4, o5⟩, ⟨o6, o7⟩, _⟩ := o
  exact ⟨by rw [k1]; exact o1, ⟨by rw [e _ (by decide)]; exact o2, by rw [k1]; exact o3⟩, ⟨by rw [e _ (by decide)]; exact o4, by rw [k1]; exact o5⟩, ⟨by rw [e _ (by decide)]; exact o6, by rw [k1]; exact o7⟩, trivial⟩
theorem PA.np {h h' : AH} {a : Nat} (k : PA h h' a) (ha : OB h a 7 kP) : NP h h' 0 0 := by
  obtain ⟨k1, k2, k3, k4, k5, k6, k7⟩ := k
  refine ⟨by omega, by omega, by omega, fun b _ => by rw [k1], fun b _ hb => ⟨fun j => k5 b j ?_, fun j => k6 b j ?_, fun j => k7 b j ?_ ?_ ?_⟩⟩
  · rintro ⟨rfl, _⟩; exact hb (Or.inl ha.1)
  · rintro rfl; exact hb (Or.inr (Or.inl ha.t1))
  · rintro rfl; exact hb (Or.inr (Or.inr (Or.inl ha.t2)))
  · rintro rfl; exact hb (Or.inr (Or.inr (Or.inr ha.t3)))
  · rintro ⟨rfl, _⟩; exact hb (Or.inl ha.1)
theorem ps_of {h h' : AH} {σ : PS} {a : Nat} {p p' : Pg} (k : PSt h σ) (hp : σ a = some p) (pa : PA h h' a) (hp' : PgC h' a p') : PSt h' (up σ a p') ∧ NP h h' 0 0 := by
  have ha := (k.2 a p hp).1
  refine ⟨⟨fun b hb => ?_, fun b q hq => ?_⟩, pa.np ha⟩
  · rw [pa.2.1] at hb; rw [pa.1]; exact k.1 b hb
  · by_cases e : b = a
    · subst e; rw [up_same] at hq; cases hq; exact hp'
    · rw [up_ne e] at hq
      obtain ⟨o, c1, c2, c3, c4, c5, c6, c7, c8, c9, c10, c11, c12⟩ := k.2 b q hq
      have hT' : ∀ b, b < hN h → hT h' b = hT h b := fun b _ => by rw [pa.1]
      have o' := pa.ob ha o
      obtain ⟨k1, k2, k3, k4, k5, k6, k7⟩ := pa
      have z2 : ∀ j, hR h' (b + 2) j = hR h (b + 2) j := fun j => k7 _ _ (by omega) (ne_t o.t2 ha.t3 (by decide)) (fun q => ne_t o.t2 ha.1 (by decide) q.1)
      have z3 : ∀ j, hR h' (b + 3) j = hR h (b + 3) j := fun j => k7 _ _ (ne_t o.t3 ha.t2 (by decide)) (by omega) (fun q => ne_t o.t3 ha.1 (by decide) q.1)
      refine ⟨o', by rw [k5 _ _ (fun q => e q.1)]; exact c1, by rw [k5 _ _ (fun q => e q.1)]; exact c2, c3, fun i hi => by rw [k6 _ _ (by omega)]; exact c4 i hi, c5, fun i hi => by rw [z2]; exact c6 i hi, c7, fun i hi => by rw [z3]; exact c8 i hi, fun r hr => RT_T k.1 hT' (c9 r hr), fun r hr => RT_T k.1 hT' (c10 r hr), ?_, RT_T k.1 hT' c12⟩
      rw [k7 _ _ (ne_t o.1 ha.t2 (by decide)) (ne_t o.1 ha.t3 (by decide)) (fun q => e q.1)]; exact c11
/-- how many keys are less, how many are not more -/
def cLt (key : Int64) (ks : List Int64) : Nat := (ks.takeWhile (fun x => decide (x < key))).length
def cLe (key : Int64) (ks : List Int64) : Nat := (ks.takeWhile (fun x => decide (x ≤ key))).length
theorem tw_len {α : Type} (p : α → Bool) : ∀ (xs : List α) (n : Nat), (∀ i x, i < n → xs[i]? = some x → p x = true) → n ≤ xs.length → (∀ x, xs[n]? = some x → p x = false) → (xs.takeWhile p).length = n
  | [], n, _, h, _ => by simp at h; subst h; rfl
  | x :: xs, 0, _, _, h => by simp [List.takeWhile_cons, h x rfl]
  | x :: xs, n + 1, h1, h2, h3 => by
    have := h1 0 x (by omega) rfl
    simp only [List.takeWhile_cons, this, if_true, List.length_cons]
    rw [tw_len p xs n (fun i y hi hy => h1 (i + 1) y (by omega) hy) (by simpa using h2) (fun y hy => h3 y hy)]
