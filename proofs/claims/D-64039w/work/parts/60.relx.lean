/-! deps: 25 26 27 28 32 34 36 37 38 39 40 41 42 43 44 45 46 47 48 49 50 51 52 53 54 55 56 57 58 -/
/-! ===== THE COMPONENT: what its objects say of the pure state ===== -/
/-- its own ints -/
def XI (h : AH) (x : Nat) (s : St) : Prop := hI h x 40 = nI (sN s) ∧ hI h x 44 = nI (sR s).length ∧ (∀ c, c < 4 → hI h (x + 2) c = sG s c) ∧ hI h x 56 = nI (sW s).length ∧ (∀ i w, (sW s)[i]? = some w → hI h (x + 3) i = w) ∧ hI h x 72 = nI (sO s).length ∧ hI h x 76 = sV s ∧ ∀ i w, (sO s)[i]? = some w → hI h (x + 6) i = w
/-- its objects -/
def XB (h : AH) (x : Nat) : Prop := OB h x 0 kX ∧ hR h (x + 4) 2 = some (x + 3) ∧ hR h (x + 4) 6 = some (x + 1)
def actS (s : St) (q : Nat) : Prop := sX s (q / 4) (q % 4) = true
abbrev RsF : Type := Nat → List Nat
/-- its tables -/
def XT (h : AH) (σ : PS) (x : Nat) (s : St) (ta : TrF) (tr : TrF) (es : EsF) (fp : FpF) (rs : RsF) : Prop :=
  (∀ j, j < sN s → hR h (x + 1) j = some (ta j) ∧ OB h (ta j) 12 kT ∧ hI h (ta j) 108 = nI (sK s j) ∧ hI h (ta j) 112 = nI (rs j).length ∧ Cols h (ta j) (sK s j) (4 * j) (actS s) tr) ∧
  (∀ i j, i < sN s → j < sN s → i ≠ j → ta i ≠ ta j) ∧ Rg h σ (actS s) tr es fp ∧
  (∀ j, j < sN s → (∀ r ∈ rs j, OB h r 9 kR) ∧ (∀ r ∈ rs j, ∀ r' ∈ rs j, hI h (r + 1) 0 = hI h (r' + 1) 0 → r = r') ∧ (rs j).Nodup ∧ (rs j).length = cnT (sR s) j ∧ (∀ r ∈ rs j, ∃ w ∈ sR s, w.1 = j ∧ ∀ c, c < sK s j → w.2 c = hI h (r + 1) c) ∧ ∀ w ∈ sR s, w.1 = j → ∃ r ∈ rs j, ∀ c, c < sK s j → hI h (r + 1) c = w.2 c) ∧
  (∀ q, actS s q → (es q).length = (rs (q / 4)).length ∧ ∀ e, e ∈ es q ↔ e.2 ∈ rs (q / 4) ∧ e.1 = plc (hI h (e.2 + 1) (q % 4)) (hI h (e.2 + 1) 0))
def RelX (h : AH) (σ : PS) (x : Nat) (s : St) : Prop := SI s ∧ PSt h σ ∧ XB h x ∧ XI h x s ∧ ∃ ta tr es fp rs, XT h σ x s ta tr es fp rs
/-- what the tables' objects reach -/
def rch (h : AH) (b : Nat) : Prop := hT h b = some (106, 4) ∨ hT h b = some (12, 0) ∨ hT h b = some (105, 4) ∨ hT h b = some (14, 0) ∨ pgt (hT h b) ∨ hT h b = some (9, 0) ∨ (hT h b = some (100, 4) ∧ ∃ a, b = a + 1 ∧ hT h a = some (9, 0))
def TF (h h' : AH) : Prop := HW h' ∧ (∀ b, b < hN h → hT h' b = hT h b) ∧ ∀ b, b < hN h → rch h b → (∀ j, hI h' b j = hI h b j) ∧ (∀ j, hL h' b j = hL h b j) ∧ ∀ j, hR h' b j = hR h b j
theorem TF.pu {h h' : AH} (t : TF h h') : PU h h' := ⟨t.1, t.2.1, fun b hb hp => t.2.2 b hb (Or.inr (Or.inr (Or.inr (Or.inr (Or.inl hp)))))⟩
theorem TF.T {h h' : AH} (t : TF h h') (w : HW h) {b : Nat} {u : Nat × Nat} (hb : hT h b = some u) : hT h' b = some u := by rw [t.2.1 b (w.lt hb)]; exact hb
theorem TF.row {h h' : AH} (t : TF h h') (w : HW h) {r : Nat} (o : OB h r 9 kR) : OB h' r 9 kR ∧ ∀ j, hI h' (r + 1) j = hI h (r + 1) j := by
  obtain ⟨o1, ⟨o2, o3⟩, _⟩ := o
  have o3 : hT h (r + 1) = some (100, 4) := o3
  have m1 := t.2.2 r (w.lt o1) (Or.inr (Or.inr (Or.inr (Or.inr (Or.inr (Or.inl o1))))))
  have m2 := t.2.2 (r + 1) (w.lt o3) (Or.inr (Or.inr (Or.inr (Or.inr (Or.inr (Or.inr ⟨o3, r, rfl, o1⟩))))))
  exact ⟨⟨t.T w o1, ⟨by rw [m1.2.2]; exact o2, t.T w o3⟩, trivial⟩, m2.1⟩
theorem TF.tab {h h' : AH} (t : TF h h') (w : HW h) {a : Nat} (o : OB h a 12 kT) : OB h' a 12 kT ∧ (∀ j, hI h' a j = hI h a j) ∧ ∀ j, hR h' (a + 1) j = hR h (a + 1) j := by
  obtain ⟨o1, ⟨o2, o3⟩, _⟩ := o
  have o3 : hT h (a + 1) = some (105, 4) := o3
  have m1 := t.2.2 a (w.lt o1) (Or.inr (Or.inl o1))
  have m2 := t.2.2 (a + 1) (w.lt o3) (Or.inr (Or.inr (Or.inl o3)))
  exact ⟨⟨t.T w o1, ⟨by rw [m1.2.2]; exact o2, t.T w o3⟩, trivial⟩, m1.1, m2.2.2⟩
theorem TF.rg {h h' : AH} (t : TF h h') (w : HW h) {σ : PS} {act : Nat → Prop} {tr : TrF} {es : EsF} {fp : FpF} (R : Rg h σ act tr es fp) : Rg h' σ act tr es fp :=
  R.keep (fun q n _ T => ⟨t.2.1 _ (w.lt T.1), (t.2.2 _ (w.lt T.1) (Or.inr (Or.inr (Or.inr (Or.inl T.1))))).2.2 106⟩)
theorem XT_keep {h h' : AH} {σ : PS} {x : Nat} {s : St} {ta tr : TrF} {es : EsF} {fp : FpF} {rs : RsF} (I : SI s) (X : XT h σ x s ta tr es fp rs) (w : HW h) (o : hT h (x + 1) = some (106, 4)) (t : TF h h') : XT h' σ x s ta tr es fp rs := by
  obtain ⟨x1, x2, x3, x4, x5⟩ := X
  have m := t.2.2 (x + 1) (w.lt o) (Or.inl o)
  refine ⟨fun j hj => ?_, x2, t.rg w x3, fun j hj => ?_, fun q hq => ?_⟩
  · obtain ⟨a1, a2, a3, a4, a5⟩ := x1 j hj
    obtain ⟨b1, b2, b3⟩ := t.tab w a2
    exact ⟨by rw [m.2.2]; exact a1, b1, by rw [b2]; exact a3, by rw [b2]; exact a4, fun c hc => by rw [b3]; exact a5 c hc⟩
  · obtain ⟨a1, a2, a3, a4, a5, a6⟩ := x4 j hj
    refine ⟨fun r hr => (t.row w (a1 r hr)).1, fun r hr r' hr' e => ?_, a3, a4, fun r hr => ?_, fun v hv e => ?_⟩
    · rw [(t.row w (a1 r hr)).2, (t.row w (a1 r' hr')).2] at e; exact a2 r hr r' hr' e
    · obtain ⟨v, v1, v2, v3⟩ := a5 r hr
      exact ⟨v, v1, v2, fun c hc => by rw [(t.row w (a1 r hr)).2]; exact v3 c hc⟩
    · obtain ⟨r, r1, r2⟩ := a6 v hv e
      exact ⟨r, r1, fun c hc => by rw [(t.row w (a1 r r1)).2]; exact r2 c hc⟩
  · obtain ⟨a1, a2⟩ := x5 q hq
    refine ⟨a1, fun e => ?_⟩
    have hj : q / 4 < sN s := (I.2.2.1 _ _ hq).1
    rw [a2]
    constructor
    · rintro ⟨h1, h2⟩
      have := t.row w ((x4 _ hj).1 e.2 h1)
      exact ⟨h1, by rw [this.2, this.2]; exact h2⟩
    · rintro ⟨h1, h2⟩
      have := t.row w ((x4 _ hj).1 e.2 h1)
      rw [this.2, this.2] at h2
      exact ⟨h1, h2⟩
/-- a write at an int address that the tables don't reach -/
theorem tf_wI {h : AH} {b f : Nat} {v : Int32} (w : HW h) (hb : ¬ rch h b) : TF h (wI h b f v) :=
  ⟨w, fun _ _ => rfl, fun q _ hq => ⟨fun j => by rw [hI_wI, if_neg (fun (z : q = b ∧ j = f) => hb (z.1 ▸ hq))], fun _ => rfl, fun _ => rfl⟩⟩
theorem TF.trans {h h' h'' : AH} (a : TF h h') (b : TF h' h'') (w : HW h) (n : hN h ≤ hN h') : TF h h'' := by
  obtain ⟨a1, a2, a3⟩ := a
  obtain ⟨b1, b2, b3⟩ := b
  refine ⟨b1, fun q hq => (b2 q (by omega)).trans (a2 q hq), fun q hq hr => ?_⟩
  have hr' : rch h' q := by
    unfold rch at hr ⊢
    rw [a2 q hq]
    rcases hr with h1 | h1 | h1 | h1 | h1 | h1 | ⟨h1, c, e, h2⟩
    · exact Or.inl h1
    · exact Or.inr (Or.inl h1)
    · exact Or.inr (Or.inr (Or.inl h1))
    · exact Or.inr (Or.inr (Or.inr (Or.inl h1)))
    · exact Or.inr (Or.inr (Or.inr (Or.inr (Or.inl h1))))
    · exact Or.inr (Or.inr (Or.inr (Or.inr (Or.inr (Or.inl h1)))))
    · exact Or.inr (Or.inr (Or.inr (Or.inr (Or.inr (Or.inr ⟨h1, c, e, by rw [a2 c (w.lt h2)]; exact h2⟩)))))
  obtain ⟨x1, x2, x3⟩ := a3 q hq hr
  obtain ⟨y1, y2, y3⟩ := b3 q (by omega) hr'
  exact ⟨fun j => (y1 j).trans (x1 j), fun j => (y2 j).trans (x2 j), fun j => (y3 j).trans (x3 j)⟩
theorem AX.tf {h h' : AH} {c s : Nat} (a : AX h h' c s) (w : HW h') : TF h h' := ⟨w, fun b hb => (a.2.2.2 b hb).1, fun b hb _ => (a.2.2.2 b hb).2⟩
/-- tags that the tables don't reach -/
theorem nrch {h : AH} {b : Nat} {u : Nat × Nat} (hb : hT h b = some u) (h1 : u ≠ (106, 4)) (h2 : u ≠ (12, 0)) (h3 : u ≠ (105, 4)) (h4 : u ≠ (14, 0)) (h5 : u ≠ (7, 0)) (h6 : u ≠ (102, 5)) (h7 : u ≠ (103, 5)) (h8 : u ≠ (104, 6)) (h9 : u ≠ (9, 0)) (h10 : u = (100, 4) → ∀ a, b = a + 1 → hT h a ≠ some (9, 0)) : ¬ rch h b := by
  unfold rch pgt
  rw [hb]
  rintro (q | q | q | q | (q | q | q | q) | q | ⟨q, a, e, z⟩)
  · exact h1 (Option.some.inj q)
  · exact h2 (Option.some.inj q)
  · exact h3 (Option.some.inj q)
  · exact h4 (Option.some.inj q)
  · exact h5 (Option.some.inj q)
  · exact h6 (Option.some.inj q)
  · exact h7 (Option.some.inj q)
  · exact h8 (Option.some.inj q)
  · exact h9 (Option.some.inj q)
  · exact h10 (Option.some.inj q) a e z
theorem XB.x1 {h : AH} {x : Nat} (b : XB h x) : hT h (x + 1) = some (106, 4) := b.1.2.1.2
theorem XB.x2 {h : AH} {x : Nat} (b : XB h x) : hT h (x + 2) = some (100, 4) := b.1.2.2.1.2
theorem XB.x3 {h : AH} {x : Nat} (b : XB h x) : hT h (x + 3) = some (100, 40) := b.1.2.2.2.1.2
theorem XB.x4 {h : AH} {x : Nat} (b : XB h x) : hT h (x + 4) = some (1, 0) := b.1.2.2.2.2.1.2
theorem XB.x5 {h : AH} {x : Nat} (b : XB h x) : hT h (x + 5) = some (6, 0) := b.1.2.2.2.2.2.1.2
theorem XB.x6 {h : AH} {x : Nat} (b : XB h x) : hT h (x + 6) = some (100, 64) := b.1.2.2.2.2.2.2.1.2
/-- its own int addresses aren't reached by the tables -/
theorem XB.n0 {h : AH} {x : Nat} (b : XB h x) : ¬ rch h x := nrch b.1.1 (by decide) (by decide) (by decide) (by decide) (by decide) (by decide) (by decide) (by decide) (by decide) (fun q => absurd q (by decide))
theorem XB.n2 {h : AH} {x : Nat} (b : XB h x) : ¬ rch h (x + 2) := nrch b.x2 (by decide) (by decide) (by decide) (by decide) (by decide) (by decide) (by decide) (by decide) (by decide) (fun _ a e z => by
  obtain rfl : a = x + 1 := by omega
  rw [b.x1] at z; cases z)
theorem XB.n3 {h : AH} {x : Nat} (b : XB h x) : ¬ rch h (x + 3) := nrch b.x3 (by decide) (by decide) (by decide) (by decide) (by decide) (by decide) (by decide) (by decide) (by decide) (fun q => absurd q (by decide))
theorem XB.n4 {h : AH} {x : Nat} (b : XB h x) : ¬ rch h (x + 4) := nrch b.x4 (by decide) (by decide) (by decide) (by decide) (by decide) (by decide) (by decide) (by decide) (by decide) (fun q => absurd q (by decide))
theorem XB.n5 {h : AH} {x : Nat} (b : XB h x) : ¬ rch h (x + 5) := nrch b.x5 (by decide) (by decide) (by decide) (by decide) (by decide) (by decide) (by decide) (by decide) (by decide) (fun q => absurd q (by decide))
theorem XB.n6 {h : AH} {x : Nat} (b : XB h x) : ¬ rch h (x + 6) := nrch b.x6 (by decide) (by decide) (by decide) (by decide) (by decide) (by decide) (by decide) (by decide) (by decide) (fun q => absurd q (by decide))
/-- the frame of the component's calls: its own seven addresses, tables, trees and pages apart, nothing changes -/
def XFr (h h' : AH) (x c s : Nat) : Prop := HW h' ∧ hN h ≤ hN h' ∧ hC h ≤ hC h' + c ∧ hS h ≤ hS h' + s ∧ (∀ b, b < hN h → hT h' b = hT h b) ∧
  ∀ b, b < hN h → (b < x ∨ x + 6 < b) → ¬ pgt (hT h b) → hT h b ≠ some (14, 0) → hT h b ≠ some (12, 0) → hT h b ≠ some (105, 4) → (∀ j, hI h' b j = hI h b j) ∧ (∀ j, hL h' b j = hL h b j) ∧ ∀ j, hR h' b j = hR h b j
theorem XFr.refl {h : AH} (w : HW h) (x : Nat) : XFr h h x 0 0 := ⟨w, Nat.le_refl _, Nat.le_refl _, Nat.le_refl _, fun _ _ => rfl, fun _ _ _ _ _ _ _ => ⟨fun _ => rfl, fun _ => rfl, fun _ => rfl⟩⟩
theorem XFr.trans {h h' h'' : AH} {x c c' s s' : Nat} (a : XFr h h' x c s) (b : XFr h' h'' x c' s') : XFr h h'' x (c + c') (s + s') := by
  obtain ⟨a0, a1, a2, a3, a4, a5⟩ := a
  obtain ⟨b0, b1, b2, b3, b4, b5⟩ := b
  refine ⟨b0, by omega, by omega, by omega, fun q hq => (b4 q (by omega)).trans (a4 q hq), fun q hq hx h1 h2 h3 h4 => ?_⟩
  obtain ⟨x1, x2, x3⟩ := a5 q hq hx h1 h2 h3 h4
  obtain ⟨y1, y2, y3⟩ := b5 q (by omega) hx (by rw [a4 q hq]; exact h1) (by rw [a4 q hq]; exact h2) (by rw [a4 q hq]; exact h3) (by rw [a4 q hq]; exact h4)
  exact ⟨fun j => (y1 j).trans (x1 j), fun j => (y2 j).trans (x2 j), fun j => (y3 j).trans (x3 j)⟩
theorem XFr.weak {h h' : AH} {x c c' s s' : Nat} (a : XFr h h' x c s) (hc : c ≤ c') (hs : s ≤ s') : XFr h h' x c' s' := by
  obtain ⟨a0, a1, a2, a3, a4, a5⟩ := a
  exact ⟨a0, a1, by omega, by omega, a4, a5⟩
theorem AX.xf {h h' : AH} {c s : Nat} (a : AX h h' c s) (w : HW h') (x : Nat) : XFr h h' x c s := ⟨w, a.1, a.2.1, a.2.2.1, fun b hb => (a.2.2.2 b hb).1, fun b hb _ _ _ _ _ => (a.2.2.2 b hb).2⟩
theorem NQ.xf {h h' : AH} {c s : Nat} (a : NQ h h' c s) (w : HW h') (x : Nat) : XFr h h' x c s := ⟨w, a.1, a.2.1, a.2.2.1, a.2.2.2.1, fun b hb _ h1 h2 _ _ => a.2.2.2.2 b hb h1 h2⟩
theorem NP.xf {h h' : AH} {c s : Nat} (a : NP h h' c s) (w : HW h') (x : Nat) : XFr h h' x c s := ⟨w, a.1, a.2.1, a.2.2.1, a.2.2.2.1, fun b hb _ h1 _ _ _ => a.2.2.2.2 b hb h1⟩
theorem xf_wI {h : AH} (w : HW h) (x o f : Nat) (v : Int32) (ho : o ≤ 6) : XFr h (wI h (x + o) f v) x 0 0 :=
  ⟨w, Nat.le_refl _, Nat.le_refl _, Nat.le_refl _, fun _ _ => rfl, fun b _ hb _ _ _ _ => ⟨fun j => by rw [hI_wI, if_neg (by omega)], fun _ => rfl, fun _ => rfl⟩⟩
/-- a write into a table -/
theorem xf_wIt {h : AH} (w : HW h) (x : Nat) {t f : Nat} {v : Int32} (ht : hT h t = some (12, 0)) : XFr h (wI h t f v) x 0 0 :=
  ⟨w, Nat.le_refl _, Nat.le_refl _, Nat.le_refl _, fun _ _ => rfl, fun b _ _ _ _ h3 _ => ⟨fun j => by rw [hI_wI, if_neg (fun (q : b = t ∧ j = f) => h3 (q.1 ▸ ht))], fun _ => rfl, fun _ => rfl⟩⟩
theorem xf_wRt {h : AH} (w : HW h) (x : Nat) {t f : Nat} {v : Option Nat} (ht : hT h t = some (105, 4)) : XFr h (wR h t f v) x 0 0 :=
  ⟨w, Nat.le_refl _, Nat.le_refl _, Nat.le_refl _, fun _ _ => rfl, fun b _ _ _ _ _ h4 => ⟨fun _ => rfl, fun _ => rfl, fun j => by rw [hR_wR, if_neg (fun (q : b = t ∧ j = f) => h4 (q.1 ▸ ht))]⟩⟩
/-- a write of its own ints -/
theorem XB.keep {h h' : AH} {x : Nat} (b : XB h x) (hT' : hT h' = hT h) (hR' : hR h' = hR h) : XB h' x := by
  obtain ⟨⟨o1, ⟨o2, p2⟩, ⟨o3, p3⟩, ⟨o4, p4⟩, ⟨o5, p5⟩, ⟨o6, p6⟩, ⟨o7, p7⟩, _⟩, b2, b3⟩ := b
  refine ⟨⟨by rw [hT']; exact o1, ⟨by rw [hR']; exact o2, by rw [hT']; exact p2⟩, ⟨by rw [hR']; exact o3, by rw [hT']; exact p3⟩, ⟨by rw [hR']; exact o4, by rw [hT']; exact p4⟩, ⟨by rw [hR']; exact o5, by rw [hT']; exact p5⟩, ⟨by rw [hR']; exact o6, by rw [hT']; exact p6⟩, ⟨by rw [hR']; exact o7, by rw [hT']; exact p7⟩, trivial⟩, by rw [hR']; exact b2, by rw [hR']; exact b3⟩
/-- the tables of another pure state with the same tables and rows -/
theorem XT_st {h : AH} {σ : PS} {x : Nat} {s s' : St} {ta tr : TrF} {es : EsF} {fp : FpF} {rs : RsF} (X : XT h σ x s ta tr es fp rs) (h1 : sN s' = sN s) (h2 : sK s' = sK s) (h3 : sX s' = sX s) (h4 : sR s' = sR s) : XT h σ x s' ta tr es fp rs := by
  obtain ⟨a1, a2, a3, a4, a5, a6, a7, a8⟩ := s
  obtain ⟨b1, b2, b3, b4, b5, b6, b7, b8⟩ := s'
  simp only [sN, sK, sX, sR] at h1 h2 h3 h4
  subst h1 h2 h3 h4
  exact X
/-- visits, size, out, rows -/
theorem m7 {d x : Nat} {h : AH} {σ : PS} {s : St} {P : PT} (R : RelX h σ x s) (K : P (.inl (some (vI (sV s)))) h) : Ev d 7 0 [vR (some x)] [] h P := by
  obtain ⟨I, S, B, X, _⟩ := R
  refine w7_0 B.1 ?_
  rw [X.2.2.2.2.2.2.1]; exact K
theorem m8 {d x : Nat} {h : AH} {σ : PS} {s : St} {P : PT} (R : RelX h σ x s) (K : P (.inl (some (vI (nI (sO s).length)))) h) : Ev d 8 0 [vR (some x)] [] h P := by
  obtain ⟨I, S, B, X, _⟩ := R
  refine w8_0 B.1 ?_
  rw [X.2.2.2.2.2.1]; exact K
theorem m9 {d x : Nat} {i : Int32} {h : AH} {σ : PS} {s : St} {P : PT} (R : RelX h σ x s) (K : P (.inl (some (vI (oOut s i)))) h) : Ev d 9 0 [vR (some x), vI i] [] h P := by
  obtain ⟨I, S, B, X, _⟩ := R
  have l64 : (sO s).length ≤ 64 := I.2.2.2.2.2.2.2
  have e1 := X.2.2.2.2.2.1
  refine w9_0 B.1 ⟨fun g => ?_, fun g => ⟨fun g2 => ?_, fun g2 => ?_⟩⟩
  · have : oOut s i = 0 := by
      unfold oOut isC
      rw [if_neg]
      simp only [decide_eq_true_eq]
      exact fun q => absurd g (Int32.not_lt.mpr q.1)
    rw [this] at K; exact K
  · rw [e1] at g2
    have hc : isC i (sO s).length = true := by unfold isC; simp only [decide_eq_true_eq]; exact ⟨g, g2⟩
    obtain ⟨j, hj, rfl⟩ := isC_of hc (by omega)
    rw [cl (by omega)]
    have : oOut s (nI j) = hI h (x + 6) j := by
      unfold oOut
      rw [if_pos hc, nI_clamp (by omega)]
      have hg : (sO s)[j]? = some ((sO s).getD j 0) := by
        rw [List.getD_eq_getElem?_getD, List.getElem?_eq_getElem hj]; rfl
      exact (X.2.2.2.2.2.2.2 j _ hg).symm
    rw [this] at K
    exact ⟨i5 (by omega) (by omega), K⟩
  · rw [e1] at g2
    have : oOut s i = 0 := by
      unfold oOut isC
      rw [if_neg]
      simp only [decide_eq_true_eq]
      exact fun q => absurd q.2 (Int32.not_lt.mpr g2)
    rw [this] at K; exact K
theorem m2 {d x : Nat} {t : Int32} {h : AH} {σ : PS} {s : St} {P : PT} (R : RelX h σ x s) (K : P (.inl (some (vI (oRows s t)))) h) : Ev d 2 0 [vR (some x), vI t] [] h P := by
  obtain ⟨I, S, B, X, ta, tr, es, fp, rs, T⟩ := R
  have h4 := I.1
  have e1 := X.1
  refine w2_0 B.1 ⟨fun g => ?_, fun g => ⟨fun g2 => ?_, fun g2 => ?_⟩⟩
  · have : oRows s t = -1 := by
      unfold oRows isC
      rw [if_neg]
      simp only [decide_eq_true_eq]
      exact fun q => absurd g (Int32.not_lt.mpr q.1)
    rw [this] at K; exact K
  · rw [e1] at g2
    have hc : isC t (sN s) = true := by unfold isC; simp only [decide_eq_true_eq]; exact ⟨g, g2⟩
    obtain ⟨j, hj, rfl⟩ := isC_of hc (by omega)
    obtain ⟨a1, a2, a3, a4, a5⟩ := T.1 j hj
    refine ⟨i5 (by omega) (by omega), ta j, by rw [cl (by omega)]; exact a1, a2, ?_⟩
    rw [a4, (T.2.2.2.1 j hj).2.2.2.1]
    unfold oRows at K
    rw [if_pos hc, nI_clamp (by omega)] at K
    exact K
  · rw [e1] at g2
    have : oRows s t = -1 := by
      unfold oRows isC
      rw [if_neg]
      simp only [decide_eq_true_eq]
      exact fun q => absurd q.2 (Int32.not_lt.mpr g2)
    rw [this] at K; exact K
/-- stage, word, clear -/
theorem m1 {d x : Nat} {c v : Int32} {h : AH} {σ : PS} {s : St} {P : PT} (R : RelX h σ x s) (K : ∀ h', RelX h' σ x (oStg s c v).2 → XFr h h' x 0 0 → hN h' = hN h → P (.inl (some (vI (bI (oStg s c v).1)))) h') : Ev d 1 0 [vR (some x), vI c, vI v] [] h P := by
  have bad : oStg s c v = (false, s) → P (.inl (some (vI 0))) h := fun e => by
    rw [e] at K; exact K h R (XFr.refl R.2.1.1 x) rfl
  obtain ⟨I, S, B, X, ta, tr, es, fp, rs, T⟩ := R
  refine w1_0 B.1 ⟨fun g => bad (by unfold oStg; rw [if_pos (Or.inl g)]), fun g => ⟨fun g2 => ?_, fun g2 => bad (by
    unfold oStg
    rw [if_pos (Or.inr (Int32.lt_of_lt_of_le (by decide) g2))])⟩⟩
  obtain ⟨j, hj, rfl⟩ := nI_of (x := c) (Int32.not_lt.mpr g)
  rw [show (4 : Int32) = nI 4 from rfl, nI_ltI hj (by omega)] at g2
  have e : oStg s (nI j) v = (true, (sN s, sK s, sX s, fun i => if i = j then v else sG s i, sR s, sW s, sV s, sO s)) := by
    unfold oStg
    rw [if_neg, nI_clamp (by omega)]
    rintro (q | q)
    · exact absurd q (Int32.not_lt.mpr g)
    · rw [show (3 : Int32) = nI 3 from rfl, nI_ltI (by omega) (by omega)] at q; omega
  rw [e] at K
  rw [cl (by omega)]
  refine ⟨i5 (by omega) (by omega), K _ ⟨I, ?_, B.keep rfl rfl, ?_, ta, tr, es, fp, rs, ?_⟩ (xf_wI S.1 x 2 j v (by omega)) rfl⟩
  · exact ps_pu S (tf_wI S.1 B.n2).pu
  · obtain ⟨x1, x2, x3, x4, x5, x6, x7, x8⟩ := X
    refine ⟨?_, ?_, fun i hi => ?_, ?_, fun i w hw => ?_, ?_, ?_, fun i w hw => ?_⟩
    all_goals try (rw [hI_wI, if_neg (by omega)])
    · exact x1
    · exact x2
    · rw [hI_wI]
      show (if x + 2 = x + 2 ∧ i = j then v else hI h (x + 2) i) = if i = j then v else sG s i
      by_cases ei : i = j
      · rw [if_pos ⟨rfl, ei⟩, if_pos ei]
      · rw [if_neg (fun q => ei q.2), if_neg ei]; exact x3 i hi
    · exact x4
    · exact x5 i w hw
    · exact x6
    · exact x7
    · exact x8 i w hw
  · exact XT_st (XT_keep I T S.1 B.x1 (tf_wI S.1 B.n2)) rfl rfl rfl rfl
