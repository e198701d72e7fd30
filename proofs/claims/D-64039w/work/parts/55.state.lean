/-! deps: 25 36 37 38 50 52 -/
/-! ===== THE PURE STATE, and what the reference's fields say of it ===== -/
abbrev Rw : Type := Nat × (Nat → Int32)
/-- tables, columns, indexed, staged, rows, words, visits, output -/
abbrev St : Type := Nat × (Nat → Nat) × (Nat → Nat → Bool) × (Nat → Int32) × List Rw × List Int32 × Int32 × List Int32
abbrev sN (s : St) : Nat := s.1
abbrev sK (s : St) : Nat → Nat := s.2.1
abbrev sX (s : St) : Nat → Nat → Bool := s.2.2.1
abbrev sG (s : St) : Nat → Int32 := s.2.2.2.1
abbrev sR (s : St) : List Rw := s.2.2.2.2.1
abbrev sW (s : St) : List Int32 := s.2.2.2.2.2.1
abbrev sV (s : St) : Int32 := s.2.2.2.2.2.2.1
abbrev sO (s : St) : List Int32 := s.2.2.2.2.2.2.2
/-- what always holds of it -/
def SI (s : St) : Prop := sN s ≤ 4 ∧ (∀ j, j < sN s → 1 ≤ sK s j ∧ sK s j ≤ 4 ∧ sX s j 0 = true) ∧ (∀ j c, sX s j c = true → j < sN s ∧ c < sK s j) ∧ (sR s).length ≤ 48 ∧ (∀ r ∈ sR s, r.1 < sN s) ∧ (sR s).Pairwise (fun a b => a.1 = b.1 → a.2 0 ≠ b.2 0) ∧ (sW s).length ≤ 40 ∧ (sO s).length ≤ 64
abbrev GF : Type := Nat → Nat → Int32
def MT (g : GF) (m n : Nat) (K : Nat → Nat) (X : Nat → Nat → Bool) : Prop := g m 228 = nI n ∧ (∀ j, j < n → g (m + 1) j = nI (K j)) ∧ ∀ j c, j < 4 → c < 4 → g (m + 2) (4 * j + c) = bI (X j c)
def MG (g : GF) (m : Nat) (G : Nat → Int32) : Prop := ∀ c, c < 4 → g (m + 3) c = G c
def MR (g : GF) (m : Nat) (R : List Rw) : Prop := g m 244 = nI R.length ∧ ∀ i r, R[i]? = some r → g (m + 4) i = nI r.1 ∧ ∀ c, c < 4 → g (m + 5) (4 * i + c) = r.2 c
def MW (g : GF) (m : Nat) (W : List Int32) : Prop := g m 256 = nI W.length ∧ ∀ i w, W[i]? = some w → g (m + 6) i = w
def MO (g : GF) (m : Nat) (v : Int32) (O : List Int32) : Prop := g m 340 = v ∧ g m 344 = nI O.length ∧ ∀ i w, O[i]? = some w → g (m + 15) i = w
def RelM (g : GF) (m : Nat) (s : St) : Prop := MT g m (sN s) (sK s) (sX s) ∧ MG g m (sG s) ∧ MR g m (sR s) ∧ MW g m (sW s) ∧ MO g m (sV s) (sO s)
/-- the heap with other ints -/
def sI (h : AH) (g : GF) : AH := (hT h, g, hL h, hR h, hN h, hC h, hS h)
theorem sI_wI (h : AH) (a k : Nat) (v : Int32) : wI h a k v = sI h (u2 (hI h) a k v) := rfl
theorem sI_self (h : AH) : sI h (hI h) = h := rfl
/-- outside the reference nothing changes -/
def Out (m : Nat) (g g' : GF) : Prop := ∀ b, b < m ∨ m + 15 < b → g' b = g b
theorem Out.refl (m : Nat) (g : GF) : Out m g g := fun _ _ => rfl
theorem Out.trans {m : Nat} {g g' g'' : GF} (a : Out m g g') (b : Out m g' g'') : Out m g g'' := fun x hx => (b x hx).trans (a x hx)
theorem Out.u2 {m : Nat} {g g' : GF} (a : Out m g g') (o k : Nat) (v : Int32) (ho : o ≤ 15) : Out m g (u2 g' (m + o) k v) := fun b hb => by
  funext j
  show (if b = m + o ∧ j = k then v else g' b j) = _
  rw [if_neg (by omega), a b hb]
theorem MT.keep {g g' : GF} {m n : Nat} {K : Nat → Nat} {X : Nat → Nat → Bool} (k : MT g m n K X) (h0 : g' m 228 = g m 228) (h1 : ∀ i, g' (m + 1) i = g (m + 1) i) (h2 : ∀ i, g' (m + 2) i = g (m + 2) i) : MT g' m n K X :=
  ⟨h0.trans k.1, fun j hj => (h1 j).trans (k.2.1 j hj), fun j c hj hc => (h2 _).trans (k.2.2 j c hj hc)⟩
theorem MG.keep {g g' : GF} {m : Nat} {G : Nat → Int32} (k : MG g m G) (h1 : ∀ i, g' (m + 3) i = g (m + 3) i) : MG g' m G := fun c hc => (h1 c).trans (k c hc)
theorem MR.keep {g g' : GF} {m : Nat} {R : List Rw} (k : MR g m R) (h0 : g' m 244 = g m 244) (h1 : ∀ i, g' (m + 4) i = g (m + 4) i) (h2 : ∀ i, g' (m + 5) i = g (m + 5) i) : MR g' m R :=
  ⟨h0.trans k.1, fun i r hr => ⟨(h1 i).trans (k.2 i r hr).1, fun c hc => (h2 _).trans ((k.2 i r hr).2 c hc)⟩⟩
theorem MW.keep {g g' : GF} {m : Nat} {W : List Int32} (k : MW g m W) (h0 : g' m 256 = g m 256) (h1 : ∀ i, g' (m + 6) i = g (m + 6) i) : MW g' m W := ⟨h0.trans k.1, fun i w hw => (h1 i).trans (k.2 i w hw)⟩
theorem MO.keep {g g' : GF} {m : Nat} {v : Int32} {O : List Int32} (k : MO g m v O) (h0 : g' m 340 = g m 340) (h3 : g' m 344 = g m 344) (h1 : ∀ i, g' (m + 15) i = g (m + 15) i) : MO g' m v O := ⟨h0.trans k.1, h3.trans k.2.1, fun i w hw => (h1 i).trans (k.2.2 i w hw)⟩
theorem u2_hit (g : GF) (a k : Nat) (v : Int32) : u2 g a k v a k = v := if_pos ⟨rfl, rfl⟩
theorem u2_a {g : GF} {a k : Nat} {v : Int32} {b j : Nat} (h : b ≠ a) : u2 g a k v b j = g b j := if_neg (fun q => h q.1)
theorem u2_k {g : GF} {a k : Nat} {v : Int32} {b j : Nat} (h : j ≠ k) : u2 g a k v b j = g b j := if_neg (fun q => h q.2)
/-- the code alone has changed -/
theorem RelM.code {g : GF} {m : Nat} {s : St} {v : Int32} (k : RelM g m s) : RelM (u2 g m 224 v) m s :=
  ⟨k.1.keep (u2_k (by decide)) (fun i => u2_a (by omega)) (fun i => u2_a (by omega)), k.2.1.keep (fun i => u2_a (by omega)), k.2.2.1.keep (u2_k (by decide)) (fun i => u2_a (by omega)) (fun i => u2_a (by omega)), k.2.2.2.1.keep (u2_k (by decide)) (fun i => u2_a (by omega)), k.2.2.2.2.keep (u2_k (by decide)) (u2_k (by decide)) (fun i => u2_a (by omega))⟩
