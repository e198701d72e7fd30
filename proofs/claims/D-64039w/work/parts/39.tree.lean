/-! deps: 25 36 -/
/-! ===== TREES over a store of pages: pure ===== -/
abbrev En : Type := Int64 × Nat
/-- a page below: address, entries, footprint, first leaf -/
abbrev Cd : Type := Nat × List En × List Nat × Nat
def hd (cs : List Cd) (nx : Option Nat) : Option Nat := match cs with
  | [] => nx
  | c :: _ => some c.2.2.2
def All (R : Nat → List En → List Nat → Nat → Option Nat → Prop) : List Cd → Option Nat → Prop
  | [], _ => True
  | c :: cs, nx => R c.1 c.2.1 c.2.2.1 c.2.2.2 (hd cs nx) ∧ All R cs nx
/-- the separators: a page's entries are less than the key behind it, all that follow are not -/
def Sp : List (List En) → List Int64 → Prop
  | [], _ => False
  | _ :: cs, [] => cs = []
  | c :: cs, k :: ks => ((∀ e ∈ c, e.1 < k) ∧ ∀ e ∈ cs.flatten, k ≤ e.1) ∧ Sp cs ks
abbrev cE (c : Cd) : List En := c.2.1
abbrev cF (c : Cd) : List Nat := c.2.2.1
def Bt (σ : PS) : Nat → Nat → Nat → Nat → List En → List Nat → Nat → Option Nat → Prop
  | 0, lo, hi, a, es, fp, fs, nx => ∃ p, σ a = some p ∧ pF p = true ∧ pK p = es.map (fun e => e.1) ∧ pW p = es.map (fun e => some e.2) ∧ pN p = nx ∧ fp = [a] ∧ fs = a ∧ lo ≤ es.length ∧ es.length ≤ hi
  | n + 1, lo, hi, a, es, fp, fs, nx => ∃ p cs, σ a = some p ∧ pF p = false ∧ lo ≤ (pK p).length ∧ (pK p).length ≤ hi ∧ pB p = cs.map (fun c => some c.1) ∧ es = cs.flatMap cE ∧ fp = a :: cs.flatMap cF ∧ hd cs nx = some fs ∧ All (Bt σ n 2 4) cs nx ∧ Sp (cs.map cE) (pK p)
theorem hd_append (A B : List Cd) (nx : Option Nat) : hd (A ++ B) nx = hd A (hd B nx) := by
  cases A <;> rfl
theorem All_append {R : Nat → List En → List Nat → Nat → Option Nat → Prop} : ∀ (A B : List Cd) (nx : Option Nat), All R (A ++ B) nx ↔ All R A (hd B nx) ∧ All R B nx
  | [], B, nx => by simp [All]
  | c :: A, B, nx => by
    show (R _ _ _ _ (hd (A ++ B) nx) ∧ All R (A ++ B) nx) ↔ (R _ _ _ _ (hd A (hd B nx)) ∧ All R A (hd B nx)) ∧ All R B nx
    rw [hd_append, All_append A B nx, and_assoc]
theorem All_mono {R R' : Nat → List En → List Nat → Nat → Option Nat → Prop} : ∀ (A : List Cd) (nx : Option Nat), (∀ c ∈ A, ∀ x, R c.1 c.2.1 c.2.2.1 c.2.2.2 x → R' c.1 c.2.1 c.2.2.1 c.2.2.2 x) → All R A nx → All R' A nx
  | [], _, _, _ => trivial
  | c :: A, nx, h, k => ⟨h c List.mem_cons_self _ k.1, All_mono A nx (fun d hd => h d (List.mem_cons_of_mem _ hd)) k.2⟩
theorem Sp_len : ∀ (cs : List (List En)) (ks : List Int64), Sp cs ks → cs.length = ks.length + 1
  | [], _, h => h.elim
  | _ :: cs, [], h => by
    have : cs = [] := h
    subst this; rfl
  | _ :: cs, _ :: ks, h => by
    have := Sp_len cs ks h.2
    simp [this]
theorem Sp_pre : ∀ (A : List (List En)) (KA : List Int64) (B B' : List (List En)) (KB KB' : List Int64), A.length = KA.length → Sp (A ++ B) (KA ++ KB) → B ≠ [] → (∀ k ∈ KA, ∀ e ∈ B'.flatten, k ≤ e.1) → Sp B' KB' → Sp (A ++ B') (KA ++ KB')
  | [], [], B, B', KB, KB', _, _, _, _, h => h
  | c :: A, k :: KA, B, B', KB, KB', hl, h, hB, hk, hB' => by
    obtain ⟨⟨h1, h2⟩, h3⟩ := h
    refine ⟨⟨h1, fun e he => ?_⟩, Sp_pre A KA B B' KB KB' (by simpa using hl) h3 hB (fun q hq => hk q (List.mem_cons_of_mem _ hq)) hB'⟩
    have he : e ∈ (A ++ B').flatten := he
    rw [List.flatten_append, List.mem_append] at he
    rcases he with he | he
    · exact h2 e (by show e ∈ (A ++ B).flatten; rw [List.flatten_append]; exact List.mem_append_left _ he)
    · exact hk k List.mem_cons_self e he
theorem Sp_in : ∀ (A : List (List En)) (KA : List Int64) (B : List (List En)) (KB : List Int64), A.length = KA.length → B ≠ [] → Sp (A ++ B) (KA ++ KB) → Sp B KB ∧ (∀ k ∈ KA, ∀ e ∈ B.flatten, k ≤ e.1)
  | [], [], _, _, _, _, h => ⟨h, fun k hk => by cases hk⟩
  | c :: A, k :: KA, B, KB, hl, hB, h => by
    obtain ⟨⟨h1, h2⟩, h3⟩ := h
    obtain ⟨g1, g2⟩ := Sp_in A KA B KB (by simpa using hl) hB h3
    refine ⟨g1, fun q hq e he => ?_⟩
    rcases List.mem_cons.mp hq with rfl | hq
    · exact h2 e (by show e ∈ (A ++ B).flatten; rw [List.flatten_append]; exact List.mem_append_right _ he)
    · exact g2 q hq e he
theorem Sp_less : ∀ (A : List (List En)) (KA : List Int64) (B : List (List En)) (KB : List Int64) (key : Int64), A.length = KA.length → Sp (A ++ B) (KA ++ KB) → (∀ k ∈ KA, k ≤ key) → ∀ e ∈ A.flatten, e.1 < key
  | [], _, _, _, _, _, _, _ => fun e he => by simp at he
  | c :: A, k :: KA, B, KB, key, hl, h, hk => by
    obtain ⟨⟨h1, h2⟩, h3⟩ := h
    intro e he
    rw [List.flatten_cons, List.mem_append] at he
    rcases he with he | he
    · exact Int64.lt_of_lt_of_le (h1 e he) (hk k List.mem_cons_self)
    · exact Sp_less A KA B KB key (by simpa using hl) h3 (fun q hq => hk q (List.mem_cons_of_mem _ hq)) e he
/-- a tree depends only on its pages -/
theorem Bt_frame {σ σ' : PS} : ∀ (n lo hi a : Nat) (es : List En) (fp : List Nat) (fs : Nat) (nx : Option Nat), (∀ b ∈ fp, σ' b = σ b) → Bt σ n lo hi a es fp fs nx → Bt σ' n lo hi a es fp fs nx
  | 0, lo, hi, a, es, fp, fs, nx, h, k => by
    obtain ⟨p, k1, k2, k3, k4, k5, k6, k7⟩ := k
    exact ⟨p, by rw [h a (by rw [k6]; exact List.mem_singleton.mpr rfl)]; exact k1, k2, k3, k4, k5, k6, k7⟩
  | n + 1, lo, hi, a, es, fp, fs, nx, h, k => by
    obtain ⟨p, cs, k1, k2, k3, k4, k5, k6, k7, k8, k9, k10⟩ := k
    refine ⟨p, cs, by rw [h a (by rw [k7]; exact List.mem_cons_self)]; exact k1, k2, k3, k4, k5, k6, k7, k8, All_mono cs nx (fun c hc x q => ?_) k9, k10⟩
    exact Bt_frame n 2 4 _ _ _ _ _ (fun b hb => h b (by rw [k7]; exact List.mem_cons_of_mem _ (List.mem_flatMap.mpr ⟨c, hc, hb⟩))) q
theorem Bt_weak {σ : PS} {n lo hi lo' hi' a : Nat} {es : List En} {fp : List Nat} {fs : Nat} {nx : Option Nat} (h1 : lo' ≤ lo) (h2 : hi ≤ hi') (k : Bt σ n lo hi a es fp fs nx) : Bt σ n lo' hi' a es fp fs nx := by
  cases n with
  | zero =>
    obtain ⟨p, k1, k2, k3, k4, k5, k6, k7, k8, k9⟩ := k
    exact ⟨p, k1, k2, k3, k4, k5, k6, k7, by omega, by omega⟩
  | succ n =>
    obtain ⟨p, cs, k1, k2, k3, k4, k5⟩ := k
    exact ⟨p, cs, k1, k2, by omega, by omega, k5⟩
/-- how many keys the page at the top has -/
theorem Bt_top {σ : PS} {n lo hi a : Nat} {es : List En} {fp : List Nat} {fs : Nat} {nx : Option Nat} (k : Bt σ n lo hi a es fp fs nx) : ∃ p, σ a = some p ∧ pF p = decide (n = 0) ∧ lo ≤ (pK p).length ∧ (pK p).length ≤ hi := by
  cases n with
  | zero =>
    obtain ⟨p, k1, k2, k3, k4, k5, k6, k7, k8, k9⟩ := k
    exact ⟨p, k1, by rw [k2]; rfl, by rw [k3, List.length_map]; exact k8, by rw [k3, List.length_map]; exact k9⟩
  | succ n =>
    obtain ⟨p, cs, k1, k2, k3, k4, k5⟩ := k
    exact ⟨p, k1, by rw [k2]; rfl, k3, k4⟩
/-- the top page's count is what it is -/
theorem Bt_cnt {σ : PS} {n lo hi lo' hi' a : Nat} {es : List En} {fp : List Nat} {fs : Nat} {nx : Option Nat} {p : Pg} (k : Bt σ n lo hi a es fp fs nx) (hp : σ a = some p) (h1 : lo' ≤ (pK p).length) (h2 : (pK p).length ≤ hi') : Bt σ n lo' hi' a es fp fs nx := by
  cases n with
  | zero =>
    obtain ⟨q, k1, k2, k3, k4, k5, k6, k7, k8, k9⟩ := k
    rw [k1] at hp; cases hp
    rw [k3, List.length_map] at h1 h2
    exact ⟨_, k1, k2, k3, k4, k5, k6, k7, h1, h2⟩
  | succ n =>
    obtain ⟨q, cs, k1, k2, k3, k4, k5⟩ := k
    rw [k1] at hp; cases hp
    exact ⟨_, cs, k1, k2, h1, h2, k5⟩
theorem Bt_mem {σ : PS} {n lo hi a : Nat} {es : List En} {fp : List Nat} {fs : Nat} {nx : Option Nat} (k : Bt σ n lo hi a es fp fs nx) : a ∈ fp := by
  cases n with
  | zero => obtain ⟨p, k1, k2, k3, k4, k5, k6, k7⟩ := k; rw [k6]; exact List.mem_singleton.mpr rfl
  | succ n => obtain ⟨p, cs, k1, k2, k3, k4, k5, k6, k7, k8⟩ := k; rw [k7]; exact List.mem_cons_self
theorem Bt_dom {σ : PS} : ∀ (n lo hi a : Nat) (es : List En) (fp : List Nat) (fs : Nat) (nx : Option Nat), Bt σ n lo hi a es fp fs nx → ∀ b ∈ fp, ∃ p, σ b = some p
  | 0, lo, hi, a, es, fp, fs, nx, k => by
    obtain ⟨p, k1, k2, k3, k4, k5, k6, k7⟩ := k
    intro b hb
    rw [k6] at hb
    rw [List.mem_singleton.mp hb]; exact ⟨p, k1⟩
  | n + 1, lo, hi, a, es, fp, fs, nx, k => by
    obtain ⟨p, cs, k1, k2, k3, k4, k5, k6, k7, k8, k9, k10⟩ := k
    intro b hb
    rw [k7] at hb
    rcases List.mem_cons.mp hb with rfl | hb
    · exact ⟨p, k1⟩
    · obtain ⟨c, hc, hb2⟩ := List.mem_flatMap.mp hb
      obtain ⟨A, C, rfl⟩ := List.append_of_mem hc
      have := ((All_append A (c :: C) nx).mp k9).2.1
      exact Bt_dom n 2 4 _ _ _ _ _ this b hb2
/-- a tree has entries enough -/
theorem Bt_many {σ : PS} : ∀ (n lo hi a : Nat) (es : List En) (fp : List Nat) (fs : Nat) (nx : Option Nat), Bt σ n lo hi a es fp fs nx → 1 ≤ lo → lo + n ≤ es.length
  | 0, lo, hi, a, es, fp, fs, nx, k, _ => by
    obtain ⟨p, k1, k2, k3, k4, k5, k6, k7, k8, k9⟩ := k
    exact k8
  | n + 1, lo, hi, a, es, fp, fs, nx, k, hlo => by
    obtain ⟨p, cs, k1, k2, k3, k4, k5, k6, k7, k8, k9, k10⟩ := k
    have hl := Sp_len _ _ k10
    rw [List.length_map] at hl
    have X : ∀ (cs : List Cd) nx, All (Bt σ n 2 4) cs nx → cs.length * (2 + n) ≤ (cs.flatMap cE).length := by
      intro cs
      induction cs with
      | nil => intro nx _; simp
      | cons c cs ih =>
        intro nx q
        have := Bt_many n 2 4 _ _ _ _ _ q.1 (by omega)
        have := ih nx q.2
        simp only [List.flatMap_cons, List.length_append, List.length_cons, Nat.add_mul]
        simp only [cE] at *
        omega
    have := X cs nx k9
    rw [k6]
    rw [hl] at this
    have : ((pK p).length + 1) * (2 + n) ≥ (lo + 1) * (2 + n) := Nat.mul_le_mul_right _ (by omega)
    have : (lo + 1) * (2 + n) = lo * (2 + n) + (2 + n) := by rw [Nat.add_mul]; omega
    have : lo * (2 + n) ≥ lo * 2 := Nat.mul_le_mul_left _ (by omega)
    omega
