/-! deps: none -/
/-! ===== ROWS OVER Ev: objects with their arrays behind them, references, calls ===== -/
/-- the reference fields of an object whose target lies at a fixed distance behind it: field, distance, the target's tag -/
abbrev KT : Type := List (Nat × Nat × Nat × Nat)
def OBL (h : AH) (a : Nat) : KT → Prop
  | [] => True
  | q :: r => (hR h a q.1 = some (a + q.2.1) ∧ hT h (a + q.2.1) = some q.2.2) ∧ OBL h a r
def OB (h : AH) (a c : Nat) (L : KT) : Prop := hT h a = some (c, 0) ∧ OBL h a L
abbrev kM : KT := [(234,1,100,4),(238,2,101,16),(242,3,100,4),(250,4,100,48),(254,5,100,192),(262,6,100,40),(274,7,100,40),(278,8,100,40),(282,9,100,40),(310,10,100,8),(314,11,100,40),(318,12,100,40),(322,13,101,40),(326,14,100,320),(350,15,100,64)]
abbrev kP : KT := [(86,1,102,5),(90,2,103,5),(94,3,104,6)]
abbrev kR : KT := [(134,1,100,4)]
abbrev kT : KT := [(118,1,105,4)]
abbrev kX : KT := [(38,1,106,4),(50,2,100,4),(54,3,100,40),(62,4,1,0),(66,5,6,0),(70,6,100,64)]
abbrev kE : KT := []
abbrev kS : KT := [(146,1,100,8)]
abbrev kK : KT := [(146,1,100,8),(170,2,100,8)]
abbrev kJ : KT := [(146,1,100,8),(174,2,15,0)]
abbrev kU : KT := [(146,1,100,8),(138,2,15,0)]
theorem fk {h : AH} {a c n f : Nat} (ht : hT h a = some (c, n)) (hc : (idsOf c).contains f = true) : fok h a f := by
  unfold fok; rw [ht]; exact hc
theorem e_gR {d M : Nat} {P : PT} {pc : Nat} {ls st : List AV} {h : AH} {a i n f : Nat} {v : AV} {l : List Nat} {r : Option Nat} (he : fetch M pc = some (.getfield i, n, f, v, l)) (hf : f % 4 = 2) (ho : fok h a f) (hr : hR h a f = r) (k : Ev d M (pc + 3) ls (vR r :: st) h P) : Ev d M pc ls (vR (some a) :: st) h P := by
  refine Ev.step he ⟨ho, ?_⟩
  have : fgt h a f = vR r := by unfold fgt; rw [hf]; exact congrArg vR hr
  show Ev d M (pc + 3) ls (fgt h a f :: st) h P
  rw [this]; exact k
/-- a stage's cells -/
def SG (h : AH) (a : Nat) : Prop := hR h a 146 = some (a + 1) ∧ hT h (a + 1) = some (100, 8)
def RT (h : AH) (r : Option Nat) (c : Nat) : Prop := ∀ b, r = some b → ∃ k, hT h b = some (c, k)
/-- what follows a call: back behind it, or an exception there -/
def CK (d M : Nat) (P : PT) (pc : Nat) (ls rest : List AV) : PT := fun o h' => match o with
  | .inl v => Ev (d + 1) M (pc + 3) ls (v.toList ++ rest) h' P
  | .inr a => thrQ Ev (d + 1) M P pc ls a h'
/-- a stage is asked for its next row -/
def NX (d b : Nat) (h : AH) (Q : PT) : Prop := ∃ c n M', hT h b = some (c, n) ∧ dsp [2, 34, 3, 37, 4, 39, 5, 41, 8, 51, 10, 54, 11, 56, 13, 68] c = some M' ∧ aokB [vR (some b)] (mL M') = true ∧ Ev d M' 0 (ent (mL M') [vR (some b)]) [] h Q
/-- an exception that this method doesn't catch there -/
theorem thr_out {d M : Nat} {P : PT} {pc : Nat} {ls : List AV} {a e n : Nat} {h : AH} (ht : hT h a = some (e, n)) (h1 : 50 ≤ e ∧ e < 55) (hf : hfnd (mH M) pc e = none) (k : P (.inr a) h) : thrQ Ev d M P pc ls a h := by
  refine ⟨e, n, ht, h1, ?_⟩
  rw [hf]; exact k
theorem thr_in {d M : Nat} {P : PT} {pc hp : Nat} {ls : List AV} {a e n : Nat} {h : AH} (ht : hT h a = some (e, n)) (h1 : 50 ≤ e ∧ e < 55) (hf : hfnd (mH M) pc e = some hp) (k : Ev d M hp ls [vR (some a)] h P) : thrQ Ev d M P pc ls a h := by
  refine ⟨e, n, ht, h1, ?_⟩
  rw [hf]; exact k
theorem lgc_ge (x y : Int64) : 0 ≤ lg_cmp x y ↔ y ≤ x := by
  unfold lg_cmp; split
  · exact ⟨fun _ => Int64.le_of_lt ‹_›, fun _ => by decide⟩
  · split
    · rename_i e; subst e; exact ⟨fun _ => Int64.le_refl _, fun _ => by decide⟩
    · rename_i h1 h2
      exact ⟨fun h => absurd h (by decide), fun h => absurd (Int64.le_antisymm (Int64.not_lt.mp h1) h) h2⟩
theorem lgc_lt (x y : Int64) : lg_cmp x y < 0 ↔ x < y := by
  rw [← Int32.not_le, lgc_ge, Int64.not_le]
theorem lgc_gt (x y : Int64) : 0 < lg_cmp x y ↔ y < x := by
  unfold lg_cmp; split
  · exact ⟨fun _ => ‹_›, fun _ => by decide⟩
  · rename_i h1
    split
    · exact ⟨fun h => absurd h (by decide), fun h => absurd h h1⟩
    · exact ⟨fun h => absurd h (by decide), fun h => absurd h h1⟩
theorem lgc_le (x y : Int64) : lg_cmp x y ≤ 0 ↔ x ≤ y := by
  rw [← Int32.not_lt, lgc_gt, Int64.not_lt]
theorem lgc_eq (x y : Int64) : lg_cmp x y = 0 ↔ x = y := by
  unfold lg_cmp; split
  · rename_i h; exact ⟨fun h => absurd h (by decide), fun e => by subst e; exact absurd h (Int64.lt_irrefl)⟩
  · split
    · exact ⟨fun _ => ‹_›, fun _ => rfl⟩
    · exact ⟨fun h => absurd h (by decide), fun h => absurd h ‹_›⟩
theorem lgc_ne (x y : Int64) : ¬ lg_cmp x y = 0 ↔ ¬ x = y := not_congr (lgc_eq x y)
theorem e_nn {d M : Nat} {P : PT} {pc : Nat} {ls st : List AV} {h : AH} {r : Option Nat} {b : Nat} (hb : r = some b) (k : Ev d M pc ls (vR (some b) :: st) h P) : Ev d M pc ls (vR r :: st) h P := by
  subst hb; exact k
