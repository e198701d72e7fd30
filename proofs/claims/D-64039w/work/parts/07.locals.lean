/-! ===== locals ===== -/
theorem st1_get : ∀ (ls : List AV) (i : Nat) (v : AV) (j : Nat), (st1 ls i v)[j]? = if j = i then (if i < ls.length then some v else none) else if j + 1 = i then (ls[j]?).map kl else ls[j]?
  | [], i, v, j => by simp [st1]
  | x :: xs, 0, v, j => by cases j <;> simp [st1]
  | x :: xs, 1, v, j => by
    cases j with
    | zero => simp [st1]
    | succ j => simp [st1, st1_get xs 0 v j]
  | x :: xs, n + 2, v, j => by
    cases j with
    | zero => simp [st1]
    | succ j =>
      simp only [st1, List.getElem?_cons_succ, st1_get xs (n + 1) v j, List.length_cons, Nat.add_right_cancel_iff, show (n + 2 < xs.length + 1) = (n + 1 < xs.length) from propext (by omega), show (j + 1 = n + 2) = (j = n + 1) from propext (by omega), show (j + 1 + 1 = n + 2) = (j + 1 = n + 1) from propext (by omega)]
theorem st2_get : ∀ (ls : List AV) (i : Nat) (v : AV) (j : Nat), (st2 ls i v)[j]? = if j = i then (if i < ls.length then some v else none) else if j = i + 1 then (if j < ls.length then some vU else none) else if j + 1 = i then (ls[j]?).map kl else ls[j]?
  | [], i, v, j => by simp [st2]
  | x :: xs, 0, v, j => by
    cases j with
    | zero => simp [st2]
    | succ j => cases j <;> cases xs <;> simp [st2]
  | x :: xs, 1, v, j => by
    cases j with
    | zero => simp [st2]
    | succ j => simp [st2, st2_get xs 0 v j]
  | x :: xs, n + 2, v, j => by
    cases j with
    | zero => simp [st2]
    | succ j =>
      simp only [st2, List.getElem?_cons_succ, st2_get xs (n + 1) v j, List.length_cons, show (n + 2 < xs.length + 1) = (n + 1 < xs.length) from propext (by omega), show (j + 1 = n + 2) = (j = n + 1) from propext (by omega), show (j + 1 = n + 2 + 1) = (j = n + 1 + 1) from propext (by omega), show (j + 1 < xs.length + 1) = (j < xs.length) from propext (by omega), show (j + 1 + 1 = n + 2) = (j + 1 = n + 1) from propext (by omega)]
/-- the listed locals -/
def prs (ls : List AV) : List (Nat × Value) := (List.range ls.length).filterMap (fun i => if lg ls i = vU then none else some (i, av_V (lg ls i)))
theorem mem_prs {ls : List AV} {i : Nat} {w : Value} : (i, w) ∈ prs ls ↔ ∃ v, ls[i]? = some v ∧ v ≠ vU ∧ w = av_V v := by
  unfold prs
  rw [List.mem_filterMap]
  constructor
  · rintro ⟨j, hj, h⟩
    have hj := List.mem_range.mp hj
    split at h
    · cases h
    · rename_i hv
      cases h
      exact ⟨lg ls i, by simp [lg, hj], hv, rfl⟩
  · rintro ⟨v, hv, hn, rfl⟩
    have hi : i < ls.length := (List.getElem?_eq_some_iff.mp hv).1
    have e : lg ls i = v := by simp [lg, hv]
    exact ⟨i, List.mem_range.mpr hi, by rw [e, if_neg hn]⟩
theorem sn_L.has {LS : Array Slot} {n : Nat} {ls : List AV} (h : sn_L LS n ls) : lv_has LS n (prs ls) := by
  refine ⟨h.1, h.2.1, fun q hq => ?_⟩
  obtain ⟨i, w⟩ := q
  obtain ⟨v, hv, hn, rfl⟩ := mem_prs.mp hq
  exact h.2.2 i v hv hn
theorem sn_L.get {LS : Array Slot} {n : Nat} {ls : List AV} (h : sn_L LS n ls) {k : Nat} {v : AV} (hv : lg ls k = v) (hn : v ≠ vU) : LS[k]? = some (Slot.val (av_V v)) := by
  refine h.2.2 k v ?_ hn
  unfold lg at hv
  rw [List.getD_eq_getElem?_getD] at hv
  cases he : ls[k]? with
  | none => rw [he] at hv; exact absurd hv.symm hn
  | some w => rw [he] at hv; simpa using hv
theorem kl_ne {x : AV} (h : kl x ≠ vU) : kl x = x ∧ (av_V x).category = 1 := by
  rcases x with x | x | x | x
  · exact ⟨rfl, rfl⟩
  · exact absurd rfl h
  · exact ⟨rfl, by cases x <;> rfl⟩
  · exact absurd rfl h
theorem sn_L.st1 {LS : Array Slot} {n i : Nat} {ls : List AV} {v : AV} (h : lv_has LS n ((i, av_V v) :: (prs ls).filter (fun q => !(q.1 == i) && !(q.1 + 1 == i && q.2.category == 2)))) : sn_L LS n (st1 ls i v) := by
  refine ⟨h.1, h.2.1, fun j w hj hn => ?_⟩
  rw [st1_get] at hj
  split at hj
  · rename_i e
    subst e
    split at hj
    · cases hj; exact h.2.2 (j, av_V v) List.mem_cons_self
    · cases hj
  · rename_i hne
    refine h.2.2 (j, av_V w) (List.mem_cons_of_mem _ (List.mem_filter.mpr ⟨?_, ?_⟩))
    · refine mem_prs.mpr ?_
      split at hj
      · cases he : ls[j]? with
        | none => rw [he] at hj; cases hj
        | some x =>
          rw [he] at hj
          cases hj
          exact ⟨x, rfl, fun e => hn (by rw [(kl_ne hn).1]; exact e), by rw [(kl_ne hn).1]⟩
      · exact ⟨w, hj, hn, rfl⟩
    · split at hj
      · cases he : ls[j]? with
        | none => rw [he] at hj; cases hj
        | some x =>
          rw [he] at hj
          cases hj
          simp [hne, (kl_ne hn).1, (kl_ne hn).2]
      · rename_i hne2
        simp [hne, hne2]
theorem sn_L.st2 {LS : Array Slot} {n i : Nat} {ls : List AV} {v : AV} (h : lv_has LS n ((i, av_V v) :: (prs ls).filter (fun q => !(q.1 == i) && (!(q.1 == i + 1) && !(q.1 + 1 == i && q.2.category == 2))))) : sn_L LS n (st2 ls i v) := by
  refine ⟨h.1, h.2.1, fun j w hj hn => ?_⟩
  rw [st2_get] at hj
  split at hj
  · rename_i e
    subst e
    split at hj
    · cases hj; exact h.2.2 (j, av_V v) List.mem_cons_self
    · cases hj
  · rename_i hne
    split at hj
    · split at hj
      · cases hj; exact absurd rfl hn
      · cases hj
    · rename_i hne1
      refine h.2.2 (j, av_V w) (List.mem_cons_of_mem _ (List.mem_filter.mpr ⟨?_, ?_⟩))
      · refine mem_prs.mpr ?_
        split at hj
        · cases he : ls[j]? with
          | none => rw [he] at hj; cases hj
          | some x =>
            rw [he] at hj
            cases hj
            exact ⟨x, rfl, fun e => hn (by rw [(kl_ne hn).1]; exact e), by rw [(kl_ne hn).1]⟩
        · exact ⟨w, hj, hn, rfl⟩
      · split at hj
        · cases he : ls[j]? with
          | none => rw [he] at hj; cases hj
          | some x =>
            rw [he] at hj
            cases hj
            simp [hne, hne1, (kl_ne hn).1, (kl_ne hn).2]
        · rename_i hne2
          simp [hne, hne1, hne2]
/-- the locals with which a method begins -/
theorem sn_L_ent {args : List AV} {n : Nat} (hu : ∀ v ∈ args, v ≠ vU) (hn : (lg_sl (args.map av_V)).length ≤ n) : sn_L ((lg_sl (args.map av_V) ++ List.replicate (n - (lg_sl (args.map av_V)).length) Slot.unset).toArray) n (ent n args) := by
  have h := lv_entry (args.map av_V) hn
  refine ⟨h.1, h.2.1, ?_⟩
  have key : ∀ (args : List AV), (∀ v ∈ args, v ≠ vU) → ∀ (b i : Nat) (w : AV), (args.flatMap sl2)[i]? = some w → w ≠ vU → (b + i, av_V w) ∈ lv_args b (args.map av_V) := by
    intro args
    induction args with
    | nil => intro _ b i w hi; simp at hi
    | cons a as ih =>
      intro hu b i w hi hw
      have ih := ih (fun v hv => hu v (List.mem_cons_of_mem _ hv))
      rcases a with x | x | x | x
      · simp only [List.flatMap_cons, List.map_cons, sl2] at hi ⊢
        unfold lv_args
        cases i with
        | zero => simp at hi; subst hi; exact List.mem_cons_self
        | succ i =>
          simp at hi
          have := ih (b + 1) i w (by simpa using hi) hw
          refine List.mem_cons_of_mem _ ?_
          rw [if_neg (by simp [av_V, Value.category])]
          rw [show b + (i + 1) = b + 1 + i by omega]; exact this
      · simp only [List.flatMap_cons, List.map_cons, sl2] at hi ⊢
        unfold lv_args
        cases i with
        | zero => simp at hi; subst hi; exact List.mem_cons_self
        | succ i =>
          cases i with
          | zero => simp at hi; exact absurd hi.symm hw
          | succ i =>
            simp at hi
            have := ih (b + 2) i w (by simpa using hi) hw
            refine List.mem_cons_of_mem _ ?_
            rw [if_pos (by simp [av_V, Value.category])]
            rw [show b + (i + 1 + 1) = b + 2 + i by omega]; exact this
      · simp only [List.flatMap_cons, List.map_cons, sl2] at hi ⊢
        unfold lv_args
        cases i with
        | zero => simp at hi; subst hi; exact List.mem_cons_self
        | succ i =>
          simp at hi
          have := ih (b + 1) i w (by simpa using hi) hw
          refine List.mem_cons_of_mem _ ?_
          rw [if_neg (by cases x <;> simp [av_V, va_rf, Value.category])]
          rw [show b + (i + 1) = b + 1 + i by omega]; exact this
      · exact absurd rfl (hu _ List.mem_cons_self)
  intro i w hi hw
  unfold ent at hi
  by_cases hl : i < (args.flatMap sl2).length
  · rw [List.getElem?_append_left hl] at hi
    have := key args hu 0 i w hi hw
    rw [Nat.zero_add] at this
    exact h.2.2 _ this
  · rw [List.getElem?_append_right (by omega)] at hi
    rw [List.getElem?_replicate] at hi
    split at hi
    · cases hi; exact absurd rfl hw
    · cases hi
