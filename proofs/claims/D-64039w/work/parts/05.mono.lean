theorem thrQ_mono {F G : FT} (hFG : ∀ d M pc ls st h P, F d M pc ls st h P → G d M pc ls st h P) {d M : Nat} {P : PT} {pc : Nat} {ls : List AV} {a : Nat} {h : AH} (k : thrQ F d M P pc ls a h) : thrQ G d M P pc ls a h := by
  obtain ⟨e, n, h1, h2, h3⟩ := k
  refine ⟨e, n, h1, h2, ?_⟩
  cases hf : hfnd (mH M) pc e with
  | none => rw [hf] at h3; exact h3
  | some hp => rw [hf] at h3; exact hFG _ _ _ _ _ _ _ h3
theorem calQ_mono {F G : FT} (hG : FMono G) (hFG : ∀ d M pc ls st h P, F d M pc ls st h P → G d M pc ls st h P) {d M : Nat} {P : PT} {pc : Nat} {ls rest : List AV} {M' : Nat} {args : List AV} {h : AH} (k : calQ F d M P pc ls rest M' args h) : calQ G d M P pc ls rest M' args h := by
  cases d with
  | zero => exact k.elim
  | succ d =>
    refine ⟨k.1, k.2.1, hG _ _ _ _ _ _ _ _ ?_ (hFG _ _ _ _ _ _ _ k.2.2)⟩
    intro o h' q
    cases o with
    | inl v => exact hFG _ _ _ _ _ _ _ q
    | inr a => exact thrQ_mono hFG q
theorem swQ_mono {x : Int32} {K K' : Nat → Prop} (hK : ∀ t, K t → K' t) : ∀ (L : List Nat) (lo : Int32), swQ x K lo L → swQ x K' lo L
  | [], _, _ => trivial
  | _ :: r, lo, h => ⟨fun e => hK _ (h.1 e), swQ_mono hK r (lo + 1) h.2⟩
theorem brQ_mono {c A B A' B' : Prop} (ha : A → A') (hb : B → B') (h : brQ c A B) : brQ c A' B' := ⟨fun q => ha (h.1 q), fun q => hb (h.2 q)⟩
set_option maxHeartbeats 4000000 in
theorem stepQ_mono {F G : FT} (hG : FMono G) (hFG : ∀ d M pc ls st h P, F d M pc ls st h P → G d M pc ls st h P) {d M : Nat} {P : PT} {pc : Nat} {e : EI} {ls st : List AV} {h : AH} (k : stepQ F d M P pc e ls st h) : stepQ G d M P pc e ls st h := by
  unfold stepQ at k ⊢
  split at k
  all_goals try exact k.elim
  all_goals try exact hFG _ _ _ _ _ _ _ k
  all_goals try exact pI_mono (fun x r q => hFG _ _ _ _ _ _ _ q) k
  all_goals try exact pL_mono (fun x r q => hFG _ _ _ _ _ _ _ q) k
  all_goals try exact pR_mono (fun x r q => hFG _ _ _ _ _ _ _ q) k
  all_goals try exact ⟨k.1, hFG _ _ _ _ _ _ _ k.2⟩
  all_goals try exact pI_mono (fun x r q => pI_mono (fun x r q => hFG _ _ _ _ _ _ _ q) q) k
  all_goals try exact pI_mono (fun x r q => pI_mono (fun x r q => ⟨q.1, hFG _ _ _ _ _ _ _ q.2⟩) q) k
  all_goals try exact pL_mono (fun x r q => pL_mono (fun x r q => hFG _ _ _ _ _ _ _ q) q) k
  all_goals try exact pI_mono (fun x r q => pL_mono (fun x r q => hFG _ _ _ _ _ _ _ q) q) k
  all_goals try exact pI_mono (fun x r q => pR_mono (fun x r q => hFG _ _ _ _ _ _ _ q) q) k
  all_goals try exact k.imp (pI_mono (fun x r q => hFG _ _ _ _ _ _ _ q)) (pR_mono (fun x r q => hFG _ _ _ _ _ _ _ q))
  all_goals try exact pI_mono (fun x r q => brQ_mono (hFG _ _ _ _ _ _ _) (hFG _ _ _ _ _ _ _) q) k
  all_goals try exact pR_mono (fun x r q => brQ_mono (hFG _ _ _ _ _ _ _) (hFG _ _ _ _ _ _ _) q) k
  all_goals try exact pI_mono (fun x r q => pI_mono (fun x r q => brQ_mono (hFG _ _ _ _ _ _ _) (hFG _ _ _ _ _ _ _) q) q) k
  all_goals try exact pI_mono (fun x r q => pI_mono (fun y r q => ⟨swQ_mono (fun t => hFG _ _ _ _ _ _ _) _ _ q.1, fun z => hFG _ _ _ _ _ _ _ (q.2 z)⟩) q) k
  all_goals try exact pA_mono (fun x r q => ⟨q.1, hFG _ _ _ _ _ _ _ q.2⟩) k
  all_goals try exact pI_mono (fun x r q => pA_mono (fun x r q => ⟨q.1, hFG _ _ _ _ _ _ _ q.2⟩) q) k
  all_goals try exact pI_mono (fun x r q => pI_mono (fun x r q => pA_mono (fun x r q => ⟨q.1, hFG _ _ _ _ _ _ _ q.2⟩) q) q) k
  all_goals try exact pI_mono (fun x r q => pI_mono (fun x r q => pA_mono (fun x r q => ⟨q.1, q.2.1, hFG _ _ _ _ _ _ _ q.2.2⟩) q) q) k
  all_goals try exact pL_mono (fun x r q => pI_mono (fun x r q => pA_mono (fun x r q => ⟨q.1, hFG _ _ _ _ _ _ _ q.2⟩) q) q) k
  all_goals try exact pR_mono (fun x r q => pI_mono (fun x r q => pA_mono (fun x r q => ⟨q.1, hFG _ _ _ _ _ _ _ q.2⟩) q) q) k
  all_goals try exact pA_mono (fun x r ⟨ty, n, q1, q2, q3⟩ => ⟨ty, n, q1, q2, hFG _ _ _ _ _ _ _ q3⟩) k
  all_goals try exact pI_mono (fun x r q => ⟨q.1, q.2.1, q.2.2.1, q.2.2.2.1, hFG _ _ _ _ _ _ _ q.2.2.2.2⟩) k
  all_goals try exact ⟨k.1, pA_mono (fun b r ⟨c, n, M', q1, q2, q3⟩ => ⟨c, n, M', q1, q2, calQ_mono hG hFG q3⟩) k.2⟩
  all_goals try exact k
  · split at k
    · exact pI_mono (fun x r q => pA_mono (fun x r q => ⟨q.1, hFG _ _ _ _ _ _ _ q.2⟩) q) k
    · exact pL_mono (fun x r q => pA_mono (fun x r q => ⟨q.1, hFG _ _ _ _ _ _ _ q.2⟩) q) k
    · exact pR_mono (fun x r q => pA_mono (fun x r q => ⟨q.1, hFG _ _ _ _ _ _ _ q.2⟩) q) k
    · exact pI_mono (fun x r q => pA_mono (fun x r q => ⟨q.1, q.2.1, hFG _ _ _ _ _ _ _ q.2.2⟩) q) k
  · split at k
    · exact ⟨k.1, k.2.1, hFG _ _ _ _ _ _ _ k.2.2⟩
    · exact k
  · split at k
    · split at k
      · exact pI_mono (fun x r q => pI_mono (fun x r q => pA_mono (fun x r q => pI_mono (fun x r q => pA_mono (fun x r q => ⟨q.1, q.2.1, q.2.2.1, q.2.2.2.1, q.2.2.2.2.1, q.2.2.2.2.2.1, hFG _ _ _ _ _ _ _ q.2.2.2.2.2.2⟩) q) q) q) q) k
      · exact ⟨k.1, calQ_mono hG hFG k.2⟩
    · exact k.elim
  · split at k
    · split at k
      · exact pA_mono (fun x r q => ⟨q.1, hFG _ _ _ _ _ _ _ q.2⟩) k
      · exact ⟨k.1, k.2.1, calQ_mono hG hFG k.2.2⟩
    · exact k.elim
theorem stpQ_mono {F G : FT} (hG : FMono G) (hFG : ∀ d M pc ls st h P, F d M pc ls st h P → G d M pc ls st h P) {d M : Nat} {P : PT} {pc : Nat} {ls st : List AV} {h : AH} (k : stpQ F d M pc ls st h P) : stpQ G d M pc ls st h P := by
  unfold stpQ at k ⊢
  cases hf : fetch M pc with
  | none => rw [hf] at k; exact k
  | some e => rw [hf] at k; exact stepQ_mono hG hFG k
theorem Ev.mono : FMono Ev := fun d M pc ls st h P P' hP k X hX hc => hX _ _ _ _ _ _ _ _ hP (k X hX hc)
theorem Ev.intro {d M : Nat} {P : PT} {pc : Nat} {ls st : List AV} {h : AH} (k : stpQ Ev d M pc ls st h P) : Ev d M pc ls st h P :=
  fun X hX hc => hc _ _ _ _ _ _ _ (stpQ_mono hX (fun _ _ _ _ _ _ _ q => q X hX hc) k)
theorem Ev.step {d M : Nat} {P : PT} {pc : Nat} {ls st : List AV} {h : AH} {e : EI} (he : fetch M pc = some e) (k : stepQ Ev d M P pc e ls st h) : Ev d M pc ls st h P :=
  Ev.intro (by unfold stpQ; rw [he]; exact k)
/-- the post at the end, by what follows from it -/
theorem Ev.post {d M : Nat} {P P' : PT} {pc : Nat} {ls st : List AV} {h : AH} (k : Ev d M pc ls st h P) (hP : ∀ o h, P o h → P' o h) : Ev d M pc ls st h P' := Ev.mono _ _ _ _ _ _ _ _ hP k
