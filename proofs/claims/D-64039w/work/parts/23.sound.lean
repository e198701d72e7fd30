/-! ===== SOUNDNESS: what Ev says holds of the machine ===== -/
section SND
variable {l : Launch} {dC : Nat → ClassId} {dI : Nat → Nat → Nat} {dA : Nat → ClassId} {b0 : Nat}
theorem fgt_I {h : AH} {a f : Nat} (hf : f % 4 = 0 ∨ f % 4 = 3) : fgt h a f = vI (hI h a f) := by
  rcases hf with e | e <;> simp only [fgt, e]
theorem fgt_L {h : AH} {a f : Nat} (hf : f % 4 = 1) : fgt h a f = vL (hL h a f) := by simp only [fgt, hf]
theorem fgt_R {h : AH} {a f : Nat} (hf : f % 4 = 2) : fgt h a f = vR (hR h a f) := by simp only [fgt, hf]
theorem fgt_oI {h : AH} {a f g : Nat} {x : Int32} (hg : g ≠ f) : fgt (wI h a f x) a g = fgt h a g := by
  unfold fgt; rw [hL_wI, hR_wI, hI_wI, if_neg (fun z => hg z.2)]
theorem fgt_oL {h : AH} {a f g : Nat} {x : Int64} (hg : g ≠ f) : fgt (wL h a f x) a g = fgt h a g := by
  unfold fgt; rw [hI_wL, hR_wL, hL_wL, if_neg (fun z => hg z.2)]
theorem fgt_oR {h : AH} {a f g : Nat} {x : Option Nat} (hg : g ≠ f) : fgt (wR h a f x) a g = fgt h a g := by
  unfold fgt; rw [hI_wR, hL_wR, hR_wR, if_neg (fun z => hg z.2)]
theorem rv_drop {st : List AV} {n : Nat} {b : AV} {rest : List AV} (hn : n ≤ st.length) (hd : st.drop n = b :: rest) : (st.take n).reverse.reverse ++ b :: rest = st := by
  rw [List.reverse_reverse, ← hd, List.take_append_drop]
set_option maxHeartbeats 4000000 in
theorem snd_closed (hfl : l.stackTraces = false) : ∀ d M pc ls st h P, stpQ (SX l dC dI dA b0) d M pc ls st h P → SX l dC dI dA b0 d M pc ls st h P := by
  intro d M pc ls st h P k
  unfold stpQ at k
  cases hf : fetch M pc with
  | none => rw [hf] at k; exact k.elim
  | some e =>
    rw [hf] at k
    obtain ⟨hM, hd, hc⟩ := fetch_ok hf
    have hs := st_hs M hM
    obtain ⟨i, ln, aux, cv, L⟩ := e
    dsimp only at hd k
    cases i with
    | aconst_null => cases (beq_iff_eq.mp hc : ln = 1); exact sx_null hd k
    | iconst n =>
      simp only [ckI, Bool.and_eq_true, beq_iff_eq, decide_eq_true_eq] at hc
      obtain ⟨rfl, rfl⟩ := hc
      exact sx_iconst hd rfl k
    | bipush n =>
      simp only [ckI, Bool.and_eq_true, beq_iff_eq, decide_eq_true_eq] at hc
      obtain ⟨rfl, rfl⟩ := hc
      exact sx_bipush hd rfl k
    | sipush n =>
      simp only [ckI, Bool.and_eq_true, beq_iff_eq, decide_eq_true_eq] at hc
      obtain ⟨rfl, rfl⟩ := hc
      exact sx_sipush hd rfl k
    | lconst n =>
      simp only [ckI, Bool.and_eq_true, beq_iff_eq, decide_eq_true_eq] at hc
      obtain ⟨rfl, rfl⟩ := hc
      exact sx_lconst hd rfl k
    | ldc i =>
      simp only [ckI, Bool.and_eq_true, beq_iff_eq, Bool.or_eq_true] at hc
      obtain ⟨rfl, hc⟩ := hc
      obtain ⟨hz, k⟩ := k
      have hz : aux = 0 := hz
      have hc := hc.resolve_left (by omega)
      rcases cv with v | v | v | v
      · exact sx_ldc hd (lk_Ki_ok hc) k
      · cases hc
      · cases hc
      · cases hc
    | ldc2_w i =>
      simp only [ckI, Bool.and_eq_true, beq_iff_eq] at hc
      obtain ⟨rfl, hc⟩ := hc
      rcases cv with v | v | v | v
      · cases hc
      · exact sx_ldc2 hd (lk_Kl_ok hc) k
      · cases hc
      · cases hc
    | iload i =>
      simp only [ckI, Bool.and_eq_true, beq_iff_eq] at hc
      obtain ⟨rfl, rfl⟩ := hc
      obtain ⟨x, r, hx, k⟩ := pI_inv k
      exact sx_iload hd (List.cons.inj hx).1 k
    | iload_n n =>
      simp only [ckI, Bool.and_eq_true, beq_iff_eq] at hc
      obtain ⟨rfl, rfl⟩ := hc
      obtain ⟨x, r, hx, k⟩ := pI_inv k
      exact sx_iload_n hd (List.cons.inj hx).1 k
    | lload i =>
      simp only [ckI, Bool.and_eq_true, beq_iff_eq] at hc
      obtain ⟨rfl, rfl⟩ := hc
      obtain ⟨x, r, hx, k⟩ := pL_inv k
      exact sx_lload hd (List.cons.inj hx).1 k
    | lload_n n =>
      simp only [ckI, Bool.and_eq_true, beq_iff_eq] at hc
      obtain ⟨rfl, rfl⟩ := hc
      obtain ⟨x, r, hx, k⟩ := pL_inv k
      exact sx_lload_n hd (List.cons.inj hx).1 k
    | aload i =>
      simp only [ckI, Bool.and_eq_true, beq_iff_eq] at hc
      obtain ⟨rfl, rfl⟩ := hc
      obtain ⟨x, r, hx, k⟩ := pR_inv k
      exact sx_aload hd (List.cons.inj hx).1 k
    | aload_n n =>
      simp only [ckI, Bool.and_eq_true, beq_iff_eq] at hc
      obtain ⟨rfl, rfl⟩ := hc
      obtain ⟨x, r, hx, k⟩ := pR_inv k
      exact sx_aload_n hd (List.cons.inj hx).1 k
    | istore i =>
      simp only [ckI, Bool.and_eq_true, beq_iff_eq, decide_eq_true_eq] at hc
      obtain ⟨⟨rfl, rfl⟩, h3⟩ := hc
      obtain ⟨x, r, rfl, k⟩ := pI_inv k
      exact sx_istore hd h3 k
    | istore_n n =>
      simp only [ckI, Bool.and_eq_true, beq_iff_eq, decide_eq_true_eq] at hc
      obtain ⟨⟨rfl, rfl⟩, h3⟩ := hc
      obtain ⟨x, r, rfl, k⟩ := pI_inv k
      exact sx_istore_n hd h3 k
    | lstore i =>
      simp only [ckI, Bool.and_eq_true, beq_iff_eq, decide_eq_true_eq] at hc
      obtain ⟨⟨rfl, rfl⟩, h3⟩ := hc
      obtain ⟨x, r, rfl, k⟩ := pL_inv k
      exact sx_lstore hd h3 k
    | lstore_n n =>
      simp only [ckI, Bool.and_eq_true, beq_iff_eq, decide_eq_true_eq] at hc
      obtain ⟨⟨rfl, rfl⟩, h3⟩ := hc
      obtain ⟨x, r, rfl, k⟩ := pL_inv k
      exact sx_lstore_n hd h3 k
    | astore i =>
      simp only [ckI, Bool.and_eq_true, beq_iff_eq, decide_eq_true_eq] at hc
      obtain ⟨⟨rfl, rfl⟩, h3⟩ := hc
      obtain ⟨x, r, rfl, k⟩ := pR_inv k
      exact sx_astore hd h3 k
    | astore_n n =>
      simp only [ckI, Bool.and_eq_true, beq_iff_eq, decide_eq_true_eq] at hc
      obtain ⟨⟨rfl, rfl⟩, h3⟩ := hc
      obtain ⟨x, r, rfl, k⟩ := pR_inv k
      exact sx_astore_n hd h3 k
    | iinc i n =>
      simp only [ckI, Bool.and_eq_true, beq_iff_eq, decide_eq_true_eq] at hc
      obtain ⟨⟨⟨rfl, rfl⟩, h3⟩, rfl⟩ := hc
      obtain ⟨x, r, hx, k⟩ := pI_inv k
      exact sx_iinc hd h3 (List.cons.inj hx).1 rfl k
    | iadd => cases (beq_iff_eq.mp hc : ln = 1); obtain ⟨y, r, rfl, k⟩ := pI_inv k; obtain ⟨x, r, rfl, k⟩ := pI_inv k; exact sx_iadd hd k
    | isub => cases (beq_iff_eq.mp hc : ln = 1); obtain ⟨y, r, rfl, k⟩ := pI_inv k; obtain ⟨x, r, rfl, k⟩ := pI_inv k; exact sx_isub hd k
    | imul => cases (beq_iff_eq.mp hc : ln = 1); obtain ⟨y, r, rfl, k⟩ := pI_inv k; obtain ⟨x, r, rfl, k⟩ := pI_inv k; exact sx_imul hd k
    | iand => cases (beq_iff_eq.mp hc : ln = 1); obtain ⟨y, r, rfl, k⟩ := pI_inv k; obtain ⟨x, r, rfl, k⟩ := pI_inv k; exact sx_iand hd k
    | idiv => cases (beq_iff_eq.mp hc : ln = 1); obtain ⟨y, r, rfl, k⟩ := pI_inv k; obtain ⟨x, r, rfl, k⟩ := pI_inv k; exact sx_idiv hd k.1 k.2
    | ladd => cases (beq_iff_eq.mp hc : ln = 1); obtain ⟨y, r, rfl, k⟩ := pL_inv k; obtain ⟨x, r, rfl, k⟩ := pL_inv k; exact sx_ladd hd k
    | lor => cases (beq_iff_eq.mp hc : ln = 1); obtain ⟨y, r, rfl, k⟩ := pL_inv k; obtain ⟨x, r, rfl, k⟩ := pL_inv k; exact sx_lor hd k
    | lshl => cases (beq_iff_eq.mp hc : ln = 1); obtain ⟨y, r, rfl, k⟩ := pI_inv k; obtain ⟨x, r, rfl, k⟩ := pL_inv k; exact sx_lshl hd k
    | lcmp => cases (beq_iff_eq.mp hc : ln = 1); obtain ⟨y, r, rfl, k⟩ := pL_inv k; obtain ⟨x, r, rfl, k⟩ := pL_inv k; exact sx_lcmp hd k
    | i2l => cases (beq_iff_eq.mp hc : ln = 1); obtain ⟨y, r, rfl, k⟩ := pI_inv k; exact sx_i2l hd k
    | pop =>
      cases (beq_iff_eq.mp hc : ln = 1)
      rcases k with k | k
      · obtain ⟨y, r, rfl, k⟩ := pI_inv k; exact sx_popvI hd k
      · obtain ⟨y, r, rfl, k⟩ := pR_inv k; exact sx_popvR hd k
    | dup =>
      cases (beq_iff_eq.mp hc : ln = 1)
      rcases k with k | k
      · obtain ⟨y, r, rfl, k⟩ := pI_inv k; exact sx_dupvI hd k
      · obtain ⟨y, r, rfl, k⟩ := pR_inv k; exact sx_dupvR hd k
    | dup_x1 => cases (beq_iff_eq.mp hc : ln = 1); obtain ⟨y, r, rfl, k⟩ := pI_inv k; obtain ⟨x, r, rfl, k⟩ := pR_inv k; exact sx_dup_x1 hd k
    | dup2 => cases (beq_iff_eq.mp hc : ln = 1); obtain ⟨y, r, rfl, k⟩ := pI_inv k; obtain ⟨x, r, rfl, k⟩ := pR_inv k; exact sx_dup2 hd k
    | ifCond co off =>
      simp only [ckI, Bool.and_eq_true, beq_iff_eq, decide_eq_true_eq] at hc
      obtain ⟨rfl, h2⟩ := hc
      obtain ⟨x, r, rfl, k⟩ := pI_inv k
      exact sx_if hd h2 k.1 k.2
    | if_icmp co off =>
      simp only [ckI, Bool.and_eq_true, beq_iff_eq, decide_eq_true_eq] at hc
      obtain ⟨rfl, h2⟩ := hc
      obtain ⟨y, r, rfl, k⟩ := pI_inv k
      obtain ⟨x, r, rfl, k⟩ := pI_inv k
      exact sx_icmp hd h2 k.1 k.2
    | ifnull off =>
      simp only [ckI, Bool.and_eq_true, beq_iff_eq, decide_eq_true_eq] at hc
      obtain ⟨rfl, h2⟩ := hc
      obtain ⟨y, r, rfl, k⟩ := pR_inv k
      exact sx_ifnull hd h2 k.1 k.2
    | ifnonnull off =>
      simp only [ckI, Bool.and_eq_true, beq_iff_eq, decide_eq_true_eq] at hc
      obtain ⟨rfl, h2⟩ := hc
      obtain ⟨y, r, rfl, k⟩ := pR_inv k
      exact sx_ifnonnull hd h2 k.1 k.2
    | goto off =>
      simp only [ckI, Bool.and_eq_true, beq_iff_eq, decide_eq_true_eq] at hc
      obtain ⟨rfl, h2⟩ := hc
      exact sx_goto hd h2 k
    | tableswitch df lo hi offs =>
      simp only [ckI, Bool.and_eq_true, beq_iff_eq, decide_eq_true_eq] at hc
      obtain ⟨⟨⟨⟨⟨h1, h2⟩, h3⟩, h4⟩, h5⟩, h6⟩ := hc
      obtain ⟨x, r, rfl, k⟩ := pI_inv k
      obtain ⟨lo', r', hlo, k⟩ := pI_inv k
      have hlo : cv = vI lo' := (List.cons.inj hlo).1
      subst hlo
      exact sx_switch hd (of_decide_eq_true h2) h3 h4 h1 h5 h6 k.1 k.2
    | getfield i =>
      simp only [ckI, Bool.and_eq_true, beq_iff_eq] at hc
      obtain ⟨rfl, h2⟩ := hc
      obtain ⟨a, r, rfl, k⟩ := pA_inv k
      exact sx_getf hd (lk_F_ok h2) k.1 k.2
    | putfield i =>
      simp only [ckI, Bool.and_eq_true, Bool.or_eq_true, beq_iff_eq, decide_eq_true_eq] at hc
      obtain ⟨⟨⟨rfl, h2⟩, h3⟩, h4⟩ := hc
      have k : (match aux % 4 with
        | 0 => pI st fun x st => pA st fun a st => fok h a aux ∧ SX l dC dI dA b0 d M (pc + 3) ls st (wI h a aux x) P
        | 1 => pL st fun x st => pA st fun a st => fok h a aux ∧ SX l dC dI dA b0 d M (pc + 3) ls st (wL h a aux x) P
        | 2 => pR st fun x st => pA st fun a st => fok h a aux ∧ SX l dC dI dA b0 d M (pc + 3) ls st (wR h a aux x) P
        | _ => pI st fun x st => pA st fun a st => isB x ∧ fok h a aux ∧ SX l dC dI dA b0 d M (pc + 3) ls st (wI h a aux x) P) := k
      unfold kOK at h4
      split at k
      · rename_i e
        rw [e] at h4
        obtain ⟨x, r, rfl, k⟩ := pI_inv k
        obtain ⟨a, r, rfl, k⟩ := pA_inv k
        have ht : fty aux = .int := of_decide_eq_true h4
        exact sx_putf (v := vI x) (h' := wI h a aux x) hd (lk_F_ok h2) h3 k.1 (by rw [ht]; rfl) (by rw [ht]; rfl) rfl rfl rfl rfl wI_ne (fun _ _ => rfl) (fun _ _ => rfl) (by rw [fgt_I (Or.inl e), hI_wI, if_pos ⟨rfl, rfl⟩]) (fun g hg => fgt_oI hg) k.2
      · rename_i e
        rw [e] at h4
        obtain ⟨x, r, rfl, k⟩ := pL_inv k
        obtain ⟨a, r, rfl, k⟩ := pA_inv k
        have ht : fty aux = .long := of_decide_eq_true h4
        exact sx_putf (v := vL x) (h' := wL h a aux x) hd (lk_F_ok h2) h3 k.1 (by rw [ht]; rfl) (by rw [ht]; rfl) rfl rfl rfl rfl (fun _ _ => rfl) wL_ne (fun _ _ => rfl) (by rw [fgt_L e, hL_wL, if_pos ⟨rfl, rfl⟩]) (fun g hg => fgt_oL hg) k.2
      · rename_i e
        rw [e] at h4
        obtain ⟨x, r, rfl, k⟩ := pR_inv k
        obtain ⟨a, r, rfl, k⟩ := pA_inv k
        have hn : narrow (fty aux) (va_rf x) = va_rf x ∧ fits (fty aux) (va_rf x) = true := by
          have h4 : isRefTy (fty aux) = true := h4
          cases hft : fty aux <;> rw [hft] at h4 <;> first | (cases h4; done) | (cases x <;> exact ⟨rfl, rfl⟩)
        exact sx_putf (v := vR x) (h' := wR h a aux x) hd (lk_F_ok h2) h3 k.1 hn.1 hn.2 rfl rfl rfl rfl (fun _ _ => rfl) (fun _ _ => rfl) wR_ne (by rw [fgt_R e, hR_wR, if_pos ⟨rfl, rfl⟩]) (fun g hg => fgt_oR hg) k.2
      · rename_i e0 e1 e2
        have e3 : aux % 4 = 3 := by
          have := Nat.mod_lt aux (show 0 < 4 by decide)
          have q0 : aux % 4 ≠ 0 := fun z => e0 z
          have q1 : aux % 4 ≠ 1 := fun z => e1 z
          have q2 : aux % 4 ≠ 2 := fun z => e2 z
          omega
        rw [e3] at h4
        obtain ⟨x, r, rfl, k⟩ := pI_inv k
        obtain ⟨a, r, rfl, k⟩ := pA_inv k
        have ht : fty aux = .boolean := of_decide_eq_true h4
        have hfi : fits .boolean (.int x) = true := by rcases k.1 with rfl | rfl <;> decide +kernel
        exact sx_putf (v := vI x) (h' := wI h a aux x) hd (lk_F_ok h2) h3 k.2.1 (by rw [ht]; exact nar_B k.1) (by rw [ht]; exact hfi) rfl rfl rfl rfl wI_ne (fun _ _ => rfl) (fun _ _ => rfl) (by rw [fgt_I (Or.inr e3), hI_wI, if_pos ⟨rfl, rfl⟩]) (fun g hg => fgt_oI hg) k.2.2
    | iaload => cases (beq_iff_eq.mp hc : ln = 1); obtain ⟨i, r, rfl, k⟩ := pI_inv k; obtain ⟨a, r, rfl, k⟩ := pA_inv k; exact sx_iald hd k.1 k.2
    | baload => cases (beq_iff_eq.mp hc : ln = 1); obtain ⟨i, r, rfl, k⟩ := pI_inv k; obtain ⟨a, r, rfl, k⟩ := pA_inv k; exact sx_bald hd k.1 k.2
    | laload => cases (beq_iff_eq.mp hc : ln = 1); obtain ⟨i, r, rfl, k⟩ := pI_inv k; obtain ⟨a, r, rfl, k⟩ := pA_inv k; exact sx_lald hd k.1 k.2
    | aaload => cases (beq_iff_eq.mp hc : ln = 1); obtain ⟨i, r, rfl, k⟩ := pI_inv k; obtain ⟨a, r, rfl, k⟩ := pA_inv k; exact sx_aald hd k.1 k.2
    | iastore => cases (beq_iff_eq.mp hc : ln = 1); obtain ⟨x, r, rfl, k⟩ := pI_inv k; obtain ⟨i, r, rfl, k⟩ := pI_inv k; obtain ⟨a, r, rfl, k⟩ := pA_inv k; exact sx_iast hd k.1 k.2
    | bastore => cases (beq_iff_eq.mp hc : ln = 1); obtain ⟨x, r, rfl, k⟩ := pI_inv k; obtain ⟨i, r, rfl, k⟩ := pI_inv k; obtain ⟨a, r, rfl, k⟩ := pA_inv k; exact sx_bast hd k.1 k.2.1 k.2.2
    | lastore => cases (beq_iff_eq.mp hc : ln = 1); obtain ⟨x, r, rfl, k⟩ := pL_inv k; obtain ⟨i, r, rfl, k⟩ := pI_inv k; obtain ⟨a, r, rfl, k⟩ := pA_inv k; exact sx_last hd k.1 k.2
    | aastore => cases (beq_iff_eq.mp hc : ln = 1); obtain ⟨x, r, rfl, k⟩ := pR_inv k; obtain ⟨i, r, rfl, k⟩ := pI_inv k; obtain ⟨a, r, rfl, k⟩ := pA_inv k; exact sx_aast hd k.1 k.2
    | arraylength => cases (beq_iff_eq.mp hc : ln = 1); obtain ⟨a, r, rfl, ty, n, k1, k2, k3⟩ := pA_inv k; exact sx_alen hd k1 k2 k3
    | newarray at_ =>
      simp only [ckI, Bool.and_eq_true, beq_iff_eq, decide_eq_true_eq] at hc
      obtain ⟨⟨rfl, h2⟩, h3⟩ := hc
      obtain ⟨n, r, rfl, k⟩ := pI_inv k
      have hw : Jvm.Cond.arrayClass (aty aux) ∈ lw_tbl := by
        rcases (show aux = 0 ∨ aux = 1 ∨ aux = 2 by omega) with rfl | rfl | rfl <;> decide +kernel
      exact sx_newa hd h2 h3 hw k.1 k.2.1 k.2.2.1 k.2.2.2.1 k.2.2.2.2
    | anewarray i =>
      simp only [ckI, Bool.and_eq_true, beq_iff_eq] at hc
      obtain ⟨rfl, h2⟩ := hc
      obtain ⟨n, r, rfl, k⟩ := pI_inv k
      obtain ⟨g1, g2, g3, g4⟩ := lk_A_ok h2
      exact sx_anew hd g1 g2 g3 g4 k.1 k.2.1 k.2.2.1 k.2.2.2.1 k.2.2.2.2
    | new i =>
      simp only [ckI, Bool.and_eq_true, beq_iff_eq] at hc
      obtain ⟨rfl, h2⟩ := hc
      have k : (match decide (aux < 50) with
        | true => 1 ≤ hC h ∧ nSlots aux ≤ hS h ∧ SX l dC dI dA b0 d M (pc + 3) ls (vR (some (hN h)) :: st) (al h (aux, 0) (nSlots aux)) P
        | false => 1 ≤ hC h ∧ 6 ≤ hS h ∧ st.length ≤ 4 ∧ P (.inr (hN h)) (al h (aux - 10, 0) 6)) := k
      cases hlt : decide (aux < 50) with
      | true =>
        rw [hlt] at k h2
        obtain ⟨g1, g2⟩ := lk_N_ok h2
        exact sx_new hd g1 g2 k.1 k.2.1 k.2.2
      | false =>
        rw [hlt] at k h2
        have h2 : ckN M pc i aux = true := h2
        unfold ckN at h2
        split at h2
        · rename_i j _ ic _ e1 e2
          simp only [Bool.and_eq_true, decide_eq_true_eq] at h2
          obtain ⟨⟨⟨⟨⟨⟨h0, h3⟩, h4⟩, h5⟩, h6⟩, h7⟩, h8⟩ := h2
          obtain ⟨g1, ⟨tx, g2⟩, g3, g4⟩ := lk_X_ok h7
          have hout : ∀ x ∈ mX M, ¬ (x.1 ≤ pc + 9 ∧ pc + 9 < x.2.1) := by
            intro x hx hh
            have := List.all_eq_true.mp h8 x hx
            rw [Nat.ble_eq_true_of_le hh.1] at this
            have h9 : Nat.blt (pc + 9) x.2.1 = true := by rw [Nat.blt_eq]; exact hh.2
            rw [h9] at this
            cases this
          have e9 : aux - 10 = 50 + (aux - 60) := by omega
          have k4 : P (.inr (hN h)) (al h (50 + (aux - 60), 0) 6) := by rw [← e9]; exact k.2.2.2
          exact sx_exc hfl hd h3 h4 h5 h6 g1 g3 g2 g4 hout k.1 k.2.1 k.2.2.1 k4
        · cases h2
    | invokevirtual i =>
      simp only [ckI, Bool.and_eq_true, beq_iff_eq] at hc
      obtain ⟨rfl, h2⟩ := hc
      obtain ⟨k1, k⟩ := k
      obtain ⟨b, r, hb, c, n, M', k2, k3, k4⟩ := pA_inv k
      have h9 := prB_at h2 k3
      simp only [Bool.and_eq_true, decide_eq_true_eq] at h9
      have := sx_invV (as := (st.take aux).reverse) (rest := r) (st_m M' h9.1) (st_30 M') hs (lk_V_ok h9.2) hd (by rw [List.length_reverse, List.length_take, Nat.min_eq_left k1]) k2 k4
      rw [rv_drop k1 hb] at this
      exact this
    | invokestatic i =>
      simp only [ckI, Bool.and_eq_true, beq_iff_eq] at hc
      obtain ⟨rfl, h2⟩ := hc
      rcases L with _ | ⟨M', _ | ⟨_, _⟩⟩
      · exact k.elim
      · have k : (match decide (M' = 9998) with
          | true => pI st fun n st => pI st fun dp st => pA st fun b st => pI st fun sp st => pA st fun a st => st.length ≤ 4 ∧ ¬ a = b ∧ ¬ sp < 0 ∧ ¬ dp < 0 ∧ ¬ n < 0 ∧ (∃ na nb, hT h a = some (100, na) ∧ hT h b = some (100, nb) ∧ sp.toNatClampNeg + n.toNatClampNeg ≤ na ∧ dp.toNatClampNeg + n.toNatClampNeg ≤ nb) ∧
              SX l dC dI dA b0 d M (pc + 3) ls st (cpI h a sp.toNatClampNeg b dp.toNatClampNeg n.toNatClampNeg) P
          | false => aux ≤ st.length ∧ calQ (SX l dC dI dA b0) d M P pc ls (st.drop aux) M' (st.take aux).reverse h) := k
        cases hq : decide (M' = 9998) with
        | true =>
          rw [hq] at k
          have h2 : lk_C.any (fun r => r.1 == mO M && r.2.1 == i) = true := by simp only [hq] at h2; exact h2
          obtain ⟨n, r1, e1, q1⟩ := pI_inv k
          obtain ⟨dp, r2, e2, q2⟩ := pI_inv q1
          obtain ⟨b, r3, e3, q3⟩ := pA_inv q2
          obtain ⟨sp, r4, e4, q4⟩ := pI_inv q3
          obtain ⟨a, r, e5, k1, k2, k3, k4, k5, ⟨na, nb, k6, k7, k8, k9⟩, k10⟩ := pA_inv q4
          clear k q1 q2 q3 q4
          subst e5 e4 e3 e2 e1
          exact sx_cpy hd (lk_C_ok h2) k1 k3 k4 k5 k6 k7 k8 k9 k10
        | false =>
          rw [hq] at k
          have h2 : (decide (M' < 142) && lk_S.any (fun r => r.1 == mO M && r.2.1 == i && r.2.2.1 == M' && r.2.2.2.1 == aux)) = true := by simp only [hq] at h2; exact h2
          simp only [Bool.and_eq_true, decide_eq_true_eq] at h2
          exact sx_invS (st_m M' h2.1) (st_30 M') hs (lk_S_ok h2.2) hd k.1 k.2
      · exact k.elim
    | invokespecial i =>
      simp only [ckI, Bool.and_eq_true, beq_iff_eq] at hc
      obtain ⟨rfl, h2⟩ := hc
      rcases L with _ | ⟨M', _ | ⟨_, _⟩⟩
      · exact k.elim
      · have k : (match decide (M' = 9999) with
          | true => pA st fun _ st => st.length ≤ 4 ∧ SX l dC dI dA b0 d M (pc + 3) ls st h P
          | false => aux ≤ st.length ∧ (pA (st.drop (aux - 1)) fun _ _ => True) ∧ calQ (SX l dC dI dA b0) d M P pc ls (st.drop aux) M' (st.take aux).reverse h) := k
        cases hq : decide (M' = 9999) with
        | true =>
          rw [hq] at k
          have h2 : lk_O.any (fun r => r.1 == mO M && r.2.1 == i) = true := by simp only [hq] at h2; exact h2
          obtain ⟨a, r, rfl, k1, k2⟩ := pA_inv k
          exact sx_obj hd (lk_O_ok h2) k1 k2
        | false =>
          rw [hq] at k
          have h2 : (decide (M' < 142) && decide (1 ≤ aux) && lk_I.any (fun r => r.1 == mO M && r.2.1 == i && r.2.2.1 == M' && r.2.2.2.1 == aux - 1)) = true := by simp only [hq] at h2; exact h2
          simp only [Bool.and_eq_true, decide_eq_true_eq] at h2
          obtain ⟨k1, k2, k3⟩ := k
          obtain ⟨a, r, hdr, -⟩ := pA_inv k2
          obtain ⟨j, rfl⟩ : ∃ j, aux = j + 1 := ⟨aux - 1, by omega⟩
          rw [Nat.add_sub_cancel] at hdr h2
          have hr : st.drop (j + 1) = r := by rw [← List.drop_drop, hdr]; rfl
          have htk : (st.take (j + 1)).reverse = vR (some a) :: (st.take j).reverse := by
            have e1 : st.take (j + 1) = st.take j ++ [vR (some a)] := by
              rw [List.take_succ]
              have : st[j]? = some (vR (some a)) := by
                have := congrArg (fun l => l[0]?) hdr
                simpa using this
              rw [this]; rfl
            rw [e1, List.reverse_append]; rfl
          rw [hr, htk] at k3
          have := sx_invI (as := (st.take j).reverse) (rest := r) (st_m M' h2.1.1) (st_30 M') hs (lk_I_ok h2.2) hd (by rw [List.length_reverse, List.length_take, Nat.min_eq_left (by omega)]) k3
          rw [rv_drop (by omega) hdr] at this
          exact this
      · exact k.elim
    | ireturn =>
      simp only [ckI, Bool.and_eq_true, Bool.or_eq_true, beq_iff_eq, decide_eq_true_eq] at hc
      obtain ⟨rfl, h2⟩ := hc
      obtain ⟨x, r, rfl, rfl, k1, k2⟩ := pI_inv k
      exact sx_iret hd (h2.imp id (fun z => ⟨z.1, k1 z.2⟩)) k2
    | lreturn =>
      simp only [ckI, Bool.and_eq_true, beq_iff_eq, decide_eq_true_eq] at hc
      obtain ⟨rfl, h2⟩ := hc
      obtain ⟨x, r, rfl, rfl, k2⟩ := pL_inv k
      exact sx_lret hd h2 k2
    | areturn =>
      simp only [ckI, Bool.and_eq_true, beq_iff_eq] at hc
      obtain ⟨rfl, h2⟩ := hc
      obtain ⟨x, r, rfl, rfl, k2⟩ := pR_inv k
      unfold isO at h2
      split at h2
      · rename_i nm e; exact sx_aret hd e k2
      · cases h2
    | return_ =>
      simp only [ckI, Bool.and_eq_true, beq_iff_eq, decide_eq_true_eq] at hc
      obtain ⟨rfl, h2⟩ := hc
      obtain ⟨rfl, k2⟩ := k
      exact sx_vret hd h2 k2
    | _ => exact k.elim
theorem Ev.sound (hfl : l.stackTraces = false) {d M pc : Nat} {ls st : List AV} {h : AH} {P : PT} (k : Ev d M pc ls st h P) : SX l dC dI dA b0 d M pc ls st h P := k _ SX.mono (snd_closed hfl)
end SND
