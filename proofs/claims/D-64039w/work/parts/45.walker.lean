/-! deps: 25 26 27 36 37 38 39 40 41 42 43 44 -/
/-! ===== WALKER ===== -/
/-- only the object w has changed -/
def OO (h h' : AH) (w : Nat) : Prop := hT h' = hT h ∧ hN h' = hN h ∧ hC h' = hC h ∧ hS h' = hS h ∧ ∀ b, b ≠ w → (∀ j, hI h' b j = hI h b j) ∧ (∀ j, hL h' b j = hL h b j) ∧ ∀ j, hR h' b j = hR h b j
theorem OO.refl (h : AH) (w : Nat) : OO h h w := ⟨rfl, rfl, rfl, rfl, fun _ _ => ⟨fun _ => rfl, fun _ => rfl, fun _ => rfl⟩⟩
theorem OO.trans {h h' h'' : AH} {w : Nat} (a : OO h h' w) (b : OO h' h'' w) : OO h h'' w := by
  obtain ⟨a1, a2, a3, a4, a5⟩ := a
  obtain ⟨b1, b2, b3, b4, b5⟩ := b
  refine ⟨b1.trans a1, b2.trans a2, b3.trans a3, b4.trans a4, fun q hq => ?_⟩
  obtain ⟨x1, x2, x3⟩ := a5 q hq
  obtain ⟨y1, y2, y3⟩ := b5 q hq
  exact ⟨fun j => (y1 j).trans (x1 j), fun j => (y2 j).trans (x2 j), fun j => (y3 j).trans (x3 j)⟩
theorem OO.wI (h : AH) (w f : Nat) (v : Int32) : OO h (wI h w f v) w := ⟨rfl, rfl, rfl, rfl, fun b hb => ⟨fun j => by rw [hI_wI, if_neg (fun q => hb q.1)], fun _ => rfl, fun _ => rfl⟩⟩
theorem OO.wL (h : AH) (w f : Nat) (v : Int64) : OO h (wL h w f v) w := ⟨rfl, rfl, rfl, rfl, fun b hb => ⟨fun _ => rfl, fun j => by rw [hL_wL, if_neg (fun q => hb q.1)], fun _ => rfl⟩⟩
theorem OO.wR (h : AH) (w f : Nat) (v : Option Nat) : OO h (wR h w f v) w := ⟨rfl, rfl, rfl, rfl, fun b hb => ⟨fun _ => rfl, fun _ => rfl, fun j => by rw [hR_wR, if_neg (fun q => hb q.1)]⟩⟩
theorem OO.pu {h h' : AH} {w : Nat} (a : OO h h' w) (W : HW h) (hp : ¬ pgt (hT h w)) : PU h h' := by
  obtain ⟨a1, a2, a3, a4, a5⟩ := a
  refine ⟨fun b hb => by rw [a1]; exact W b (by omega), fun b _ => by rw [a1], fun b _ hb => a5 b ?_⟩
  rintro rfl; exact hp hb
def WkR (σ : PS) (r : Option Nat) (i : Nat) (rem : List En) (fp : List Nat) : Prop := (r = none ∧ rem = []) ∨ ∃ (b : Nat) (p : Pg) (e : List En) (L : List Lf), (b ∈ fp ∧ ∀ l ∈ L, l.1 ∈ fp) ∧ r = some b ∧ σ b = some p ∧ pF p = true ∧ pK p = e.map (fun e => e.1) ∧ pW p = e.map (fun e => some e.2) ∧ Lseg σ (pN p) L none ∧ i ≤ e.length ∧ rem = e.drop i ++ L.flatMap lE
/-- a walker: what is still to come, and up to where it goes -/
def Wk (h : AH) (σ : PS) (w : Nat) (rem : List En) (last : Int64) (fp : List Nat) : Prop := hT h w = some (15, 0) ∧ hL h w 129 = last ∧ ∃ i, hI h w 124 = nI i ∧ WkR σ (hR h w 122) i rem fp
theorem wk_np {h : AH} {w : Nat} (h1 : hT h w = some (15, 0)) : ¬ pgt (hT h w) := not_pgt h1 (by decide) (by decide) (by decide) (by decide)
theorem Tre.oo {h h' : AH} {σ : PS} {w t n : Nat} {es : List En} {fp : List Nat} (T : Tre h σ t n es fp) (a : OO h h' w) (hw : t ≠ w) : Tre h' σ t n es fp := by
  obtain ⟨T1, T2, T3, root, fs, T4, T5⟩ := T
  exact ⟨by rw [a.1]; exact T1, T2, T3, root, fs, by rw [(a.2.2.2.2 t hw).2.2]; exact T4, T5⟩
theorem m82 {n d w t : Nat} {es : List En} {fp : List Nat} {h : AH} {σ : PS} {fr to : Int64} {P : PT} (S : PSt h σ) (T : Tre h σ t n es fp) (hw : hT h w = some (15, 0))
    (K : ∀ h' X rem, OO h h' w → Wk h' σ w rem to fp → es = X ++ rem → (∀ x ∈ X, x.1 < fr) → (∀ x ∈ rem, fr ≤ x.1) → P (.inl none) h') : Ev (d + 2) 82 0 [vR (some w), vR (some t), vL fr, vU, vL to, vU] [] h P := by
  have hwt : t ≠ w := ne_t T.1 hw (by decide)
  refine w82_0 ⟨hw, trivial⟩ ⟨T.1, trivial⟩ ?_
  have O1 := OO.wL h w 129 to
  have S1 := ps_pu S (O1.pu S.1 (wk_np hw))
  refine m70 S1 (T.oo O1 hwt) (fun b fs ⟨L1, e, L2, h1, h2, h3, h4, hfp⟩ => ?_)
  have hw1 : hT (wL h w 129 to) w = some (15, 0) := hw
  refine w82_12 ⟨hw1, trivial⟩ ?_
  have O2 := O1.trans (OO.wR _ w 122 (some b))
  have S2 := ps_pu S (O2.pu S.1 (wk_np hw))
  obtain ⟨p, q1, q2, q3, q4, q5⟩ := Lseg_at h1
  refine w82_15 ⟨hw1, trivial⟩ ⟨b, by rw [hR_wR, if_pos ⟨rfl, rfl⟩], pg_o S2 q1, ?_⟩
  refine m46 S2 q1 ?_
  refine w82_24 ⟨hw1, trivial⟩ ?_
  have st := T.2.2.1
  rw [h2] at st
  obtain ⟨st1, st2, st3⟩ := Srt.sub st
  obtain ⟨X, Y, e1, e2, e3, e4⟩ := srt_cut2 (key := fr) st1
  have q3 : pK p = e.map (fun e => e.1) := q3
  rw [q3, e4]
  refine K _ (L1.flatMap lE ++ X) (Y ++ L2.flatMap lE) (O2.trans (OO.wI _ w 124 _)) ⟨hw, ?_, X.length, ?_, ?_⟩ ?_ ?_ ?_
  · show (if w = w ∧ 129 = 129 then to else hL h w 129) = to
    rw [if_pos ⟨rfl, rfl⟩]
  · rw [hI_wI, if_pos ⟨rfl, rfl⟩]
  · refine Or.inr ⟨b, p, e, L2, ⟨hfp (b, e) (by simp), fun l hl => hfp l (by simp [hl])⟩, ?_, q1, q2, q3, q4, q5, by rw [e1, List.length_append]; omega, by rw [e1]; simp⟩
    show (if w = w ∧ 122 = 122 then some b else _) = some b
    rw [if_pos ⟨rfl, rfl⟩]
  · rw [h2, e1]; simp
  · intro x hx
    rcases List.mem_append.mp hx with hx | hx
    · exact h3 x hx
    · exact e2 x hx
  · intro x hx
    rcases List.mem_append.mp hx with hx | hx
    · exact e3 x hx
    · exact Int64.le_of_lt (h4 x hx)
theorem m83 {d w : Nat} {last : Int64} {σ : PS} {P : PT} {h0 : AH} {fp : List Nat} : ∀ (L : List Lf) (h : AH) (rem : List En), PSt h σ → OO h0 h w → hT h w = some (15, 0) → hL h w 129 = last → (∃ i, hI h w 124 = nI i ∧ ((hR h w 122 = none ∧ rem = [] ∧ L = []) ∨ ∃ (b : Nat) (p : Pg) (e : List En), (b ∈ fp ∧ ∀ l ∈ L, l.1 ∈ fp) ∧ hR h w 122 = some b ∧ σ b = some p ∧ pF p = true ∧ pK p = e.map (fun e => e.1) ∧ pW p = e.map (fun e => some e.2) ∧ Lseg σ (pN p) L none ∧ i ≤ e.length ∧ rem = e.drop i ++ L.flatMap lE)) →
    ((rem = [] ∨ ∃ e rem', rem = e :: rem' ∧ last < e.1) → ∀ h', OO h0 h' w → Wk h' σ w rem last fp → P (.inl (some (vR none))) h') →
    (∀ e rem', rem = e :: rem' → e.1 ≤ last → ∀ h', OO h0 h' w → Wk h' σ w rem' last fp → P (.inl (some (vR (some e.2)))) h') →
    Ev d 83 0 [vR (some w)] [] h P := by
  intro L
  induction L with
  | nil =>
    intro h rem S O hw hl W K1 K2
    obtain ⟨i, hi, (⟨w1, w2, _⟩ | ⟨b, p, e, wf, w1, w2, w3, w4, w5, w6, w7, w8⟩)⟩ := W
    · refine w83_0 ⟨hw, trivial⟩ ⟨fun _ => ⟨fun _ => K1 (Or.inl w2) h O ⟨hw, hl, i, hi, Or.inl ⟨w1, w2⟩⟩, fun g => absurd w1 g⟩, fun g => absurd w1 g⟩
    · have lk : (pK p).length = e.length := by rw [w4, List.length_map]
      have h5 := pg_5 S w2
      have en : e.map (fun e => e.1) ≠ [] ∨ True := Or.inr trivial
      refine w83_0 ⟨hw, trivial⟩ ⟨fun g => (by rw [w1] at g; cases g), fun _ => ⟨b, w1, pg_o S w2, fun g => ?_, fun g => ?_⟩⟩
      · rw [hi, pg_n S w2, nI_ltI (by omega) (by omega)] at g
        refine ⟨fun g => (by rw [w1] at g; cases g), fun _ => ⟨b, w1, pg_o S w2, by rw [hi]; exact i5 (by omega) (by omega), fun g2 => ?_, fun g2 => ?_⟩⟩
        all_goals rw [hi, cl (by omega), hl] at g2
        all_goals obtain ⟨x, hx⟩ : ∃ x, e[i]? = some x := ⟨e[i]'(by omega), List.getElem?_eq_getElem (by omega)⟩
        all_goals have gk := pg_k S w2 (i := i) (by omega)
        all_goals have gw := pg_w S w2 (i := i) (by omega)
        all_goals rw [w4, List.getElem?_map, hx] at gk
        all_goals rw [w5, List.getElem?_map, hx] at gw
        all_goals rw [← Option.some.inj gk] at g2
        all_goals have dr : e.drop i = x :: e.drop (i + 1) := by
                    rw [List.drop_eq_getElem_cons (by omega)]
                    rw [List.getElem?_eq_getElem (by omega)] at hx
                    rw [Option.some.inj hx]
        · refine ⟨b, w1, pg_o S w2, by rw [hi]; exact i5 (by omega) (by omega), ?_⟩
          rw [hi, cl (by omega)]
          rw [show hR (wI h w 124 (nI i + 1)) (b + 2) i = some x.2 from (Option.some.inj gw).symm]
          refine K2 x (e.drop (i + 1) ++ ([] : List Lf).flatMap lE) (by rw [w8, dr]; rfl) g2 _ (O.trans (OO.wI _ _ _ _)) ⟨hw, hl, i + 1, ?_, Or.inr ⟨b, p, e, [], wf, w1, w2, w3, w4, w5, w6, by omega, rfl⟩⟩
          rw [hI_wI, if_pos ⟨rfl, rfl⟩, nI_1]
        · exact K1 (Or.inr ⟨x, _, by rw [w8, dr]; rfl, g2⟩) h O ⟨hw, hl, i, hi, Or.inr ⟨b, p, e, [], wf, w1, w2, w3, w4, w5, w6, w7, w8⟩⟩
      · rw [hi, pg_n S w2, nI_leI (by omega) (by omega)] at g
        refine ⟨b, w1, pg_o S w2, ?_⟩
        have hnx : pN p = none := w6
        rw [(pg_x S w2).1, hnx]
        refine w83_32 ⟨hw, trivial⟩ ?_
        have O2 := (OO.wR h w 122 none).trans (OO.wI _ w 124 0)
        have re : rem = [] := by rw [w8, List.drop_eq_nil_of_le (by omega)]; rfl
        have r2 : hR (wI (wR h w 122 none) w 124 0) w 122 = none := if_pos ⟨rfl, rfl⟩
        refine w83_0 ⟨hw, trivial⟩ ⟨fun _ => ⟨fun _ => K1 (Or.inl re) _ (O.trans O2) ⟨hw, hl, 0, by rw [hI_wI, if_pos ⟨rfl, rfl⟩]; rfl, Or.inl ⟨r2, re⟩⟩, fun g => absurd r2 g⟩, fun g => absurd r2 g⟩
  | cons l L ih =>
    intro h rem S O hw hl W K1 K2
    obtain ⟨i, hi, (⟨w1, w2, w3⟩ | ⟨b, p, e, wf, w1, w2, w3, w4, w5, w6, w7, w8⟩)⟩ := W
    · cases w3
    · have lk : (pK p).length = e.length := by rw [w4, List.length_map]
      have h5 := pg_5 S w2
      refine w83_0 ⟨hw, trivial⟩ ⟨fun g => (by rw [w1] at g; cases g), fun _ => ⟨b, w1, pg_o S w2, fun g => ?_, fun g => ?_⟩⟩
      · rw [hi, pg_n S w2, nI_ltI (by omega) (by omega)] at g
        refine ⟨fun g => (by rw [w1] at g; cases g), fun _ => ⟨b, w1, pg_o S w2, by rw [hi]; exact i5 (by omega) (by omega), fun g2 => ?_, fun g2 => ?_⟩⟩
        all_goals rw [hi, cl (by omega), hl] at g2
        all_goals obtain ⟨x, hx⟩ : ∃ x, e[i]? = some x := ⟨e[i]'(by omega), List.getElem?_eq_getElem (by omega)⟩
        all_goals have gk := pg_k S w2 (i := i) (by omega)
        all_goals have gw := pg_w S w2 (i := i) (by omega)
        all_goals rw [w4, List.getElem?_map, hx] at gk
        all_goals rw [w5, List.getElem?_map, hx] at gw
        all_goals rw [← Option.some.inj gk] at g2
        all_goals have dr : e.drop i = x :: e.drop (i + 1) := by
                    rw [List.drop_eq_getElem_cons (by omega)]
                    rw [List.getElem?_eq_getElem (by omega)] at hx
                    rw [Option.some.inj hx]
        · refine ⟨b, w1, pg_o S w2, by rw [hi]; exact i5 (by omega) (by omega), ?_⟩
          rw [hi, cl (by omega)]
          rw [show hR (wI h w 124 (nI i + 1)) (b + 2) i = some x.2 from (Option.some.inj gw).symm]
          refine K2 x (e.drop (i + 1) ++ (l :: L).flatMap lE) (by rw [w8, dr]; rfl) g2 _ (O.trans (OO.wI _ _ _ _)) ⟨hw, hl, i + 1, ?_, Or.inr ⟨b, p, e, l :: L, wf, w1, w2, w3, w4, w5, w6, by omega, rfl⟩⟩
          rw [hI_wI, if_pos ⟨rfl, rfl⟩, nI_1]
        · exact K1 (Or.inr ⟨x, _, by rw [w8, dr]; rfl, g2⟩) h O ⟨hw, hl, i, hi, Or.inr ⟨b, p, e, l :: L, wf, w1, w2, w3, w4, w5, w6, w7, w8⟩⟩
      · rw [hi, pg_n S w2, nI_leI (by omega) (by omega)] at g
        refine ⟨b, w1, pg_o S w2, ?_⟩
        obtain ⟨hnx, p', v1, v2, v3, v4, v5⟩ := w6
        rw [(pg_x S w2).1, hnx]
        refine w83_32 ⟨hw, trivial⟩ ?_
        have O2 := (OO.wR h w 122 (some l.1)).trans (OO.wI _ w 124 0)
        have re : rem = l.2 ++ L.flatMap lE := by rw [w8, List.drop_eq_nil_of_le (by omega)]; simp
        refine ih _ rem (ps_pu S (O2.pu S.1 (wk_np hw))) (O.trans O2) hw hl ⟨0, by rw [hI_wI, if_pos ⟨rfl, rfl⟩]; rfl, Or.inr ⟨l.1, p', l.2, ⟨wf.2 l List.mem_cons_self, fun x hx => wf.2 x (List.mem_cons_of_mem _ hx)⟩, if_pos ⟨rfl, rfl⟩, v1, v2, v3, v4, v5, by omega, by rw [re]; simp⟩⟩ K1 K2
/-- the walker's next row -/
theorem m83' {d w : Nat} {last : Int64} {σ : PS} {P : PT} {h : AH} {rem : List En} {fp : List Nat} (S : PSt h σ) (W : Wk h σ w rem last fp)
    (K1 : (rem = [] ∨ ∃ e rem', rem = e :: rem' ∧ last < e.1) → ∀ h', OO h h' w → Wk h' σ w rem last fp → P (.inl (some (vR none))) h')
    (K2 : ∀ e rem', rem = e :: rem' → e.1 ≤ last → ∀ h', OO h h' w → Wk h' σ w rem' last fp → P (.inl (some (vR (some e.2)))) h') : Ev d 83 0 [vR (some w)] [] h P := by
  obtain ⟨hw, hl, i, hi, (⟨w1, w2⟩ | ⟨b, p, e, L, wf, w1, w2, w3, w4, w5, w6, w7, w8⟩)⟩ := W
  · exact m83 [] h rem S (OO.refl h w) hw hl ⟨i, hi, Or.inl ⟨w1, w2, rfl⟩⟩ K1 K2
  · exact m83 L h rem S (OO.refl h w) hw hl ⟨i, hi, Or.inr ⟨b, p, e, wf, w1, w2, w3, w4, w5, w6, w7, w8⟩⟩ K1 K2
theorem Lseg_fr {σ σ' : PS} : ∀ {L : List Lf} {r nx : Option Nat}, (∀ l ∈ L, σ' l.1 = σ l.1) → Lseg σ r L nx → Lseg σ' r L nx
  | [], _, _, _, h => h
  | l :: L, r, nx, k, h => by
    obtain ⟨h1, p, h2, h3, h4, h5, h6⟩ := h
    exact ⟨h1, p, by rw [k l List.mem_cons_self]; exact h2, h3, h4, h5, Lseg_fr (fun x hx => k x (List.mem_cons_of_mem _ hx)) h6⟩
/-- a walker stands while its tree's pages do -/
theorem Wk.keep {h h' : AH} {σ σ' : PS} {w : Nat} {rem : List En} {last : Int64} {fp : List Nat} (W : Wk h σ w rem last fp) (h1 : hT h' w = hT h w) (h2 : ∀ j, hI h' w j = hI h w j) (h3 : ∀ j, hL h' w j = hL h w j) (h4 : ∀ j, hR h' w j = hR h w j) (hf : ∀ b ∈ fp, σ' b = σ b) : Wk h' σ' w rem last fp := by
  obtain ⟨a1, a2, i, a3, a4⟩ := W
  refine ⟨h1.trans a1, (h3 _).trans a2, i, (h2 _).trans a3, ?_⟩
  rw [h4]
  rcases a4 with q | ⟨b, p, e, L, wf, w1, w2, w3, w4, w5, w6, w7, w8⟩
  · exact Or.inl q
  · exact Or.inr ⟨b, p, e, L, wf, w1, by rw [hf b wf.1]; exact w2, w3, w4, w5, Lseg_fr (fun l hl => hf l.1 (wf.2 l hl)) w6, w7, w8⟩
