/-! ===== THE CLAIM OUT OF ONE Ev OF THE LAW (some rows turned from the kit's skeleton) ===== -/
def h0 (b n L : Nat) (xs : Nat → Int32) : AH := (fun a => if a = b then some (107, L) else none, fun a j => if a = b then xs j else 0, fun _ _ => 0, fun _ _ => none, n, 600128, 7301098)
def lw_P (b : Addr) (xs : List Int32) (args : Array Value) (s : State) : Prop := args = #[.ref b] ∧ s.IntsAt b xs ∧ xs.length ≤ 256 ∧ (Jvm.Cond.and given_1 narrow_1).before args s = true
def lw_Q (_ : Array Value) (s : State) (o : Outcome) (t : State) : Prop := o = .returned (some (.int 1)) ∧ Framed s o t [] 600128 7301098
/-- the law is what Ev says, for every script -/
def LawEv : Prop := ∀ (b n L : Nat) (xs : Nat → Int32), L ≤ 256 → b < n → Ev 300 142 0 (ent 7 [vR (some b)]) [] (h0 b n L xs) (fun o _ => o = .inl (some (vI 1)))
set_option maxRecDepth 100000 in
theorem st_ac : ∀ t, t < 3 → Jvm.Cond.arrayClass (aty t) ∈ lw_tbl := by decide +kernel
theorem st_ao : ∀ t, t < 7 → 3 ≤ t → Jvm.Cond.arrayOver (aty t) ∈ lw_tbl := by decide +kernel
set_option maxRecDepth 100000 in
theorem st_str : ∀ q ∈ x_str, (Jvm.Cond.stringRef (oN q.1) q.2.1 q.2.2 ∈ lw_tbl ∧ Jvm.Cond.exactly (.string (oN q.1) q.2.1) "java/lang/String" ∈ flatC (Jvm.Cond.and given_1 narrow_1)) := by decide +kernel
set_option maxRecDepth 100000 in
theorem st_nc : ∀ i, i < 5 → ∀ j, j < 5 → i ≠ j → Jvm.Cond.not (.castable (eN i) (eN j)) ∈ flatC (Jvm.Cond.and given_1 narrow_1) := by decide +kernel
set_option maxRecDepth 100000 in
theorem st_zs : Jvm.Cond.isRef (.static "java/lang/Throwable" "UNASSIGNED_STACK" x_steD) ∈ flatC (Jvm.Cond.and given_1 narrow_1) ∧ Jvm.Cond.isRef (.static "java/lang/Throwable" "SUPPRESSED_SENTINEL" x_listD) ∈ flatC (Jvm.Cond.and given_1 narrow_1) := by decide +kernel
theorem st_zl : Jvm.Cond.laysStatic "java/lang/Throwable" "UNASSIGNED_STACK" x_steD ∈ lw_tbl ∧ Jvm.Cond.laysStatic "java/lang/Throwable" "SUPPRESSED_SENTINEL" x_listD ∈ lw_tbl ∧ Jvm.Cond.initialized "java/lang/Throwable" ∈ lw_tbl := by decide +kernel
/-- the world at the law's start -/
theorem sn_start {s : State} {A : Array Value} (hts : ∀ w ∈ lw_tbl, w.before A s = true) (hgv : (Jvm.Cond.and given_1 narrow_1).before A s = true) : ∃ dC dI dA, sn_W dC dI dA s.heap.size s := by
  have hfl := flat_of_before _ hgv
  have hc : ∀ c, ∃ q : ClassId × (Nat → Nat), c < 17 → u_Kn s (oN c) (cT c) (idsOf c).length q.1 q.2 := by
    intro c
    by_cases hc : c < 17
    · obtain ⟨cC, iS, hk⟩ := u_known (C := oN c) (T := cT c) (N := (idsOf c).length) hts (fun w hw => (st_u c hc w hw).1) (hts _ (st_i c hc).1)
      exact ⟨(cC, iS), fun _ => hk⟩
    · exact ⟨(0, fun _ => 0), fun h => absurd h hc⟩
  have ha : ∀ t, ∃ cA : ClassId, t < 7 → ArrOfT s cA (aty t) ∧ va_RA s cA (aty t) := by
    intro t
    by_cases h3 : t < 3
    · obtain ⟨cA, kA, comp, f1, f2, f3⟩ := Cond.arrayClass_spec (hts _ (st_ac t h3))
      refine ⟨cA, fun _ => ⟨fun n z => ⟨fun k h => (by cases h), kA, f2, comp, f3⟩, ?_⟩⟩
      rcases (show t = 0 ∨ t = 1 ∨ t = 2 by omega) with rfl | rfl | rfl <;> exact f1
    · by_cases h7 : t < 7
      · have hw := hts _ (st_ao t h7 (by omega))
        rw [(aty_ref (by omega) (by omega)).1] at hw ⊢
        obtain ⟨comp, cA, kA, f1, f2, f3, f4, f5⟩ := Cond.arrayOver_spec hw
        exact ⟨cA, fun _ => ⟨fun n z => ⟨fun k h => (by cases h), kA, f3, comp, f4⟩, kA, comp, f3, f4, f1, f5⟩⟩
      · exact ⟨0, fun h => absurd h h7⟩
  obtain ⟨fc, hfc⟩ := Classical.axiomOfChoice hc
  obtain ⟨fa, hfa⟩ := Classical.axiomOfChoice ha
  have hA : ∀ a : Nat, a < s.heap.size → ¬ s.heap.size ≤ a := fun a h => Nat.not_le.mpr h
  refine ⟨fun c => (fc c).1, fun c => (fc c).2, fa, fun w hw ho => wok_move ho (State.WarmedH.refl s) (hts w hw), ⟨fun c h => hfc c h, fun t h => hfa t h⟩, ⟨va_Zqof (hts _ st_zl.1) (hts _ st_zl.2.2) (hfl _ st_zs.1) hA, ?_⟩, ⟨va_Zqof (hts _ st_zl.2.1) (hts _ st_zl.2.2) (hfl _ st_zs.2) hA, ?_⟩, fun q hq => ?_, fun i j hi hj hn => va_Nc.of (hfl _ (st_nc i hi j hj hn))⟩
  · exact hts _ st_zl.1
  · exact hts _ st_zl.2.1
  · obtain ⟨h1, h2⟩ := st_str q hq
    obtain ⟨a, c, cell, k, e1, -⟩ := Cond.exactly_spec (hfl _ h2)
    exact ⟨a, vk_R.of (hts _ h1) e1⟩
theorem h0_C (b n L : Nat) (xs : Nat → Int32) : hC (h0 b n L xs) = 600128 := rfl
theorem h0_S (b n L : Nat) (xs : Nat → Int32) : hS (h0 b n L xs) = 7301098 := rfl
theorem mB_law : mB 142 = code ∧ mL 142 = 7 ∧ mR 142 = ret ∧ mX 142 = [] ∧ oN (mO 142) = "PlannedTablesLaw" ∧ (mY 142).name = x.name := ⟨rfl, rfl, rfl, rfl, rfl, rfl⟩
set_option maxHeartbeats 4000000 in
theorem lw_walk (hlaw : LawEv) (l : Launch) (hst : l.stackTraces = false) (b : Addr) (xs : List Int32) : MetFree l x (headSpec (Jvm.Cond.code x code maxLocals ret :: tables_1) room_1) (lw_P b xs) (fun _ _ _ _ _ => True) lw_Q := by
  refine MetFree.of_bodyS (code := code) (maxLocals := maxLocals) (ret := ret) (by decide) ?_ ?_
  · intro args s m h hn
    obtain ⟨meth, c, h1, h2, h3, h4, h5, h6, -, -⟩ := Cond.code_spec hn (atoms_spec (ws := Jvm.Cond.code x code maxLocals ret :: tables_1) h _ List.mem_cons_self)
    exact ⟨meth, c, h1, h2, h3, h4, h5, h6⟩
  · intro p e s m args below meth c s₁ B hml0 hP _
    obtain ⟨rfl, hx, hbd, hgv⟩ := hP
    obtain ⟨scr, harrAt, hlist, hof, hsmall⟩ := hx
    obtain ⟨hcb, hkn, -, -⟩ := State.arrayAt?_spec harrAt
    have hts0 : ∀ c ∈ (Jvm.Cond.code x code maxLocals ret :: tables_1), c.before #[Value.ref b] s = true := atoms_spec (ws := Jvm.Cond.code x code maxLocals ret :: tables_1) B.pre
    have hts : ∀ w ∈ lw_tbl, w.before #[Value.ref b] s = true := k2_hts_sels lw_privs (fun w hw => hts0 w (List.mem_cons_of_mem _ hw)) lw_privs_ok
    have hml : c.maxLocals = 7 := B.maxLocals_eq (hts0 _ List.mem_cons_self)
    have X₀ : Stand p l e room_1 s m #[Value.ref b] below meth c s₁ [] 0 0 := Stand.of_body B
    have hh0 : s₁.heap = s.heap := by rw [B.state]; rfl
    have hsz : scr.slots.size = xs.length := by rw [← Array.length_toList, hlist, List.length_map]
    have hval : ∀ j : Nat, j < xs.length → scr.slots[j]? = some (.int (xs.getD j 0)) := fun j hj => by
      rw [← Array.getElem?_toList, hlist]
      simp [hj]
    have hbl : b < s.heap.size := (Array.getElem?_eq_some_iff.mp hcb).1
    have hX : va_X b xs.length (fun j => xs.getD j 0) s s.heap := ⟨scr, hcb, hof, hkn, hsz, hval⟩
    have hemp : c.exceptionTable.toList.map (fun x => (x.startPc, x.endPc, x.handlerPc, x.catchType)) = mX 142 := by
      have := B.noHandlers (hts0 _ List.mem_cons_self)
      have h0 : c.exceptionTable.size = 0 := by simpa [Array.isEmpty] using this
      have h1 : c.exceptionTable.toList = [] := List.eq_nil_of_length_eq_zero (by simpa using h0)
      rw [h1]; rfl
    obtain ⟨q1, q2, q3, q4, q5, q6⟩ := mB_law
    have hF : sn_F p s m meth c 142 := ⟨B.exec, by rw [q1]; exact B.bytes, by rw [q2]; exact hml, by rw [q3]; exact B.returns, B.notSynchronized, by rw [q5]; exact findClass_of_methodNamed B.named, by rw [q6]; exact (name_of_methodNamed B.named B.method).1, hemp⟩
    obtain ⟨dC, dI, dA, hW⟩ := sn_start hts hgv
    have hRp : sn_R dC dI dA s.heap.size s (h0 b s.heap.size xs.length (fun j => xs.getD j 0)) s.heap := by
      refine ⟨rfl, Nat.le_refl _, fun a t ht => ?_⟩
      have ht0 : (if a = b then some (107, xs.length) else none) = some t := ht
      have ht := ht0
      split at ht
      · rename_i e
        subst e
        have ht2 : (107, xs.length) = t := by simpa [h0, hT] using ht0
        subst ht2
        refine Or.inr (Or.inr (Or.inl ⟨rfl, hbl, ?_⟩))
        have : hI (h0 a s.heap.size xs.length (fun j => xs.getD j 0)) a = fun j => xs.getD j 0 := by funext j; simp [hI, h0]
        rw [this]
        exact hX
      · cases ht
    have hk := (Ev.sound (l := l) (dC := dC) (dI := dI) (dA := dA) (b0 := s.heap.size) hst (hlaw b s.heap.size xs.length (fun j => xs.getD j 0) hbd hbl)) p e room_1 s m #[Value.ref b] below meth c s.heap [] 0 0 _ (fun t => ∃ o, t.status = .running ∧ Ended t below o ∧ lw_Q #[Value.ref b] s o t) hF hW ⟨by decide, by decide, by rw [h0_C]; decide, by rw [h0_S]; decide⟩ hRp (fun _ _ => rfl) (fun q hq => by cases hq) (by rw [q2]; exact sn_L_ent (args := [vR (some b)]) (n := 7) (fun v hv => by rw [List.mem_singleton.mp hv]; simp) (Nat.le_of_ble_eq_true rfl)) ?_
    · rw [show List.map av_V [] = [] from rfl, ← lg_entry_eq] at hk
      obtain ⟨t, a1, o, b1, b2, b3⟩ := hk s₁ hh0 X₀
      exact ⟨t, o, a1, b1, b2, b3⟩
    · rintro o h' t rfl ⟨e1, e2, e3, e4, e5, L, k, n, e6, e7, e8, e9⟩
      refine ⟨_, e1, e2, rfl, ⟨_, rfl⟩, e5, e6.weaken (fun y hy hlt => absurd hlt (Nat.not_lt.mpr (e7 y hy))) ?_ ?_⟩
      · rw [h0_C] at e8
        omega
      · rw [h0_S] at e9
        omega
theorem lw_pre_spec {args : Array Value} {s : State} (h : (Jvm.Cond.and given_1 narrow_1).before args s = true) (hr : rest_1_c.before args s = true) : ∃ (b : Addr) (xs : List Int32), lw_P b xs args s := by
  have hs := flat_of_before _ h
  have hq := flat_of_before _ hr
  have hc : (Cond.count 1).before args s = true := hs _ (by decide +kernel)
  have harr : (Cond.arrayOf (.arg 0) .int).before args s = true := hs _ (by decide +kernel)
  have hle : (Cond.le (.length (.arg 0)) (.int 256)).before args s = true := hs _ (by decide +kernel)
  have hlen : (Cond.isInt (.length (.arg 0))).before args s = true := hq _ (by decide +kernel)
  have hall : (Cond.all (.arg 0) (.isInt (.elem (.arg 0) (.index 0)))).before args s = true := hq _ (by decide +kernel)
  obtain ⟨b, xs, hb, hx⟩ := State.ints_of_pre rfl harr hlen hall
  have hsm : xs.length < 2 ^ 31 := hx.choose_spec.2.2.2
  have hev : (Term.length (.arg 0)).eval args s none [] s = some (.int xs.length.toInt32) := hx.length_eval hb
  have hv := Cond.le_ints hev (show (Term.int 256).eval args s none [] s = some (.int 256) from rfl)
  have hd : xs.length.toInt32 ≤ 256 := by
    simpa [Cond.before, Cond.holds, hv] using hle
  have hN : xs.length ≤ 256 := (Int32.ofNat_le_ofNat hsm (by decide)).mp (show Int32.ofNat xs.length ≤ Int32.ofNat 256 from hd)
  exact ⟨b, xs, Cond.one_arg hc (show args[0]? = some (.ref b) from hb), hx, hN, h⟩
theorem lw_comes (hlaw : LawEv) (l : Launch) (hst : l.stackTraces = false) : Comes l x (Jvm.Cond.code x code maxLocals ret :: tables_1) room_1 (fun tb e args s => Calls_1 tb e args s ∧ rest_1 tb e args s ∧ Pre_1 tb e args s)
    (fun _ _ args s o t => lw_Q args s o t) := by
  intro p e ha hc hk s m args below hf hfit hheap happ hpre
  obtain ⟨b, xs, hP⟩ := lw_pre_spec hpre.2.2 hpre.2.1
  obtain ⟨k, o, h1, h2, h3, hQ⟩ := lw_walk hlaw l hst b xs p e ha hc hk s m args below hf ((Spec.applies_iff_loose hf).mp happ).1 hP trivial
  exact ⟨k, o, h1, h2, h3, hQ⟩
theorem st_fl {l : Launch} (h : l.flags = flags0) : l.stackTraces = false := by
  unfold Launch.stackTraces
  rw [h]
  decide +kernel
theorem lw_frame {s t : State} {o : Outcome} {args : Array Value} (h : Framed s o t [] 600128 7301098) :
    Framed s o t (fieldLocs frame_1_writes args s ++ arrayLocs frame_1_arrays args s ++ staticLocs frame_1_statics s) 600128 7301098 := h
theorem lw_limb (hlaw : LawEv) (L : Jvm.Cond) (hL : ∀ (args : Array Value) (s t : State), L.after args s (.returned (some (.int 1))) t = true) :
    ArmFor flags0 classFile x code maxLocals ret World_1 tables_1 room_1 Calls_1 rest_1 Pre_1
      (fun tb e a s o t => postC L tb e a s o t ∧ Framed s o t (fieldLocs frame_1_writes a s ++ arrayLocs frame_1_arrays a s ++ staticLocs frame_1_statics s) 600128 7301098) := by
  intro l hfl _ _ p e ha hc hk s m args below hf hfit hheap happ hpre
  obtain ⟨k, o, h1, h2, h3, rfl, hF⟩ := lw_comes hlaw l (st_fl hfl) p e ha hc hk s m args below hf hfit hheap happ hpre
  exact ⟨k, _, h1, h2, h3, hL args s _, lw_frame hF⟩
theorem vc_of (hlaw : LawEv) : Claimed_1_1 ∧ Claimed_1_2 := ⟨lw_limb hlaw limb_1_1 (fun args s t => by simp [limb_1_1, Cond.after, Cond.holds, Cond.value]), lw_limb hlaw limb_1_2 (fun args s t => Cond.after_iff.mpr (by
  first | (rw [show limb_1_2 = Cond.eq .result (.int 1) from rfl, Cond.eq_ints (x := 1) (y := 1) rfl rfl]; simp; done) | (simp [limb_1_2, Cond.value, Term.eval]; done)))⟩
