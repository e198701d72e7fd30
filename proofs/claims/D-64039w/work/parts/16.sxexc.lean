/-! ===== new E; dup; ldc; invokespecial; athrow: one step ===== -/
section SX16
variable {l : Launch} {dC : Nat → ClassId} {dI : Nat → Nat → Nat} {dA : Nat → ClassId} {b0 d M pc : Nat} {ls st : List AV} {h : AH} {P : PT}
theorem sx_exc {i j ic ex : Nat} {tx : String} (hfl : l.stackTraces = false) (hd0 : decode (mB M) pc = .ok (.new i, 3)) (hd3 : decode (mB M) (pc + 3) = .ok (.dup, 1)) (hd4 : decode (mB M) (pc + 4) = .ok (.ldc j, 2)) (hd6 : decode (mB M) (pc + 6) = .ok (.invokespecial ic, 3)) (hd9 : decode (mB M) (pc + 9) = .ok (.athrow, 1)) (hex : ex < 5)
    (hw : Jvm.Cond.classLink (oN (mO M)) i (eN ex) ∈ lw_tbl) (hs : (mO M, j, tx) ∈ x_str) (hl9 : Jvm.Cond.methodLink (oN (mO M)) ic (Bundle.initS (eN ex)) ∈ lw_tbl) (hout : ∀ x ∈ mX M, ¬ (x.1 ≤ pc + 9 ∧ pc + 9 < x.2.1)) (h1 : 1 ≤ hC h) (h2 : 6 ≤ hS h) (hst : st.length ≤ 4)
    (k : P (.inr (hN h)) (al h (50 + ex, 0) 6)) : SX l dC dI dA b0 d M pc ls st h P := by
  intro p e R s m args below meth c H locs cells slots LS Q hF hW hRm hRp ho hl hLc hQ
  have hcat := cat_sum st 4 hst
  have hat : ∀ w ∈ x_atoms ex, w.before args s = true := sn_x hW hex
  obtain ⟨cX, kX, hfX, hkX, -⟩ := Cond.instantiable_spec (hat (.instantiable (eN ex) 6) (by simp [x_atoms]))
  have hbH : b0 ≤ hN h := by rw [← hRp.1]; exact hRp.2.1
  refine W.newcK hF.1 hF.2.1 hF.2.2.2.2.2.1 (hW.use hw rfl) (hat (.instantiable (eN ex) 6) (by simp [x_atoms])) (hat (.initialized (eN ex)) (by simp [x_atoms])) rfl hd0 (by omega) (by omega) hfX hRp.1 (fun H' kC hkC e1 z1 o1 => ?_)
  refine lv_dup (va := .ref (hN h)) hF.1 hF.2.1 hd3 rfl ?_
  obtain ⟨q, hq⟩ := hW.2.2.2.2.1 (mO M, j, tx) hs
  refine va_ldcS hF.1 hF.2.1 hF.2.2.2.2.2.1 hq hd4 ?_
  intro T hT9 X
  have htr : e.platform.stackTraces = false := by rw [X.admits.platform]; exact hfl
  have hoT : ∀ q, q < b0 → T.heap[q]? = s.heap[q]? := fun q hq => by rw [hT9, o1 q (by omega)]; exact ho q hq
  obtain ⟨vm', cell', L, hL9, hc1, hc2, X', hgo⟩ := sn_ctor X hF.1 htr hW hoT hex hF.2.2.2.2.2.1 (hW.use hl9 rfl) hfX hkC (a := hN h) (by rw [hT9]; exact e1) hbH (msg := .ref q) rfl (g := F0 m (pc + 3 + 1 + 2) LS (.ref q :: .ref (hN h) :: .ref (hN h) :: st.map av_V)) rfl (by rw [hF.2.2.1]; exact hLc.1) (rest := .ref (hN h) :: st.map av_V) rfl (by rw [hF.2.1]; exact hd6) (by omega) (by
    show 2 * 0 + ((Value.ref (hN h) :: st.map av_V).map fun v => v.category).sum + 100 ≤ _
    simp only [List.map_cons, List.sum_cons]
    have : (Value.ref (hN h)).category = 1 := rfl
    rw [this]
    have h9 : ((st.map av_V).map fun v => v.category).sum ≤ 8 := hcat
    omega)
  have hout' : ∀ x ∈ c.exceptionTable.toList, covers x (pc + 9) = false := by
    intro x hx
    have := hout _ (by rw [← hF.2.2.2.2.2.2.2]; exact List.mem_map.mpr ⟨x, hx, rfl⟩)
    simp only [covers]
    rw [Bool.and_eq_false_iff]
    by_cases h7 : x.startPc ≤ pc + 9
    · right
      exact decide_eq_false (fun z => this ⟨h7, z⟩)
    · left
      exact decide_eq_false h7
  obtain ⟨hwalk, hrun, hended, hWU, hsame⟩ := X'.athrowLeaves hF.1 (g := F0 m (pc + 9) LS (.ref (hN h) :: st.map av_V)) rfl rfl rfl hout' (a := hN h) (rest := st.map av_V) rfl (by rw [hF.2.1]; exact hd9) hF.2.2.2.2.1
  have hlt : hN h < H'.size := by omega
  have hheap : ((T.setVm vm').setCell (hN h) cell').heap = H'.setIfInBounds (hN h) cell' := by rw [← hT9]; rfl
  have hHs : ∀ q, q < hN h → (H'.setIfInBounds (hN h) cell')[q]? = H[q]? := fun q hq => by
    rw [Array.getElem?_setIfInBounds, if_neg (by omega), o1 q hq]
  refine ⟨_, hgo _ hwalk, hQ (.inr (hN h)) _ _ k ⟨hrun, hended, ?_, ?_, hWU, locs ++ L, cells + 1, slots + 6, hsame, ?_, ?_, ?_⟩⟩
  · show sn_R dC dI dA b0 s _ ((T.setVm vm').setCell (hN h) cell').heap
    rw [hheap]
    refine hRp.push (by simp [z1, hRp.1]) (fun q hq => hHs q (by rw [← hRp.1]; exact hq)) (Or.inr (Or.inr (Or.inr ⟨by show 50 ≤ 50 + ex; omega, by show 50 + ex < 55; omega, hbH, cell', ?_, by rw [hc2]; rfl, ?_⟩)))
    · rw [Array.getElem?_setIfInBounds]; simp [hlt]
    · show s.vm.findClass (eN (50 + ex - 50)) = _
      rw [show 50 + ex - 50 = ex by omega, hc1]
      exact hfX
  · intro q hq
    show ((T.setVm vm').setCell (hN h) cell').heap[q]? = _
    rw [hheap, hHs q (by omega)]
    exact ho q hq
  · intro q hq
    rcases List.mem_append.mp hq with z | z
    · exact hl q z
    · rw [hL9 q z]; exact hbH
  · rw [hC_al]; omega
  · rw [hS_al]; omega
end SX16
