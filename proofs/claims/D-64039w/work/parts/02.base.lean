/-! ===== ABSTRACT VALUES AND HEAPS ===== -/
abbrev AV : Type := Int32 ⊕ Int64 ⊕ Option Nat ⊕ Unit
abbrev vI (x : Int32) : AV := Sum.inl x
abbrev vL (x : Int64) : AV := Sum.inr (Sum.inl x)
abbrev vR (r : Option Nat) : AV := Sum.inr (Sum.inr (Sum.inl r))
abbrev vU : AV := Sum.inr (Sum.inr (Sum.inr ()))
def av_V (v : AV) : Value := match v with
  | .inl x => .int x
  | .inr (.inl x) => .long x
  | .inr (.inr (.inl r)) => va_rf r
  | .inr (.inr (.inr _)) => .null
/-- tags (code, length); ints, longs, references by (address, field id or index); next address; cells and slots left -/
abbrev AH : Type := (Nat → Option (Nat × Nat)) × (Nat → Nat → Int32) × (Nat → Nat → Int64) × (Nat → Nat → Option Nat) × Nat × Nat × Nat
def hT (h : AH) : Nat → Option (Nat × Nat) := h.1
def hI (h : AH) : Nat → Nat → Int32 := h.2.1
def hL (h : AH) : Nat → Nat → Int64 := h.2.2.1
def hR (h : AH) : Nat → Nat → Option Nat := h.2.2.2.1
def hN (h : AH) : Nat := h.2.2.2.2.1
def hC (h : AH) : Nat := h.2.2.2.2.2.1
def hS (h : AH) : Nat := h.2.2.2.2.2.2
def u2 {α : Type} (f : Nat → Nat → α) (a k : Nat) (v : α) : Nat → Nat → α := fun b j => if b = a ∧ j = k then v else f b j
def wI (h : AH) (a k : Nat) (v : Int32) : AH := (hT h, u2 (hI h) a k v, hL h, hR h, hN h, hC h, hS h)
def wL (h : AH) (a k : Nat) (v : Int64) : AH := (hT h, hI h, u2 (hL h) a k v, hR h, hN h, hC h, hS h)
def wR (h : AH) (a k : Nat) (v : Option Nat) : AH := (hT h, hI h, hL h, u2 (hR h) a k v, hN h, hC h, hS h)
/-- a new cell with tag t and n slots -/
def al (h : AH) (t : Nat × Nat) (n : Nat) : AH :=
  (fun b => if b = hN h then some t else hT h b, fun b j => if b = hN h then 0 else hI h b j, fun b j => if b = hN h then 0 else hL h b j, fun b j => if b = hN h then none else hR h b j, hN h + 1, hC h - 1, hS h - n)
/-- System.arraycopy of ints -/
def cpI (h : AH) (s sp d dp n : Nat) : AH := (hT h, fun b j => if b = d ∧ dp ≤ j ∧ j < dp + n then hI h s (sp + (j - dp)) else hI h b j, hL h, hR h, hN h, hC h, hS h)
theorem hT_wI (h : AH) (a k v) : hT (wI h a k v) = hT h := rfl
theorem hL_wI (h : AH) (a k v) : hL (wI h a k v) = hL h := rfl
theorem hR_wI (h : AH) (a k v) : hR (wI h a k v) = hR h := rfl
theorem hN_wI (h : AH) (a k v) : hN (wI h a k v) = hN h := rfl
theorem hC_wI (h : AH) (a k v) : hC (wI h a k v) = hC h := rfl
theorem hS_wI (h : AH) (a k v) : hS (wI h a k v) = hS h := rfl
theorem hT_wL (h : AH) (a k v) : hT (wL h a k v) = hT h := rfl
theorem hI_wL (h : AH) (a k v) : hI (wL h a k v) = hI h := rfl
theorem hR_wL (h : AH) (a k v) : hR (wL h a k v) = hR h := rfl
theorem hN_wL (h : AH) (a k v) : hN (wL h a k v) = hN h := rfl
theorem hC_wL (h : AH) (a k v) : hC (wL h a k v) = hC h := rfl
theorem hS_wL (h : AH) (a k v) : hS (wL h a k v) = hS h := rfl
theorem hT_wR (h : AH) (a k v) : hT (wR h a k v) = hT h := rfl
theorem hI_wR (h : AH) (a k v) : hI (wR h a k v) = hI h := rfl
theorem hL_wR (h : AH) (a k v) : hL (wR h a k v) = hL h := rfl
theorem hN_wR (h : AH) (a k v) : hN (wR h a k v) = hN h := rfl
theorem hC_wR (h : AH) (a k v) : hC (wR h a k v) = hC h := rfl
theorem hS_wR (h : AH) (a k v) : hS (wR h a k v) = hS h := rfl
theorem hI_wI (h : AH) (a k v b j) : hI (wI h a k v) b j = if b = a ∧ j = k then v else hI h b j := rfl
theorem hL_wL (h : AH) (a k v b j) : hL (wL h a k v) b j = if b = a ∧ j = k then v else hL h b j := rfl
theorem hR_wR (h : AH) (a k v b j) : hR (wR h a k v) b j = if b = a ∧ j = k then v else hR h b j := rfl
theorem hT_al (h : AH) (t n b) : hT (al h t n) b = if b = hN h then some t else hT h b := rfl
theorem hI_al (h : AH) (t n b j) : hI (al h t n) b j = if b = hN h then 0 else hI h b j := rfl
theorem hL_al (h : AH) (t n b j) : hL (al h t n) b j = if b = hN h then 0 else hL h b j := rfl
theorem hR_al (h : AH) (t n b j) : hR (al h t n) b j = if b = hN h then none else hR h b j := rfl
theorem hN_al (h : AH) (t n) : hN (al h t n) = hN h + 1 := rfl
theorem hC_al (h : AH) (t n) : hC (al h t n) = hC h - 1 := rfl
theorem hS_al (h : AH) (t n) : hS (al h t n) = hS h - n := rfl
theorem hT_cp (h : AH) (s sp d dp n) : hT (cpI h s sp d dp n) = hT h := rfl
theorem hI_cp (h : AH) (s sp d dp n b j) : hI (cpI h s sp d dp n) b j = if b = d ∧ dp ≤ j ∧ j < dp + n then hI h s (sp + (j - dp)) else hI h b j := rfl
theorem hL_cp (h : AH) (s sp d dp n) : hL (cpI h s sp d dp n) = hL h := rfl
theorem hR_cp (h : AH) (s sp d dp n) : hR (cpI h s sp d dp n) = hR h := rfl
theorem hN_cp (h : AH) (s sp d dp n) : hN (cpI h s sp d dp n) = hN h := rfl
theorem hC_cp (h : AH) (s sp d dp n) : hC (cpI h s sp d dp n) = hC h := rfl
theorem hS_cp (h : AH) (s sp d dp n) : hS (cpI h s sp d dp n) = hS h := rfl
/-- an instruction of the table: the instruction, its length, a number, a constant, numbers -/
abbrev EI : Type := Instr × Nat × Nat × AV × List Nat
