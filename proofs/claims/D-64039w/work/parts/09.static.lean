/-! ===== what the tables say of classes and fields: decided ===== -/
def fty (f : Nat) : FieldType := (parseFieldDescriptor (fD f).2.2.1).getD .int
def isRefTy (t : FieldType) : Bool := match t with
  | .object _ => true
  | .array _ => true
  | _ => false
def kOK (f : Nat) : Bool := match f % 4 with
  | 0 => decide (fty f = .int)
  | 1 => decide (fty f = .long)
  | 2 => isRefTy (fty f)
  | _ => decide (fty f = .boolean)
set_option maxRecDepth 100000 in
theorem st_u : ∀ c, c < 17 → ∀ w ∈ u_ws (oN c) (cT c) (idsOf c).length, w ∈ lw_tbl ∧ wok w = true := by decide +kernel
set_option maxRecDepth 100000 in
theorem st_n : ∀ c, c < 17 → ∀ a, a < (idsOf c).length → ∀ b, b < (idsOf c).length → a ≠ b → (cT c a).2.1 ≠ (cT c b).2.1 := by decide +kernel
set_option maxRecDepth 100000 in
theorem st_t : ∀ c, c < 17 → ∀ k, k < (idsOf c).length → parseFieldDescriptor (cT c k).2.2.1 = some (fty ((idsOf c).getD k 0)) ∧ kOK ((idsOf c).getD k 0) = true := by decide +kernel
theorem st_17 (c : Nat) (h : 17 ≤ c) : idsOf c = [] := by
  unfold idsOf
  rw [List.getD_eq_getElem?_getD, List.getElem?_eq_none (by simpa [x_ids] using h)]
  rfl
theorem st_i : ∀ c, c < 17 → (Jvm.Cond.instantiable (oN c) (idsOf c).length ∈ lw_tbl ∧ Jvm.Cond.initialized (oN c) ∈ lw_tbl) := by decide +kernel
theorem st_d : ∀ c, c < 17 → (idsOf c).Nodup := by decide +kernel
