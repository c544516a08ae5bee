/-! ===== numbers, continued; both memories read as plain numbers ===== -/
theorem gin_iI {z : Int} {n : Nat} (h : -2147483648 ≤ z ∧ z < 2147483648) : gz_in (iI z) n ↔ (0 ≤ z ∧ z < n) := by
  unfold gz_in
  rw [ix_iI h, iI_lit, iI_le (by omega) h]
  omega
def ci (μ : gM) (c j : Nat) : Int := (gI μ c j).toInt
def cl (μ : gM) (c j : Nat) : Int := (gL μ c j).toInt
theorem ci_of (μ : gM) (c j : Nat) : gI μ c j = iI (ci μ c j) := (iI_of _).symm
theorem cl_of (μ : gM) (c j : Nat) : gL μ c j = lL (cl μ c j) := (lL_of _).symm
theorem iI_r (x : Int32) : -2147483648 ≤ x.toInt ∧ x.toInt < 2147483648 := by
  have h1 := Int32.le_toInt x
  have h2 := Int32.toInt_lt x
  omega
theorem lL_r (x : Int64) : -9223372036854775808 ≤ x.toInt ∧ x.toInt < 9223372036854775808 := by
  have h1 := Int64.le_toInt x
  have h2 := Int64.toInt_lt x
  omega
theorem ci_r (μ : gM) (c j : Nat) : -2147483648 ≤ ci μ c j ∧ ci μ c j < 2147483648 := iI_r _
theorem cl_r (μ : gM) (c j : Nat) : -9223372036854775808 ≤ cl μ c j ∧ cl μ c j < 9223372036854775808 := lL_r _
theorem ml_r (m : MM) (c j : Nat) : -9223372036854775808 ≤ ml m c j ∧ ml m c j < 9223372036854775808 := lL_r _
theorem iI_ex (x : Int32) : ∃ z : Int, (-2147483648 ≤ z ∧ z < 2147483648) ∧ x = iI z := ⟨x.toInt, iI_r x, (iI_of x).symm⟩
theorem lL_ex (x : Int64) : ∃ z : Int, (-9223372036854775808 ≤ z ∧ z < 9223372036854775808) ∧ x = lL z := ⟨x.toInt, lL_r x, (lL_of x).symm⟩
/-! stores, read back -/
theorem mi_sI (m : MM) (c j c' j' : Nat) {z : Int} (h : -2147483648 ≤ z ∧ z < 2147483648) : mi (msI m c j (iI z)) c' j' = if c' = c ∧ j' = j then z else mi m c' j' := by
  unfold mi
  rw [msI_i]
  split
  · exact toInt_iI h.1 h.2
  · rfl
theorem mi_sL (m : MM) (c j c' j' : Nat) (x : Int64) : mi (msL m c j x) c' j' = mi m c' j' := rfl
theorem ml_sI (m : MM) (c j c' j' : Nat) (x : Int32) : ml (msI m c j x) c' j' = ml m c' j' := rfl
theorem ml_sL (m : MM) (c j c' j' : Nat) {z : Int} (h : -9223372036854775808 ≤ z ∧ z < 9223372036854775808) : ml (msL m c j (lL z)) c' j' = if c' = c ∧ j' = j then z else ml m c' j' := by
  unfold ml
  rw [msL_l]
  split
  · exact toInt_lL h.1 h.2
  · rfl
theorem sI_i (μ : gM) (c j c' j' : Nat) (x : Int32) : gI (gz_sI μ c j x) c' j' = if c' = c ∧ j' = j then x else gI μ c' j' := rfl
theorem sL_l (μ : gM) (c j c' j' : Nat) (x : Int64) : gL (gz_sL μ c j x) c' j' = if c' = c ∧ j' = j then x else gL μ c' j' := rfl
theorem sP_p (μ : gM) (c j c' j' x : Nat) : gP (gz_sP μ c j x) c' j' = if c' = c ∧ j' = j then x else gP μ c' j' := rfl
theorem ci_sI (μ : gM) (c j c' j' : Nat) {z : Int} (h : -2147483648 ≤ z ∧ z < 2147483648) : ci (gz_sI μ c j (iI z)) c' j' = if c' = c ∧ j' = j then z else ci μ c' j' := by
  unfold ci
  rw [sI_i]
  split
  · exact toInt_iI h.1 h.2
  · rfl
theorem ci_sL (μ : gM) (c j c' j' : Nat) (x : Int64) : ci (gz_sL μ c j x) c' j' = ci μ c' j' := rfl
theorem ci_sP (μ : gM) (c j c' j' x : Nat) : ci (gz_sP μ c j x) c' j' = ci μ c' j' := rfl
theorem cl_sI (μ : gM) (c j c' j' : Nat) (x : Int32) : cl (gz_sI μ c j x) c' j' = cl μ c' j' := rfl
theorem cl_sP (μ : gM) (c j c' j' x : Nat) : cl (gz_sP μ c j x) c' j' = cl μ c' j' := rfl
theorem cl_sL (μ : gM) (c j c' j' : Nat) {z : Int} (h : -9223372036854775808 ≤ z ∧ z < 9223372036854775808) : cl (gz_sL μ c j (lL z)) c' j' = if c' = c ∧ j' = j then z else cl μ c' j' := by
  unfold cl
  rw [sL_l]
  split
  · exact toInt_lL h.1 h.2
  · rfl
theorem sI_p (μ : gM) (c j c' j' : Nat) (x : Int32) : gP (gz_sI μ c j x) c' j' = gP μ c' j' := rfl
theorem sL_p (μ : gM) (c j c' j' : Nat) (x : Int64) : gP (gz_sL μ c j x) c' j' = gP μ c' j' := rfl
theorem sI_k (μ : gM) (c j c' : Nat) (x : Int32) : gK (gz_sI μ c j x) c' = gK μ c' := rfl
theorem sI_n (μ : gM) (c j c' : Nat) (x : Int32) : gN (gz_sI μ c j x) c' = gN μ c' := rfl
theorem sL_k (μ : gM) (c j c' : Nat) (x : Int64) : gK (gz_sL μ c j x) c' = gK μ c' := rfl
theorem sL_n (μ : gM) (c j c' : Nat) (x : Int64) : gN (gz_sL μ c j x) c' = gN μ c' := rfl
theorem sP_k (μ : gM) (c j c' x : Nat) : gK (gz_sP μ c j x) c' = gK μ c' := rfl
theorem sP_n (μ : gM) (c j c' x : Nat) : gN (gz_sP μ c j x) c' = gN μ c' := rfl
/-- bits -/
theorem iI_nI (n : Nat) : iI (n : Int) = nI n := Int32.ofInt_eq_ofNat
/-- the value of a set's bit -/
def sb (s : Int32) (k : Nat) : Bool := s.toBitVec.getLsbD k
