/-! ===== plain numbers under Int32 and Int64; running pure programs ===== -/
def iI (z : Int) : Int32 := Int32.ofInt z
def lL (z : Int) : Int64 := Int64.ofInt z
theorem iI_of (x : Int32) : iI x.toInt = x := Int32.ofInt_toInt x
theorem lL_of (x : Int64) : lL x.toInt = x := Int64.ofInt_toInt x
theorem toInt_iI {z : Int} (h1 : -2147483648 ≤ z) (h2 : z < 2147483648) : (iI z).toInt = z := Int32.toInt_ofInt_of_le (by omega) (by omega)
theorem toInt_lL {z : Int} (h1 : -9223372036854775808 ≤ z) (h2 : z < 9223372036854775808) : (lL z).toInt = z := Int64.toInt_ofInt_of_le (by omega) (by omega)
theorem iI_add (a b : Int) : iI a + iI b = iI (a + b) := (Int32.ofInt_add a b).symm
theorem iI_sub (a b : Int) : iI a - iI b = iI (a - b) := (Int32.ofInt_sub a b).symm
theorem iI_mul (a b : Int) : iI a * iI b = iI (a * b) := (Int32.ofInt_mul a b).symm
theorem iI_neg (a : Int) : -iI a = iI (-a) := (Int32.ofInt_neg a).symm
theorem lL_add (a b : Int) : lL a + lL b = lL (a + b) := (Int64.ofInt_add a b).symm
theorem lL_sub (a b : Int) : lL a - lL b = lL (a - b) := (Int64.ofInt_sub a b).symm
theorem lL_mul (a b : Int) : lL a * lL b = lL (a * b) := (Int64.ofInt_mul a b).symm
theorem lL_neg (a : Int) : -lL a = lL (-a) := (Int64.ofInt_neg a).symm
theorem iI_lit (n : Nat) : (@OfNat.ofNat Int32 n _) = iI (@OfNat.ofNat Int n _) := (Int32.ofInt_eq_ofNat (n := n)).symm
theorem lL_lit (n : Nat) : (@OfNat.ofNat Int64 n _) = lL (@OfNat.ofNat Int n _) := (Int64.ofInt_eq_ofNat (n := n)).symm
theorem iI_le {a b : Int} (h1 : -2147483648 ≤ a ∧ a < 2147483648) (h2 : -2147483648 ≤ b ∧ b < 2147483648) : (iI a ≤ iI b) = (a ≤ b) := by
  rw [Int32.le_iff_toInt_le, toInt_iI h1.1 h1.2, toInt_iI h2.1 h2.2]
theorem iI_lt {a b : Int} (h1 : -2147483648 ≤ a ∧ a < 2147483648) (h2 : -2147483648 ≤ b ∧ b < 2147483648) : (iI a < iI b) = (a < b) := by
  rw [Int32.lt_iff_toInt_lt, toInt_iI h1.1 h1.2, toInt_iI h2.1 h2.2]
theorem iI_eq {a b : Int} (h1 : -2147483648 ≤ a ∧ a < 2147483648) (h2 : -2147483648 ≤ b ∧ b < 2147483648) : (iI a = iI b) = (a = b) := by
  rw [← Int32.toInt_inj, toInt_iI h1.1 h1.2, toInt_iI h2.1 h2.2]
theorem lL_le {a b : Int} (h1 : -9223372036854775808 ≤ a ∧ a < 9223372036854775808) (h2 : -9223372036854775808 ≤ b ∧ b < 9223372036854775808) : (lL a ≤ lL b) = (a ≤ b) := by
  rw [Int64.le_iff_toInt_le, toInt_lL h1.1 h1.2, toInt_lL h2.1 h2.2]
theorem lL_lt {a b : Int} (h1 : -9223372036854775808 ≤ a ∧ a < 9223372036854775808) (h2 : -9223372036854775808 ≤ b ∧ b < 9223372036854775808) : (lL a < lL b) = (a < b) := by
  rw [Int64.lt_iff_toInt_lt, toInt_lL h1.1 h1.2, toInt_lL h2.1 h2.2]
theorem lL_eq {a b : Int} (h1 : -9223372036854775808 ≤ a ∧ a < 9223372036854775808) (h2 : -9223372036854775808 ≤ b ∧ b < 9223372036854775808) : (lL a = lL b) = (a = b) := by
  rw [← Int64.toInt_inj, toInt_lL h1.1 h1.2, toInt_lL h2.1 h2.2]
theorem ix_iI {z : Int} (h : -2147483648 ≤ z ∧ z < 2147483648) : (iI z).toNatClampNeg = z.toNat := by
  show (iI z).toInt.toNat = z.toNat
  rw [toInt_iI h.1 h.2]
theorem i2l_iI {z : Int} (h : -2147483648 ≤ z ∧ z < 2147483648) : (iI z).toInt64 = lL z := by
  apply Int64.toInt_inj.1
  rw [Int32.toInt_toInt64, toInt_iI h.1 h.2, toInt_lL (by omega) (by omega)]
theorem l2i_lL {z : Int} (h : -2147483648 ≤ z ∧ z < 2147483648) : (lL z).toInt32 = iI z := by
  rw [← i2l_iI h, Int32.toInt32_toInt64]
/-! running -/
def pw {α : Type} (o : Option α) (Q : α → Prop) : Prop := ∃ a, o = some a ∧ Q a
theorem pw_some {α : Type} {a : α} {Q : α → Prop} (h : Q a) : pw (some a) Q := ⟨a, rfl, h⟩
theorem pw_eq {α : Type} {o : Option α} {a : α} {Q : α → Prop} (e : o = some a) (h : Q a) : pw o Q := ⟨a, e, h⟩
theorem pw_mono {α : Type} {o : Option α} {Q Q' : α → Prop} (h : pw o Q) (hq : ∀ a, Q a → Q' a) : pw o Q' := by
  obtain ⟨a, e, q⟩ := h
  exact ⟨a, e, hq a q⟩
theorem pw_bind {α β : Type} {o : Option α} {f : α → Option β} {Q : β → Prop} (h : pw o (fun a => pw (f a) Q)) : pw (o.bind f) Q := by
  obtain ⟨a, e, b, e2, q⟩ := h
  exact ⟨b, by rw [e]; exact e2, q⟩
theorem pw_let {α β : Type} {a : α} {f : α → Option β} {Q : β → Prop} (h : pw (f a) Q) : pw (gz_let a f) Q := h
theorem pw_gu {α : Type} {c : Prop} [Decidable c] {o : Option α} {Q : α → Prop} (hc : c) (h : pw o Q) : pw (if c then o else none) Q := by rw [if_pos hc]; exact h
theorem pw_if {α : Type} {c : Prop} [Decidable c] {o o' : Option α} {Q : α → Prop} (h1 : c → pw o Q) (h2 : ¬ c → pw o' Q) : pw (if c then o else o') Q := by
  by_cases hc : c
  · rw [if_pos hc]; exact h1 hc
  · rw [if_neg hc]; exact h2 hc
theorem pw_t {α : Type} {c : Prop} [Decidable c] {o o' : Option α} {Q : α → Prop} (hc : c) (h : pw o Q) : pw (if c then o else o') Q := by rw [if_pos hc]; exact h
theorem pw_f {α : Type} {c : Prop} [Decidable c] {o o' : Option α} {Q : α → Prop} (hc : ¬ c) (h : pw o' Q) : pw (if c then o else o') Q := by rw [if_neg hc]; exact h
theorem pw_map {α β : Type} {o : Option α} {f : α → β} {Q : β → Prop} (h : pw o (fun a => Q (f a))) : pw (o.map f) Q := by
  obtain ⟨a, e, q⟩ := h
  exact ⟨f a, by rw [e]; rfl, q⟩
/-- a loop with a state that stands for each number of turns; it ends at n, or earlier by itself -/
theorem pw_for {S R : Type} {f : S → Option (S ⊕ R)} {Q : R → Prop} (I : Nat → S → Prop) (n : Nat) (hstep : ∀ (i : Nat) (s : S), i < n → I i s → pw (f s) (Sum.elim (I (i + 1)) Q)) (hend : ∀ s : S, I n s → pw (f s) (Sum.elim (fun _ => False) Q)) {s : S} (h0 : I 0 s) : pw (gz_loop f s) Q := by
  have key : ∀ (k i : Nat) (s : S), i + k = n → I i s → pw (gz_loop f s) Q := by
    intro k
    induction k with
    | zero =>
      intro i s hi h
      have hi : i = n := hi
      subst hi
      obtain ⟨x, e, q⟩ := hend s h
      cases x with
      | inl s' => exact q.elim
      | inr r => exact ⟨r, gz_loop_out e, q⟩
    | succ k ih =>
      intro i s hi h
      obtain ⟨x, e, q⟩ := hstep i s (by omega) h
      cases x with
      | inl s' =>
        rw [gz_loop_in e]
        exact ih (i + 1) s' (by omega) q
      | inr r => exact ⟨r, gz_loop_out e, q⟩
  exact key n 0 s (by omega) h0
/-- a loop with a measure that falls -/
theorem pw_loop {S R : Type} {f : S → Option (S ⊕ R)} {Q : R → Prop} (I : S → Prop) (μ : S → Nat) (hstep : ∀ s : S, I s → pw (f s) (Sum.elim (fun s' => I s' ∧ μ s' < μ s) Q)) {s : S} (h0 : I s) : pw (gz_loop f s) Q := by
  have key : ∀ (k : Nat) (s : S), μ s ≤ k → I s → pw (gz_loop f s) Q := by
    intro k
    induction k with
    | zero =>
      intro s hi h
      obtain ⟨x, e, q⟩ := hstep s h
      cases x with
      | inl s' => exact absurd q.2 (by omega)
      | inr r => exact ⟨r, gz_loop_out e, q⟩
    | succ k ih =>
      intro s hi h
      obtain ⟨x, e, q⟩ := hstep s h
      cases x with
      | inl s' =>
        rw [gz_loop_in e]
        exact ih s' (by have := q.2; omega) q.1
      | inr r => exact ⟨r, gz_loop_out e, q⟩
  exact key (μ s) s (Nat.le_refl _) h0
/-! memory of the model, read as plain numbers -/
def mi (m : MM) (c j : Nat) : Int := (m.1 c j).toInt
def ml (m : MM) (c j : Nat) : Int := (m.2 c j).toInt
theorem mi_of (m : MM) (c j : Nat) : m.1 c j = iI (mi m c j) := (iI_of _).symm
theorem ml_of (m : MM) (c j : Nat) : m.2 c j = lL (ml m c j) := (lL_of _).symm
theorem mi_r (m : MM) (c j : Nat) : -2147483648 ≤ mi m c j ∧ mi m c j < 2147483648 := by
  have h1 := Int32.le_toInt (m.1 c j)
  have h2 := Int32.toInt_lt (m.1 c j)
  unfold mi
  omega
theorem msI_i (m : MM) (c j c' j' : Nat) (x : Int32) : (msI m c j x).1 c' j' = if c' = c ∧ j' = j then x else m.1 c' j' := rfl
theorem msI_l (m : MM) (c j c' j' : Nat) (x : Int32) : (msI m c j x).2 c' j' = m.2 c' j' := rfl
theorem msL_i (m : MM) (c j c' j' : Nat) (x : Int64) : (msL m c j x).1 c' j' = m.1 c' j' := rfl
theorem msL_l (m : MM) (c j c' j' : Nat) (x : Int64) : (msL m c j x).2 c' j' = if c' = c ∧ j' = j then x else m.2 c' j' := rfl
