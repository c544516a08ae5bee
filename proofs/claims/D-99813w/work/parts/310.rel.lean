/-! ===== what ties the two memories ===== -/
/-- nothing dynamic has changed -/
def dyS (μ μ' : gM) : Prop := μ'.1 = μ.1 ∧ μ'.2.1 = μ.2.1 ∧ μ'.2.2.2.2.2 = μ.2.2.2.2.2 ∧ ∀ c : Nat, ks c = 0 → ∀ j : Nat, gI μ' c j = gI μ c j ∧ gL μ' c j = gL μ c j ∧ gP μ' c j = gP μ c j
theorem dyS.refl (μ : gM) : dyS μ μ := ⟨rfl, rfl, rfl, fun _ _ _ => ⟨rfl, rfl, rfl⟩⟩
theorem dyS.trans {a b c : gM} (h1 : dyS a b) (h2 : dyS b c) : dyS a c := ⟨h2.1.trans h1.1, h2.2.1.trans h1.2.1, h2.2.2.1.trans h1.2.2.1, fun d hd j => ⟨(h2.2.2.2 d hd j).1.trans (h1.2.2.2 d hd j).1, (h2.2.2.2 d hd j).2.1.trans (h1.2.2.2 d hd j).2.1, (h2.2.2.2 d hd j).2.2.trans (h1.2.2.2 d hd j).2.2⟩⟩
theorem dyS.sI {μ : gM} {c j : Nat} {x : Int32} (h : ks c ≠ 0) : dyS μ (gz_sI μ c j x) := ⟨rfl, rfl, rfl, fun d hd j' => ⟨by rw [sI_i, if_neg (fun e : d = c ∧ j' = j => h (e.1 ▸ hd))], rfl, rfl⟩⟩
theorem dyS.sL {μ : gM} {c j : Nat} {x : Int64} (h : ks c ≠ 0) : dyS μ (gz_sL μ c j x) := ⟨rfl, rfl, rfl, fun d hd j' => ⟨rfl, by rw [sL_l, if_neg (fun e : d = c ∧ j' = j => h (e.1 ▸ hd))], rfl⟩⟩
theorem dyS.sP {μ : gM} {c j x : Nat} (h : ks c ≠ 0) : dyS μ (gz_sP μ c j x) := ⟨rfl, rfl, rfl, fun d hd j' => ⟨rfl, rfl, by rw [sP_p, if_neg (fun e : d = c ∧ j' = j => h (e.1 ▸ hd))]⟩⟩
/-- a list of n things -/
def el (μ : gM) (r i : Nat) : Nat := gP μ (gP μ r 1) i
def lst (μ : gM) (r : Nat) (n : Int) : Prop := r ≠ 0 ∧ ks r = 0 ∧ gK μ r = 21 ∧ gI μ r 2 = iI n ∧ gP μ r 1 ≠ 0 ∧ ks (gP μ r 1) = 0 ∧ gK μ (gP μ r 1) = 106 ∧ n ≤ gN μ (gP μ r 1) ∧ ∀ i : Nat, (i : Int) < n → el μ r i ≠ 0 ∧ ks (el μ r i) = 0
theorem lst.dy {μ μ' : gM} {r : Nat} {n : Int} (h : lst μ r n) (hd : dyS μ μ') : lst μ' r n ∧ ∀ i : Nat, el μ' r i = el μ r i := by
  obtain ⟨a, b, c, d, e, f, g, i, j⟩ := h
  have h1 : gP μ' r 1 = gP μ r 1 := (hd.2.2.2 r b 1).2.2
  have h2 : ∀ i : Nat, el μ' r i = el μ r i := fun i => by unfold el; rw [h1]; exact (hd.2.2.2 _ f i).2.2
  have h3 : gK μ' = gK μ := hd.1
  have h4 : gN μ' = gN μ := hd.2.1
  refine ⟨⟨a, b, by rw [h3]; exact c, by rw [(hd.2.2.2 r b 2).1]; exact d, by rw [h1]; exact e, by rw [h1]; exact f, by rw [h1, h3]; exact g, by rw [h1, h4]; exact i, fun k hk => ?_⟩, h2⟩
  rw [h2]; exact j k hk
/-- a byte, as it lies in an array of bytes -/
def bB (x : Int32) : Prop := x.toInt8.toInt32 = x
def rTape (n : Nat) (m : MM) (μ : gM) : Prop := (∀ k : Nat, k < 1600 → (gI μ 1010 k &&& 255 = m.1 1001 k ∧ bB (gI μ 1010 k)) ∧ 0 ≤ mi m 1001 k ∧ mi m 1001 k < 256) ∧ ci μ 1000 2 = mi m 2000 1 ∧ 0 ≤ mi m 2000 1 ∧ mi m 2000 1 ≤ 20 * n
def rFault (m : MM) (μ : gM) : Prop := gI μ 1000 3 = m.1 2000 7 ∧ gI μ 1000 4 = m.1 2000 8
def rRef (m : MM) (μ : gM) : Prop := ∀ k : Nat, k < 6 → gI μ 1017 k = m.1 1010 k
def rSeed (m : MM) (μ : gM) : Prop := gL μ 1000 24 = m.2 2000 70 ∧ 0 ≤ ml m 2000 70 ∧ ml m 2000 70 < 2147483648
def rOut (m : MM) (μ : gM) : Prop := gI μ 1000 27 = m.1 2000 103 ∧ 0 ≤ mi m 2000 103 ∧ mi m 2000 103 ≤ 32 ∧ ∀ k : Nat, (k : Int) < mi m 2000 103 → gI μ 2368 k &&& 255 = m.1 1103 k
/-! the first methods, side by side -/
theorem e_fault {m : MM} {μ : gM} (h : rFault m μ) (x : Int32) : ∃ r, mf_fault x m = some (r, m) ∧ cf_X0_fault x μ = some (r, μ) := by
  unfold mf_fault cf_X0_fault
  rw [h.1, h.2]
  by_cases h1 : x = 0
  · exact ⟨_, by rw [if_pos h1], by rw [if_pos h1]⟩
  · by_cases h2 : x = 1
    · exact ⟨_, by rw [if_neg h1, if_pos h2], by rw [if_neg h1, if_pos h2]⟩
    · exact ⟨_, by rw [if_neg h1, if_neg h2], by rw [if_neg h1, if_neg h2]⟩
theorem p_isIn {z a b : Int} (m : MM) (hz : -9223372036854775808 ≤ z ∧ z < 9223372036854775808) (ha : -9223372036854775808 ≤ a ∧ a < 9223372036854775808) (hb : -9223372036854775808 ≤ b ∧ b < 9223372036854775808) : mf_isIn (lL z) (lL a) (lL b) m = some (if a ≤ z ∧ z ≤ b then 1 else 0, m) := by
  unfold mf_isIn mj_X6_isIn_17
  simp (disch := omega) only [lL_lt]
  split
  · rw [if_neg (by omega)]
  · split
    · rw [if_neg (by omega)]
    · rw [if_pos (by omega)]
theorem p_is {z a b : Int} (μ : gM) (hz : -2147483648 ≤ z ∧ z < 2147483648) (ha : -2147483648 ≤ a ∧ a < 2147483648) (hb : -2147483648 ≤ b ∧ b < 2147483648) : cf_X0_is (iI z) (iI a) (iI b) μ = some (if a ≤ z ∧ z ≤ b then 1 else 0, μ) := by
  unfold cf_X0_is mj_X0_is_14
  simp (disch := omega) only [iI_lt]
  split
  · rw [if_neg (by omega)]
  · split
    · rw [if_neg (by omega)]
    · rw [if_pos (by omega)]
theorem e_status {m : MM} {μ : gM} (h : rRef m μ) (x : Int32) : ∃ r, mf_status x m = some (r, m) ∧ cf_X0_status x μ = some (r, μ) := by
  obtain ⟨z, hz, rfl⟩ := iI_ex x
  unfold mf_status cf_X0_status
  by_cases hc : 0 ≤ z ∧ z ≤ 5
  · refine ⟨m.1 1010 z.toNat, ?_, ?_⟩
    · simp (disch := omega) only [gz_let, Option.bind_some, Option.map_some, mi_of, ml_of, ci_of, cl_of, iI_lit, lL_lit, iI_neg, lL_neg, iI_add, iI_sub, iI_mul, lL_add, lL_sub, lL_mul, i2l_iI, l2i_lL, gin_iI, ix_iI, iI_le, iI_lt, iI_eq, lL_le, lL_lt, lL_eq, if_pos, if_neg, if_true, if_false, p_isIn, if_pos hc]
    · rw [← h _ (by omega)]
      simp (disch := omega) only [gz_let, Option.bind_some, Option.map_some, mi_of, ml_of, ci_of, cl_of, iI_lit, lL_lit, iI_neg, lL_neg, iI_add, iI_sub, iI_mul, lL_add, lL_sub, lL_mul, i2l_iI, l2i_lL, gin_iI, ix_iI, iI_le, iI_lt, iI_eq, lL_le, lL_lt, lL_eq, if_pos, if_neg, if_true, if_false, p_is, if_pos hc]
  · refine ⟨-1, ?_, ?_⟩ <;> simp (disch := omega) only [gz_let, Option.bind_some, Option.map_some, mi_of, ml_of, ci_of, cl_of, iI_lit, lL_lit, iI_neg, lL_neg, iI_add, iI_sub, iI_mul, lL_add, lL_sub, lL_mul, i2l_iI, l2i_lL, gin_iI, ix_iI, iI_le, iI_lt, iI_eq, lL_le, lL_lt, lL_eq, if_pos, if_neg, if_true, if_false, p_isIn, p_is, if_neg hc]
theorem e_octet {m : MM} {μ : gM} (h : rOut m μ) (x : Int32) : ∃ r, mf_octet x m = some (r, m) ∧ cf_X0_octet x μ = some (r, μ) := by
  obtain ⟨z, hz, rfl⟩ := iI_ex x
  obtain ⟨h1, h2, h3, h4⟩ := h
  unfold mf_octet cf_X0_octet mj_X6_octet_21 mj_X0_octet_12
  rw [h1]
  by_cases hc : 0 ≤ z ∧ z < mi m 2000 103
  · refine ⟨m.1 1103 z.toNat, ?_, ?_⟩
    · simp (disch := omega) only [gz_let, Option.bind_some, Option.map_some, mi_of, ml_of, ci_of, cl_of, iI_lit, lL_lit, iI_neg, lL_neg, iI_add, iI_sub, iI_mul, lL_add, lL_sub, lL_mul, i2l_iI, l2i_lL, gin_iI, ix_iI, iI_le, iI_lt, iI_eq, lL_le, lL_lt, lL_eq, if_pos, if_neg, if_true, if_false]
    · have := h4 z.toNat (by omega)
      rw [← this]
      simp (disch := omega) only [gz_let, Option.bind_some, Option.map_some, mi_of, ml_of, ci_of, cl_of, iI_lit, lL_lit, iI_neg, lL_neg, iI_add, iI_sub, iI_mul, lL_add, lL_sub, lL_mul, i2l_iI, l2i_lL, gin_iI, ix_iI, iI_le, iI_lt, iI_eq, lL_le, lL_lt, lL_eq, if_pos, if_neg, if_true, if_false]
  · refine ⟨-1, ?_, ?_⟩
    · by_cases h0 : z < 0
      · simp (disch := omega) only [gz_let, Option.bind_some, Option.map_some, mi_of, ml_of, ci_of, cl_of, iI_lit, lL_lit, iI_neg, lL_neg, iI_add, iI_sub, iI_mul, lL_add, lL_sub, lL_mul, i2l_iI, l2i_lL, gin_iI, ix_iI, iI_le, iI_lt, iI_eq, lL_le, lL_lt, lL_eq, if_pos, if_neg, if_true, if_false]
      · simp (disch := omega) only [gz_let, Option.bind_some, Option.map_some, mi_of, ml_of, ci_of, cl_of, iI_lit, lL_lit, iI_neg, lL_neg, iI_add, iI_sub, iI_mul, lL_add, lL_sub, lL_mul, i2l_iI, l2i_lL, gin_iI, ix_iI, iI_le, iI_lt, iI_eq, lL_le, lL_lt, lL_eq, if_pos, if_neg, if_true, if_false]
    · by_cases h0 : z < 0
      · simp (disch := omega) only [gz_let, Option.bind_some, Option.map_some, mi_of, ml_of, ci_of, cl_of, iI_lit, lL_lit, iI_neg, lL_neg, iI_add, iI_sub, iI_mul, lL_add, lL_sub, lL_mul, i2l_iI, l2i_lL, gin_iI, ix_iI, iI_le, iI_lt, iI_eq, lL_le, lL_lt, lL_eq, if_pos, if_neg, if_true, if_false]
      · simp (disch := omega) only [gz_let, Option.bind_some, Option.map_some, mi_of, ml_of, ci_of, cl_of, iI_lit, lL_lit, iI_neg, lL_neg, iI_add, iI_sub, iI_mul, lL_add, lL_sub, lL_mul, i2l_iI, l2i_lL, gin_iI, ix_iI, iI_le, iI_lt, iI_eq, lL_le, lL_lt, lL_eq, if_pos, if_neg, if_true, if_false]
