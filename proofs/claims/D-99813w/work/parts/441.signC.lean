/-! ===== a string's sign at a place ===== -/
theorem c_chk {a b : Int} (h : 0 ≤ a ∧ a < b) (hb : b < 100000) (m : gM) : cf_J9_checkIndex (iI a) (iI b) m = some ((), m) := by
  unfold cf_J9_checkIndex cf_J7_checkIndex
  rw [if_neg (show ¬ iI a < (0 : Int32) by rw [show (0 : Int32) = iI 0 from rfl, iI_lt (by omega) (by omega)]; omega), if_pos (show iI a < iI b by rw [iI_lt (by omega) (by omega)]; omega)]
  rfl
theorem u16 : ∀ c : Nat, c < 128 → ((iI (c : Int)).toUInt32 % 65536).toInt32 = iI (c : Int) ∧ (iI (c : Int)).toUInt32.toUInt16.toUInt32.toInt32 = iI (c : Int) := by decide +kernel
theorem c_strAt {μ : gM} {s : Nat} {w : List Int} (h : strR μ s w) {i : Nat} (hi : i < w.length) : cf_J9_charAt s (iI i) μ = some (iI (w.getD i 0), μ) := by
  obtain ⟨⟨a1, a2, a3, a4⟩, ⟨b1, b2, b3, b4⟩, c1, c2⟩ := h
  obtain ⟨v1, v2, v3⟩ := c2 i hi
  have gi : gz_ix (iI (i : Int)) = i := by rw [gix (by omega)]; omega
  obtain ⟨A, hA⟩ : ∃ A : Nat, w.getD i 0 = A := ⟨(w.getD i 0).toNat, by omega⟩
  have n10 : ¬ (1 : Int32) = 0 := by decide
  have hu := u16 A (by omega)
  have hc : cf_J11_charAt (gP μ s 0) (iI i) μ = some (iI A, μ) := by
    unfold cf_J11_charAt
    rw [if_pos b3, b4, ← iI_nI, c_chk (by omega) (by omega)]
    simp only [Option.bind_some]
    rw [if_pos b3, b4, if_pos ((gin_iI (by omega)).2 (by omega)), gi, v1, hA, an8 A (by omega), hu.1, if_pos hu.2]
  unfold cf_J9_charAt cf_J9_isLatin1
  rw [if_pos a3, if_neg n10, if_pos a3, if_pos a4]
  simp only [Option.bind_some, gz_let]
  rw [if_neg n10, if_pos a3, if_pos b1, hc]
  simp only [Option.bind_some]
  rw [if_pos hu.2, hA]
theorem c_signAt {μ : gM} {c x : Nat} {w : List Int} (hk : gK μ c = 7 ∨ gK μ c = 9) (h : strR μ (gP μ c 0) w) (hx : x ≤ 5) : cf_X7_signAt c (iI x) μ = some (iI (if x < w.length then w.getD x 0 - 96 else 0), μ) := by
  have k22 := h.1.2.2.1
  have nz := h.1.1
  have hl := h.2.2.1
  unfold cf_X7_signAt
  simp only [gz_let]
  rw [if_pos hk, if_pos nz, if_pos k22, c_length h]
  simp only [Option.bind_some]
  by_cases q : x < w.length
  · rw [if_neg (by rw [iI_le (by omega) (by omega)]; omega), if_pos hk, if_pos nz, if_pos k22, c_strAt h q]
    simp only [Option.bind_some]
    have := (h.2.2.2 x q).2
    rw [if_pos q, iI_lit, iI_sub, iI_lit, iI_add]
    exact congrArg (fun z => some (iI z, μ)) (by omega)
  · rw [if_pos (by rw [iI_le (by omega) (by omega)]; omega), if_neg q]
    rfl
