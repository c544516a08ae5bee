theorem putM_hh (m : MM) (t : Nat) : hhE m (putM m t) := poM_hh m _ t _
theorem p_here {m : MM} (h : rMany m) {z : Int} (hz : -2147483648 ≤ z ∧ z < 2147483648) : mf_isWhereHeIs (iI z) m = some (if (0 ≤ z ∧ z < mi m 1038 7) ∧ mi m 1041 (16 + 2 * z.toNat) = mi m 1051 1 then 1 else 0, m) := by
  have hb := h.2.1
  have g1 : gz_ix (1 : Int32) = 1 := by decide
  have r1 := mi_r m 1041 (16 + 2 * z.toNat)
  have r2 := mi_r m 1051 1
  unfold mf_isWhereHeIs mj_X6_isWhereHeIs_27
  rw [i2l_iI hz, p_isThing h hz]
  simp only [Option.bind_some]
  by_cases q : 0 ≤ z ∧ z < mi m 1038 7
  · have ez : iI z = iI ((z.toNat : Nat) : Int) := congrArg iI (by omega)
    rw [if_pos q, if_neg n10, ez, p_hallOf (by omega)]
    simp only [Option.bind_some]
    rw [if_pos (by decide), g1, mi_of m 1051 1]
    by_cases q2 : mi m 1041 (16 + 2 * z.toNat) = mi m 1051 1
    · rw [if_pos (by rw [q2]), if_pos ⟨q, q2⟩]
    · rw [if_neg (by rw [iI_eq r1 r2]; exact q2), if_neg (fun w => q2 w.2)]
  · rw [if_neg q, if_pos rfl, if_neg (fun w => q w.1)]
theorem c_here {m : MM} {μ : gM} (h : rHH m μ) (h2 : gI μ 1027 2 = m.1 1051 1) {z : Int} (hz : -2147483648 ≤ z ∧ z < 2147483648) : cf_X0_isHere (iI z) μ = some (if (0 ≤ z ∧ z < mi m 1038 7) ∧ mi m 1041 (16 + 2 * z.toNat) = mi m 1051 1 then 1 else 0, μ) := by
  have r1 := mi_r m 1041 (16 + 2 * z.toNat)
  have r2 := mi_r m 1051 1
  unfold cf_X0_isHere mj_X0_isHere_30
  rw [c_isThing h hz]
  simp only [Option.bind_some]
  by_cases q : 0 ≤ z ∧ z < mi m 1038 7
  · have ez : iI z = iI ((z.toNat : Nat) : Int) := congrArg iI (by omega)
    obtain ⟨t1, t2, -⟩ := h.2.2.1 z.toNat (by omega)
    rw [if_pos q, if_neg n10, ez, c_thingOf h (by omega)]
    simp only [Option.bind_some]
    rw [if_pos t1, ci_of μ (thC μ z.toNat) 1, t2, h2, mi_of m 1051 1]
    by_cases q2 : mi m 1041 (16 + 2 * z.toNat) = mi m 1051 1
    · rw [if_pos (by rw [q2]), if_pos ⟨q, q2⟩]
    · rw [if_neg (by rw [iI_eq r1 r2]; exact q2), if_neg (fun w => q2 w.2)]
  · rw [if_neg q, if_pos rfl, if_neg (fun w => q w.1)]
