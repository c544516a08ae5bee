/-! ===== the letter query ===== -/
theorem p_letNo {m : MM} (hm : rMany m) {a z x : Int} (ha : -2147483648 ≤ a ∧ a < 2147483648) (hz : -2147483648 ≤ z ∧ z < 2147483648) (hx : -2147483648 ≤ x ∧ x < 2147483648) (q : ¬ ((0 ≤ a ∧ a ≤ 1) ∧ (0 ≤ x ∧ x ≤ 5) ∧ 0 ≤ z ∧ z < mi m 1038 (6 + a.toNat))) : mf_letter (iI a) (iI z) (iI x) m = some (-1, m) := by
  unfold mf_letter mj_X6_letter_43
  rw [i2l_iI ha, i2l_iI hz, i2l_iI hx, show (0 : Int64) = lL 0 from rfl, show (1 : Int64) = lL 1 from rfl, show (5 : Int64) = lL 5 from rfl, p_isIn m (by omega) (by omega) (by omega)]
  simp only [Option.bind_some]
  by_cases q1 : 0 ≤ a ∧ a ≤ 1
  · have e6 : (6 : Int32) + iI a = iI (6 + a) := by rw [iI_lit, iI_add]
    have g6 : gz_ix (iI (6 + a)) = 6 + a.toNat := by rw [gix (by omega)]; omega
    have hr := mi_r m 1038 (6 + a.toNat)
    have hM : 0 ≤ mi m 1038 (6 + a.toNat) := by
      obtain h | h : a.toNat = 0 ∨ a.toNat = 1 := by omega
      · rw [h]; exact hm.1.1
      · rw [h]; exact hm.2.1.1
    rw [if_pos q1, if_neg n10, e6, if_pos ((gin_iI (by omega)).2 (by omega)), g6, mi_of m, show (1 : Int32) = iI 1 from rfl, iI_sub, i2l_iI (by omega), p_isIn m (by omega) (by omega) (by omega)]
    simp only [Option.bind_some]
    by_cases q2 : 0 ≤ z ∧ z ≤ mi m 1038 (6 + a.toNat) - 1
    · rw [if_pos q2, if_neg n10, p_isIn m (by omega) (by omega) (by omega)]
      simp only [Option.bind_some]
      rw [if_neg (show ¬ (0 ≤ x ∧ x ≤ 5) by omega), if_pos rfl]
    · rw [if_neg q2, if_pos rfl]
  · rw [if_neg q1, if_pos rfl]
theorem p_letYes {m : MM} {μ : gM} (hm : rMany m) {a z x : Nat} {w : List Int} (ha : a ≤ 1) (hx : x ≤ 5) (hz : (z : Int) < mi m 1038 (6 + a)) (hz8 : z < 8) (hw : nmOK w) (hv : ml m 1039 (16 + 8 * a + z) = nmV w) : mf_letter (iI a) (iI z) (iI x) m = some (iI (if x < w.length then w.getD x 0 - 96 else 0), m) := by
  have hr := mi_r m 1038 (6 + a)
  have e6 : (6 : Int32) + iI (a : Int) = iI (6 + (a : Int)) := by rw [iI_lit, iI_add]
  have g6 : gz_ix (iI (6 + (a : Int))) = 6 + a := by rw [gix (by omega)]; omega
  have e16 : (16 : Int32) + (8 : Int32) * iI (a : Int) + iI (z : Int) = iI (16 + 8 * (a : Int) + z) := by rw [iI_lit, iI_lit, iI_mul, iI_add, iI_add]
  have g16 : gz_ix (iI (16 + 8 * (a : Int) + z)) = 16 + 8 * a + z := by rw [gix (by omega)]; omega
  unfold mf_letter
  rw [i2l_iI (by omega), i2l_iI (by omega), i2l_iI (by omega), show (0 : Int64) = lL 0 from rfl, show (1 : Int64) = lL 1 from rfl, show (5 : Int64) = lL 5 from rfl, p_isIn m (by omega) (by omega) (by omega)]
  simp only [Option.bind_some]
  rw [if_pos (show 0 ≤ (a : Int) ∧ (a : Int) ≤ 1 by omega), if_neg n10, e6, if_pos ((gin_iI (by omega)).2 (by omega)), g6, mi_of m, show (1 : Int32) = iI 1 from rfl, iI_sub, i2l_iI (by omega), p_isIn m (by omega) (by omega) (by omega)]
  simp only [Option.bind_some]
  rw [if_pos (show 0 ≤ (z : Int) ∧ (z : Int) ≤ mi m 1038 (6 + a) - 1 by omega), if_neg n10, p_isIn m (by omega) (by omega) (by omega)]
  simp only [Option.bind_some]
  rw [if_pos (show 0 ≤ (x : Int) ∧ (x : Int) ≤ 5 by omega), if_neg n10, e16, if_pos ((gin_iI (by omega)).2 (by omega)), g16, ml_of m, hv, nmV_nv]
  exact p_let68 (f := fun i => w.getD i 0) hw.2.2 hw.2.1 hx m
theorem c_letNo {m : MM} {μ : gM} (h : rHH m μ) {a z x : Int} (ha : -2147483648 ≤ a ∧ a < 2147483648) (hz : -2147483648 ≤ z ∧ z < 2147483648) (hx : -2147483648 ≤ x ∧ x < 2147483648) (q : ¬ ((0 ≤ a ∧ a ≤ 1) ∧ (0 ≤ x ∧ x ≤ 5) ∧ 0 ≤ z ∧ z < mi m 1038 (6 + a.toNat))) : cf_X0_letterB (iI a) (iI z) (iI x) μ = some (-1, μ) := by
  obtain ⟨hm, ⟨l1, l2, l3, l4, l5, l6, l7⟩, -, -⟩ := h
  unfold cf_X0_letterB mj_X0_letterB_22 mj_X0_letterB_45
  rw [show (5 : Int32) = iI 5 from rfl, show (0 : Int32) = iI 0 from rfl, show (1 : Int32) = iI 1 from rfl, p_is μ (by omega) (by omega) (by omega)]
  simp only [Option.bind_some]
  by_cases q1 : 0 ≤ x ∧ x ≤ 5
  · rw [if_pos q1, if_neg (show ¬ (1 : Int32) = iI 0 by decide), p_is μ (by omega) (by omega) (by omega)]
    simp only [Option.bind_some]
    by_cases q2 : 0 ≤ a ∧ a ≤ 1
    · rw [if_pos q2, if_neg (show ¬ (1 : Int32) = iI 0 by decide)]
      by_cases q3 : 0 ≤ z
      · rw [if_pos (by rw [iI_le (by omega) (by omega)]; exact q3)]
        obtain rfl | rfl : a = 0 ∨ a = 1 := by omega
        · rw [if_pos rfl]
          simp only [gz_let]
          rw [if_pos l1, if_pos l3, if_pos l4.1, if_pos l4.2.2.1, c_size l4]
          simp only [Option.bind_some]
          have hb := hm.1
          have q4 : ¬ z < mi m 1038 6 := fun w => q ⟨q2, q1, q3, w⟩
          rw [if_pos (by rw [iI_le (by omega) (by omega)]; omega)]
        · rw [if_neg (show ¬ iI 1 = iI 0 by decide)]
          simp only [gz_let]
          rw [if_pos l1, if_pos l3, if_pos l6.1, if_pos l6.2.2.1, c_size l6]
          simp only [Option.bind_some]
          have hb := hm.2.1
          have q4 : ¬ z < mi m 1038 7 := fun w => q ⟨q2, q1, q3, w⟩
          rw [if_pos (by rw [iI_le (by omega) (by omega)]; omega)]
      · rw [if_neg (by rw [iI_le (by omega) (by omega)]; exact q3)]
    · rw [if_neg q2, if_pos (show (0 : Int32) = iI 0 from rfl)]
  · rw [if_neg q1, if_pos (show (0 : Int32) = iI 0 from rfl)]
theorem c_letYes {m : MM} {μ : gM} (h : rHH m μ) {a z x : Nat} {w : List Int} {c : Nat} (ha : a ≤ 1) (hx : x ≤ 5) (hz : (z : Int) < mi m 1038 (6 + a)) (hc : c = if a = 0 then hlC μ z else thC μ z) (hk : gK μ c = 7 ∨ gK μ c = 9) (hs : strR μ (gP μ c 0) w) : cf_X0_letterB (iI a) (iI z) (iI x) μ = some (iI (if x < w.length then w.getD x 0 - 96 else 0), μ) := by
  obtain ⟨hm, ⟨l1, l2, l3, l4, l5, l6, l7⟩, -, -⟩ := h
  have hb := hm.1
  have hb2 := hm.2.1
  have hz8 : z < 8 := by
    obtain rfl | rfl : a = 0 ∨ a = 1 := by omega
    · have hz' : (z : Int) < mi m 1038 6 := hz
      omega
    · have hz' : (z : Int) < mi m 1038 7 := hz
      omega
  unfold cf_X0_letterB mj_X0_letterB_22 mj_X0_letterB_45
  rw [show (5 : Int32) = iI 5 from rfl, show (0 : Int32) = iI 0 from rfl, show (1 : Int32) = iI 1 from rfl, p_is μ (by omega) (by omega) (by omega)]
  simp only [Option.bind_some]
  rw [if_pos (show 0 ≤ (x : Int) ∧ (x : Int) ≤ 5 by omega), if_neg (show ¬ (1 : Int32) = iI 0 by decide), p_is μ (by omega) (by omega) (by omega)]
  simp only [Option.bind_some]
  rw [if_pos (show 0 ≤ (a : Int) ∧ (a : Int) ≤ 1 by omega), if_neg (show ¬ (1 : Int32) = iI 0 by decide), if_pos (by rw [iI_le (by omega) (by omega)]; omega)]
  obtain rfl | rfl : a = 0 ∨ a = 1 := by omega
  · have hz' : (z : Int) < mi m 1038 6 := hz
    rw [if_pos (show iI ((0 : Nat) : Int) = iI 0 from rfl)]
    simp only [gz_let]
    rw [if_pos l1, if_pos l3, if_pos l4.1, if_pos l4.2.2.1, c_size l4]
    simp only [Option.bind_some]
    have e : c = el μ (gP μ (gP μ 1000 0) 3) z := hc
    rw [if_neg (by rw [iI_le (by omega) (by omega)]; omega), if_pos l4.2.2.1, c_get l4 (by omega) hz', ← e]
    simp only [Option.bind_some]
    rw [if_pos hk, if_pos hk, c_signAt hk hs hx]
    rfl
  · have hz' : (z : Int) < mi m 1038 7 := hz
    rw [if_neg (show ¬ iI ((1 : Nat) : Int) = iI 0 by decide)]
    simp only [gz_let]
    rw [if_pos l1, if_pos l3, if_pos l6.1, if_pos l6.2.2.1, c_size l6]
    simp only [Option.bind_some]
    have e : c = el μ (gP μ (gP μ 1000 0) 5) z := hc
    rw [if_neg (by rw [iI_le (by omega) (by omega)]; omega), if_pos l6.2.2.1, c_get l6 (by omega) hz', ← e]
    simp only [Option.bind_some]
    rw [if_pos hk, if_pos hk, c_signAt hk hs hx]
    rfl
theorem e_letter {l : List (Int × Int × Int)} {m : MM} {μ : gM} (h : rCo l m μ) (hn : rNm m μ) (a1 a2 a3 : Int32) : eO (mf_letter a1 a2 a3 m) (cf_X0_letterB a1 a2 a3 μ) m μ := by
  have hH := h.2.1
  have hN := (hn.2.2.2 μ (loA.refl _ _) rfl).2.2
  have hm := hH.1
  obtain ⟨a, ha, rfl⟩ := iI_ex a1
  obtain ⟨z, hz, rfl⟩ := iI_ex a2
  obtain ⟨x, hx, rfl⟩ := iI_ex a3
  by_cases q : (0 ≤ a ∧ a ≤ 1) ∧ (0 ≤ x ∧ x ≤ 5) ∧ 0 ≤ z ∧ z < mi m 1038 (6 + a.toNat)
  · obtain ⟨q1, q2, q3, q4⟩ := q
    obtain ⟨a, rfl⟩ : ∃ b : Nat, a = b := ⟨a.toNat, by omega⟩
    obtain ⟨z, rfl⟩ : ∃ b : Nat, z = b := ⟨z.toNat, by omega⟩
    obtain ⟨x, rfl⟩ : ∃ b : Nat, x = b := ⟨x.toNat, by omega⟩
    rw [Int.toNat_natCast] at q4
    have hb := hm.1
    have hb2 := hm.2.1
    obtain rfl | rfl : a = 0 ∨ a = 1 := by omega
    · have hz' : (z : Int) < mi m 1038 6 := q4
      obtain ⟨k, w, s1, s2, s3⟩ := hN.1 z hz'
      exact eO.same h _ (p_letYes (μ := μ) hm (by omega) (by omega) q4 (by omega) s2 s3) (c_letYes hH (by omega) (by omega) q4 rfl (Or.inl (show gK μ (hlC μ z) = 7 by omega)) s1)
    · have hz' : (z : Int) < mi m 1038 7 := q4
      obtain ⟨k, w, s1, s2, s3⟩ := hN.2 z hz'
      exact eO.same h _ (p_letYes (μ := μ) hm (by omega) (by omega) q4 (by omega) s2 s3) (c_letYes hH (by omega) (by omega) q4 rfl (Or.inr (show gK μ (thC μ z) = 9 by omega)) s1)
  · exact eO.same h _ (p_letNo hm ha hz hx q) (c_letNo hH ha hz hx q)
