/-! ===== the household, on both sides ===== -/
abbrev hC (μ : gM) : Nat := gP μ 1000 0
def thC (μ : gM) (t : Nat) : Nat := el μ (gP μ (hC μ) 5) t
def tiC (μ : gM) (k : Nat) : Nat := el μ (gP μ (hC μ) 6) k
def hlC (μ : gM) (k : Nat) : Nat := el μ (gP μ (hC μ) 3) k
def rMany (m : MM) : Prop := (0 ≤ mi m 1038 6 ∧ mi m 1038 6 ≤ 8) ∧ (0 ≤ mi m 1038 7 ∧ mi m 1038 7 ≤ 8) ∧ (0 ≤ mi m 1038 8 ∧ mi m 1038 8 ≤ 12) ∧ (0 ≤ mi m 1038 9 ∧ mi m 1038 9 ≤ 12) ∧ (0 ≤ mi m 1038 11 ∧ mi m 1038 11 ≤ 100)
def rLists (m : MM) (μ : gM) : Prop := hC μ ≠ 0 ∧ ks (hC μ) = 0 ∧ gK μ (hC μ) = 2 ∧ lst μ (gP μ (hC μ) 3) (mi m 1038 6) ∧ lst μ (gP μ (hC μ) 4) (mi m 1038 8) ∧ lst μ (gP μ (hC μ) 5) (mi m 1038 7) ∧ lst μ (gP μ (hC μ) 6) (mi m 1038 9) ∧ ci μ (hC μ) 2 = mi m 1038 11
def rThings (m : MM) (μ : gM) : Prop := ∀ t : Nat, (t : Int) < mi m 1038 7 → gK μ (thC μ t) = 9 ∧ ci μ (thC μ t) 1 = mi m 1041 (16 + 2 * t) ∧ ci μ (thC μ t) 3 = mi m 1041 (17 + 2 * t) ∧ (0 ≤ mi m 1041 (16 + 2 * t) ∧ mi m 1041 (16 + 2 * t) < mi m 1038 6) ∧ (0 ≤ mi m 1041 (17 + 2 * t) ∧ mi m 1041 (17 + 2 * t) ≤ 9)
def rTies (m : MM) (μ : gM) : Prop := ∀ k : Nat, (k : Int) < mi m 1038 9 → gK μ (tiC μ k) = 10 ∧ ci μ (tiC μ k) 0 = mi m 1043 (24 + 2 * k) ∧ ci μ (tiC μ k) 1 = mi m 1043 (25 + 2 * k) ∧ (0 ≤ mi m 1043 (24 + 2 * k) ∧ mi m 1043 (24 + 2 * k) < mi m 1038 7) ∧ (0 ≤ mi m 1043 (25 + 2 * k) ∧ mi m 1043 (25 + 2 * k) < mi m 1038 7)
def rHH (m : MM) (μ : gM) : Prop := rMany m ∧ rLists m μ ∧ rThings m μ ∧ rTies m μ
/-! lists -/
theorem c_size {μ : gM} {r : Nat} {n : Int} (h : lst μ r n) : cf_J2_size r μ = some (iI n, μ) := by
  unfold cf_J2_size
  rw [if_pos h.2.2.1, h.2.2.2.1]
theorem c_get {μ : gM} {r : Nat} {n : Int} (h : lst μ r n) (hn : n ≤ 2147483647) {i : Nat} (hi : (i : Int) < n) : cf_J2_get r (iI i) μ = some (el μ r i, μ) := by
  obtain ⟨a, b, c, d, e, f, g, k, j⟩ := h
  obtain ⟨j1, j2⟩ := j i hi
  have hg : gP μ (gP μ r 1) i ≠ 0 := j1
  unfold cf_J2_get cf_J6_checkIndex cf_J7_checkIndex cf_J2_elementData
  rw [if_pos c, d]
  simp (disch := omega) only [gz_let, Option.bind_some, iI_lit, iI_lt, gin_iI, ix_iI, if_pos c, if_pos e, if_pos g, if_neg, if_pos, Int.toNat_natCast, if_pos hg]
  rfl
section HH
variable {m : MM} {μ : gM}
theorem c_halls (h : rHH m μ) : cf_X0_halls μ = some (iI (mi m 1038 6), μ) := by
  obtain ⟨-, ⟨a, b, c, d, -⟩, -⟩ := h
  unfold cf_X0_halls
  simp only [gz_let, if_pos (show gP μ 1000 0 ≠ 0 from a), if_pos (show gK μ (gP μ 1000 0) = 2 from c), if_pos d.1, if_pos d.2.2.1, c_size d, Option.bind_some]
theorem c_things (h : rHH m μ) : cf_X0_things μ = some (iI (mi m 1038 7), μ) := by
  obtain ⟨-, ⟨a, b, c, -, -, d, -⟩, -⟩ := h
  unfold cf_X0_things
  simp only [gz_let, if_pos (show gP μ 1000 0 ≠ 0 from a), if_pos (show gK μ (gP μ 1000 0) = 2 from c), if_pos d.1, if_pos d.2.2.1, c_size d, Option.bind_some]
theorem c_ties (h : rHH m μ) : cf_X0_ties μ = some (iI (mi m 1038 9), μ) := by
  obtain ⟨-, ⟨a, b, c, -, -, -, d, -⟩, -⟩ := h
  unfold cf_X0_ties
  simp only [gz_let, if_pos (show gP μ 1000 0 ≠ 0 from a), if_pos (show gK μ (gP μ 1000 0) = 2 from c), if_pos d.1, if_pos d.2.2.1, c_size d, Option.bind_some]
theorem c_thingOf (h : rHH m μ) {t : Nat} (ht : (t : Int) < mi m 1038 7) : cf_X0_thingOf (iI t) μ = some (thC μ t, μ) := by
  have hT := h.2.2.1 t ht
  obtain ⟨hm, ⟨a, b, c, -, -, d, -⟩, -⟩ := h
  unfold cf_X0_thingOf
  simp only [gz_let, if_pos (show gP μ 1000 0 ≠ 0 from a), if_pos (show gK μ (gP μ 1000 0) = 2 from c), if_pos d.1, if_pos d.2.2.1, c_get d (by have := hm.2.1; omega) ht, Option.bind_some]
  exact if_pos hT.1
theorem c_tieOf (h : rHH m μ) {k : Nat} (ht : (k : Int) < mi m 1038 9) : cf_X0_tieOf (iI k) μ = some (tiC μ k, μ) := by
  have hT := h.2.2.2 k ht
  obtain ⟨hm, ⟨a, b, c, -, -, -, d, -⟩, -⟩ := h
  unfold cf_X0_tieOf
  simp only [gz_let, if_pos (show gP μ 1000 0 ≠ 0 from a), if_pos (show gK μ (gP μ 1000 0) = 2 from c), if_pos d.1, if_pos d.2.2.1, c_get d (by have := hm.2.2.2.1; omega) ht, Option.bind_some]
  exact if_pos hT.1
theorem c_isThing (h : rHH m μ) {z : Int} (hz : -2147483648 ≤ z ∧ z < 2147483648) : cf_X0_isThing (iI z) μ = some (if 0 ≤ z ∧ z < mi m 1038 7 then 1 else 0, μ) := by
  have hb := h.1.2.1
  unfold cf_X0_isThing mj_X0_isThing_16
  rw [c_things h]
  by_cases h1 : z < 0
  · simp (disch := omega) only [gz_let, Option.bind_some, Option.map_some, mi_of, ml_of, ci_of, cl_of, iI_lit, lL_lit, iI_neg, lL_neg, iI_add, iI_sub, iI_mul, lL_add, lL_sub, lL_mul, i2l_iI, l2i_lL, gin_iI, ix_iI, iI_le, iI_lt, iI_eq, lL_le, lL_lt, lL_eq, if_pos, if_neg, if_true, if_false]
  · by_cases h2 : z < mi m 1038 7
    · simp (disch := omega) only [gz_let, Option.bind_some, Option.map_some, mi_of, ml_of, ci_of, cl_of, iI_lit, lL_lit, iI_neg, lL_neg, iI_add, iI_sub, iI_mul, lL_add, lL_sub, lL_mul, i2l_iI, l2i_lL, gin_iI, ix_iI, iI_le, iI_lt, iI_eq, lL_le, lL_lt, lL_eq, if_pos, if_neg, if_true, if_false]
    · simp (disch := omega) only [gz_let, Option.bind_some, Option.map_some, mi_of, ml_of, ci_of, cl_of, iI_lit, lL_lit, iI_neg, lL_neg, iI_add, iI_sub, iI_mul, lL_add, lL_sub, lL_mul, i2l_iI, l2i_lL, gin_iI, ix_iI, iI_le, iI_lt, iI_eq, lL_le, lL_lt, lL_eq, if_pos, if_neg, if_true, if_false]
theorem c_isHall (h : rHH m μ) {z : Int} (hz : -2147483648 ≤ z ∧ z < 2147483648) : cf_X0_isHall (iI z) μ = some (if 0 ≤ z ∧ z < mi m 1038 6 then 1 else 0, μ) := by
  have hb := h.1.1
  unfold cf_X0_isHall mj_X0_isHall_16
  rw [c_halls h]
  by_cases h1 : z < 0
  · simp (disch := omega) only [gz_let, Option.bind_some, Option.map_some, mi_of, ml_of, ci_of, cl_of, iI_lit, lL_lit, iI_neg, lL_neg, iI_add, iI_sub, iI_mul, lL_add, lL_sub, lL_mul, i2l_iI, l2i_lL, gin_iI, ix_iI, iI_le, iI_lt, iI_eq, lL_le, lL_lt, lL_eq, if_pos, if_neg, if_true, if_false]
  · by_cases h2 : z < mi m 1038 6
    · simp (disch := omega) only [gz_let, Option.bind_some, Option.map_some, mi_of, ml_of, ci_of, cl_of, iI_lit, lL_lit, iI_neg, lL_neg, iI_add, iI_sub, iI_mul, lL_add, lL_sub, lL_mul, i2l_iI, l2i_lL, gin_iI, ix_iI, iI_le, iI_lt, iI_eq, lL_le, lL_lt, lL_eq, if_pos, if_neg, if_true, if_false]
    · simp (disch := omega) only [gz_let, Option.bind_some, Option.map_some, mi_of, ml_of, ci_of, cl_of, iI_lit, lL_lit, iI_neg, lL_neg, iI_add, iI_sub, iI_mul, lL_add, lL_sub, lL_mul, i2l_iI, l2i_lL, gin_iI, ix_iI, iI_le, iI_lt, iI_eq, lL_le, lL_lt, lL_eq, if_pos, if_neg, if_true, if_false]
theorem c_isTie (h : rHH m μ) {z : Int} (hz : -2147483648 ≤ z ∧ z < 2147483648) : cf_X0_isTie (iI z) μ = some (if 0 ≤ z ∧ z < mi m 1038 9 then 1 else 0, μ) := by
  have hb := h.1.2.2.2.1
  unfold cf_X0_isTie mj_X0_isTie_16
  rw [c_ties h]
  by_cases h1 : z < 0
  · simp (disch := omega) only [gz_let, Option.bind_some, Option.map_some, mi_of, ml_of, ci_of, cl_of, iI_lit, lL_lit, iI_neg, lL_neg, iI_add, iI_sub, iI_mul, lL_add, lL_sub, lL_mul, i2l_iI, l2i_lL, gin_iI, ix_iI, iI_le, iI_lt, iI_eq, lL_le, lL_lt, lL_eq, if_pos, if_neg, if_true, if_false]
  · by_cases h2 : z < mi m 1038 9
    · simp (disch := omega) only [gz_let, Option.bind_some, Option.map_some, mi_of, ml_of, ci_of, cl_of, iI_lit, lL_lit, iI_neg, lL_neg, iI_add, iI_sub, iI_mul, lL_add, lL_sub, lL_mul, i2l_iI, l2i_lL, gin_iI, ix_iI, iI_le, iI_lt, iI_eq, lL_le, lL_lt, lL_eq, if_pos, if_neg, if_true, if_false]
    · simp (disch := omega) only [gz_let, Option.bind_some, Option.map_some, mi_of, ml_of, ci_of, cl_of, iI_lit, lL_lit, iI_neg, lL_neg, iI_add, iI_sub, iI_mul, lL_add, lL_sub, lL_mul, i2l_iI, l2i_lL, gin_iI, ix_iI, iI_le, iI_lt, iI_eq, lL_le, lL_lt, lL_eq, if_pos, if_neg, if_true, if_false]
end HH
/-! the model's getters -/
section MG
variable {m : MM}
theorem p_hallMany : mf_hallMany m = some (iI (mi m 1038 6), m) := by
  unfold mf_hallMany
  simp (disch := omega) only [gz_let, Option.bind_some, Option.map_some, mi_of, ml_of, ci_of, cl_of, iI_lit, lL_lit, iI_neg, lL_neg, iI_add, iI_sub, iI_mul, lL_add, lL_sub, lL_mul, i2l_iI, l2i_lL, gin_iI, ix_iI, iI_le, iI_lt, iI_eq, lL_le, lL_lt, lL_eq, if_pos, if_neg, if_true, if_false]
  rfl
theorem p_thingMany : mf_thingMany m = some (iI (mi m 1038 7), m) := by
  unfold mf_thingMany
  simp (disch := omega) only [gz_let, Option.bind_some, Option.map_some, mi_of, ml_of, ci_of, cl_of, iI_lit, lL_lit, iI_neg, lL_neg, iI_add, iI_sub, iI_mul, lL_add, lL_sub, lL_mul, i2l_iI, l2i_lL, gin_iI, ix_iI, iI_le, iI_lt, iI_eq, lL_le, lL_lt, lL_eq, if_pos, if_neg, if_true, if_false]
  rfl
theorem p_tieMany : mf_tieMany m = some (iI (mi m 1038 9), m) := by
  unfold mf_tieMany
  simp (disch := omega) only [gz_let, Option.bind_some, Option.map_some, mi_of, ml_of, ci_of, cl_of, iI_lit, lL_lit, iI_neg, lL_neg, iI_add, iI_sub, iI_mul, lL_add, lL_sub, lL_mul, i2l_iI, l2i_lL, gin_iI, ix_iI, iI_le, iI_lt, iI_eq, lL_le, lL_lt, lL_eq, if_pos, if_neg, if_true, if_false]
  rfl
theorem p_isThing (h : rMany m) {z : Int} (hz : -2147483648 ≤ z ∧ z < 2147483648) : mf_isThing (lL z) m = some (if 0 ≤ z ∧ z < mi m 1038 7 then 1 else 0, m) := by
  have hb := h.2.1
  unfold mf_isThing
  rw [p_thingMany]
  simp (disch := omega) only [gz_let, Option.bind_some, Option.map_some, mi_of, ml_of, ci_of, cl_of, iI_lit, lL_lit, iI_neg, lL_neg, iI_add, iI_sub, iI_mul, lL_add, lL_sub, lL_mul, i2l_iI, l2i_lL, gin_iI, ix_iI, iI_le, iI_lt, iI_eq, lL_le, lL_lt, lL_eq, if_pos, if_neg, if_true, if_false, p_isIn]
  by_cases h1 : 0 ≤ z ∧ z < mi m 1038 7
  · rw [if_pos h1, if_pos (show 0 ≤ z ∧ z ≤ mi m 1038 7 - 1 by omega)]; rfl
  · rw [if_neg h1, if_neg (show ¬ (0 ≤ z ∧ z ≤ mi m 1038 7 - 1) by omega)]; rfl
theorem p_isHall (h : rMany m) {z : Int} (hz : -2147483648 ≤ z ∧ z < 2147483648) : mf_isHall (lL z) m = some (if 0 ≤ z ∧ z < mi m 1038 6 then 1 else 0, m) := by
  have hb := h.1
  unfold mf_isHall
  rw [p_hallMany]
  simp (disch := omega) only [gz_let, Option.bind_some, Option.map_some, mi_of, ml_of, ci_of, cl_of, iI_lit, lL_lit, iI_neg, lL_neg, iI_add, iI_sub, iI_mul, lL_add, lL_sub, lL_mul, i2l_iI, l2i_lL, gin_iI, ix_iI, iI_le, iI_lt, iI_eq, lL_le, lL_lt, lL_eq, if_pos, if_neg, if_true, if_false, p_isIn]
  by_cases h1 : 0 ≤ z ∧ z < mi m 1038 6
  · rw [if_pos h1, if_pos (show 0 ≤ z ∧ z ≤ mi m 1038 6 - 1 by omega)]; rfl
  · rw [if_neg h1, if_neg (show ¬ (0 ≤ z ∧ z ≤ mi m 1038 6 - 1) by omega)]; rfl
theorem p_isTie (h : rMany m) {z : Int} (hz : -2147483648 ≤ z ∧ z < 2147483648) : mf_isTie (iI z) m = some (if 0 ≤ z ∧ z < mi m 1038 9 then 1 else 0, m) := by
  have hb := h.2.2.2.1
  unfold mf_isTie
  rw [p_tieMany]
  simp (disch := omega) only [gz_let, Option.bind_some, Option.map_some, mi_of, ml_of, ci_of, cl_of, iI_lit, lL_lit, iI_neg, lL_neg, iI_add, iI_sub, iI_mul, lL_add, lL_sub, lL_mul, i2l_iI, l2i_lL, gin_iI, ix_iI, iI_le, iI_lt, iI_eq, lL_le, lL_lt, lL_eq, if_pos, if_neg, if_true, if_false, p_isIn]
  by_cases h1 : 0 ≤ z ∧ z < mi m 1038 9
  · rw [if_pos h1, if_pos (show 0 ≤ z ∧ z ≤ mi m 1038 9 - 1 by omega)]; rfl
  · rw [if_neg h1, if_neg (show ¬ (0 ≤ z ∧ z ≤ mi m 1038 9 - 1) by omega)]; rfl
theorem p_hallOf {t : Nat} (h : t < 8) : mf_hallOf (iI t) m = some (iI (mi m 1041 (16 + 2 * t)), m) := by
  unfold mf_hallOf
  simp (disch := omega) only [gz_let, Option.bind_some, Option.map_some, mi_of, ml_of, ci_of, cl_of, iI_lit, lL_lit, iI_neg, lL_neg, iI_add, iI_sub, iI_mul, lL_add, lL_sub, lL_mul, i2l_iI, l2i_lL, gin_iI, ix_iI, iI_le, iI_lt, iI_eq, lL_le, lL_lt, lL_eq, if_pos, if_neg, if_true, if_false]
  rw [show (16 + 2 * (t : Int)).toNat = 16 + 2 * t by omega]
theorem p_fromOf {k : Nat} (h : k < 12) : mf_fromOf (iI k) m = some (iI (mi m 1043 (24 + 2 * k)), m) := by
  unfold mf_fromOf
  simp (disch := omega) only [gz_let, Option.bind_some, Option.map_some, mi_of, ml_of, ci_of, cl_of, iI_lit, lL_lit, iI_neg, lL_neg, iI_add, iI_sub, iI_mul, lL_add, lL_sub, lL_mul, i2l_iI, l2i_lL, gin_iI, ix_iI, iI_le, iI_lt, iI_eq, lL_le, lL_lt, lL_eq, if_pos, if_neg, if_true, if_false]
  rw [show (24 + 2 * (k : Int)).toNat = 24 + 2 * k by omega]
theorem p_toOf {k : Nat} (h : k < 12) : mf_toOf (iI k) m = some (iI (mi m 1043 (25 + 2 * k)), m) := by
  unfold mf_toOf
  simp (disch := omega) only [gz_let, Option.bind_some, Option.map_some, mi_of, ml_of, ci_of, cl_of, iI_lit, lL_lit, iI_neg, lL_neg, iI_add, iI_sub, iI_mul, lL_add, lL_sub, lL_mul, i2l_iI, l2i_lL, gin_iI, ix_iI, iI_le, iI_lt, iI_eq, lL_le, lL_lt, lL_eq, if_pos, if_neg, if_true, if_false]
  rw [show (25 + 2 * (k : Int)).toNat = 25 + 2 * k by omega]
theorem p_strengthOf {t : Nat} (h : t < 8) : mf_strengthOf (iI t) m = some (iI (mi m 1051 (14 + 2 * t)), m) := by
  unfold mf_strengthOf
  simp (disch := omega) only [gz_let, Option.bind_some, Option.map_some, mi_of, ml_of, ci_of, cl_of, iI_lit, lL_lit, iI_neg, lL_neg, iI_add, iI_sub, iI_mul, lL_add, lL_sub, lL_mul, i2l_iI, l2i_lL, gin_iI, ix_iI, iI_le, iI_lt, iI_eq, lL_le, lL_lt, lL_eq, if_pos, if_neg, if_true, if_false]
  rw [show (14 + 2 * (t : Int)).toNat = 14 + 2 * t by omega]
theorem p_smellOf {t : Nat} (h : t < 8) : mf_smellOf (iI t) m = some (iI (mi m 1051 (15 + 2 * t)), m) := by
  unfold mf_smellOf
  simp (disch := omega) only [gz_let, Option.bind_some, Option.map_some, mi_of, ml_of, ci_of, cl_of, iI_lit, lL_lit, iI_neg, lL_neg, iI_add, iI_sub, iI_mul, lL_add, lL_sub, lL_mul, i2l_iI, l2i_lL, gin_iI, ix_iI, iI_le, iI_lt, iI_eq, lL_le, lL_lt, lL_eq, if_pos, if_neg, if_true, if_false]
  rw [show (15 + 2 * (t : Int)).toNat = 15 + 2 * t by omega]
theorem p_doesHold {k : Nat} (h : k < 12) : mf_doesHold (iI k) m = some (if mi m 1051 (2 + k) = 1 then 1 else 0, m) := by
  have := mi_r m 1051 (2 + k)
  unfold mf_doesHold
  simp (disch := omega) only [gz_let, Option.bind_some, Option.map_some, mi_of, ml_of, ci_of, cl_of, iI_lit, lL_lit, iI_neg, lL_neg, iI_add, iI_sub, iI_mul, lL_add, lL_sub, lL_mul, i2l_iI, l2i_lL, gin_iI, ix_iI, iI_le, iI_lt, iI_eq, lL_le, lL_lt, lL_eq, if_pos, if_neg, if_true, if_false]
  rw [show (2 + (k : Int)).toNat = 2 + k by omega]
  simp (disch := omega) only [iI_eq]
  split <;> rfl
theorem p_doesBurn {t : Nat} (h : t < 8) : mf_doesBurn (iI t) m = some (if 0 < mi m 1051 (14 + 2 * t) then 1 else 0, m) := by
  have := mi_r m 1051 (14 + 2 * t)
  unfold mf_doesBurn
  rw [p_strengthOf h]
  simp (disch := omega) only [gz_let, Option.bind_some, Option.map_some, mi_of, ml_of, ci_of, cl_of, iI_lit, lL_lit, iI_neg, lL_neg, iI_add, iI_sub, iI_mul, lL_add, lL_sub, lL_mul, i2l_iI, l2i_lL, gin_iI, ix_iI, iI_le, iI_lt, iI_eq, lL_le, lL_lt, lL_eq, if_pos, if_neg, if_true, if_false]
  split
  · rw [if_neg (by omega)]
  · rw [if_pos (by omega)]
end MG
