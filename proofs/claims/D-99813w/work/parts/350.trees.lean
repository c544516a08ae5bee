/-! ===== sums as trees in the component's memory, and the codes that they stand for ===== -/
def prt (w : Int) : Int := if w = 4 then 6 else if w = 5 then 4 else if w = 6 then 5 else w
def sgn (g : Int) : Int := if g = 1 then 43 else if g = 2 then 45 else if g = 3 then 42 else 47
def chC (f : Nat → List Int) (g : Nat → Int) : Nat → List Int
  | 0 => f 0
  | n + 1 => chC f g n ++ (f (n + 1) ++ [g (n + 1)])
/-- a builder of n signs -/
def sbR (μ : gM) (b n : Nat) (g : Nat → Int) : Prop := b ≠ 0 ∧ ks b = 0 ∧ gK μ b = 23 ∧ gI μ b 1 = iI 0 ∧ gI μ b 3 = iI n ∧ gP μ b 0 ≠ 0 ∧ ks (gP μ b 0) = 0 ∧ gK μ (gP μ b 0) = 102 ∧ n ≤ gN μ (gP μ b 0) ∧ gN μ (gP μ b 0) < 2147483648 ∧ ∀ i : Nat, i < n → gI μ (gP μ b 0) i = iI (sgn (g i))
def vRep (al : Int → Prop) (lo : Bool) : Nat → gM → Nat → List Int → Prop
  | 0, _, _, _ => False
  | d + 1, μ, r, cs => r ≠ 0 ∧ ks r = 0 ∧ (
      (gK μ r = 13 ∧ ∃ v : Int, (0 ≤ v ∧ v ≤ 9999) ∧ gL μ r 0 = lL v ∧ cs = [1000 + v]) ∨
      (gK μ r = 14 ∧ ∃ w : Int, (0 ≤ w ∧ w ≤ 6) ∧ al w ∧ gI μ r 0 = iI w ∧ cs = [40 + prt w]) ∨
      (gK μ r = 12 ∧ ∃ (c1 c2 : List Int) (k : Int), (k = 0 ∨ k = 1) ∧ gI μ r 0 = iI k ∧ vRep al lo d μ (gP μ r 1) c1 ∧ vRep al lo d μ (gP μ r 2) c2 ∧ cs = c1 ++ (c2 ++ [5 + k])) ∨
      (gK μ r = 15 ∧ lo = true ∧ ∃ (c1 : List Int) (k : Int), (k = 0 ∨ k = 1) ∧ gI μ r 0 = iI k ∧ gP μ r 2 = 1000 ∧ vRep al lo d μ (gP μ r 1) c1 ∧ cs = c1 ++ [60 + k]) ∨
      (gK μ r = 11 ∧ ∃ (n : Nat) (f : Nat → List Int) (g : Nat → Int), n < 100000 ∧ lst μ (gP μ r 0) (n + 1 : Nat) ∧ (∀ i : Nat, i ≤ n → vRep al lo d μ (el μ (gP μ r 0) i) (f i)) ∧ sbR μ (gP μ r 1) (n + 1) g ∧ (∀ i : Nat, 1 ≤ i → i ≤ n → 1 ≤ g i ∧ g i ≤ 4) ∧ cs = chC f g n))
theorem qT_ch {f : Nat → List Int} {g : Nat → Int} : ∀ (n : Nat), (∀ i : Nat, i ≤ n → qT (f i) [] [false]) → (∀ i : Nat, 1 ≤ i → i ≤ n → 1 ≤ g i ∧ g i ≤ 4) → qT (chC f g n) [] [false]
  | 0, h, _ => h 0 (Nat.le_refl _)
  | n + 1, h, hg => by
    have h1 := qT_ch n (fun i hi => h i (by omega)) (fun i h1 h2 => hg i h1 (by omega))
    have h2 := qT_under [false] (h (n + 1) (Nat.le_refl _))
    have h3 := hg (n + 1) (by omega) (Nat.le_refl _)
    refine qT_app h1 (qT_app h2 (Or.inl ⟨by omega, [], rfl, rfl⟩))
theorem vRep_T {al : Int → Prop} {lo : Bool} : ∀ (d : Nat) {μ : gM} {r : Nat} {cs : List Int}, vRep al lo d μ r cs → qT cs [] [false]
  | 0, _, _, _, h => h.elim
  | d + 1, μ, r, cs, ⟨_, _, h⟩ => by
    rcases h with ⟨_, v, hv, _, e⟩ | ⟨_, w, hw, _, _, e⟩ | ⟨_, c1, c2, k, hk, _, h1, h2, e⟩ | ⟨_, _, c1, k, hk, _, _, h1, e⟩ | ⟨_, n, f, g, _, _, hf, _, hg, e⟩
    · subst e
      exact Or.inr (Or.inr (Or.inr (Or.inr (Or.inr (Or.inl ⟨Or.inr (by omega), rfl⟩)))))
    · subst e
      refine Or.inr (Or.inr (Or.inr (Or.inr (Or.inr (Or.inl ⟨Or.inl ?_, rfl⟩)))))
      unfold prt
      repeat' split
      all_goals omega
    · subst e
      exact qT_app (vRep_T d h1) (qT_app (qT_under [false] (vRep_T d h2)) (Or.inl ⟨by omega, [], rfl, rfl⟩))
    · subst e
      exact qT_app (vRep_T d h1) (Or.inr (Or.inr (Or.inr (Or.inr (Or.inr (Or.inr ⟨by omega, [], rfl, rfl⟩))))))
    · subst e
      exact qT_ch n (fun i hi => vRep_T d (hf i hi)) hg
theorem no_ch {f : Nat → List Int} {g : Nat → Int} : ∀ (n : Nat), (∀ i : Nat, i ≤ n → ∀ c ∈ f i, c < 60 ∨ 1000 ≤ c) → (∀ i : Nat, 1 ≤ i → i ≤ n → 1 ≤ g i ∧ g i ≤ 4) → ∀ c ∈ chC f g n, c < 60 ∨ 1000 ≤ c
  | 0, h, _ => h 0 (Nat.le_refl _)
  | n + 1, h, hg => by
    intro c hc
    rcases List.mem_append.mp hc with hc | hc
    · exact no_ch n (fun i hi => h i (by omega)) (fun i h1 h2 => hg i h1 (by omega)) c hc
    · rcases List.mem_append.mp hc with hc | hc
      · exact h (n + 1) (Nat.le_refl _) c hc
      · rw [List.mem_singleton.mp hc]
        have := hg (n + 1) (by omega) (Nat.le_refl _)
        omega
theorem vRep_no {al : Int → Prop} : ∀ (d : Nat) {μ : gM} {r : Nat} {cs : List Int}, vRep al false d μ r cs → ∀ c ∈ cs, c < 60 ∨ 1000 ≤ c
  | 0, _, _, _, h => h.elim
  | d + 1, μ, r, cs, ⟨_, _, h⟩ => by
    rcases h with ⟨_, v, hv, _, e⟩ | ⟨_, w, hw, _, _, e⟩ | ⟨_, c1, c2, k, hk, _, h1, h2, e⟩ | ⟨_, hlo, _⟩ | ⟨_, n, f, g, _, _, hf, _, hg, e⟩
    · subst e
      intro c hc
      rw [List.mem_singleton.mp hc]; omega
    · subst e
      intro c hc
      rw [List.mem_singleton.mp hc]
      left
      unfold prt
      repeat' split
      all_goals omega
    · subst e
      intro c hc
      rcases List.mem_append.mp hc with hc | hc
      · exact vRep_no d h1 c hc
      · rcases List.mem_append.mp hc with hc | hc
        · exact vRep_no d h2 c hc
        · rw [List.mem_singleton.mp hc]; omega
    · exact absurd hlo (by decide)
    · subst e
      exact no_ch n (fun i hi => vRep_no d (hf i hi)) hg
/-! small things -/
theorem c_held {z : Int} (μ : gM) (h : -9223372036854775808 ≤ z ∧ z < 9223372036854775808) : cf_X0_held (lL z) μ = some (lL (clp z), μ) := by
  unfold cf_X0_held cf_J8_min_2 cf_J8_max_2 clp
  by_cases h1 : 1000000 < z
  · simp (disch := omega) only [gz_let, Option.bind_some, Option.map_some, mi_of, ml_of, ci_of, cl_of, iI_lit, lL_lit, iI_neg, lL_neg, iI_add, iI_sub, iI_mul, lL_add, lL_sub, lL_mul, i2l_iI, l2i_lL, gin_iI, ix_iI, iI_le, iI_lt, iI_eq, lL_le, lL_lt, lL_eq, if_pos, if_neg, if_true, if_false]
  · by_cases h2 : z < -1000000
    · simp (disch := omega) only [gz_let, Option.bind_some, Option.map_some, mi_of, ml_of, ci_of, cl_of, iI_lit, lL_lit, iI_neg, lL_neg, iI_add, iI_sub, iI_mul, lL_add, lL_sub, lL_mul, i2l_iI, l2i_lL, gin_iI, ix_iI, iI_le, iI_lt, iI_eq, lL_le, lL_lt, lL_eq, if_pos, if_neg, if_true, if_false]
    · by_cases h3 : z = 1000000
      · subst h3
        rfl
      · by_cases h4 : z = -1000000
        · subst h4
          rfl
        · simp (disch := omega) only [gz_let, Option.bind_some, Option.map_some, mi_of, ml_of, ci_of, cl_of, iI_lit, lL_lit, iI_neg, lL_neg, iI_add, iI_sub, iI_mul, lL_add, lL_sub, lL_mul, i2l_iI, l2i_lL, gin_iI, ix_iI, iI_le, iI_lt, iI_eq, lL_le, lL_lt, lL_eq, if_pos, if_neg, if_true, if_false]
theorem lL_xor {a b : Int} (ha : -1000000 ≤ a ∧ a ≤ 1000000) (hb : -1000000 ≤ b ∧ b ≤ 1000000) : ((0 : Int64) ≤ (lL a ^^^ lL b)) ↔ (0 ≤ a ↔ 0 ≤ b) := by
  have m1 : ∀ z : Int, (-1000000 ≤ z ∧ z ≤ 1000000) → (lL z).toBitVec.msb = decide (z < 0) := by
    intro z hz
    rw [BitVec.msb_eq_toInt]
    show decide ((lL z).toInt < 0) = _
    rw [toInt_lL (by omega) (by omega)]
  rw [Int64.le_iff_toInt_le]
  have h1 := BitVec.msb_eq_toInt (x := (lL a ^^^ lL b).toBitVec)
  rw [Int64.toBitVec_xor, BitVec.msb_xor, m1 a ha, m1 b hb] at h1
  have h2 : (lL a ^^^ lL b).toInt = ((lL a).toBitVec ^^^ (lL b).toBitVec).toInt := by rw [← Int64.toBitVec_xor]; rfl
  rw [h2]
  show (0 : Int) ≤ _ ↔ _
  by_cases c : ((lL a).toBitVec ^^^ (lL b).toBitVec).toInt < 0
  · have h3 : (decide (a < 0) ^^ decide (b < 0)) = true := by rw [h1]; exact decide_eq_true c
    constructor
    · intro; omega
    · intro h4
      exfalso
      by_cases p : a < 0 <;> by_cases q : b < 0 <;> simp [p, q] at h3 <;> omega
  · have h3 : (decide (a < 0) ^^ decide (b < 0)) = false := by rw [h1]; exact decide_eq_false c
    constructor
    · intro
      by_cases p : a < 0 <;> by_cases q : b < 0 <;> simp [p, q] at h3 <;> omega
    · intro; omega
theorem c_floorDiv {a b : Int} (μ : gM) (ha : -1000000 ≤ a ∧ a ≤ 1000000) (hb : -1000000 ≤ b ∧ b ≤ 1000000) (h0 : b ≠ 0) : cf_J8_floorDiv (lL a) (lL b) μ = some (lL (fdv a b), μ) := by
  have h1 := tdiv_b (a := a) (b := b) (k := 1000000) (by omega)
  have hm : (a - a.tdiv b * b).natAbs ≤ 1000000 := by
    have : a - a.tdiv b * b = a.tmod b := by rw [Int.tmod_def, Int.mul_comm]
    rw [this, Int.natAbs_tmod]
    exact Nat.le_trans (Nat.mod_le _ _) (by omega)
  unfold cf_J8_floorDiv mj_J8_floorDiv_27 fdv
  rw [lL_div ha hb, if_neg h0]
  simp only [gz_let, lL_mul]
  rw [if_pos (by rw [show (0 : Int64) = lL 0 from lL_lit 0, lL_eq (by omega) (by omega)]; exact h0)]
  by_cases hx : (0 ≤ a ↔ 0 ≤ b)
  · rw [if_pos ((lL_xor ha hb).mpr hx)]
    by_cases h2 : a - a.tdiv b * b = 0
    · rw [if_pos h2]
    · rw [if_neg h2, if_pos (by omega)]
  · rw [if_neg (fun q => hx ((lL_xor ha hb).mp q))]
    simp (disch := omega) only [lL_eq]
    by_cases h2 : a - a.tdiv b * b = 0
    · rw [if_pos (by omega), if_pos h2]
    · rw [if_neg (by omega), if_neg h2, if_neg (by omega), lL_lit, lL_sub]
