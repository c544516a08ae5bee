/-! ===== what is, is remembered ===== -/
theorem mod20 : ∀ p : Nat, p < 20 → (iI p + (1 : Int32)) - (iI p + (1 : Int32)) / (20 : Int32) * (20 : Int32) = iI (((p + 1) % 20 : Nat) : Int) := by decide +kernel
theorem p_keeps {m : MM} {n p : Nat} (hn : n ≤ 20) (hp : p < 20) (h68 : m.1 2000 68 = iI n) (h69 : m.1 2000 69 = iI p) : pw (mf_keeps m) (fun q => q.2.1 2000 69 = iI (((p + 1) % 20 : Nat) : Int) ∧ q.2.1 2000 68 = iI ((if n = 20 then 20 else n + 1 : Nat) : Int) ∧ (∀ j : Nat, q.2.1 1068 j = if 151 * ((p + 1) % 20) ≤ j ∧ j < 151 * ((p + 1) % 20) + 151 then m.1 1051 (j - 151 * ((p + 1) % 20)) else m.1 1068 j) ∧ (∀ c j : Nat, ¬ (c = 1068 ∨ (c = 2000 ∧ (j = 68 ∨ j = 69))) → q.2.1 c j = m.1 c j) ∧ q.2.2 = m.2) := by
  have hr : (p + 1) % 20 < 20 := Nat.mod_lt _ (by omega)
  unfold mf_keeps
  rw [h69, mod20 p hp]
  generalize hq : (p + 1) % 20 = r at hr
  refine pw_let ?_
  unfold ml_X6_keeps_15
  refine pw_for (fun (i : Nat) (q : Int32 × MM) => q.1 = iI i ∧ q.2.1 2000 69 = iI r ∧ q.2.1 2000 68 = iI n ∧ (∀ j : Nat, q.2.1 1068 j = if 151 * r ≤ j ∧ j < 151 * r + i then m.1 1051 (j - 151 * r) else m.1 1068 j) ∧ (∀ c j : Nat, ¬ (c = 1068 ∨ (c = 2000 ∧ (j = 68 ∨ j = 69))) → q.2.1 c j = m.1 c j) ∧ q.2.2 = m.2) 151 ?_ ?_ ⟨rfl, ?_, ?_, fun j => ?_, fun c j hc => ?_, rfl⟩
  · rintro i ⟨y, a⟩ hi ⟨rfl, a1, a2, a3, a4, a5⟩
    dsimp only at a1 a2 a3 a4 a5 ⊢
    have e1 : iI (i : Int) + (1 : Int32) = iI ((i + 1 : Nat) : Int) := by rw [iI_lit, iI_add]; rfl
    have e2 : (151 : Int32) * iI r + iI i = iI (151 * r + i) := by rw [iI_lit, iI_mul, iI_add]
    have g2 : gz_ix (iI (151 * (r : Int) + i)) = 151 * r + i := by rw [gix (by omega)]; omega
    have gi : gz_ix (iI (i : Int)) = i := by rw [gix (by omega)]; omega
    unfold mb_X6_keeps_15
    rw [a1]
    simp only [gz_let, e1, e2, g2, gi]
    refine pw_f (by rw [iI_lit, iI_le (by omega) (by omega)]; omega) (pw_gu ((gin_iI (by omega)).2 (by omega)) (pw_gu ((gin_iI (by omega)).2 (by omega)) (pw_some ⟨rfl, ?_, ?_, fun j => ?_, fun c j hc => ?_, a5⟩)))
    · dsimp only
      rw [msI_i, if_neg (by omega)]; exact a1
    · dsimp only
      rw [msI_i, if_neg (by omega)]; exact a2
    · dsimp only
      rw [msI_i]
      by_cases q : j = 151 * r + i
      · rw [if_pos ⟨rfl, q⟩, if_pos (by omega), a4 _ _ (by omega), q, show 151 * r + i - 151 * r = i by omega]
      · rw [if_neg (fun z => q z.2), a3]
        by_cases q2 : 151 * r ≤ j ∧ j < 151 * r + i
        · rw [if_pos q2, if_pos (by omega)]
        · rw [if_neg q2, if_neg (by omega)]
    · dsimp only
      rw [msI_i, if_neg (by omega)]; exact a4 c j hc
  · rintro ⟨y, a⟩ ⟨rfl, a1, a2, a3, a4, a5⟩
    dsimp only at a1 a2 a3 a4 a5 ⊢
    unfold mb_X6_keeps_15
    refine pw_t (by rw [iI_lit, iI_le (by omega) (by omega)]; omega) ?_
    rw [a2]
    by_cases q : n = 20
    · refine pw_t (by rw [q]; decide) (pw_some ⟨a1, ?_, a3, a4, a5⟩)
      rw [if_pos q, a2, q]
    · refine pw_f (by rw [iI_lit, iI_le (by omega) (by omega)]; omega) (pw_let (pw_some ⟨?_, ?_, fun j => ?_, fun c j hc => ?_, a5⟩))
      · dsimp only
        rw [msI_i, if_neg (by omega)]; exact a1
      · dsimp only
        rw [msI_i, if_pos ⟨rfl, rfl⟩, if_neg q, iI_lit, iI_add]
        rfl
      · dsimp only
        rw [msI_i, if_neg (by omega)]; exact a3 j
      · dsimp only
        rw [msI_i, if_neg (by omega)]; exact a4 c j hc
  · show (msI m 2000 69 (iI r)).1 2000 69 = _
    rw [msI_i, if_pos ⟨rfl, rfl⟩]
  · show (msI m 2000 69 (iI r)).1 2000 68 = _
    rw [msI_i, if_neg (by omega)]; exact h68
  · show (msI m 2000 69 (iI r)).1 1068 j = _
    rw [msI_i, if_neg (by omega), if_neg (by omega)]
  · show (msI m 2000 69 (iI r)).1 c j = _
    rw [msI_i, if_neg (by omega)]
