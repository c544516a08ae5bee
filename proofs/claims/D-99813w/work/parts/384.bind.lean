/-! ===== ties are bound and undone ===== -/
def tiM (m : MM) (k : Nat) (v : Int) : MM := (fun c j => if c = 1051 ∧ j = 2 + k then iI v else m.1 c j, m.2)
theorem tiM_at (m : MM) (k : Nat) (v : Int) (c j : Nat) : (tiM m k v).1 c j = if c = 1051 ∧ j = 2 + k then iI v else m.1 c j := rfl
theorem tiM_o (m : MM) {k : Nat} (v : Int) {c j : Nat} (h : ¬ (c = 1051 ∧ j = 2 + k)) : mi (tiM m k v) c j = mi m c j := congrArg Int32.toInt (if_neg h)
theorem tiM_k (m : MM) (k : Nat) {v : Int} (hv : v = 0 ∨ v = 1) : mi (tiM m k v) 1051 (2 + k) = v := by
  show Int32.toInt (if (1051 : Nat) = 1051 ∧ 2 + k = 2 + k then iI v else m.1 1051 (2 + k)) = v
  rw [if_pos ⟨rfl, rfl⟩]
  exact toInt_iI (by omega) (by omega)
theorem okN.ti {m : MM} (h : okN m) {k : Nat} (hk : k < 12) (v : Int) : okN (tiM m k v) := by
  obtain ⟨h1, h2, h3, h4⟩ := h
  refine ⟨by rw [tiM_o m v (by omega)]; exact h1, fun s hs => ?_, by rw [tiM_o m v (by omega)]; exact h3, fun s hs => ?_⟩
  · rw [tiM_o m v (by omega), tiM_o m v (by omega)]; exact h2 s hs
  · rw [tiM_o m v (by omega)] at hs
    rw [tiM_o m v (by omega), tiM_o m v (by omega)]
    exact h4 s hs
theorem rSt.ti {m : MM} {μ : gM} (h : rSt m μ 1027) (hm : rMany m) {k : Nat} (hk : (k : Int) < mi m 1038 9) {v : Int} (hv : v = 0 ∨ v = 1) (hne : mi m 1051 (2 + k) ≠ v) (h01 : mi m 1051 (2 + k) = 0 ∨ mi m 1051 (2 + k) = 1) : rSt (tiM m k v) (gz_sI μ 1027 3 (gI μ 1027 3 ^^^ ((1 : Int32) <<< (iI k &&& 31)))) 1027 := by
  have hb := hm.2.2.2.1
  have hb7 := hm.2.1
  obtain ⟨s1, s2, s3, s4, s5⟩ := h
  refine ⟨?_, ?_, fun i hi => ?_, fun i hi hi2 => ?_, fun t ht => ?_⟩
  · rw [sI_i, if_neg (by omega), tiM_at, if_neg (by omega)]; exact s1
  · rw [sI_i, if_neg (by omega), tiM_at, if_neg (by omega)]; exact s2
  · rw [tiM_o m v (by omega)] at hi
    rw [sI_i, if_pos ⟨rfl, rfl⟩, b_xor, bt_1t (by omega) (by omega), s3 i hi]
    by_cases w : i = k
    · subst w
      rw [tiM_k m i hv, decide_eq_true (show i = i from rfl)]
      rcases hv with z | z <;> subst z
      · rw [decide_eq_true (show mi m 1051 (2 + i) = 1 by omega)]; rfl
      · rw [decide_eq_false hne]; rfl
    · rw [tiM_o m v (by omega), decide_eq_false w, Bool.xor_false]
  · rw [tiM_o m v (by omega)] at hi2
    rw [sI_i, if_pos ⟨rfl, rfl⟩, b_xor, bt_1t (by omega) (by omega), s4 i hi hi2, decide_eq_false (by omega)]
    rfl
  · rw [tiM_o m v (by omega)] at ht
    unfold heatS ci
    rw [sI_i, if_neg (by omega), sI_i, if_neg (by omega), sI_i, if_neg (by omega), tiM_at, if_neg (by omega), tiM_at, if_neg (by omega), tiM_o m v (by omega), tiM_o m v (by omega), tiM_o m v (by omega)]
    exact s5 t ht
