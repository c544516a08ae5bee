/-- as the image tells it -/
def onS (m : MM) : MM := (fun c j => if c = 1051 ∧ j = 0 then iI (256 * iB m 0 + iB m 1) else if c = 1051 ∧ j = 1 then iI (iB m 2) else if c = 1051 ∧ 2 ≤ j ∧ j < 2 + ties m then iI (iB m (1 + j)) else if c = 1051 ∧ 14 ≤ j ∧ j < 14 + 2 * things m then iI (iB m (3 + ties m + (j - 14))) else m.1 c j, m.2)
theorem onS_at (m : MM) (c j : Nat) : (onS m).1 c j = if c = 1051 ∧ j = 0 then iI (256 * iB m 0 + iB m 1) else if c = 1051 ∧ j = 1 then iI (iB m 2) else if c = 1051 ∧ 2 ≤ j ∧ j < 2 + ties m then iI (iB m (1 + j)) else if c = 1051 ∧ 14 ≤ j ∧ j < 14 + 2 * things m then iI (iB m (3 + ties m + (j - 14))) else m.1 c j := rfl
theorem onS_o (m : MM) {c : Nat} (j : Nat) (h : c ≠ 1051) : (onS m).1 c j = m.1 c j := by
  rw [onS_at, if_neg (fun w => h w.1), if_neg (fun w => h w.1), if_neg (fun w => h w.1), if_neg (fun w => h w.1)]
theorem onS_mo (m : MM) {c : Nat} (j : Nat) (h : c ≠ 1051) : mi (onS m) c j = mi m c j := congrArg Int32.toInt (onS_o m j h)
theorem onS_k (m : MM) {k : Nat} (hk : k < ties m) : (onS m).1 1051 (2 + k) = iI (iB m (3 + k)) := by
  rw [onS_at, if_neg (by omega), if_neg (by omega), if_pos (by omega), show 1 + (2 + k) = 3 + k by omega]
theorem onS_st (m : MM) (hK : ties m ≤ 12) {t : Nat} (ht : t < things m) : (onS m).1 1051 (14 + 2 * t) = iI (iB m (3 + ties m + 2 * t)) ∧ (onS m).1 1051 (15 + 2 * t) = iI (iB m (3 + ties m + 2 * t + 1)) := by
  constructor
  · rw [onS_at, if_neg (by omega), if_neg (by omega), if_neg (by omega), if_pos (by omega), show 3 + ties m + (14 + 2 * t - 14) = 3 + ties m + 2 * t by omega]
  · rw [onS_at, if_neg (by omega), if_neg (by omega), if_neg (by omega), if_pos (by omega), show 3 + ties m + (15 + 2 * t - 14) = 3 + ties m + 2 * t + 1 by omega]
def coI (n : Nat) (m : MM) (μ : gM) (i t : Nat) (μ' : gM) : Prop := cSc μ μ' ∧ rowOK μ' 1073 ∧ gI μ' 1073 0 = iI (256 * iB m 0 + iB m 1) ∧ gI μ' 1073 1 = 0 ∧ gI μ' 1073 2 = iI (iB m 2) ∧ (∀ j : Nat, j < 32 → bt (gI μ' 1073 3) j = decide (j < i ∧ iB m (3 + j) = 1)) ∧ (∀ k : Nat, k < i → iB m (3 + k) ≤ 1) ∧ (∀ s : Nat, s < things m → ci μ' 1077 s = heatS m s) ∧ ∀ s : Nat, s < t → gI μ' 1074 s = iI (iB m (3 + ties m + 2 * s)) ∧ gI μ' 1076 s = iI (iB m (3 + ties m + 2 * s + 1)) ∧ iB m (3 + ties m + 2 * s) ≤ 99 ∧ iB m (3 + ties m + 2 * s + 1) ≤ (if 0 < iB m (3 + ties m + 2 * s) then 0 else 99)
theorem c_on2 {n : Nat} {l : List (Int × Int × Int)} {m : MM} {μ : gM} (h : rCo l m μ) (hT : rTape n m μ) {μ1 : gM} (h1 : coI n m μ (ties m) 0 μ1) : pw (ml_X0_comesOn_182 (iI ((3 + ties m : Nat) : Int)) (0 : Int32) μ1) (fun q => (q.1 = 1 ∧ coI n m μ (ties m) (things m) q.2) ∨ (q.1 = 0 ∧ cSc μ q.2 ∧ rowOK q.2 1073 ∧ ¬ ∀ t : Nat, t < things m → iB m (3 + ties m + 2 * t) ≤ 99 ∧ iB m (3 + ties m + 2 * t + 1) ≤ (if 0 < iB m (3 + ties m + 2 * t) then 0 else 99))) := by
  obtain ⟨q1, q2, q3, q4, q5, q6, q7, q8, q9, q10, q11, q12, q13⟩ := h
  have b7 := q2.1.2.1
  have b9 := q2.1.2.2.2.1
  have hT8 : things m ≤ 8 := by unfold things; omega
  have hK : ties m ≤ 12 := by unfold ties; omega
  have eT : mi m 1038 7 = things m := by unfold things; omega
  have hh : ∀ {μ' : gM}, cSc μ μ' → rHH m μ' := fun w => q2.mv (hhE.refl m) w.dy (w.2.2.2.2.2 _ _ (by omega))
  have tp : ∀ {μ' : gM}, cSc μ μ' → ∀ k : Nat, k < 1600 → cf_X0_byteAt (iI k) μ' = some (iI (iB m k), μ') := by
    intro μ' w k hk
    have gk : gz_ix (iI (k : Int)) = k := by rw [gix (by omega)]; omega
    unfold cf_X0_byteAt
    rw [if_pos ((gin_iI (by omega)).2 (by omega)), gk, w.2.2.2.1 _ _ (by unfold scC; omega), (hT.1 k hk).1.1, mi_of m]
    rfl
  have hB : ∀ k : Nat, k < 1600 → 0 ≤ iB m k ∧ iB m k < 256 := fun k hk => (hT.1 k hk).2
  unfold ml_X0_comesOn_182
  refine pw_for (fun (i : Nat) (q : Int32 × Int32 × gM) => q.1 = iI ((3 + ties m : Nat) : Int) ∧ q.2.1 = iI i ∧ coI n m μ (ties m) i q.2.2) (things m) ?_ ?_ ⟨rfl, rfl, h1⟩
  · rintro i ⟨s1, s2, μ'⟩ hi ⟨rfl, rfl, w⟩
    dsimp only at w ⊢
    obtain ⟨w1, w2, w3, w4, w5, w6, w7, w8, w9⟩ := w
    have gi : gz_ix (iI (i : Int)) = i := by rw [gix (by omega)]; omega
    have ei : iI (i : Int) + (1 : Int32) = iI ((i + 1 : Nat) : Int) := by rw [iI_lit, iI_add]; rfl
    have ea : iI ((3 + ties m : Nat) : Int) + (2 : Int32) * iI (i : Int) = iI ((3 + ties m + 2 * i : Nat) : Int) := by rw [iI_lit, iI_mul, iI_add]; exact congrArg iI (by omega)
    have ea1 : iI ((3 + ties m + 2 * i : Nat) : Int) + (1 : Int32) = iI ((3 + ties m + 2 * i + 1 : Nat) : Int) := by rw [iI_lit, iI_add]; exact congrArg iI (by omega)
    have b0 := hB (3 + ties m + 2 * i) (by omega)
    have b1 := hB (3 + ties m + 2 * i + 1) (by omega)
    have hin : gz_in (iI (i : Int)) 8 := (gin_iI (by omega)).2 (by omega)
    have c1 : ∀ (c j : Nat) (v : Int32) {μ'' : gM}, cSc μ μ'' → (c = 1074 ∨ c = 1076) → cSc μ (gz_sI μ'' c j v) := fun c j v μ'' x y => x.trans ⟨rfl, rfl, rfl, fun c' j' k => by rw [sI_i, if_neg (by unfold scC at k; omega)], fun _ _ _ _ => rfl, fun _ _ _ => rfl⟩
    unfold mb_X0_comesOn_182
    rw [c_things (hh w1)]
    simp only [Option.bind_some, gz_let, ea, ea1, gi, eT]
    refine pw_f (by rw [iI_le (by omega) (by omega)]; omega) ?_
    rw [tp w1 _ (by omega)]
    simp only [Option.bind_some]
    refine pw_gu hin ?_
    have k1 := c1 1074 i (iI (iB m (3 + ties m + 2 * i))) w1 (Or.inl rfl)
    rw [tp k1 _ (by omega)]
    simp only [Option.bind_some]
    refine pw_gu hin ?_
    have k2 := c1 1076 i (iI (iB m (3 + ties m + 2 * i + 1))) k1 (Or.inr rfl)
    rw [tp k2 _ (by omega)]
    simp only [Option.bind_some]
    have rw2 : rowOK (gz_sI (gz_sI μ' 1074 i (iI (iB m (3 + ties m + 2 * i)))) 1076 i (iI (iB m (3 + ties m + 2 * i + 1)))) 1073 := w2.o (fun _ => rfl)
    have step : (iB m (3 + ties m + 2 * i) ≤ 99 ∧ iB m (3 + ties m + 2 * i + 1) ≤ (if 0 < iB m (3 + ties m + 2 * i) then 0 else 99)) → coI n m μ (ties m) (i + 1) (gz_sI (gz_sI μ' 1074 i (iI (iB m (3 + ties m + 2 * i)))) 1076 i (iI (iB m (3 + ties m + 2 * i + 1)))) := by
      intro ok
      have fr : ∀ c j : Nat, c ≠ 1074 → c ≠ 1076 → gI (gz_sI (gz_sI μ' 1074 i (iI (iB m (3 + ties m + 2 * i)))) 1076 i (iI (iB m (3 + ties m + 2 * i + 1)))) c j = gI μ' c j := fun c j x y => by
        rw [sI_i, if_neg (fun z => y z.1), sI_i, if_neg (fun z => x z.1)]
      refine ⟨k2, rw2, by rw [fr _ _ (by omega) (by omega)]; exact w3, by rw [fr _ _ (by omega) (by omega)]; exact w4, by rw [fr _ _ (by omega) (by omega)]; exact w5, fun j hj => by rw [fr _ _ (by omega) (by omega)]; exact w6 j hj, w7, fun s hs => by unfold ci; rw [fr _ _ (by omega) (by omega)]; exact w8 s hs, fun s hs => ?_⟩
      by_cases y : s = i
      · subst y
        refine ⟨?_, ?_, ok⟩
        · rw [sI_i, if_neg (by omega), sI_i, if_pos ⟨rfl, rfl⟩]
        · rw [sI_i, if_pos ⟨rfl, rfl⟩]
      · rw [sI_i, if_neg (by omega), sI_i, if_neg (by omega), sI_i, if_neg (fun z => y z.2), sI_i, if_neg (by omega)]
        exact w9 s (by omega)
    unfold mj_X0_comesOn_267 mj_X0_comesOn_270
    simp only [gz_let, ei]
    by_cases c2 : 99 < iB m (3 + ties m + 2 * i)
    · refine pw_t (by rw [iI_lit, iI_lt (by omega) (by omega)]; exact c2) (pw_some (Or.inr ⟨rfl, k2, rw2, fun y => ?_⟩))
      have := (y i hi).1
      omega
    · refine pw_f (by rw [iI_lit, iI_lt (by omega) (by omega)]; exact c2) ?_
      rw [tp k2 _ (by omega)]
      simp only [Option.bind_some]
      rw [tp k2 _ (by omega)]
      simp only [Option.bind_some]
      by_cases c3 : iB m (3 + ties m + 2 * i) ≤ 0
      · refine pw_t (by rw [iI_lit, iI_le (by omega) (by omega)]; exact c3) ?_
        by_cases c4 : iB m (3 + ties m + 2 * i + 1) ≤ 99
        · exact pw_t (by rw [iI_lit, iI_le (by omega) (by omega)]; exact c4) (pw_some ⟨rfl, rfl, step ⟨by omega, by rw [if_neg (by omega)]; exact c4⟩⟩)
        · refine pw_f (by rw [iI_lit, iI_le (by omega) (by omega)]; exact c4) (pw_some (Or.inr ⟨rfl, k2, rw2, fun y => ?_⟩))
          have := (y i hi).2
          rw [if_neg (by omega)] at this
          omega
      · refine pw_f (by rw [iI_lit, iI_le (by omega) (by omega)]; exact c3) ?_
        by_cases c4 : iB m (3 + ties m + 2 * i + 1) ≤ 0
        · exact pw_t (by rw [iI_lit, iI_le (by omega) (by omega)]; exact c4) (pw_some ⟨rfl, rfl, step ⟨by omega, by rw [if_pos (by omega)]; exact c4⟩⟩)
        · refine pw_f (by rw [iI_lit, iI_le (by omega) (by omega)]; exact c4) (pw_some (Or.inr ⟨rfl, k2, rw2, fun y => ?_⟩))
          have := (y i hi).2
          rw [if_pos (by omega)] at this
          omega
  · rintro ⟨s1, s2, μ'⟩ ⟨rfl, rfl, w⟩
    dsimp only at w ⊢
    unfold mb_X0_comesOn_182
    rw [c_things (hh w.1)]
    simp only [Option.bind_some, eT]
    exact pw_t (by rw [iI_le (by omega) (by omega)]; omega) (pw_some (Or.inl ⟨rfl, w⟩))
