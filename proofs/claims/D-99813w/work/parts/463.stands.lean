/-! ===== the model: what was told stands ===== -/
section Stands
variable {m : MM}
theorem p_st2 {Q0 : Unit} {Q : Unit × MM → Prop}  (hQ : ∀ m' : MM, (∀ c j : Nat, ¬ ((c = 1038 ∧ 6 ≤ j ∧ j < 6 + 6)) → m'.1 c j = m.1 c j) → m'.2 = m.2 → (∀ k : Nat, k < 6 → m'.1 1038 (6 + k) = m.1 1038 k) → pw (ml_X6_stands_31 (0 : Int32) m') Q) : pw (ml_X6_stands_2 (0 : Int32) m) Q := by
  unfold ml_X6_stands_2
  refine pw_for (fun (i : Nat) (q : Int32 × MM) => q.1 = iI i ∧ (∀ c j : Nat, ¬ ((c = 1038 ∧ 6 ≤ j ∧ j < 6 + 6)) → q.2.1 c j = m.1 c j) ∧ q.2.2 = m.2 ∧ (∀ k : Nat, k < i → q.2.1 1038 (6 + k) = m.1 1038 k)) 6 ?_ ?_ ⟨rfl, fun _ _ _ => rfl, rfl, fun k hk => absurd hk (Nat.not_lt_zero _)⟩
  · rintro i ⟨q1, m1⟩ hi ⟨e, f1, f2, c0⟩
    dsimp only at e f1 f2 c0 ⊢
    subst e
    have gi : gz_ix (iI (i : Int)) = i := by rw [gix (by omega)]; omega
    have o6 : (6 : Int32) + iI (i : Int) = iI ((6 + i : Nat) : Int) := by rw [show (6 : Int32) = iI 6 from rfl, iI_add]; rfl
    have g6 : gz_ix (iI ((6 + i : Nat) : Int)) = 6 + i := by rw [gix (by omega)]; omega
    unfold mb_X6_stands_2
    rw [gi, o6, g6]
    refine pw_f (by rw [show (6 : Int32) = iI 6 from rfl, iI_le (by omega) (by omega)]; omega) (pw_gu ((gin_iI (by omega)).2 (by omega)) (pw_gu ((gin_iI (by omega)).2 (by omega)) (pw_let (pw_let (pw_some ?_)))))
    rw [show iI (i : Int) + 1 = iI ((i + 1 : Nat) : Int) by rw [show (1 : Int32) = iI 1 from rfl, iI_add]; rfl]
    refine ⟨rfl, fun c j k => ?_, f2, fun k hk => ?_⟩
    · show ((msI m1 1038 (6 + i) (m1.1 1038 i))).1 c j = _
      rw [msI_i, if_neg (by omega)]
      exact f1 c j k
    · show ((msI m1 1038 (6 + i) (m1.1 1038 i))).1 1038 (6 + k) = _
      by_cases e : k = i
      · subst e
        rw [msI_i, if_pos ⟨rfl, rfl⟩]
        exact f1 _ _ (by omega)
      · rw [msI_i, if_neg (by omega)]
        exact c0 k (by omega)
  · rintro ⟨q1, m1⟩ ⟨e, f1, f2, c0⟩
    dsimp only at e f1 f2 c0 ⊢
    subst e
    unfold mb_X6_stands_2
    exact pw_t (by decide) (pw_map (hQ m1 f1 f2 c0))
theorem p_st31 {Q0 : Unit} {Q : Unit × MM → Prop}  (hQ : ∀ m' : MM, (∀ c j : Nat, ¬ ((c = 1044 ∧ 2 ≤ j ∧ j < 2 + 2) ∨ (c = 1045 ∧ 2 ≤ j ∧ j < 2 + 2)) → m'.1 c j = m.1 c j) → m'.2 = m.2 → (∀ k : Nat, k < 2 → m'.1 1044 (2 + k) = m.1 1044 k) → (∀ k : Nat, k < 2 → m'.1 1045 (2 + k) = m.1 1045 k) → pw (ml_X6_stands_72 (0 : Int32) m') Q) : pw (ml_X6_stands_31 (0 : Int32) m) Q := by
  unfold ml_X6_stands_31
  refine pw_for (fun (i : Nat) (q : Int32 × MM) => q.1 = iI i ∧ (∀ c j : Nat, ¬ ((c = 1044 ∧ 2 ≤ j ∧ j < 2 + 2) ∨ (c = 1045 ∧ 2 ≤ j ∧ j < 2 + 2)) → q.2.1 c j = m.1 c j) ∧ q.2.2 = m.2 ∧ (∀ k : Nat, k < i → q.2.1 1044 (2 + k) = m.1 1044 k) ∧ (∀ k : Nat, k < i → q.2.1 1045 (2 + k) = m.1 1045 k)) 2 ?_ ?_ ⟨rfl, fun _ _ _ => rfl, rfl, fun k hk => absurd hk (Nat.not_lt_zero _), fun k hk => absurd hk (Nat.not_lt_zero _)⟩
  · rintro i ⟨q1, m1⟩ hi ⟨e, f1, f2, c0, c1⟩
    dsimp only at e f1 f2 c0 c1 ⊢
    subst e
    have gi : gz_ix (iI (i : Int)) = i := by rw [gix (by omega)]; omega
    have o2 : (2 : Int32) + iI (i : Int) = iI ((2 + i : Nat) : Int) := by rw [show (2 : Int32) = iI 2 from rfl, iI_add]; rfl
    have g2 : gz_ix (iI ((2 + i : Nat) : Int)) = 2 + i := by rw [gix (by omega)]; omega
    unfold mb_X6_stands_31
    rw [gi, o2, g2]
    refine pw_f (by rw [show (2 : Int32) = iI 2 from rfl, iI_le (by omega) (by omega)]; omega) (pw_gu ((gin_iI (by omega)).2 (by omega)) (pw_gu ((gin_iI (by omega)).2 (by omega)) (pw_let (pw_gu ((gin_iI (by omega)).2 (by omega)) (pw_gu ((gin_iI (by omega)).2 (by omega)) (pw_let (pw_let (pw_some ?_))))))))
    rw [show iI (i : Int) + 1 = iI ((i + 1 : Nat) : Int) by rw [show (1 : Int32) = iI 1 from rfl, iI_add]; rfl]
    refine ⟨rfl, fun c j k => ?_, f2, fun k hk => ?_, fun k hk => ?_⟩
    · show ((msI (msI m1 1044 (2 + i) (m1.1 1044 i)) 1045 (2 + i) ((msI m1 1044 (2 + i) (m1.1 1044 i)).1 1045 i))).1 c j = _
      rw [msI_i, if_neg (by omega), msI_i, if_neg (by omega)]
      exact f1 c j k
    · show ((msI (msI m1 1044 (2 + i) (m1.1 1044 i)) 1045 (2 + i) ((msI m1 1044 (2 + i) (m1.1 1044 i)).1 1045 i))).1 1044 (2 + k) = _
      by_cases e : k = i
      · subst e
        rw [msI_i, if_neg (by omega), msI_i, if_pos ⟨rfl, rfl⟩]
        exact f1 _ _ (by omega)
      · rw [msI_i, if_neg (by omega), msI_i, if_neg (by omega)]
        exact c0 k (by omega)
    · show ((msI (msI m1 1044 (2 + i) (m1.1 1044 i)) 1045 (2 + i) ((msI m1 1044 (2 + i) (m1.1 1044 i)).1 1045 i))).1 1045 (2 + k) = _
      by_cases e : k = i
      · subst e
        rw [msI_i, if_pos ⟨rfl, rfl⟩, msI_i, if_neg (by omega)]
        exact f1 _ _ (by omega)
      · rw [msI_i, if_neg (by omega), msI_i, if_neg (by omega)]
        exact c1 k (by omega)
  · rintro ⟨q1, m1⟩ ⟨e, f1, f2, c0, c1⟩
    dsimp only at e f1 f2 c0 c1 ⊢
    subst e
    unfold mb_X6_stands_31
    exact pw_t (by decide) (pw_map (hQ m1 f1 f2 c0 c1))
theorem p_st72 {Q0 : Unit} {Q : Unit × MM → Prop}  (hQ : ∀ m' : MM, (∀ c j : Nat, ¬ ((c = 1041 ∧ 16 ≤ j ∧ j < 16 + 16)) → m'.1 c j = m.1 c j) → (∀ c j : Nat, ¬ ((c = 1039 ∧ 16 ≤ j ∧ j < 16 + 16)) → m'.2 c j = m.2 c j) → (∀ k : Nat, k < 16 → m'.2 1039 (16 + k) = m.2 1039 k) → (∀ k : Nat, k < 16 → m'.1 1041 (16 + k) = m.1 1041 k) → pw (ml_X6_stands_116 (0 : Int32) m') Q) : pw (ml_X6_stands_72 (0 : Int32) m) Q := by
  unfold ml_X6_stands_72
  refine pw_for (fun (i : Nat) (q : Int32 × MM) => q.1 = iI i ∧ (∀ c j : Nat, ¬ ((c = 1041 ∧ 16 ≤ j ∧ j < 16 + 16)) → q.2.1 c j = m.1 c j) ∧ (∀ c j : Nat, ¬ ((c = 1039 ∧ 16 ≤ j ∧ j < 16 + 16)) → q.2.2 c j = m.2 c j) ∧ (∀ k : Nat, k < i → q.2.2 1039 (16 + k) = m.2 1039 k) ∧ (∀ k : Nat, k < i → q.2.1 1041 (16 + k) = m.1 1041 k)) 16 ?_ ?_ ⟨rfl, fun _ _ _ => rfl, fun _ _ _ => rfl, fun k hk => absurd hk (Nat.not_lt_zero _), fun k hk => absurd hk (Nat.not_lt_zero _)⟩
  · rintro i ⟨q1, m1⟩ hi ⟨e, f1, f2, c0, c1⟩
    dsimp only at e f1 f2 c0 c1 ⊢
    subst e
    have gi : gz_ix (iI (i : Int)) = i := by rw [gix (by omega)]; omega
    have o16 : (16 : Int32) + iI (i : Int) = iI ((16 + i : Nat) : Int) := by rw [show (16 : Int32) = iI 16 from rfl, iI_add]; rfl
    have g16 : gz_ix (iI ((16 + i : Nat) : Int)) = 16 + i := by rw [gix (by omega)]; omega
    unfold mb_X6_stands_72
    rw [gi, o16, g16]
    refine pw_f (by rw [show (16 : Int32) = iI 16 from rfl, iI_le (by omega) (by omega)]; omega) (pw_gu ((gin_iI (by omega)).2 (by omega)) (pw_gu ((gin_iI (by omega)).2 (by omega)) (pw_let (pw_gu ((gin_iI (by omega)).2 (by omega)) (pw_gu ((gin_iI (by omega)).2 (by omega)) (pw_let (pw_let (pw_some ?_))))))))
    rw [show iI (i : Int) + 1 = iI ((i + 1 : Nat) : Int) by rw [show (1 : Int32) = iI 1 from rfl, iI_add]; rfl]
    refine ⟨rfl, fun c j k => ?_, fun c j k => ?_, fun k hk => ?_, fun k hk => ?_⟩
    · show ((msI (msL m1 1039 (16 + i) (m1.2 1039 i)) 1041 (16 + i) ((msL m1 1039 (16 + i) (m1.2 1039 i)).1 1041 i))).1 c j = _
      rw [msI_i, if_neg (by omega), msL_i]
      exact f1 c j k
    · show ((msI (msL m1 1039 (16 + i) (m1.2 1039 i)) 1041 (16 + i) ((msL m1 1039 (16 + i) (m1.2 1039 i)).1 1041 i))).2 c j = _
      rw [msI_l, msL_l, if_neg (by omega)]
      exact f2 c j k
    · show ((msI (msL m1 1039 (16 + i) (m1.2 1039 i)) 1041 (16 + i) ((msL m1 1039 (16 + i) (m1.2 1039 i)).1 1041 i))).2 1039 (16 + k) = _
      by_cases e : k = i
      · subst e
        rw [msI_l, msL_l, if_pos ⟨rfl, rfl⟩]
        exact f2 _ _ (by omega)
      · rw [msI_l, msL_l, if_neg (by omega)]
        exact c0 k (by omega)
    · show ((msI (msL m1 1039 (16 + i) (m1.2 1039 i)) 1041 (16 + i) ((msL m1 1039 (16 + i) (m1.2 1039 i)).1 1041 i))).1 1041 (16 + k) = _
      by_cases e : k = i
      · subst e
        rw [msI_i, if_pos ⟨rfl, rfl⟩, msL_i]
        exact f1 _ _ (by omega)
      · rw [msI_i, if_neg (by omega), msL_i]
        exact c1 k (by omega)
  · rintro ⟨q1, m1⟩ ⟨e, f1, f2, c0, c1⟩
    dsimp only at e f1 f2 c0 c1 ⊢
    subst e
    unfold mb_X6_stands_72
    exact pw_t (by decide) (pw_map (hQ m1 f1 f2 c0 c1))
theorem p_st116 {Q0 : Unit} {Q : Unit × MM → Prop}  (hQ : ∀ m' : MM, (∀ c j : Nat, ¬ ((c = 1043 ∧ 24 ≤ j ∧ j < 24 + 24)) → m'.1 c j = m.1 c j) → m'.2 = m.2 → (∀ k : Nat, k < 24 → m'.1 1043 (24 + k) = m.1 1043 k) → pw (ml_X6_stands_145 (0 : Int32) m') Q) : pw (ml_X6_stands_116 (0 : Int32) m) Q := by
  unfold ml_X6_stands_116
  refine pw_for (fun (i : Nat) (q : Int32 × MM) => q.1 = iI i ∧ (∀ c j : Nat, ¬ ((c = 1043 ∧ 24 ≤ j ∧ j < 24 + 24)) → q.2.1 c j = m.1 c j) ∧ q.2.2 = m.2 ∧ (∀ k : Nat, k < i → q.2.1 1043 (24 + k) = m.1 1043 k)) 24 ?_ ?_ ⟨rfl, fun _ _ _ => rfl, rfl, fun k hk => absurd hk (Nat.not_lt_zero _)⟩
  · rintro i ⟨q1, m1⟩ hi ⟨e, f1, f2, c0⟩
    dsimp only at e f1 f2 c0 ⊢
    subst e
    have gi : gz_ix (iI (i : Int)) = i := by rw [gix (by omega)]; omega
    have o24 : (24 : Int32) + iI (i : Int) = iI ((24 + i : Nat) : Int) := by rw [show (24 : Int32) = iI 24 from rfl, iI_add]; rfl
    have g24 : gz_ix (iI ((24 + i : Nat) : Int)) = 24 + i := by rw [gix (by omega)]; omega
    unfold mb_X6_stands_116
    rw [gi, o24, g24]
    refine pw_f (by rw [show (24 : Int32) = iI 24 from rfl, iI_le (by omega) (by omega)]; omega) (pw_gu ((gin_iI (by omega)).2 (by omega)) (pw_gu ((gin_iI (by omega)).2 (by omega)) (pw_let (pw_let (pw_some ?_)))))
    rw [show iI (i : Int) + 1 = iI ((i + 1 : Nat) : Int) by rw [show (1 : Int32) = iI 1 from rfl, iI_add]; rfl]
    refine ⟨rfl, fun c j k => ?_, f2, fun k hk => ?_⟩
    · show ((msI m1 1043 (24 + i) (m1.1 1043 i))).1 c j = _
      rw [msI_i, if_neg (by omega)]
      exact f1 c j k
    · show ((msI m1 1043 (24 + i) (m1.1 1043 i))).1 1043 (24 + k) = _
      by_cases e : k = i
      · subst e
        rw [msI_i, if_pos ⟨rfl, rfl⟩]
        exact f1 _ _ (by omega)
      · rw [msI_i, if_neg (by omega)]
        exact c0 k (by omega)
  · rintro ⟨q1, m1⟩ ⟨e, f1, f2, c0⟩
    dsimp only at e f1 f2 c0 ⊢
    subst e
    unfold mb_X6_stands_116
    exact pw_t (by decide) (pw_map (hQ m1 f1 f2 c0))
theorem p_st145 {C : Nat} {Q : Unit × MM → Prop} (hC : m.1 2000 46 = iI C) (hC2 : C ≤ 1600) (hQ : ∀ m' : MM, (∀ c j : Nat, ¬ ((c = 1046 ∧ 1600 ≤ j ∧ j < 1600 + C)) → m'.1 c j = m.1 c j) → m'.2 = m.2 → (∀ k : Nat, k < C → m'.1 1046 (1600 + k) = m.1 1046 k) → pw (ml_X6_stands_177 (0 : Int32) m') Q) : pw (ml_X6_stands_145 (0 : Int32) m) Q := by
  unfold ml_X6_stands_145
  refine pw_for (fun (i : Nat) (q : Int32 × MM) => q.1 = iI i ∧ (∀ c j : Nat, ¬ ((c = 1046 ∧ 1600 ≤ j ∧ j < 1600 + C)) → q.2.1 c j = m.1 c j) ∧ q.2.2 = m.2 ∧ (∀ k : Nat, k < i → q.2.1 1046 (1600 + k) = m.1 1046 k)) C ?_ ?_ ⟨rfl, fun _ _ _ => rfl, rfl, fun k hk => absurd hk (Nat.not_lt_zero _)⟩
  · rintro i ⟨q1, m1⟩ hi ⟨e, f1, f2, c0⟩
    dsimp only at e f1 f2 c0 ⊢
    subst e
    have gi : gz_ix (iI (i : Int)) = i := by rw [gix (by omega)]; omega
    have o1600 : (1600 : Int32) + iI (i : Int) = iI ((1600 + i : Nat) : Int) := by rw [show (1600 : Int32) = iI 1600 from rfl, iI_add]; rfl
    have g1600 : gz_ix (iI ((1600 + i : Nat) : Int)) = 1600 + i := by rw [gix (by omega)]; omega
    unfold mb_X6_stands_145
    rw [f1 2000 46 (by omega), hC]
    rw [gi, o1600, g1600]
    refine pw_f (by rw [iI_le (by omega) (by omega)]; omega) (pw_gu ((gin_iI (by omega)).2 (by omega)) (pw_gu ((gin_iI (by omega)).2 (by omega)) (pw_let (pw_let (pw_some ?_)))))
    rw [show iI (i : Int) + 1 = iI ((i + 1 : Nat) : Int) by rw [show (1 : Int32) = iI 1 from rfl, iI_add]; rfl]
    refine ⟨rfl, fun c j k => ?_, f2, fun k hk => ?_⟩
    · show ((msI m1 1046 (1600 + i) (m1.1 1046 i))).1 c j = _
      rw [msI_i, if_neg (by omega)]
      exact f1 c j k
    · show ((msI m1 1046 (1600 + i) (m1.1 1046 i))).1 1046 (1600 + k) = _
      by_cases e : k = i
      · subst e
        rw [msI_i, if_pos ⟨rfl, rfl⟩]
        exact f1 _ _ (by omega)
      · rw [msI_i, if_neg (by omega)]
        exact c0 k (by omega)
  · rintro ⟨q1, m1⟩ ⟨e, f1, f2, c0⟩
    dsimp only at e f1 f2 c0 ⊢
    subst e
    unfold mb_X6_stands_145
    rw [f1 2000 46 (by omega), hC]
    exact pw_t (by rw [iI_le (by omega) (by omega)]; omega) (pw_map (hQ m1 f1 f2 c0))
end Stands
section Stands2
variable {m : MM}
theorem p_st238 {nt : Nat} {h : HS} {Q : Unit × MM → Prop} (ho : hsOK h) (hnt : nt ≤ 8) (h1 : m.1 1038 1 = iI nt) (hD : drM m h) (hQ : ∀ m' : MM, (∀ c j : Nat, ¬ ((c = 1051 ∧ 14 ≤ j ∧ j < 30) ∨ (c = 1050 ∧ j < 64) ∨ (c = 2000 ∧ (j = 68 ∨ j = 64))) → m'.1 c j = m.1 c j) → m'.2 = m.2 → (∀ k : Nat, k < nt → m'.1 1051 (14 + 2 * k) = m.1 1042 k) → (∀ j : Nat, 14 ≤ j → j < 30 → (∀ k : Nat, k < nt → j ≠ 14 + 2 * k) → m'.1 1051 j = m.1 1051 j) → m'.1 2000 68 = 0 → m'.1 2000 64 = 0 → (∀ a : Nat, a < 8 → rowG h a (wayM m' a)) → Q ((), m')) : pw (ml_X6_stands_238 (0 : Int32) m) Q := by
  have gi1 : gz_ix (1 : Int32) = 1 := by decide
  unfold ml_X6_stands_238
  refine pw_for (fun (i : Nat) (q : Int32 × MM) => q.1 = iI i ∧ (∀ c j : Nat, ¬ (c = 1051 ∧ 14 ≤ j ∧ j < 30) → q.2.1 c j = m.1 c j) ∧ q.2.2 = m.2 ∧ (∀ k : Nat, k < i → q.2.1 1051 (14 + 2 * k) = m.1 1042 k) ∧ ∀ j : Nat, (∀ k : Nat, k < i → j ≠ 14 + 2 * k) → q.2.1 1051 j = m.1 1051 j) nt ?_ ?_ ⟨rfl, fun _ _ _ => rfl, rfl, fun k hk => absurd hk (Nat.not_lt_zero _), fun _ _ => rfl⟩
  · rintro i ⟨q1, m1⟩ hi ⟨e, f1, f2, c1, c2⟩
    dsimp only at e f1 f2 c1 c2 ⊢
    subst e
    have gi : gz_ix (iI (i : Int)) = i := by rw [gix (by omega)]; omega
    have e14 : (14 : Int32) + (2 : Int32) * iI (i : Int) = iI ((14 + 2 * i : Nat) : Int) := by rw [show (2 : Int32) = iI 2 from rfl, show (14 : Int32) = iI 14 from rfl, iI_mul, iI_add]; exact congrArg iI (by omega)
    have g14 : gz_ix (iI ((14 + 2 * i : Nat) : Int)) = 14 + 2 * i := by rw [gix (by omega)]; omega
    unfold mb_X6_stands_238
    rw [gi1, f1 1038 1 (by omega), h1, gi, e14, g14, f1 1042 i (by omega)]
    refine pw_gu (by decide) (pw_f (by rw [iI_le (by omega) (by omega)]; omega) (pw_gu ((gin_iI (by omega)).2 (by omega)) (pw_gu ((gin_iI (by omega)).2 (by omega)) (pw_let (pw_let (pw_some ?_))))))
    rw [show iI (i : Int) + 1 = iI ((i + 1 : Nat) : Int) by rw [show (1 : Int32) = iI 1 from rfl, iI_add]; rfl]
    refine ⟨rfl, fun c j k => ?_, f2, fun k hk => ?_, fun j hj => ?_⟩
    · show (msI m1 1051 (14 + 2 * i) (m.1 1042 i)).1 c j = _
      rw [msI_i, if_neg (by omega)]; exact f1 c j k
    · show (msI m1 1051 (14 + 2 * i) (m.1 1042 i)).1 1051 (14 + 2 * k) = _
      by_cases e : k = i
      · subst e; rw [msI_i, if_pos ⟨rfl, rfl⟩]
      · rw [msI_i, if_neg (by omega)]; exact c1 k (by omega)
    · show (msI m1 1051 (14 + 2 * i) (m.1 1042 i)).1 1051 j = _
      rw [msI_i, if_neg (fun q => hj i (by omega) q.2)]
      exact c2 j (fun k hk => hj k (by omega))
  · rintro ⟨q1, m1⟩ ⟨e, f1, f2, c1, c2⟩
    dsimp only at e f1 f2 c1 c2 ⊢
    subst e
    unfold mb_X6_stands_238
    rw [gi1, f1 1038 1 (by omega), h1]
    refine pw_gu (by decide) (pw_t (by rw [iI_le (by omega) (by omega)]; omega) (pw_bind (pw_mono (p_laysWays ho (hD.mv (f1 _ _ (by omega)) (fun j => f1 _ _ (by omega)))) ?_)))
    rintro ⟨⟨⟩, m2⟩ ⟨w1, w2⟩
    dsimp only at w1 w2 ⊢
    refine pw_let (pw_let (pw_some (hQ _ (fun c j k => ?_) ?_ (fun k hk => ?_) (fun j j1 j2 hj => ?_) ?_ ?_ (fun a ha => ?_))))
    · rw [msI_i, if_neg (by omega), msI_i, if_neg (by omega), w1.1 _ _ (by omega)]; exact f1 c j (by omega)
    · show m2.2 = _
      rw [w1.2, f2]
    · rw [msI_i, if_neg (by omega), msI_i, if_neg (by omega), w1.1 _ _ (by omega)]; exact c1 k hk
    · rw [msI_i, if_neg (by omega), msI_i, if_neg (by omega), w1.1 _ _ (by omega)]; exact c2 j hj
    · rw [msI_i, if_neg (by omega), msI_i, if_pos ⟨rfl, rfl⟩]
    · rw [msI_i, if_pos ⟨rfl, rfl⟩]
    · exact w2 a ha
theorem p_st211 {ni : Nat} {Q : Unit × MM → Prop} (hni : ni ≤ 12) (h3 : m.1 1038 3 = iI ni) (hQ : ∀ m' : MM, (∀ c j : Nat, ¬ (c = 1051 ∧ 2 ≤ j ∧ j < 2 + ni) → m'.1 c j = m.1 c j) → m'.2 = m.2 → (∀ k : Nat, k < ni → m'.1 1051 (2 + k) = 1) → pw (ml_X6_stands_238 (0 : Int32) m') Q) : pw (ml_X6_stands_211 (0 : Int32) m) Q := by
  have gi3 : gz_ix (3 : Int32) = 3 := by decide
  unfold ml_X6_stands_211
  refine pw_for (fun (i : Nat) (q : Int32 × MM) => q.1 = iI i ∧ (∀ c j : Nat, ¬ (c = 1051 ∧ 2 ≤ j ∧ j < 2 + ni) → q.2.1 c j = m.1 c j) ∧ q.2.2 = m.2 ∧ ∀ k : Nat, k < i → q.2.1 1051 (2 + k) = 1) ni ?_ ?_ ⟨rfl, fun _ _ _ => rfl, rfl, fun k hk => absurd hk (Nat.not_lt_zero _)⟩
  · rintro i ⟨q1, m1⟩ hi ⟨e, f1, f2, c1⟩
    dsimp only at e f1 f2 c1 ⊢
    subst e
    have e2 : (2 : Int32) + iI (i : Int) = iI ((2 + i : Nat) : Int) := by rw [show (2 : Int32) = iI 2 from rfl, iI_add]; rfl
    have g2 : gz_ix (iI ((2 + i : Nat) : Int)) = 2 + i := by rw [gix (by omega)]; omega
    unfold mb_X6_stands_211
    rw [gi3, f1 1038 3 (by omega), h3, e2, g2]
    refine pw_gu (by decide) (pw_f (by rw [iI_le (by omega) (by omega)]; omega) (pw_gu ((gin_iI (by omega)).2 (by omega)) (pw_let (pw_let (pw_some ?_)))))
    rw [show iI (i : Int) + 1 = iI ((i + 1 : Nat) : Int) by rw [show (1 : Int32) = iI 1 from rfl, iI_add]; rfl]
    refine ⟨rfl, fun c j k => ?_, f2, fun k hk => ?_⟩
    · show (msI m1 1051 (2 + i) 1).1 c j = _
      rw [msI_i, if_neg (by omega)]; exact f1 c j k
    · show (msI m1 1051 (2 + i) 1).1 1051 (2 + k) = _
      by_cases e : k = i
      · subst e; rw [msI_i, if_pos ⟨rfl, rfl⟩]
      · rw [msI_i, if_neg (by omega)]; exact c1 k (by omega)
  · rintro ⟨q1, m1⟩ ⟨e, f1, f2, c1⟩
    dsimp only at e f1 f2 c1 ⊢
    subst e
    unfold mb_X6_stands_211
    rw [gi3, f1 1038 3 (by omega), h3]
    exact pw_gu (by decide) (pw_t (by rw [iI_le (by omega) (by omega)]; omega) (pw_map (hQ m1 f1 f2 c1)))
theorem p_st177 {Q : Unit × MM → Prop} (hQ : ∀ m' : MM, (∀ c j : Nat, ¬ (c = 1051 ∧ j < 151) → m'.1 c j = m.1 c j) → m'.2 = m.2 → (∀ k : Nat, k < 151 → k ≠ 1 → m'.1 1051 k = 0) → m'.1 1051 1 = m.1 1038 4 → pw (ml_X6_stands_211 (0 : Int32) m') Q) : pw (ml_X6_stands_177 (0 : Int32) m) Q := by
  have gi4 : gz_ix (4 : Int32) = 4 := by decide
  have gi1 : gz_ix (1 : Int32) = 1 := by decide
  unfold ml_X6_stands_177
  refine pw_for (fun (i : Nat) (q : Int32 × MM) => q.1 = iI i ∧ (∀ c j : Nat, ¬ (c = 1051 ∧ j < 151) → q.2.1 c j = m.1 c j) ∧ q.2.2 = m.2 ∧ ∀ k : Nat, k < i → q.2.1 1051 k = 0) 151 ?_ ?_ ⟨rfl, fun _ _ _ => rfl, rfl, fun k hk => absurd hk (Nat.not_lt_zero _)⟩
  · rintro i ⟨q1, m1⟩ hi ⟨e, f1, f2, c1⟩
    dsimp only at e f1 f2 c1 ⊢
    subst e
    have gi : gz_ix (iI (i : Int)) = i := by rw [gix (by omega)]; omega
    unfold mb_X6_stands_177
    rw [gi]
    refine pw_f (by rw [show (151 : Int32) = iI 151 from rfl, iI_le (by omega) (by omega)]; omega) (pw_gu ((gin_iI (by omega)).2 (by omega)) (pw_let (pw_let (pw_some ?_))))
    rw [show iI (i : Int) + 1 = iI ((i + 1 : Nat) : Int) by rw [show (1 : Int32) = iI 1 from rfl, iI_add]; rfl]
    refine ⟨rfl, fun c j k => ?_, f2, fun k hk => ?_⟩
    · show (msI m1 1051 i 0).1 c j = _
      rw [msI_i, if_neg (by omega)]; exact f1 c j k
    · show (msI m1 1051 i 0).1 1051 k = _
      by_cases e : k = i
      · subst e; rw [msI_i, if_pos ⟨rfl, rfl⟩]
      · rw [msI_i, if_neg (by omega)]; exact c1 k (by omega)
  · rintro ⟨q1, m1⟩ ⟨e, f1, f2, c1⟩
    dsimp only at e f1 f2 c1 ⊢
    subst e
    unfold mb_X6_stands_177
    rw [gi4, gi1]
    refine pw_t (by decide) (pw_gu (by decide) (pw_gu (by decide) (pw_let (pw_map (hQ _ (fun c j k => ?_) f2 (fun k hk hk1 => ?_) ?_)))))
    · rw [msI_i, if_neg (by omega)]; exact f1 c j k
    · rw [msI_i, if_neg (by omega)]; exact c1 k hk
    · rw [msI_i, if_pos ⟨rfl, rfl⟩]; exact f1 _ _ (by omega)
end Stands2
