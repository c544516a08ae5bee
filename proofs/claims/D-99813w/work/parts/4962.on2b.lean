theorem bt_shlB {v : Int} (hv : v = 0 ∨ v = 1) {i j : Nat} (hi : i < 32) (hj : j < 32) : bt (iI v <<< (iI (i : Int) &&& 31)) j = decide (j = i ∧ v = 1) := by
  rcases hv with rfl | rfl
  · rw [iI_nI i, b_shl i hi _ hj, show iI 0 = (0 : Int32) from rfl, b_0, Bool.and_false, decide_eq_false (show ¬ (j = i ∧ (0 : Int) = 1) by omega)]
  · rw [show iI 1 = (1 : Int32) from rfl, bt_1t hi hj]
    by_cases h : j = i
    · rw [decide_eq_true h, decide_eq_true ⟨h, rfl⟩]
    · rw [decide_eq_false h, decide_eq_false (fun w => h w.1)]
theorem c_on1 {n : Nat} {l : List (Int × Int × Int)} {m : MM} {μ : gM} (h : rCo l m μ) (hT : rTape n m μ) {μ1 : gM} (h1 : coI n m μ 0 0 μ1) : pw (ml_X0_comesOn_127 (iI ((3 + ties m : Nat) : Int)) (0 : Int32) μ1) (fun q => (q.1 = 1 ∧ coI n m μ (ties m) (things m) q.2) ∨ (q.1 = 0 ∧ cSc μ q.2 ∧ rowOK q.2 1073 ∧ ¬ ((∀ k : Nat, k < ties m → iB m (3 + k) ≤ 1) ∧ ∀ t : Nat, t < things m → iB m (3 + ties m + 2 * t) ≤ 99 ∧ iB m (3 + ties m + 2 * t + 1) ≤ (if 0 < iB m (3 + ties m + 2 * t) then 0 else 99)))) := by
  have hR := h
  obtain ⟨q1, q2, q3, q4, q5, q6, q7, q8, q9, q10, q11, q12, q13⟩ := h
  have b7 := q2.1.2.1
  have b9 := q2.1.2.2.2.1
  have hT8 : things m ≤ 8 := by unfold things; omega
  have hK : ties m ≤ 12 := by unfold ties; omega
  have eK : mi m 1038 9 = ties m := by unfold ties; omega
  have hh : ∀ {μ' : gM}, cSc μ μ' → rHH m μ' := fun w => q2.mv (hhE.refl m) w.dy (w.2.2.2.2.2 _ _ (by omega))
  have tp : ∀ {μ' : gM}, cSc μ μ' → ∀ k : Nat, k < 1600 → cf_X0_byteAt (iI k) μ' = some (iI (iB m k), μ') := by
    intro μ' w k hk
    have gk : gz_ix (iI (k : Int)) = k := by rw [gix (by omega)]; omega
    unfold cf_X0_byteAt
    rw [if_pos ((gin_iI (by omega)).2 (by omega)), gk, w.2.2.2.1 _ _ (by unfold scC; omega), (hT.1 k hk).1.1, mi_of m]
    rfl
  have hB : ∀ k : Nat, k < 1600 → 0 ≤ iB m k ∧ iB m k < 256 := fun k hk => (hT.1 k hk).2
  unfold ml_X0_comesOn_127
  refine pw_for (fun (i : Nat) (q : Int32 × Int32 × gM) => q.1 = iI ((3 + ties m : Nat) : Int) ∧ q.2.1 = iI i ∧ coI n m μ i 0 q.2.2) (ties m) ?_ ?_ ⟨rfl, rfl, h1⟩
  · rintro i ⟨s1, s2, μ'⟩ hi ⟨rfl, rfl, w⟩
    dsimp only at w ⊢
    obtain ⟨w1, w2, w3, w4, w5, w6, w7, w8, w9⟩ := w
    have ei : iI (i : Int) + (1 : Int32) = iI ((i + 1 : Nat) : Int) := by rw [iI_lit, iI_add]; rfl
    have ea : (3 : Int32) + iI (i : Int) = iI ((3 + i : Nat) : Int) := by rw [iI_lit, iI_add]; exact congrArg iI (by omega)
    have b0 := hB (3 + i) (by omega)
    unfold mb_X0_comesOn_127
    rw [c_ties (hh w1)]
    simp only [Option.bind_some, gz_let, ea, ei, eK]
    refine pw_f (by rw [iI_le (by omega) (by omega)]; omega) ?_
    rw [tp w1 _ (by omega)]
    simp only [Option.bind_some]
    by_cases c2 : iB m (3 + i) ≤ 1
    · refine pw_t (by rw [iI_lit, iI_le (by omega) (by omega)]; exact c2) ?_
      rw [tp w1 _ (by omega)]
      simp only [Option.bind_some]
      have fr : ∀ (v : Int32) (c j : Nat), ¬ (c = 1073 ∧ j = 3) → gI (gz_sI μ' 1073 3 v) c j = gI μ' c j := fun v c j x => by rw [sI_i, if_neg x]
      refine pw_some ⟨rfl, rfl, w1.trans ⟨rfl, rfl, rfl, fun c' j' k => fr _ _ _ (by unfold scC at k; omega), fun _ _ _ _ => rfl, fun _ _ _ => rfl⟩, w2.o (fun _ => rfl), by rw [fr _ _ _ (by omega)]; exact w3, by rw [fr _ _ _ (by omega)]; exact w4, by rw [fr _ _ _ (by omega)]; exact w5, fun j hj => ?_, fun k hk => ?_, fun s hs => by unfold ci; rw [fr _ _ _ (by omega)]; exact w8 s hs, fun s hs => absurd hs (Nat.not_lt_zero _)⟩
      · rw [sI_i, if_pos ⟨rfl, rfl⟩, b_or, w6 j hj, bt_shlB (by omega) (by omega) hj]
        by_cases y : j = i
        · subst y
          rw [decide_eq_false (by omega), Bool.false_or]
          by_cases y2 : iB m (3 + j) = 1
          · rw [decide_eq_true ⟨rfl, y2⟩, decide_eq_true ⟨by omega, y2⟩]
          · rw [decide_eq_false (fun x => y2 x.2), decide_eq_false (fun x => y2 x.2)]
        · rw [decide_eq_false (fun x : j = i ∧ _ => y x.1), Bool.or_false]
          by_cases y2 : j < i ∧ iB m (3 + j) = 1
          · rw [decide_eq_true y2, decide_eq_true ⟨by omega, y2.2⟩]
          · rw [decide_eq_false y2, decide_eq_false (by omega)]
      · by_cases y : k = i
        · subst y; exact c2
        · exact w7 k (by omega)
    · exact pw_f (by rw [iI_lit, iI_le (by omega) (by omega)]; exact c2) (pw_some (Or.inr ⟨rfl, w1, w2, fun y => c2 (y.1 i hi)⟩))
  · rintro ⟨s1, s2, μ'⟩ ⟨rfl, rfl, w⟩
    dsimp only at w ⊢
    unfold mb_X0_comesOn_127
    rw [c_ties (hh w.1)]
    simp only [Option.bind_some, eK]
    refine pw_t (by rw [iI_le (by omega) (by omega)]; omega) (pw_map (pw_mono (c_on2 hR hT w) ?_))
    rintro ⟨r, μ2⟩ y
    dsimp only at y ⊢
    rcases y with y | ⟨y1, y2, y3, y4⟩
    · exact Or.inl y
    · exact Or.inr ⟨y1, y2, y3, fun x => y4 x.2⟩
