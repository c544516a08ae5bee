theorem p_on2 {m : MM} (hm : rMany m) : pw (ml_X6_on_67 (0 : Int32) (msI (msI m 1051 0 (iI (256 * iB m 0 + iB m 1))) 1051 1 (iI (iB m 2)))) (fun q => q.1 = 1 ∧ (∀ c j : Nat, q.2.1 c j = if c = 2000 ∧ j = 68 then 0 else if c = 1051 ∧ j = 30 then 0 else (onS m).1 c j) ∧ q.2.2 = m.2) := by
  have b7 := hm.2.1
  have b9 := hm.2.2.2.1
  have hT : things m ≤ 8 := by unfold things; omega
  have hK : ties m ≤ 12 := by unfold ties; omega
  have eT : mi m 1038 7 = things m := by unfold things; omega
  have eK : mi m 1038 9 = ties m := by unfold ties; omega
  have g30 : gz_ix (30 : Int32) = 30 := by decide
  unfold ml_X6_on_67
  refine pw_for (fun (i : Nat) (q : Int32 × MM) => q.1 = iI i ∧ (∀ c j : Nat, q.2.1 c j = if c = 1051 ∧ j = 0 then iI (256 * iB m 0 + iB m 1) else if c = 1051 ∧ j = 1 then iI (iB m 2) else if c = 1051 ∧ 2 ≤ j ∧ j < 2 + i then iI (iB m (1 + j)) else m.1 c j) ∧ q.2.2 = m.2) (ties m) ?_ ?_ ⟨rfl, fun c j => ?_, rfl⟩
  · rintro i ⟨y, m'⟩ hi ⟨rfl, k1, k2⟩
    dsimp only at k1 k2 ⊢
    have ei : iI (i : Int) + (1 : Int32) = iI ((i + 1 : Nat) : Int) := by rw [iI_lit, iI_add]; rfl
    have e2 : (2 : Int32) + iI (i : Int) = iI ((2 + i : Nat) : Int) := by rw [iI_lit, iI_add]; exact congrArg iI (by omega)
    have e3 : (3 : Int32) + iI (i : Int) = iI ((3 + i : Nat) : Int) := by rw [iI_lit, iI_add]; exact congrArg iI (by omega)
    have g2 : gz_ix (iI ((2 + i : Nat) : Int)) = 2 + i := by rw [gix (by omega)]; omega
    have g3 : gz_ix (iI ((3 + i : Nat) : Int)) = 3 + i := by rw [gix (by omega)]; omega
    have eK' : mi m' 1038 9 = ties m := by rw [← eK]; unfold mi; rw [k1, if_neg (by omega), if_neg (by omega), if_neg (by omega)]
    have et : m'.1 1001 (3 + i) = iI (iB m (3 + i)) := by rw [k1, if_neg (by omega), if_neg (by omega), if_neg (by omega)]; exact mi_of _ _ _
    unfold mb_X6_on_67
    rw [p_tieMany]
    simp only [Option.bind_some, gz_let, e2, e3, g2, g3, ei, eK', et]
    refine pw_f (by rw [iI_le (by omega) (by omega)]; omega) (pw_gu ((gin_iI (by omega)).2 (by omega)) (pw_gu ((gin_iI (by omega)).2 (by omega)) (pw_some ⟨rfl, fun c j => ?_, k2⟩)))
    dsimp only
    rw [msI_i]
    by_cases u : c = 1051 ∧ j = 2 + i
    · rw [if_pos u, if_neg (by omega), if_neg (by omega), if_pos (by omega), u.2, show 1 + (2 + i) = 3 + i by omega]
    · rw [if_neg u, k1]
      by_cases u0 : c = 1051 ∧ j = 0
      · rw [if_pos u0, if_pos u0]
      · rw [if_neg u0, if_neg u0]
        by_cases u1 : c = 1051 ∧ j = 1
        · rw [if_pos u1, if_pos u1]
        · rw [if_neg u1, if_neg u1]
          by_cases u2 : c = 1051 ∧ 2 ≤ j ∧ j < 2 + i
          · rw [if_pos u2, if_pos (by omega)]
          · rw [if_neg u2, if_neg (show ¬ (c = 1051 ∧ 2 ≤ j ∧ j < 2 + (i + 1)) by omega)]
  · rintro ⟨y, m'⟩ ⟨rfl, k1, k2⟩
    dsimp only at k1 k2 ⊢
    have eK' : mi m' 1038 9 = ties m := by rw [← eK]; unfold mi; rw [k1, if_neg (by omega), if_neg (by omega), if_neg (by omega)]
    unfold mb_X6_on_67
    rw [p_tieMany]
    simp only [Option.bind_some, eK']
    refine pw_t (by rw [iI_le (by omega) (by omega)]; omega) (pw_map ?_)
    unfold ml_X6_on_99
    refine pw_for (fun (i : Nat) (q : Int32 × MM) => q.1 = iI i ∧ (∀ c j : Nat, q.2.1 c j = if c = 1051 ∧ j = 0 then iI (256 * iB m 0 + iB m 1) else if c = 1051 ∧ j = 1 then iI (iB m 2) else if c = 1051 ∧ 2 ≤ j ∧ j < 2 + ties m then iI (iB m (1 + j)) else if c = 1051 ∧ 14 ≤ j ∧ j < 14 + i then iI (iB m (3 + ties m + (j - 14))) else m.1 c j) ∧ q.2.2 = m.2) (2 * things m) ?_ ?_ ⟨rfl, fun c j => ?_, k2⟩
    · rintro i ⟨y, m2⟩ hi ⟨rfl, k1, k2⟩
      dsimp only at k1 k2 ⊢
      have ei : iI (i : Int) + (1 : Int32) = iI ((i + 1 : Nat) : Int) := by rw [iI_lit, iI_add]; rfl
      have e2 : (14 : Int32) + iI (i : Int) = iI ((14 + i : Nat) : Int) := by rw [iI_lit, iI_add]; exact congrArg iI (by omega)
      have e3 : (3 : Int32) + iI (ties m : Int) + iI (i : Int) = iI ((3 + ties m + i : Nat) : Int) := by rw [iI_lit, iI_add, iI_add]; exact congrArg iI (by omega)
      have g2 : gz_ix (iI ((14 + i : Nat) : Int)) = 14 + i := by rw [gix (by omega)]; omega
      have g3 : gz_ix (iI ((3 + ties m + i : Nat) : Int)) = 3 + ties m + i := by rw [gix (by omega)]; omega
      have eK' : mi m2 1038 9 = ties m := by rw [← eK]; unfold mi; rw [k1, if_neg (by omega), if_neg (by omega), if_neg (by omega), if_neg (by omega)]
      have eT' : mi m2 1038 7 = things m := by rw [← eT]; unfold mi; rw [k1, if_neg (by omega), if_neg (by omega), if_neg (by omega), if_neg (by omega)]
      have et : m2.1 1001 (3 + ties m + i) = iI (iB m (3 + ties m + i)) := by rw [k1, if_neg (by omega), if_neg (by omega), if_neg (by omega), if_neg (by omega)]; exact mi_of _ _ _
      unfold mb_X6_on_99
      rw [p_thingMany]
      simp only [Option.bind_some, eT']
      rw [p_tieMany]
      simp only [Option.bind_some, gz_let, eK', e2, e3, g2, g3, ei, et]
      refine pw_f (by rw [iI_lit, iI_mul, iI_le (by omega) (by omega)]; omega) (pw_gu ((gin_iI (by omega)).2 (by omega)) (pw_gu ((gin_iI (by omega)).2 (by omega)) (pw_some ⟨rfl, fun c j => ?_, k2⟩)))
      dsimp only
      rw [msI_i]
      by_cases u : c = 1051 ∧ j = 14 + i
      · rw [if_pos u, if_neg (by omega), if_neg (by omega), if_neg (by omega), if_pos (by omega), u.2, show 3 + ties m + (14 + i - 14) = 3 + ties m + i by omega]
      · rw [if_neg u, k1]
        by_cases u0 : c = 1051 ∧ j = 0
        · rw [if_pos u0, if_pos u0]
        · rw [if_neg u0, if_neg u0]
          by_cases u1 : c = 1051 ∧ j = 1
          · rw [if_pos u1, if_pos u1]
          · rw [if_neg u1, if_neg u1]
            by_cases u2 : c = 1051 ∧ 2 ≤ j ∧ j < 2 + ties m
            · rw [if_pos u2, if_pos u2]
            · rw [if_neg u2, if_neg u2]
              by_cases u3 : c = 1051 ∧ 14 ≤ j ∧ j < 14 + i
              · rw [if_pos u3, if_pos (by omega)]
              · rw [if_neg u3, if_neg (show ¬ (c = 1051 ∧ 14 ≤ j ∧ j < 14 + (i + 1)) by omega)]
    · rintro ⟨y, m2⟩ ⟨rfl, k1, k2⟩
      dsimp only at k1 k2 ⊢
      have eT' : mi m2 1038 7 = things m := by rw [← eT]; unfold mi; rw [k1, if_neg (by omega), if_neg (by omega), if_neg (by omega), if_neg (by omega)]
      unfold mb_X6_on_99
      rw [p_thingMany]
      simp only [Option.bind_some, gz_let, eT', g30]
      refine pw_t (by rw [iI_lit, iI_mul, iI_le (by omega) (by omega)]; omega) (pw_gu (by decide) (pw_some ⟨rfl, fun c j => ?_, k2⟩))
      dsimp only
      rw [msI_i, msI_i, k1]
      rfl
    · dsimp only
      rw [k1]
      by_cases u0 : c = 1051 ∧ j = 0
      · rw [if_pos u0, if_pos u0]
      · rw [if_neg u0, if_neg u0]
        by_cases u1 : c = 1051 ∧ j = 1
        · rw [if_pos u1, if_pos u1]
        · rw [if_neg u1, if_neg u1]
          by_cases u2 : c = 1051 ∧ 2 ≤ j ∧ j < 2 + ties m
          · rw [if_pos u2, if_pos u2]
          · rw [if_neg u2, if_neg u2, if_neg (show ¬ (c = 1051 ∧ 14 ≤ j ∧ j < 14 + 0) by omega)]
  · dsimp only
    rw [msI_i, msI_i]
    by_cases u0 : c = 1051 ∧ j = 0
    · rw [if_neg (by omega), if_pos u0, if_pos u0]
    · rw [if_neg u0, if_neg u0]
      by_cases u1 : c = 1051 ∧ j = 1
      · rw [if_pos u1, if_pos u1]
      · rw [if_neg u1, if_neg u1, if_neg (show ¬ (c = 1051 ∧ 2 ≤ j ∧ j < 2 + 0) by omega)]
theorem e_on {n : Nat} (hn : n < 1000) {m : MM} {μ : gM} (hW : rWd m μ) (hD : rDk n m μ) : eA n (mf_on m) (cf_X0_on μ) μ := by
  have hW1 : rWd (msI m 2000 1 (0 : Int32)) (gz_sI μ 1000 2 (0 : Int32)) := hW.dk (mD.sI (by unfold dkM; omega)) (cD.sI (by unfold dkC; omega))
  have hD1 := hD.take
  have g1 : gS μ (gz_sI μ 1000 2 (0 : Int32)) := ⟨rfl, rfl, rfl⟩
  obtain ⟨z, hz⟩ : ∃ z : Nat, mi m 2000 1 = z := ⟨(mi m 2000 1).toNat, by have := hD.1.2.2.1; omega⟩
  have hz2 := hD.1.2.2.2
  have em : m.1 2000 1 = iI z := by rw [mi_of, hz]
  have et : gI μ 1000 2 = iI z := by rw [ci_of, hD.1.2.1, hz]
  unfold mf_on cf_X0_on cf_X0_tapeTaken
  rw [em, et]
  simp only [gz_let, Option.bind_some]
  generalize msI m 2000 1 (0 : Int32) = m1 at hW1 hD1
  generalize gz_sI μ 1000 2 (0 : Int32) = μ1 at hW1 hD1 g1
  obtain ⟨l, h1, h2, h3, h4, h5⟩ := id hW1
  have hR := h1
  obtain ⟨q1, q2, q3, q4, q5, q6, q7, q8, q9, q10, q11, q12, q13⟩ := h1
  have b7 := q2.1.2.1
  have b6 := q2.1.1
  have b9 := q2.1.2.2.2.1
  have hT : things m1 ≤ 8 := by unfold things; omega
  have hK : ties m1 ≤ 12 := by unfold ties; omega
  have eT : mi m1 1038 7 = things m1 := by unfold things; omega
  have eK : mi m1 1038 9 = ties m1 := by unfold ties; omega
  have hB : ∀ k : Nat, k < 1600 → 0 ≤ iB m1 k ∧ iB m1 k < 256 := fun k hk => (hD1.1.1 k hk).2
  have g0 : gz_ix (0 : Int32) = 0 := by decide
  have g1' : gz_ix (1 : Int32) = 1 := by decide
  have g2 : gz_ix (2 : Int32) = 2 := by decide
  have g5 : gz_ix (5 : Int32) = 5 := by decide
  obtain ⟨⟨r, m2⟩, e1, em, f⟩ := p_isImage q2.1 hB (z := z) (by omega)
  dsimp only at em
  subst em
  obtain ⟨⟨r', μ2⟩, e2, s1, s2, f'⟩ := c_comesOn hR hD1.1 (z := z) (by omega)
  dsimp only at e1 f s1 s2 f'
  rw [e1, e2]
  simp only [Option.bind_some]
  have hW2 : rWd m2 μ2 := hW1.sc (mSc.refl q5) s1 s2
  have hD2 : rDk n m2 μ2 := hD1.sc (mSc.refl q5) s1
  by_cases ok : imgOK m2 z
  rotate_left
  · have fr : r = 0 := by rcases f with f | f; · exact absurd f.2 ok
                          · exact f.1
    have fr' : r' = 0 := by rcases f' with f | f; · exact f.1
                            · exact absurd f.2.1 ok
    subst fr fr'
    obtain ⟨a1, a2⟩ := eA.no hW2 hD2 (k := 5) (by omega)
    refine ⟨0, _, _, ?_, ?_, a1, a2, s1.2.2.1.trans g1.1, s1.1.trans g1.2.1, s1.2.1.trans g1.2.2⟩
    · rw [if_pos rfl, if_pos (by decide), if_pos (by decide), g5]
      try rfl
    · rw [if_pos rfl, show (5 : Int32) = iI ((5 : Nat) : Int) from rfl, c_refuses μ2 (by omega)]
      rfl
  have fr : r = 1 := by rcases f with f | f; · exact f.1
                        · exact absurd ok f.2
  obtain ⟨fr', hI⟩ : r' = 1 ∧ coI n m2 μ1 (ties m2) (things m2) μ2 := by
    rcases f' with f | f
    · exact absurd ok f.2
    · exact ⟨f.1, f.2.2⟩
  subst fr fr'
  rw [if_neg n10, if_neg n10]
  obtain ⟨i1, i2, i3, i4, i5, i6, i7, i8, i9⟩ := hI
  have w0 := hB 0 (by omega)
  have w1 := hB 1 (by omega)
  have w2 := hB 2 (by omega)
  have v0 : m2.1 1001 0 = iI (iB m2 0) := mi_of _ _ _
  have v1 : m2.1 1001 1 = iI (iB m2 1) := mi_of _ _ _
  have v2 : m2.1 1001 2 = iI (iB m2 2) := mi_of _ _ _
  obtain ⟨⟨r, m3⟩, e3, j1, j2, j3⟩ := p_on2 (m := m2) q2.1
  dsimp only at j1 j2 j3
  subst j1
  -- the copy
  have hkC : kC [] μ2 1073 := ⟨by decide, by unfold ci; rw [i4]; decide, i2, fun i j hi => absurd hi (Nat.not_lt_zero _)⟩
  obtain ⟨l2, c2, -⟩ := id hW2
  have hro : rowOK μ2 1027 := c2.2.2.2.2.2.2.2.1.2.2.1
  obtain ⟨⟨r, μ3⟩, e4, y1, y2, y3, y4, y5⟩ := c_copy (x := 1027) (y := 1073) (by decide) (by decide) (by omega) hro hkC
  dsimp only at y1 y2 y3 y4 y5
  subst y1
  -- first the ring is emptied
  obtain ⟨l', p1, p2, p3, p4, ⟨n', p', t1, t2, t3, t4, t5, t6, t7⟩, -⟩ := id hW2
  generalize hμ0 : gz_sI μ2 1000 23 (0 : Int32) = μ0
  have i0 : ∀ c j : Nat, ¬ (c = 1000 ∧ j = 23) → gI μ0 c j = gI μ2 c j := fun c j hc => by rw [← hμ0, sI_i, if_neg hc]
  have p0 : ∀ c j : Nat, gP μ0 c j = gP μ2 c j := fun c j => by rw [← hμ0]; rfl
  have ck : cK μ2 μ0 := ⟨by rw [← hμ0]; rfl, by rw [← hμ0]; rfl, by rw [← hμ0]; rfl, fun c j => by rw [← hμ0]; rfl, fun c j hc => i0 c j (by omega), fun c j _ => p0 c j⟩
  generalize hm0 : msI m2 2000 68 (0 : Int32) = m0
  have at0 : ∀ c j : Nat, m0.1 c j = if c = 2000 ∧ j = 68 then 0 else m2.1 c j := fun c j => by rw [← hm0, msI_i]
  have mk : mK m2 m0 := ⟨fun c j hc => by rw [at0, if_neg (by omega)], by rw [← hm0]; rfl⟩
  have hW0 : rWd m0 μ0 := hW2.pop mk ck (fun j => by rw [at0, if_neg (by omega)]) (fun j => p0 _ _) (fun c j hc => i0 _ _ (by omega)) (k := 0) (s := p') (by omega) t2 t1 t2 (fun i hi => absurd hi (Nat.not_lt_zero _)) t3 t5 (by rw [← hμ0, sI_i, if_pos ⟨rfl, rfl⟩]; rfl) (by rw [at0, if_pos ⟨rfl, rfl⟩]; rfl) (by rw [at0, if_neg (by omega)]; exact t5)
  have hD0 := hD2.k mk ck
  have fin : eA n (some ((1 : Int32), m3)) (some ((1 : Int32), gz_sI μ3 1000 23 (0 : Int32))) μ := by
    have eμ : ∀ c j : Nat, gI (gz_sI μ3 1000 23 (0 : Int32)) c j = if c = 1000 ∧ j = 23 then 0 else gI μ3 c j := fun c j => by rw [sI_i]
    have hmN : mN m0 m3 := ⟨fun c j hc => by
        rw [j2, at0]
        by_cases u : c = 2000 ∧ j = 68
        · rw [if_pos u, if_pos u]
        · rw [if_neg u, if_neg u, if_neg (by omega), onS_o _ _ (by omega)], fun c j _ => by rw [j3, ← hm0]; rfl, by
      unfold mi
      rw [j2, if_neg (by omega), if_neg (by omega), onS_o _ _ (by omega)]
      exact q5.2.2.1⟩
    have hcN : cN μ0 (gz_sI μ3 1000 23 (0 : Int32)) := by
      refine ⟨by rw [← hμ0]; exact y2.1, by rw [← hμ0]; exact y2.2.1, by rw [← hμ0]; exact y2.2.2.1, fun c j _ => by rw [← hμ0]; exact y2.2.2.2.1 c j, fun c j hc => ?_, fun c j _ => by rw [p0]; exact y2.2.2.2.2.2 c j⟩
      rw [eμ, ← hμ0, sI_i]
      by_cases u : c = 1000 ∧ j = 23
      · rw [if_pos u, if_pos u]
      · rw [if_neg u, if_neg u]
        exact y2.2.2.2.2.1 c j (by omega)
    have hsE : sE (onS m2) m3 := fun c j hc => by rw [j2, if_neg (by unfold kyC at hc; omega), if_neg (by unfold kyC at hc; omega)]
    have o0 : mi (onS m2) 1051 0 = 256 * iB m2 0 + iB m2 1 := by
      unfold mi
      rw [onS_at, if_pos ⟨rfl, rfl⟩]
      exact toInt_iI (by omega) (by omega)
    have o1 : mi (onS m2) 1051 1 = iB m2 2 := by
      unfold mi
      rw [onS_at, if_neg (by omega), if_pos ⟨rfl, rfl⟩]
      exact toInt_iI (by omega) (by omega)
    have eT' : mi (onS m2) 1038 7 = mi m2 1038 7 := onS_mo _ _ (by omega)
    have eK' : mi (onS m2) 1038 9 = mi m2 1038 9 := onS_mo _ _ (by omega)
    obtain ⟨ok1, ok2, ok3, ok4, ok5, ok6⟩ := ok
    have hN : okN (onS m2) := by
      refine ⟨by omega, fun t ht => ?_, by rw [onS_mo _ _ (by omega)]; exact q5.2.2.1, fun t ht => ?_⟩
      · by_cases u : t < things m2
        · obtain ⟨x1, x2⟩ := onS_st m2 hK u
          have := ok6 t u
          have c0 := hB (3 + ties m2 + 2 * t) (by omega)
          have c1 := hB (3 + ties m2 + 2 * t + 1) (by omega)
          unfold mi
          rw [x1, x2, toInt_iI (by omega) (by omega), toInt_iI (by omega) (by omega)]
          refine ⟨by omega, c1.1, ?_⟩
          have := this.2
          split at this <;> omega
        · have x1 : (onS m2).1 1051 (14 + 2 * t) = m2.1 1051 (14 + 2 * t) := by rw [onS_at, if_neg (by omega), if_neg (by omega), if_neg (by omega), if_neg (by omega)]
          have x2 : (onS m2).1 1051 (15 + 2 * t) = m2.1 1051 (15 + 2 * t) := by rw [onS_at, if_neg (by omega), if_neg (by omega), if_neg (by omega), if_neg (by omega)]
          unfold mi
          rw [x1, x2]
          exact q5.2.1 t ht
      · rw [eT'] at ht
        rw [onS_mo _ _ (by omega), onS_mo _ _ (by omega)]
        exact q5.2.2.2 t ht
    have hS : rSt (onS m2) (gz_sI μ3 1000 23 (0 : Int32)) 1027 := by
      have a : ∀ j : Nat, j < 4 → gI (gz_sI μ3 1000 23 (0 : Int32)) 1027 j = gI μ2 1073 j := fun j hj => by rw [eμ, if_neg (by omega)]; exact y3 j hj
      refine ⟨?_, ?_, fun k hk => ?_, fun k hk hk2 => ?_, fun t ht => ?_⟩
      · rw [a 0 (by omega), i3, onS_at, if_pos ⟨rfl, rfl⟩]
      · rw [a 2 (by omega), i5, onS_at, if_neg (by omega), if_pos ⟨rfl, rfl⟩]
      · rw [eK'] at hk
        have hk' : k < ties m2 := by omega
        rw [a 3 (by omega), i6 k (by omega)]
        have c0 := hB (3 + k) (by omega)
        have : mi (onS m2) 1051 (2 + k) = iB m2 (3 + k) := by
          unfold mi
          rw [onS_k m2 hk']
          exact toInt_iI (by omega) (by omega)
        rw [this]
        by_cases u : iB m2 (3 + k) = 1
        · rw [decide_eq_true u, decide_eq_true ⟨hk', u⟩]
        · rw [decide_eq_false u, decide_eq_false (fun x => u x.2)]
      · rw [eK'] at hk2
        rw [a 3 (by omega), i6 k hk, decide_eq_false (by omega)]
      · rw [eT'] at ht
        have ht' : t < things m2 := by omega
        obtain ⟨x1, x2⟩ := onS_st m2 hK ht'
        obtain ⟨z1, z2, z3⟩ := y4 t (by omega)
        obtain ⟨z4, z5, -⟩ := i9 t ht'
        refine ⟨?_, ?_, ?_⟩
        · rw [eμ, if_neg (by omega), show gI μ3 (1027 + 1) t = _ from z1, x1]; exact z4
        · rw [eμ, if_neg (by omega), show gI μ3 (1027 + 3) t = _ from z2, x2]; exact z5
        · unfold ci
          rw [eμ, if_neg (by omega), show gI μ3 (1027 + 4) t = _ from z3]
          have h52 : (onS m2).1 2000 52 = -1 := by rw [onS_o _ _ (by omega)]; exact q12
          rw [heat_no h52, onS_mo _ _ (by omega), ← heat_no q12]
          exact i8 t ht'
    have hkp : kpM [] m3 := ⟨by decide, by unfold mi; rw [j2, if_neg (by omega), if_pos ⟨rfl, rfl⟩]; decide, fun i j hi => absurd hi (Nat.not_lt_zero _)⟩
    have hkc : kC [] (gz_sI μ3 1000 23 (0 : Int32)) 1027 := y5.sI (by omega)
    refine ⟨1, m3, _, rfl, rfl, hW0.now hmN hcN hsE hN (by omega) ?_ (fun k hk => ?_) hkp hS hkc, hD0.n hmN hcN, ?_, ?_, ?_⟩
    · rw [o1]
      split at ok4 <;> omega
    · rw [eK'] at hk
      have hk' : k < ties m2 := by omega
      have c0 := hB (3 + k) (by omega)
      have := ok5 k hk'
      have : mi (onS m2) 1051 (2 + k) = iB m2 (3 + k) := by
        unfold mi
        rw [onS_k m2 hk']
        exact toInt_iI (by omega) (by omega)
      omega
    · exact (y2.2.2.1.trans s1.2.2.1).trans g1.1
    · exact (y2.1.trans s1.1).trans g1.2.1
    · exact (y2.2.1.trans s1.2.1).trans g1.2.2
  have ema : mf_on m = mf_on m := rfl
  rw [g0, g1', g2, v0, v1, show (256 : Int32) = iI 256 from rfl, iI_mul, iI_add, if_pos (by decide), if_pos (by decide), if_pos (by decide)]
  rw [if_pos (show gz_in (2 : Int32) 1600 by decide), if_pos (show gz_in (1 : Int32) 151 by decide), msI_i, if_neg (show ¬ ((1001 : Nat) = 1051 ∧ (2 : Nat) = 0) by omega), v2, e3, e4]
  simp only [Option.bind_some]
  rw [if_pos (by decide)]
  exact fin
