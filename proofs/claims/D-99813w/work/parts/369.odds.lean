/-! ===== odds ===== -/
theorem tk.sE {m a : MM} (h : tk m a) (hn : ∀ j : Nat, j < 30 → a.1 1051 j = m.1 1051 j) (h52 : a.1 2000 52 = m.1 2000 52) (h53 : a.1 2000 53 = m.1 2000 53) : sE m a := fun c j k => by
  by_cases q1 : c = 1051
  · subst q1
    exact hn j (by unfold kyC at k; omega)
  · by_cases q2 : c = 2000
    · subst q2
      have hj : j = 52 ∨ j = 53 := by unfold kyC at k; omega
      rcases hj with z | z <;> subst z
      · exact h52
      · exact h53
    · exact h.1 c j (by unfold kyC at k; unfold scM; omega)
theorem p_odds {l : List (Int × Int × Int)} {m : MM} (h2 : rMany m) (h4 : cOK m) (h5 : okN m) (h7 : kpM l m) (h12 : m.1 2000 52 = -1) (h13 : m.1 2000 56 = 0) {t : Nat} (ht : (t : Int) < mi m 1038 7) (hh : mi m 1051 0 + 1 ≤ 999) : pw (mj_X6_odds_14 (iI t) m) (fun q => q.1 = iI (odF m t (things m + 1)) ∧ mSc m q.2) := by
  have b1 := h2.2.1
  have b11 := h2.2.2.2.2
  have hN0 := h5.1
  have g11 : gz_ix (11 : Int32) = 11 := by decide
  have pA : mf_isAhead (1 : Int32) (1 : Int32) (1 : Int32) m = some (if ((1 : Int) ≤ 1 ∧ (1 : Int) ≤ 1) ∧ mi m 1051 0 + 1 ≤ 999 then 1 else 0, m) := p_isAhead h5 (z := 1) (a := 1) (b := 1) (by omega) (by omega) (by omega)
  have hth : (things m : Int) = mi m 1038 7 := by unfold things; omega
  unfold mj_X6_odds_14
  rw [p_thingMany]
  refine pw_bind (pw_some ?_)
  dsimp only
  refine pw_f (by rw [iI_lit, iI_eq (by omega) (by omega)]; omega) ?_
  rw [pA, if_pos (by omega)]
  refine pw_bind (pw_some ?_)
  dsimp only
  refine pw_f n10 (pw_f (by rw [show (-1 : Int32) = iI (-1) by decide, iI_eq (by omega) (by omega)]; omega) ?_)
  refine pw_bind (pw_mono (tk.aside h5) ?_)
  rintro ⟨u, a⟩ ⟨t1, t2⟩
  dsimp only at t1 t2 ⊢
  unfold ml_X6_odds_54
  refine pw_for (fun (i : Nat) (q : Int32 × Int32 × Int32 × MM) => q.1 = iI t ∧ q.2.1 = iI (odF m t i) ∧ q.2.2.1 = iI ((i : Int) - 1) ∧ tk m q.2.2.2 ∧ sE m q.2.2.2) (things m + 1) ?_ ?_ ⟨rfl, rfl, rfl, t1, t2⟩
  · rintro i ⟨y1, y2, y3, a'⟩ hi ⟨rfl, rfl, rfl, a1, a2⟩
    dsimp only at a1 a2 ⊢
    have hob := odF_b h2 t i
    have e1 : iI ((i : Int) - 1) + (1 : Int32) = iI (((i + 1 : Nat) : Int) - 1) := by
      rw [iI_lit, iI_add]
      exact congrArg iI (by omega)
    have st72 : ∀ c : MM, tk m c → sE (odM m i) c → c.1 2000 52 = m.1 2000 52 → c.1 2000 53 = m.1 2000 53 → pw (mj_X6_odds_72 (iI t) (iI (odF m t i)) (iI ((i : Int) - 1)) c) (Sum.elim (fun q : Int32 × Int32 × Int32 × MM => q.1 = iI t ∧ q.2.1 = iI (odF m t (i + 1)) ∧ q.2.2.1 = iI (((i + 1 : Nat) : Int) - 1) ∧ tk m q.2.2.2 ∧ sE m q.2.2.2) (fun q => q.1 = iI (odF m t (things m + 1)) ∧ mSc m q.2)) := by
      intro c c1 c2 c52 c53
      have hhO := odM_hh m i
      have fin : ∀ (d : MM) (z : Int), tk m d → d.1 2000 52 = m.1 2000 52 → d.1 2000 53 = m.1 2000 53 → z = odF m t (i + 1) → pw (mj_X6_odds_117 (iI t) (iI z) (iI ((i : Int) - 1)) d) (Sum.elim (fun q : Int32 × Int32 × Int32 × MM => q.1 = iI t ∧ q.2.1 = iI (odF m t (i + 1)) ∧ q.2.2.1 = iI (((i + 1 : Nat) : Int) - 1) ∧ tk m q.2.2.2 ∧ sE m q.2.2.2) (fun q => q.1 = iI (odF m t (things m + 1)) ∧ mSc m q.2)) := by
        intro d z d1 d52 d53 hz
        unfold mj_X6_odds_117
        refine pw_bind (pw_mono d1.anew ?_)
        rintro ⟨u2, f⟩ ⟨f1, f2, f3, f4⟩
        dsimp only at f1 f2 f3 f4 ⊢
        exact pw_let (pw_some ⟨rfl, by rw [hz], e1, f1, f1.sE f2 (f3.trans d52) (f4.trans d53)⟩)
      unfold mj_X6_odds_72
      refine pw_bind (pw_mono (p_hour (c2.many (hhO.many h2)) (c2.oN (odM_ok h5 (by omega))) (c2.cO (hhO.cO h4)) (c1.kp h7)) ?_)
      rintro ⟨u2, d⟩ ⟨d1, d2, d3, d4, d5⟩
      dsimp only at d1 d2 d3 d4 d5 ⊢
      have ds := (c2.hour (hhO.many h2)).trans d1
      have dt := c1.hE d2 (d5 c1.2.2.2.1)
      have d52 : d.1 2000 52 = m.1 2000 52 := (d2.1 _ _ (by omega)).trans c52
      have d53 : d.1 2000 53 = m.1 2000 53 := (d2.1 _ _ (by omega)).trans c53
      have dw : ∀ j, mi d 1038 j = mi m 1038 j := fun j => dt.hh.at (by omega)
      rw [p_burn ds (by omega)]
      refine pw_bind (pw_some ?_)
      dsimp only
      by_cases q : 0 < mi (hourM (odM m i)) 1051 (14 + 2 * t)
      · rw [if_pos q]
        exact pw_f n10 (fin d _ dt d52 d53 (by show _ = odF m t i + od1 m t i; unfold od1; rw [if_neg (by omega)]; omega))
      · rw [if_neg q]
        refine pw_t rfl ?_
        unfold mj_X6_odds_115
        by_cases q0 : i = 0
        · refine pw_t (by rw [q0]; decide) (pw_gu (by decide) ?_)
          rw [p_thingMany, g11, mi_of d, dw, dw]
          refine pw_bind (pw_some (pw_let ?_))
          rw [iI_lit, iI_sub, iI_mul, iI_add]
          exact fin d _ dt d52 d53 (by show _ = odF m t i + od1 m t i; unfold od1; rw [if_pos (by omega), if_pos q0])
        · refine pw_f (by rw [show (-1 : Int32) = iI (-1) by decide, iI_eq (by omega) (by omega)]; omega) (pw_gu (by decide) (pw_let ?_))
          rw [g11, mi_of d, dw, iI_add]
          exact fin d _ dt d52 d53 (by show _ = odF m t i + od1 m t i; unfold od1; rw [if_pos (by omega), if_neg q0])
    unfold mb_X6_odds_54
    rw [p_thingMany, a2.w]
    refine pw_bind (pw_some ?_)
    dsimp only
    refine pw_f (by rw [iI_le (by omega) (by omega)]; omega) ?_
    have a52 : a'.1 2000 52 = m.1 2000 52 := a2 _ _ (by unfold kyC; omega)
    have a53 : a'.1 2000 53 = m.1 2000 53 := a2 _ _ (by unfold kyC; omega)
    by_cases q0 : i = 0
    · refine pw_t (by rw [q0]; decide) ?_
      exact st72 a' a1 (by unfold odM; rw [if_pos q0]; exact a2) a52 a53
    · refine pw_f (by rw [show (-1 : Int32) = iI (-1) by decide, iI_eq (by omega) (by omega)]; omega) ?_
      have ei : iI ((i : Int) - 1) = iI ((i - 1 : Nat) : Int) := congrArg iI (by omega)
      have pB := p_blow a2 h5 (a1.kp h7) (t := i - 1) (by omega)
      rw [← ei] at pB
      refine pw_bind (pw_mono pB ?_)
      rintro ⟨u2, c⟩ ⟨c1, c2, c3, c4⟩
      dsimp only at c1 c2 c3 c4 ⊢
      exact st72 c (a1.hE c2 (c4 a1.2.2.2.1)) (by unfold odM; rw [if_neg q0]; exact c1) ((c2.1 _ _ (by omega)).trans a52) ((c2.1 _ _ (by omega)).trans a53)
  · rintro ⟨y1, y2, y3, a'⟩ ⟨rfl, rfl, rfl, a1, a2⟩
    dsimp only at a1 a2 ⊢
    unfold mb_X6_odds_54
    rw [p_thingMany, a2.w]
    refine pw_bind (pw_some ?_)
    dsimp only
    refine pw_t (by rw [iI_le (by omega) (by omega)]; omega) ?_
    refine pw_bind (pw_mono (a1.back h12 h13) ?_)
    rintro ⟨u3, e⟩ hsc
    exact pw_some ⟨rfl, hsc⟩
theorem c_odds {l : List (Int × Int × Int)} {m : MM} {μ : gM} (h : rCo l m μ) {t : Nat} (ht : (t : Int) < mi m 1038 7) (hh : mi m 1051 0 + 1 ≤ 999) : pw (mj_X0_odds_13 (iI t) μ) (fun q => q.1 = iI (odF m t (things m + 1)) ∧ cSc μ q.2 ∧ rowOK q.2 1073) := by
  have hR := h
  obtain ⟨h1, h2, h3, h4, h5, h6, h7, h8, h9, h10, h11, h12, h13⟩ := h
  have b1 := h2.1.2.1
  have b11 := h2.1.2.2.2.2
  have hN0 := h5.1
  have hth : (things m : Int) = mi m 1038 7 := by unfold things; omega
  have cA : cf_X0_isAhead (1 : Int32) (1 : Int32) (1 : Int32) μ = some (if ((1 : Int) ≤ 1 ∧ (1 : Int) ≤ 1) ∧ mi m 1051 0 + 1 ≤ 999 then 1 else 0, μ) := c_isAhead h5 h6.1 (z := 1) (a := 1) (b := 1) (by omega) (by omega) (by omega)
  -- the hour behind a State that is tried
  have loop : ∀ (μ0 : gM) (z : Int), cSc μ μ0 → rowOK μ0 1073 → z = odF m t 1 → pw (mj_X0_odds_90 (iI t) (iI z) μ0) (fun q => q.1 = iI (odF m t (things m + 1)) ∧ cSc μ q.2 ∧ rowOK q.2 1073) := by
    intro μ0 z k1 k2 hz
    unfold mj_X0_odds_90 ml_X0_odds_93
    refine pw_for (fun (i : Nat) (q : Int32 × Int32 × Int32 × gM) => q.1 = iI t ∧ q.2.1 = iI (odF m t (i + 1)) ∧ q.2.2.1 = iI i ∧ cSc μ q.2.2.2 ∧ rowOK q.2.2.2 1073) (things m) ?_ ?_ ⟨rfl, by rw [hz], rfl, k1, k2⟩
    · rintro i ⟨y1, y2, y3, μ'⟩ hi ⟨rfl, rfl, rfl, a1, a2⟩
      dsimp only at a1 a2 ⊢
      have hob := odF_b h2.1 t (i + 1)
      have hR' : rCo l m μ' := hR.sc (mSc.refl h5) a1 a2
      have e1 : iI (i : Int) + (1 : Int32) = iI ((i + 1 : Nat) : Int) := by rw [iI_lit, iI_add]; rfl
      have eo : odM m (i + 1) = blowM m i := if_neg (by omega)
      unfold mb_X0_odds_93
      rw [c_things hR'.2.1]
      refine pw_bind (pw_some ?_)
      dsimp only
      refine pw_f (by rw [iI_le (by omega) (by omega)]; omega) ?_
      refine pw_bind (pw_mono (c_tries hR') ?_)
      rintro ⟨r, μ1⟩ ⟨rfl, t2, t3, t4⟩
      dsimp only at t2 t3 t4 ⊢
      refine pw_gu (by decide) ?_
      refine pw_bind (pw_mono (c_blow (x := 1073) (by decide) h2.1 h5 t3 t4 (t := i) (by omega)) ?_)
      rintro ⟨u, μ2⟩ ⟨c1, c2, c3⟩
      dsimp only at c1 c2 c3 ⊢
      have s2 : cSc μ μ2 := (a1.trans t2).trans (cSc.c c3)
      have hP : gP μ2 1000 0 = gP μ 1000 0 := s2.2.2.2.2.2 _ _ (by omega)
      refine pw_bind (pw_mono (c_goes (x := 1073) (by decide) (s2.lay h1) (h5.blow (t := i) (by omega)) (h2.mv (blowM_hh m i) s2.dy hP) (h3.mv h2 (blowM_hh m i) s2.dy hP) c1 c2) ?_)
      rintro ⟨r2, μ3⟩ ⟨d1, d2, d3, d4⟩
      dsimp only at d1 d2 d3 d4 ⊢
      have s3 : cSc μ μ3 := s2.trans (cSc.c d4)
      have hP3 : gP μ3 1000 0 = hC μ := s3.2.2.2.2.2 _ _ (by omega)
      have hK3 : gK μ3 (hC μ) = 2 := by rw [show gK μ3 = gK μ from s3.1]; exact h2.2.1.2.2.1
      have hd3 : gI μ3 (hC μ) 2 = iI (mi m 1038 11) := by rw [(s3.dy.2.2.2 _ h2.2.1.2.1 2).1, ci_of, h2.2.1.2.2.2.2.2.2.2]
      rw [c_isLit (m := hourM (blowM m i)) (x := 1073) (t := t) (by omega) (d2.2.2.2.2 t (by rw [((blowM_hh m i).trans (hhE.hour _)).at (by omega)]; exact ht)).1]
      refine pw_bind (pw_some ?_)
      dsimp only
      have fin : ∀ z : Int, z = od1 m t (i + 1) → pw (mj_X0_odds_147 (iI t) (iI i) (iI z) (iI (odF m t (i + 1))) μ3) (Sum.elim (fun q : Int32 × Int32 × Int32 × gM => q.1 = iI t ∧ q.2.1 = iI (odF m t (i + 1 + 1)) ∧ q.2.2.1 = iI ((i + 1 : Nat) : Int) ∧ cSc μ q.2.2.2 ∧ rowOK q.2.2.2 1073) (fun q => q.1 = iI (odF m t (things m + 1)) ∧ cSc μ q.2 ∧ rowOK q.2 1073)) := by
        intro z hz
        unfold mj_X0_odds_147
        refine pw_let (pw_let (pw_some ⟨rfl, ?_, e1, s3, d3.2.2.1⟩))
        dsimp only
        rw [iI_add, hz]
        rfl
      by_cases q : 0 < mi (hourM (blowM m i)) 1051 (14 + 2 * t)
      · rw [if_pos q]
        exact pw_f n10 (fin 0 (by unfold od1; rw [eo, if_neg (by omega)]))
      · rw [if_neg q]
        refine pw_t rfl (pw_let ?_)
        rw [hP3]
        refine pw_gu h2.2.1.1 (pw_gu hK3 ?_)
        rw [hd3]
        exact fin _ (by unfold od1; rw [eo, if_pos (by omega), if_neg (by omega)])
    · rintro ⟨y1, y2, y3, μ'⟩ ⟨rfl, rfl, rfl, a1, a2⟩
      dsimp only at a1 a2 ⊢
      have hR' : rCo l m μ' := hR.sc (mSc.refl h5) a1 a2
      unfold mb_X0_odds_93
      rw [c_things hR'.2.1]
      refine pw_bind (pw_some ?_)
      dsimp only
      exact pw_t (by rw [iI_le (by omega) (by omega)]; omega) (pw_some ⟨rfl, a1, a2⟩)
  unfold mj_X0_odds_13
  rw [c_things h2]
  refine pw_bind (pw_some ?_)
  dsimp only
  refine pw_f (by rw [iI_lit, iI_eq (by omega) (by omega)]; omega) ?_
  rw [cA, if_pos (by omega)]
  refine pw_bind (pw_some ?_)
  dsimp only
  refine pw_f n10 (pw_f (by rw [show (-1 : Int32) = iI (-1) by decide, iI_eq (by omega) (by omega)]; omega) ?_)
  refine pw_bind (pw_mono (c_tries hR) ?_)
  rintro ⟨r, μ1⟩ ⟨rfl, t2, t3, t4⟩
  dsimp only at t2 t3 t4 ⊢
  have hP : gP μ1 1000 0 = gP μ 1000 0 := t2.2.2.2.2.2 _ _ (by omega)
  refine pw_gu (by decide) ?_
  refine pw_bind (pw_mono (c_goes (x := 1073) (by decide) (t2.lay h1) h5 (h2.mv (hhE.refl m) t2.dy hP) (h3.mv h2 (hhE.refl m) t2.dy hP) t3 t4) ?_)
  rintro ⟨r2, μ3⟩ ⟨d1, d2, d3, d4⟩
  dsimp only at d1 d2 d3 d4 ⊢
  have s3 : cSc μ μ3 := t2.trans (cSc.c d4)
  have hP3 : gP μ3 1000 0 = hC μ := s3.2.2.2.2.2 _ _ (by omega)
  have hK3 : gK μ3 (hC μ) = 2 := by rw [show gK μ3 = gK μ from s3.1]; exact h2.2.1.2.2.1
  have hd3 : gI μ3 (hC μ) 2 = iI (mi m 1038 11) := by rw [(s3.dy.2.2.2 _ h2.2.1.2.1 2).1, ci_of, h2.2.1.2.2.2.2.2.2.2]
  have hR3 : rHH m μ3 := h2.mv (hhE.refl m) s3.dy hP3
  have eo : odM m 0 = m := if_pos rfl
  rw [c_isLit (m := hourM m) (x := 1073) (t := t) (by omega) (d2.2.2.2.2 t (by rw [(hhE.hour m).at (by omega)]; exact ht)).1]
  refine pw_bind (pw_some ?_)
  dsimp only
  by_cases q : 0 < mi (hourM m) 1051 (14 + 2 * t)
  · rw [if_pos q]
    refine pw_f n10 (loop μ3 0 s3 d3.2.2.1 ?_)
    show _ = odF m t 0 + od1 m t 0
    unfold od1
    rw [eo, if_neg (by omega)]
    rfl
  · rw [if_neg q]
    refine pw_t rfl (pw_let ?_)
    rw [hP3]
    refine pw_gu h2.2.1.1 (pw_gu hK3 ?_)
    rw [c_things hR3]
    refine pw_bind (pw_some ?_)
    dsimp only
    rw [hd3, iI_lit, iI_sub, iI_mul]
    refine loop μ3 _ s3 d3.2.2.1 ?_
    show _ = odF m t 0 + od1 m t 0
    unfold od1
    rw [eo, if_pos (by omega), if_pos rfl]
    exact (Int.zero_add _).symm
theorem e_odds {l : List (Int × Int × Int)} {m : MM} {μ : gM} (h : rCo l m μ) (x : Int32) : eO (mf_odds x m) (cf_X0_odds x μ) m μ := by
  have hR := h
  obtain ⟨h1, h2, h3, h4, h5, h6, h7, h8, h9, h10, h11, h12, h13⟩ := h
  obtain ⟨z, hz, rfl⟩ := iI_ex x
  have b1 := h2.1.2.1
  have hN0 := h5.1
  have pA : mf_isAhead (1 : Int32) (1 : Int32) (1 : Int32) m = some (if ((1 : Int) ≤ 1 ∧ (1 : Int) ≤ 1) ∧ mi m 1051 0 + 1 ≤ 999 then 1 else 0, m) := p_isAhead h5 (z := 1) (a := 1) (b := 1) (by omega) (by omega) (by omega)
  have cA : cf_X0_isAhead (1 : Int32) (1 : Int32) (1 : Int32) μ = some (if ((1 : Int) ≤ 1 ∧ (1 : Int) ≤ 1) ∧ mi m 1051 0 + 1 ≤ 999 then 1 else 0, μ) := c_isAhead h5 h6.1 (z := 1) (a := 1) (b := 1) (by omega) (by omega) (by omega)
  have em1 : (-1 : Int32) = iI (-1) := by decide
  unfold mf_odds cf_X0_odds
  -- what both do behind the first question
  have both : (z = -1 ∨ (0 ≤ z ∧ z < mi m 1038 7)) → eO (mj_X6_odds_14 (iI z) m) (mj_X0_odds_13 (iI z) μ) m μ := by
    intro hz1
    by_cases q0 : mi m 1038 7 = 0
    · refine eO.same hR (-1) ?_ ?_
      · unfold mj_X6_odds_14 mj_X6_odds_31
        rw [p_thingMany, q0]
        rfl
      · unfold mj_X0_odds_13 mj_X0_odds_30
        rw [c_things h2, q0]
        rfl
    · by_cases qh : mi m 1051 0 + 1 ≤ 999
      · by_cases q : z = -1
        · refine eO.same hR (iI (100 * mi m 1038 7)) ?_ ?_
          · unfold mj_X6_odds_14
            rw [p_thingMany]
            simp only [Option.bind_some]
            rw [if_neg (by rw [iI_lit, iI_eq (by omega) (by omega)]; exact q0), pA, if_pos (by omega)]
            simp only [Option.bind_some]
            rw [if_neg n10, if_pos (by rw [q, em1]), p_thingMany]
            simp only [Option.bind_some]
            rw [iI_lit, iI_mul]
          · unfold mj_X0_odds_13
            rw [c_things h2]
            simp only [Option.bind_some]
            rw [if_neg (by rw [iI_lit, iI_eq (by omega) (by omega)]; exact q0), cA, if_pos (by omega)]
            simp only [Option.bind_some]
            rw [if_neg n10, if_pos (by rw [q, em1]), c_things h2]
            simp only [Option.bind_some]
            rw [iI_lit, iI_mul]
        · obtain ⟨t, rfl⟩ : ∃ t : Nat, z = t := ⟨z.toNat, by omega⟩
          exact eO.of _ (p_odds h2.1 h4 h5 h7 h12 h13 (by omega) qh) (c_odds hR (by omega) qh)
      · refine eO.same hR (-1) ?_ ?_
        · unfold mj_X6_odds_14 mj_X6_odds_31
          rw [p_thingMany]
          simp only [Option.bind_some]
          rw [if_neg (by rw [iI_lit, iI_eq (by omega) (by omega)]; exact q0), pA, if_neg (by omega)]
          rfl
        · unfold mj_X0_odds_13 mj_X0_odds_30
          rw [c_things h2]
          simp only [Option.bind_some]
          rw [if_neg (by rw [iI_lit, iI_eq (by omega) (by omega)]; exact q0), cA, if_neg (by omega)]
          rfl
  by_cases q : z = -1
  · rw [if_pos (by rw [q, em1]), if_pos (by rw [q, em1])]
    exact both (Or.inl q)
  · rw [if_neg (by rw [em1, iI_eq hz (by omega)]; exact q), if_neg (by rw [em1, iI_eq hz (by omega)]; exact q), i2l_iI hz, p_isThing h2.1 hz, c_isThing h2 hz]
    simp only [Option.bind_some]
    by_cases q2 : 0 ≤ z ∧ z < mi m 1038 7
    · rw [if_pos q2, if_neg n10, if_neg n10]
      exact both (Or.inr q2)
    · rw [if_neg q2]
      exact eO.same hR (-1) rfl rfl
