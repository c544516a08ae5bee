/-! ===== he goes ===== -/
def atM (m : MM) (v : Int) : MM := (fun c j => if c = 1051 ∧ j = 1 then iI v else m.1 c j, m.2)
theorem atM_at (m : MM) (v : Int) (c j : Nat) : (atM m v).1 c j = if c = 1051 ∧ j = 1 then iI v else m.1 c j := rfl
theorem atM_o (m : MM) (v : Int) {c j : Nat} (h : ¬ (c = 1051 ∧ j = 1)) : mi (atM m v) c j = mi m c j := congrArg Int32.toInt (if_neg h)
theorem atM_1 (m : MM) {v : Int} (hv : 0 ≤ v ∧ v < 8) : mi (atM m v) 1051 1 = v := by
  show Int32.toInt (if (1051 : Nat) = 1051 ∧ (1 : Nat) = 1 then iI v else m.1 1051 1) = v
  rw [if_pos ⟨rfl, rfl⟩]
  exact toInt_iI (by omega) (by omega)
theorem atM_hh (m : MM) (v : Int) : hhE m (atM m v) := fun c j k => if_neg (by omega)
theorem okN.at_ {m : MM} (h : okN m) (v : Int) : okN (atM m v) := by
  obtain ⟨h1, h2, h3, h4⟩ := h
  refine ⟨by rw [atM_o m v (by omega)]; exact h1, fun s hs => ?_, by rw [atM_o m v (by omega)]; exact h3, fun s hs => ?_⟩
  · rw [atM_o m v (by omega), atM_o m v (by omega)]; exact h2 s hs
  · rw [atM_o m v (by omega)] at hs
    rw [atM_o m v (by omega), atM_o m v (by omega)]
    exact h4 s hs
theorem rSt.at_ {m : MM} {μ : gM} {x : Nat} (h : rSt m μ x) (v : Int) : rSt (atM m v) (gz_sI μ x 2 (iI v)) x := by
  obtain ⟨s1, s2, s3, s4, s5⟩ := h
  refine ⟨?_, ?_, fun k hk => ?_, fun k hk hk2 => ?_, fun t ht => ?_⟩
  · rw [sI_i, if_neg (by omega), atM_at, if_neg (by omega)]; exact s1
  · rw [sI_i, if_pos ⟨rfl, rfl⟩, atM_at, if_pos ⟨rfl, rfl⟩]
  · rw [atM_o m v (by omega)] at hk
    rw [sI_i, if_neg (by omega), atM_o m v (by omega)]; exact s3 k hk
  · rw [atM_o m v (by omega)] at hk2
    rw [sI_i, if_neg (by omega)]; exact s4 k hk hk2
  · rw [atM_o m v (by omega)] at ht
    unfold heatS ci
    rw [sI_i, if_neg (by omega), sI_i, if_neg (by omega), sI_i, if_neg (by omega), atM_at, if_neg (by omega), atM_at, if_neg (by omega), atM_o m v (by omega), atM_o m v (by omega), atM_o m v (by omega)]
    exact s5 t ht
theorem e_go {n : Nat} {m : MM} {μ : gM} (hW : rWd m μ) (hD : rDk n m μ) (x : Int32) : eA n (mf_go x m) (cf_X0_go x μ) μ := by
  obtain ⟨z, hz, rfl⟩ := iI_ex x
  obtain ⟨l, h1, hw, -⟩ := id hW
  obtain ⟨p1, p2, p3, p4, p5, p6, p7, p8, p9, p10, p11, p12, p13⟩ := h1
  have g0 : gz_ix (0 : Int32) = 0 := by decide
  have g1 : gz_ix (1 : Int32) = 1 := by decide
  have hN0 := p5.1
  have hb := p2.1.1
  have em1 : (-1 : Int32) = iI (-1) := by decide
  obtain ⟨a, ha⟩ : ∃ a : Nat, mi m 1051 1 = a := ⟨(mi m 1051 1).toNat, by omega⟩
  have ea : m.1 1051 1 = iI a := by rw [mi_of m, ha]
  have ec : gI μ 1027 2 = iI a := by rw [p6.2.1, ea]
  have no : eA n (mj_X6_go_59 m) (mj_X0_go_61 μ) μ := by
    have e3 : (2 : Int32) = iI ((2 : Nat) : Int) := rfl
    obtain ⟨a1, a2⟩ := eA.no hW hD (k := 2) (by omega)
    refine ⟨-1, _, _, ?_, ?_, a1, a2, rfl, rfl, rfl⟩
    · unfold mj_X6_go_59
      rw [e3, p_refuses m (by omega)]
      rfl
    · unfold mj_X0_go_61
      rw [e3, c_refuses μ (by omega)]
      rfl
  have no38 : eA n (mj_X6_go_38 (iI z) m) (mj_X0_go_61 μ) μ := by
    unfold mj_X6_go_38 mj_X6_go_39
    rw [if_pos rfl]
    exact no
  unfold mf_go cf_X0_go
  rw [i2l_iI hz, p_isHall p2.1 hz, c_isHall p2 hz]
  simp only [Option.bind_some]
  by_cases q : 0 ≤ z ∧ z < mi m 1038 6
  · rw [if_pos q, if_neg n10, if_neg n10, if_pos (by decide), g1, ea, ec]
    obtain ⟨b, rfl⟩ : ∃ t : Nat, z = t := ⟨z.toNat, by omega⟩
    by_cases qa : (b : Int) = a
    · rw [if_pos (by rw [qa]), if_pos (by rw [qa])]
      exact no38
    · have nb : ¬ iI (b : Int) = iI (a : Int) := by rw [iI_eq (by omega) (by omega)]; exact qa
      obtain ⟨w1, w2⟩ := p_ways (m := m) (a := a) (b := b) (by omega) (by omega)
      rw [if_neg nb, if_neg nb, if_pos w1, w2, c_wayBetween hw (by omega) (by omega)]
      simp only [Option.bind_some]
      rw [if_pos (by decide)]
      unfold mj_X6_go_39
      have hwr := hw a b (by omega) (by omega)
      generalize hs : mi m 1050 (8 * a + b) = s at hwr
      by_cases q1 : s = -1
      · rw [if_pos (by rw [q1, em1]), if_pos (by rw [q1, em1])]
        exact no
      · have n1 : ¬ iI s = (-1 : Int32) := by rw [em1, iI_eq (by omega) (by omega)]; exact q1
        rw [if_neg n1, if_neg n1, if_pos (by decide), g0, ec, c_wayBetween hw (by omega) (by omega), hs]
        simp only [Option.bind_some]
        rw [p6.1, mi_of m, iI_add]
        by_cases q2 : mi m 1051 0 + s ≤ 999
        · have c2 : iI (mi m 1051 0 + s) ≤ (999 : Int32) := by rw [iI_lit, iI_le (by omega) (by omega)]; exact q2
          rw [if_pos c2, if_pos c2]
          obtain ⟨m1, μ1, e1, e2, k1, k2, hW1⟩ := e_keeps hW
          have hD1 := hD.k k1 k2
          obtain ⟨l1, v1, v2, v3, v4, v5⟩ := id hW1
          obtain ⟨r1, r2, r3, r4, r5, r6, r7, r8, r9, r10, r11, r12, r13⟩ := v1
          have e0 : mi m1 1051 0 = mi m 1051 0 := k1.s.n (by omega)
          have ew : mi m1 1050 (8 * a + b) = s := (k1.s.y _).trans hs
          have ec1 : gI μ1 1027 2 = iI a := by rw [k2.2.2.2.2.1 _ _ (by omega)]; exact ec
          obtain ⟨t, rfl⟩ : ∃ t : Nat, s = t := ⟨s.toNat, by omega⟩
          obtain ⟨o1, o2⟩ := hoursS_ok r5 r2.1 t (by omega)
          obtain ⟨⟨u, m2⟩, f1, f2, f3, f4, f5, f6⟩ := p_hours r2.1 r5 r4 r7 (n := t) (by omega)
          obtain ⟨⟨r, μ2⟩, g1', g2, g3, g4, g5⟩ := c_goesBy (x := 1027) (by decide) r1 r5 r2 r3 r6 r8 (n := t) (by omega)
          dsimp only at f2 f3 f4 f5 f6 g2 g3 g4 g5
          have hk : kpM (kN m1 l1 t) m2 := by
            unfold thM at f4
            rw [if_pos r13] at f4
            exact f4
          have hmN0 := mN.h r5 f3
          have hmN : mN m1 (msI m2 1051 1 (iI b)) := ⟨fun c j k => by rw [msI_i, if_neg (by omega)]; exact hmN0.1 c j k, hmN0.2.1, by unfold mi; rw [msI_i, if_neg (by omega)]; exact hmN0.2.2⟩
          have hcN : cN μ1 (gz_sI μ2 1027 2 (iI b)) := (cN.c g5).trans ⟨rfl, rfl, rfl, fun _ _ _ => rfl, fun c j k => by rw [sI_i, if_neg (by omega)], fun _ _ _ => rfl⟩
          have hsE : sE (atM (hoursS t m1) b) (msI m2 1051 1 (iI b)) := fun c j k => by
            rw [msI_i, atM_at]
            by_cases w : c = 1051 ∧ j = 1
            · rw [if_pos w, if_pos w]
            · rw [if_neg w, if_neg w]
              exact f2 c j k
          rw [e1, e2]
          simp only [Option.bind_some]
          rw [ec1, c_wayBetween v2 (by omega) (by omega), ew]
          simp only [Option.bind_some]
          rw [f1, g1']
          simp only [Option.bind_some]
          rw [if_pos (by decide)]
          refine ⟨iI t, _, _, rfl, rfl, hW1.now hmN hcN hsE (o1.at_ b) (by rw [atM_o _ _ (by omega)]; omega) (by rw [atM_1 _ (by omega)]; omega) (fun k hk => ?_) (hk.sc (fun j hj => by rw [g1, msI_i, if_neg (by omega)])) (g3.at_ b) (g4.sI (by omega)), hD1.n hmN hcN, g5.2.2.1.trans k2.2.2.1, g5.1.trans k2.1, g5.2.1.trans k2.2.1⟩
          rw [atM_o _ _ (by omega)] at hk
          rw [atM_o _ _ (by omega)]
          exact hoursS_t01 v3 r2.1 t k hk
        · have c2 : ¬ iI (mi m 1051 0 + s) ≤ (999 : Int32) := by rw [iI_lit, iI_le (by omega) (by omega)]; exact q2
          rw [if_neg c2, if_neg c2]
          exact no
  · rw [if_neg q]
    simp only [if_true]
    exact no38
