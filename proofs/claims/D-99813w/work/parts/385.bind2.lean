theorem e_bind {n : Nat} {m : MM} {μ : gM} (hW : rWd m μ) (hD : rDk n m μ) (x y : Int32) : eA n (mf_bind x y m) (cf_X0_bind x y μ) μ := by
  obtain ⟨z, hz, rfl⟩ := iI_ex x
  obtain ⟨w, hw, rfl⟩ := iI_ex y
  obtain ⟨l, h1, -, h3, -⟩ := id hW
  obtain ⟨p1, p2, p3, p4, p5, p6, p7, p8, p9, p10, p11, p12, p13⟩ := h1
  have hb := p2.1.2.2.2.1
  have pJ : mf_isIn (lL w) (0 : Int64) (1 : Int64) m = some (if 0 ≤ w ∧ w ≤ 1 then 1 else 0, m) := p_isIn m (by omega) (a := 0) (b := 1) (by omega) (by omega)
  have cJ : cf_X0_is (iI w) (0 : Int32) (1 : Int32) μ = some (if 0 ≤ w ∧ w ≤ 1 then 1 else 0, μ) := p_is μ (by omega) (a := 0) (b := 1) (by omega) (by omega)
  have no : eA n (mj_X6_bind_30 m) (mj_X0_bind_41 μ) μ := by
    have e3 : (2 : Int32) = iI ((2 : Nat) : Int) := rfl
    have g2 : gz_ix (2 : Int32) = 2 := by decide
    obtain ⟨a1, a2⟩ := eA.no hW hD (k := 2) (by omega)
    refine ⟨0, _, _, ?_, ?_, a1, a2, rfl, rfl, rfl⟩
    · unfold mj_X6_bind_30 mf_isRefused
      rw [if_pos (by decide), if_pos (by decide), g2]
      rfl
    · unfold mj_X0_bind_41
      rw [e3, c_refuses μ (by omega)]
      rfl
  unfold mf_bind cf_X0_bind
  rw [p_isTie p2.1 hz, c_isTie p2 hz]
  simp only [Option.bind_some]
  by_cases q : 0 ≤ z ∧ z < mi m 1038 9
  · rw [if_pos q, if_neg n10, if_neg n10, i2l_iI hw, pJ, cJ]
    simp only [Option.bind_some]
    by_cases q2 : 0 ≤ w ∧ w ≤ 1
    · rw [if_pos q2, if_neg n10, if_neg n10]
      obtain ⟨k, rfl⟩ : ∃ t : Nat, z = t := ⟨z.toNat, by omega⟩
      have e2 : (2 : Int32) + iI k = iI (2 + k) := by rw [iI_lit, iI_add]
      have gk : gz_ix (iI (2 + (k : Int))) = 2 + k := by rw [gix (by omega)]; omega
      have ik : gz_in (iI (2 + (k : Int))) 151 := (gin_iI (by omega)).2 (by omega)
      have h01 := h3 k q.2
      rw [e2, if_pos ik, gk, mi_of m, c_has μ _ (by omega), p6.2.2.1 k q.2]
      simp only [Option.bind_some]
      by_cases q3 : mi m 1051 (2 + k) = w
      · rw [if_pos (by rw [q3])]
        unfold mj_X0_bind_38
        have hww : w = 0 ∨ w = 1 := by omega
        rcases hww with v | v <;> subst v
        · rw [if_neg (show ¬ iI 0 = (1 : Int32) by decide), q3, if_pos (by decide)]
          exact no
        · rw [if_pos (show iI 1 = (1 : Int32) by decide), q3, if_pos (by decide)]
          exact no
      · rw [if_neg (by rw [iI_eq (by omega) (by omega)]; exact q3)]
        obtain ⟨m1, μ1, e1, e2', k1, k2, hW1⟩ := e_keeps hW
        have hD1 := hD.k k1 k2
        obtain ⟨l1, v1, v2, v3, v4, v5⟩ := id hW1
        obtain ⟨r1, r2, r3, r4, r5, r6, r7, r8, r9, r10, r11, r12, r13⟩ := v1
        have em : mi m1 1051 (2 + k) = mi m 1051 (2 + k) := k1.s.n (by omega)
        have e9 : mi m1 1038 9 = mi m 1038 9 := k1.s.w 9
        have hww : w = 0 ∨ w = 1 := by omega
        have fin : eA n ((mf_keeps m).bind fun x => if gz_in (iI (2 + (k : Int))) 151 then gz_let (msI x.2 1051 (2 + k) (iI w)) fun m15 => some ((1 : Int32), m15) else none) ((cf_X0_remembers μ).bind fun x => gz_let (gz_sI x.2 1027 3 ((gI x.2 1027 3) ^^^ ((1 : Int32) <<< (iI k &&& 31)))) fun m5 => some ((1 : Int32), m5)) μ := by
          rw [e1, e2']
          simp only [Option.bind_some]
          rw [if_pos ik]
          have hmN : mN m1 (msI m1 1051 (2 + k) (iI w)) := ⟨fun c j kk => by rw [msI_i, if_neg (by omega)], fun _ _ _ => rfl, by unfold mi; rw [msI_i, if_neg (by omega)]; exact r5.2.2.1⟩
          have hcN : cN μ1 (gz_sI μ1 1027 3 ((gI μ1 1027 3) ^^^ ((1 : Int32) <<< (iI k &&& 31)))) := ⟨rfl, rfl, rfl, fun _ _ _ => rfl, fun c j kk => by rw [sI_i, if_neg (by omega)], fun _ _ _ => rfl⟩
          refine ⟨1, _, _, rfl, rfl, hW1.now (mS := tiM m1 k w) (l := l1) hmN hcN (fun _ _ _ => rfl) (r5.ti (by omega) w) (by rw [tiM_o _ _ (by omega)]; exact r10) (by rw [tiM_o _ _ (by omega)]; exact r11) (fun i hi => ?_) (r7.sc (fun j hj => by rw [msI_i, if_neg (by omega)])) (r6.ti r2.1 (by omega) hww (by rw [em]; exact q3) (by rw [em]; exact h01)) (r8.sI (by omega)), hD1.n hmN hcN, k2.2.2.1, k2.1, k2.2.1⟩
          rw [tiM_o _ _ (by omega)] at hi
          by_cases u : i = k
          · rw [u, tiM_k _ _ hww]; exact hww
          · rw [tiM_o _ _ (by omega)]; exact v3 i hi
        unfold mj_X0_bind_38
        rcases hww with v | v <;> subst v
        · rw [if_neg (show ¬ iI 0 = (1 : Int32) by decide), show mi m 1051 (2 + k) = 1 by omega, if_neg (by decide)]
          exact fin
        · rw [if_pos (show iI 1 = (1 : Int32) by decide), show mi m 1051 (2 + k) = 0 by omega, if_neg (by decide)]
          exact fin
    · rw [if_neg q2]
      simp only [if_true]
      exact no
  · rw [if_neg q]
    simp only [if_true]
    exact no
