theorem e_snuff {n : Nat} {m : MM} {μ : gM} (hW : rWd m μ) (hD : rDk n m μ) (x : Int32) : eA n (mf_snuff x m) (cf_X0_snuff x μ) μ := by
  obtain ⟨z, hz, rfl⟩ := iI_ex x
  obtain ⟨l, h1, -⟩ := id hW
  have hR := h1
  obtain ⟨p1, p2, p3, p4, p5, p6, p7, p8, p9, p10, p11, p12, p13⟩ := h1
  have hb := p2.1.2.1
  have no : ∀ (a : MM) (ν : gM), rWd a ν → rDk n a ν → ν.2.2.2.2.2 = μ.2.2.2.2.2 → ν.1 = μ.1 → ν.2.1 = μ.2.1 → eA n (mj_X6_snuff_24 a) (mj_X0_snuff_30 ν) μ := by
    intro a ν w1 w2 w3 w4 w5
    have e3 : (2 : Int32) = iI ((2 : Nat) : Int) := rfl
    obtain ⟨a1, a2⟩ := eA.no w1 w2 (k := 2) (by omega)
    refine ⟨-1, _, _, ?_, ?_, a1, a2, w3, w4, w5⟩
    · unfold mj_X6_snuff_24
      rw [e3, p_refuses a (by omega)]
      rfl
    · unfold mj_X0_snuff_30
      rw [e3, c_refuses ν (by omega)]
      rfl
  unfold mf_snuff cf_X0_snuff
  rw [p_here p2.1 hz, c_here p2 p6.2.1 hz]
  simp only [Option.bind_some]
  by_cases q : (0 ≤ z ∧ z < mi m 1038 7) ∧ mi m 1041 (16 + 2 * z.toNat) = mi m 1051 1
  · rw [if_pos q, if_neg n10, if_neg n10]
    obtain ⟨t, rfl⟩ : ∃ t : Nat, z = t := ⟨z.toNat, by omega⟩
    have ht := q.1.2
    rw [p_doesBurn (by omega), c_isLit (m := m) (by omega) (p6.2.2.2.2 t ht).1]
    simp only [Option.bind_some]
    by_cases q2 : 0 < mi m 1051 (14 + 2 * t)
    · rw [if_pos q2, if_neg n10, if_neg n10]
      obtain ⟨⟨r, a⟩, e1, a1, a2⟩ := p_doesMind p2.1 p5 p4 ht
      obtain ⟨⟨r', ν⟩, e2, b1, b2⟩ := c_isMinding p1 p2 p3 p6 p5 ht
      dsimp only at a1 a2 b1 b2
      have hW1 : rWd a ν := hW.sc (mSc.t p5 a2) (cSc.o b2) (p9.o (fun j => b2.2.2.2.2.2 _ _))
      have hD1 : rDk n a ν := hD.sc (mSc.t p5 a2) (cSc.o b2)
      rw [e1, e2]
      simp only [Option.bind_some]
      have er : r = r' := by
        rcases a1 with ⟨a1, a3⟩ | ⟨a1, a3⟩ <;> rcases b1 with ⟨b1, b3⟩ | ⟨b1, b3⟩
        · rw [a1, b1]
        · exact absurd a3 b3
        · exact absurd b3 a3
        · rw [a1, b1]
      subst er
      by_cases q3 : r = 0
      · rw [if_pos q3, if_pos q3]
        obtain ⟨m1, μ1, f1, f2, k1, k2, hW2⟩ := e_keeps hW1
        have hD2 := hD1.k k1 k2
        obtain ⟨l1, v1, v2, v3, v4, v5⟩ := id hW2
        obtain ⟨r1, r2, r3, r4, r5, r6, r7, r8, r9, r10, r11, r12, r13⟩ := v1
        have hsm : sE m m1 := (sE.of a2).trans k1.s
        have ht1 : (t : Int) < mi m1 1038 7 := by rw [hsm.w]; exact ht
        have hbu : 0 < mi m1 1051 (14 + 2 * t) := by rw [hsm.n (by omega)]; exact q2
        have htt : t < things m1 := by unfold things; omega
        obtain ⟨n1, hn1, en1, ep1⟩ := pop_lit r2.1
        obtain ⟨⟨u, m2⟩, g1, g2, g3, g4, g5⟩ := p_putsOut (sE.refl m1) (tieOK.of r2) r7 (t := t) (by omega)
        obtain ⟨⟨rc, μ2⟩, s1, s2, s3, s4, s5⟩ := c_putsOut (x := 1027) (by decide) r2 r6 r8 (t := t) (by omega)
        dsimp only at g2 g3 g4 g5 s2 s3 s4 s5
        have hm2 : rMany m2 := g2.many ((putM_hh m1 t).many r2.1)
        obtain ⟨n2, hn2, en2, ep2⟩ := pop_lit hm2
        have eth : things m2 = things m1 := by rw [g2.nTh, (putM_hh m1 t).nTh]
        have hb2 : popB (burB m2) (things m1) = popB (burB (putM m1 t)) (things m1) := popB_eq _ (fun k hk => by
          unfold burB
          have : things m1 ≤ 8 := by have := r2.1.2.1; unfold things; omega
          rw [g2.n (by omega)])
        have hpo := po_pop (e := endsS m1 t) htt hbu (things m1) (Nat.le_refl _)
        have hk : kpM (putK m1 l1 t) m2 := by
          unfold thM at g4
          rw [if_pos r13] at g4
          exact g4
        have hmN := mN.h r5 g3
        have hcN := cN.c s5
        rw [f1, f2]
        simp only [Option.bind_some]
        rw [p_burningSet r2.1, s1]
        simp only [Option.bind_some]
        rw [en1, p_bits hn1]
        simp only [Option.bind_some]
        rw [g1]
        simp only [Option.bind_some]
        rw [p_burningSet hm2]
        simp only [Option.bind_some]
        rw [en2, p_bits hn2]
        simp only [Option.bind_some]
        have p12' := popN_lt n1
        refine ⟨rc, m2, μ2, ?_, rfl, hW2.now (mS := putM m1 t) hmN hcN g2 (poM_ok r5 _ _ _) (by unfold putM; rw [poM_lo _ _ _ (by omega)]; exact r10) (by unfold putM; rw [poM_lo _ _ _ (by omega)]; exact r11) (fun k hk => ?_) hk s3 s4, hD2.n hmN hcN, ?_, ?_, ?_⟩
        · have e9 : nI (popN n1) - nI (popN n2) = rc := by
            rw [s2, ← iI_nI, ← iI_nI, ← iI_nI, iI_sub]
            refine congrArg iI ?_
            rw [ep1, ep2, eth, hb2]
            unfold putN putM
            omega
          rw [e9]
        · have hb9 := r2.1.2.2.2.1
          rw [(putM_hh m1 t).at (by omega)] at hk
          unfold putM
          rw [poM_lo _ _ _ (by omega)]
          exact v3 k hk
        · exact s5.2.2.1.trans (k2.2.2.1.trans b2.2.2.1)
        · exact s5.1.trans (k2.1.trans b2.1)
        · exact s5.2.1.trans (k2.2.1.trans b2.2.1)
      · rw [if_neg q3, if_neg q3]
        exact no a ν hW1 hD1 b2.2.2.1 b2.1 b2.2.1
    · rw [if_neg q2]
      simp only [if_true]
      exact no m μ hW hD rfl rfl rfl
  · rw [if_neg q]
    simp only [if_true]
    exact no m μ hW hD rfl rfl rfl
