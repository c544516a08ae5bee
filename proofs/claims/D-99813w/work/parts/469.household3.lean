/-! ===== the household query: both sides ===== -/
theorem tied_bits : ∀ n : Nat, n < 13 → ∀ k : Nat, k < 32 → bt (((1 : Int32) <<< (iI (n : Int) &&& 31)) - 1) k = decide (k < n) := by decide +kernel
theorem sr_1000_0 : sr 1000 0 = 0 := by decide
theorem e_household {n : Nat} {m : MM} {μ : gM} (hW : rWd m μ) (hD : rDk n m μ) (hn : n < 80) {N : Nat} (hN : mi m 2000 1 = N) : ∃ (r : Int32) (m' : MM) (μ' : gM), mf_household m = some (r, m') ∧ cf_X0_household μ = some (r, μ') ∧ rWd m' μ' ∧ rDk n m' μ' ∧ gZ μ ≤ gZ μ' ∧ gW μ ≤ gW μ' ∧ mi m' 2000 1 = 0 ∧ gC μ' ≤ gC μ + (2 * N + 1000) * (N + 2) + (4 * N + 2500) := by
  obtain ⟨⟨tp1, tp2, tp3, tp4⟩, ⟨fa1, fa2⟩, rf, ⟨sd1, sd2, sd3⟩, ⟨ou1, ou2, ou3, ou4⟩⟩ := id hD
  obtain ⟨l0, hCo, hWy, ht01, hRo, hUn, hNm⟩ := id hW
  have hz := hNm.2.2.1
  have hN2 : N ≤ 1600 := by omega
  have hNi : m.1 2000 1 = iI N := by rw [mi_of m 2000 1, hN]
  have hT := tpT_ok (m := m) hN2 (fun k hk => (tp1 k hk).2)
  -- the model
  obtain ⟨⟨r, m'⟩, em, hq⟩ := p_household hNi hN2 (fun k hk => (tp1 k hk).2) hNm.2.1
  obtain ⟨d1, hq⟩ := hq
  dsimp only at d1 hq
  have z1 : mi m' 2000 1 = 0 := by unfold mi; rw [d1]; decide
  -- the component, up to the text
  have cD4 : cD μ (gz_sI (gz_sI (gz_sI μ 1000 3 0) 1000 4 (-1)) 1000 2 0) := ((cD.sI (by unfold dkC; omega)).trans (cD.sI (by unfold dkC; omega))).trans (cD.sI (by unfold dkC; omega))
  have a2 : gI (gz_sI (gz_sI (gz_sI μ 1000 3 0) 1000 4 (-1)) 1000 2 0) 1000 2 = 0 := by rw [sI_i, if_pos ⟨rfl, rfl⟩]
  have a3 : gI (gz_sI (gz_sI (gz_sI μ 1000 3 0) 1000 4 (-1)) 1000 2 0) 1000 3 = 0 := by rw [sI_i, if_neg (by omega), sI_i, if_neg (by omega), sI_i, if_pos ⟨rfl, rfl⟩]
  have a4 : gI (gz_sI (gz_sI (gz_sI μ 1000 3 0) 1000 4 (-1)) 1000 2 0) 1000 4 = -1 := by rw [sI_i, if_neg (by omega), sI_i, if_pos ⟨rfl, rfl⟩]
  have eT : cf_X0_tapeTaken (gz_sI (gz_sI μ 1000 3 0) 1000 4 (-1)) = some (iI N, gz_sI (gz_sI (gz_sI μ 1000 3 0) 1000 4 (-1)) 1000 2 0) := by
    unfold cf_X0_tapeTaken
    simp only [gz_let]
    rw [sI_i, if_neg (by omega), sI_i, if_neg (by omega), ci_of μ 1000 2, tp2, hN]
  have I4 : ∀ c j : Nat, c ≠ 1000 → gI (gz_sI (gz_sI (gz_sI μ 1000 3 0) 1000 4 (-1)) 1000 2 0) c j = gI μ c j := fun c j k => by rw [sI_i, if_neg (by omega), sI_i, if_neg (by omega), sI_i, if_neg (by omega)]
  have J4 : ∀ j : Nat, j ≠ 2 → j ≠ 3 → j ≠ 4 → gI (gz_sI (gz_sI (gz_sI μ 1000 3 0) 1000 4 (-1)) 1000 2 0) 1000 j = gI μ 1000 j := fun j k1 k2 k3 => by rw [sI_i, if_neg (by omega), sI_i, if_neg (by omega), sI_i, if_neg (by omega)]
  have zz4 : (gz_sI (gz_sI (gz_sI μ 1000 3 0) 1000 4 (-1)) 1000 2 0).2.2.2.2.2 = (gz_sI (gz_sI μ 1000 3 0) 1000 4 (-1)).2.2.2.2.2 := rfl
  have G4 : gZ (gz_sI (gz_sI (gz_sI μ 1000 3 0) 1000 4 (-1)) 1000 2 0) = gZ μ := rfl
  have W4 : gW (gz_sI (gz_sI (gz_sI μ 1000 3 0) 1000 4 (-1)) 1000 2 0) = gW μ := rfl
  have C4 : gC (gz_sI (gz_sI (gz_sI μ 1000 3 0) 1000 4 (-1)) 1000 2 0) = gC μ := rfl
  have L4 : ∀ c j : Nat, gL (gz_sI (gz_sI (gz_sI μ 1000 3 0) 1000 4 (-1)) 1000 2 0) c j = gL μ c j := fun _ _ => rfl
  have unf : ∀ Q : Int32 × gM → Prop, pw ((cf_X2_all (iI N) (gz_sI (gz_sI (gz_sI μ 1000 3 0) 1000 4 (-1)) 1000 2 0)).bind fun (o10, m8) => (if gZ (gz_sI (gz_sI (gz_sI μ 1000 3 0) 1000 4 (-1)) 1000 2 0) ≤ gZ m8 ∧ gW (gz_sI (gz_sI (gz_sI μ 1000 3 0) 1000 4 (-1)) 1000 2 0) ≤ gW m8 then gx_o o10 (fun r7 => (if sr 1000 0 = 0 ∧ r7 ≠ 0 then gz_let (gz_sP m8 1000 0 r7) fun m19 => ((cf_X0_reckonsWays m19).bind fun (_, m21) => (if m21.2.2.2.2.2 = m19.2.2.2.2.2 then ((cf_X5_begins 1027 m21).bind fun (_, m25) => (if m25.2.2.2.2.2 = m21.2.2.2.2.2 then gz_let (gz_sI m25 1000 23 (0 : Int32)) fun m28 => gz_let (gz_sI m28 1000 20 (0 : Int32)) fun m29 => gz_let (gP m29 1000 0) fun r30 => (if r30 ≠ 0 then (if gK m29 r30 = 2 then some ((gI m29 r30 0), m29) else none) else none) else none)) else none)) else none)) (gz_let (gz_sI m8 1000 3 (gI m8 1012 6)) fun m12 => gz_let (gz_sI m12 1000 4 (gI m12 1012 7)) fun m13 => ((cf_X0_refuses (1 : Int32) m13).bind fun (r14, m15) => (if m15.2.2.2.2.2 = m13.2.2.2.2.2 then some (r14, m15) else none))) else none)) Q → pw (cf_X0_household μ) Q := fun Q hQ => by
    unfold cf_X0_household
    refine pw_let (pw_let ?_)
    rw [eT]
    exact pw_bind (pw_some (pw_gu zz4 hQ))
  have hW4 : rWd m (gz_sI (gz_sI (gz_sI μ 1000 3 0) 1000 4 (-1)) 1000 2 0) := hW.dk (mD.refl m) cD4
  have hWx : ∀ mm : MM, (∀ c j : Nat, ¬ rdX c j → ¬ dkM c j → mm.1 c j = m.1 c j) → (∀ j : Nat, 16 ≤ j → mm.2 1039 j = m.2 1039 j) → rWd mm (gz_sI (gz_sI (gz_sI μ 1000 3 0) 1000 4 (-1)) 1000 2 0) := fun mm E EL => hW.rdk E EL cD4
  have sr4 : srOK (gz_sI (gz_sI (gz_sI μ 1000 3 0) 1000 4 (-1)) 1000 2 0) := by
    obtain ⟨_, _, _, _, _, _, n4⟩ := hW4
    exact n4.1
  generalize gz_sI (gz_sI (gz_sI μ 1000 3 0) 1000 4 (-1)) 1000 2 0 = m4 at *
  have hS : 2 * N + 1000 ≤ 2 * N + 1000 := Nat.le_refl _
  have alC := c_all (T := tpT m N) (n := N) (S := 2 * N + 1000) (μ := m4) hT hS (fun k hk => by
    rw [I4 _ _ (by omega)]
    obtain ⟨⟨u1, u2⟩, u3⟩ := tp1 k (by omega)
    refine ⟨?_, u2⟩
    rw [u1, mi_of m 1001 k]
    unfold tpT
    rw [if_pos hk]) sr4 (by omega)
  have goal : pw (cf_X0_household μ) (fun q => q.1 = r ∧ rWd m' q.2 ∧ rDk n m' q.2 ∧ gZ μ ≤ gZ q.2 ∧ gW μ ≤ gW q.2 ∧ gC q.2 ≤ gC μ + (2 * N + 1000) * (N + 2) + (4 * N + 2500)) := by
    refine unf _ (pw_bind (pw_mono alC ?_))
    rintro ⟨o, m8⟩ ⟨x8, h8⟩
    dsimp only at x8 h8 ⊢
    refine pw_gu ⟨x8.1, x8.2.1⟩ ?_
    have i8 : ∀ c j : Nat, c < 2369 → c ≠ 1011 → c ≠ 1012 → gI m8 c j = gI m4 c j := fun c j k1 k2 k3 => ((x8.2.2 c (by omega)).2.2 j).1 k2 k3
    have l8 : ∀ c j : Nat, c < 2369 → gL m8 c j = gL m4 c j := fun c j k1 => ((x8.2.2 c (by omega)).2.2 j).2.1
    rcases h8 with ⟨p', h', c, es, e, hc, hR, hsm, ho, hg⟩ | ⟨k, l, es, e, hE, hg⟩
    · -- it stands
      subst e
      rcases hq with ⟨k, l, e2, -⟩ | ⟨p2, h2, e2, ho2, er, w7, w8, s1, s2, hdS1, hdS2⟩
      · rw [es] at e2; cases e2
      rw [es] at e2
      injection e2 with e2
      injection e2 with e3 e4
      subst e3 e4
      refine pw_gxs (pw_gu ⟨sr_1000_0, by omega⟩ (pw_let ?_))
      -- the new household lies in m8 and is looked at through 1000
      have P19 : ∀ c' j : Nat, gP (gz_sP m8 1000 0 c) c' j = if c' = 1000 ∧ j = 0 then c else gP m8 c' j := fun c' j => sP_p _ _ _ _ _ _
      have I19 : ∀ c' j : Nat, gI (gz_sP m8 1000 0 c) c' j = gI m8 c' j := fun _ _ => rfl
      have L19 : ∀ c' j : Nat, gL (gz_sP m8 1000 0 c) c' j = gL m8 c' j := fun _ _ => rfl
      have K19 : (gz_sP m8 1000 0 c).1 = m8.1 ∧ (gz_sP m8 1000 0 c).2.1 = m8.2.1 ∧ (gz_sP m8 1000 0 c).2.2.2.2.2 = m8.2.2.2.2.2 := ⟨rfl, rfl, rfl⟩
      generalize gz_sP m8 1000 0 c = m19 at P19 I19 L19 K19
      have k1000 : ks 1000 ≠ 0 := by decide
      have dy19 : dyS m8 m19 := ⟨K19.1, K19.2.1, K19.2.2, fun d hd j => ⟨I19 d j, L19 d j, by rw [P19, if_neg (fun q : d = 1000 ∧ j = 0 => k1000 (q.1 ▸ hd))]⟩⟩
      have at' : ∀ μ2 : gM, dyS m8 μ2 → gP μ2 1000 0 = c → (hhS m' μ2 ∧ cOK m' ∧ drC h' μ2) ∧ gI μ2 c 1 = iI h'.st ∧ gI μ2 c 0 = gI m8 c 0 ∧ gK μ2 c = 2 ∧ ∀ t : Nat, t < h'.nt → gI μ2 (thC μ2 t) 2 = iI (h'.tv t).2.1 ∧ gI μ2 (thC μ2 t) 3 = iI (h'.tv t).2.2 := fun μ2 d e => hh_of ho s1 hR (loA.of d) e
      have p19 : gP m19 1000 0 = c := by rw [P19, if_pos ⟨rfl, rfl⟩]
      obtain ⟨⟨hh19, hcO, dr19⟩, -⟩ := at' m19 dy19 p19
      refine pw_bind (pw_mono (c_reckons ho dr19) ?_)
      rintro ⟨⟨⟩, m21⟩ ⟨x21, G21⟩
      dsimp only at x21 G21 ⊢
      have z21 : m21.2.2.2.2.2 = m19.2.2.2.2.2 := congrArg (fun z => z.2.2) x21.2.2.1
      refine pw_gu z21 ?_
      have dy21 := dy19.trans x21.dy
      have p21 : gP m21 1000 0 = c := (x21.P 1000 0).trans p19
      obtain ⟨⟨hh21, -, -⟩, st21, -, -, th21⟩ := at' m21 dy21 p21
      refine pw_bind (pw_mono (c_begins hh21.1) ?_)
      rintro ⟨⟨⟩, m25⟩ ⟨x25, b0, b1, b2, b3, b4⟩
      dsimp only at x25 b0 b1 b2 b3 b4 ⊢
      have z25 : m25.2.2.2.2.2 = m21.2.2.2.2.2 := congrArg (fun z => z.2.2) x25.2.2.1
      refine pw_gu z25 (pw_let (pw_let (pw_let ?_)))
      have I29 : ∀ c' j : Nat, c' ≠ 1000 → gI (gz_sI (gz_sI m25 1000 23 0) 1000 20 0) c' j = gI m25 c' j := fun c' j k => by rw [sI_i, if_neg (by omega), sI_i, if_neg (by omega)]
      have J29 : ∀ j : Nat, j ≠ 23 → j ≠ 20 → gI (gz_sI (gz_sI m25 1000 23 0) 1000 20 0) 1000 j = gI m25 1000 j := fun j k1 k2 => by rw [sI_i, if_neg (by omega), sI_i, if_neg (by omega)]
      have u23 : gI (gz_sI (gz_sI m25 1000 23 0) 1000 20 0) 1000 23 = 0 := by rw [sI_i, if_neg (by omega), sI_i, if_pos ⟨rfl, rfl⟩]
      have u20 : gI (gz_sI (gz_sI m25 1000 23 0) 1000 20 0) 1000 20 = 0 := by rw [sI_i, if_pos ⟨rfl, rfl⟩]
      have K29 : (gz_sI (gz_sI m25 1000 23 0) 1000 20 0).1 = m25.1 ∧ (gz_sI (gz_sI m25 1000 23 0) 1000 20 0).2.1 = m25.2.1 ∧ (gz_sI (gz_sI m25 1000 23 0) 1000 20 0).2.2.2 = m25.2.2.2 := ⟨rfl, rfl, rfl⟩
      have dyx : dyS m25 (gz_sI (gz_sI m25 1000 23 0) 1000 20 0) := (dyS.sI k1000).trans (dyS.sI k1000)
      generalize gz_sI (gz_sI m25 1000 23 0) 1000 20 0 = m29 at I29 J29 u23 u20 K29 dyx
      have P29 : ∀ c' j : Nat, gP m29 c' j = gP m19 c' j := fun c' j => (congrFun (congrFun (congrArg (fun z => z.2.1) K29.2.2) c') j).trans ((x25.P c' j).trans (x21.P c' j))
      have L29 : ∀ c' j : Nat, gL m29 c' j = gL m8 c' j := fun c' j => (congrFun (congrFun (congrArg Prod.fst K29.2.2) c') j).trans ((congrFun (congrFun (congrArg Prod.fst x25.2.2.1) c') j).trans ((congrFun (congrFun (congrArg Prod.fst x21.2.2.1) c') j).trans (L19 c' j)))
      have zz29 : m29.2.2.2.2.2 = m8.2.2.2.2.2 := (congrArg (fun z => z.2.2) K29.2.2).trans (z25.trans (z21.trans K19.2.2))
      have k29 : m29.1 = m8.1 := K29.1.trans (x25.1.trans (x21.1.trans K19.1))
      have n29 : m29.2.1 = m8.2.1 := K29.2.1.trans (x25.2.1.trans (x21.2.1.trans K19.2.1))
      have dy29 : dyS m8 m29 := (dy21.trans x25.dy).trans dyx
      have p29 : gP m29 1000 0 = c := (P29 1000 0).trans p19
      obtain ⟨⟨hh29, -, -⟩, -, c29, kc29, -⟩ := at' m29 dy29 p29
      rw [p29]
      refine pw_gu (by omega) (pw_gu kc29 (pw_some ⟨?_, ?_, ?_, ?_, ?_, ?_⟩))
      · rw [er]; exact c29.trans hsm
      · -- the world
        have nh8 := ho.nh8
        have nt8 := ho.nt8
        have ni12 := ho.ni12
        have st8 := ho.stO
        obtain ⟨⟨q6, q7, q8, q9, q11⟩, -, t1, -, -, -⟩ := id s1
        obtain ⟨y0, y1, y2, y3, y4, y5, y30, y68, y64, yW⟩ := s2
        have e7 : mi m' 1038 7 = h'.nt := mi_i q7 (by omega)
        have e9 : mi m' 1038 9 = h'.ni := mi_i q9 (by omega)
        have keep : ∀ j : Nat, j = 52 ∨ j = 53 ∨ j = 56 ∨ j = 69 → m'.1 2000 j = m.1 2000 j := fun j hj => hdS1 2000 j (by unfold rdX; omega) (by unfold stX; omega) (by omega)
        obtain ⟨c1, c2, c3, c4, c5, c6, c7, c8, c9, c10, c11, c12, c13⟩ := hCo
        have h52 : m'.1 2000 52 = -1 := (keep 52 (by omega)).trans c12
        have h53 : mi m' 2000 53 = mi m 2000 53 := congrArg Int32.toInt (keep 53 (by omega))
        have I27 : ∀ c' j : Nat, 1027 ≤ c' → c' ≤ 1072 → c' ≠ 1027 → c' ≠ 1028 → c' ≠ 1030 → c' ≠ 1031 → True := fun _ _ _ _ _ _ _ _ => True.intro
        have Pst : ∀ c' j : Nat, c' < 2369 → c' ≠ 1011 → c' ≠ 1000 → gP m29 c' j = gP μ c' j := fun c' j k1 k2 k3 => by
          rw [P29, P19, if_neg (fun q => k3 q.1), ((x8.2.2 c' (by omega)).2.2 j).2.2 (by omega)]
          exact cD4.2.2.2.2.2 c' j
        have lay29 : cLay m29 := by
          have l4 : cLay m4 := by obtain ⟨_, w1, _⟩ := hW4; exact w1.1
          have l8' : cLay m8 := l4.up (by omega) x8.a
          intro c' hc'
          obtain ⟨v1, v2, v3⟩ := l8' c' hc'
          refine ⟨(congrFun k29 c').trans v1, (congrFun n29 c').trans v2, fun k hk => ?_⟩
          show gP m29 c' k = _
          rw [P29, P19]
          by_cases q : c' = 1000 ∧ k = 0
          · rw [q.1, q.2, sr_1000_0] at hk; exact absurd rfl hk
          · rw [if_neg q]; exact v3 k hk
        refine ⟨[], ⟨lay29, hh29.1, hh29.2.1, hcO, ⟨?_, fun t ht => ?_, by rw [h53]; exact c5.2.2.1, fun t ht => ?_⟩, ⟨?_, ?_, fun k hk => ?_, fun k k1 k2 => ?_, fun t ht => ?_⟩, ⟨by decide, ?_, fun i j hi => absurd hi (Nat.not_lt_zero _)⟩, ⟨by decide, ?_, c8.2.2.1.o (fun j => Pst _ _ (by omega) (by omega) (by omega)), fun i j hi => absurd hi (Nat.not_lt_zero _)⟩, c9.o (fun j => Pst _ _ (by omega) (by omega) (by omega)), ?_, ?_, h52, (keep 56 (by omega)).trans c13⟩, fun a b ha hb => ?_, fun k hk => ?_, ?_, ?_, ?_⟩
        · have : mi m' 1051 0 = 0 := mi_i y0 (by omega)
          omega
        · have s0 : mi m' 1051 (15 + 2 * t) = 0 := mi_i (y5 t ht) (by omega)
          rcases Nat.lt_or_ge t h'.nt with q | q
          · have o := ho.tvO t q
            have s1' : mi m' 1051 (14 + 2 * t) = (h'.tv t).2.1 := mi_i (y3 t q) (by omega)
            omega
          · have s1' : mi m' 1051 (14 + 2 * t) = 0 := mi_i (y4 t q ht) (by omega)
            omega
        · have q : t < h'.nt := by omega
          have o := ho.tvO t q
          have s1' := mi_i (t1 t q).1 (by omega)
          have s2' := mi_i (t1 t q).2 (by omega)
          omega
        · rw [I29 _ _ (by omega), b0, y0]
        · rw [I29 _ _ (by omega), b2, y1, show hC m21 = c from p21]; exact st21
        · have q : k < h'.ni := by omega
          have v : mi m' 1051 (2 + k) = 1 := mi_i (v := 1) (y2 k q) (by omega)
          rw [I29 _ _ (by omega), b3, e9, tied_bits h'.ni (by omega) k (by omega), v]
          rw [decide_eq_true q]
          rfl
        · rw [I29 _ _ (by omega), b3, e9, tied_bits h'.ni (by omega) k k1]
          exact decide_eq_false (by omega)
        · have q : t < h'.nt := by omega
          have o := ho.tvO t q
          obtain ⟨g1, g2, g3⟩ := b4 t ht
          have s2' := mi_i (t1 t q).2 (by omega)
          refine ⟨?_, ?_, ?_⟩
          · show gI m29 1028 t = _
            rw [I29 _ _ (by omega), g1, y3 t q]; exact (th21 t q).1
          · show gI m29 1030 t = _
            rw [I29 _ _ (by omega), g2, y5 t (by omega)]
          · show ci m29 1031 t = _
            rw [heat_no h52, s2']
            exact ci_i (by rw [I29 _ _ (by omega), g3]; exact (th21 t q).2) (by omega)
        · exact mi_i (v := 0) y30 (by omega)
        · show ci m29 1027 1 = _
          exact ci_i (v := 0) (by rw [I29 _ _ (by omega), b1]; rfl) (by omega)
        · have : mi m' 1051 0 = 0 := mi_i y0 (by omega)
          omega
        · have : mi m' 1051 1 = h'.st := mi_i y1 (by omega)
          omega
        · have hf : farC m29 a b = farC m21 a b := by
            show ci m29 (1019 + a) b = ci m21 (1019 + a) b
            unfold ci
            rw [I29 _ _ (by omega), x25.2.2.2 _ _ (by omega) (by omega) (by omega) (by omega)]
          have := ways_eq (yW a ha) G21 ha hb
          rw [← hf] at this
          exact this
        · have q : k < h'.ni := by omega
          exact Or.inr (mi_i (v := 1) (y2 k q) (by omega))
        · have v : mi m' 2000 64 = 0 := mi_i y64 (by omega)
          exact ⟨by rw [u20, y64], by omega, fun k hk => by omega⟩
        · obtain ⟨n0, p0, v1, v2, v3, v4, v5, v6, v7⟩ := hUn
          have top : ∀ y : Nat, cSt y = true → 1448 ≤ y → y + 46 ≤ 2368 := by
            intro y h1 h2
            simp [cSt] at h1
            omega
          refine ⟨0, p0, by omega, v2, u23, y68, (keep 69 (by omega)).trans v5, fun i hi => ?_, fun i hi => absurd hi (Nat.not_lt_zero _)⟩
          obtain ⟨f1, f2, f3, f4⟩ := v6 i hi
          have ht := top _ f1 f2
          rw [Pst 1447 i (by omega) (by omega) (by omega)]
          refine ⟨f1, f2, f3.o (fun j => Pst _ _ (by omega) (by omega) (by omega)), fun j hj e => f4 j hj ?_⟩
          rw [Pst 1447 j (by omega) (by omega) (by omega)] at e
          exact e
        · refine ⟨?_, hNm.2.1.mv (fun c' j k1 k2 k3 => hdS1 c' j (by unfold rdX; omega) (by unfold stX; omega) (by omega)), ?_, fun μ2 lo e => ?_⟩
          · exact (sr4.lo x8.lo (by omega)).lo (loA.of dy29 (z := 1000)) (Nat.le_refl _)
          · have e1 : gZ m29 = gZ m8 := congrArg Prod.fst zz29
            have := x8.1
            show 2369 ≤ gZ m29
            omega
          · have e1 : gZ m29 = gZ m8 := congrArg Prod.fst zz29
            rw [e1] at lo
            exact (hh_of ho s1 hR ((loA.of dy29).trans lo) (e.trans p29)).1.1
      · -- the desk
        have J : ∀ j : Nat, j ≠ 23 → j ≠ 20 → gI m29 1000 j = gI m4 1000 j := fun j k1 k2 => by
          rw [J29 j k1 k2, x25.2.2.2 _ _ (by omega) (by omega) (by omega) (by omega), x21.2.2.2 _ _ (by omega), I19, i8 _ _ (by omega) (by omega) (by omega)]
        have J2 : ∀ c' j : Nat, c' = 1010 ∨ c' = 1017 ∨ c' = 2368 → gI m29 c' j = gI μ c' j := fun c' j hc' => by
          rw [I29 _ _ (by omega), x25.2.2.2 _ _ (by omega) (by omega) (by omega) (by omega), x21.2.2.2 _ _ (by omega), I19, i8 _ _ (by omega) (by omega) (by omega), I4 _ _ (by omega)]
        have M : ∀ c' j : Nat, c' = 1001 ∨ c' = 1010 ∨ c' = 1103 ∨ (c' = 2000 ∧ j = 103) → m'.1 c' j = m.1 c' j := fun c' j hc' => hdS1 c' j (by unfold rdX; omega) (by unfold stX; omega) (by omega)
        have Mi : ∀ c' j : Nat, c' = 1001 ∨ c' = 1010 ∨ c' = 1103 ∨ (c' = 2000 ∧ j = 103) → mi m' c' j = mi m c' j := fun c' j hc' => congrArg Int32.toInt (M c' j hc')
        refine ⟨⟨fun k hk => ?_, ?_, by omega, by omega⟩, ⟨?_, ?_⟩, fun k hk => ?_, ⟨?_, ?_, ?_⟩, ⟨?_, ?_, ?_, fun k hk => ?_⟩⟩
        · rw [J2 _ _ (by omega), M _ _ (by omega), Mi _ _ (by omega)]; exact tp1 k hk
        · rw [z1]; exact ci_i (v := 0) (by rw [J 2 (by omega) (by omega), a2]; rfl) (by omega)
        · rw [J 3 (by omega) (by omega), a3, w7]
        · rw [J 4 (by omega) (by omega), a4, w8]
        · rw [J2 _ _ (by omega), M _ _ (by omega)]; exact rf k hk
        · rw [L29, l8 _ _ (by omega), L4, hdS2 _ _ (by omega)]; exact sd1
        · unfold ml; rw [hdS2 _ _ (by omega)]; exact sd2
        · unfold ml; rw [hdS2 _ _ (by omega)]; exact sd3
        · rw [J 27 (by omega) (by omega), J4 27 (by omega) (by omega) (by omega), M _ _ (by omega)]; exact ou1
        · rw [Mi _ _ (by omega)]; exact ou2
        · rw [Mi _ _ (by omega)]; exact ou3
        · rw [Mi _ _ (by omega)] at hk
          rw [J2 _ _ (by omega), M _ _ (by omega)]; exact ou4 k hk
      · have e1 : gZ m29 = gZ m8 := congrArg Prod.fst zz29
        have := x8.1
        show gZ μ ≤ gZ m29
        omega
      · have e1 : gW m29 = gW m8 := congrArg Prod.snd zz29
        have := x8.2.1
        show gW μ ≤ gW m29
        omega
      · show gC m29 ≤ _
        rw [zgC zz29]
        rw [Nat.mul_add]
        generalize (2 * N + 1000) * N = X at *
        omega
    · -- a fault
      subst e
      rcases hq with ⟨k2, l2, e2, kr, er, w7, w8, w10, hF1, hF2⟩ | ⟨p2, h2, e2, -⟩
      rotate_left
      · rw [es] at e2; cases e2
      rw [es] at e2
      injection e2 with e2
      injection e2 with e3 e4
      subst e3 e4
      refine pw_gxn (pw_let (pw_let ?_))
      rw [hE.1, show gI (gz_sI m8 1000 3 (iI k)) 1012 7 = iI l by rw [sI_i, if_neg (by omega)]; exact hE.2]
      rw [show cf_X0_refuses (1 : Int32) (gz_sI (gz_sI m8 1000 3 (iI k)) 1000 4 (iI l)) = some (-1, gz_sI (gz_sI (gz_sI m8 1000 3 (iI k)) 1000 4 (iI l)) 1017 1 (gI (gz_sI (gz_sI m8 1000 3 (iI k)) 1000 4 (iI l)) 1017 1 + 1)) from c_refuses _ (k := 1) (by omega)]
      refine pw_bind (pw_some (pw_gu rfl (pw_some ⟨er.symm, ?_, ?_, ?_, ?_, ?_⟩)))
      · refine ((hWx m' (fun c j k1 k2 => hF1 c j k1 (by unfold dkM at k2; omega) (by unfold dkM at k2; omega)) (fun j hj => hF2 1039 j (by omega))).up x8.a).dk (mD.refl m') (((cD.sI (by unfold dkC; omega)).trans (cD.sI (by unfold dkC; omega))).trans (cD.sI (by unfold dkC; omega)))
      · have J : ∀ j : Nat, j ≠ 3 → j ≠ 4 → gI (gz_sI (gz_sI (gz_sI m8 1000 3 (iI k)) 1000 4 (iI l)) 1017 1 (gI (gz_sI (gz_sI m8 1000 3 (iI k)) 1000 4 (iI l)) 1017 1 + 1)) 1000 j = gI m4 1000 j := fun j k1 k2 => by
          rw [sI_i, if_neg (by omega), sI_i, if_neg (by omega), sI_i, if_neg (by omega), i8 _ _ (by omega) (by omega) (by omega)]
        have J2 : ∀ c' j : Nat, c' = 1010 ∨ (c' = 1017 ∧ j ≠ 1) ∨ c' = 2368 → gI (gz_sI (gz_sI (gz_sI m8 1000 3 (iI k)) 1000 4 (iI l)) 1017 1 (gI (gz_sI (gz_sI m8 1000 3 (iI k)) 1000 4 (iI l)) 1017 1 + 1)) c' j = gI μ c' j := fun c' j hc' => by
          rw [sI_i, if_neg (by omega), sI_i, if_neg (by omega), sI_i, if_neg (by omega), i8 _ _ (by omega) (by omega) (by omega), I4 _ _ (by omega)]
        have M : ∀ c' j : Nat, c' = 1001 ∨ (c' = 1010 ∧ j ≠ 1) ∨ c' = 1103 ∨ (c' = 2000 ∧ j = 103) → m'.1 c' j = m.1 c' j := fun c' j hc' => hF1 c' j (by unfold rdX; omega) (by omega) (by omega)
        have Mi : ∀ c' j : Nat, c' = 1001 ∨ (c' = 1010 ∧ j ≠ 1) ∨ c' = 1103 ∨ (c' = 2000 ∧ j = 103) → mi m' c' j = mi m c' j := fun c' j hc' => congrArg Int32.toInt (M c' j hc')
        refine ⟨⟨fun k hk => ?_, ?_, by omega, by omega⟩, ⟨?_, ?_⟩, fun i hi => ?_, ⟨?_, ?_, ?_⟩, ⟨?_, ?_, ?_, fun i hi => ?_⟩⟩
        · rw [J2 _ _ (by omega), M _ _ (by omega), Mi _ _ (by omega)]; exact tp1 k hk
        · rw [z1]; exact ci_i (v := 0) (by rw [J 2 (by omega) (by omega), a2]; rfl) (by omega)
        · rw [sI_i, if_neg (by omega), sI_i, if_neg (by omega), sI_i, if_pos ⟨rfl, rfl⟩, w7]
        · rw [sI_i, if_neg (by omega), sI_i, if_pos ⟨rfl, rfl⟩, w8]
        · by_cases q : i = 1
          · subst q
            rw [sI_i, if_pos ⟨rfl, rfl⟩, sI_i, if_neg (by omega), sI_i, if_neg (by omega), i8 _ _ (by omega) (by omega) (by omega), I4 _ _ (by omega), w10, rf 1 (by omega)]
          · rw [J2 _ _ (by omega), M _ _ (by omega)]; exact rf i hi
        · show gL m8 1000 24 = _
          rw [l8 _ _ (by omega), L4, hF2 _ _ (by omega)]; exact sd1
        · unfold ml; rw [hF2 _ _ (by omega)]; exact sd2
        · unfold ml; rw [hF2 _ _ (by omega)]; exact sd3
        · rw [J 27 (by omega) (by omega), J4 27 (by omega) (by omega) (by omega), M _ _ (by omega)]; exact ou1
        · rw [Mi _ _ (by omega)]; exact ou2
        · rw [Mi _ _ (by omega)]; exact ou3
        · rw [Mi _ _ (by omega)] at hi
          rw [J2 _ _ (by omega), M _ _ (by omega)]; exact ou4 i hi
      · have := x8.1
        show gZ μ ≤ gZ m8
        omega
      · have := x8.2.1
        show gW μ ≤ gW m8
        omega
      · show gC m8 ≤ _
        rw [← C4]; exact hg
  obtain ⟨⟨r2, μ'⟩, ec, g1, g2, g3, g4, g5, g6⟩ := goal
  dsimp only at g1 g2 g3 g4 g5 g6
  subst g1
  exact ⟨r2, m', μ', em, ec, g2, g3, g4, g5, z1, g6⟩
