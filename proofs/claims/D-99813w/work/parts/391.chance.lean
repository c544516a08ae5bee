/-! ===== chance ===== -/
def gS (μ μ' : gM) : Prop := μ'.2.2.2.2.2 = μ.2.2.2.2.2 ∧ μ'.1 = μ.1 ∧ μ'.2.1 = μ.2.1
theorem gS.refl (μ : gM) : gS μ μ := ⟨rfl, rfl, rfl⟩
theorem gS.trans {a b c : gM} (h1 : gS a b) (h2 : gS b c) : gS a c := ⟨h2.1.trans h1.1, h2.2.1.trans h1.2.1, h2.2.2.trans h1.2.2⟩
theorem lL_divn {a b : Int} (ha : 0 ≤ a ∧ a < 4611686018427387904) (hb : 1 ≤ b ∧ b ≤ 4294967296) : lL a / lL b = lL (a / b) := by
  rw [← Int.tdiv_eq_ediv_of_nonneg ha.1]
  unfold lL
  refine (Int64.ofInt_tdiv ?_ ?_ ?_ ?_).symm
  · show (-9223372036854775808 : Int) ≤ a; omega
  · show a ≤ (9223372036854775807 : Int); omega
  · show (-9223372036854775808 : Int) ≤ b; omega
  · show b ≤ (9223372036854775807 : Int); omega
theorem iI_divn {a b : Int} (ha : 0 ≤ a ∧ a < 2147483648) (hb : 1 ≤ b ∧ b < 2147483648) : iI a / iI b = iI (a / b) := by
  rw [← Int.tdiv_eq_ediv_of_nonneg ha.1]
  unfold iI
  refine (Int32.ofInt_tdiv ?_ ?_ ?_ ?_).symm
  · show (-2147483648 : Int) ≤ a; omega
  · show a ≤ (2147483647 : Int); omega
  · show (-2147483648 : Int) ≤ b; omega
  · show b ≤ (2147483647 : Int); omega
theorem iI_remn {a b : Int} (ha : 0 ≤ a ∧ a < 2147483648) (hb : 1 ≤ b ∧ b < 2147483648) : iI a - iI a / iI b * iI b = iI (a % b) := by
  rw [iI_divn ha hb, iI_mul, iI_sub]
  congr 1
  have := Int.mul_ediv_add_emod a b
  rw [Int.mul_comm] at this
  omega
theorem lL_remn {a b : Int} (ha : 0 ≤ a ∧ a < 4611686018427387904) (hb : 1 ≤ b ∧ b ≤ 4294967296) : lL a - lL a / lL b * lL b = lL (a % b) := by
  rw [lL_divn ha hb, lL_mul, lL_sub]
  congr 1
  have := Int.mul_ediv_add_emod a b
  rw [Int.mul_comm] at this
  omega
theorem e_draw {n : Nat} {m : MM} {μ : gM} (hW : rWd m μ) (hD : rDk n m μ) {k : Nat} (hk : 1 ≤ k ∧ k ≤ 100) : ∃ (v : Nat) (m' : MM) (μ' : gM), mf_drawOf (iI k) m = some (iI v, m') ∧ cf_X0_draw (iI k) μ = some (iI v, μ') ∧ v < k ∧ rWd m' μ' ∧ rDk n m' μ' ∧ mi m' 1051 0 = mi m 1051 0 ∧ (∀ j : Nat, m'.1 1038 j = m.1 1038 j) ∧ gS μ μ' := by
  obtain ⟨a, b, c, ⟨d1, d2, d3⟩, e⟩ := id hD
  generalize hs : ml m 2000 70 = s at d2 d3
  have es : m.2 2000 70 = lL s := by rw [ml_of m, hs]
  have x1 : (1103515245 * s + 12345) % 2147483648 < 2147483648 := Int.emod_lt_of_pos _ (by omega)
  have x2 : 0 ≤ (1103515245 * s + 12345) % 2147483648 := Int.emod_nonneg _ (by omega)
  have e1 : (((1103515245 : Int64) * lL s) + (12345 : Int64)) - (((1103515245 : Int64) * lL s) + (12345 : Int64)) / (2147483648 : Int64) * (2147483648 : Int64) = lL ((1103515245 * s + 12345) % 2147483648) := by
    rw [lL_lit, lL_lit, lL_lit, lL_mul, lL_add]
    exact lL_remn (by omega) (by omega)
  generalize (1103515245 * s + 12345) % 2147483648 = w at x1 x2 e1
  have ek : (iI (k : Int)).toInt64 = lL k := i2l_iI (by omega)
  have nk : ¬ lL (k : Int) = 0 := by rw [lL_lit, lL_eq (by omega) (by omega)]; omega
  have x3 : w / 64 % (k : Int) < k := Int.emod_lt_of_pos _ (by omega)
  have x4 : 0 ≤ w / 64 % (k : Int) := Int.emod_nonneg _ (by omega)
  have e2 : ((lL w / (64 : Int64)) - (lL w / (64 : Int64)) / lL k * lL k).toInt32 = iI ((w / 64 % (k : Int)).toNat : Int) := by
    rw [lL_lit, lL_divn (by omega) (by omega), lL_remn (by omega) (by omega), l2i_lL (by omega)]
    exact congrArg iI (by omega)
  refine ⟨(w / 64 % (k : Int)).toNat, msL m 2000 70 (lL w), gz_sL μ 1000 24 (lL w), ?_, ?_, by omega, ?_, ⟨a, b, c, ⟨?_, ?_, ?_⟩, e⟩, rfl, fun _ => rfl, ⟨rfl, rfl, rfl⟩⟩
  · unfold mf_drawOf
    rw [es, e1, ek]
    simp only [gz_let]
    rw [if_pos nk, msL_l, if_pos ⟨rfl, rfl⟩, e2]
  · unfold cf_X0_draw
    rw [d1, es, e1, ek]
    simp only [gz_let]
    rw [if_pos nk, sL_l, if_pos ⟨rfl, rfl⟩, e2]
  · exact hW.dk ⟨fun _ _ _ => rfl, fun c' j' k => by rw [msL_l, if_neg k]⟩ ⟨rfl, rfl, rfl, fun _ _ _ => rfl, fun c' j' k => by rw [sL_l, if_neg k], fun _ _ => rfl⟩
  · rw [sL_l, msL_l, if_pos ⟨rfl, rfl⟩, if_pos ⟨rfl, rfl⟩]
  · rw [ml_sL _ _ _ _ _ (by omega), if_pos ⟨rfl, rfl⟩]; exact x2
  · rw [ml_sL _ _ _ _ _ (by omega), if_pos ⟨rfl, rfl⟩]; exact x1
theorem e_hour1 {n : Nat} {m : MM} {μ : gM} (hW : rWd m μ) (hD : rDk n m μ) (h9 : mi m 1051 0 < 999) : ∃ (m' : MM) (r : Int32) (μ' : gM), mf_hourGoes m = some ((), m') ∧ cf_X5_goes 1027 μ = some (r, μ') ∧ rWd m' μ' ∧ rDk n m' μ' ∧ mi m' 1051 0 = mi m 1051 0 + 1 ∧ gS μ μ' := by
  obtain ⟨l, h1, h2, h3, h4, h5⟩ := id hW
  obtain ⟨q1, q2, q3, q4, q5, q6, q7, q8, q9, q10, q11, q12, q13⟩ := h1
  obtain ⟨⟨⟨⟩, m'⟩, e1, f1, f2, f3, f4, f5⟩ := p_hour q2.1 q5 q4 q7
  obtain ⟨⟨r, μ'⟩, e2, g1, g2, g3, g4⟩ := c_goes (x := 1027) (by decide) q1 q5 q2 q3 q6 q8
  dsimp only at f1 f2 f3 f4 f5 g1 g2 g3 g4
  have hk : kpM (hrK m l (things m)) m' := by
    unfold thM at f3
    rw [if_pos q13] at f3
    exact f3
  have hmN := mN.h q5 f2
  have hcN := cN.c g4
  have e0 : mi (hourM m) 1051 0 = mi m 1051 0 + 1 := hourM_0 q5
  have hb := q2.1.2.2.2.1
  refine ⟨m', r, μ', e1, e2, hW.now hmN hcN f1 (q5.hour q2.1 (by omega)) (by omega) (by rw [hourM_w (by omega) (by omega)]; exact q11) (fun k hk => ?_) hk g2 g3, hD.n hmN hcN, by rw [f1.n (by omega)]; exact e0, g4.2.2.1, g4.1, g4.2.1⟩
  rw [(hhE.hour m).at (by omega)] at hk
  rw [hourM_w (by omega) (by omega)]
  exact h3 k hk
theorem e_blow1 {n : Nat} {m : MM} {μ : gM} (hW : rWd m μ) (hD : rDk n m μ) {t : Nat} (ht : (t : Int) < mi m 1038 7) : ∃ (m' : MM) (μ' : gM), mf_draughtOn (iI t) m = some ((), m') ∧ cf_X5_blows 1027 (iI t) μ = some ((), μ') ∧ rWd m' μ' ∧ rDk n m' μ' ∧ mi m' 1051 0 = mi m 1051 0 ∧ gS μ μ' := by
  obtain ⟨l, h1, h2, h3, h4, h5⟩ := id hW
  obtain ⟨q1, q2, q3, q4, q5, q6, q7, q8, q9, q10, q11, q12, q13⟩ := h1
  have b7 := q2.1.2.1
  have hb := q2.1.2.2.2.1
  obtain ⟨⟨⟨⟩, m'⟩, e1, f1, f2, f3, f4⟩ := p_blow (sE.refl m) q5 q7 (t := t) (by omega)
  obtain ⟨⟨⟨⟩, μ'⟩, e2, g2, g3, g4⟩ := c_blow (x := 1027) (by decide) q2.1 q5 q6 q8 ht
  dsimp only at f1 f2 f3 f4 g2 g3 g4
  have hk : kpM (blowK m l t) m' := by
    unfold thM at f3
    rw [if_pos q13] at f3
    exact f3
  have hmN := mN.h q5 f2
  have hcN := cN.c g4
  refine ⟨m', μ', e1, e2, hW.now hmN hcN f1 (q5.blow (by omega)) (by rw [blowM_lo _ _ (by omega)]; exact q10) (by rw [blowM_lo _ _ (by omega)]; exact q11) (fun k hk => ?_) hk g2 g3, hD.n hmN hcN, by rw [f1.n (by omega), blowM_lo _ _ (by omega)], g4.2.2.1, g4.1, g4.2.1⟩
  rw [(blowM_hh m t).at (by omega)] at hk
  rw [blowM_lo _ _ (by omega)]
  exact h3 k hk
theorem e_chance {n : Nat} {m : MM} {μ : gM} (hW : rWd m μ) (hD : rDk n m μ) (x : Int32) : eA n (mf_chance x m) (cf_X0_chance x μ) μ := by
  obtain ⟨z, hz, rfl⟩ := iI_ex x
  obtain ⟨l, h1, -⟩ := id hW
  have pA : mf_isAhead (iI z) (1 : Int32) (100 : Int32) m = some (if (1 ≤ z ∧ z ≤ 100) ∧ mi m 1051 0 + z ≤ 999 then 1 else 0, m) := p_isAhead h1.2.2.2.2.1 hz (a := 1) (b := 100) (by omega) (by omega)
  have cA : cf_X0_isAhead (iI z) (1 : Int32) (100 : Int32) μ = some (if (1 ≤ z ∧ z ≤ 100) ∧ mi m 1051 0 + z ≤ 999 then 1 else 0, μ) := c_isAhead h1.2.2.2.2.1 h1.2.2.2.2.2.1.1 hz (a := 1) (b := 100) (by omega) (by omega)
  unfold mf_chance cf_X0_chance
  rw [pA, cA]
  simp only [Option.bind_some]
  by_cases q : (1 ≤ z ∧ z ≤ 100) ∧ mi m 1051 0 + z ≤ 999
  · rw [if_pos q, if_neg n10, if_neg n10]
    obtain ⟨m1, μ1, e1, e2, k1, k2, hW1⟩ := e_keeps hW
    have hD1 := hD.k k1 k2
    have e0 : mi m1 1051 0 = mi m 1051 0 := k1.s.n (by omega)
    obtain ⟨t, rfl⟩ : ∃ t : Nat, z = t := ⟨z.toNat, by omega⟩
    rw [e1, e2]
    simp only [Option.bind_some]
    unfold ml_X6_chance_25 ml_X0_chance_25
    obtain ⟨⟨r, m'⟩, ⟨r', μ'⟩, a1, a2, a3, a4, a5, a6⟩ := pw_for2 (f := fun q : (Int32 × Int32 × Int32 × MM) => mb_X6_chance_25 q.1 q.2.1 q.2.2.1 q.2.2.2) (g := fun q : (Int32 × Int32 × Int32 × gM) => mb_X0_chance_25 q.1 q.2.1 q.2.2.1 q.2.2.2) (Q := fun r r' => r.1 = r'.1 ∧ rWd r.2 r'.2 ∧ rDk n r.2 r'.2 ∧ gS μ1 r'.2)
      (fun (i : Nat) (s : Int32 × Int32 × Int32 × MM) (s' : Int32 × Int32 × Int32 × gM) => s.1 = iI t ∧ s'.1 = iI t ∧ s.2.1 = s'.2.1 ∧ s.2.2.1 = iI i ∧ s'.2.2.1 = iI i ∧ rWd s.2.2.2 s'.2.2.2 ∧ rDk n s.2.2.2 s'.2.2.2 ∧ mi s.2.2.2 1051 0 = mi m 1051 0 + i ∧ gS μ1 s'.2.2.2) t
      (by
        rintro i ⟨s1, s2, s3, a⟩ ⟨t1, t2, t3, b⟩ hi ⟨rfl, rfl, rfl, rfl, rfl, w1, w2, w3, w4⟩
        dsimp only at w1 w2 w3 w4 ⊢
        have ei : iI (i : Int) + (1 : Int32) = iI ((i + 1 : Nat) : Int) := by rw [iI_lit, iI_add]; rfl
        have cgo : ¬ iI (t : Int) ≤ iI (i : Int) := by rw [iI_le (by omega) (by omega)]; omega
        have g11 : gz_ix (11 : Int32) = 11 := by decide
        unfold mb_X6_chance_25 mb_X0_chance_25
        rw [if_neg cgo, if_neg cgo]
        obtain ⟨v, a', b', d1, d2, d3, d4, d5, d6, d7, d8⟩ := e_draw w1 w2 (k := 100) (by omega)
        rw [show (100 : Int32) = iI ((100 : Nat) : Int) from rfl, d1, d2]
        simp only [Option.bind_some, gz_let]
        obtain ⟨l0, c1, -⟩ := id d4
        have hh := c1.2.1
        have hm := hh.1
        have r11 := hm.2.2.2.2
        have r7 := hm.2.1
        obtain ⟨L1, L2, L3, -, -, -, -, L8⟩ := hh.2.1
        have eg : gI b' (gP b' 1000 0) 2 = iI (mi a' 1038 11) := by rw [ci_of]; exact congrArg iI L8
        rw [if_pos (by decide), if_pos (show gP b' 1000 0 ≠ 0 from L1), if_pos (show gK b' (gP b' 1000 0) = 2 from L3), g11, eg, mi_of a']
        have fin : ∀ (u : Int32) (a2 : MM) (b2 : gM), rWd a2 b2 → rDk n a2 b2 → mi a2 1051 0 = mi m 1051 0 + i → gS μ1 b2 → ∃ (s' : Int32 × Int32 × Int32 × MM) (t' : Int32 × Int32 × Int32 × gM), mj_X6_chance_68 (iI t) u (iI i) a2 = some (Sum.inl s') ∧ mj_X0_chance_71 (iI t) u (iI i) b2 = some (Sum.inl t') ∧ s'.1 = iI t ∧ t'.1 = iI t ∧ s'.2.1 = t'.2.1 ∧ s'.2.2.1 = iI ((i + 1 : Nat) : Int) ∧ t'.2.2.1 = iI ((i + 1 : Nat) : Int) ∧ rWd s'.2.2.2 t'.2.2.2 ∧ rDk n s'.2.2.2 t'.2.2.2 ∧ mi s'.2.2.2 1051 0 = mi m 1051 0 + ((i + 1 : Nat) : Int) ∧ gS μ1 t'.2.2.2 := by
          intro u a2 b2 y1 y2 y3 y4
          obtain ⟨a3, r, b3, f1, f2, f3, f4, f5, f6⟩ := e_hour1 y1 y2 (by omega)
          unfold mj_X6_chance_68 mj_X0_chance_71
          rw [f1, f2]
          simp only [Option.bind_some, gz_let, ei]
          exact ⟨_, _, rfl, rfl, rfl, rfl, rfl, rfl, rfl, f3, f4, by rw [f5]; omega, y4.trans f6⟩
        by_cases u1 : mi a' 1038 11 ≤ v
        · have c1' : iI (mi a' 1038 11) ≤ iI (v : Int) := by rw [iI_le (by omega) (by omega)]; exact u1
          rw [if_pos c1', if_pos c1']
          exact fin _ a' b' d4 d5 (by omega) (w4.trans d8)
        · have c1' : ¬ iI (mi a' 1038 11) ≤ iI (v : Int) := by rw [iI_le (by omega) (by omega)]; exact u1
          rw [if_neg c1', if_neg c1', p_thingMany, c_things hh]
          simp only [Option.bind_some]
          by_cases u2 : mi a' 1038 7 ≤ 0
          · have c2' : iI (mi a' 1038 7) ≤ (0 : Int32) := by rw [iI_lit, iI_le (by omega) (by omega)]; exact u2
            rw [if_pos c2', if_pos c2']
            exact fin _ a' b' d4 d5 (by omega) (w4.trans d8)
          · have c2' : ¬ iI (mi a' 1038 7) ≤ (0 : Int32) := by rw [iI_lit, iI_le (by omega) (by omega)]; exact u2
            rw [if_neg c2', if_neg c2', p_thingMany, c_things hh]
            simp only [Option.bind_some]
            obtain ⟨K, hK⟩ : ∃ K : Nat, mi a' 1038 7 = K := ⟨(mi a' 1038 7).toNat, by omega⟩
            obtain ⟨v2, a2, b2, j1, j2, j3, j4, j5, j6, j7, j8⟩ := e_draw d4 d5 (k := K) (by omega)
            rw [hK, j1, j2]
            simp only [Option.bind_some]
            have j7' : mi a2 1038 7 = mi a' 1038 7 := congrArg Int32.toInt (j7 7)
            obtain ⟨a3, b3, o1, o2, o3, o4, o5, o6⟩ := e_blow1 j4 j5 (t := v2) (by omega)
            rw [o1, o2]
            simp only [Option.bind_some]
            exact fin _ a3 b3 o3 o4 (by omega) (((w4.trans d8).trans j8).trans o6))
      (by
        rintro ⟨s1, s2, s3, a⟩ ⟨t1, t2, t3, b⟩ ⟨rfl, rfl, rfl, rfl, rfl, w1, w2, w3, w4⟩
        dsimp only at w1 w2 w3 w4 ⊢
        unfold mb_X6_chance_25 mb_X0_chance_25
        have cgo : iI (t : Int) ≤ iI (t : Int) := by rw [iI_le (by omega) (by omega)]; omega
        rw [if_pos cgo, if_pos cgo]
        exact ⟨_, _, rfl, rfl, rfl, w1, w2, w4⟩)
      (s := (iI t, (0 : Int32), (0 : Int32), m1)) (t := (iI t, (0 : Int32), (0 : Int32), μ1)) ⟨rfl, rfl, rfl, rfl, rfl, hW1, hD1, by dsimp only; omega, gS.refl _⟩
    dsimp only at a3 a4 a5 a6
    subst a3
    exact ⟨r, m', μ', a1, a2, a4, a5, a6.1.trans k2.2.2.1, a6.2.1.trans k2.1, a6.2.2.trans k2.2.1⟩
  · rw [if_neg q]
    have e3 : (3 : Int32) = iI ((3 : Nat) : Int) := rfl
    obtain ⟨a1, a2⟩ := eA.no hW hD (k := 3) (by omega)
    refine ⟨-1, _, _, ?_, ?_, a1, a2, rfl, rfl, rfl⟩
    · rw [if_pos rfl, e3, p_refuses m (by omega)]
      rfl
    · rw [if_pos rfl, e3, c_refuses μ (by omega)]
      rfl
