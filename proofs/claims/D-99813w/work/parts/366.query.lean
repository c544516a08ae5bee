/-! ===== what there is: has, thing, tie, way, kept ===== -/
theorem n10 : ¬ ((1 : Int32) = 0) := by decide
theorem eO.same {α : Type} {o1 : Option (α × MM)} {o2 : Option (α × gM)} {l : List (Int × Int × Int)} {m : MM} {μ : gM} (h : rCo l m μ) (r : α) (h1 : o1 = some (r, m)) (h2 : o2 = some (r, μ)) : eO o1 o2 m μ := ⟨r, m, μ, h1, h2, mSc.refl h.2.2.2.2.1, cSc.refl μ, h.2.2.2.2.2.2.2.2.1⟩
theorem pop_tied {m : MM} {μ : gM} (hm : rMany m) (h6 : rSt m μ 1027) : ∃ n : Nat, n < 4096 ∧ gI μ 1027 3 = nI n ∧ popN n = popB (holdB m) (ties m) := by
  have hb := hm.2.2.2.1
  obtain ⟨s1, s2, s3, s4, s5⟩ := h6
  obtain ⟨n, hn, e, hk⟩ := s12_ex (s := gI μ 1027 3) (fun i h1 h2 => s4 i h2 (by omega))
  refine ⟨n, hn, e, ?_⟩
  have ht : ties m ≤ 12 := by unfold ties; omega
  unfold popN
  rw [show (12 : Nat) = ties m + (12 - ties m) by omega, popB_add (i := ties m) (12 - ties m) (fun k h1 h2 => ?_)]
  · apply popB_eq
    intro k hk'
    rw [hk k (by omega)]
    exact s3 k (by unfold ties at hk'; omega)
  · rw [hk k (by omega)]
    exact s4 k (by omega) (by unfold ties at h1; omega)
theorem e_has {l : List (Int × Int × Int)} {m : MM} {μ : gM} (h : rCo l m μ) (hr : gI μ 1000 20 = m.1 2000 64) (hu : gI μ 1000 23 = m.1 2000 68) (x : Int32) : eO (mf_has x m) (cf_X0_has_2 x μ) m μ := by
  have hR := h
  obtain ⟨h1, h2, h3, h4, h5, h6, h7, h8, h9, h10, h11, h12, h13⟩ := h
  have g0 : gz_ix (0 : Int32) = 0 := by decide
  have g1 : gz_ix (1 : Int32) = 1 := by decide
  have g8 : gz_ix (8 : Int32) = 8 := by decide
  have g30 : gz_ix (30 : Int32) = 30 := by decide
  have hb := h2.1.2.2.1
  unfold mf_has cf_X0_has_2
  by_cases q : x = 0
  · rw [if_pos q, if_pos q, p_hallMany, c_halls h2]
    exact eO.same hR _ rfl rfl
  rw [if_neg q, if_neg q]
  by_cases q : x = 1
  · rw [if_pos q, if_pos q, if_pos (by decide), g8]
    refine eO.same hR _ rfl ?_
    show (if gP μ 1000 0 ≠ 0 then _ else none) = _
    rw [if_pos h2.2.1.1, if_pos h2.2.1.2.2.1]
    show (if gP μ (hC μ) 4 ≠ 0 then _ else none) = _
    rw [if_pos h2.2.1.2.2.2.2.1.1, if_pos h2.2.1.2.2.2.2.1.2.2.1, c_size h2.2.1.2.2.2.2.1, mi_of m]
    rfl
  rw [if_neg q, if_neg q]
  by_cases q : x = 2
  · rw [if_pos q, if_pos q, p_thingMany, c_things h2]
    exact eO.same hR _ rfl rfl
  rw [if_neg q, if_neg q]
  by_cases q : x = 3
  · rw [if_pos q, if_pos q, p_tieMany, c_ties h2]
    exact eO.same hR _ rfl rfl
  rw [if_neg q, if_neg q]
  by_cases q : x = 4
  · rw [if_pos q, if_pos q, if_pos (by decide), g0, h6.1]
    exact eO.same hR _ rfl rfl
  rw [if_neg q, if_neg q]
  by_cases q : x = 5
  · rw [if_pos q, if_pos q, if_pos (by decide), g1, h6.2.1]
    exact eO.same hR _ rfl rfl
  rw [if_neg q, if_neg q]
  by_cases q : x = 6
  · obtain ⟨n, hn, e, -⟩ := s12_ex (s := litS m) (fun i a b => litS_8 h2.1 i (by omega) b)
    rw [if_pos q, if_pos q, p_burningSet h2.1, c_lit h2 (fun t ht => (h6.2.2.2.2 t ht).1), e]
    simp only [Option.bind_some]
    rw [p_bits hn, c_bitCount hn]
    exact eO.same hR _ rfl rfl
  rw [if_neg q, if_neg q]
  by_cases q : x = 7
  · obtain ⟨n, hn, e, e2⟩ := pop_tied h2.1 h6
    rw [if_pos q, if_pos q, p_holdMany h2.1, e, c_bitCount hn, e2]
    exact eO.same hR _ rfl rfl
  rw [if_neg q, if_neg q]
  by_cases q : x = 8
  · rw [if_pos q, if_pos q, if_pos (by decide), g30, mi_of m, h7.2.1, ci_of, h8.2.1]
    exact eO.same hR _ rfl rfl
  rw [if_neg q, if_neg q]
  by_cases q : x = 9
  · rw [if_pos q, if_pos q, hr]
    exact eO.same hR _ rfl rfl
  rw [if_neg q, if_neg q]
  by_cases q : x = 10
  · rw [if_pos q, if_pos q, hu]
    exact eO.same hR _ rfl rfl
  rw [if_neg q, if_neg q]
  exact eO.same hR _ rfl rfl
theorem p_doesMind {m : MM} (h : rMany m) (hN : okN m) (hc : cOK m) {t : Nat} (ht : (t : Int) < mi m 1038 7) : pw (mf_doesMind (iI t) m) (fun q => (q.1 = 1 ∧ mdM m t ∨ q.1 = 0 ∧ ¬ mdM m t) ∧ tE m q.2) := by
  have hb := h.2.1
  have e1 : (1 : Int32) = iI ((1 : Nat) : Int) := rfl
  have pT : mf_isTold (1 : Int32) m = some (if mi m 1044 (2 + 1) = -1 then 0 else 1, m) := p_isTold (w := 1) (by omega)
  unfold mf_doesMind mj_X6_doesMind_31
  rw [p_doesBurn (by omega)]
  refine pw_bind (pw_some ?_)
  dsimp only
  by_cases q : 0 < mi m 1051 (14 + 2 * t)
  · rw [if_pos q]
    refine pw_f (by decide) ?_
    rw [pT]
    refine pw_bind (pw_some ?_)
    dsimp only
    by_cases q2 : mi m 1044 (2 + 1) = -1
    · rw [if_pos q2]
      exact pw_t rfl (pw_some ⟨Or.inr ⟨rfl, fun z => z.2.1 q2⟩, tE.refl _⟩)
    · rw [if_neg q2]
      refine pw_f (by decide) ?_
      obtain ⟨v1, v2⟩ := p_told h hN (w := 1) (by omega) hc.2 q2 ht
      have vb := v1.b
      refine pw_bind (pw_mono v2 ?_)
      rintro ⟨r, m2⟩ ⟨rfl, h3⟩
      dsimp only at h3 ⊢
      by_cases q3 : valM m 1 t = 1
      · exact pw_t (by rw [q3, lL_lit]) (pw_some ⟨Or.inl ⟨rfl, q, q2, q3⟩, h3⟩)
      · exact pw_f (by rw [lL_lit, lL_eq (by omega) (by omega)]; exact q3) (pw_some ⟨Or.inr ⟨rfl, fun z => q3 z.2.2⟩, h3⟩)
  · rw [if_neg q]
    exact pw_t rfl (pw_some ⟨Or.inr ⟨rfl, fun z => q z.1⟩, tE.refl _⟩)
theorem mSc.t {m m' : MM} (hN : okN m) (h : tE m m') : mSc m m' := ⟨fun c j k => h.1 c j (by unfold scM at k; omega), h.2, by rw [h.at (by omega)]; exact hN.2.2.1⟩
theorem cSc.o {μ μ' : gM} (h : oF μ μ') : cSc μ μ' := ⟨h.1, h.2.1, h.2.2.1, fun c j _ => h.2.2.2.1 c j, fun c j k _ => h.2.2.2.2.1 c j k, fun c j _ => h.2.2.2.2.2 c j⟩
theorem rowOK.o {μ μ' : gM} {x : Nat} (h : rowOK μ x) (hp : ∀ j : Nat, gP μ' (x + 5) j = gP μ (x + 5) j) : rowOK μ' x := fun i hi => by
  rw [hp]
  refine ⟨(h i hi).1, fun j hj e => (h i hi).2 j hj ?_⟩
  rw [hp] at e
  exact e
theorem e_thing {l : List (Int × Int × Int)} {m : MM} {μ : gM} (h : rCo l m μ) (x y : Int32) : eO (mf_thing x y m) (cf_X0_thing x y μ) m μ := by
  have hR := h
  obtain ⟨h1, h2, h3, h4, h5, h6, h7, h8, h9, h10, h11, h12, h13⟩ := h
  have hb := h2.1.2.1
  obtain ⟨z, hz, rfl⟩ := iI_ex x
  unfold mf_thing cf_X0_thing
  rw [i2l_iI hz, p_isThing h2.1 hz, c_isThing h2 hz]
  simp only [Option.bind_some]
  by_cases q : 0 ≤ z ∧ z < mi m 1038 7
  · rw [if_pos q, if_neg n10, if_neg n10]
    obtain ⟨t, rfl⟩ : ∃ t : Nat, z = t := ⟨z.toNat, by omega⟩
    obtain ⟨t1, t2, t3, -⟩ := h2.2.2.1 t q.2
    obtain ⟨s1, s2, s3⟩ := h6.2.2.2.2 t q.2
    have gt : gz_ix (iI (t : Int)) = t := by rw [gix (by omega)]; omega
    have hi8 : gz_in (iI (t : Int)) 8 := (gin_iI (by omega)).2 (by omega)
    by_cases q : y = 0
    · rw [if_pos q, if_pos q, p_hallOf (by omega), c_thingOf h2 (by omega)]
      simp only [Option.bind_some]
      rw [if_pos t1, ci_of, t2]
      exact eO.same hR _ rfl rfl
    rw [if_neg q, if_neg q]
    by_cases q : y = 1
    · rw [if_pos q, if_pos q, p_heatOf (by omega), c_thingOf h2 (by omega), heat_no h12]
      simp only [Option.bind_some]
      rw [if_pos t1, ci_of, t3]
      exact eO.same hR _ rfl rfl
    rw [if_neg q, if_neg q]
    by_cases q : y = 2
    · rw [if_pos q, if_pos q, p_strengthOf (by omega), if_pos hi8, gt, s1, mi_of m]
      exact eO.same hR _ rfl rfl
    rw [if_neg q, if_neg q]
    by_cases q : y = 3
    · rw [if_pos q, if_pos q, p_smellOf (by omega), if_pos hi8, gt, s2, mi_of m]
      exact eO.same hR _ rfl rfl
    rw [if_neg q, if_neg q]
    by_cases q : y = 4
    · rw [if_pos q, if_pos q]
      obtain ⟨⟨r, m'⟩, e1, a1, a2⟩ := p_doesMind h2.1 h5 h4 (t := t) (by omega)
      obtain ⟨⟨r', μ'⟩, e2, b1, b2⟩ := c_isMinding h1 h2 h3 h6 h5 (t := t) (by omega)
      dsimp only at a1 a2 b1 b2
      rw [e1, e2]
      simp only [Option.bind_some]
      have hro : rowOK μ' 1073 := h9.o (fun j => b2.2.2.2.2.2 _ _)
      rcases a1 with ⟨a1, a3⟩ | ⟨a1, a3⟩
      · rcases b1 with ⟨b1, b3⟩ | ⟨b1, b3⟩
        · subst a1; subst b1
          exact ⟨_, m', μ', rfl, rfl, mSc.t h5 a2, cSc.o b2, hro⟩
        · exact absurd a3 b3
      · rcases b1 with ⟨b1, b3⟩ | ⟨b1, b3⟩
        · exact absurd b3 a3
        · subst a1; subst b1
          exact ⟨_, m', μ', rfl, rfl, mSc.t h5 a2, cSc.o b2, hro⟩
    rw [if_neg q, if_neg q]
    exact eO.same hR _ rfl rfl
  · rw [if_neg q]
    exact eO.same hR _ rfl rfl
theorem e_tie {l : List (Int × Int × Int)} {m : MM} {μ : gM} (h : rCo l m μ) (ht01 : ∀ k : Nat, (k : Int) < mi m 1038 9 → mi m 1051 (2 + k) = 0 ∨ mi m 1051 (2 + k) = 1) (x y : Int32) : eO (mf_tie x y m) (cf_X0_tie x y μ) m μ := by
  have hR := h
  obtain ⟨h1, h2, h3, h4, h5, h6, h7, h8, h9, h10, h11, h12, h13⟩ := h
  have hb := h2.1.2.2.2.1
  obtain ⟨z, hz, rfl⟩ := iI_ex x
  unfold mf_tie cf_X0_tie
  rw [p_isTie h2.1 hz, c_isTie h2 hz]
  simp only [Option.bind_some]
  by_cases q : 0 ≤ z ∧ z < mi m 1038 9
  · rw [if_pos q, if_neg n10, if_neg n10]
    obtain ⟨t, rfl⟩ : ∃ t : Nat, z = t := ⟨z.toNat, by omega⟩
    obtain ⟨t1, t2, t3, -⟩ := h2.2.2.2 t q.2
    have hqt := q.2
    have e2 : (2 : Int32) + iI t = iI (2 + t) := by rw [iI_lit, iI_add]
    have gt : gz_ix (iI (2 + (t : Int))) = 2 + t := by rw [gix (by omega)]; omega
    by_cases q : y = 0
    · rw [if_pos q, if_pos q, p_fromOf (by omega), c_tieOf h2 (by omega)]
      simp only [Option.bind_some]
      rw [if_pos t1, ci_of, t2]
      exact eO.same hR _ rfl rfl
    rw [if_neg q, if_neg q]
    by_cases q : y = 1
    · rw [if_pos q, if_pos q, p_toOf (by omega), c_tieOf h2 (by omega)]
      simp only [Option.bind_some]
      rw [if_pos t1, ci_of, t3]
      exact eO.same hR _ rfl rfl
    rw [if_neg q, if_neg q]
    by_cases q : y = 2
    · rw [if_pos q, if_pos q, e2, if_pos ((gin_iI (by omega)).2 (by omega)), gt, c_has μ _ (by omega), h6.2.2.1 t hqt, mi_of m]
      simp only [Option.bind_some]
      rcases ht01 t hqt with w | w
      · rw [w]
        exact eO.same hR _ rfl rfl
      · rw [w]
        exact eO.same hR _ rfl rfl
    rw [if_neg q, if_neg q]
    exact eO.same hR _ rfl rfl
  · rw [if_neg q]
    exact eO.same hR _ rfl rfl
def rWay (m : MM) (μ : gM) : Prop := ∀ a b : Nat, a < 8 → b < 8 → (mi m 1050 (8 * a + b) = -1 ∧ 100000000 ≤ ci μ (1019 + a) b) ∨ ((0 ≤ mi m 1050 (8 * a + b) ∧ mi m 1050 (8 * a + b) ≤ 900) ∧ ci μ (1019 + a) b = mi m 1050 (8 * a + b))
theorem c_wayBetween {m : MM} {μ : gM} (h : rWay m μ) {a b : Nat} (ha : a < 8) (hb : b < 8) : cf_X0_wayBetween (iI a) (iI b) μ = some (iI (mi m 1050 (8 * a + b)), μ) := by
  have ga : gz_ix (iI (a : Int)) = a := by rw [gix (by omega)]; omega
  have gb : gz_ix (iI (b : Int)) = b := by rw [gix (by omega)]; omega
  have ia : gz_in (iI (a : Int)) 8 := (gin_iI (by omega)).2 (by omega)
  have ib : gz_in (iI (b : Int)) 8 := (gin_iI (by omega)).2 (by omega)
  have r := ci_r μ (1019 + a) b
  unfold cf_X0_wayBetween
  rw [ga, gb, if_pos ia, if_pos ib, ci_of]
  rcases h a b ha hb with ⟨q1, q2⟩ | ⟨q1, q2⟩
  · rw [if_neg (by rw [iI_lit, iI_lt (by omega) (by omega)]; omega), q1]
    rfl
  · rw [if_pos (by rw [iI_lit, iI_lt (by omega) (by omega)]; omega), if_pos ia, if_pos ib, q2]
theorem p_ways {m : MM} {a b : Nat} (ha : a < 8) (hb : b < 8) : gz_in ((8 : Int32) * iI a + iI b) 64 ∧ m.1 1050 (gz_ix ((8 : Int32) * iI a + iI b)) = iI (mi m 1050 (8 * a + b)) := by
  have e : (8 : Int32) * iI a + iI b = iI (8 * a + b) := by rw [iI_lit, iI_mul, iI_add]
  rw [e]
  refine ⟨(gin_iI (by omega)).2 (by omega), ?_⟩
  rw [gix (by omega), mi_of m, show (8 * (a : Int) + b).toNat = 8 * a + b by omega]
theorem e_way {l : List (Int × Int × Int)} {m : MM} {μ : gM} (h : rCo l m μ) (hw : rWay m μ) (x y : Int32) : eO (mf_way x y m) (cf_X0_way x y μ) m μ := by
  have hR := h
  obtain ⟨h1, h2, h3, h4, h5, h6, h7, h8, h9, h10, h11, h12, h13⟩ := h
  have hb := h2.1.1
  obtain ⟨z, hz, rfl⟩ := iI_ex x
  obtain ⟨w, hz2, rfl⟩ := iI_ex y
  unfold mf_way cf_X0_way mj_X6_way_32 mj_X0_way_25
  rw [i2l_iI hz, i2l_iI hz2, p_isHall h2.1 hz, c_isHall h2 hz]
  simp only [Option.bind_some]
  by_cases q : 0 ≤ z ∧ z < mi m 1038 6
  · rw [if_pos q, if_neg n10, if_neg n10, p_isHall h2.1 hz2, c_isHall h2 hz2]
    simp only [Option.bind_some]
    by_cases q2 : 0 ≤ w ∧ w < mi m 1038 6
    · rw [if_pos q2, if_neg n10, if_neg n10]
      obtain ⟨a, rfl⟩ : ∃ t : Nat, z = t := ⟨z.toNat, by omega⟩
      obtain ⟨b, rfl⟩ : ∃ t : Nat, w = t := ⟨w.toNat, by omega⟩
      obtain ⟨e1, e2⟩ := p_ways (m := m) (a := a) (b := b) (by omega) (by omega)
      rw [if_pos e1, e2, c_wayBetween hw (by omega) (by omega)]
      exact eO.same hR _ rfl rfl
    · rw [if_neg q2]
      exact eO.same hR _ rfl rfl
  · rw [if_neg q]
    exact eO.same hR _ rfl rfl
theorem e_kept {l : List (Int × Int × Int)} {m : MM} {μ : gM} (h : rCo l m μ) (x y : Int32) : eO (mf_kept x y m) (cf_X0_kept x y μ) m μ := by
  have hR := h
  obtain ⟨h1, h2, h3, h4, h5, h6, h7, h8, h9, h10, h11, h12, h13⟩ := h
  obtain ⟨z, hz, rfl⟩ := iI_ex x
  obtain ⟨w, hw, rfl⟩ := iI_ex y
  obtain ⟨k1, k2, k3⟩ := h7
  obtain ⟨c1, c2, c3, c4⟩ := h8
  have g30 : gz_ix (30 : Int32) = 30 := by decide
  have e1 : ((m.1 1051 30) - (1 : Int32)).toInt64 = lL (l.length - 1) := by rw [mi_of, k2, iI_lit, iI_sub, i2l_iI (by omega)]
  have e2 : gI μ 1027 1 - (1 : Int32) = iI (l.length - 1) := by rw [ci_of, c2, iI_lit, iI_sub]
  have pI : mf_isIn (lL z) (0 : Int64) (lL ((l.length : Int) - 1)) m = some (if 0 ≤ z ∧ z ≤ (l.length : Int) - 1 then 1 else 0, m) := p_isIn m (by omega) (a := 0) (by omega) (by omega)
  have cI : cf_X0_is (iI z) (0 : Int32) (iI ((l.length : Int) - 1)) μ = some (if 0 ≤ z ∧ z ≤ (l.length : Int) - 1 then 1 else 0, μ) := p_is μ (by omega) (a := 0) (by omega) (by omega)
  have pJ : mf_isIn (lL w) (0 : Int64) (2 : Int64) m = some (if 0 ≤ w ∧ w ≤ 2 then 1 else 0, m) := p_isIn m (by omega) (a := 0) (b := 2) (by omega) (by omega)
  have cJ : cf_X0_is (iI w) (0 : Int32) (2 : Int32) μ = some (if 0 ≤ w ∧ w ≤ 2 then 1 else 0, μ) := p_is μ (by omega) (a := 0) (b := 2) (by omega) (by omega)
  unfold mf_kept cf_X0_kept mj_X6_kept_47 mj_X0_kept_40
  rw [if_pos (by decide), g30, e1, e2, i2l_iI hz, i2l_iI hw, pI, cI]
  simp only [Option.bind_some]
  by_cases q : 0 ≤ z ∧ z ≤ (l.length : Int) - 1
  · rw [if_pos q, if_neg n10, if_neg n10, pJ, cJ]
    simp only [Option.bind_some]
    by_cases q2 : 0 ≤ w ∧ w ≤ 2
    · rw [if_pos q2, if_neg n10, if_neg n10]
      obtain ⟨a, rfl⟩ : ∃ t : Nat, z = t := ⟨z.toNat, by omega⟩
      obtain ⟨b, rfl⟩ : ∃ t : Nat, w = t := ⟨w.toNat, by omega⟩
      have e3 : (31 : Int32) + (3 : Int32) * iI a + iI b = iI (31 + 3 * a + b) := by simp only [iI_lit, iI_mul, iI_add]
      have g3 : gz_ix (iI (31 + 3 * (a : Int) + b)) = 31 + 3 * a + b := by rw [gix (by omega)]; omega
      have ga : gz_ix (iI (a : Int)) = a := by rw [gix (by omega)]; omega
      have gb : gz_ix (iI (b : Int)) = b := by rw [gix (by omega)]; omega
      have hrow := (c3 a (by omega)).1
      have hk := st_row (x := 1027) (by decide) hrow.1 hrow.2
      have em := k3 a b (by omega) (by omega)
      have ec := c4 a b (by omega) (by omega)
      have hne : gP μ 1032 a ≠ 0 := by have := hrow.1; show gP μ (1027 + 5) a ≠ 0; omega
      rw [e3, if_pos ((gin_iI (by omega)).2 (by omega)), g3, mi_of m, em, if_pos ((gin_iI (by omega)).2 (by omega)), ga, gb]
      simp only [gz_let]
      rw [if_pos hne, if_pos hk, if_pos ((gin_iI (by omega)).2 (by omega))]
      refine eO.same hR _ rfl ?_
      rw [ci_of, ← ec]
    · rw [if_neg q2]
      exact eO.same hR _ rfl rfl
  · rw [if_neg q]
    exact eO.same hR _ rfl rfl
