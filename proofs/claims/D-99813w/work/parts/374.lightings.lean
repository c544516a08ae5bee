/-! ===== behind how many lightings one burns ===== -/
def lgS (m : MM) : Nat → Int32
  | 0 => litS m
  | i + 1 => nxS m (lgS m i)
theorem nxS_8 {m : MM} (h8 : things m ≤ 8) {s : Int32} (hs : s8 s) : s8 (nxS m s) ∧ ∀ i, i < 8 → bt s i = true → bt (nxS m s) i = true := by
  constructor
  · intro k h1 h2
    unfold nxS
    rw [nxO_bt m s h2 _ h8, hs k h1 h2, decide_eq_false (by omega)]
    rfl
  · intro k h1 h2
    unfold nxS
    rw [nxO_bt m s (by omega) _ h8, h2]
    rfl
theorem lgS_8 {m : MM} (hm : rMany m) : ∀ i : Nat, s8 (lgS m i)
  | 0 => litS_8 hm
  | i + 1 => (nxS_8 (by have := hm.2.1; unfold things; omega) (lgS_8 hm i)).1
theorem lgS_st {m : MM} {i : Nat} (h : nxS m (lgS m i) = lgS m i) : ∀ j : Nat, lgS m (i + j) = lgS m i
  | 0 => rfl
  | j + 1 => by
    show nxS m (lgS m (i + j)) = _
    rw [lgS_st h j, h]
/-- what both tell -/
def lgR (m : MM) (t : Nat) (r : Int32) : Prop := (∃ i : Nat, i ≤ 8 ∧ bt (lgS m i) t = true ∧ (∀ j : Nat, j < i → bt (lgS m j) t = false) ∧ r = iI i) ∨ ((∀ i : Nat, i ≤ 8 → bt (lgS m i) t = false) ∧ r = -1)
theorem lgR_one {m : MM} {t : Nat} {r r' : Int32} (h : lgR m t r) (h' : lgR m t r') : r = r' := by
  rcases h with ⟨i, a1, a2, a3, a4⟩ | ⟨a1, a2⟩
  · rcases h' with ⟨j, b1, b2, b3, b4⟩ | ⟨b1, b2⟩
    · have : i = j := by
        by_cases q : i < j
        · rw [b3 i q] at a2
          cases a2
        · by_cases q2 : j < i
          · rw [a3 j q2] at b2
            cases b2
          · omega
      rw [a4, b4, this]
    · rw [b1 i a1] at a2
      cases a2
  · rcases h' with ⟨j, b1, b2, b3, b4⟩ | ⟨b1, b2⟩
    · rw [a1 j b1] at b2
      cases b2
    · rw [a2, b2]
theorem bt0 {s : Int32} {k : Nat} (h : ¬ bt s k = true) : bt s k = false := by
  cases q : bt s k
  · rfl
  · exact absurd q h
theorem has_bt0 (s : Int32) {k : Nat} (hk : k < 32) : (((s >>> (iI k &&& 31)) &&& (1 : Int32)) = (0 : Int32)) ↔ bt s k = false := by
  have h01 : ((s >>> (iI k &&& 31)) &&& (1 : Int32)) = 0 ∨ ((s >>> (iI k &&& 31)) &&& (1 : Int32)) = 1 := by
    generalize s >>> (iI k &&& 31) = z
    by_cases q : bt z 0 = true
    · refine Or.inr (b_ext fun i hi => ?_)
      rw [b_and, bt_1 i hi]
      by_cases w : i = 0
      · subst w; rw [q]; rfl
      · rw [decide_eq_false w, Bool.and_false]
    · refine Or.inl (b_ext fun i hi => ?_)
      rw [b_and, bt_1 i hi, b_0]
      by_cases w : i = 0
      · subst w; rw [bt0 q]; rfl
      · rw [decide_eq_false w, Bool.and_false]
  constructor
  · intro e
    refine bt0 (fun q => ?_)
    rw [(has_bt s hk).2 q] at e
    exact absurd e (by decide)
  · intro e
    rcases h01 with z | z
    · exact z
    · rw [(has_bt s hk).1 z] at e
      cases e
theorem p_lightings {m : MM} (hm : rMany m) (hT : tieOK m) {t : Nat} (ht : (t : Int) < mi m 1038 7) : pw (mf_lightings (iI t) m) (fun q => lgR m t q.1 ∧ q.2 = m) := by
  have hb := hm.2.1
  have h8 : things m ≤ 8 := by unfold things; omega
  unfold mf_lightings
  rw [i2l_iI (by omega), p_isThing hm (by omega), if_pos (by omega)]
  refine pw_bind (pw_some ?_)
  dsimp only
  refine pw_f n10 ?_
  rw [p_burningSet hm]
  refine pw_bind (pw_some ?_)
  dsimp only
  unfold ml_X6_lightings_18
  refine pw_loop (fun q : Int32 × Int32 × Int32 × MM => ∃ i : Nat, q = (iI t, lgS m i, iI i, m) ∧ (∀ j : Nat, j < i → bt (lgS m j) t = false) ∧ czf (lgS m i) 8 + i ≤ 8) (fun q => czf q.2.1 8) ?_ ⟨0, rfl, fun j hj => absurd hj (Nat.not_lt_zero _), czf_8 _⟩
  rintro q ⟨i, rfl, a1, a2⟩
  dsimp only
  have e1 : iI (i : Int) + (1 : Int32) = iI ((i + 1 : Nat) : Int) := by rw [iI_lit, iI_add]; rfl
  unfold mb_X6_lightings_18
  by_cases q : bt (lgS m i) t = true
  · refine pw_f (fun z => ?_) (pw_some ⟨Or.inl ⟨i, by omega, q, a1, rfl⟩, rfl⟩)
    rw [(has_bt0 _ (by omega)).1 z] at q
    cases q
  · refine pw_t ((has_bt0 _ (by omega)).2 (bt0 q)) ?_
    rw [p_nextTo hm hT]
    refine pw_bind (pw_some ?_)
    dsimp only
    have n8 := nxS_8 h8 (lgS_8 hm i)
    by_cases q2 : nxS m (lgS m i) = lgS m i
    · refine pw_t q2 (pw_some ⟨Or.inr ⟨fun j hj => ?_, rfl⟩, rfl⟩)
      by_cases w : j < i
      · exact a1 j w
      · have := lgS_st q2 (j - i)
        rw [show i + (j - i) = j by omega] at this
        rw [this]
        exact bt0 q
    · have hc := czf_gr (lgS_8 hm i) n8.1 n8.2 q2
      refine pw_f q2 (pw_let (pw_some ⟨⟨i + 1, ?_, fun j hj => ?_, ?_⟩, hc⟩))
      · rw [e1]
        rfl
      · by_cases w : j < i
        · exact a1 j w
        · rw [show j = i by omega]
          exact bt0 q
      · show czf (nxS m (lgS m i)) 8 + (i + 1) ≤ 8
        omega
theorem c_lightings {m : MM} {μ : gM} (h : rHH m μ) (h6 : rSt m μ 1027) {t : Nat} (ht : (t : Int) < mi m 1038 7) : pw (cf_X0_lightings (iI t) μ) (fun q => lgR m t q.1 ∧ q.2 = μ) := by
  have hb := h.1.2.1
  unfold cf_X0_lightings
  rw [c_isThing h (by omega), if_pos (by omega)]
  refine pw_bind (pw_some ?_)
  dsimp only
  refine pw_f n10 ?_
  rw [c_lit h (fun t ht => (h6.2.2.2.2 t ht).1)]
  refine pw_bind (pw_some ?_)
  dsimp only
  unfold ml_X0_lightings_20
  refine pw_for (fun (i : Nat) (q : Int32 × Int32 × Int32 × gM) => q = (iI t, lgS m i, iI i, μ) ∧ ∀ j : Nat, j < i → bt (lgS m j) t = false) 9 ?_ ?_ ⟨rfl, fun j hj => absurd hj (Nat.not_lt_zero _)⟩
  · rintro i q hi ⟨rfl, a1⟩
    dsimp only
    have e1 : iI (i : Int) + (1 : Int32) = iI ((i + 1 : Nat) : Int) := by rw [iI_lit, iI_add]; rfl
    unfold mb_X0_lightings_20
    refine pw_f (by rw [iI_lit, iI_lt (by omega) (by omega)]; omega) ?_
    rw [c_has _ _ (by omega)]
    refine pw_bind (pw_some ?_)
    dsimp only
    by_cases q : bt (lgS m i) t = true
    · rw [if_pos q]
      exact pw_f n10 (pw_some ⟨Or.inl ⟨i, by omega, q, a1, rfl⟩, rfl⟩)
    · rw [if_neg q]
      refine pw_t rfl ?_
      rw [c_more h h6.2.2.1]
      refine pw_some ⟨?_, fun j hj => ?_⟩
      · rw [e1]
        rfl
      · by_cases w : j < i
        · exact a1 j w
        · rw [show j = i by omega]
          exact bt0 q
  · rintro q ⟨rfl, a1⟩
    dsimp only
    unfold mb_X0_lightings_20
    exact pw_t (by rw [iI_lit, iI_lt (by omega) (by omega)]; omega) (pw_some ⟨Or.inr ⟨fun i hi => a1 i (by omega), rfl⟩, rfl⟩)
theorem e_lightings {l : List (Int × Int × Int)} {m : MM} {μ : gM} (h : rCo l m μ) (x : Int32) : eO (mf_lightings x m) (cf_X0_lightings x μ) m μ := by
  have hR := h
  obtain ⟨h1, h2, h3, h4, h5, h6, h7, h8, h9, h10, h11, h12, h13⟩ := h
  obtain ⟨z, hz, rfl⟩ := iI_ex x
  by_cases q : 0 ≤ z ∧ z < mi m 1038 7
  · obtain ⟨t, rfl⟩ : ∃ t : Nat, z = t := ⟨z.toNat, by omega⟩
    obtain ⟨⟨r, m'⟩, e1, a1, a2⟩ := p_lightings h2.1 (tieOK.of h2) q.2
    obtain ⟨⟨r', μ'⟩, e2, b1, b2⟩ := c_lightings h2 h6 q.2
    dsimp only at a1 a2 b1 b2
    subst a2; subst b2
    have := lgR_one a1 b1
    subst this
    exact eO.same hR _ e1 e2
  · refine eO.same hR (-1) ?_ ?_
    · unfold mf_lightings
      rw [i2l_iI hz, p_isThing h2.1 hz, if_neg q]
      simp only [Option.bind_some, if_true]
    · unfold cf_X0_lightings
      rw [c_isThing h2 hz, if_neg q]
      simp only [Option.bind_some, if_true]
