/-! ===== later, dies ===== -/
theorem sE.hours {a b : MM} (h : sE a b) (hm : rMany a) : ∀ n : Nat, sE (hoursS n a) (hoursS n b)
  | 0 => h
  | n + 1 => (h.hours hm n).hour ((hoursS_hh a n).many hm)
theorem e_later {l : List (Int × Int × Int)} {m : MM} {μ : gM} (h : rCo l m μ) (x y : Int32) : eO (mf_later x y m) (cf_X0_later x y μ) m μ := by
  have hR := h
  obtain ⟨h1, h2, h3, h4, h5, h6, h7, h8, h9, h10, h11, h12, h13⟩ := h
  obtain ⟨z, hz, rfl⟩ := iI_ex x
  obtain ⟨w, hw, rfl⟩ := iI_ex y
  have b1 := h2.1.2.1
  have hN0 := h5.1
  have no : ∀ o : Option (Int32 × MM), ∀ o' : Option (Int32 × gM), o = some (-1, m) → o' = some (-1, μ) → eO o o' m μ := fun o o' e e' => ⟨-1, m, μ, e, e', mSc.refl h5, cSc.refl μ, h9⟩
  have pA : mf_isAhead (iI w) (0 : Int32) (60 : Int32) m = some (if (0 ≤ w ∧ w ≤ 60) ∧ mi m 1051 0 + w ≤ 999 then 1 else 0, m) := p_isAhead h5 hw (a := 0) (b := 60) (by omega) (by omega)
  have cA : cf_X0_isAhead (iI w) (0 : Int32) (60 : Int32) μ = some (if (0 ≤ w ∧ w ≤ 60) ∧ mi m 1051 0 + w ≤ 999 then 1 else 0, μ) := c_isAhead h5 h6.1 hw (a := 0) (b := 60) (by omega) (by omega)
  by_cases q : 0 ≤ z ∧ z < mi m 1038 7
  · by_cases q2 : (0 ≤ w ∧ w ≤ 60) ∧ mi m 1051 0 + w ≤ 999
    · have ez : z = ((z.toNat : Nat) : Int) := by omega
      have ew : w = ((w.toNat : Nat) : Int) := by omega
      refine eO.of (iI (mi (hoursS w.toNat m) 1051 (14 + 2 * z.toNat))) ?_ ?_
      · unfold mf_later
        rw [i2l_iI hz, p_isThing h2.1 hz, if_pos q]
        refine pw_bind (pw_some ?_)
        dsimp only
        refine pw_f (by decide) ?_
        rw [pA, if_pos q2]
        refine pw_bind (pw_some ?_)
        dsimp only
        refine pw_f (by decide) ?_
        refine pw_bind (pw_mono (tk.aside h5) ?_)
        rintro ⟨u, a⟩ ⟨t1, t2⟩
        dsimp only at t1 t2 ⊢
        rw [ew]
        refine pw_bind (pw_mono (p_hours (t2.many h2.1) (t2.oN h5) (t2.cO h4) (t1.kp h7) (n := w.toNat) (by rw [t2.n (by omega)]; omega)) ?_)
        rintro ⟨u2, b⟩ ⟨c1, c2, c3, c4, c5⟩
        dsimp only at c1 c2 c3 c4 c5 ⊢
        have hs := (t2.hours h2.1 w.toNat).trans c1
        rw [ez, p_strengthOf (by omega), hs.n (by omega)]
        refine pw_bind (pw_some ?_)
        dsimp only
        refine pw_bind (pw_mono ((t1.hE c2 (c5 t1.2.2.2.1)).back h12 h13) ?_)
        rintro ⟨u3, e⟩ hsc
        exact pw_some ⟨rfl, hsc⟩
      · unfold cf_X0_later
        rw [c_isThing h2 hz, if_pos q]
        refine pw_bind (pw_some ?_)
        dsimp only
        refine pw_f (by decide) ?_
        rw [cA, if_pos q2]
        refine pw_bind (pw_some ?_)
        dsimp only
        refine pw_f (by decide) ?_
        refine pw_bind (pw_mono (c_tries hR) ?_)
        rintro ⟨r, μ1⟩ ⟨rfl, t2, t3, t4⟩
        dsimp only at t2 t3 t4 ⊢
        have hP : gP μ1 1000 0 = gP μ 1000 0 := t2.2.2.2.2.2 _ _ (by omega)
        refine pw_gu (by decide) ?_
        rw [ew]
        refine pw_bind (pw_mono (c_goesBy (x := 1073) (by decide) (t2.lay h1) h5 (h2.mv (hhE.refl m) t2.dy hP) (h3.mv h2 (hhE.refl m) t2.dy hP) t3 t4 (n := w.toNat) (by omega)) ?_)
        rintro ⟨r2, μ2⟩ ⟨c1, c2, c3, c4⟩
        dsimp only at c1 c2 c3 c4 ⊢
        refine pw_gu ((gin_iI hz).2 (by omega)) (pw_some ⟨?_, t2.trans (cSc.c c4), c3.2.2.1⟩)
        dsimp only
        rw [gix hz]
        have := (c2.2.2.2.2 z.toNat (by rw [(hoursS_hh m w.toNat).at (by omega)]; omega)).1
        rw [this]
        exact mi_of _ _ _
    · apply no
      · unfold mf_later mj_X6_later_20
        rw [i2l_iI hz, p_isThing h2.1 hz, if_pos q]
        simp only [Option.bind_some]
        rw [if_neg (by decide), pA, if_neg q2]
        simp only [Option.bind_some, if_true]
      · unfold cf_X0_later mj_X0_later_19
        rw [c_isThing h2 hz, if_pos q]
        simp only [Option.bind_some]
        rw [if_neg (by decide), cA, if_neg q2]
        simp only [Option.bind_some, if_true]
  · apply no
    · unfold mf_later mj_X6_later_20
      rw [i2l_iI hz, p_isThing h2.1 hz, if_neg q]
      simp only [Option.bind_some, if_true]
    · unfold cf_X0_later mj_X0_later_19
      rw [c_isThing h2 hz, if_neg q]
      simp only [Option.bind_some, if_true]
/-- behind how many hours a thing is out, looked at from hour i on, for k hours more -/
def dieS (m : MM) (t : Nat) : Nat → Nat → Int
  | 0, i => if mi (hoursS i m) 1051 (14 + 2 * t) ≤ 0 then i else -1
  | k + 1, i => if mi (hoursS i m) 1051 (14 + 2 * t) ≤ 0 then i else dieS m t k (i + 1)
theorem dieS_y {m : MM} {t k i : Nat} (h : mi (hoursS i m) 1051 (14 + 2 * t) ≤ 0) : dieS m t k i = i := by
  cases k with
  | zero => exact if_pos h
  | succ k => exact if_pos h
theorem dieS_n {m : MM} {t k i : Nat} (h : ¬ mi (hoursS i m) 1051 (14 + 2 * t) ≤ 0) : dieS m t (k + 1) i = dieS m t k (i + 1) := if_neg h
theorem dieS_0 {m : MM} {t i : Nat} (h : ¬ mi (hoursS i m) 1051 (14 + 2 * t) ≤ 0) : dieS m t 0 i = -1 := if_neg h
theorem p_burn {m a : MM} (hs : sE m a) {t : Nat} (ht : t < 8) : mf_doesBurn (iI t) a = some (if 0 < mi m 1051 (14 + 2 * t) then 1 else 0, a) := by
  rw [p_doesBurn ht, hs.n (by omega)]
theorem p_dies {l : List (Int × Int × Int)} {m : MM} (h2 : rMany m) (h4 : cOK m) (h5 : okN m) (h7 : kpM l m) (h10 : mi m 1051 0 ≤ 999) (h12 : m.1 2000 52 = -1) (h13 : m.1 2000 56 = 0) {t : Nat} (ht : (t : Int) < mi m 1038 7) {N : Nat} (hN : N ≤ 60 ∧ mi m 1051 0 + N ≤ 999 ∧ (N = 60 ∨ mi m 1051 0 + N = 999)) : pw (mf_dies (iI t) m) (fun q => q.1 = iI (dieS m t N 0) ∧ mSc m q.2) := by
  have b1 := h2.2.1
  have hN0 := h5.1
  have g0 : gz_ix (0 : Int32) = 0 := by decide
  unfold mf_dies
  rw [i2l_iI (by omega), p_isThing h2 (by omega), if_pos (by omega)]
  refine pw_bind (pw_some ?_)
  dsimp only
  refine pw_f (by decide) ?_
  refine pw_bind (pw_mono (tk.aside h5) ?_)
  rintro ⟨u, a⟩ ⟨t1, t2⟩
  dsimp only at t1 t2 ⊢
  unfold ml_X6_dies_17
  refine pw_for (fun (i : Nat) (q : Int32 × Int32 × MM) => q.1 = iI t ∧ q.2.1 = iI i ∧ tk m q.2.2 ∧ sE (hoursS i m) q.2.2 ∧ dieS m t (N - i) i = dieS m t N 0) N ?_ ?_ ⟨rfl, rfl, t1, t2, rfl⟩
  · rintro i ⟨y1, y2, a'⟩ hi ⟨rfl, rfl, a1, a2, a3⟩
    dsimp only at a1 a2 a3 ⊢
    have hh := hoursS_hh m i
    obtain ⟨o1, o2⟩ := hoursS_ok h5 h2 i (by omega)
    unfold mb_X6_dies_17 mj_X6_dies_53 mj_X6_dies_66
    rw [p_burn a2 (by omega)]
    refine pw_bind (pw_some ?_)
    dsimp only
    by_cases q : 0 < mi (hoursS i m) 1051 (14 + 2 * t)
    · rw [if_pos q]
      refine pw_f (by decide) (pw_f (by rw [iI_lit, iI_le (by omega) (by omega)]; omega) (pw_gu (by decide) ?_))
      rw [g0, mi_of a', a2.n (by omega), o2]
      refine pw_f (by rw [iI_lit, iI_le (by omega) (by omega)]; omega) ?_
      refine pw_bind (pw_mono (p_hour (a2.many (hh.many h2)) (a2.oN o1) (a2.cO (hh.cO h4)) (a1.kp h7)) ?_)
      rintro ⟨u2, b⟩ ⟨c1, c2, c3, c4, c5⟩
      dsimp only at c1 c2 c3 c4 c5 ⊢
      refine pw_let (pw_some ⟨rfl, ?_, a1.hE c2 (c5 a1.2.2.2.1), (a2.hour (hh.many h2)).trans c1, ?_⟩)
      · dsimp only
        rw [iI_lit, iI_add]
        rfl
      · rw [← a3, show N - i = (N - (i + 1)) + 1 by omega, dieS_n (by omega)]
    · rw [if_neg q]
      refine pw_t rfl (pw_map ?_)
      rw [p_burn a2 (by omega), if_neg q]
      refine pw_bind (pw_some ?_)
      dsimp only
      refine pw_t rfl ?_
      refine pw_bind (pw_mono (a1.back h12 h13) ?_)
      rintro ⟨u3, e⟩ hsc
      dsimp only
      refine pw_f (by decide) (pw_some ⟨?_, hsc⟩)
      dsimp only
      rw [← a3, dieS_y (by omega)]
  · rintro ⟨y1, y2, a'⟩ ⟨rfl, rfl, a1, a2, a3⟩
    dsimp only at a1 a2 a3 ⊢
    obtain ⟨o1, o2⟩ := hoursS_ok h5 h2 N (by omega)
    unfold mb_X6_dies_17 mj_X6_dies_53 mj_X6_dies_66
    rw [p_burn a2 (by omega)]
    refine pw_bind (pw_some ?_)
    dsimp only
    by_cases q : 0 < mi (hoursS N m) 1051 (14 + 2 * t)
    · rw [if_pos q]
      refine pw_f (by decide) ?_
      have fin : pw (((if 0 < mi (hoursS N m) 1051 (14 + 2 * t) then some ((1 : Int32), a') else some ((0 : Int32), a')).bind fun (r1, m2) => if r1 = (0 : Int32) then ((mf_takesBack m2).bind fun (_, m3) => if (1 : Int32) = (0 : Int32) then some ((-1 : Int32), m3) else some (iI N, m3)) else ((mf_takesBack m2).bind fun (_, m3) => if (0 : Int32) = (0 : Int32) then some ((-1 : Int32), m3) else some (iI N, m3)))) (fun q => q.1 = iI (dieS m t N 0) ∧ mSc m q.2) := by
        rw [if_pos q]
        refine pw_bind (pw_some ?_)
        dsimp only
        refine pw_f (by decide) ?_
        refine pw_bind (pw_mono (a1.back h12 h13) ?_)
        rintro ⟨u3, e⟩ hsc
        dsimp only
        refine pw_t rfl (pw_some ⟨?_, hsc⟩)
        dsimp only
        rw [← a3, Nat.sub_self, dieS_0 (by omega)]
        rfl
      have e2 : mf_doesBurn (iI t) a' = (if 0 < mi (hoursS N m) 1051 (14 + 2 * t) then some ((1 : Int32), a') else some ((0 : Int32), a')) := by
        rw [p_burn a2 (by omega)]
        split <;> rfl
      rw [e2]
      rcases hN.2.2 with z | z
      · exact pw_t (by rw [iI_lit, iI_le (by omega) (by omega)]; omega) (pw_map fin)
      · by_cases z6 : N = 60
        · exact pw_t (by rw [iI_lit, iI_le (by omega) (by omega)]; omega) (pw_map fin)
        · refine pw_f (by rw [iI_lit, iI_le (by omega) (by omega)]; omega) (pw_gu (by decide) ?_)
          rw [g0, mi_of a', a2.n (by omega), o2]
          exact pw_t (by rw [iI_lit, iI_le (by omega) (by omega)]; omega) (pw_map fin)
    · rw [if_neg q]
      refine pw_t rfl (pw_map ?_)
      rw [p_burn a2 (by omega), if_neg q]
      refine pw_bind (pw_some ?_)
      dsimp only
      refine pw_t rfl ?_
      refine pw_bind (pw_mono (a1.back h12 h13) ?_)
      rintro ⟨u3, e⟩ hsc
      dsimp only
      refine pw_f (by decide) (pw_some ⟨?_, hsc⟩)
      dsimp only
      rw [← a3, dieS_y (by omega)]
theorem c_dies {l : List (Int × Int × Int)} {m : MM} {μ : gM} (h : rCo l m μ) {t : Nat} (ht : (t : Int) < mi m 1038 7) {N : Nat} (hN : N ≤ 60 ∧ mi m 1051 0 + N ≤ 999 ∧ (N = 60 ∨ mi m 1051 0 + N = 999)) : pw (cf_X0_dies (iI t) μ) (fun q => q.1 = iI (dieS m t N 0) ∧ cSc μ q.2 ∧ rowOK q.2 1073) := by
  have hR := h
  obtain ⟨h1, h2, h3, h4, h5, h6, h7, h8, h9, h10, h11, h12, h13⟩ := h
  have b1 := h2.1.2.1
  have hN0 := h5.1
  have cA : ∀ (μ' : gM) (i : Nat), gI μ' 1027 0 = m.1 1051 0 → i ≤ 100 → cf_X0_isAhead (iI i) (0 : Int32) (60 : Int32) μ' = some (if (0 ≤ (i : Int) ∧ (i : Int) ≤ 60) ∧ mi m 1051 0 + i ≤ 999 then 1 else 0, μ') := fun μ' i e hi => c_isAhead h5 e (a := 0) (b := 60) (by omega) (by omega) (by omega)
  unfold cf_X0_dies
  rw [c_isThing h2 (by omega), if_pos (by omega)]
  refine pw_bind (pw_some ?_)
  dsimp only
  refine pw_f (by decide) ?_
  refine pw_bind (pw_mono (c_tries hR) ?_)
  rintro ⟨r, μ1⟩ ⟨rfl, t2, t3, t4⟩
  dsimp only at t2 t3 t4 ⊢
  refine pw_gu (by decide) ?_
  unfold ml_X0_dies_24
  refine pw_for (fun (i : Nat) (q : Int32 × Int32 × gM) => q.1 = iI t ∧ q.2.1 = iI i ∧ cSc μ q.2.2 ∧ rSt (hoursS i m) q.2.2 1073 ∧ kC (kN m l i) q.2.2 1073 ∧ (i ≤ N → dieS m t (N - i) i = dieS m t N 0) ∧ (i = N + 1 → dieS m t N 0 = -1)) (N + 1) ?_ ?_ ⟨rfl, rfl, t2, t3, t4, fun _ => rfl, fun z => by omega⟩
  · rintro i ⟨y1, y2, μ'⟩ hi ⟨rfl, rfl, a1, a2, a3, a4, a5⟩
    dsimp only at a1 a2 a3 a4 a5 ⊢
    have hh := hoursS_hh m i
    obtain ⟨o1, o2⟩ := hoursS_ok h5 h2.1 i (by omega)
    have hP : gP μ' 1000 0 = gP μ 1000 0 := a1.2.2.2.2.2 _ _ (by omega)
    have h27 : gI μ' 1027 0 = m.1 1051 0 := by rw [a1.2.2.2.1 _ _ (by unfold scC; omega)]; exact h6.1
    unfold mb_X0_dies_24
    rw [cA μ' i h27 (by omega), if_pos (by omega)]
    refine pw_bind (pw_some ?_)
    dsimp only
    refine pw_f (by decide) ?_
    rw [c_isLit (m := hoursS i m) (by omega) (a2.2.2.2.2 t (by rw [hh.at (by omega)]; exact ht)).1]
    refine pw_bind (pw_some ?_)
    dsimp only
    by_cases q : 0 < mi (hoursS i m) 1051 (14 + 2 * t)
    · rw [if_pos q]
      refine pw_f (by decide) ?_
      refine pw_bind (pw_mono (c_goes (x := 1073) (by decide) (a1.lay h1) o1 (h2.mv hh a1.dy hP) (h3.mv h2 hh a1.dy hP) a2 a3) ?_)
      rintro ⟨r2, μ2⟩ ⟨c1, c2, c3, c4⟩
      dsimp only at c1 c2 c3 c4 ⊢
      rw [hh.nTh] at c3
      refine pw_let (pw_some ⟨rfl, ?_, a1.trans (cSc.c c4), c2, c3, fun z => ?_, fun z => ?_⟩)
      · dsimp only
        rw [iI_lit, iI_add]
        rfl
      · rw [← a4 (by omega), show N - i = (N - (i + 1)) + 1 by omega, dieS_n (by omega)]
      · rw [← a4 (by omega), show N - i = 0 by omega, dieS_0 (by omega)]
    · rw [if_neg q]
      refine pw_t rfl (pw_some ⟨?_, a1, a3.2.2.1⟩)
      dsimp only
      rw [← a4 (by omega), dieS_y (by omega)]
  · rintro ⟨y1, y2, μ'⟩ ⟨rfl, rfl, a1, a2, a3, a4, a5⟩
    dsimp only at a1 a2 a3 a4 a5 ⊢
    have h27 : gI μ' 1027 0 = m.1 1051 0 := by rw [a1.2.2.2.1 _ _ (by unfold scC; omega)]; exact h6.1
    unfold mb_X0_dies_24
    rw [cA μ' (N + 1) h27 (by omega), if_neg (by omega)]
    refine pw_bind (pw_some ?_)
    dsimp only
    refine pw_t rfl (pw_some ⟨?_, a1, a3.2.2.1⟩)
    dsimp only
    rw [a5 rfl]
    rfl
theorem e_dies {l : List (Int × Int × Int)} {m : MM} {μ : gM} (h : rCo l m μ) (x : Int32) : eO (mf_dies x m) (cf_X0_dies x μ) m μ := by
  have hR := h
  obtain ⟨h1, h2, h3, h4, h5, h6, h7, h8, h9, h10, h11, h12, h13⟩ := h
  obtain ⟨z, hz, rfl⟩ := iI_ex x
  have b1 := h2.1.2.1
  have hN0 := h5.1
  by_cases q : 0 ≤ z ∧ z < mi m 1038 7
  · have ez : z = ((z.toNat : Nat) : Int) := by omega
    rw [ez]
    have hN : ∃ N : Nat, N ≤ 60 ∧ mi m 1051 0 + N ≤ 999 ∧ (N = 60 ∨ mi m 1051 0 + N = 999) := by
      by_cases q2 : mi m 1051 0 + 60 ≤ 999
      · exact ⟨60, by omega, by omega, Or.inl rfl⟩
      · exact ⟨(999 - mi m 1051 0).toNat, by omega, by omega, by omega⟩
    obtain ⟨N, hN⟩ := hN
    exact eO.of _ (p_dies h2.1 h4 h5 h7 h10 h12 h13 (by omega) hN) (c_dies hR (by omega) hN)
  · refine ⟨-1, m, μ, ?_, ?_, mSc.refl h5, cSc.refl μ, h9⟩
    · unfold mf_dies
      rw [i2l_iI hz, p_isThing h2.1 hz, if_neg q]
      simp only [Option.bind_some, if_true]
    · unfold cf_X0_dies
      rw [c_isThing h2 hz, if_neg q]
      simp only [Option.bind_some, if_true]
