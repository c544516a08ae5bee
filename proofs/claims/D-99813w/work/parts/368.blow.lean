/-! ===== draughts ===== -/
def lowM (m : MM) (t : Nat) : MM := (fun c j => if c = 1051 ∧ j = 14 + 2 * t then iI (mi m 1051 (14 + 2 * t) - 10) else m.1 c j, m.2)
theorem lowM_at (m : MM) (t c j : Nat) : (lowM m t).1 c j = if c = 1051 ∧ j = 14 + 2 * t then iI (mi m 1051 (14 + 2 * t) - 10) else m.1 c j := rfl
theorem lowM_o (m : MM) {t c j : Nat} (h : ¬ (c = 1051 ∧ j = 14 + 2 * t)) : mi (lowM m t) c j = mi m c j := congrArg Int32.toInt (if_neg h)
theorem lowM_z {m : MM} (h : okN m) {t : Nat} (ht : t < 8) : mi (lowM m t) 1051 (14 + 2 * t) = mi m 1051 (14 + 2 * t) - 10 := by
  have := (h.2.1 t ht).1
  show Int32.toInt (if (1051 : Nat) = 1051 ∧ 14 + 2 * t = 14 + 2 * t then _ else _) = _
  rw [if_pos ⟨rfl, rfl⟩]
  exact toInt_iI (by omega) (by omega)
def blowM (m : MM) (t : Nat) : MM := if mi m 1051 (14 + 2 * t) ≤ 0 then m else if mi m 1051 (14 + 2 * t) ≤ 10 then offM m t else lowM m t
def blowK (m : MM) (l : List (Int × Int × Int)) (t : Nat) : List (Int × Int × Int) := if mi m 1051 (14 + 2 * t) ≤ 0 then l else if mi m 1051 (14 + 2 * t) ≤ 10 then keepS l (mi m 1051 0, t, 3) else l
theorem lowM_hh (m : MM) (t : Nat) : hhE m (lowM m t) := fun c j k => if_neg (by omega)
theorem blowM_hh (m : MM) (t : Nat) : hhE m (blowM m t) := by
  unfold blowM
  split
  · exact hhE.refl m
  · split
    · exact offM_hh m t
    · exact lowM_hh m t
theorem blowM_lo (m : MM) (t : Nat) {j : Nat} (hj : j < 14) : mi (blowM m t) 1051 j = mi m 1051 j := by
  unfold blowM
  split
  · rfl
  · split
    · exact offM_o m (by omega)
    · exact lowM_o m (by omega)
theorem okN.blow {m : MM} (h : okN m) {t : Nat} (ht : t < 8) : okN (blowM m t) := by
  unfold blowM
  split
  · exact h
  · split
    · exact h.off t
    · rename_i q1 q2
      have hz := lowM_z h ht
      obtain ⟨h1, h2, h3, h4⟩ := h
      refine ⟨by rw [lowM_o m (by omega)]; exact h1, fun s hs => ?_, by rw [lowM_o m (by omega)]; exact h3, fun s hs => ?_⟩
      · by_cases q : s = t
        · subst q
          have := h2 s hs
          rw [hz, lowM_o m (by omega)]
          omega
        · rw [lowM_o m (by omega), lowM_o m (by omega)]
          exact h2 s hs
      · rw [lowM_o m (by omega)] at hs
        rw [lowM_o m (by omega), lowM_o m (by omega)]
        exact h4 s hs
theorem p_blow {m a : MM} (hs : sE m a) (hN : okN m) {l : List (Int × Int × Int)} (hk : kpM l a) {t : Nat} (ht : t < 8) : pw (mf_draughtOn (iI t) a) (fun q => sE (blowM m t) q.2 ∧ hE a q.2 ∧ kpM (thM a l (blowK m l t)) q.2 ∧ (a.1 2000 56 ≠ 0 → ∀ j : Nat, 30 ≤ j → q.2.1 1051 j = a.1 1051 j)) := by
  have hst := (hN.2.1 t ht).1
  have e14 : (14 : Int32) + (2 : Int32) * iI t = iI (14 + 2 * t) := by simp only [iI_lit, iI_mul, iI_add]
  have g14 : gz_ix (iI (14 + 2 * (t : Int))) = 14 + 2 * t := by rw [gix (by omega)]; omega
  have thl : thM a l l = l := by unfold thM; split <;> rfl
  unfold mf_draughtOn
  rw [p_burn hs ht]
  refine pw_bind (pw_some ?_)
  dsimp only
  by_cases q : 0 < mi m 1051 (14 + 2 * t)
  · rw [if_pos q]
    refine pw_f n10 ?_
    rw [p_strengthOf ht, hs.n (by omega)]
    refine pw_bind (pw_some ?_)
    dsimp only
    by_cases q2 : 10 < mi m 1051 (14 + 2 * t)
    · refine pw_t (by rw [iI_lit, iI_lt (by omega) (by omega)]; exact q2) ?_
      have i14 : gz_in (iI (14 + 2 * (t : Int))) 151 := (gin_iI (by omega)).2 (by omega)
      simp only [e14, g14, gz_let]
      refine pw_gu i14 (pw_gu i14 (pw_some ?_))
      have ev : a.1 1051 (14 + 2 * t) - (10 : Int32) = iI (mi m 1051 (14 + 2 * t) - 10) := by rw [mi_of a, hs.n (by omega), iI_lit, iI_sub]
      rw [ev]
      unfold blowM blowK
      rw [if_neg (by omega), if_neg (by omega), if_neg (by omega), if_neg (by omega), thl]
      refine ⟨fun c j k => ?_, ⟨fun c j k => by rw [msI_i, if_neg (by omega)], fun _ _ _ => rfl⟩, hk.sc (fun j hj => by rw [msI_i, if_neg (by omega)]), fun _ j hj => by rw [msI_i, if_neg (by omega)]⟩
      rw [msI_i, lowM_at]
      by_cases z : c = 1051 ∧ j = 14 + 2 * t
      · rw [if_pos z, if_pos z]
      · rw [if_neg z, if_neg z]
        exact hs c j k
    · refine pw_f (by rw [iI_lit, iI_lt (by omega) (by omega)]; exact q2) ?_
      have p1 : pw (mf_goesOut (iI t) (3 : Int32) a) _ := p_out hs hk (t := t) (how := 3) ht (by omega)
      refine pw_bind (pw_mono p1 ?_)
      rintro ⟨u, b⟩ ⟨a1, a2, a3, a4⟩
      refine pw_some ?_
      unfold blowM blowK
      rw [if_neg (by omega), if_pos (by omega), if_neg (by omega), if_pos (by omega)]
      exact ⟨a1, a2, a3, a4⟩
  · rw [if_neg q]
    refine pw_t rfl (pw_some ?_)
    unfold blowM blowK
    rw [if_pos (by omega), if_pos (by omega), thl]
    exact ⟨hs, hE.refl _, hk, fun _ _ _ => rfl⟩
theorem c_blow {m : MM} {μ : gM} {x : Nat} (hx : cSt x = true) (hm : rMany m) (hN : okN m) (h6 : rSt m μ x) {l : List (Int × Int × Int)} (hk : kC l μ x) {t : Nat} (ht : (t : Int) < mi m 1038 7) : pw (cf_X5_blows x (iI t) μ) (fun q => rSt (blowM m t) q.2 x ∧ kC (blowK m l t) q.2 x ∧ cF x μ q.2) := by
  have hb := hm.2.1
  have hst := (hN.2.1 t (by omega)).1
  have hs6 := h6
  obtain ⟨s1, s2, s3, s4, s5⟩ := h6
  have gt : gz_ix (iI (t : Int)) = t := by rw [gix (by omega)]; omega
  have hi8 : gz_in (iI (t : Int)) 8 := (gin_iI (by omega)).2 (by omega)
  unfold cf_X5_blows
  rw [c_isLit (by omega) (s5 t ht).1]
  refine pw_bind (pw_some ?_)
  dsimp only
  by_cases q : 0 < mi m 1051 (14 + 2 * t)
  · rw [if_pos q]
    refine pw_f n10 (pw_gu hi8 ?_)
    have ev : gI μ (x + 1) t - (10 : Int32) = iI (mi m 1051 (14 + 2 * t) - 10) := by rw [(s5 t ht).1, mi_of m, iI_lit, iI_sub]
    simp only [gt, ev]
    unfold cf_J8_max
    by_cases q2 : 10 < mi m 1051 (14 + 2 * t)
    · rw [if_pos (by rw [iI_lit, iI_lt (by omega) (by omega)]; omega)]
      refine pw_bind (pw_some (pw_gu hi8 (pw_let (pw_gu hi8 ?_))))
      have e9 : gI (gz_sI μ (x + 1) t (iI (mi m 1051 (14 + 2 * t) - 10))) (x + 1) t = iI (mi m 1051 (14 + 2 * t) - 10) := by rw [sI_i, if_pos ⟨rfl, rfl⟩]
      rw [e9]
      refine pw_f (by rw [iI_lit, iI_eq (by omega) (by omega)]; omega) (pw_some ?_)
      unfold blowM blowK
      rw [if_neg (by omega), if_neg (by omega), if_neg (by omega), if_neg (by omega)]
      refine ⟨⟨?_, ?_, fun k hk => ?_, fun k hk hk2 => ?_, fun s hs => ⟨?_, ?_, ?_⟩⟩, hk.sI (by omega), cF.sI (by omega)⟩
      · rw [sI_i, if_neg (by omega), s1, lowM_at, if_neg (by omega)]
      · rw [sI_i, if_neg (by omega), s2, lowM_at, if_neg (by omega)]
      · have hb2 := hm.2.2.2.1
        rw [lowM_o m (by omega)] at hk
        rw [sI_i, if_neg (by omega), lowM_o m (by omega)]
        exact s3 k hk
      · rw [lowM_o m (by omega)] at hk2
        rw [sI_i, if_neg (by omega)]
        exact s4 k hk hk2
      · rw [lowM_o m (by omega)] at hs
        rw [sI_i, lowM_at]
        by_cases z : s = t
        · rw [if_pos ⟨rfl, z⟩, if_pos ⟨rfl, by omega⟩]
        · rw [if_neg (fun w => z w.2), if_neg (by omega)]
          exact (s5 s hs).1
      · rw [lowM_o m (by omega)] at hs
        rw [sI_i, if_neg (by omega), lowM_at, if_neg (by omega)]
        exact (s5 s hs).2.1
      · rw [lowM_o m (by omega)] at hs
        unfold heatS ci
        rw [sI_i, if_neg (by omega), lowM_o m (by omega), lowM_o m (by omega), lowM_o m (by omega)]
        exact (s5 s hs).2.2
    · rw [if_neg (by rw [iI_lit, iI_lt (by omega) (by omega)]; omega)]
      refine pw_bind (pw_some (pw_gu hi8 (pw_let (pw_gu hi8 ?_))))
      have e9 : gI (gz_sI μ (x + 1) t 0) (x + 1) t = 0 := by rw [sI_i, if_pos ⟨rfl, rfl⟩]
      rw [e9]
      refine pw_t rfl ?_
      have p0 : pw (cf_X5_goesOut x (iI t) (3 : Int32) (gz_sI μ (x + 1) t 0)) _ := c_goesOut hx (hk.sI (c := x + 1) (j := t) (v := 0) (by omega)) (t := t) (how := 3) (by omega) (by omega)
      have p1 : pw (cf_X5_goesOut x (iI t) (3 : Int32) μ) _ := c_out hx hm hs6 hk (t := t) (how := 3) (by omega) (by omega)
      obtain ⟨⟨u, ν⟩, w1, w2⟩ := p1
      have e0 : cf_X5_goesOut x (iI t) (3 : Int32) (gz_sI μ (x + 1) t 0) = cf_X5_goesOut x (iI t) (3 : Int32) μ := by
        unfold cf_X5_goesOut
        simp only [gz_let, gt]
        have : gz_sI (gz_sI μ (x + 1) t 0) (x + 1) t 0 = gz_sI μ (x + 1) t 0 := by
          refine Prod.ext rfl (Prod.ext rfl (Prod.ext (funext fun c => funext fun j => ?_) rfl))
          show gI (gz_sI (gz_sI μ (x + 1) t 0) (x + 1) t 0) c j = gI (gz_sI μ (x + 1) t 0) c j
          rw [sI_i]
          by_cases z : c = x + 1 ∧ j = t
          · rw [if_pos z, sI_i, if_pos z]
          · rw [if_neg z]
        rw [this]
      rw [e0, w1]
      refine pw_bind (pw_some (pw_some ?_))
      unfold blowM blowK
      rw [if_neg (by omega), if_pos (by omega), if_neg (by omega), if_pos (by omega)]
      exact w2
  · rw [if_neg q]
    refine pw_t rfl (pw_some ?_)
    unfold blowM blowK
    rw [if_pos (by omega), if_pos (by omega)]
    exact ⟨hs6, hk, cF.refl _ _⟩
/-- what a draught on thing i - 1 (none at 0) does to t within the hour -/
def odM (m : MM) (i : Nat) : MM := if i = 0 then m else blowM m (i - 1)
def od1 (m : MM) (t i : Nat) : Int := if mi (hourM (odM m i)) 1051 (14 + 2 * t) ≤ 0 then (if i = 0 then (100 - mi m 1038 11) * mi m 1038 7 else mi m 1038 11) else 0
def odF (m : MM) (t : Nat) : Nat → Int
  | 0 => 0
  | i + 1 => odF m t i + od1 m t i
theorem od1_b {m : MM} (h : rMany m) (t i : Nat) : 0 ≤ od1 m t i ∧ od1 m t i ≤ 800 := by
  have h1 := h.2.1
  have h2 := h.2.2.2.2
  have h3 : 0 ≤ (100 - mi m 1038 11) * mi m 1038 7 ∧ (100 - mi m 1038 11) * mi m 1038 7 ≤ 800 := by
    constructor
    · exact Int.mul_nonneg (by omega) (by omega)
    · calc (100 - mi m 1038 11) * mi m 1038 7 ≤ 100 * mi m 1038 7 := Int.mul_le_mul_of_nonneg_right (by omega) (by omega)
        _ ≤ 800 := by omega
  unfold od1
  repeat' split
  all_goals omega
theorem odF_b {m : MM} (h : rMany m) (t : Nat) : ∀ i : Nat, 0 ≤ odF m t i ∧ odF m t i ≤ 800 * i
  | 0 => ⟨Int.le_refl _, Int.le_refl _⟩
  | i + 1 => by
    have := odF_b h t i
    have := od1_b h t i
    show 0 ≤ odF m t i + od1 m t i ∧ odF m t i + od1 m t i ≤ 800 * ((i + 1 : Nat) : Int)
    omega
theorem odM_ok {m : MM} (h : okN m) {i : Nat} (hi : i ≤ 8) : okN (odM m i) := by
  unfold odM
  split
  · exact h
  · exact h.blow (by omega)
theorem odM_hh (m : MM) (i : Nat) : hhE m (odM m i) := by
  unfold odM
  split
  · exact hhE.refl m
  · exact blowM_hh m _
theorem odM_0 (m : MM) (i : Nat) : mi (odM m i) 1051 0 = mi m 1051 0 := by
  unfold odM
  split
  · rfl
  · exact blowM_lo m _ (by omega)
