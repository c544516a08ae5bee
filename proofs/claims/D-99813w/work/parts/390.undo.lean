/-! ===== what was done is undone; two loops side by side ===== -/
theorem pw_for2 {S T R R' : Type} {f : S → Option (S ⊕ R)} {g : T → Option (T ⊕ R')} {Q : R → R' → Prop} (I : Nat → S → T → Prop) (n : Nat) (hstep : ∀ (i : Nat) (s : S) (t : T), i < n → I i s t → ∃ (s' : S) (t' : T), f s = some (Sum.inl s') ∧ g t = some (Sum.inl t') ∧ I (i + 1) s' t') (hend : ∀ (s : S) (t : T), I n s t → ∃ (r : R) (r' : R'), f s = some (Sum.inr r) ∧ g t = some (Sum.inr r') ∧ Q r r') {s : S} {t : T} (h0 : I 0 s t) : ∃ (r : R) (r' : R'), gz_loop f s = some r ∧ gz_loop g t = some r' ∧ Q r r' := by
  have key : ∀ (k i : Nat) (s : S) (t : T), i + k = n → I i s t → ∃ (r : R) (r' : R'), gz_loop f s = some r ∧ gz_loop g t = some r' ∧ Q r r' := by
    intro k
    induction k with
    | zero =>
      intro i s t hi h
      have hi : i = n := hi
      subst hi
      obtain ⟨r, r', e1, e2, q⟩ := hend s t h
      exact ⟨r, r', gz_loop_out e1, gz_loop_out e2, q⟩
    | succ k ih =>
      intro i s t hi h
      obtain ⟨s', t', e1, e2, q⟩ := hstep i s t (by omega) h
      rw [gz_loop_in e1, gz_loop_in e2]
      exact ih (i + 1) s' t' (by omega) q
  exact key n 0 s t (by omega) h0
theorem mod19 : ∀ p : Nat, p < 20 → ((iI p + (20 : Int32)) - (1 : Int32)) - ((iI p + (20 : Int32)) - (1 : Int32)) / (20 : Int32) * (20 : Int32) = iI (((p + 19) % 20 : Nat) : Int) := by decide +kernel
theorem p_undo {m : MM} {n p : Nat} (hn : 0 < n ∧ n ≤ 20) (hp : p < 20) (h68 : m.1 2000 68 = iI n) (h69 : m.1 2000 69 = iI p) : pw (mf_undo m) (fun q => q.1 = 1 ∧ (∀ c j : Nat, q.2.1 c j = if c = 1051 ∧ j < 151 then m.1 1068 (151 * p + j) else if c = 2000 ∧ j = 68 then iI ((n - 1 : Nat) : Int) else if c = 2000 ∧ j = 69 then iI (((p + 19) % 20 : Nat) : Int) else m.1 c j) ∧ q.2.2 = m.2) := by
  unfold mf_undo ml_X6_undo_21
  refine pw_f (by rw [h68, iI_lit, iI_eq (by omega) (by omega)]; omega) ?_
  refine pw_for (fun (i : Nat) (q : Int32 × MM) => q.1 = iI i ∧ (∀ c j : Nat, q.2.1 c j = if c = 1051 ∧ j < i then m.1 1068 (151 * p + j) else m.1 c j) ∧ q.2.2 = m.2) 151 ?_ ?_ ⟨rfl, fun c j => by dsimp only; rw [if_neg (by omega)], rfl⟩
  · rintro i ⟨y, m'⟩ hi ⟨rfl, h1, h2⟩
    dsimp only at h1 h2 ⊢
    have gi : gz_ix (iI (i : Int)) = i := by rw [gix (by omega)]; omega
    have e1 : iI (i : Int) + (1 : Int32) = iI ((i + 1 : Nat) : Int) := by rw [iI_lit, iI_add]; rfl
    have ep : m'.1 2000 69 = iI p := by rw [h1, if_neg (by omega), h69]
    have ea : (151 : Int32) * iI p + iI i = iI ((151 * p + i : Nat) : Int) := by rw [iI_lit, iI_mul, iI_add]; exact congrArg iI (by omega)
    have ga : gz_ix (iI ((151 * p + i : Nat) : Int)) = 151 * p + i := by rw [gix (by omega)]; omega
    unfold mb_X6_undo_21
    simp only [gi, e1, gz_let, ep, ea, ga]
    refine pw_f (by rw [iI_lit, iI_le (by omega) (by omega)]; omega) (pw_gu ((gin_iI (by omega)).2 (by omega)) (pw_gu ((gin_iI (by omega)).2 (by omega)) (pw_some ⟨rfl, fun c j => ?_, h2⟩)))
    show (msI m' 1051 i (m'.1 1068 (151 * p + i))).1 c j = _
    rw [msI_i]
    by_cases q : c = 1051 ∧ j = i
    · rw [if_pos q, if_pos (by omega), h1, if_neg (by omega), q.2]
    · rw [if_neg q, h1]
      by_cases q2 : c = 1051 ∧ j < i
      · rw [if_pos q2, if_pos (by omega)]
      · rw [if_neg q2, if_neg (show ¬ (c = 1051 ∧ j < i + 1) by omega)]
  · rintro ⟨y, m'⟩ ⟨rfl, h1, h2⟩
    dsimp only at h1 h2 ⊢
    have ep : m'.1 2000 69 = iI p := by rw [h1, if_neg (by omega), h69]
    have en : m'.1 2000 68 = iI n := by rw [h1, if_neg (by omega), h68]
    unfold mb_X6_undo_21
    simp only [gz_let]
    refine pw_t (by rw [iI_lit, iI_le (by omega) (by omega)]; omega) (pw_some ⟨rfl, fun c j => ?_, h2⟩)
    show (msI (msI m' 2000 69 _) 2000 68 _).1 c j = _
    rw [msI_i, msI_i, msI_i, if_neg (show ¬ ((2000 : Nat) = 2000 ∧ (68 : Nat) = 69) by omega), en, ep, mod19 p hp, h1]
    by_cases q : c = 2000 ∧ j = 68
    · rw [if_pos q, if_neg (by omega), if_pos q, iI_lit, iI_sub]
      exact congrArg iI (by omega)
    · rw [if_neg q]
      by_cases q2 : c = 2000 ∧ j = 69
      · rw [if_pos q2, if_neg (by omega), if_neg q, if_pos q2]
      · rw [if_neg q2, if_neg q, if_neg q2]
/-- the last of what is kept is given up -/
theorem rWd.pop {m m' : MM} {μ μ' : gM} (h : rWd m μ) (mk : mK m m') (ck : cK μ μ') (hr : ∀ j : Nat, m'.1 1068 j = m.1 1068 j) (hp : ∀ j : Nat, gP μ' 1447 j = gP μ 1447 j) (hi : ∀ c j : Nat, 1448 ≤ c → gI μ' c j = gI μ c j) {n p k s : Nat} (hk : k ≤ n) (hs20 : s < 20) (hn : n ≤ 20) (hp20 : p < 20) (hrg : ∀ i : Nat, i < k → (s + 21 + i - k) % 20 = (p + 21 + i - n) % 20) (h23 : gI μ 1000 23 = iI n) (h69 : m.1 2000 69 = iI p) (g23 : gI μ' 1000 23 = iI k) (g68 : m'.1 2000 68 = iI k) (g69 : m'.1 2000 69 = iI s) : rWd m' μ' := by
  obtain ⟨l, h1, h2, h3, h4, h5⟩ := h
  have hR := h1
  obtain ⟨q1, q2, q3, q4, q5, q6, q7, q8, q9, q10, q11, q12, q13⟩ := h1
  obtain ⟨⟨n', p', b1, b2, b3, b4, b5, b6, b7⟩, hNm⟩ := h5
  have en : n' = n := by
    rw [h23] at b3
    have := (iI_eq (a := (n : Int)) (b := (n' : Int)) (by omega) (by omega)).mp b3
    omega
  have ep : p' = p := by
    rw [h69] at b5
    have := (iI_eq (a := (p : Int)) (b := (p' : Int)) (by omega) (by omega)).mp b5
    omega
  subst en ep
  have hs := mk.s
  have hh := hhE.of hs
  have e53 : 0 ≤ mi m' 2000 53 ∧ mi m' 2000 53 ≤ 9 := (hs.oN q5).2.2.1
  have e52 : m'.1 2000 52 = -1 := (mk.1 _ _ (by omega)).trans q12
  refine ⟨l, hR.k mk ck, fun a b ha hb => ?_, fun k hk => ?_, ?_, ⟨k, s, by omega, hs20, g23, g68, g69, fun i hi => ?_, fun i hi' => ?_⟩, hNm.mv hh ⟨fun c j a b k => mk.1 _ _ (by omega), fun j => by rw [mk.2]⟩ ck.dy (ck.2.2.2.2.2 _ _ (by omega))⟩
  · unfold ci
    rw [hh.at (by omega), ck.2.2.2.2.1 _ _ (by omega)]
    exact h2 a b ha hb
  · have hb := q2.1.2.2.2.1
    rw [hh.at (by omega)] at hk
    rw [hs.n (by omega)]
    exact h3 k hk
  · obtain ⟨w1, w2, w3⟩ := h4
    have e64 : m'.1 2000 64 = m.1 2000 64 := mk.1 _ _ (by omega)
    have e66 : ∀ j, m'.1 1066 j = m.1 1066 j := fun j => mk.1 _ _ (by omega)
    refine ⟨by rw [ck.2.2.2.2.1 _ _ (by omega), e64]; exact w1, by unfold mi; rw [e64]; exact w2, fun k hk => ?_⟩
    unfold mi at hk ⊢
    rw [e64] at hk
    rw [ck.2.2.2.2.1 _ _ (by omega), ck.2.2.2.2.1 _ _ (by omega), ck.2.2.2.2.1 _ _ (by omega), e66, e66, e66, hh _ _ (by omega)]
    exact w3 k hk
  · obtain ⟨c1, c2, c3, c4⟩ := b6 i hi
    rw [hp i]
    refine ⟨c1, c2, c3.o (fun j => ck.2.2.2.2.2 _ _ (by omega)), fun j hj e => ?_⟩
    rw [hp j] at e
    exact c4 j hj e
  · obtain ⟨l', hl'⟩ := b7 i (by omega)
    have es := hrg i hi'
    obtain ⟨c1, c2, c3, c4⟩ := b6 i (by omega)
    rw [hp i, es]
    generalize (p' + 21 + i - n') % 20 = s at hl'
    have hring : ∀ j : Nat, j < 151 → (rngM m' s).1 1051 j = (rngM m s).1 1051 j := fun j hj => by
      rw [rngM_n, rngM_n, hr]
    refine ⟨l', hl'.mv2 (rngM_many q2.1 s) (fun c j k => ?_) hring e53 (fun w => ?_) (fun w => ?_)⟩
    · rw [rngM_o _ _ _ (by omega), rngM_o _ _ _ (by omega)]
      exact hh c j k
    · refine w.sc (rngM_many q2.1 s) (fun j => ?_) (fun j hj => hring j (by omega)) (fun t => ?_) (fun c j x1 x2 => hi c j (by omega))
      · rw [rngM_o _ _ _ (by omega), rngM_o _ _ _ (by omega)]
        exact hh _ _ (by omega)
      · rw [heat_no (m := rngM m' s) e52, heat_no (m := rngM m s) q12]
        exact hh.at (by omega)
    · exact w.sc (hi _ _ (by omega)) (fun j => ck.2.2.2.2.2 _ _ (by omega)) (fun c j x1 x2 => hi c j (by omega))
theorem e_undo {n : Nat} {m : MM} {μ : gM} (hW : rWd m μ) (hD : rDk n m μ) : eA n (mf_undo m) (cf_X0_undo μ) μ := by
  obtain ⟨l, h1, h2, h3, h4, h5⟩ := id hW
  obtain ⟨q1, q2, q3, q4, q5, q6, q7, q8, q9, q10, q11, q12, q13⟩ := h1
  obtain ⟨⟨k, p, b1, b2, b3, b4, b5, b6, b7⟩, -⟩ := h5
  by_cases z : k = 0
  · subst z
    have g4 : gz_ix (4 : Int32) = 4 := by decide
    have e4 : (4 : Int32) = iI ((4 : Nat) : Int) := rfl
    obtain ⟨a1, a2⟩ := eA.no hW hD (k := 4) (by omega)
    refine ⟨0, _, _, ?_, ?_, a1, a2, rfl, rfl, rfl⟩
    · unfold mf_undo
      rw [if_pos (by rw [b4]; rfl), if_pos (by decide), if_pos (by decide), g4]
      rfl
    · unfold cf_X0_undo
      rw [if_pos (by rw [b3]; rfl), e4, c_refuses μ (by omega)]
      rfl
  · obtain ⟨⟨r, m'⟩, e1, r1, k1, k2⟩ := p_undo (m := m) (n := k) (p := p) ⟨by omega, b1⟩ b2 b4 b5
    dsimp only at r1 k1 k2
    subst r1
    obtain ⟨y1, y2, y3, y4⟩ := b6 (k - 1) (by omega)
    obtain ⟨l', hl'⟩ := b7 (k - 1) (by omega)
    rw [show (p + 21 + (k - 1) - k) % 20 = p by omega] at hl'
    generalize hy : gP μ 1447 (k - 1) = y at y1 y2 y3 y4 hl'
    -- the desk first
    generalize hμ0 : gz_sI μ 1000 23 (iI ((k - 1 : Nat) : Int)) = μ0
    have i0 : ∀ c j : Nat, ¬ (c = 1000 ∧ j = 23) → gI μ0 c j = gI μ c j := fun c j hc => by rw [← hμ0, sI_i, if_neg hc]
    have p0 : ∀ c j : Nat, gP μ0 c j = gP μ c j := fun c j => by rw [← hμ0]; rfl
    have ck : cK μ μ0 := ⟨by rw [← hμ0]; rfl, by rw [← hμ0]; rfl, by rw [← hμ0]; rfl, fun c j => by rw [← hμ0]; rfl, fun c j hc => i0 c j (by omega), fun c j _ => p0 c j⟩
    generalize hm0 : (fun c j => if c = 2000 ∧ j = 68 then iI ((k - 1 : Nat) : Int) else if c = 2000 ∧ j = 69 then iI (((p + 19) % 20 : Nat) : Int) else m.1 c j, m.2) = m0
    have at0 : ∀ c j : Nat, m0.1 c j = if c = 2000 ∧ j = 68 then iI ((k - 1 : Nat) : Int) else if c = 2000 ∧ j = 69 then iI (((p + 19) % 20 : Nat) : Int) else m.1 c j := fun c j => by rw [← hm0]
    have mk : mK m m0 := ⟨fun c j hc => by rw [at0, if_neg (by omega), if_neg (by omega)], by rw [← hm0]⟩
    have hW0 : rWd m0 μ0 := hW.pop mk ck (fun j => by rw [at0, if_neg (by omega), if_neg (by omega)]) (fun j => p0 _ _) (fun c j hc => i0 _ _ (by omega)) (k := k - 1) (s := (p + 19) % 20) (by omega) (by omega) b1 b2 (fun i hi => by omega) b3 b5 (by rw [← hμ0, sI_i, if_pos ⟨rfl, rfl⟩]) (by rw [at0, if_pos ⟨rfl, rfl⟩]) (by rw [at0, if_neg (by omega), if_pos ⟨rfl, rfl⟩])
    have hD0 := hD.k mk ck
    have at1 : ∀ c j : Nat, m'.1 c j = if c = 1051 ∧ j < 151 then m.1 1068 (151 * p + j) else m0.1 c j := fun c j => by rw [k1, at0]
    obtain ⟨u1, u2, u3, u4, u5, u6, u7⟩ := hl'
    have hkC : kC l' μ0 y := u3.sc (i0 _ _ (by omega)) (fun j => p0 _ _) (fun c j x1 x2 => i0 _ _ (by omega))
    obtain ⟨w0, hw0, hw1⟩ : ∃ l0, rCo l0 m0 μ0 ∧ True := by
      obtain ⟨l0, a, -⟩ := hW0
      exact ⟨l0, a, trivial⟩
    have hro : rowOK μ0 1027 := hw0.2.2.2.2.2.2.2.1.2.2.1
    obtain ⟨⟨r, μ'⟩, e2, v1, v2, v3, v4, v5⟩ := c_copy (x := 1027) (y := y) (by decide) y1 (by omega) hro hkC
    dsimp only at v1 v2 v3 v4 v5
    subst v1
    have hmN : mN m0 m' := ⟨fun c j hc => by rw [at1, if_neg (by omega)], fun c j _ => by rw [k2, ← hm0], by
      unfold mi
      rw [at1, if_neg (by omega)]
      exact hw0.2.2.2.2.1.2.2.1⟩
    have hcN : cN μ0 μ' := ⟨v2.1, v2.2.1, v2.2.2.1, fun c j _ => v2.2.2.2.1 c j, fun c j hc => v2.2.2.2.2.1 c j (by omega), fun c j _ => v2.2.2.2.2.2 c j⟩
    have hsE : sE (rngM m p) m' := fun c j hc => by
      by_cases w : c = 1051
      · subst w
        rw [k1, if_pos (by unfold kyC at hc; omega), rngM_n]
      · rw [k1, if_neg (by omega), if_neg (by unfold kyC at hc; omega), if_neg (by unfold kyC at hc; omega), rngM_o _ _ _ w]
    have hk' : kpM l' m' := u2.sc2 (fun j a b => by rw [k1, if_pos ⟨rfl, b⟩, rngM_n])
    have hS : rSt (rngM m p) μ' 1027 := by
      refine u1.as (rngM_many q2.1 p) ⟨fun j hj => ?_, fun t ht => ?_⟩
      · rw [v3 j hj, i0 _ _ (by omega)]
      · obtain ⟨w1, w2, w3⟩ := v4 t ht
        rw [w1, w2, w3, i0 _ _ (by omega), i0 _ _ (by omega), i0 _ _ (by omega)]
        exact ⟨rfl, rfl, rfl⟩
    refine ⟨1, m', μ', e1, ?_, hW0.now hmN hcN hsE u4 u5 u6 u7 hk' hS v5, hD0.n hmN hcN, v2.2.2.1.trans ck.2.2.1, v2.1.trans ck.1, v2.2.1.trans ck.2.1⟩
    unfold cf_X0_undo
    have e23 : gI μ 1000 23 - (1 : Int32) = iI ((k - 1 : Nat) : Int) := by
      rw [b3, iI_lit, iI_sub]
      exact congrArg iI (by omega)
    have g23 : gI μ0 1000 23 = iI ((k - 1 : Nat) : Int) := by rw [← hμ0, sI_i, if_pos ⟨rfl, rfl⟩]
    have gk : gz_ix (iI ((k - 1 : Nat) : Int)) = k - 1 := by rw [gix (by omega)]; omega
    rw [if_neg (by rw [b3, iI_lit, iI_eq (by omega) (by omega)]; omega), e23, hμ0]
    simp only [gz_let, g23, gk, p0, hy]
    rw [if_pos ((gin_iI (by omega)).2 (by omega)), if_pos ⟨by omega, y1⟩, e2]
    simp only [Option.bind_some]
    rw [if_pos (by decide)]
