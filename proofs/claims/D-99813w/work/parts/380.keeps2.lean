theorem e_keeps {m : MM} {μ : gM} (h : rWd m μ) : ∃ (m' : MM) (μ' : gM), mf_keeps m = some ((), m') ∧ cf_X0_remembers μ = some ((), μ') ∧ mK m m' ∧ cK μ μ' ∧ rWd m' μ' := by
  obtain ⟨l, h1, h2, h3, h4, h5⟩ := h
  have hR := h1
  obtain ⟨q1, q2, q3, q4, q5, q6, q7, q8, q9, q10, q11, q12, q13⟩ := h1
  obtain ⟨⟨n, p, b1, b2, b3, b4, b5, b6, b7⟩, hNm⟩ := h5
  obtain ⟨⟨⟨⟩, m'⟩, e1, k1, k2, k3, k4, k5⟩ := p_keeps b1 b2 b4 b5
  obtain ⟨⟨⟨⟩, μ'⟩, e2, r1, r2, r3, r4, r5⟩ := c_remembers b1 b3 (fun i hi => ⟨(b6 i hi).1, (b6 i hi).2.1, (b6 i hi).2.2.1⟩) q8
  dsimp only at k1 k2 k3 k4 k5 r1 r2 r3 r4 r5
  have top : ∀ y : Nat, cSt y = true → 1448 ≤ y → y + 46 ≤ 2368 := by
    intro y w1 w2
    simp [cSt] at w1
    omega
  have hrp : ∀ i : Nat, i < 20 → ∃ i' : Nat, i' < 20 ∧ rotP μ n i = gP μ 1447 i' ∧ i' = (if n = 20 then (if i = 19 then 0 else i + 1) else i) := by
    intro i hi
    unfold rotP
    by_cases z : n = 20
    · rw [if_pos z, if_pos z]
      by_cases z2 : i = 19
      · rw [if_pos z2, if_pos z2]; exact ⟨0, by omega, rfl, rfl⟩
      · rw [if_neg z2, if_neg z2]; exact ⟨i + 1, by omega, rfl, rfl⟩
    · rw [if_neg z, if_neg z]; exact ⟨i, hi, rfl, rfl⟩
  generalize hK : (if n = 20 then 19 else n) = K at r2 r4 r5
  have hK20 : K < 20 := by rw [← hK]; split <;> omega
  obtain ⟨iK, iK1, iK2, iK3⟩ := hrp K hK20
  obtain ⟨y1, y2, y3, y4⟩ := b6 iK iK1
  have ytop := top _ y1 y2
  rw [iK2] at r2 r4 r5
  have mk : mK m m' := ⟨k4, k5⟩
  have ck : cK μ μ' := ⟨r2.1, r2.2.1, r2.2.2.1, r2.2.2.2.1, fun c j hc => r2.2.2.2.2.1 c j (by omega), r2.2.2.2.2.2⟩
  have hs := mk.s
  have hh := hhE.of hs
  have e53 : 0 ≤ mi m' 2000 53 ∧ mi m' 2000 53 ≤ 9 := (hs.oN q5).2.2.1
  have e52 : m'.1 2000 52 = -1 := (k4 _ _ (by omega)).trans q12
  generalize hp' : (p + 1) % 20 = p' at k1 k3
  have hp'20 : p' < 20 := by omega
  refine ⟨m', μ', e1, e2, mk, ck, l, hR.k mk ck, fun a b ha hb => ?_, fun k hk => ?_, ?_, ⟨(if n = 20 then 20 else n + 1), p', by split <;> omega, hp'20, r1, k2, k1, fun i hi => ?_, fun i hi => ?_⟩, hNm.mv hh ⟨fun c j a b k => k4 _ _ (by omega), fun j => by rw [k5]⟩ ck.dy (ck.2.2.2.2.2 _ _ (by omega))⟩
  · unfold ci
    rw [hh.at (by omega), ck.2.2.2.2.1 _ _ (by omega)]
    exact h2 a b ha hb
  · have hb := q2.1.2.2.2.1
    rw [hh.at (by omega)] at hk
    rw [hs.n (by omega)]
    exact h3 k hk
  · obtain ⟨w1, w2, w3⟩ := h4
    have e64 : m'.1 2000 64 = m.1 2000 64 := k4 _ _ (by omega)
    have e66 : ∀ j, m'.1 1066 j = m.1 1066 j := fun j => k4 _ _ (by omega)
    refine ⟨by rw [ck.2.2.2.2.1 _ _ (by omega), e64]; exact w1, by unfold mi; rw [e64]; exact w2, fun k hk => ?_⟩
    unfold mi at hk ⊢
    rw [e64] at hk
    rw [ck.2.2.2.2.1 _ _ (by omega), ck.2.2.2.2.1 _ _ (by omega), ck.2.2.2.2.1 _ _ (by omega), e66, e66, e66, hh _ _ (by omega)]
    exact w3 k hk
  · obtain ⟨i', i1, i2, i3⟩ := hrp i hi
    obtain ⟨c1, c2, c3, c4⟩ := b6 i' i1
    rw [r3 i hi, i2]
    refine ⟨c1, c2, c3.o (fun j => r2.2.2.2.2.2 _ _ (by omega)), fun j hj e => ?_⟩
    obtain ⟨j', j1, j2, j3⟩ := hrp j hj
    rw [r3 j hj, j2] at e
    have := c4 j' j1 e
    rw [i3, j3] at this
    split at this
    · split at this <;> split at this <;> omega
    · exact this
  · have hi20 : i < 20 := by split at hi <;> omega
    rw [r3 i hi20]
    by_cases z : i = K
    · subst z
      rw [iK2]
      have ep : (p' + 21 + i - (if n = 20 then 20 else n + 1)) % 20 = p' := by
        by_cases w : n = 20
        · rw [if_pos w] at hK ⊢
          omega
        · rw [if_neg w] at hK ⊢
          omega
      rw [ep]
      refine ⟨l, kpE.mv2 (m := m) (μ := μ) (y := 1027) ⟨q6, q7, q8, q5, q10, q11, h3⟩ q2.1 (fun c j k => ?_) (fun j hj => ?_) ?_ (fun w => ?_) (fun _ => r5)⟩
      · rw [rngM_o _ _ _ (by omega)]
        exact hh c j k
      · rw [rngM_n, k3, if_pos (by omega), show 151 * p' + j - 151 * p' = j by omega]
      · exact e53
      · refine (w.as q2.1 r4).sc q2.1 (fun j => ?_) (fun j hj => ?_) (fun t => ?_) (fun _ _ _ _ => rfl)
        · rw [rngM_o _ _ _ (by omega)]
          exact hh _ _ (by omega)
        · rw [rngM_n, k3, if_pos (by omega), show 151 * p' + j - 151 * p' = j by omega]
        · rw [heat_no (m := rngM m' p') e52, heat_no q12]
          exact hh.at (by omega)
    · obtain ⟨i', i1, i2, i3⟩ := hrp i hi20
      obtain ⟨c1, c2, c3, c4⟩ := b6 i' i1
      have ctop := top _ c1 c2
      have hi'n : i' < n := by
        by_cases w : n = 20
        · rw [if_pos w] at i3 hK hi
          omega
        · rw [if_neg w] at i3 hK hi
          omega
      have es : (p' + 21 + i - (if n = 20 then 20 else n + 1)) % 20 = (p + 21 + i' - n) % 20 := by
        by_cases w : n = 20
        · rw [if_pos w] at i3 hK hi ⊢
          rw [if_neg (by omega)] at i3
          omega
        · rw [if_neg w] at i3 hK hi ⊢
          omega
      have hne : (p + 21 + i' - n) % 20 ≠ p' := by
        by_cases w : n = 20
        · rw [if_pos w] at i3 hK hi
          rw [if_neg (by omega)] at i3
          omega
        · omega
      rw [es, i2]
      generalize hsl : (p + 21 + i' - n) % 20 = s at hne
      obtain ⟨l', hl'⟩ := b7 i' hi'n
      rw [hsl] at hl'
      have hring : ∀ j : Nat, j < 151 → (rngM m' s).1 1051 j = (rngM m s).1 1051 j := fun j hj => by
        rw [rngM_n, rngM_n, k3, if_neg (by omega)]
      have hdis : gP μ 1447 i' ≠ gP μ 1447 iK := fun e => by
        have := c4 iK iK1 e
        rw [i3, iK3] at this
        split at this
        · split at this <;> split at this <;> omega
        · exact z this
      have hd := st_dis c1 y1 hdis
      have hI : ∀ c j : Nat, gP μ 1447 i' ≤ c → c < gP μ 1447 i' + 46 → gI μ' c j = gI μ c j := fun c j x1 x2 => r2.2.2.2.2.1 c j (by omega)
      refine ⟨l', hl'.mv2 (rngM_many q2.1 s) (fun c j k => ?_) hring e53 (fun w => ?_) (fun w => ?_)⟩
      · rw [rngM_o _ _ _ (by omega), rngM_o _ _ _ (by omega)]
        exact hh c j k
      · refine w.sc (rngM_many q2.1 s) (fun j => ?_) (fun j hj => hring j (by omega)) (fun t => ?_) (fun c j x1 x2 => hI c j x1 (by omega))
        · rw [rngM_o _ _ _ (by omega), rngM_o _ _ _ (by omega)]
          exact hh _ _ (by omega)
        · rw [heat_no (m := rngM m' s) e52, heat_no (m := rngM m s) q12]
          exact hh.at (by omega)
      · exact w.sc (hI _ _ (by omega) (by omega)) (fun j => r2.2.2.2.2.2 _ _ (by omega)) (fun c j x1 x2 => hI c j (by omega) x2)
