/-! ===== acts ===== -/
theorem rDk.mv {n : Nat} {m m' : MM} {μ μ' : gM} (h : rDk n m μ) (mm : ∀ c j : Nat, dkM c j → m'.1 c j = m.1 c j) (hl : m'.2 2000 70 = m.2 2000 70) (cc : ∀ c j : Nat, dkC c j → gI μ' c j = gI μ c j) (hcl : gL μ' 1000 24 = gL μ 1000 24) : rDk n m' μ' := by
  obtain ⟨⟨a1, a2, a3, a4⟩, ⟨b1, b2⟩, c, ⟨d1, d2, d3⟩, ⟨e1, e2, e3, e4⟩⟩ := h
  have t1 : m'.1 2000 1 = m.1 2000 1 := mm _ _ (by unfold dkM; omega)
  have o1 : m'.1 2000 103 = m.1 2000 103 := mm _ _ (by unfold dkM; omega)
  refine ⟨⟨fun k hk => ?_, ?_, ?_, ?_⟩, ⟨?_, ?_⟩, fun k hk => ?_, ⟨?_, ?_, ?_⟩, ⟨?_, ?_, ?_, fun k hk => ?_⟩⟩
  · unfold mi
    rw [cc _ _ (by unfold dkC; omega), mm _ _ (by unfold dkM; omega)]
    exact a1 k hk
  · unfold ci mi
    rw [cc _ _ (by unfold dkC; omega), t1]
    exact a2
  · unfold mi; rw [t1]; exact a3
  · unfold mi; rw [t1]; exact a4
  · rw [cc _ _ (by unfold dkC; omega), mm _ _ (by unfold dkM; omega)]; exact b1
  · rw [cc _ _ (by unfold dkC; omega), mm _ _ (by unfold dkM; omega)]; exact b2
  · rw [cc _ _ (by unfold dkC; omega), mm _ _ (by unfold dkM; omega)]; exact c k hk
  · rw [hcl, hl]; exact d1
  · unfold ml; rw [hl]; exact d2
  · unfold ml; rw [hl]; exact d3
  · rw [cc _ _ (by unfold dkC; omega), o1]; exact e1
  · unfold mi; rw [o1]; exact e2
  · unfold mi; rw [o1]; exact e3
  · unfold mi at hk
    rw [o1] at hk
    rw [cc _ _ (by unfold dkC; omega), mm _ _ (by unfold dkM; omega)]
    exact e4 k hk
theorem rDk.k {n : Nat} {m m' : MM} {μ μ' : gM} (h : rDk n m μ) (hm : mK m m') (hc : cK μ μ') : rDk n m' μ' := h.mv (fun c j k => hm.1 c j (by unfold dkM at k; omega)) (by rw [hm.2]) (fun c j k => hc.2.2.2.2.1 c j (by unfold dkC at k; omega)) (hc.2.2.2.1 _ _)
theorem rDk.n {n : Nat} {m m' : MM} {μ μ' : gM} (h : rDk n m μ) (hm : mN m m') (hc : cN μ μ') : rDk n m' μ' := h.mv (fun c j k => hm.1 c j (by unfold dkM at k; unfold scM; omega)) (hm.2.1 _ _ (by omega)) (fun c j k => hc.2.2.2.2.1 c j (by unfold dkC at k; omega)) (hc.2.2.2.1 _ _ (by omega))
/-- an act: both answer alike, and what holds goes on -/
def eA {α : Type} (n : Nat) (o1 : Option (α × MM)) (o2 : Option (α × gM)) (μ : gM) : Prop := ∃ (r : α) (m' : MM) (μ' : gM), o1 = some (r, m') ∧ o2 = some (r, μ') ∧ rWd m' μ' ∧ rDk n m' μ' ∧ μ'.2.2.2.2.2 = μ.2.2.2.2.2 ∧ μ'.1 = μ.1 ∧ μ'.2.1 = μ.2.1
/-- both refuse -/
theorem eA.no {n : Nat} {m : MM} {μ : gM} (hW : rWd m μ) (hD : rDk n m μ) {k : Nat} (hk : k < 6) : rWd (msI m 1010 k (m.1 1010 k + 1)) (gz_sI μ 1017 k (gI μ 1017 k + 1)) ∧ rDk n (msI m 1010 k (m.1 1010 k + 1)) (gz_sI μ 1017 k (gI μ 1017 k + 1)) := ⟨hW.dk (mD.sI (by unfold dkM; omega)) (cD.sI (by unfold dkC; omega)), hD.ref hk⟩
theorem hoursS_t01 {m : MM} (h : t01 m) (hm : rMany m) (n : Nat) : t01 (hoursS n m) := fun k hk => by
  have hb := hm.2.2.2.1
  rw [(hoursS_hh m n).at (by omega)] at hk
  rw [hoursS_lo (by omega) (by omega)]
  exact h k hk
theorem e_hours {n : Nat} {m : MM} {μ : gM} (hW : rWd m μ) (hD : rDk n m μ) (x : Int32) : eA n (mf_hours x m) (cf_X0_hours x μ) μ := by
  obtain ⟨z, hz, rfl⟩ := iI_ex x
  obtain ⟨l, h1, -⟩ := id hW
  have pA : mf_isAhead (iI z) (1 : Int32) (100 : Int32) m = some (if (1 ≤ z ∧ z ≤ 100) ∧ mi m 1051 0 + z ≤ 999 then 1 else 0, m) := p_isAhead h1.2.2.2.2.1 hz (a := 1) (b := 100) (by omega) (by omega)
  have cA : cf_X0_isAhead (iI z) (1 : Int32) (100 : Int32) μ = some (if (1 ≤ z ∧ z ≤ 100) ∧ mi m 1051 0 + z ≤ 999 then 1 else 0, μ) := c_isAhead h1.2.2.2.2.1 h1.2.2.2.2.2.1.1 hz (a := 1) (b := 100) (by omega) (by omega)
  unfold mf_hours cf_X0_hours
  rw [pA, cA]
  simp only [Option.bind_some]
  by_cases q : (1 ≤ z ∧ z ≤ 100) ∧ mi m 1051 0 + z ≤ 999
  · rw [if_pos q, if_neg n10, if_neg n10]
    obtain ⟨m1, μ1, e1, e2, k1, k2, hW1⟩ := e_keeps hW
    have hD1 := hD.k k1 k2
    obtain ⟨l1, w1, w2, w3, w4, w5⟩ := id hW1
    obtain ⟨q1, q2, q3, q4, q5, q6, q7, q8, q9, q10, q11, q12, q13⟩ := w1
    have e0 : mi m1 1051 0 = mi m 1051 0 := k1.s.n (by omega)
    obtain ⟨t, rfl⟩ : ∃ t : Nat, z = t := ⟨z.toNat, by omega⟩
    obtain ⟨o1, o2⟩ := hoursS_ok q5 q2.1 t (by omega)
    obtain ⟨⟨u, m2⟩, f1, f2, f3, f4, f5, f6⟩ := p_hours q2.1 q5 q4 q7 (n := t) (by omega)
    obtain ⟨⟨r, μ2⟩, g1, g2, g3, g4, g5⟩ := c_goesBy (x := 1027) (by decide) q1 q5 q2 q3 q6 q8 (n := t) (by omega)
    dsimp only at f2 f3 f4 f5 f6 g2 g3 g4 g5
    have hk : kpM (kN m1 l1 t) m2 := by
      unfold thM at f4
      rw [if_pos q13] at f4
      exact f4
    have hmN := mN.h q5 f3
    have hcN := cN.c g5
    rw [e1, e2]
    simp only [Option.bind_some]
    rw [f1, g1]
    simp only [Option.bind_some]
    refine ⟨r, m2, μ2, by rw [f5, g2], rfl, hW1.now hmN hcN f2 o1 (by omega) (by rw [hoursS_lo (by omega) (by omega)]; exact q11) (hoursS_t01 w3 q2.1 t) hk g3 g4, hD1.n hmN hcN, g5.2.2.1.trans k2.2.2.1, g5.1.trans k2.1, g5.2.1.trans k2.2.1⟩
  · rw [if_neg q]
    have e3 : (3 : Int32) = iI ((3 : Nat) : Int) := rfl
    obtain ⟨a1, a2⟩ := eA.no hW hD (k := 3) (by omega)
    refine ⟨-1, _, _, ?_, ?_, a1, a2, rfl, rfl, rfl⟩
    · rw [if_pos rfl, e3, p_refuses m (by omega)]
      rfl
    · rw [if_pos rfl, e3, c_refuses μ (by omega)]
      rfl
