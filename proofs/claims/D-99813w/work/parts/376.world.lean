/-! ===== the world: all that holds but the desk ===== -/
def t01 (m : MM) : Prop := ∀ k : Nat, (k : Int) < mi m 1038 9 → mi m 1051 (2 + k) = 0 ∨ mi m 1051 (2 + k) = 1
def rRows (m : MM) (μ : gM) : Prop := gI μ 1000 20 = m.1 2000 64 ∧ (0 ≤ mi m 2000 64 ∧ mi m 2000 64 ≤ 16) ∧ ∀ k : Nat, (k : Int) < mi m 2000 64 → (gI μ 1123 k = m.1 1066 (3 * k) ∧ gI μ 1124 k = m.1 1066 (3 * k + 1) ∧ gI μ 1125 k = m.1 1066 (3 * k + 2)) ∧ (0 ≤ mi m 1066 (3 * k) ∧ mi m 1066 (3 * k) ≤ 30) ∧ (0 ≤ mi m 1066 (3 * k + 1) ∧ mi m 1066 (3 * k + 1) < mi m 1038 7) ∧ 0 ≤ mi m 1066 (3 * k + 2) ∧ mi m 1066 (3 * k + 2) ≤ 99
/-- as if what was kept in the ring at p were -/
def rngM (m : MM) (p : Nat) : MM := (fun c j => if c = 1051 then m.1 1068 (151 * p + j) else m.1 c j, m.2)
theorem rngM_n (m : MM) (p j : Nat) : (rngM m p).1 1051 j = m.1 1068 (151 * p + j) := by
  show (if (1051 : Nat) = 1051 then m.1 1068 (151 * p + j) else m.1 1051 j) = _
  rw [if_pos rfl]
theorem rngM_o (m : MM) (p : Nat) {c : Nat} (j : Nat) (h : c ≠ 1051) : (rngM m p).1 c j = m.1 c j := if_neg h
def kpE (m : MM) (μ : gM) (y : Nat) (l : List (Int × Int × Int)) : Prop := rSt m μ y ∧ kpM l m ∧ kC l μ y ∧ okN m ∧ mi m 1051 0 ≤ 999 ∧ (0 ≤ mi m 1051 1 ∧ mi m 1051 1 < 8) ∧ t01 m
def rUnd (m : MM) (μ : gM) : Prop := ∃ n p : Nat, n ≤ 20 ∧ p < 20 ∧ gI μ 1000 23 = iI n ∧ m.1 2000 68 = iI n ∧ m.1 2000 69 = iI p ∧ (∀ i : Nat, i < 20 → cSt (gP μ 1447 i) = true ∧ 1448 ≤ gP μ 1447 i ∧ rowOK μ (gP μ 1447 i) ∧ ∀ j : Nat, j < 20 → gP μ 1447 i = gP μ 1447 j → i = j) ∧ ∀ i : Nat, i < n → ∃ l, kpE (rngM m ((p + 21 + i - n) % 20)) μ (gP μ 1447 i) l
theorem kpE.mv {m m' : MM} {μ μ' : gM} {y : Nat} {l : List (Int × Int × Int)} (h : kpE m μ y l) (hm : rMany m) (hh : hhE m m') (hn : ∀ j : Nat, m'.1 1051 j = m.1 1051 j) (ht : ∀ t : Nat, heatS m' t = heatS m t) (h53 : 0 ≤ mi m' 2000 53 ∧ mi m' 2000 53 ≤ 9) (hi : ∀ c j : Nat, y ≤ c → c < y + 46 → gI μ' c j = gI μ c j) (hp : ∀ j : Nat, gP μ' (y + 5) j = gP μ (y + 5) j) : kpE m' μ' y l := by
  obtain ⟨a1, a2, a3, a4, a5, a6, a7⟩ := h
  have n0 : ∀ j, mi m' 1051 j = mi m 1051 j := fun j => congrArg Int32.toInt (hn j)
  refine ⟨a1.sc hm (fun j => hh _ _ (by omega)) (fun j _ => hn j) ht (fun c j x1 x2 => hi c j x1 (by omega)), a2.sc (fun j _ => hn j), a3.sc (hi _ _ (by omega) (by omega)) hp (fun c j x1 x2 => hi c j (by omega) x2), ⟨?_, fun t ht => ?_, h53, fun t ht => ?_⟩, by rw [n0]; exact a5, by rw [n0]; exact a6, fun k hk => ?_⟩
  · rw [n0]; exact a4.1
  · rw [n0, n0]; exact a4.2.1 t ht
  · rw [hh.at (by omega)] at ht
    rw [hh.at (by omega), hh.at (by omega)]
    exact a4.2.2.2 t ht
  · rw [hh.at (by omega)] at hk
    rw [n0]
    exact a7 k hk
def rWd (m : MM) (μ : gM) : Prop := ∃ l, rCo l m μ ∧ rWay m μ ∧ t01 m ∧ rRows m μ ∧ rUnd m μ ∧ rNm m μ
theorem rngM_many {m : MM} (h : rMany m) (p : Nat) : rMany (rngM m p) := h
theorem rUnd.mv {m m' : MM} {μ μ' : gM} (h : rUnd m μ) (hm : rMany m) (hh : hhE m m') (hr : ∀ j : Nat, m'.1 1068 j = m.1 1068 j) (h68 : m'.1 2000 68 = m.1 2000 68) (h69 : m'.1 2000 69 = m.1 2000 69) (h52 : m.1 2000 52 = -1) (h52' : m'.1 2000 52 = -1) (h53 : 0 ≤ mi m' 2000 53 ∧ mi m' 2000 53 ≤ 9) (h23 : gI μ' 1000 23 = gI μ 1000 23) (hi : ∀ c j : Nat, 1448 ≤ c → c < 2368 → gI μ' c j = gI μ c j) (hp : ∀ c j : Nat, 1447 ≤ c → gP μ' c j = gP μ c j) : rUnd m' μ' := by
  obtain ⟨n, p, b1, b2, b3, b4, b5, b6, b7⟩ := h
  have top : ∀ y : Nat, cSt y = true → 1448 ≤ y → y + 46 ≤ 2368 := by
    intro y h1 h2
    simp [cSt] at h1
    omega
  refine ⟨n, p, b1, b2, h23.trans b3, h68.trans b4, h69.trans b5, fun i hi' => ?_, fun i hi' => ?_⟩
  · obtain ⟨c1, c2, c3, c4⟩ := b6 i hi'
    rw [hp 1447 i (by omega)]
    refine ⟨c1, c2, c3.o (fun j => hp _ _ (by omega)), fun j hj e => c4 j hj ?_⟩
    rw [hp 1447 j (by omega)] at e
    exact e
  · obtain ⟨c1, c2, c3, c4⟩ := b6 i (by omega)
    obtain ⟨l, hl⟩ := b7 i hi'
    have ht := top _ c1 c2
    rw [hp 1447 i (by omega)]
    refine ⟨l, hl.mv (rngM_many hm _) (fun c j k => ?_) (fun j => ?_) (fun t => ?_) ?_ (fun c j x1 x2 => hi c j (by omega) (by omega)) (fun j => hp _ _ (by omega))⟩
    · rw [rngM_o _ _ _ (by omega), rngM_o _ _ _ (by omega)]
      exact hh c j k
    · rw [rngM_n, rngM_n]
      exact hr _
    · rw [heat_no (m := rngM m' _) h52', heat_no (m := rngM m _) h52]
      exact hh.at (by omega)
    · exact h53
theorem rWd.sc {m m' : MM} {μ μ' : gM} (h : rWd m μ) (hm : mSc m m') (hc : cSc μ μ') (hr : rowOK μ' 1073) : rWd m' μ' := by
  obtain ⟨l, h1, h2, h3, h4, h5⟩ := h
  have hR := h1
  obtain ⟨-, q2, -, -, -, -, -, -, -, -, -, q12, -⟩ := h1
  have hh := hm.hh
  have cc : ∀ c j, ¬ scC c j → gI μ' c j = gI μ c j := hc.2.2.2.1
  refine ⟨l, hR.sc hm hc hr, fun a b ha hb => ?_, fun k hk => ?_, ?_, ?_, h5.2.mv hh ⟨fun c j a b k => hm.1 _ _ (by unfold scM; omega), fun j => hm.2.1 _ _ (by omega)⟩ hc.dy (hc.2.2.2.2.2 _ _ (by omega))⟩
  · unfold ci
    rw [hh.at (by omega), cc _ _ (by unfold scC; omega)]
    exact h2 a b ha hb
  · rw [hh.at (by omega)] at hk
    unfold mi
    rw [hm.n]
    exact h3 k hk
  · obtain ⟨r1, r2, r3⟩ := h4
    have e64 : m'.1 2000 64 = m.1 2000 64 := hm.1 _ _ (by unfold scM; omega)
    have e66 : ∀ j, m'.1 1066 j = m.1 1066 j := fun j => hm.1 _ _ (by unfold scM; omega)
    refine ⟨by rw [cc _ _ (by unfold scC; omega), e64]; exact r1, by unfold mi; rw [e64]; exact r2, fun k hk => ?_⟩
    unfold mi at hk ⊢
    rw [e64] at hk
    rw [cc _ _ (by unfold scC; omega), cc _ _ (by unfold scC; omega), cc _ _ (by unfold scC; omega), e66, e66, e66, hh _ _ (by omega)]
    exact r3 k hk
  · exact h5.1.mv q2.1 hh (fun j => hm.1 _ _ (by unfold scM; omega)) (hm.1 _ _ (by unfold scM; omega)) (hm.1 _ _ (by unfold scM; omega)) q12 ((hm.1 _ _ (by unfold scM; omega)).trans q12) hm.2.2 (cc _ _ (by unfold scC; omega)) (fun c j a b => cc _ _ (by unfold scC; omega)) (fun c j a => hc.2.2.2.2.2 _ _ (by omega))
theorem rWd.dk {m m' : MM} {μ μ' : gM} (h : rWd m μ) (hm : mD m m') (hc : cD μ μ') : rWd m' μ' := by
  obtain ⟨l, h1, h2, h3, h4, h5⟩ := h
  have hR := h1
  obtain ⟨-, q2, -, -, q5, -, -, -, -, -, -, q12, -⟩ := h1
  have hs := hm.s
  have hh := hhE.of hs
  have cc : ∀ c j, ¬ dkC c j → gI μ' c j = gI μ c j := hc.2.2.2.1
  refine ⟨l, hR.dk hm hc, fun a b ha hb => ?_, fun k hk => ?_, ?_, ?_, h5.2.mv hh ⟨fun c j a b k => hm.1 _ _ (by unfold dkM; omega), fun j => hm.2 _ _ (by omega)⟩ hc.dy (hc.2.2.2.2.2 _ _)⟩
  · unfold ci
    rw [hh.at (by omega), cc _ _ (by unfold dkC; omega)]
    exact h2 a b ha hb
  · have hb := q2.1.2.2.2.1
    rw [hh.at (by omega)] at hk
    rw [hs.n (by omega)]
    exact h3 k hk
  · obtain ⟨r1, r2, r3⟩ := h4
    have e64 : m'.1 2000 64 = m.1 2000 64 := hm.1 _ _ (by unfold dkM; omega)
    have e66 : ∀ j, m'.1 1066 j = m.1 1066 j := fun j => hm.1 _ _ (by unfold dkM; omega)
    refine ⟨by rw [cc _ _ (by unfold dkC; omega), e64]; exact r1, by unfold mi; rw [e64]; exact r2, fun k hk => ?_⟩
    unfold mi at hk ⊢
    rw [e64] at hk
    rw [cc _ _ (by unfold dkC; omega), cc _ _ (by unfold dkC; omega), cc _ _ (by unfold dkC; omega), e66, e66, e66, hh _ _ (by omega)]
    exact r3 k hk
  · exact h5.1.mv q2.1 hh (fun j => hm.1 _ _ (by unfold dkM; omega)) (hm.1 _ _ (by unfold dkM; omega)) (hm.1 _ _ (by unfold dkM; omega)) q12 ((hm.1 _ _ (by unfold dkM; omega)).trans q12) (hs.oN q5).2.2.1 (cc _ _ (by unfold dkC; omega)) (fun c j a b => cc _ _ (by unfold dkC; omega)) (fun c j a => hc.2.2.2.2.2 _ _)
