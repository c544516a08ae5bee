/-! ===== one is lit ===== -/
def onM (m : MM) (t : Nat) : MM := (fun c j => if c = 1051 ∧ j = 15 + 2 * t then 0 else if c = 1051 ∧ j = 14 + 2 * t then 10 else m.1 c j, m.2)
theorem onM_at (m : MM) (t c j : Nat) : (onM m t).1 c j = if c = 1051 ∧ j = 15 + 2 * t then 0 else if c = 1051 ∧ j = 14 + 2 * t then 10 else m.1 c j := rfl
theorem onM_o (m : MM) {t c j : Nat} (h : ¬ (c = 1051 ∧ (j = 14 + 2 * t ∨ j = 15 + 2 * t))) : (onM m t).1 c j = m.1 c j := by rw [onM_at, if_neg (by omega), if_neg (by omega)]
theorem onM_mo (m : MM) {t c j : Nat} (h : ¬ (c = 1051 ∧ (j = 14 + 2 * t ∨ j = 15 + 2 * t))) : mi (onM m t) c j = mi m c j := congrArg Int32.toInt (onM_o m h)
theorem onM_hh (m : MM) (t : Nat) : hhE m (onM m t) := fun c j k => onM_o m (by omega)
theorem okN.on_ {m : MM} (h : okN m) (t : Nat) : okN (onM m t) := by
  obtain ⟨h1, h2, h3, h4⟩ := h
  refine ⟨by rw [onM_mo m (by omega)]; exact h1, fun s hs => ?_, by rw [onM_mo m (by omega)]; exact h3, fun s hs => ?_⟩
  · by_cases q : s = t
    · subst q
      have e1 : mi (onM m s) 1051 (14 + 2 * s) = 10 := by unfold mi; rw [onM_at, if_neg (by omega), if_pos ⟨rfl, rfl⟩]; rfl
      have e2 : mi (onM m s) 1051 (15 + 2 * s) = 0 := by unfold mi; rw [onM_at, if_pos ⟨rfl, rfl⟩]; rfl
      rw [e1, e2]
      omega
    · rw [onM_mo m (by omega), onM_mo m (by omega)]
      exact h2 s hs
  · rw [onM_mo m (by omega)] at hs
    rw [onM_mo m (by omega), onM_mo m (by omega)]
    exact h4 s hs
theorem e_light {n : Nat} {m : MM} {μ : gM} (hW : rWd m μ) (hD : rDk n m μ) (x : Int32) : eA n (mf_light x m) (cf_X0_light x μ) μ := by
  obtain ⟨z, hz, rfl⟩ := iI_ex x
  obtain ⟨l, h1, -⟩ := id hW
  obtain ⟨p1, p2, p3, p4, p5, p6, p7, p8, p9, p10, p11, p12, p13⟩ := h1
  have hb := p2.1.2.1
  have h8 : things m ≤ 8 := by unfold things; omega
  have no : eA n (mj_X6_light_31 m) (mj_X0_light_37 μ) μ := by
    have e3 : (2 : Int32) = iI ((2 : Nat) : Int) := rfl
    have g2 : gz_ix (2 : Int32) = 2 := by decide
    obtain ⟨a1, a2⟩ := eA.no hW hD (k := 2) (by omega)
    refine ⟨0, _, _, ?_, ?_, a1, a2, rfl, rfl, rfl⟩
    · unfold mj_X6_light_31 mf_isRefused
      rw [if_pos (by decide), if_pos (by decide), g2]
      rfl
    · unfold mj_X0_light_37
      rw [e3, c_refuses μ (by omega)]
      rfl
  unfold mf_light cf_X0_light
  rw [p_here p2.1 hz, c_here p2 p6.2.1 hz]
  simp only [Option.bind_some]
  by_cases q : (0 ≤ z ∧ z < mi m 1038 7) ∧ mi m 1041 (16 + 2 * z.toNat) = mi m 1051 1
  · rw [if_pos q, if_neg n10, if_neg n10]
    obtain ⟨t, rfl⟩ : ∃ t : Nat, z = t := ⟨z.toNat, by omega⟩
    have ht := q.1.2
    rw [p_doesBurn (by omega), c_isLit (m := m) (by omega) (p6.2.2.2.2 t ht).1]
    simp only [Option.bind_some]
    by_cases q2 : 0 < mi m 1051 (14 + 2 * t)
    · rw [if_pos q2, if_neg n10, if_neg n10]
      exact no
    · rw [if_neg q2]
      simp only [if_true]
      rw [p_burningSet p2.1, c_lit p2 (fun s hs => (p6.2.2.2.2 s hs).1)]
      simp only [Option.bind_some]
      rw [p_nextTo p2.1 (tieOK.of p2), c_mayBeLit p2 p6.2.2.1 (litS m) ht]
      simp only [Option.bind_some]
      have hbit : bt (nxS m (litS m)) t = mbB m (litS m) t (things m) := by
        have h0 : bt (litS m) t = false := by rw [litS_bt p2.1 (by omega), decide_eq_false (fun w => q2 w.2)]
        have h9 := mb_ml (m := m) (s := litS m) (t := t) (things m)
        rw [h0, Bool.false_or, Bool.false_or] at h9
        unfold nxS
        rw [nxO_bt m _ (by omega) _ h8, h0, decide_eq_true (show t < things m by unfold things; omega), h9]
        simp
      by_cases q3 : mbB m (litS m) t (things m) = true
      · have c1 : ¬ ((nxS m (litS m) >>> (iI (t : Int) &&& 31)) &&& (1 : Int32)) = 0 := fun w => by
          rw [has_bt0 _ (by omega), hbit, q3] at w
          cases w
        rw [if_neg c1, if_pos q3, if_neg n10]
        obtain ⟨m1, μ1, e1, e2, k1, k2, hW1⟩ := e_keeps hW
        have hD1 := hD.k k1 k2
        obtain ⟨l1, v1, v2, v3, v4, v5⟩ := id hW1
        obtain ⟨r1, r2, r3, r4, r5, r6, r7, r8, r9, r10, r11, r12, r13⟩ := v1
        have hb1 := r2.1.2.1
        have hb9 := r2.1.2.2.2.1
        have e14 : (14 : Int32) + (2 : Int32) * iI t = iI (14 + 2 * t) := by simp only [iI_lit, iI_mul, iI_add]
        have e15 : (15 : Int32) + (2 : Int32) * iI t = iI (15 + 2 * t) := by simp only [iI_lit, iI_mul, iI_add]
        have g14 : gz_ix (iI (14 + 2 * (t : Int))) = 14 + 2 * t := by rw [gix (by omega)]; omega
        have g15 : gz_ix (iI (15 + 2 * (t : Int))) = 15 + 2 * t := by rw [gix (by omega)]; omega
        have gt : gz_ix (iI (t : Int)) = t := by rw [gix (by omega)]; omega
        have hi8 : gz_in (iI (t : Int)) 8 := (gin_iI (by omega)).2 (by omega)
        rw [e1, e2]
        simp only [Option.bind_some, e14, e15, g14, g15, gt, gz_let]
        rw [if_pos ((gin_iI (by omega)).2 (by omega)), if_pos ((gin_iI (by omega)).2 (by omega)), if_pos hi8, if_pos hi8]
        have hz' : ∀ c j : Nat, (msI (msI m1 1051 (14 + 2 * t) 10) 1051 (15 + 2 * t) 0).1 c j = (onM m1 t).1 c j := fun c j => rfl
        have hmN : mN m1 (msI (msI m1 1051 (14 + 2 * t) 10) 1051 (15 + 2 * t) 0) := ⟨fun c j kk => by rw [hz', onM_o m1 (by omega)], fun _ _ _ => rfl, by unfold mi; rw [hz', onM_o m1 (by omega)]; exact r5.2.2.1⟩
        have hcN : cN μ1 (gz_sI (gz_sI μ1 1028 t 10) 1030 t 0) := ⟨rfl, rfl, rfl, fun _ _ _ => rfl, fun c j kk => by rw [sI_i, if_neg (by omega), sI_i, if_neg (by omega)], fun _ _ _ => rfl⟩
        obtain ⟨s1, s2, s3, s4, s5⟩ := r6
        refine ⟨1, _, _, rfl, rfl, hW1.now (mS := onM m1 t) (l := l1) hmN hcN (fun c j _ => hz' c j) (r5.on_ t) (by rw [onM_mo _ (by omega)]; exact r10) (by rw [onM_mo _ (by omega)]; exact r11) (fun k hk => ?_) (r7.sc (fun j hj => by rw [hz', onM_o _ (by omega)])) ⟨?_, ?_, fun k hk => ?_, fun k hk hk2 => ?_, fun s hs => ⟨?_, ?_, ?_⟩⟩ ((r8.sI (by omega)).sI (by omega)), hD1.n hmN hcN, k2.2.2.1, k2.1, k2.2.1⟩
        · rw [onM_mo _ (by omega)] at hk
          rw [onM_mo _ (by omega)]
          exact v3 k hk
        · rw [sI_i, if_neg (by omega), sI_i, if_neg (by omega), onM_o _ (by omega)]; exact s1
        · rw [sI_i, if_neg (by omega), sI_i, if_neg (by omega), onM_o _ (by omega)]; exact s2
        · rw [onM_mo _ (by omega)] at hk
          rw [sI_i, if_neg (by omega), sI_i, if_neg (by omega), onM_mo _ (by omega)]; exact s3 k hk
        · rw [onM_mo _ (by omega)] at hk2
          rw [sI_i, if_neg (by omega), sI_i, if_neg (by omega)]; exact s4 k hk hk2
        · rw [onM_mo _ (by omega)] at hs
          rw [sI_i, if_neg (by omega), sI_i]
          by_cases w : s = t
          · rw [if_pos ⟨rfl, w⟩, onM_at, if_neg (by omega), if_pos ⟨rfl, by omega⟩]
          · rw [if_neg (fun y => w y.2), onM_o _ (by omega)]; exact (s5 s hs).1
        · rw [onM_mo _ (by omega)] at hs
          rw [sI_i]
          by_cases w : s = t
          · rw [if_pos ⟨rfl, w⟩, onM_at, if_pos ⟨rfl, by omega⟩]
          · rw [if_neg (fun y => w y.2), sI_i, if_neg (by omega), onM_o _ (by omega)]; exact (s5 s hs).2.1
        · rw [onM_mo _ (by omega)] at hs
          unfold heatS ci
          rw [sI_i, if_neg (by omega), sI_i, if_neg (by omega), onM_mo _ (by omega), onM_mo _ (by omega), onM_mo _ (by omega)]
          exact (s5 s hs).2.2
      · have c1 : ((nxS m (litS m) >>> (iI (t : Int) &&& 31)) &&& (1 : Int32)) = 0 := (has_bt0 _ (by omega)).2 (by rw [hbit]; exact Bool.eq_false_iff.mpr q3)
        rw [if_pos c1, if_neg q3]
        simp only [if_true]
        exact no
  · rw [if_neg q]
    simp only [if_true]
    exact no
