/-! ===== the tape is fed ===== -/
theorem b8 (x : Int32) : (x.toInt8.toInt32).toInt8.toInt32 &&& (255 : Int32) = x &&& (255 : Int32) := by
  rw [Int8.toInt8_toInt32]
  apply b_ext
  intro i hi
  rw [b_and, b_and, b_255]
  by_cases h : i < 8
  · have : bt (x.toInt8.toInt32) i = bt x i := by
      unfold bt
      rw [Int8.toBitVec_toInt32, Int32.toBitVec_toInt8, BitVec.getLsbD_signExtend, if_pos h, BitVec.getLsbD_signExtend, if_pos hi, decide_eq_true hi, decide_eq_true h, Bool.true_and, Bool.true_and]
    rw [this]
  · rw [decide_eq_false h, Bool.and_false, Bool.and_false]
def fB (v : Int32) (j : Nat) : Int32 := (v >>> (iI (24 - 8 * (j : Int)) &&& 31)) &&& (255 : Int32)
theorem fB_b (v : Int32) (j : Nat) : 0 ≤ (fB v j).toInt ∧ (fB v j).toInt < 256 := by
  unfold fB
  generalize v >>> (iI (24 - 8 * (j : Int)) &&& 31) = x
  have h1 : (x &&& (255 : Int32)) = nI (x.toBitVec.toNat % 256) := by
    apply b_ext
    intro i hi
    rw [b_and, b_255]
    unfold bt nI
    show _ = (BitVec.ofNat 32 (x.toBitVec.toNat % 256)).getLsbD i
    rw [BitVec.getLsbD_ofNat, show (256 : Nat) = 2 ^ 8 from rfl, Nat.testBit_mod_two_pow]
    simp [hi, BitVec.getLsbD, Bool.and_comm]
  have h2 : x.toBitVec.toNat % 256 < 256 := Nat.mod_lt _ (by omega)
  rw [h1, ← iI_nI, toInt_iI (by omega) (by omega)]
  omega
def w5 (a b c d e : Int32) (k : Nat) : Int32 := if k = 0 then a else if k = 1 then b else if k = 2 then c else if k = 3 then d else e
theorem sh4 : ∀ i : Nat, i < 20 → (8 : Int32) * ((3 : Int32) - (iI i - iI i / (4 : Int32) * (4 : Int32))) = iI (24 - 8 * ((i % 4 : Nat) : Int)) := by decide +kernel
theorem p_feed {m : MM} {z : Nat} (hz : z + 20 ≤ 1600) (h1 : m.1 2000 1 = iI z) (a b c d e : Int32) : pw (ml_X6_feed_28 a b c d e (0 : Int32) m) (fun q => q.1 = iI ((z + 20 : Nat) : Int) ∧ (∀ c' j : Nat, q.2.1 c' j = if c' = 2000 ∧ j = 1 then iI ((z + 20 : Nat) : Int) else if c' = 1001 ∧ z ≤ j ∧ j < z + 20 then fB (w5 a b c d e ((j - z) / 4)) ((j - z) % 4) else m.1 c' j) ∧ q.2.2 = m.2) := by
  unfold ml_X6_feed_28
  refine pw_for (fun (i : Nat) (q : Int32 × Int32 × Int32 × Int32 × Int32 × Int32 × MM) => q.1 = a ∧ q.2.1 = b ∧ q.2.2.1 = c ∧ q.2.2.2.1 = d ∧ q.2.2.2.2.1 = e ∧ q.2.2.2.2.2.1 = iI i ∧ (∀ c' j : Nat, q.2.2.2.2.2.2.1 c' j = if c' = 2000 ∧ j = 1 then iI ((z + i : Nat) : Int) else if c' = 1001 ∧ z ≤ j ∧ j < z + i then fB (w5 a b c d e ((j - z) / 4)) ((j - z) % 4) else m.1 c' j) ∧ q.2.2.2.2.2.2.2 = m.2) 20 ?_ ?_ ⟨rfl, rfl, rfl, rfl, rfl, rfl, fun c' j => ?_, rfl⟩
  · rintro i ⟨q1, q2, q3, q4, q5, q6, m'⟩ hi ⟨rfl, rfl, rfl, rfl, rfl, rfl, k1, k2⟩
    dsimp only at k1 k2 ⊢
    have ei : iI (i : Int) + (1 : Int32) = iI ((i + 1 : Nat) : Int) := by rw [iI_lit, iI_add]; rfl
    have ez : m'.1 2000 1 = iI ((z + i : Nat) : Int) := by rw [k1, if_pos ⟨rfl, rfl⟩]
    have gz : gz_ix (iI ((z + i : Nat) : Int)) = z + i := by rw [gix (by omega)]; omega
    have key : pw (mj_X6_feed_81 q1 q2 q3 q4 q5 (iI i) (w5 q1 q2 q3 q4 q5 (i / 4)) m') (Sum.elim (fun q => q.1 = q1 ∧ q.2.1 = q2 ∧ q.2.2.1 = q3 ∧ q.2.2.2.1 = q4 ∧ q.2.2.2.2.1 = q5 ∧ q.2.2.2.2.2.1 = iI ((i + 1 : Nat) : Int) ∧ (∀ c' j : Nat, q.2.2.2.2.2.2.1 c' j = if c' = 2000 ∧ j = 1 then iI ((z + (i + 1) : Nat) : Int) else if c' = 1001 ∧ z ≤ j ∧ j < z + (i + 1) then fB (w5 q1 q2 q3 q4 q5 ((j - z) / 4)) ((j - z) % 4) else m.1 c' j) ∧ q.2.2.2.2.2.2.2 = m.2) (fun q => q.1 = iI ((z + 20 : Nat) : Int) ∧ (∀ c' j : Nat, q.2.1 c' j = if c' = 2000 ∧ j = 1 then iI ((z + 20 : Nat) : Int) else if c' = 1001 ∧ z ≤ j ∧ j < z + 20 then fB (w5 q1 q2 q3 q4 q5 ((j - z) / 4)) ((j - z) % 4) else m.1 c' j) ∧ q.2.2 = m.2)) := by
      unfold mj_X6_feed_81
      rw [ez, gz, sh4 i hi, ei]
      simp only [gz_let]
      refine pw_gu ((gin_iI (by omega)).2 (by omega)) (pw_some ⟨rfl, rfl, rfl, rfl, rfl, rfl, fun c' j => ?_, k2⟩)
      show (msI (msI m' 1001 (z + i) _) 2000 1 _).1 c' j = _
      rw [msI_i, msI_i, msI_i, if_neg (show ¬ ((2000 : Nat) = 1001 ∧ 1 = z + i) by omega), ez, k1]
      by_cases u : c' = 2000 ∧ j = 1
      · rw [if_pos u, if_pos u, iI_lit, iI_add]
        exact congrArg iI (by omega)
      · simp only [if_neg u]
        by_cases u2 : c' = 1001 ∧ j = z + i
        · rw [if_pos u2, if_pos (by omega), u2.2, show z + i - z = i by omega]
          rfl
        · rw [if_neg u2]
          by_cases u3 : c' = 1001 ∧ z ≤ j ∧ j < z + i
          · rw [if_pos u3, if_pos (by omega)]
          · rw [if_neg u3, if_neg (show ¬ (c' = 1001 ∧ z ≤ j ∧ j < z + (i + 1)) by omega)]
    unfold mb_X6_feed_28
    refine pw_f (by rw [iI_lit, iI_le (by omega) (by omega)]; omega) ?_
    unfold w5 at key
    by_cases h4 : 4 ≤ i
    · refine pw_t (by rw [iI_lit, iI_le (by omega) (by omega)]; omega) ?_
      rw [if_neg (show ¬ i / 4 = 0 by omega)] at key
      by_cases h8 : 8 ≤ i
      · refine pw_t (by rw [iI_lit, iI_le (by omega) (by omega)]; omega) ?_
        rw [if_neg (show ¬ i / 4 = 1 by omega)] at key
        by_cases h12 : 12 ≤ i
        · refine pw_t (by rw [iI_lit, iI_le (by omega) (by omega)]; omega) ?_
          rw [if_neg (show ¬ i / 4 = 2 by omega)] at key
          by_cases h16 : 16 ≤ i
          · refine pw_t (by rw [iI_lit, iI_le (by omega) (by omega)]; omega) ?_
            rw [if_neg (show ¬ i / 4 = 3 by omega)] at key
            exact key
          · refine pw_f (by rw [iI_lit, iI_le (by omega) (by omega)]; omega) ?_
            rw [if_pos (show i / 4 = 3 by omega)] at key
            exact key
        · refine pw_f (by rw [iI_lit, iI_le (by omega) (by omega)]; omega) ?_
          rw [if_pos (show i / 4 = 2 by omega)] at key
          exact key
      · refine pw_f (by rw [iI_lit, iI_le (by omega) (by omega)]; omega) ?_
        rw [if_pos (show i / 4 = 1 by omega)] at key
        exact key
    · refine pw_f (by rw [iI_lit, iI_le (by omega) (by omega)]; omega) ?_
      rw [if_pos (show i / 4 = 0 by omega)] at key
      exact key
  · rintro ⟨q1, q2, q3, q4, q5, q6, m'⟩ ⟨rfl, rfl, rfl, rfl, rfl, rfl, k1, k2⟩
    dsimp only at k1 k2 ⊢
    unfold mb_X6_feed_28
    exact pw_t (by rw [iI_lit, iI_le (by omega) (by omega)]; omega) (pw_some ⟨by show m'.1 2000 1 = _; rw [k1, if_pos ⟨rfl, rfl⟩], k1, k2⟩)
  · dsimp only
    rw [if_neg (show ¬ (c' = 1001 ∧ z ≤ j ∧ j < z + 0) by omega)]
    by_cases u : c' = 2000 ∧ j = 1
    · rw [if_pos u, u.1, u.2, h1]; rfl
    · rw [if_neg u]
def tB (v : Int32) (j : Nat) : Int32 := ((v >>> (iI (24 - 8 * (j : Int)) &&& 31)).toInt8.toInt32).toInt8.toInt32
theorem tB_b (v : Int32) (j : Nat) : bB (tB v j) := by
  unfold bB tB
  rw [Int8.toInt8_toInt32, Int8.toInt8_toInt32]
theorem tB_f (v : Int32) (j : Nat) : tB v j &&& (255 : Int32) = fB v j := b8 _
theorem c_lays {μ : gM} {z : Nat} (hz : z + 4 ≤ 1600) (h1 : gI μ 1000 2 = iI z) (v : Int32) : pw (cf_X0_lays v μ) (fun q => (∀ c j : Nat, gI q.2 c j = if c = 1000 ∧ j = 2 then iI ((z + 4 : Nat) : Int) else if c = 1010 ∧ z ≤ j ∧ j < z + 4 then tB v (j - z) else gI μ c j) ∧ cD μ q.2 ∧ ∀ c j : Nat, gL q.2 c j = gL μ c j) := by
  unfold cf_X0_lays ml_X0_lays_3
  refine pw_for (fun (i : Nat) (q : Int32 × Int32 × gM) => q.1 = v ∧ q.2.1 = iI (24 - 8 * (i : Int)) ∧ (∀ c j : Nat, gI q.2.2 c j = if c = 1000 ∧ j = 2 then iI ((z + i : Nat) : Int) else if c = 1010 ∧ z ≤ j ∧ j < z + i then tB v (j - z) else gI μ c j) ∧ cD μ q.2.2 ∧ ∀ c j : Nat, gL q.2.2 c j = gL μ c j) 4 ?_ ?_ ⟨rfl, rfl, fun c j => ?_, cD.refl _, fun _ _ => rfl⟩
  · rintro i ⟨q1, q2, μ'⟩ hi ⟨rfl, rfl, k1, k2, k3⟩
    dsimp only at k1 k2 k3 ⊢
    have ei : iI (24 - 8 * (i : Int)) + (-8 : Int32) = iI (24 - 8 * ((i + 1 : Nat) : Int)) := by
      rw [show (-8 : Int32) = iI (-8) by decide, iI_add]
      exact congrArg iI (by omega)
    have ez : gI μ' 1000 2 = iI ((z + i : Nat) : Int) := by rw [k1, if_pos ⟨rfl, rfl⟩]
    have gz : gz_ix (iI ((z + i : Nat) : Int)) = z + i := by rw [gix (by omega)]; omega
    unfold mb_X0_lays_3
    rw [ez, gz, ei]
    simp only [gz_let]
    refine pw_f (by rw [iI_lit, iI_lt (by omega) (by omega)]; omega) (pw_gu ((gin_iI (by omega)).2 (by omega)) (pw_some ⟨rfl, rfl, fun c j => ?_, (k2.trans (cD.sI (by unfold dkC; omega))).trans (cD.sI (by unfold dkC; omega)), k3⟩))
    show gI (gz_sI (gz_sI μ' 1000 2 _) 1010 (z + i) _) c j = _
    rw [sI_i, sI_i, k1]
    by_cases u2 : c = 1010 ∧ j = z + i
    · rw [if_pos u2, if_neg (by omega), if_pos (by omega), u2.2, show z + i - z = i by omega]
      rfl
    · rw [if_neg u2]
      by_cases u : c = 1000 ∧ j = 2
      · rw [if_pos u, if_pos u, iI_lit, iI_add]
        exact congrArg iI (by omega)
      · rw [if_neg u, if_neg u, if_neg u]
        by_cases u3 : c = 1010 ∧ z ≤ j ∧ j < z + i
        · rw [if_pos u3, if_pos (by omega)]
        · rw [if_neg u3, if_neg (show ¬ (c = 1010 ∧ z ≤ j ∧ j < z + (i + 1)) by omega)]
  · rintro ⟨q1, q2, μ'⟩ ⟨rfl, rfl, k1, k2, k3⟩
    dsimp only at k1 k2 k3 ⊢
    unfold mb_X0_lays_3
    exact pw_t (by rw [iI_lit, iI_lt (by omega) (by omega)]; omega) (pw_some ⟨k1, k2, k3⟩)
  · dsimp only
    rw [if_neg (show ¬ (c = 1010 ∧ z ≤ j ∧ j < z + 0) by omega)]
    by_cases u : c = 1000 ∧ j = 2
    · rw [if_pos u, u.1, u.2, h1]; rfl
    · rw [if_neg u]
theorem e_feed {n : Nat} (hn : n < 1000) {m : MM} {μ : gM} (h : rDk n m μ) (a b c d e : Int32) : eD (n + 1) (mf_feed a b c d e m) (cf_X0_feed a b c d e μ) m μ := by
  have hR := h
  obtain ⟨⟨a1, a2, a3, a4⟩, ⟨b1, b2⟩, r, ⟨d1, d2, d3⟩, ⟨e1, e2, e3, e4⟩⟩ := h
  have et : gI μ 1000 2 = m.1 2000 1 := by rw [ci_of, a2, mi_of m]
  obtain ⟨z, hz⟩ : ∃ z : Nat, mi m 2000 1 = z := ⟨(mi m 2000 1).toNat, by omega⟩
  have em : m.1 2000 1 = iI z := by rw [mi_of, hz]
  have hr1 := mi_r m 2000 1
  unfold mf_feed cf_X0_feed
  rw [et, em, iI_lit, iI_add]
  by_cases q : (z : Int) + 20 ≤ 1600
  · have c0 : iI ((z : Int) + 20) ≤ (1600 : Int32) := by rw [iI_lit, iI_le (by omega) (by omega)]; exact q
    rw [if_pos c0, if_pos c0]
    obtain ⟨⟨v, m'⟩, f1, f2, f3, f4⟩ := p_feed (m := m) (z := z) (by omega) em a b c d e
    dsimp only at f2 f3 f4
    obtain ⟨⟨⟨⟩, μ1⟩, g1, s1, t1, l1⟩ := c_lays (μ := μ) (z := z) (by omega) (by rw [et, em]) a
    dsimp only at s1 t1 l1
    obtain ⟨⟨⟨⟩, μ2⟩, g2, s2, t2, l2⟩ := c_lays (μ := μ1) (z := z + 4) (by omega) (by rw [s1, if_pos ⟨rfl, rfl⟩]) b
    dsimp only at s2 t2 l2
    obtain ⟨⟨⟨⟩, μ3⟩, g3, s3, t3, l3⟩ := c_lays (μ := μ2) (z := z + 8) (by omega) (by rw [s2, if_pos ⟨rfl, rfl⟩]) c
    dsimp only at s3 t3 l3
    obtain ⟨⟨⟨⟩, μ4⟩, g4, s4, t4, l4⟩ := c_lays (μ := μ3) (z := z + 12) (by omega) (by rw [s3, if_pos ⟨rfl, rfl⟩]) d
    dsimp only at s4 t4 l4
    obtain ⟨⟨⟨⟩, μ5⟩, g5, s5, t5, l5⟩ := c_lays (μ := μ4) (z := z + 16) (by omega) (by rw [s4, if_pos ⟨rfl, rfl⟩]) e
    dsimp only at s5 t5 l5
    have tt := (((t1.trans t2).trans t3).trans t4).trans t5
    have o5 : gI μ5 1000 2 = iI ((z + 20 : Nat) : Int) := by rw [s5, if_pos ⟨rfl, rfl⟩]
    have oM : ∀ c' j : Nat, ¬ (c' = 2000 ∧ j = 1) → c' ≠ 1001 → m'.1 c' j = m.1 c' j := fun c' j k1 k2 => by rw [f3, if_neg k1, if_neg (fun w => k2 w.1)]
    have oC : ∀ c' j : Nat, ¬ (c' = 1000 ∧ j = 2) → c' ≠ 1010 → gI μ5 c' j = gI μ c' j := fun c' j k1 k2 => by
      rw [s5, if_neg k1, if_neg (fun w => k2 w.1), s4, if_neg k1, if_neg (fun w => k2 w.1), s3, if_neg k1, if_neg (fun w => k2 w.1), s2, if_neg k1, if_neg (fun w => k2 w.1), s1, if_neg k1, if_neg (fun w => k2 w.1)]
    refine ⟨v, m', μ5, f1, ?_, ⟨fun c' j k => ?_, fun c' j k => by rw [f4]⟩, tt, ⟨fun k hk => ?_, ?_, ?_, ?_⟩, ⟨?_, ?_⟩, fun k hk => ?_, ⟨?_, ?_, ?_⟩, ⟨?_, ?_, ?_, fun k hk => ?_⟩⟩
    · rw [g1]
      simp only [Option.bind_some]
      rw [g2]
      simp only [Option.bind_some]
      rw [g3]
      simp only [Option.bind_some]
      rw [g4]
      simp only [Option.bind_some]
      rw [g5]
      simp only [Option.bind_some]
      rw [o5, f2]
    · unfold dkM at k
      exact oM c' j (by omega) (by omega)
    · have eM := f3 1001 k
      rw [if_neg (by omega)] at eM
      by_cases w : z ≤ k ∧ k < z + 20
      · rw [if_pos ⟨rfl, w⟩] at eM
        have hb := fB_b (w5 a b c d e ((k - z) / 4)) ((k - z) % 4)
        unfold mi
        rw [eM]
        refine ⟨?_, hb⟩
        unfold w5
        rw [s5, if_neg (by omega)]
        by_cases w4 : z + 16 ≤ k
        · rw [if_pos ⟨rfl, w4, by omega⟩]
          refine ⟨?_, tB_b _ _⟩
          rw [tB_f, if_neg (by omega), if_neg (by omega), if_neg (by omega), if_neg (by omega), show (k - z) % 4 = k - (z + 16) by omega]
        · rw [if_neg (by omega), s4, if_neg (by omega)]
          by_cases w3 : z + 12 ≤ k
          · rw [if_pos ⟨rfl, w3, by omega⟩]
            refine ⟨?_, tB_b _ _⟩
            rw [tB_f, if_neg (by omega), if_neg (by omega), if_neg (by omega), if_pos (by omega), show (k - z) % 4 = k - (z + 12) by omega]
          · rw [if_neg (by omega), s3, if_neg (by omega)]
            by_cases w2 : z + 8 ≤ k
            · rw [if_pos ⟨rfl, w2, by omega⟩]
              refine ⟨?_, tB_b _ _⟩
              rw [tB_f, if_neg (by omega), if_neg (by omega), if_pos (by omega), show (k - z) % 4 = k - (z + 8) by omega]
            · rw [if_neg (by omega), s2, if_neg (by omega)]
              by_cases w1 : z + 4 ≤ k
              · rw [if_pos ⟨rfl, w1, by omega⟩]
                refine ⟨?_, tB_b _ _⟩
                rw [tB_f, if_neg (by omega), if_pos (by omega), show (k - z) % 4 = k - (z + 4) by omega]
              · rw [if_neg (by omega), s1, if_neg (by omega), if_pos ⟨rfl, w.1, by omega⟩]
                refine ⟨?_, tB_b _ _⟩
                rw [tB_f, if_pos (by omega), show (k - z) % 4 = k - z by omega]
      · rw [if_neg (fun x => w x.2)] at eM
        unfold mi
        rw [eM, s5, if_neg (by omega), if_neg (by omega), s4, if_neg (by omega), if_neg (by omega), s3, if_neg (by omega), if_neg (by omega), s2, if_neg (by omega), if_neg (by omega), s1, if_neg (by omega), if_neg (by omega)]
        exact a1 k hk
    · unfold ci mi
      rw [o5, f3, if_pos ⟨rfl, rfl⟩]
    · unfold mi
      rw [f3, if_pos ⟨rfl, rfl⟩, toInt_iI (by omega) (by omega)]
      omega
    · unfold mi
      rw [f3, if_pos ⟨rfl, rfl⟩, toInt_iI (by omega) (by omega)]
      omega
    · rw [oC _ _ (by omega) (by omega), oM _ _ (by omega) (by omega)]; exact b1
    · rw [oC _ _ (by omega) (by omega), oM _ _ (by omega) (by omega)]; exact b2
    · rw [oC _ _ (by omega) (by omega), oM _ _ (by omega) (by omega)]; exact r k hk
    · rw [l5, l4, l3, l2, l1, f4]; exact d1
    · unfold ml; rw [f4]; exact d2
    · unfold ml; rw [f4]; exact d3
    · rw [oC _ _ (by omega) (by omega), oM _ _ (by omega) (by omega)]; exact e1
    · unfold mi; rw [oM _ _ (by omega) (by omega)]; exact e2
    · unfold mi; rw [oM _ _ (by omega) (by omega)]; exact e3
    · unfold mi at hk
      rw [oM _ _ (by omega) (by omega)] at hk
      rw [oC _ _ (by omega) (by omega), oM _ _ (by omega) (by omega)]
      exact e4 k hk
  · have c0 : ¬ iI ((z : Int) + 20) ≤ (1600 : Int32) := by rw [iI_lit, iI_le (by omega) (by omega)]; exact q
    rw [if_neg c0, if_neg c0]
    have g0 : gz_ix (0 : Int32) = 0 := by decide
    refine ⟨-1, msI m 1010 0 (m.1 1010 0 + 1), gz_sI μ 1017 0 (gI μ 1017 0 + 1), ?_, ?_, mD.sI (by unfold dkM; omega), cD.sI (by unfold dkC; omega), (hR.ref (by omega)).up⟩
    · rw [if_pos (by decide), if_pos (by decide), g0]
      rfl
    · have := c_refuses μ (k := 0) (by omega)
      rw [show cf_X0_refuses (0 : Int32) μ = _ from this]
      rfl
