/-! ===== the least set that puts all out ===== -/
def byF (m : MM) (s : Int32) : Nat → Int32
  | 0 => 0
  | i + 1 => if bt s i = true then byF m s i ||| (endsS m i ||| ((1 : Int32) <<< (iI i &&& 31))) else byF m s i
theorem byF_s (m : MM) (s : Int32) (i : Nat) : byF m s (i + 1) = if bt s i = true then byF m s i ||| (endsS m i ||| ((1 : Int32) <<< (iI i &&& 31))) else byF m s i := rfl
def ouF (m : MM) (s : Int32) : Nat → Int32
  | 0 => s
  | i + 1 => if bt s i = true then ouF m s i ||| endsS m i else ouF m s i
theorem ouF_s (m : MM) (s : Int32) (i : Nat) : ouF m s (i + 1) = if bt s i = true then ouF m s i ||| endsS m i else ouF m s i := rfl
theorem ou_by (m : MM) (s : Int32) {k : Nat} (hk : k < 32) : ∀ i : Nat, i ≤ 8 → bt (ouF m s i) k = (bt s k || bt (byF m s i) k)
  | 0, _ => by
    show bt s k = (bt s k || bt 0 k)
    rw [b_0, Bool.or_false]
  | i + 1, hi => by
    have ih := ou_by m s hk i (by omega)
    rw [ouF_s, byF_s]
    by_cases q : bt s i = true
    · rw [if_pos q, if_pos q, b_or, b_or, b_or, ih, bt_1t (by omega) hk]
      by_cases z : k = i
      · subst z
        rw [q]
        simp
      · rw [decide_eq_false z]
        cases bt s k <;> cases bt (byF m s i) k <;> cases bt (endsS m i) k <;> rfl
    · rw [if_neg q, if_neg q]
      exact ih
theorem by_own (m : MM) (s : Int32) {k : Nat} (hk : k < 32) (h : bt s k = true) : ∀ i : Nat, i ≤ 8 → k < i → bt (byF m s i) k = true
  | 0, _, h0 => absurd h0 (Nat.not_lt_zero _)
  | i + 1, hi, h0 => by
    rw [byF_s]
    by_cases z : k = i
    · subst z
      rw [if_pos h, b_or, b_or, bt_1t (by omega) hk, decide_eq_true (show k = k from rfl)]
      simp
    · have ih := by_own m s hk h i (by omega) (by omega)
      by_cases q : bt s i = true
      · rw [if_pos q, b_or, ih]
        rfl
      · rw [if_neg q]
        exact ih
theorem ou_eq {m : MM} {s : Int32} {n : Nat} (hn : n ≤ 8) (hs : ∀ k : Nat, k < 32 → n ≤ k → bt s k = false) : ouF m s n = byF m s n := b_ext fun k hk => by
  rw [ou_by m s hk n hn]
  by_cases q : bt s k = true
  · have hkn : k < n := by
      by_cases z : n ≤ k
      · rw [hs k hk z] at q
        cases q
      · omega
    rw [by_own m s hk q n hn hkn]
    simp
  · have : bt s k = false := by
      cases h : bt s k
      · rfl
      · exact absurd h q
    rw [this, Bool.false_or]
/-- the best set among those below i; -1 none -/
def lsN (m : MM) (b : Int) (i : Nat) : Int := if nI i &&& (litS m ^^^ (-1 : Int32)) = 0 ∧ (b = -1 ∨ popN i < popN b.toNat) ∧ litS m &&& (byF m (nI i) (things m) ^^^ (-1 : Int32)) = 0 then i else b
def lsB (m : MM) : Nat → Int
  | 0 => -1
  | i + 1 => lsN m (lsB m i) i
theorem lsB_b (m : MM) : ∀ i : Nat, -1 ≤ lsB m i ∧ lsB m i < i
  | 0 => ⟨Int.le_refl _, by show (-1 : Int) < ((0 : Nat) : Int); omega⟩
  | i + 1 => by
    have := lsB_b m i
    show -1 ≤ lsN m (lsB m i) i ∧ lsN m (lsB m i) i < ((i + 1 : Nat) : Int)
    unfold lsN
    split <;> omega
theorem shl_pow : ∀ n : Nat, n ≤ 8 → (1 : Int32) <<< (iI n &&& 31) = iI ((2 ^ n : Nat) : Int) := by decide +kernel
theorem set_bt {n i k : Nat} (hn : n ≤ 8) (hi : i < 2 ^ n) (hk : k < 32) (hnk : n ≤ k) : bt (nI i) k = false := by
  have h8 : 2 ^ n ≤ 2 ^ 8 := Nat.pow_le_pow_right (by omega) hn
  show (BitVec.ofNat 32 i).getLsbD k = false
  rw [BitVec.getLsbD_ofNat]
  have : i.testBit k = false := Nat.testBit_lt_two_pow (Nat.lt_of_lt_of_le hi (Nat.pow_le_pow_right (by omega) hnk))
  rw [this]
  simp
theorem popN_lt (n : Nat) : popN n ≤ 12 := popB_le _ 12
theorem p_least {m : MM} (hT : tieOK m) (hN : okN m) : pw (mf_least m) (fun q => q.1 = iI (lsB m (2 ^ things m)) ∧ mSc m q.2) := by
  have hb := hT.1.2.1
  have h8 : things m ≤ 8 := by unfold things; omega
  have hth : (things m : Int) = mi m 1038 7 := by unfold things; omega
  have hp8 : 2 ^ things m ≤ 2 ^ 8 := Nat.pow_le_pow_right (by omega) h8
  have em1 : (-1 : Int32) = iI (-1) := by decide
  unfold mf_least
  rw [p_burningSet hT.1]
  refine pw_bind (pw_some ?_)
  dsimp only
  unfold ml_X6_least_9
  refine pw_for (fun (i : Nat) (q : Int32 × Int32 × Int32 × MM) => q.1 = litS m ∧ q.2.1 = -1 ∧ q.2.2.1 = iI i ∧ eE (fun t => endsS m t ||| ((1 : Int32) <<< (iI t &&& 31))) i m q.2.2.2) (things m) ?_ ?_ ⟨rfl, rfl, rfl, fun _ _ _ => rfl, rfl, fun t ht => absurd ht (Nat.not_lt_zero _)⟩
  · rintro i ⟨y1, y2, y3, a⟩ hi ⟨rfl, rfl, rfl, a1⟩
    dsimp only at a1 ⊢
    have e1 : iI (i : Int) + (1 : Int32) = iI ((i + 1 : Nat) : Int) := by rw [iI_lit, iI_add]; rfl
    have gi : gz_ix (iI (i : Int)) = i := by rw [gix (by omega)]; omega
    have hi8 : gz_in (iI (i : Int)) 8 := (gin_iI (by omega)).2 (by omega)
    unfold mb_X6_least_9
    rw [p_thingMany, a1.s.w]
    refine pw_bind (pw_some ?_)
    dsimp only
    refine pw_f (by rw [iI_le (by omega) (by omega)]; omega) ?_
    rw [p_endsOf (hT.s a1.s) (by omega), a1.s.ends hT.1]
    refine pw_bind (pw_some ?_)
    dsimp only
    refine pw_gu hi8 (pw_let (pw_let (pw_some ⟨rfl, rfl, e1, ?_⟩)))
    rw [gi]
    refine ⟨fun c j hc => ?_, a1.2.1, fun t ht => ?_⟩
    · rw [msI_i, if_neg (fun z => hc z.1)]
      exact a1.1 c j hc
    · rw [msI_i]
      by_cases q : t = i
      · rw [if_pos ⟨rfl, q⟩, q]
      · rw [if_neg (fun z => q z.2)]
        exact a1.2.2 t (by omega)
  · rintro ⟨y1, y2, y3, a⟩ ⟨rfl, rfl, rfl, a1⟩
    dsimp only at a1 ⊢
    unfold mb_X6_least_9
    rw [p_thingMany, a1.s.w]
    refine pw_bind (pw_some ?_)
    dsimp only
    refine pw_t (by rw [iI_le (by omega) (by omega)]; omega) (pw_map ?_)
    unfold ml_X6_least_40
    refine pw_for (fun (i : Nat) (q : Int32 × Int32 × Int32 × MM) => q = (litS m, iI (lsB m i), iI i, a)) (2 ^ things m) ?_ ?_ rfl
    · rintro i q hi rfl
      dsimp only
      have hlb := lsB_b m i
      have e1 : iI (i : Int) + (1 : Int32) = iI ((i + 1 : Nat) : Int) := by rw [iI_lit, iI_add]; rfl
      have ei : iI (i : Int) = nI i := iI_nI i
      have skip : lsB m (i + 1) = lsB m i → pw (mj_X6_least_131 (litS m) (iI (lsB m i)) (iI i) a) (Sum.elim (fun q : Int32 × Int32 × Int32 × MM => q = (litS m, iI (lsB m (i + 1)), iI ((i + 1 : Nat) : Int), a)) (fun q => q.1 = iI (lsB m (2 ^ things m)) ∧ mSc m q.2)) := by
        intro e
        unfold mj_X6_least_131
        refine pw_let (pw_some ?_)
        show (litS m, iI (lsB m i), iI i + (1 : Int32), a) = _
        rw [e, e1]
      have test : nI i &&& (litS m ^^^ (-1 : Int32)) = 0 → (lsB m i = -1 ∨ popN i < popN (lsB m i).toNat) → pw (mj_X6_least_77 (litS m) (iI (lsB m i)) (iI i) a) (Sum.elim (fun q : Int32 × Int32 × Int32 × MM => q = (litS m, iI (lsB m (i + 1)), iI ((i + 1 : Nat) : Int), a)) (fun q => q.1 = iI (lsB m (2 ^ things m)) ∧ mSc m q.2)) := by
        intro w1 w2
        unfold mj_X6_least_77 ml_X6_least_83
        refine pw_for (fun (k : Nat) (q : Int32 × Int32 × Int32 × Int32 × Int32 × MM) => q = (litS m, iI (lsB m i), iI i, byF m (nI i) k, iI k, a)) (things m) ?_ ?_ rfl
        · rintro k q hk rfl
          dsimp only
          have ek : iI (k : Int) + (1 : Int32) = iI ((k + 1 : Nat) : Int) := by rw [iI_lit, iI_add]; rfl
          have gk : gz_ix (iI (k : Int)) = k := by rw [gix (by omega)]; omega
          unfold mb_X6_least_83 mj_X6_least_114
          rw [p_thingMany, a1.s.w]
          refine pw_bind (pw_some ?_)
          dsimp only
          refine pw_f (by rw [iI_le (by omega) (by omega)]; omega) ?_
          by_cases q1 : bt (nI i) k = true
          · refine pw_t (by rw [ei]; exact (has_bt _ (by omega)).2 q1) (pw_gu ((gin_iI (by omega)).2 (by omega)) (pw_let (pw_let (pw_some ?_))))
            show (litS m, iI (lsB m i), iI i, byF m (nI i) k ||| a.1 1055 (gz_ix (iI k)), iI k + (1 : Int32), a) = _
            rw [gk, a1.2.2 k hk, ek, byF_s, if_pos q1]
          · refine pw_f (fun z => q1 (by rw [ei] at z; exact (has_bt _ (by omega)).1 z)) (pw_let (pw_some ?_))
            show (litS m, iI (lsB m i), iI i, byF m (nI i) k, iI k + (1 : Int32), a) = _
            rw [ek, byF_s, if_neg q1]
        · rintro q rfl
          dsimp only
          unfold mb_X6_least_83 mj_X6_least_131
          rw [p_thingMany, a1.s.w]
          refine pw_bind (pw_some ?_)
          dsimp only
          refine pw_t (by rw [iI_le (by omega) (by omega)]; omega) ?_
          by_cases q1 : litS m &&& (byF m (nI i) (things m) ^^^ (-1 : Int32)) = 0
          · refine pw_t q1 (pw_map (pw_let (pw_some ?_)))
            show (litS m, iI i, iI i + (1 : Int32), a) = (litS m, iI (lsN m (lsB m i) i), _, a)
            unfold lsN
            rw [if_pos ⟨w1, w2, q1⟩, e1]
          · refine pw_f q1 (pw_map (pw_let (pw_some ?_)))
            show (litS m, iI (lsB m i), iI i + (1 : Int32), a) = (litS m, iI (lsN m (lsB m i) i), _, a)
            unfold lsN
            rw [if_neg (fun z => q1 z.2.2), e1]
      unfold mb_X6_least_40
      rw [p_thingMany, a1.s.w]
      refine pw_bind (pw_some ?_)
      dsimp only
      rw [← hth, shl_pow _ h8]
      refine pw_f (by rw [iI_le (by omega) (by omega)]; omega) ?_
      by_cases q1 : nI i &&& (litS m ^^^ (-1 : Int32)) = 0
      · refine pw_t (by rw [ei]; exact q1) ?_
        by_cases q2 : lsB m i = -1
        · exact pw_t (by rw [q2]; decide) (test q1 (Or.inl q2))
        · refine pw_f (by rw [em1, iI_eq (by omega) (by omega)]; exact q2) ?_
          have eb : iI (lsB m i) = nI (lsB m i).toNat := by
            rw [← iI_nI]
            exact congrArg iI (by omega)
          have p1 := p_bits (n := i) (by omega) a
          have p2 := p_bits (n := (lsB m i).toNat) (by omega) a
          rw [← ei] at p1
          rw [← eb] at p2
          have l1 := popN_lt i
          have l2 := popN_lt (lsB m i).toNat
          rw [p1]
          refine pw_bind (pw_some ?_)
          dsimp only
          rw [p2]
          refine pw_bind (pw_some ?_)
          dsimp only
          by_cases q3 : popN i < popN (lsB m i).toNat
          · exact pw_t (by rw [← iI_nI, ← iI_nI, iI_lt (by omega) (by omega)]; omega) (test q1 (Or.inr q3))
          · refine pw_f (by rw [← iI_nI, ← iI_nI, iI_lt (by omega) (by omega)]; omega) (skip ?_)
            show lsN m (lsB m i) i = _
            unfold lsN
            rw [if_neg (fun z => z.2.1.elim q2 q3)]
      · refine pw_f (by rw [ei]; exact q1) (skip ?_)
        show lsN m (lsB m i) i = _
        unfold lsN
        rw [if_neg (fun z => q1 z.1)]
    · rintro q rfl
      dsimp only
      unfold mb_X6_least_40
      rw [p_thingMany, a1.s.w]
      refine pw_bind (pw_some ?_)
      dsimp only
      rw [← hth, shl_pow _ h8]
      exact pw_t (Int32.le_refl _) (pw_some ⟨rfl, a1.sc hN⟩)
theorem c_least {m : MM} {μ : gM} (h : rHH m μ) (h6 : rSt m μ 1027) : cf_X0_least μ = some (iI (lsB m (2 ^ things m)), μ) := by
  have hb := h.1.2.1
  have h8 : things m ≤ 8 := by unfold things; omega
  have hth : (things m : Int) = mi m 1038 7 := by unfold things; omega
  have hp8 : 2 ^ things m ≤ 2 ^ 8 := Nat.pow_le_pow_right (by omega) h8
  have em1 : (-1 : Int32) = iI (-1) := by decide
  have key : pw (cf_X0_least μ) (fun q => q = (iI (lsB m (2 ^ things m)), μ)) := by
    unfold cf_X0_least
    rw [c_lit h (fun t ht => (h6.2.2.2.2 t ht).1)]
    refine pw_bind (pw_some ?_)
    dsimp only
    unfold ml_X0_least_12
    refine pw_for (fun (i : Nat) (q : Int32 × Int32 × Int32 × gM) => q = (litS m, iI (lsB m i), iI i, μ)) (2 ^ things m) ?_ ?_ rfl
    · rintro i q hi rfl
      dsimp only
      have hlb := lsB_b m i
      have e1 : iI (i : Int) + (1 : Int32) = iI ((i + 1 : Nat) : Int) := by rw [iI_lit, iI_add]; rfl
      have ei : iI (i : Int) = nI i := iI_nI i
      have skip : lsB m (i + 1) = lsB m i → pw (mj_X0_least_108 (litS m) (iI (lsB m i)) (iI i) μ) (Sum.elim (fun q : Int32 × Int32 × Int32 × gM => q = (litS m, iI (lsB m (i + 1)), iI ((i + 1 : Nat) : Int), μ)) (fun q => q = (iI (lsB m (2 ^ things m)), μ))) := by
        intro e
        unfold mj_X0_least_108
        refine pw_let (pw_some ?_)
        show (litS m, iI (lsB m i), iI i + (1 : Int32), μ) = _
        rw [e, e1]
      have test : nI i &&& (litS m ^^^ (-1 : Int32)) = 0 → (lsB m i = -1 ∨ popN i < popN (lsB m i).toNat) → pw (mj_X0_least_49 (litS m) (iI (lsB m i)) (iI i) μ) (Sum.elim (fun q : Int32 × Int32 × Int32 × gM => q = (litS m, iI (lsB m (i + 1)), iI ((i + 1 : Nat) : Int), μ)) (fun q => q = (iI (lsB m (2 ^ things m)), μ))) := by
        intro w1 w2
        unfold mj_X0_least_49 ml_X0_least_55
        refine pw_for (fun (k : Nat) (q : Int32 × Int32 × Int32 × Int32 × Int32 × gM) => q = (litS m, iI (lsB m i), iI i, ouF m (nI i) k, iI k, μ)) (things m) ?_ ?_ (by rw [ei]; rfl)
        · rintro k q hk rfl
          dsimp only
          have ek : iI (k : Int) + (1 : Int32) = iI ((k + 1 : Nat) : Int) := by rw [iI_lit, iI_add]; rfl
          unfold mb_X0_least_55 mj_X0_least_88
          rw [c_things h]
          refine pw_bind (pw_some ?_)
          dsimp only
          refine pw_f (by rw [iI_le (by omega) (by omega)]; omega) ?_
          rw [c_has _ _ (by omega), ei]
          refine pw_bind (pw_some ?_)
          dsimp only
          by_cases q1 : bt (nI i) k = true
          · rw [if_pos q1]
            refine pw_f n10 ?_
            rw [c_along h h6.2.2.1 (by omega)]
            refine pw_bind (pw_some (pw_let (pw_let (pw_some ?_))))
            show (litS m, iI (lsB m i), nI i, ouF m (nI i) k ||| endsS m k, iI k + (1 : Int32), μ) = _
            rw [ek, ouF_s, if_pos q1]
          · rw [if_neg q1]
            refine pw_t rfl (pw_let (pw_let (pw_some ?_)))
            show (litS m, iI (lsB m i), nI i, ouF m (nI i) k ||| (0 : Int32), iI k + (1 : Int32), μ) = _
            rw [ek, ouF_s, if_neg q1, or_0]
        · rintro q rfl
          dsimp only
          unfold mb_X0_least_55 mj_X0_least_108
          rw [c_things h]
          refine pw_bind (pw_some ?_)
          dsimp only
          refine pw_t (by rw [iI_le (by omega) (by omega)]; omega) ?_
          rw [ou_eq h8 (fun k hk hnk => set_bt h8 hi hk hnk)]
          by_cases q1 : litS m &&& (byF m (nI i) (things m) ^^^ (-1 : Int32)) = 0
          · refine pw_t q1 (pw_map (pw_let (pw_some ?_)))
            show (litS m, iI i, iI i + (1 : Int32), μ) = (litS m, iI (lsN m (lsB m i) i), _, μ)
            unfold lsN
            rw [if_pos ⟨w1, w2, q1⟩, e1]
          · refine pw_f q1 (pw_map (pw_let (pw_some ?_)))
            show (litS m, iI (lsB m i), iI i + (1 : Int32), μ) = (litS m, iI (lsN m (lsB m i) i), _, μ)
            unfold lsN
            rw [if_neg (fun z => q1 z.2.2), e1]
      unfold mb_X0_least_12
      rw [c_things h]
      refine pw_bind (pw_some ?_)
      dsimp only
      rw [← hth, shl_pow _ h8]
      refine pw_f (by rw [iI_le (by omega) (by omega)]; omega) ?_
      by_cases q1 : nI i &&& (litS m ^^^ (-1 : Int32)) = 0
      · refine pw_t (by rw [ei]; exact q1) ?_
        by_cases q2 : lsB m i = -1
        · exact pw_t (by rw [q2]; decide) (test q1 (Or.inl q2))
        · refine pw_f (by rw [em1, iI_eq (by omega) (by omega)]; exact q2) ?_
          have eb : iI (lsB m i) = nI (lsB m i).toNat := by
            rw [← iI_nI]
            exact congrArg iI (by omega)
          have p1 := c_bitCount (n := i) (by omega) μ
          have p2 := c_bitCount (n := (lsB m i).toNat) (by omega) μ
          rw [← ei] at p1
          rw [← eb] at p2
          have l1 := popN_lt i
          have l2 := popN_lt (lsB m i).toNat
          rw [p1]
          refine pw_bind (pw_some ?_)
          dsimp only
          rw [p2]
          refine pw_bind (pw_some ?_)
          dsimp only
          by_cases q3 : popN i < popN (lsB m i).toNat
          · exact pw_t (by rw [← iI_nI, ← iI_nI, iI_lt (by omega) (by omega)]; omega) (test q1 (Or.inr q3))
          · refine pw_f (by rw [← iI_nI, ← iI_nI, iI_lt (by omega) (by omega)]; omega) (skip ?_)
            show lsN m (lsB m i) i = _
            unfold lsN
            rw [if_neg (fun z => z.2.1.elim q2 q3)]
      · refine pw_f (by rw [ei]; exact q1) (skip ?_)
        show lsN m (lsB m i) i = _
        unfold lsN
        rw [if_neg (fun z => q1 z.1)]
    · rintro q rfl
      dsimp only
      unfold mb_X0_least_12
      rw [c_things h]
      refine pw_bind (pw_some ?_)
      dsimp only
      rw [← hth, shl_pow _ h8]
      exact pw_t (Int32.le_refl _) (pw_some rfl)
  obtain ⟨r, e1, e2⟩ := key
  rw [e1, e2]
theorem e_least {l : List (Int × Int × Int)} {m : MM} {μ : gM} (h : rCo l m μ) : eO (mf_least m) (cf_X0_least μ) m μ :=
  eO.of _ (p_least (tieOK.of h.2.1) h.2.2.2.2.1) ⟨_, c_least h.2.1 h.2.2.2.2.2.1, rfl, cSc.refl μ, h.2.2.2.2.2.2.2.2.1⟩
