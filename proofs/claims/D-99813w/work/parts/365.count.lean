/-! ===== sets of things are counted ===== -/
def popB (f : Nat → Bool) : Nat → Nat
  | 0 => 0
  | i + 1 => popB f i + (if f i = true then 1 else 0)
theorem popB_le (f : Nat → Bool) : ∀ i : Nat, popB f i ≤ i
  | 0 => Nat.le_refl _
  | i + 1 => by
    have := popB_le f i
    show popB f i + (if f i = true then 1 else 0) ≤ i + 1
    split <;> omega
theorem popB_eq {f g : Nat → Bool} : ∀ i : Nat, (∀ k, k < i → f k = g k) → popB f i = popB g i
  | 0, _ => rfl
  | i + 1, h => by
    show popB f i + (if f i = true then 1 else 0) = popB g i + (if g i = true then 1 else 0)
    rw [popB_eq i (fun k hk => h k (by omega)), h i (by omega)]
theorem popB_add {f : Nat → Bool} {i : Nat} : ∀ j : Nat, (∀ k, i ≤ k → k < i + j → f k = false) → popB f (i + j) = popB f i
  | 0, _ => rfl
  | j + 1, h => by
    show popB f (i + j) + (if f (i + j) = true then 1 else 0) = popB f i
    rw [popB_add j (fun k h1 h2 => h k h1 (by omega)), h (i + j) (by omega) (by omega)]
    rfl
def popN (n : Nat) : Nat := popB n.testBit 12
def bcE (x0 : Int32) : Int32 :=
  let y1 := x0 - (((x0.toUInt32 >>> ((1 : Int32).toUInt32 &&& Int32.toUInt32 31)).toInt32) &&& (1431655765 : Int32))
  let y2 := (y1 &&& (858993459 : Int32)) + (((y1.toUInt32 >>> ((2 : Int32).toUInt32 &&& Int32.toUInt32 31)).toInt32) &&& (858993459 : Int32))
  let y3 := (y2 + ((y2.toUInt32 >>> ((4 : Int32).toUInt32 &&& Int32.toUInt32 31)).toInt32)) &&& (252645135 : Int32)
  let y4 := y3 + ((y3.toUInt32 >>> ((8 : Int32).toUInt32 &&& Int32.toUInt32 31)).toInt32)
  let y5 := y4 + ((y4.toUInt32 >>> ((16 : Int32).toUInt32 &&& Int32.toUInt32 31)).toInt32)
  y5 &&& (63 : Int32)
def popT (n : Nat) : Bool := (n == 0 || (!(nI n == 0) && (nI n &&& (nI n - 1)) == nI (n &&& (n - 1)) && popN (n &&& (n - 1)) + 1 == popN n && Nat.blt (n &&& (n - 1)) 4096)) && bcE (nI n) == nI (popN n)
theorem popT_all : (List.range 64).all (fun a => (List.range 64).all (fun b => popT (64 * a + b))) = true := by decide +kernel
theorem popT_of {n : Nat} (h : n < 4096) : popT n = true := by
  have h1 := List.all_eq_true.mp popT_all (n / 64) (List.mem_range.mpr (by omega))
  have h2 := List.all_eq_true.mp h1 (n % 64) (List.mem_range.mpr (by omega))
  rw [show 64 * (n / 64) + n % 64 = n by omega] at h2
  exact h2
theorem c_bitCount {n : Nat} (h : n < 4096) (μ : gM) : cf_J16_bitCount (nI n) μ = some (nI (popN n), μ) := by
  have h1 := popT_of h
  unfold popT at h1
  rw [Bool.and_eq_true] at h1
  have h2 : bcE (nI n) = nI (popN n) := eq_of_beq h1.2
  rw [← h2]
  rfl
theorem pop_step {n : Nat} (h : n < 4096) (h0 : n ≠ 0) : nI n ≠ 0 ∧ (nI n &&& (nI n - 1)) = nI (n &&& (n - 1)) ∧ popN (n &&& (n - 1)) + 1 = popN n ∧ (n &&& (n - 1)) < 4096 := by
  have h1 := popT_of h
  unfold popT at h1
  rw [Bool.and_eq_true, Bool.or_eq_true] at h1
  rcases h1.1 with z | z
  · exact absurd (eq_of_beq z) h0
  · simp only [Bool.and_eq_true, Bool.not_eq_true', beq_eq_false_iff_ne, beq_iff_eq] at z
    obtain ⟨⟨⟨a, b⟩, c⟩, d⟩ := z
    exact ⟨a, b, c, Nat.lt_of_lt_of_le (Nat.lt_succ_self _) (Nat.le_of_ble_eq_true d)⟩
theorem p_bits {n : Nat} (h : n < 4096) (m : MM) : mf_bits (nI n) m = some (nI (popN n), m) := by
  have key : pw (mf_bits (nI n) m) (fun r => r = (nI (popN n), m)) := by
    unfold mf_bits ml_X6_bits_4
    refine pw_loop (fun q : Int32 × Int32 × MM => ∃ a b : Nat, b < 4096 ∧ a + popN b = popN n ∧ q = (nI a, nI b, m)) (fun q => popN q.2.1.toNatClampNeg) ?_ ⟨0, n, h, Nat.zero_add _, rfl⟩
    rintro q ⟨a, b, hb, hab, rfl⟩
    dsimp only
    have hb2 : (nI b).toNatClampNeg = b := by rw [← iI_nI, ix_iI (by omega)]; omega
    unfold mb_X6_bits_4
    by_cases q0 : b = 0
    · subst q0
      refine pw_t rfl (pw_some ?_)
      show (nI a, m) = _
      rw [← hab]
      rfl
    · obtain ⟨p1, p2, p3, p4⟩ := pop_step hb q0
      refine pw_f p1 (pw_let (pw_let (pw_some ?_)))
      have e1 : nI a + (1 : Int32) = nI (a + 1) := by rw [← iI_nI, ← iI_nI, iI_lit, iI_add]; rfl
      rw [p2, e1]
      refine ⟨⟨a + 1, b &&& (b - 1), p4, by omega, rfl⟩, ?_⟩
      have hb3 : (nI (b &&& (b - 1))).toNatClampNeg = b &&& (b - 1) := by rw [← iI_nI, ix_iI (by omega)]; omega
      show popN (nI (b &&& (b - 1))).toNatClampNeg < popN (nI b).toNatClampNeg
      rw [hb2, hb3]
      omega
  obtain ⟨r, e1, e2⟩ := key
  rw [e1, e2]
/-- a set of at most twelve as a number -/
theorem s12_ex {s : Int32} (h : ∀ i : Nat, 12 ≤ i → i < 32 → bt s i = false) : ∃ n : Nat, n < 4096 ∧ s = nI n ∧ ∀ k : Nat, k < 32 → n.testBit k = bt s k := by
  have hl : s.toBitVec.toNat < 2 ^ 32 := s.toBitVec.isLt
  have hb : ∀ k, s.toBitVec.toNat.testBit k = s.toBitVec.getLsbD k := fun k => rfl
  refine ⟨s.toBitVec.toNat, ?_, ?_, fun k hk => ?_⟩
  · apply Nat.lt_pow_two_of_testBit (n := 12)
    intro i hi
    by_cases q : i < 32
    · have := h i hi q
      exact this
    · exact Nat.testBit_lt_two_pow (Nat.lt_of_lt_of_le hl (Nat.pow_le_pow_right (by omega) (by omega)))
  · apply Int32.toBitVec_inj.mp
    apply BitVec.eq_of_toNat_eq
    show _ = (BitVec.ofNat 32 s.toBitVec.toNat).toNat
    rw [BitVec.toNat_ofNat, Nat.mod_eq_of_lt hl]
  · rfl
/-! the set of those that burn -/
def litF (m : MM) : Nat → Int32
  | 0 => 0
  | i + 1 => if 0 < mi m 1051 (14 + 2 * i) then litF m i ||| ((1 : Int32) <<< (iI i &&& 31)) else litF m i
def litS (m : MM) : Int32 := litF m (things m)
theorem litF_bt (m : MM) : ∀ (i : Nat), i ≤ 8 → ∀ k : Nat, k < 32 → bt (litF m i) k = decide (k < i ∧ 0 < mi m 1051 (14 + 2 * k))
  | 0, _, k, hk => by
    rw [decide_eq_false (by omega)]
    exact (by decide +kernel : ∀ k, k < 32 → bt (0 : Int32) k = false) k hk
  | i + 1, hi, k, hk => by
    have ih := litF_bt m i (by omega) k hk
    show bt (if 0 < mi m 1051 (14 + 2 * i) then litF m i ||| ((1 : Int32) <<< (iI i &&& 31)) else litF m i) k = _
    by_cases q : 0 < mi m 1051 (14 + 2 * i)
    · rw [if_pos q, bt_or1 _ (by omega) hk, ih]
      by_cases z : k = i
      · subst z
        rw [decide_eq_true (show k < k + 1 ∧ 0 < mi m 1051 (14 + 2 * k) from ⟨by omega, q⟩)]
        simp
      · have : (k < i + 1 ∧ 0 < mi m 1051 (14 + 2 * k)) ↔ (k < i ∧ 0 < mi m 1051 (14 + 2 * k)) := by omega
        simp [z, this]
    · rw [if_neg q, ih]
      by_cases z : k = i
      · subst z
        rw [decide_eq_false (by omega), decide_eq_false (by omega)]
      · have : (k < i + 1 ∧ 0 < mi m 1051 (14 + 2 * k)) ↔ (k < i ∧ 0 < mi m 1051 (14 + 2 * k)) := by omega
        simp [this]
theorem litS_bt {m : MM} (h : rMany m) {k : Nat} (hk : k < 32) : bt (litS m) k = decide ((k : Int) < mi m 1038 7 ∧ 0 < mi m 1051 (14 + 2 * k)) := by
  have hb := h.2.1
  unfold litS
  rw [litF_bt m _ (by unfold things; omega) k hk]
  have : (k < things m ∧ 0 < mi m 1051 (14 + 2 * k)) ↔ ((k : Int) < mi m 1038 7 ∧ 0 < mi m 1051 (14 + 2 * k)) := by unfold things; omega
  simp [this]
theorem litS_8 {m : MM} (h : rMany m) : s8 (litS m) := fun i h1 h2 => by
  have hb := h.2.1
  rw [litS_bt h h2, decide_eq_false (by omega)]
theorem p_burningSet {m : MM} (h : rMany m) : mf_burningSet m = some (litS m, m) := by
  have hb := h.2.1
  have key : pw (mf_burningSet m) (fun r => r = (litS m, m)) := by
    unfold mf_burningSet ml_X6_burningSet_4
    refine pw_for (fun (i : Nat) (q : Int32 × Int32 × MM) => q = (litF m i, iI i, m)) (things m) ?_ ?_ rfl
    · rintro i q hi rfl
      dsimp only
      have e1 : iI (i : Int) + (1 : Int32) = iI ((i + 1 : Nat) : Int) := by rw [iI_lit, iI_add]; rfl
      unfold mb_X6_burningSet_4 mj_X6_burningSet_26
      rw [p_thingMany]
      refine pw_bind (pw_some ?_)
      dsimp only
      unfold things at hi
      refine pw_f (by rw [iI_le (by omega) (by omega)]; omega) ?_
      rw [p_doesBurn (by omega)]
      refine pw_bind (pw_some ?_)
      dsimp only
      by_cases q : 0 < mi m 1051 (14 + 2 * i)
      · rw [if_pos q]
        refine pw_f (by decide) (pw_let (pw_let (pw_some ?_)))
        show (_, iI i + (1 : Int32), m) = _
        rw [e1]
        show _ = ((if 0 < mi m 1051 (14 + 2 * i) then litF m i ||| ((1 : Int32) <<< (iI i &&& 31)) else litF m i), _, m)
        rw [if_pos q]
      · rw [if_neg q]
        refine pw_t rfl (pw_let (pw_some ?_))
        show (_, iI i + (1 : Int32), m) = _
        rw [e1]
        show _ = ((if 0 < mi m 1051 (14 + 2 * i) then litF m i ||| ((1 : Int32) <<< (iI i &&& 31)) else litF m i), _, m)
        rw [if_neg q]
    · rintro q rfl
      dsimp only
      unfold mb_X6_burningSet_4
      rw [p_thingMany]
      refine pw_bind (pw_some ?_)
      dsimp only
      exact pw_t (by rw [iI_le (by omega) (by unfold things; omega)]; unfold things; omega) (pw_some rfl)
  obtain ⟨r, e1, e2⟩ := key
  rw [e1, e2]
theorem or_0 (s : Int32) : s ||| (0 : Int32) = s := by
  apply Int32.toBitVec_inj.mp
  show s.toBitVec ||| (0 : BitVec 32) = s.toBitVec
  exact BitVec.or_zero
theorem c_lit {m : MM} {μ : gM} (h : rHH m μ) {x : Nat} (hs : ∀ t : Nat, (t : Int) < mi m 1038 7 → gI μ (x + 1) t = m.1 1051 (14 + 2 * t)) : cf_X5_lit x μ = some (litS m, μ) := by
  have hb := h.1.2.1
  have key : pw (cf_X5_lit x μ) (fun r => r = (litS m, μ)) := by
    unfold cf_X5_lit ml_X5_lit_4
    refine pw_for (fun (i : Nat) (q : Int32 × Int32 × gM) => q = (litF m i, iI i, μ)) (things m) ?_ ?_ rfl
    · rintro i q hi rfl
      dsimp only
      have e1 : iI (i : Int) + (1 : Int32) = iI ((i + 1 : Nat) : Int) := by rw [iI_lit, iI_add]; rfl
      unfold mb_X5_lit_4 mj_X5_lit_31
      rw [c_things h]
      refine pw_bind (pw_some ?_)
      dsimp only
      unfold things at hi
      refine pw_f (by rw [iI_le (by omega) (by omega)]; omega) ?_
      rw [c_isLit (by omega) (hs i (by omega))]
      refine pw_bind (pw_some ?_)
      dsimp only
      by_cases q : 0 < mi m 1051 (14 + 2 * i)
      · rw [if_pos q]
        refine pw_f (by decide) (pw_let (pw_let (pw_some ?_)))
        show (_, iI i + (1 : Int32), μ) = _
        rw [e1]
        show _ = ((if 0 < mi m 1051 (14 + 2 * i) then litF m i ||| ((1 : Int32) <<< (iI i &&& 31)) else litF m i), _, μ)
        rw [if_pos q]
      · rw [if_neg q]
        refine pw_t rfl (pw_let (pw_let (pw_some ?_)))
        show (litF m i ||| (0 : Int32), iI i + (1 : Int32), μ) = _
        rw [e1, or_0]
        show _ = ((if 0 < mi m 1051 (14 + 2 * i) then litF m i ||| ((1 : Int32) <<< (iI i &&& 31)) else litF m i), _, μ)
        rw [if_neg q]
    · rintro q rfl
      dsimp only
      unfold mb_X5_lit_4
      rw [c_things h]
      refine pw_bind (pw_some ?_)
      dsimp only
      exact pw_t (by rw [iI_le (by omega) (by unfold things; omega)]; unfold things; omega) (pw_some rfl)
  obtain ⟨r, e1, e2⟩ := key
  rw [e1, e2]
def holdB (m : MM) (k : Nat) : Bool := decide (mi m 1051 (2 + k) = 1)
theorem p_holdMany {m : MM} (h : rMany m) : mf_holdMany m = some (nI (popB (holdB m) (ties m)), m) := by
  have hb := h.2.2.2.1
  have key : pw (mf_holdMany m) (fun r => r = (nI (popB (holdB m) (ties m)), m)) := by
    unfold mf_holdMany ml_X6_holdMany_4
    refine pw_for (fun (i : Nat) (q : Int32 × Int32 × MM) => q = (nI (popB (holdB m) i), iI i, m)) (ties m) ?_ ?_ rfl
    · rintro i q hi rfl
      dsimp only
      have e1 : iI (i : Int) + (1 : Int32) = iI ((i + 1 : Nat) : Int) := by rw [iI_lit, iI_add]; rfl
      unfold mb_X6_holdMany_4 mj_X6_holdMany_23
      rw [p_tieMany]
      refine pw_bind (pw_some ?_)
      dsimp only
      unfold ties at hi
      refine pw_f (by rw [iI_le (by omega) (by omega)]; omega) ?_
      rw [p_doesHold (by omega)]
      refine pw_bind (pw_some ?_)
      dsimp only
      by_cases q : mi m 1051 (2 + i) = 1
      · rw [if_pos q]
        refine pw_f (by decide) (pw_let (pw_let (pw_some ?_)))
        show (nI (popB (holdB m) i) + (1 : Int32), iI i + (1 : Int32), m) = (nI (popB (holdB m) i + (if holdB m i = true then 1 else 0)), _, m)
        rw [e1, if_pos (show holdB m i = true from decide_eq_true q), ← iI_nI, ← iI_nI, iI_lit, iI_add]
        rfl
      · rw [if_neg q]
        refine pw_t rfl (pw_let (pw_some ?_))
        show (nI (popB (holdB m) i), iI i + (1 : Int32), m) = (nI (popB (holdB m) i + (if holdB m i = true then 1 else 0)), _, m)
        rw [e1, if_neg (fun z : holdB m i = true => q (of_decide_eq_true z))]
        rfl
    · rintro q rfl
      dsimp only
      unfold mb_X6_holdMany_4
      rw [p_tieMany]
      refine pw_bind (pw_some ?_)
      dsimp only
      exact pw_t (by rw [iI_le (by omega) (by unfold ties; omega)]; unfold ties; omega) (pw_some rfl)
  obtain ⟨r, e1, e2⟩ := key
  rw [e1, e2]
