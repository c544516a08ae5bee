/-! ===== sets as bits; all that go out with a thing ===== -/
theorem bt_1 (i : Nat) (hi : i < 32) : bt (1 : Int32) i = decide (i = 0) := (by decide +kernel : ∀ i, i < 32 → bt (1 : Int32) i = decide (i = 0)) i hi
theorem has_bt (s : Int32) {k : Nat} (hk : k < 32) : (((s >>> (iI k &&& 31)) &&& (1 : Int32)) = (1 : Int32)) ↔ bt s k = true := by
  rw [iI_nI]
  constructor
  · intro h
    have h1 : bt ((s >>> (nI k &&& 31)) &&& (1 : Int32)) 0 = true := by rw [h]; decide
    rw [b_and, b_sshr k hk s (by omega), if_pos (by omega)] at h1
    have h2 : bt s (k + 0) = true ∧ bt 1 0 = true := by simpa using h1
    exact h2.1
  · intro h
    refine b_ext fun i hi => ?_
    rw [b_and, bt_1 i hi]
    by_cases h0 : i = 0
    · subst h0
      rw [b_sshr k hk s (by omega), if_pos (by omega)]
      simpa using h
    · simp [h0]
theorem bt_or1 (s : Int32) {t i : Nat} (ht : t < 32) (hi : i < 32) : bt (s ||| ((1 : Int32) <<< (iI t &&& 31))) i = (bt s i || decide (i = t)) := by
  rw [iI_nI, b_or, b_shl t ht 1 hi]
  by_cases h : t ≤ i
  · rw [bt_1 (i - t) (by omega)]
    simp only [decide_eq_true h, Bool.true_and]
    congr 1
    simp only [decide_eq_decide]
    omega
  · simp only [decide_eq_false h, Bool.false_and]
    congr 1
    symm
    simp only [decide_eq_false_iff_not]
    omega
theorem bt_1t {t i : Nat} (ht : t < 32) (hi : i < 32) : bt ((1 : Int32) <<< (iI t &&& 31)) i = decide (i = t) := by
  have h := bt_or1 0 ht hi
  rw [b_or, b_0] at h
  simpa using h
theorem c_has (μ : gM) (s : Int32) {k : Nat} (hk : k < 32) : cf_X0_has s (iI k) μ = some (if bt s k = true then 1 else 0, μ) := by
  unfold cf_X0_has
  by_cases h : bt s k = true
  · rw [if_pos ((has_bt s hk).mpr h), if_pos h]
  · rw [if_neg (fun e => h ((has_bt s hk).mp e)), if_neg h]
/-- a set of things: the first eight bits -/
def s8 (s : Int32) : Prop := ∀ i : Nat, 8 ≤ i → i < 32 → bt s i = false
theorem s8_or {s : Int32} (h : s8 s) {t : Nat} (ht : t < 8) : s8 (s ||| ((1 : Int32) <<< (iI t &&& 31))) := by
  intro i h1 h2
  rw [bt_or1 s (by omega) h2, h i h1 h2]
  simp
  omega
theorem s8_1 {t : Nat} (ht : t < 8) : s8 ((1 : Int32) <<< (iI t &&& 31)) := by
  intro i h1 h2
  rw [bt_1t (by omega) h2]
  simp
  omega
/-- how many of the eight are wanting -/
def czf (s : Int32) : Nat → Nat
  | 0 => 0
  | k + 1 => czf s k + (if bt s k = true then 0 else 1)
theorem czf_le {s s' : Int32} (h : ∀ i, i < 8 → bt s i = true → bt s' i = true) : ∀ k, k ≤ 8 → czf s' k ≤ czf s k
  | 0, _ => Nat.le_refl _
  | k + 1, hk => by
    have h1 := czf_le h k (by omega)
    have h2 := h k (by omega)
    unfold czf
    by_cases a : bt s k = true
    · rw [if_pos a, if_pos (h2 a)]; omega
    · rw [if_neg a]; split <;> omega
theorem czf_lt {s s' : Int32} (h : ∀ i, i < 8 → bt s i = true → bt s' i = true) {t : Nat} (h1 : bt s t = false) (h2 : bt s' t = true) : ∀ k, k ≤ 8 → t < k → czf s' k < czf s k
  | 0, _, ht => absurd ht (Nat.not_lt_zero _)
  | k + 1, hk, ht => by
    have h4 := h k (by omega)
    unfold czf
    by_cases e : t = k
    · subst e
      have h3 := czf_le h t (by omega)
      rw [if_pos h2, if_neg (by rw [h1]; decide)]; omega
    · have h3 := czf_lt h h1 h2 k (by omega) (by omega)
      by_cases a : bt s k = true
      · rw [if_pos a, if_pos (h4 a)]; omega
      · rw [if_neg a]; split <;> omega
theorem czf_8 (s : Int32) : czf s 8 ≤ 8 := by
  have : ∀ k, czf s k ≤ k := by
    intro k
    induction k with
    | zero => exact Nat.le_refl _
    | succ k ih => unfold czf; split <;> omega
  exact this 8
theorem s8_ext {s s' : Int32} (h : s8 s) (h' : s8 s') (he : ∀ i, i < 8 → bt s i = bt s' i) : s = s' := b_ext fun i hi => by
  by_cases h8 : i < 8
  · exact he i h8
  · rw [h i (by omega) hi, h' i (by omega) hi]
/-- a bigger set that is another has less wanting -/
theorem czf_gr {s s' : Int32} (h1 : s8 s) (h2 : s8 s') (h : ∀ i, i < 8 → bt s i = true → bt s' i = true) (hne : s' ≠ s) : czf s' 8 < czf s 8 := by
  by_cases hx : ∃ t, t < 8 ∧ bt s t = false ∧ bt s' t = true
  · obtain ⟨t, a, b, c⟩ := hx
    exact czf_lt h b c 8 (Nat.le_refl _) a
  · refine absurd (s8_ext h2 h1 fun i hi => ?_) hne
    by_cases a : bt s i = true
    · rw [a, h i hi a]
    · have a' : bt s i = false := by simpa using a
      rw [a']
      by_cases b : bt s' i = true
      · exact absurd ⟨i, hi, a', b⟩ hx
      · simpa using b
/-- one tie followed; all ties in a row; again and again -/
def tStep (m : MM) (k : Nat) (s : Int32) : Int32 := if mi m 1051 (2 + k) = 1 ∧ bt s (mi m 1043 (24 + 2 * k)).toNat = true then s ||| ((1 : Int32) <<< (iI (mi m 1043 (25 + 2 * k)) &&& 31)) else s
def tPass (m : MM) : Nat → Int32 → Int32
  | 0, s => s
  | k + 1, s => tStep m k (tPass m k s)
def tClo (m : MM) (K : Nat) : Nat → Int32 → Int32
  | 0, s => s
  | n + 1, s => if tPass m K s = s then s else tClo m K n (tPass m K s)
def ties (m : MM) : Nat := (mi m 1038 9).toNat
/-- all that go out with t -/
def endsS (m : MM) (t : Nat) : Int32 := tClo m (ties m) 9 ((1 : Int32) <<< (iI t &&& 31)) &&& (((1 : Int32) <<< (iI t &&& 31)) ^^^ (-1 : Int32))
def tieOK (m : MM) : Prop := rMany m ∧ ∀ k : Nat, (k : Int) < mi m 1038 9 → (0 ≤ mi m 1043 (24 + 2 * k) ∧ mi m 1043 (24 + 2 * k) < 8) ∧ (0 ≤ mi m 1043 (25 + 2 * k) ∧ mi m 1043 (25 + 2 * k) < 8)
theorem tieOK.of {m : MM} {μ : gM} (h : rHH m μ) : tieOK m := ⟨h.1, fun k hk => by
  have := h.2.2.2 k hk
  have := h.1.2.1
  omega⟩
theorem tStep_8 {m : MM} (h : tieOK m) {k : Nat} (hk : (k : Int) < mi m 1038 9) {s : Int32} (hs : s8 s) : s8 (tStep m k s) ∧ ∀ i, i < 8 → bt s i = true → bt (tStep m k s) i = true := by
  obtain ⟨-, b1, b2⟩ := h.2 k hk
  unfold tStep
  split
  · have e : mi m 1043 (25 + 2 * k) = ((mi m 1043 (25 + 2 * k)).toNat : Int) := by omega
    rw [e]
    refine ⟨s8_or hs (by omega), fun i hi hb => ?_⟩
    rw [bt_or1 s (by omega) (by omega), hb]
    rfl
  · exact ⟨hs, fun i _ h => h⟩
theorem tPass_8 {m : MM} (h : tieOK m) : ∀ (k : Nat), (k : Int) ≤ mi m 1038 9 → ∀ {s : Int32}, s8 s → s8 (tPass m k s) ∧ ∀ i, i < 8 → bt s i = true → bt (tPass m k s) i = true
  | 0, _, s, hs => ⟨hs, fun _ _ h => h⟩
  | k + 1, hk, s, hs => by
    obtain ⟨a, b⟩ := tPass_8 h k (by omega) hs
    obtain ⟨c, d⟩ := tStep_8 h (k := k) (by omega) a
    exact ⟨c, fun i hi hb => d i hi (b i hi hb)⟩
/-- the model's turn over all ties -/
theorem p_ends_in {m : MM} (h : tieOK m) (x1 s w : Int32) (hs : s8 s) : ml_X6_endsOf_16 x1 s w 0 m = some (Sum.inl (x1, tPass m (ties m) s, w, m)) := by
  have hb := h.1.2.2.2.1
  have key : pw (ml_X6_endsOf_16 x1 s w 0 m) (fun r => r = Sum.inl (x1, tPass m (ties m) s, w, m)) := by
    unfold ml_X6_endsOf_16
    refine pw_for (fun i q => q = (x1, tPass m i s, w, iI i, m)) (ties m) ?_ ?_ rfl
    · rintro i q hi rfl
      have hi' : (i : Int) < mi m 1038 9 := by unfold ties at hi; omega
      obtain ⟨⟨b1, b2⟩, b3, b4⟩ := h.2 i hi'
      obtain ⟨p8, -⟩ := tPass_8 h i (by omega) hs
      have e : mi m 1043 (24 + 2 * i) = ((mi m 1043 (24 + 2 * i)).toNat : Int) := by omega
      dsimp only
      unfold mb_X6_endsOf_16 mj_X6_endsOf_59
      rw [p_tieMany]
      refine pw_bind (pw_some ?_)
      dsimp only
      refine pw_f (by rw [iI_le (by omega) (by omega)]; omega) ?_
      rw [p_doesHold (by omega)]
      refine pw_bind (pw_some ?_)
      dsimp only
      have fin : ∀ s', s' = tPass m (i + 1) s → pw (gz_let (iI i + (1 : Int32)) fun y1 => (some (Sum.inl (x1, s', w, y1, m)) : Option ((Int32 × Int32 × Int32 × Int32 × MM) ⊕ ((Int32 × Int32 × Int32 × MM) ⊕ (Int32 × MM))))) (Sum.elim (fun q => q = (x1, tPass m (i + 1) s, w, iI ((i + 1 : Nat) : Int), m)) (fun r => r = Sum.inl (x1, tPass m (ties m) s, w, m))) := by
        intro s' hs'
        refine pw_let (pw_some ?_)
        show (x1, s', w, iI i + (1 : Int32), m) = _
        rw [hs', iI_lit, iI_add]
        rfl
      by_cases c1 : mi m 1051 (2 + i) = 1
      · rw [if_pos c1]
        refine pw_f (by decide) ?_
        rw [p_fromOf (by omega)]
        refine pw_bind (pw_some ?_)
        dsimp only
        rw [e]
        by_cases c2 : bt (tPass m i s) (mi m 1043 (24 + 2 * i)).toNat = true
        · refine pw_t ((has_bt _ (by omega)).mpr c2) ?_
          rw [p_toOf (by omega)]
          refine pw_bind (pw_some ?_)
          dsimp only
          refine pw_let ?_
          exact fin _ (by show _ = tStep m i (tPass m i s); unfold tStep; rw [if_pos ⟨c1, c2⟩])
        · refine pw_f (fun q => c2 ((has_bt _ (by omega)).mp q)) ?_
          exact fin _ (by show _ = tStep m i (tPass m i s); unfold tStep; rw [if_neg (fun q => c2 q.2)])
      · rw [if_neg c1]
        refine pw_t rfl ?_
        exact fin _ (by show _ = tStep m i (tPass m i s); unfold tStep; rw [if_neg (fun q => c1 q.1)])
    · rintro q rfl
      dsimp only
      unfold mb_X6_endsOf_16
      rw [p_tieMany]
      refine pw_bind (pw_some ?_)
      dsimp only
      refine pw_t (by rw [iI_le (by omega) (by unfold ties; omega)]; unfold ties; omega) ?_
      exact pw_some rfl
  obtain ⟨r, e1, e2⟩ := key
  rw [e1, e2]
theorem tClo_st {m : MM} {K n : Nat} {s : Int32} (h : tPass m K s = s) : tClo m K n s = s := by
  cases n with
  | zero => rfl
  | succ n => unfold tClo; rw [if_pos h]
theorem p_endsOf {m : MM} (h : tieOK m) {t : Nat} (ht : t < 8) : mf_endsOf (iI t) m = some (endsS m t, m) := by
  have hb := h.1.2.2.2.1
  unfold mf_endsOf
  show ml_X6_endsOf_6 (iI t) ((1 : Int32) <<< (iI t &&& 31)) 0 m = _
  have key : ∀ (n : Nat) (s w : Int32), s8 s → czf s 8 < n → w ≠ s → ml_X6_endsOf_6 (iI t) s w m = some (tClo m (ties m) n s &&& (((1 : Int32) <<< (iI t &&& 31)) ^^^ (-1 : Int32)), m) := by
    intro n
    induction n with
    | zero => intro s w _ h; exact absurd h (Nat.not_lt_zero _)
    | succ n ih =>
      intro s w hs hc hw
      obtain ⟨p8, pm⟩ := tPass_8 h (ties m) (by unfold ties; omega) hs
      have e1 : ml_X6_endsOf_6 (iI t) s w m = ml_X6_endsOf_6 (iI t) (tPass m (ties m) s) s m := by
        unfold ml_X6_endsOf_6
        refine gz_loop_in ?_
        dsimp only
        unfold mb_X6_endsOf_6
        rw [if_neg (fun q => hw q.symm)]
        exact p_ends_in h (iI t) s s hs
      rw [e1]
      unfold tClo
      by_cases hst : tPass m (ties m) s = s
      · rw [if_pos hst, hst]
        unfold ml_X6_endsOf_6
        refine gz_loop_out ?_
        dsimp only
        unfold mb_X6_endsOf_6
        rw [if_pos rfl]
      · rw [if_neg hst]
        have hlt := czf_gr hs p8 pm hst
        exact ih _ _ p8 (by omega) (fun q => hst q.symm)
  unfold endsS
  refine key 9 _ 0 (s8_1 ht) (by have := czf_8 ((1 : Int32) <<< (iI t &&& 31)); omega) (fun q => ?_)
  have h1 := bt_1t (t := t) (i := t) (by omega) (by omega)
  rw [← q, b_0] at h1
  simp at h1
/-- what is known of ties in the State x: it holds those that the model's now holds -/
def rTied (m : MM) (μ : gM) (x : Nat) : Prop := ∀ k : Nat, (k : Int) < mi m 1038 9 → bt (gI μ x 3) k = decide (mi m 1051 (2 + k) = 1)
theorem c_along_in {m : MM} {μ : gM} (h : rHH m μ) {x : Nat} (hx : rTied m μ x) (x1 s w : Int32) (hs : s8 s) : ml_X5_along_16 x x1 s w 0 μ = some (Sum.inl (x1, tPass m (ties m) s, if tPass m (ties m) s = w then 0 else 1, μ)) := by
  have hb := h.1.2.2.2.1
  have hT := tieOK.of h
  have key : pw (ml_X5_along_16 x x1 s w 0 μ) (fun r => r = Sum.inl (x1, tPass m (ties m) s, if tPass m (ties m) s = w then 0 else 1, μ)) := by
    unfold ml_X5_along_16
    refine pw_for (fun i q => q = (x1, tPass m i s, w, iI i, μ)) (ties m) ?_ ?_ rfl
    · rintro i q hi rfl
      have hi' : (i : Int) < mi m 1038 9 := by unfold ties at hi; omega
      obtain ⟨⟨b1, b2⟩, b3, b4⟩ := hT.2 i hi'
      obtain ⟨g1, g2, g3, -⟩ := h.2.2.2 i hi'
      have e : mi m 1043 (24 + 2 * i) = ((mi m 1043 (24 + 2 * i)).toNat : Int) := by omega
      dsimp only
      unfold mb_X5_along_16 mj_X5_along_76
      rw [c_ties h]
      refine pw_bind (pw_some ?_)
      dsimp only
      refine pw_f (by rw [iI_le (by omega) (by omega)]; omega) ?_
      rw [c_has μ _ (by omega), hx i hi']
      refine pw_bind (pw_some ?_)
      dsimp only
      have fin : ∀ s', s' = tPass m (i + 1) s → pw (gz_let (iI i + (1 : Int32)) fun y1 => (some (Sum.inl (x1, s', w, y1, μ)) : Option ((Int32 × Int32 × Int32 × Int32 × gM) ⊕ ((Int32 × Int32 × Int32 × gM) ⊕ (Int32 × gM))))) (Sum.elim (fun q => q = (x1, tPass m (i + 1) s, w, iI ((i + 1 : Nat) : Int), μ)) (fun r => r = Sum.inl (x1, tPass m (ties m) s, if tPass m (ties m) s = w then 0 else 1, μ))) := by
        intro s' hs'
        refine pw_let (pw_some ?_)
        show (x1, s', w, iI i + (1 : Int32), μ) = _
        rw [hs', iI_lit, iI_add]
        rfl
      by_cases c1 : mi m 1051 (2 + i) = 1
      · rw [if_pos (decide_eq_true c1)]
        refine pw_f (by decide) ?_
        rw [c_tieOf h hi']
        refine pw_bind (pw_some ?_)
        dsimp only
        refine pw_gu g1 ?_
        rw [ci_of μ (tiC μ i) 0, g2, e, c_has μ _ (by omega)]
        refine pw_bind (pw_some ?_)
        dsimp only
        by_cases c2 : bt (tPass m i s) (mi m 1043 (24 + 2 * i)).toNat = true
        · rw [if_pos c2]
          refine pw_f (by decide) ?_
          rw [c_tieOf h hi']
          refine pw_bind (pw_some ?_)
          dsimp only
          refine pw_gu g1 (pw_let ?_)
          rw [ci_of μ (tiC μ i) 1, g3]
          exact fin _ (by show _ = tStep m i (tPass m i s); unfold tStep; rw [if_pos ⟨c1, c2⟩])
        · rw [if_neg c2]
          refine pw_t rfl ?_
          exact fin _ (by show _ = tStep m i (tPass m i s); unfold tStep; rw [if_neg (fun q => c2 q.2)])
      · rw [if_neg (fun q => c1 (of_decide_eq_true q))]
        refine pw_t rfl ?_
        exact fin _ (by show _ = tStep m i (tPass m i s); unfold tStep; rw [if_neg (fun q => c1 q.1)])
    · rintro q rfl
      dsimp only
      unfold mb_X5_along_16 mj_X5_along_93
      rw [c_ties h]
      refine pw_bind (pw_some ?_)
      dsimp only
      refine pw_t (by rw [iI_le (by omega) (by unfold ties; omega)]; unfold ties; omega) ?_
      by_cases c : tPass m (ties m) s = w
      · refine pw_t c ?_
        rw [if_pos c]
        exact pw_some rfl
      · refine pw_f c ?_
        rw [if_neg c]
        exact pw_some rfl
  obtain ⟨r, e1, e2⟩ := key
  rw [e1, e2]
theorem c_along {m : MM} {μ : gM} (h : rHH m μ) {x : Nat} (hx : rTied m μ x) {t : Nat} (ht : t < 8) : cf_X5_along x (iI t) μ = some (endsS m t, μ) := by
  have hb := h.1.2.2.2.1
  have hT := tieOK.of h
  unfold cf_X5_along
  show ml_X5_along_6 x (iI t) ((1 : Int32) <<< (iI t &&& 31)) 1 μ = _
  have key : ∀ (n : Nat) (s : Int32), s8 s → czf s 8 < n → ml_X5_along_6 x (iI t) s 1 μ = some (tClo m (ties m) n s &&& (((1 : Int32) <<< (iI t &&& 31)) ^^^ (-1 : Int32)), μ) := by
    intro n
    induction n with
    | zero => intro s _ h; exact absurd h (Nat.not_lt_zero _)
    | succ n ih =>
      intro s hs hc
      obtain ⟨p8, pm⟩ := tPass_8 hT (ties m) (by unfold ties; omega) hs
      have e1 : ml_X5_along_6 x (iI t) s 1 μ = ml_X5_along_6 x (iI t) (tPass m (ties m) s) (if tPass m (ties m) s = s then 0 else 1) μ := by
        unfold ml_X5_along_6
        refine gz_loop_in ?_
        dsimp only
        unfold mb_X5_along_6
        rw [if_neg (by decide)]
        exact c_along_in h hx (iI t) s s hs
      rw [e1]
      unfold tClo
      by_cases hst : tPass m (ties m) s = s
      · rw [if_pos hst, if_pos hst, hst]
        unfold ml_X5_along_6
        refine gz_loop_out ?_
        dsimp only
        unfold mb_X5_along_6
        rw [if_pos rfl]
      · rw [if_neg hst, if_neg hst]
        have hlt := czf_gr hs p8 pm hst
        exact ih _ p8 (by omega)
  unfold endsS
  exact key 9 _ (s8_1 ht) (by have := czf_8 ((1 : Int32) <<< (iI t &&& 31)); omega)
theorem e_ends {m : MM} {μ : gM} (h : rHH m μ) (hx : rTied m μ 1027) (x : Int32) : ∃ r, mf_ends x m = some (r, m) ∧ cf_X0_ends x μ = some (r, μ) := by
  have hb := h.1.2.1
  obtain ⟨z, hz, rfl⟩ := iI_ex x
  unfold mf_ends cf_X0_ends
  rw [i2l_iI hz, p_isThing h.1 hz, c_isThing h hz]
  by_cases hc : 0 ≤ z ∧ z < mi m 1038 7
  · rw [if_pos hc]
    have e : z = (z.toNat : Int) := by omega
    refine ⟨endsS m z.toNat, ?_, ?_⟩
    · simp only [Option.bind_some]
      rw [if_neg (by decide), e, p_endsOf (tieOK.of h) (by omega)]
      rfl
    · simp only [Option.bind_some]
      rw [if_neg (by decide), e, c_along h hx (by omega)]
      rfl
  · rw [if_neg hc]
    exact ⟨-1, rfl, rfl⟩
