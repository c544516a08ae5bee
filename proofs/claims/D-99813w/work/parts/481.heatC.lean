/-! ===== heats: the component ===== -/
def cn (f : Nat → Bool) : Nat → Nat
  | 0 => 0
  | r + 1 => cn f r + (if f r = true then 1 else 0)
theorem cn_le (f : Nat → Bool) : ∀ R : Nat, cn f R ≤ R
  | 0 => Nat.le_refl _
  | r + 1 => by
    have := cn_le f r
    show cn f r + (if f r = true then 1 else 0) ≤ r + 1
    split <;> omega
theorem cn_all (f : Nat → Bool) : ∀ R : Nat, cn f R = R ↔ ∀ r : Nat, r < R → f r = true
  | 0 => ⟨fun _ r hr => absurd hr (Nat.not_lt_zero _), fun _ => rfl⟩
  | R + 1 => by
    have ih := cn_all f R
    have le := cn_le f R
    show cn f R + (if f R = true then 1 else 0) = R + 1 ↔ _
    refine ⟨fun e => ?_, fun a => ?_⟩
    · by_cases q : f R = true
      · rw [if_pos q] at e
        intro r hr
        rcases Nat.lt_or_ge r R with w | w
        · exact ih.mp (by omega) r w
        · rw [show r = R by omega]; exact q
      · rw [if_neg q] at e; omega
    · rw [if_pos (a R (by omega)), ih.mpr (fun r hr => a r (by omega))]
theorem cn_s {f g h : Nat → Bool} : ∀ R : Nat, (∀ r : Nat, r < R → (if h r = true then 1 else 0) = (if f r = true then 1 else 0) + (if g r = true then 1 else 0)) → cn h R = cn f R + cn g R
  | 0, _ => rfl
  | R + 1, a => by
    show cn h R + (if h R = true then 1 else 0) = (cn f R + (if f R = true then 1 else 0)) + (cn g R + (if g R = true then 1 else 0))
    rw [cn_s (f := f) (g := g) R (fun r hr => a r (by omega)), a R (by omega)]
    omega
/-- rows before hour k that fit; rows of hour k that fit -/
def rwC (m : MM) (t h k : Nat) (r : Nat) : Bool := decide (rwH m r < k) && rwB m t h r
def rwK (m : MM) (t h k : Nat) (r : Nat) : Bool := decide (rwH m r = k) && rwB m t h r
theorem rwC_s (m : MM) (t h k : Nat) : cn (rwC m t h (k + 1)) (rwN m) = cn (rwC m t h k) (rwN m) + cn (rwK m t h k) (rwN m) := by
  refine cn_s _ (fun r _ => ?_)
  unfold rwC rwK
  cases rwB m t h r with
  | false => simp
  | true =>
    simp only [Bool.and_true, decide_eq_true_iff]
    repeat' split
    all_goals omega
theorem rwC_0 (m : MM) (t h : Nat) : ∀ R : Nat, cn (rwC m t h 0) R = 0
  | 0 => rfl
  | R + 1 => by
    show cn (rwC m t h 0) R + (if rwC m t h 0 R = true then 1 else 0) = 0
    rw [rwC_0 m t h R, if_neg]
    unfold rwC
    simp
/-- how many hours lie ahead -/
def ahN (m : MM) : Nat := min 31 (1000 - mi m 1051 0).toNat
theorem rwC_fit {m : MM} (hR : rwsO m) (t h : Nat) : (cn (rwC m t h (ahN m)) (rwN m) = rwN m) ↔ fitB m t h = true := by
  rw [cn_all]
  unfold fitB
  rw [decide_eq_true_iff]
  have e : ∀ r : Nat, r < rwN m → (rwC m t h (ahN m) r = true ↔ mi m 1051 0 + (rwH m r : Int) ≤ 999 ∧ rwB m t h r = true) := fun r hr => by
    have b := (hR.2 r hr).1
    unfold rwC
    rw [Bool.and_eq_true, decide_eq_true_iff]
    refine and_congr ?_ Iff.rfl
    unfold ahN rwH
    omega
  exact ⟨fun a r hr => (e r hr).mp (a r hr), fun a r hr => (e r hr).mpr (a r hr)⟩
/-- the component's strengths by heat and hour -/
def hwC (m : MM) (t : Nat) (μ : gM) (H K : Nat) : Prop := ∀ h k u : Nat, k < ahN m → u < things m → (h < H ∨ (h = H ∧ k < K)) → gI μ (1128 + 32 * h + k) u = iI (stH m t h k u)
section HeatC
variable {m : MM} {t : Nat} {μ : gM}
theorem rSt.heat {x : Nat} (hS : rSt m μ x) (h52 : m.1 2000 52 = -1) {h : Nat} (ht : t < 8) (hh : h < 10) : rSt (heatM m t h) (gz_sI μ (x + 4) t (iI h)) x := by
  obtain ⟨s1, s2, s3, s4, s5⟩ := hS
  have e : ∀ j : Nat, gI (gz_sI μ (x + 4) t (iI h)) x j = gI μ x j := fun j => by rw [sI_i, if_neg (by omega)]
  refine ⟨by rw [e, heatM_o m t h (by omega)]; exact s1, by rw [e, heatM_o m t h (by omega)]; exact s2, fun k hk => ?_, fun k hk1 hk2 => ?_, fun u hu => ?_⟩
  · rw [heatM_mo m t h (by omega)] at hk ⊢
    rw [e]; exact s3 k hk
  · rw [heatM_mo m t h (by omega)] at hk2
    rw [e]; exact s4 k hk1 hk2
  · rw [heatM_mo m t h (by omega)] at hu
    obtain ⟨a1, a2, a3⟩ := s5 u hu
    refine ⟨by rw [sI_i, if_neg (by omega), heatM_o m t h (by omega)]; exact a1, by rw [sI_i, if_neg (by omega), heatM_o m t h (by omega)]; exact a2, ?_⟩
    have e1 : mi (heatM m t h) 2000 52 = t := by
      show (iI (t : Int)).toInt = _
      exact toInt_iI (by omega) (by omega)
    have e2 : mi (heatM m t h) 2000 53 = h := by
      show (iI (h : Int)).toInt = _
      exact toInt_iI (by omega) (by omega)
    unfold heatS
    rw [e1, e2]
    by_cases q : u = t
    · rw [if_pos (by omega)]
      exact ci_i (by rw [sI_i, if_pos ⟨rfl, q⟩]) (by omega)
    · rw [if_neg (by omega), heatM_mo m t h (by omega)]
      unfold ci
      rw [sI_i, if_neg (fun w => q w.2)]
      rw [heat_no h52] at a3
      exact a3
/-- the strengths of an hour -/
theorem c_can37 {Q : ((Int32 × Int32 × Int32 × gM) ⊕ (Int32 × gM)) → Prop} {h k : Nat} (hh : h < 10) (hk : k ≤ 30) (x3 : Int32) (hQ : ∀ ν : gM, ν.1 = μ.1 → ν.2.1 = μ.2.1 → ν.2.2.2 = μ.2.2.2 → (∀ c j : Nat, c ≠ 1128 + 32 * h + k → gI ν c j = gI μ c j) → (∀ u : Nat, u < 8 → gI ν (1128 + 32 * h + k) u = gI μ 1074 u) → pw (ml_X0_canBe_75 (iI h) x3 (iI k) 0 ν) (fun q => Q q)) : pw (ml_X0_canBe_37 (iI h) x3 (iI k) 0 μ) Q := by
  unfold ml_X0_canBe_37
  have gh : gz_ix (iI (h : Int)) = h := by rw [gix (by omega)]; omega
  have gk : gz_ix (iI (k : Int)) = k := by rw [gix (by omega)]; omega
  refine pw_for (fun i q => q.1 = iI h ∧ q.2.1 = x3 ∧ q.2.2.1 = iI k ∧ q.2.2.2.1 = iI (i : Int) ∧ q.2.2.2.2.1 = μ.1 ∧ q.2.2.2.2.2.1 = μ.2.1 ∧ q.2.2.2.2.2.2.2 = μ.2.2.2 ∧ (∀ c j : Nat, c ≠ 1128 + 32 * h + k → gI q.2.2.2.2 c j = gI μ c j) ∧ ∀ u : Nat, u < i → gI q.2.2.2.2 (1128 + 32 * h + k) u = gI μ 1074 u) 8 ?_ ?_ ⟨rfl, rfl, rfl, rfl, rfl, rfl, rfl, fun _ _ _ => rfl, fun u hu => absurd hu (Nat.not_lt_zero _)⟩
  · rintro i ⟨y1, y2, y3, y4, ν⟩ hi ⟨e1, e2, e3, e4, f1, f2, f3, f4, f5⟩
    dsimp only at e1 e2 e3 e4 f1 f2 f3 f4 f5 ⊢
    subst e1; subst e2; subst e3; subst e4
    have gi : gz_ix (iI (i : Int)) = i := by rw [gix (by omega)]; omega
    have ii : gz_in (iI (i : Int)) 8 := (gin_iI (by omega)).2 (by omega)
    unfold mb_X0_canBe_37
    rw [gh, gk, gi]
    refine pw_f (by rw [show (8 : Int32) = iI 8 from rfl, iI_le (by omega) (by omega)]; omega) (pw_gu ((gin_iI (by omega)).2 (by omega)) (pw_gu ((gin_iI (by omega)).2 (by omega)) (pw_gu ii (pw_gu ii (pw_let (pw_let (pw_some ⟨rfl, rfl, rfl, ?_, f1, f2, f3, fun c j hc => ?_, fun u hu => ?_⟩)))))))
    · show iI (i : Int) + (1 : Int32) = _
      rw [iI_lit, iI_add]; rfl
    · show gI (gz_sI ν (1127 + 32 * h + 1 + k) i (gI ν 1074 i)) c j = _
      rw [sI_i, if_neg (by omega)]
      exact f4 c j hc
    · show gI (gz_sI ν (1127 + 32 * h + 1 + k) i (gI ν 1074 i)) (1128 + 32 * h + k) u = _
      rw [sI_i]
      by_cases q : u = i
      · rw [if_pos ⟨by omega, q⟩, q]
        exact f4 _ _ (by omega)
      · rw [if_neg (fun w => q w.2)]
        exact f5 u (by omega)
  · rintro ⟨y1, y2, y3, y4, ν⟩ ⟨e1, e2, e3, e4, f1, f2, f3, f4, f5⟩
    dsimp only at e1 e2 e3 e4 f1 f2 f3 f4 f5 ⊢
    subst e1; subst e2; subst e3; subst e4
    unfold mb_X0_canBe_37
    exact pw_t (by decide) (pw_map (pw_mono (hQ ν f1 f2 f3 f4 f5) (fun q hq => hq)))
/-- the rows of an hour -/
theorem c_can75 {Q : ((Int32 × Int32 × Int32 × gM) ⊕ (Int32 × gM)) → Prop} {h k N : Nat} (hR : rwsO m) (hRo : rRows m μ) (hb : mi m 1038 7 ≤ 8) (hk : k ≤ 30) (hN : N ≤ 16) (hv : ∀ u : Nat, u < things m → gI μ 1074 u = iI (stH m t h k u)) (hQ : pw (cf_X5_goes 1073 μ) (fun q => Q (Sum.inl (iI h, iI ((N + cn (rwK m t h k) (rwN m) : Nat) : Int), iI ((k + 1 : Nat) : Int), q.2)))) : pw (ml_X0_canBe_75 (iI h) (iI N) (iI k) 0 μ) Q := by
  have h64 := hR.1
  have hn : (rwN m : Int) = mi m 2000 64 := by unfold rwN; omega
  have e20 : gI μ 1000 20 = iI (rwN m : Int) := by rw [hRo.1, mi_of m, hn]
  unfold ml_X0_canBe_75
  refine pw_for (fun i q => q.1 = iI h ∧ q.2.1 = iI ((N + cn (rwK m t h k) i : Nat) : Int) ∧ q.2.2.1 = iI k ∧ q.2.2.2.1 = iI (i : Int) ∧ q.2.2.2.2 = μ) (rwN m) ?_ ?_ ⟨rfl, rfl, rfl, rfl, rfl⟩
  · rintro i ⟨y1, y2, y3, y4, ν⟩ hi ⟨e1, e2, e3, e4, e5⟩
    dsimp only at e1 e2 e3 e4 e5 ⊢
    subst e1; subst e2; subst e3; subst e4; subst e5
    obtain ⟨r1, r2, r3⟩ := hR.2 i hi
    obtain ⟨⟨q1, q2, q3⟩, -⟩ := hRo.2.2 i (by omega)
    have cl := cn_le (rwK m t h k) i
    have gi : gz_ix (iI (i : Int)) = i := by rw [gix (by omega)]; omega
    have ii : gz_in (iI (i : Int)) 16 := (gin_iI (by omega)).2 (by omega)
    have eH : mi m 1066 (3 * i) = rwH m i := by unfold rwH; omega
    have eT : mi m 1066 (3 * i + 1) = rwT m i := by unfold rwT; omega
    have jj : iI (i : Int) + (1 : Int32) = iI ((i + 1 : Nat) : Int) := by rw [iI_lit, iI_add]; rfl
    unfold mb_X0_canBe_75
    rw [e20, gi, q1, q2, q3, mi_of m 1066 (3 * i), eH, mi_of m 1066 (3 * i + 1), eT, mi_of m 1066 (3 * i + 2)]
    have gT : gz_ix (iI (rwT m i : Int)) = rwT m i := by rw [gix (by omega)]; omega
    rw [gT, hv (rwT m i) (by unfold things; omega)]
    have bs : -2147483648 ≤ stH m t h k (rwT m i) ∧ stH m t h k (rwT m i) < 2147483648 := mi_r (hoursS k (heatM m t h)) 1051 (14 + 2 * rwT m i)
    have yes : rwK m t h k i = true → pw (mj_X0_canBe_127 (iI h) (iI k) (iI i) 1 (iI ((N + cn (rwK m t h k) i : Nat) : Int)) ν) (Sum.elim (fun q : Int32 × Int32 × Int32 × Int32 × gM => q.1 = iI h ∧ q.2.1 = iI ((N + cn (rwK m t h k) (i + 1) : Nat) : Int) ∧ q.2.2.1 = iI k ∧ q.2.2.2.1 = iI ((i + 1 : Nat) : Int) ∧ q.2.2.2.2 = ν) Q) := fun q => by
      unfold mj_X0_canBe_127
      refine pw_let (pw_let (pw_some ⟨rfl, ?_, rfl, jj, rfl⟩))
      show iI ((N + cn (rwK m t h k) i : Nat) : Int) + (1 : Int32) = iI ((N + (cn (rwK m t h k) i + (if rwK m t h k i = true then 1 else 0)) : Nat) : Int)
      rw [if_pos q, iI_lit, iI_add]; rfl
    have no : ¬ rwK m t h k i = true → pw (mj_X0_canBe_126 (iI h) (iI k) (iI i) (iI ((N + cn (rwK m t h k) i : Nat) : Int)) ν) (Sum.elim (fun q : Int32 × Int32 × Int32 × Int32 × gM => q.1 = iI h ∧ q.2.1 = iI ((N + cn (rwK m t h k) (i + 1) : Nat) : Int) ∧ q.2.2.1 = iI k ∧ q.2.2.2.1 = iI ((i + 1 : Nat) : Int) ∧ q.2.2.2.2 = ν) Q) := fun q => by
      unfold mj_X0_canBe_126 mj_X0_canBe_127
      refine pw_let (pw_let (pw_some ⟨rfl, ?_, rfl, jj, rfl⟩))
      show iI ((N + cn (rwK m t h k) i : Nat) : Int) + (0 : Int32) = iI ((N + (cn (rwK m t h k) i + (if rwK m t h k i = true then 1 else 0)) : Nat) : Int)
      rw [if_neg q, iI_lit, iI_add]; rfl
    refine pw_f (by rw [iI_le (by omega) (by omega)]; omega) (pw_gu ii (pw_if (fun q => ?_) (fun q => ?_)))
    · rw [iI_eq (by omega) (by omega)] at q
      have q' : rwH m i = k := by omega
      refine pw_gu ii (pw_gu ((gin_iI (by omega)).2 (by omega)) (pw_gu ii (pw_if (fun w => ?_) (fun w => ?_))))
      · rw [iI_eq bs (by omega)] at w
        refine yes ?_
        unfold rwK rwB
        rw [Bool.and_eq_true, decide_eq_true_iff, decide_eq_true_iff, q']
        exact ⟨rfl, w⟩
      · rw [iI_eq bs (by omega)] at w
        refine no (fun z => w ?_)
        unfold rwK rwB at z
        rw [Bool.and_eq_true, decide_eq_true_iff, decide_eq_true_iff, q'] at z
        exact z.2
    · rw [iI_eq (by omega) (by omega)] at q
      refine no (fun z => q ?_)
      unfold rwK at z
      rw [Bool.and_eq_true, decide_eq_true_iff] at z
      omega
  · rintro ⟨y1, y2, y3, y4, ν⟩ ⟨e1, e2, e3, e4, e5⟩
    dsimp only at e1 e2 e3 e4 e5 ⊢
    subst e1; subst e2; subst e3; subst e4; subst e5
    unfold mb_X0_canBe_75
    rw [e20]
    refine pw_t (by rw [iI_le (by omega) (by omega)]; omega) (pw_bind (pw_mono hQ ?_))
    rintro ⟨r, ν'⟩ hq
    dsimp only at hq ⊢
    refine pw_let (pw_some ?_)
    show Q (Sum.inl (iI h, iI ((N + cn (rwK m t h k) (rwN m) : Nat) : Int), iI (k : Int) + 1, ν'))
    rw [show iI (k : Int) + (1 : Int32) = iI ((k + 1 : Nat) : Int) by rw [iI_lit, iI_add]; rfl]
    exact hq
theorem rRows.cs {μ' : gM} (h : rRows m μ) (hc : cSc μ μ') : rRows m μ' := by
  obtain ⟨h1, h2, h3⟩ := h
  refine ⟨(hc.2.2.2.1 _ _ (by unfold scC; omega)).trans h1, h2, fun k hk => ?_⟩
  rw [hc.2.2.2.1 1123 _ (by unfold scC; omega), hc.2.2.2.1 1124 _ (by unfold scC; omega), hc.2.2.2.1 1125 _ (by unfold scC; omega)]
  exact h3 k hk
theorem c_canBe {l : List (Int × Int × Int)} {h : Nat} (hC : rCo l m μ) (hRo : rRows m μ) (ht : (t : Int) < mi m 1038 7) (hh : h < 10) : pw (cf_X0_canBe (iI t) (iI h) μ) (fun q => q.1 = (if fitB m t h = true then 1 else 0) ∧ cSc μ q.2 ∧ rowOK q.2 1073 ∧ (∀ k u : Nat, k < ahN m → u < things m → gI q.2 (1128 + 32 * h + k) u = iI (stH m t h k u)) ∧ ∀ c j : Nat, 1127 ≤ c → c < 1447 → ¬ (1128 + 32 * h ≤ c ∧ c ≤ 1158 + 32 * h) → gI q.2 c j = gI μ c j) := by
  have hR := hRo.ok
  have h64 := hR.1
  obtain ⟨h1, h2, h3, h4, h5, h6, h7, h8, h9, h10, h11, h12, h13⟩ := id hC
  have b1 := h2.1.2.1
  have hN0 := h5.1
  have hn : (rwN m : Int) = mi m 2000 64 := by unfold rwN; omega
  have gt : gz_ix (iI (t : Int)) = t := by rw [gix (by omega)]; omega
  have aK : ahN m ≤ 31 := by unfold ahN; omega
  unfold cf_X0_canBe
  refine pw_bind (pw_mono (pw_and (c_tries hC) (c_copy (x := 1073) (y := 1027) (by decide) (by decide) (by decide) h9 h8)) ?_)
  rintro ⟨r, μ1⟩ ⟨⟨rfl, t2, t3, t4⟩, ⟨-, y1, -⟩⟩
  dsimp only at t2 t3 t4 y1 ⊢
  refine pw_gu (by decide) (pw_gu ((gin_iI (by omega)).2 (by omega)) (pw_let ?_))
  rw [gt]
  have S0 : rSt (heatM m t h) (gz_sI μ1 (1073 + 4) t (iI h)) 1073 := t3.heat h12 (by omega) hh
  have K0 : kC l (gz_sI μ1 (1073 + 4) t (iI h)) 1073 := t4.sI (by omega)
  have C0 : cSc μ (gz_sI μ1 (1073 + 4) t (iI h)) := t2.trans ⟨rfl, rfl, rfl, fun c j k => by rw [sI_i, if_neg (by unfold scC at k; omega)], fun _ _ _ _ => rfl, fun _ _ _ => rfl⟩
  have U0 : ∀ c j : Nat, 1127 ≤ c → c < 1447 → gI (gz_sI μ1 (1073 + 4) t (iI h)) c j = gI μ c j := fun c j k1 k2 => by
    rw [sI_i, if_neg (by omega)]
    exact y1.2.2.2.2.1 c j (by omega)
  generalize gz_sI μ1 (1073 + 4) t (iI h) = μ2 at S0 K0 C0 U0 ⊢
  unfold ml_X0_canBe_22
  refine pw_for (fun k q => q.1 = iI h ∧ q.2.1 = iI (cn (rwC m t h k) (rwN m) : Int) ∧ q.2.2.1 = iI (k : Int) ∧ cSc μ q.2.2.2 ∧ rSt (hoursS k (heatM m t h)) q.2.2.2 1073 ∧ kC (kN (heatM m t h) l k) q.2.2.2 1073 ∧ (∀ k' u : Nat, k' < k → u < things m → gI q.2.2.2 (1128 + 32 * h + k') u = iI (stH m t h k' u)) ∧ ∀ c j : Nat, 1127 ≤ c → c < 1447 → ¬ (1128 + 32 * h ≤ c ∧ c ≤ 1158 + 32 * h) → gI q.2.2.2 c j = gI μ c j) (ahN m) ?_ ?_ ⟨rfl, by rw [rwC_0]; rfl, rfl, C0, by exact S0, by exact K0, fun k' u hk => absurd hk (Nat.not_lt_zero _), fun c j k1 k2 _ => U0 c j k1 k2⟩
  · rintro k ⟨z1, z2, z3, ν⟩ hk ⟨e1, e2, e3, a1, a2, a3, a4, a5⟩
    dsimp only at e1 e2 e3 a1 a2 a3 a4 a5 ⊢
    subst e1; subst e2; subst e3
    have hk2 : k ≤ 30 ∧ mi m 1051 0 + k ≤ 999 := by unfold ahN at hk; omega
    have h27 : gI ν 1027 0 = m.1 1051 0 := by rw [a1.2.2.2.1 _ _ (by unfold scC; omega)]; exact h6.1
    have cle := cn_le (rwC m t h k) (rwN m)
    have hhk := (heatM_hh m t h).trans (hoursS_hh (heatM m t h) k)
    obtain ⟨o1, o2⟩ := hoursS_ok (heatM_okN h5 t hh) ((heatM_hh m t h).many h2.1) k (by rw [heatM_mo _ _ _ (by omega)]; omega)
    unfold mb_X0_canBe_22
    rw [show cf_X0_isAhead (iI (k : Int)) (0 : Int32) (30 : Int32) ν = _ from c_isAhead h5 h27 (a := 0) (b := 30) (by omega) (by omega) (by omega), if_pos (by omega)]
    refine pw_bind (pw_some (pw_f n10 ?_))
    try dsimp only
    refine c_can37 hh (by omega) _ (fun ν1 f1 f2 f3 f4 f5 => ?_)
    have C1 : cSc ν ν1 := ⟨f1, f2, congrArg (fun z => z.2.2) f3, fun c j q => f4 c j (by unfold scC at q; omega), fun c j _ _ => congrFun (congrFun (congrArg Prod.fst f3) c) j, fun c j _ => congrFun (congrFun (congrArg (fun z => z.2.1) f3) c) j⟩
    have P1 : ∀ c j : Nat, gP ν1 c j = gP ν c j := fun c j => congrFun (congrFun (congrArg (fun z => z.2.1) f3) c) j
    have C2 := a1.trans C1
    have S1 : rSt (hoursS k (heatM m t h)) ν1 1073 := a2.sc (hhk.many h2.1) (fun _ => rfl) (fun _ _ => rfl) (fun _ => rfl) (fun c j q1 q2 => f4 c j (by omega))
    have K1 : kC (kN (heatM m t h) l k) ν1 1073 := a3.sc (f4 _ _ (by omega)) (fun j => P1 _ _) (fun c j q1 q2 => f4 c j (by omega))
    have hP : gP ν1 1000 0 = gP μ 1000 0 := C2.2.2.2.2.2 _ _ (by omega)
    have v74 : ∀ u : Nat, u < things m → gI ν1 1074 u = iI (stH m t h k u) := fun u hu => by
      have := (S1.2.2.2.2 u (by rw [hhk.at (by omega)]; unfold things at hu; omega)).1
      rw [show gI ν1 1074 u = gI ν1 (1073 + 1) u from rfl, this]
      exact mi_of _ _ _
    refine c_can75 hR (hRo.cs C2) b1.2 (by omega) (by omega) v74 ?_
    refine pw_mono (c_goes (x := 1073) (by decide) (C2.lay h1) o1 (h2.mv hhk C2.dy hP) (h3.mv h2 hhk C2.dy hP) S1 K1) ?_
    rintro ⟨r2, ν2⟩ ⟨c1, c2, c3, c4⟩
    dsimp only at c1 c2 c3 c4 ⊢
    rw [(hoursS_hh (heatM m t h) k).nTh] at c3
    have N2 : ∀ c j : Nat, 1127 ≤ c → c < 1447 → gI ν2 c j = gI ν1 c j := fun c j q1 q2 => c4.2.2.2.2.1 c j (by omega)
    refine ⟨rfl, ?_, rfl, C2.trans (cSc.c c4), c2, c3, fun k' u q1 q2 => ?_, fun c j q1 q2 q3 => ?_⟩
    · show iI _ = iI _
      rw [rwC_s]
    · have u8 : u < 8 := by unfold things at q2; omega
      show gI ν2 _ _ = _
      rw [N2 _ _ (by omega) (by omega)]
      by_cases q : k' = k
      · subst q
        rw [f5 u u8, f4 1074 u (by omega) |>.symm]
        exact v74 u q2
      · rw [f4 _ _ (by omega)]
        exact a4 k' u (by omega) q2
    · show gI ν2 _ _ = _
      rw [N2 _ _ (by omega) (by omega), f4 _ _ (by omega)]
      exact a5 c j q1 q2 q3
  · rintro ⟨z1, z2, z3, ν⟩ ⟨e1, e2, e3, a1, a2, a3, a4, a5⟩
    dsimp only at e1 e2 e3 a1 a2 a3 a4 a5 ⊢
    subst e1; subst e2; subst e3
    have hk2 : ¬ (((0 : Int) ≤ (ahN m : Int) ∧ (ahN m : Int) ≤ 30) ∧ mi m 1051 0 + (ahN m : Int) ≤ 999) := by unfold ahN; omega
    have h27 : gI ν 1027 0 = m.1 1051 0 := by rw [a1.2.2.2.1 _ _ (by unfold scC; omega)]; exact h6.1
    have cle := cn_le (rwC m t h (ahN m)) (rwN m)
    have e20 : gI ν 1000 20 = iI (rwN m : Int) := by rw [a1.2.2.2.1 _ _ (by unfold scC; omega), hRo.1, mi_of m, hn]
    unfold mb_X0_canBe_22
    rw [show cf_X0_isAhead (iI (ahN m : Int)) (0 : Int32) (30 : Int32) ν = _ from c_isAhead h5 h27 (a := 0) (b := 30) (by omega) (by omega) (by omega), if_neg hk2]
    refine pw_bind (pw_some (pw_t rfl ?_))
    try dsimp only
    rw [e20]
    have fit := rwC_fit hR t h
    refine pw_if (fun q => ?_) (fun q => ?_)
    · rw [iI_eq (by omega) (by omega)] at q
      refine pw_some ⟨?_, a1, a3.2.2.1, a4, a5⟩
      rw [if_pos (fit.mp (by omega))]
    · rw [iI_eq (by omega) (by omega)] at q
      refine pw_some ⟨?_, a1, a3.2.2.1, a4, a5⟩
      rw [if_neg (fun w => q (by have := fit.mpr w; omega))]
/-- all heats -/
theorem c_heats {l : List (Int × Int × Int)} (hC : rCo l m μ) (hRo : rRows m μ) (ht : (t : Int) < mi m 1038 7) : pw (cf_X0_heats (iI t) μ) (fun q => q.1 = setS m t 10 ∧ cSc μ q.2 ∧ rowOK q.2 1073 ∧ hwC m t q.2 10 0) := by
  obtain ⟨h1, h2, h3, h4, h5, h6, h7, h8, h9, h10, h11, h12, h13⟩ := id hC
  have b1 := h2.1.2.1
  have aK : ahN m ≤ 31 := by unfold ahN; omega
  unfold cf_X0_heats
  rw [c_isThing h2 (by omega), if_pos (by omega)]
  refine pw_bind (pw_some (pw_f n10 ?_))
  try dsimp only
  unfold ml_X0_heats_14
  refine pw_for (fun h q => q.1 = iI t ∧ q.2.1 = setS m t h ∧ q.2.2.1 = iI (h : Int) ∧ cSc μ q.2.2.2 ∧ rowOK q.2.2.2 1073 ∧ hwC m t q.2.2.2 h 0) 10 ?_ ?_ ⟨rfl, rfl, rfl, cSc.refl μ, h9, fun h k u _ _ q => by omega⟩
  · rintro h ⟨z1, z2, z3, ν⟩ hh ⟨e1, e2, e3, a1, a2, a3⟩
    dsimp only at e1 e2 e3 a1 a2 a3 ⊢
    subst e1; subst e2; subst e3
    unfold mb_X0_heats_14
    refine pw_f (by rw [show (10 : Int32) = iI 10 from rfl, iI_le (by omega) (by omega)]; omega) ?_
    refine pw_bind (pw_mono (c_canBe (hC.sc (mSc.refl h5) a1 a2) (hRo.cs a1) ht hh) ?_)
    rintro ⟨r, ν2⟩ ⟨f1, f2, f3, f4, f5⟩
    dsimp only at f1 f2 f3 f4 f5 ⊢
    have W : hwC m t ν2 (h + 1) 0 := fun h' k u q1 q2 q3 => by
      have q2' : (u : Int) < 8 := by unfold things at q2; omega
      by_cases w : h' = h
      · subst w
        exact f4 k u q1 q2
      · rw [f5 _ _ (by omega) (by omega) (by omega)]
        exact a3 h' k u q1 q2 (by omega)
    have jj : iI (h : Int) + (1 : Int32) = iI ((h + 1 : Nat) : Int) := by rw [iI_lit, iI_add]; rfl
    subst f1
    unfold mj_X0_heats_37
    by_cases q : fitB m t h = true
    · rw [if_pos q]
      refine pw_f n10 (pw_let (pw_let (pw_some ⟨rfl, ?_, jj, a1.trans f2, f3, W⟩)))
      show _ = (if fitB m t h = true then setS m t h ||| ((1 : Int32) <<< (iI h &&& 31)) else setS m t h)
      rw [if_pos q]
    · rw [if_neg q]
      refine pw_t rfl (pw_let (pw_let (pw_some ⟨rfl, ?_, jj, a1.trans f2, f3, W⟩)))
      show setS m t h ||| (0 : Int32) = (if fitB m t h = true then setS m t h ||| ((1 : Int32) <<< (iI h &&& 31)) else setS m t h)
      rw [if_neg q]
      exact Int32.or_zero
  · rintro ⟨z1, z2, z3, ν⟩ ⟨e1, e2, e3, a1, a2, a3⟩
    dsimp only at e1 e2 e3 a1 a2 a3 ⊢
    subst e1; subst e2; subst e3
    unfold mb_X0_heats_14
    exact pw_t (by decide) (pw_some ⟨rfl, a1, a2, a3⟩)
theorem e_heats {l : List (Int × Int × Int)} (h : rCo l m μ) (hRo : rRows m μ) (x : Int32) : eO (mf_heats x m) (cf_X0_heats x μ) m μ := by
  obtain ⟨h1, h2, h3, h4, h5, h6, h7, h8, h9, h10, h11, h12, h13⟩ := id h
  obtain ⟨z, hz, rfl⟩ := iI_ex x
  have b1 := h2.1.2.1
  by_cases q : 0 ≤ z ∧ z < mi m 1038 7
  · have ez : z = ((z.toNat : Nat) : Int) := by omega
    rw [ez]
    refine eO.of (setS m z.toNat 10) ?_ (pw_mono (c_heats h hRo (by omega)) (fun q hq => ⟨hq.1, hq.2.1, hq.2.2.1⟩))
    unfold mf_heats
    rw [i2l_iI (by omega), p_isThing h2.1 (by omega), if_pos (by omega)]
    refine pw_bind (pw_some (pw_f n10 ?_))
    dsimp only
    refine pw_bind (pw_mono (p_heatSet hRo.ok h2.1 h5 h4 h7 h10 h12 h13) ?_)
    rintro ⟨r, a⟩ ⟨f1, f2, f3⟩
    exact pw_some ⟨f1, f2⟩
  · refine ⟨-1, m, μ, ?_, ?_, mSc.refl h5, cSc.refl μ, h9⟩
    · unfold mf_heats
      rw [i2l_iI hz, p_isThing h2.1 hz, if_neg q]
      simp only [Option.bind_some, if_true]
    · unfold cf_X0_heats
      rw [c_isThing h2 hz, if_neg q]
      simp only [Option.bind_some, if_true]
end HeatC
