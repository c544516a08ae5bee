/-! ===== the household query ===== -/
/-- the text on the model's tape -/
def tpT (m : MM) (N : Nat) : Nat → Int := fun k => if k < N then mi m 1001 k else -1
theorem tpT_ok {m : MM} {N : Nat} (hN : N ≤ 1600) (hb : ∀ k : Nat, k < 1600 → 0 ≤ mi m 1001 k ∧ mi m 1001 k < 256) : tOK (tpT m N) N := by
  refine ⟨hN, fun k hk => ?_, fun k hk => ?_⟩
  · unfold tpT; rw [if_pos hk]; exact hb k (by omega)
  · unfold tpT; rw [if_neg (by omega)]
/-- what the model's household changes: what is read, or where it stands too -/
def hdF (m m' : MM) : Prop := (∀ c j : Nat, ¬ rdX c j → ¬ (c = 2000 ∧ (j = 1 ∨ j = 7 ∨ j = 8)) → ¬ (c = 1010 ∧ j = 1) → m'.1 c j = m.1 c j) ∧ ∀ c j : Nat, ¬ (c = 1039 ∧ j < 16) → m'.2 c j = m.2 c j
def hdS (m m' : MM) : Prop := (∀ c j : Nat, ¬ rdX c j → ¬ stX c j → ¬ (c = 2000 ∧ (j = 1 ∨ j = 7 ∨ j = 8)) → m'.1 c j = m.1 c j) ∧ ∀ c j : Nat, c ≠ 1039 → m'.2 c j = m.2 c j
def hdQ (m : MM) (s : Rs HS) (q : Int32 × MM) : Prop := q.2.1 2000 1 = 0 ∧ ((∃ (k : Int) (l : Nat), s = Sum.inl (k, l) ∧ (1 ≤ k ∧ k ≤ 5) ∧ q.1 = -1 ∧ q.2.1 2000 7 = iI k ∧ q.2.1 2000 8 = iI l ∧ q.2.1 1010 1 = m.1 1010 1 + 1 ∧ hdF m q.2) ∨ ∃ (p' : Nat) (h' : HS), s = Sum.inr (p', h') ∧ hsOK h' ∧ q.1 = iI h'.sm ∧ q.2.1 2000 7 = 0 ∧ q.2.1 2000 8 = -1 ∧ hsS q.2 h' ∧ nwS q.2 h' ∧ hdS m q.2)
theorem hX_rd {c j : Nat} (h : ¬ rdX c j) : ¬ hX c j := by
  unfold rdX at h
  unfold hX qX xK
  omega
theorem p_household {m : MM} {N : Nat} (hN : m.1 2000 1 = iI N) (hN2 : N ≤ 1600) (hb : ∀ k : Nat, k < 1600 → 0 ≤ mi m 1001 k ∧ mi m 1001 k < 256) (hw : wdOK m) : pw (mf_household m) (hdQ m (sAll (tpT m N) N (N + 1) HS0 (skp (tpT m N) N 0))) := by
  have hT := tpT_ok hN2 hb
  have hsk := skp_le hT (Nat.zero_le N)
  unfold mf_household
  refine pw_let (pw_let (pw_let (pw_let (pw_let (pw_let (pw_let ?_))))))
  rw [hN]
  have F7 : ∀ c j : Nat, ¬ (c = 2000 ∧ (j = 3 ∨ j = 1 ∨ j = 2 ∨ j = 4 ∨ j = 5 ∨ j = 6 ∨ j = 46)) → (msI (msI (msI (msI (msI (msI (msI m 2000 3 (iI N)) 2000 1 0) 2000 2 0) 2000 4 (-1)) 2000 5 0) 2000 6 (-1)) 2000 46 0).1 c j = m.1 c j := fun c j k => by rw [msI_i, if_neg (by omega), msI_i, if_neg (by omega), msI_i, if_neg (by omega), msI_i, if_neg (by omega), msI_i, if_neg (by omega), msI_i, if_neg (by omega), msI_i, if_neg (by omega)]
  have v3 : (msI (msI (msI (msI (msI (msI (msI m 2000 3 (iI N)) 2000 1 0) 2000 2 0) 2000 4 (-1)) 2000 5 0) 2000 6 (-1)) 2000 46 0).1 2000 3 = iI N := by rw [msI_i, if_neg (by omega), msI_i, if_neg (by omega), msI_i, if_neg (by omega), msI_i, if_neg (by omega), msI_i, if_neg (by omega), msI_i, if_neg (by omega), msI_i, if_pos ⟨rfl, rfl⟩]
  have v1 : (msI (msI (msI (msI (msI (msI (msI m 2000 3 (iI N)) 2000 1 0) 2000 2 0) 2000 4 (-1)) 2000 5 0) 2000 6 (-1)) 2000 46 0).1 2000 1 = 0 := by rw [msI_i, if_neg (by omega), msI_i, if_neg (by omega), msI_i, if_neg (by omega), msI_i, if_neg (by omega), msI_i, if_neg (by omega), msI_i, if_pos ⟨rfl, rfl⟩]
  have v2 : (msI (msI (msI (msI (msI (msI (msI m 2000 3 (iI N)) 2000 1 0) 2000 2 0) 2000 4 (-1)) 2000 5 0) 2000 6 (-1)) 2000 46 0).1 2000 2 = iI 0 := by rw [msI_i, if_neg (by omega), msI_i, if_neg (by omega), msI_i, if_neg (by omega), msI_i, if_neg (by omega), msI_i, if_pos ⟨rfl, rfl⟩]; rfl
  have v4 : (msI (msI (msI (msI (msI (msI (msI m 2000 3 (iI N)) 2000 1 0) 2000 2 0) 2000 4 (-1)) 2000 5 0) 2000 6 (-1)) 2000 46 0).1 2000 4 = iI (-1) := by rw [msI_i, if_neg (by omega), msI_i, if_neg (by omega), msI_i, if_neg (by omega), msI_i, if_pos ⟨rfl, rfl⟩]; decide
  have v5 : (msI (msI (msI (msI (msI (msI (msI m 2000 3 (iI N)) 2000 1 0) 2000 2 0) 2000 4 (-1)) 2000 5 0) 2000 6 (-1)) 2000 46 0).1 2000 5 = 0 := by rw [msI_i, if_neg (by omega), msI_i, if_neg (by omega), msI_i, if_pos ⟨rfl, rfl⟩]
  have v6 : (msI (msI (msI (msI (msI (msI (msI m 2000 3 (iI N)) 2000 1 0) 2000 2 0) 2000 4 (-1)) 2000 5 0) 2000 6 (-1)) 2000 46 0).1 2000 6 = -1 := by rw [msI_i, if_neg (by omega), msI_i, if_pos ⟨rfl, rfl⟩]
  have v46 : (msI (msI (msI (msI (msI (msI (msI m 2000 3 (iI N)) 2000 1 0) 2000 2 0) 2000 4 (-1)) 2000 5 0) 2000 6 (-1)) 2000 46 0).1 2000 46 = iI 0 := by rw [msI_i, if_pos ⟨rfl, rfl⟩]; rfl
  have L7 : (msI (msI (msI (msI (msI (msI (msI m 2000 3 (iI N)) 2000 1 0) 2000 2 0) 2000 4 (-1)) 2000 5 0) 2000 6 (-1)) 2000 46 0).2 = m.2 := rfl
  generalize msI (msI (msI (msI (msI (msI (msI m 2000 3 (iI N)) 2000 1 0) 2000 2 0) 2000 4 (-1)) 2000 5 0) 2000 6 (-1)) 2000 46 0 = m7 at F7 v3 v1 v2 v4 v5 v6 v46 L7
  -- counts
  unfold ml_X6_household_40
  refine pw_for (fun (i : Nat) (q : Int32 × MM) => q.1 = iI i ∧ (∀ c j : Nat, ¬ (c = 1038 ∧ j < 6) → q.2.1 c j = m7.1 c j) ∧ q.2.2 = m7.2 ∧ ∀ k : Nat, k < i → q.2.1 1038 k = 0) 6 ?_ ?_ ⟨rfl, fun _ _ _ => rfl, rfl, fun k hk => absurd hk (Nat.not_lt_zero _)⟩
  · rintro i ⟨q1, m8⟩ hi ⟨e, f1, f2, c1⟩
    dsimp only at e f1 f2 c1 ⊢
    subst e
    have gi : gz_ix (iI (i : Int)) = i := by rw [gix (by omega)]; omega
    unfold mb_X6_household_40
    rw [gi]
    refine pw_f (by rw [show (6 : Int32) = iI 6 from rfl, iI_le (by omega) (by omega)]; omega) (pw_gu ((gin_iI (by omega)).2 (by omega)) (pw_let (pw_let (pw_some ?_))))
    rw [show iI (i : Int) + 1 = iI ((i + 1 : Nat) : Int) by rw [show (1 : Int32) = iI 1 from rfl, iI_add]; rfl]
    refine ⟨rfl, fun c j k => ?_, f2, fun k hk => ?_⟩
    · show (msI m8 1038 i 0).1 c j = _
      rw [msI_i, if_neg (by omega)]; exact f1 c j k
    · show (msI m8 1038 i 0).1 1038 k = _
      by_cases e : k = i
      · subst e; rw [msI_i, if_pos ⟨rfl, rfl⟩]
      · rw [msI_i, if_neg (by omega)]; exact c1 k (by omega)
  rintro ⟨q1, m8⟩ ⟨e, f1, f2, c1⟩
  dsimp only at e f1 f2 c1 ⊢
  subst e
  unfold mb_X6_household_40
  refine pw_t (by decide) (pw_map ?_)
  show pw (ml_X6_household_61 0 m8) _
  unfold ml_X6_household_61
  refine pw_for (fun (i : Nat) (q : Int32 × MM) => q.1 = iI i ∧ (∀ c j : Nat, ¬ (c = 1044 ∧ j < 2) → q.2.1 c j = m8.1 c j) ∧ q.2.2 = m8.2 ∧ ∀ k : Nat, k < i → q.2.1 1044 k = -1) 2 ?_ ?_ ⟨rfl, fun _ _ _ => rfl, rfl, fun k hk => absurd hk (Nat.not_lt_zero _)⟩
  · rintro i ⟨q1, m9⟩ hi ⟨e, g1, g2, d1⟩
    dsimp only at e g1 g2 d1 ⊢
    subst e
    have gi : gz_ix (iI (i : Int)) = i := by rw [gix (by omega)]; omega
    unfold mb_X6_household_61
    rw [gi]
    refine pw_f (by rw [show (2 : Int32) = iI 2 from rfl, iI_le (by omega) (by omega)]; omega) (pw_gu ((gin_iI (by omega)).2 (by omega)) (pw_let (pw_let (pw_some ?_))))
    rw [show iI (i : Int) + 1 = iI ((i + 1 : Nat) : Int) by rw [show (1 : Int32) = iI 1 from rfl, iI_add]; rfl]
    refine ⟨rfl, fun c j k => ?_, g2, fun k hk => ?_⟩
    · show (msI m9 1044 i (-1)).1 c j = _
      rw [msI_i, if_neg (by omega)]; exact g1 c j k
    · show (msI m9 1044 i (-1)).1 1044 k = _
      by_cases e : k = i
      · subst e; rw [msI_i, if_pos ⟨rfl, rfl⟩]
      · rw [msI_i, if_neg (by omega)]; exact d1 k (by omega)
  rintro ⟨q1, m9⟩ ⟨e, g1, g2, d1⟩
  dsimp only at e g1 g2 d1 ⊢
  subst e
  unfold mb_X6_household_61
  refine pw_t (by decide) (pw_let (pw_map ?_))
  have FA : ∀ c j : Nat, ¬ (c = 2000 ∧ (j = 3 ∨ j = 1 ∨ j = 2 ∨ j = 4 ∨ j = 5 ∨ j = 6 ∨ j = 46 ∨ j = 47)) → ¬ (c = 1038 ∧ j < 6) → ¬ (c = 1044 ∧ j < 2) → (msI m9 2000 47 0).1 c j = m.1 c j := fun c j k1 k2 k3 => by
    rw [msI_i, if_neg (by omega), g1 _ _ k3, f1 _ _ k2, F7 _ _ (by omega)]
  have FB : ∀ j : Nat, j ≠ 47 → (msI m9 2000 47 0).1 2000 j = m7.1 2000 j := fun j hj => by
    rw [msI_i, if_neg (by omega), g1 _ _ (by omega), f1 _ _ (by omega)]
  have z38 : ∀ k : Nat, k < 6 → (msI m9 2000 47 0).1 1038 k = 0 := fun k hk => by
    rw [msI_i, if_neg (by omega), g1 _ _ (by omega)]; exact c1 k hk
  have z44 : ∀ k : Nat, k < 2 → (msI m9 2000 47 0).1 1044 k = -1 := fun k hk => by
    rw [msI_i, if_neg (by omega)]; exact d1 k hk
  have z47 : (msI m9 2000 47 0).1 2000 47 = iI 0 := by rw [msI_i, if_pos ⟨rfl, rfl⟩]; rfl
  have LA : (msI m9 2000 47 0).2 = m.2 := g2.trans (f2.trans L7)
  generalize msI m9 2000 47 0 = mA at FA FB z38 z44 z47 LA
  have hL : lxM (tpT m N) N mA := ⟨hT, fun k hk => by
    rw [FA _ _ (by omega) (by omega) (by omega)]
    unfold tpT
    rw [if_pos hk]
    exact mi_of m 1001 k, (FB 3 (by omega)).trans v3, hw.mv (fun c j a b k => FA c j (by omega) (by omega) (by omega))⟩
  have g : gd (tpT m N) N mA (skp (tpT m N) N 0) := ⟨0, ⟨(FB 5 (by omega)).trans v5, (FB 2 (by omega)).trans v2, Nat.zero_le _, -1, (FB 4 (by omega)).trans v4, by omega, Or.inr ⟨by omega, fun q => absurd q.1 (Nat.lt_irrefl _)⟩⟩, rfl⟩
  have hM : hsM mA HS0 0 := hsM.mk (z38 0 (by omega)) (z38 1 (by omega)) (z38 2 (by omega)) (z38 3 (by omega)) (z38 4 (by omega)) (z38 5 (by omega)) (fun k hk => absurd hk (Nat.not_lt_zero _)) (fun k hk => absurd hk (Nat.not_lt_zero _)) (fun k hk => absurd hk (Nat.not_lt_zero _)) (fun k hk => absurd hk (Nat.not_lt_zero _)) (fun k hk => absurd hk (Nat.not_lt_zero _)) (z44 0 (by omega)) (z44 1 (by omega)) ((FB 46 (by omega)).trans v46) z47
  have fr : ∀ m' : MM, hF mA m' → ∀ c j : Nat, ¬ rdX c j → ¬ (c = 2000 ∧ j = 1) → m'.1 c j = m.1 c j := fun m' x c j k1 k2 => by
    rw [x.1 c j (Or.inl (hX_rd k1))]
    unfold rdX at k1
    exact FA c j (by omega) (by omega) (by omega)
  refine p_hh84 (Q := hdQ m (sAll (tpT m N) N (N + 1) HS0 (skp (tpT m N) N 0))) hT (N + 1) mA HS0 0 (skp (tpT m N) N 0) (by omega) hL g hsOK0 hM (Nat.zero_le _) (fun m' p' h' C' es x hz hM' ho hC => ?_) (fun m' k l es x b => ?_)
  · unfold mj_X6_household_106
    refine pw_let (pw_let ?_)
    have e6 : m'.1 2000 6 = -1 := (x.1 2000 6 (Or.inr ⟨rfl, Or.inr rfl, hz⟩)).trans ((FB 6 (by omega)).trans v6)
    have e1 : m'.1 2000 1 = 0 := (x.1 2000 1 (Or.inl (by unfold hX qX xK; omega))).trans ((FB 1 (by omega)).trans v1)
    have F : ∀ c j : Nat, ¬ (c = 2000 ∧ (j = 7 ∨ j = 8)) → (msI (msI m' 2000 7 (m'.1 2000 5)) 2000 8 ((msI m' 2000 7 (m'.1 2000 5)).1 2000 6)).1 c j = m'.1 c j := fun c j k => by rw [msI_i, if_neg (by omega), msI_i, if_neg (by omega)]
    have w7 : (msI (msI m' 2000 7 (m'.1 2000 5)) 2000 8 ((msI m' 2000 7 (m'.1 2000 5)).1 2000 6)).1 2000 7 = 0 := by rw [msI_i, if_neg (by omega), msI_i, if_pos ⟨rfl, rfl⟩]; exact hz
    have w8 : (msI (msI m' 2000 7 (m'.1 2000 5)) 2000 8 ((msI m' 2000 7 (m'.1 2000 5)).1 2000 6)).1 2000 8 = -1 := by rw [msI_i, if_pos ⟨rfl, rfl⟩, msI_i, if_neg (by omega)]; exact e6
    have LL : (msI (msI m' 2000 7 (m'.1 2000 5)) 2000 8 ((msI m' 2000 7 (m'.1 2000 5)).1 2000 6)).2 = m'.2 := rfl
    generalize msI (msI m' 2000 7 (m'.1 2000 5)) 2000 8 ((msI m' 2000 7 (m'.1 2000 5)).1 2000 6) = mB at F w7 w8 LL
    refine pw_t ((F _ _ (by omega)).trans hz) (pw_bind (pw_mono (p_stands ho (hM'.mv (fun c j k => F c j (by omega)) (fun j => by rw [LL])) (by omega)) ?_))
    rintro ⟨⟨⟩, mC⟩ ⟨s1, s2, s3⟩
    dsimp only at s1 s2 s3 ⊢
    have keep : ∀ j : Nat, j ≠ 68 → j ≠ 64 → mC.1 2000 j = mB.1 2000 j := fun j h1 h2 => s3.1 2000 j (by unfold stX; omega)
    refine pw_some ⟨(keep 1 (by omega) (by omega)).trans ((F _ _ (by omega)).trans e1), Or.inr ⟨p', h', es, ho, ?_, (keep 7 (by omega) (by omega)).trans w7, (keep 8 (by omega) (by omega)).trans w8, s1, s2, fun c j k1 k2 k3 => ?_, fun c j k => ?_⟩⟩
    · exact (keep 47 (by omega) (by omega)).trans ((F _ _ (by omega)).trans hM'.sM)
    · show mC.1 c j = _
      rw [s3.1 c j k2, F c j (by omega)]
      exact fr m' x c j k1 (by omega)
    · show mC.2 c j = _
      rw [s3.2 c j (by omega), LL, x.2 c j (by omega), LA]
  · unfold mj_X6_household_106
    refine pw_let (pw_let ?_)
    have e1 : m'.1 2000 1 = 0 := (x.1 2000 1 (Or.inl (by unfold hX qX xK; omega))).trans ((FB 1 (by omega)).trans v1)
    have F : ∀ c j : Nat, ¬ (c = 2000 ∧ (j = 7 ∨ j = 8)) → (msI (msI m' 2000 7 (m'.1 2000 5)) 2000 8 ((msI m' 2000 7 (m'.1 2000 5)).1 2000 6)).1 c j = m'.1 c j := fun c j k => by rw [msI_i, if_neg (by omega), msI_i, if_neg (by omega)]
    have w7 : (msI (msI m' 2000 7 (m'.1 2000 5)) 2000 8 ((msI m' 2000 7 (m'.1 2000 5)).1 2000 6)).1 2000 7 = iI k := by rw [msI_i, if_neg (by omega), msI_i, if_pos ⟨rfl, rfl⟩]; exact b.2.1
    have w8 : (msI (msI m' 2000 7 (m'.1 2000 5)) 2000 8 ((msI m' 2000 7 (m'.1 2000 5)).1 2000 6)).1 2000 8 = iI l := by rw [msI_i, if_pos ⟨rfl, rfl⟩, msI_i, if_neg (by omega)]; exact b.2.2
    have LL : (msI (msI m' 2000 7 (m'.1 2000 5)) 2000 8 ((msI m' 2000 7 (m'.1 2000 5)).1 2000 6)).2 = m'.2 := rfl
    generalize msI (msI m' 2000 7 (m'.1 2000 5)) 2000 8 ((msI m' 2000 7 (m'.1 2000 5)).1 2000 6) = mB at F w7 w8 LL
    have g1' : gz_ix (1 : Int32) = 1 := by decide
    rw [g1']
    refine pw_f (fun q => b.ne ((F _ _ (by omega)).symm.trans q)) (pw_gu (by decide) (pw_gu (by decide) (pw_let (pw_some ⟨?_, Or.inl ⟨k, l, es, b.1, rfl, ?_, ?_, ?_, fun c j k1 k2 k3 => ?_, fun c j k => ?_⟩⟩))))
    · show (msI mB 1010 1 (mB.1 1010 1 + 1)).1 2000 1 = 0
      rw [msI_i, if_neg (by omega)]; exact (F _ _ (by omega)).trans e1
    · show (msI mB 1010 1 (mB.1 1010 1 + 1)).1 2000 7 = _
      rw [msI_i, if_neg (by omega)]; exact w7
    · show (msI mB 1010 1 (mB.1 1010 1 + 1)).1 2000 8 = _
      rw [msI_i, if_neg (by omega)]; exact w8
    · show (msI mB 1010 1 (mB.1 1010 1 + 1)).1 1010 1 = _
      rw [msI_i, if_pos ⟨rfl, rfl⟩, F _ _ (by omega), fr m' x 1010 1 (by unfold rdX; omega) (by omega)]
    · show (msI mB 1010 1 (mB.1 1010 1 + 1)).1 c j = _
      rw [msI_i, if_neg (by omega), F c j (by omega)]
      exact fr m' x c j k1 (by omega)
    · show mB.2 c j = _
      rw [LL, x.2 c j k, LA]
