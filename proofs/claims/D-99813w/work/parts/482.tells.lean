/-! ===== tells: when to look, and at what ===== -/
def eqF (m : MM) (t k u a b : Nat) : Bool := bt (setS m t 10) b && decide (stH m t a k u = stH m t b k u)
def eqN (m : MM) (t k u a : Nat) : Nat := cn (eqF m t k u a) 10
def mxN (m : MM) (t k u : Nat) : Nat → Nat
  | 0 => 0
  | a + 1 => max (mxN m t k u a) (if bt (setS m t 10) a = true then eqN m t k u a else 0)
theorem mxN_le (m : MM) (t k u : Nat) : ∀ a : Nat, mxN m t k u a ≤ 10
  | 0 => Nat.zero_le _
  | a + 1 => by
    have h1 := mxN_le m t k u a
    have h2 := cn_le (eqF m t k u a) 10
    show max _ _ ≤ 10
    unfold eqN
    split <;> omega
def mstN (m : MM) (t k u : Nat) : Nat := mxN m t k u 10
theorem set_or : ∀ h : Nat, h < 10 → ∀ n : Nat, n < 2 ^ h → iI (n : Int) ||| ((1 : Int32) <<< (iI (h : Int) &&& 31)) = iI ((n + 2 ^ h : Nat) : Int) := by decide +kernel
theorem setS_n (m : MM) (t : Nat) : ∀ h : Nat, h ≤ 10 → ∃ n : Nat, n < 2 ^ h ∧ setS m t h = iI (n : Int)
  | 0, _ => ⟨0, by decide, rfl⟩
  | h + 1, hh => by
    obtain ⟨n, h1, h2⟩ := setS_n m t h (by omega)
    have e2 : 2 ^ (h + 1) = 2 ^ h + 2 ^ h := by rw [Nat.pow_succ]; omega
    show ∃ n : Nat, n < 2 ^ (h + 1) ∧ (if fitB m t h = true then setS m t h ||| ((1 : Int32) <<< (iI h &&& 31)) else setS m t h) = iI (n : Int)
    by_cases q : fitB m t h = true
    · rw [if_pos q, h2, set_or h (by omega) n h1]
      exact ⟨n + 2 ^ h, by omega, rfl⟩
    · rw [if_neg q, h2]
      exact ⟨n, by omega, rfl⟩
section TellsM
variable {m a : MM} {t : Nat}
theorem p_most30 {Q : ((Int32 × Int32 × Int32 × Int32 × MM) ⊕ (Int32 × MM)) → Prop} {k u h X : Nat} (hw : hwM m t a 10 0 0) (hk : k ≤ 30) (hu : u < things m) (hu8 : u < 8) (hh : h < 10) (hX : X ≤ 10) (hQ : Q (Sum.inl (setS m t 10, iI ((8 * k + u : Nat) : Int), iI ((max X (eqN m t k u h) : Nat) : Int), iI ((h + 1 : Nat) : Int), a))) : pw (ml_X6_mostAlike_30 (setS m t 10) (iI ((8 * k + u : Nat) : Int)) (iI X) (iI h) 0 0 a) Q := by
  have e248 : ∀ b : Nat, b < 10 → (248 : Int32) * iI (b : Int) + iI ((8 * k + u : Nat) : Int) = iI ((248 * b + 8 * k + u : Nat) : Int) := fun b _ => by
    rw [show (248 : Int32) = iI 248 from rfl, iI_mul, iI_add]; congr 1; omega
  unfold ml_X6_mostAlike_30
  refine pw_for (fun i q => q.1 = setS m t 10 ∧ q.2.1 = iI ((8 * k + u : Nat) : Int) ∧ q.2.2.1 = iI X ∧ q.2.2.2.1 = iI h ∧ q.2.2.2.2.1 = iI (cn (eqF m t k u h) i : Int) ∧ q.2.2.2.2.2.1 = iI (i : Int) ∧ q.2.2.2.2.2.2 = a) 10 ?_ ?_ ⟨rfl, rfl, rfl, rfl, rfl, rfl, rfl⟩
  · rintro i ⟨y1, y2, y3, y4, y5, y6, a'⟩ hi ⟨e1, e2, e3, e4, e5, e6, e7⟩
    dsimp only at e1 e2 e3 e4 e5 e6 e7 ⊢
    subst e1; subst e2; subst e3; subst e4; subst e5; subst e6; subst e7
    have jj : iI (i : Int) + (1 : Int32) = iI ((i + 1 : Nat) : Int) := by rw [iI_lit, iI_add]; rfl
    have b1 : -2147483648 ≤ stH m t h k u ∧ stH m t h k u < 2147483648 := mi_r _ _ _
    have b2 : -2147483648 ≤ stH m t i k u ∧ stH m t i k u < 2147483648 := mi_r _ _ _
    have no : ¬ eqF m t k u h i = true → pw (mj_X6_mostAlike_79 (setS m t 10) (iI ((8 * k + u : Nat) : Int)) (iI X) (iI h) (iI (cn (eqF m t k u h) i : Int)) (iI i) a') (Sum.elim (fun q : Int32 × Int32 × Int32 × Int32 × Int32 × Int32 × MM => q.1 = setS m t 10 ∧ q.2.1 = iI ((8 * k + u : Nat) : Int) ∧ q.2.2.1 = iI X ∧ q.2.2.2.1 = iI h ∧ q.2.2.2.2.1 = iI (cn (eqF m t k u h) (i + 1) : Int) ∧ q.2.2.2.2.2.1 = iI ((i + 1 : Nat) : Int) ∧ q.2.2.2.2.2.2 = a') Q) := fun q => by
      unfold mj_X6_mostAlike_79
      refine pw_let (pw_some ⟨rfl, rfl, rfl, rfl, ?_, jj, rfl⟩)
      show iI (cn (eqF m t k u h) i : Int) = iI ((cn (eqF m t k u h) i + (if eqF m t k u h i = true then 1 else 0) : Nat) : Int)
      rw [if_neg q]; rfl
    unfold mb_X6_mostAlike_30
    rw [e248 h hh, e248 i hi, gix (by omega), gix (by omega)]
    have x1 : (((248 * h + 8 * k + u : Nat) : Int)).toNat = 248 * h + 8 * k + u := by omega
    have x2 : (((248 * i + 8 * k + u : Nat) : Int)).toNat = 248 * i + 8 * k + u := by omega
    rw [x1, x2, hw h k u hk hu (by omega), hw i k u hk hu (by omega)]
    refine pw_f (by rw [show (10 : Int32) = iI 10 from rfl, iI_le (by omega) (by omega)]; omega) (pw_if (fun q => ?_) (fun q => ?_))
    · have q' := (has_bt _ (by omega)).mp q
      refine pw_gu ((gin_iI (by omega)).2 (by omega)) (pw_gu ((gin_iI (by omega)).2 (by omega)) (pw_if (fun w => ?_) (fun w => ?_)))
      · rw [iI_eq b1 b2] at w
        have yes : eqF m t k u h i = true := by unfold eqF; rw [q', decide_eq_true w]; rfl
        unfold mj_X6_mostAlike_79
        refine pw_let (pw_let (pw_some ⟨rfl, rfl, rfl, rfl, ?_, jj, rfl⟩))
        show iI (cn (eqF m t k u h) i : Int) + (1 : Int32) = iI ((cn (eqF m t k u h) i + (if eqF m t k u h i = true then 1 else 0) : Nat) : Int)
        rw [if_pos yes, iI_lit, iI_add]; rfl
      · rw [iI_eq b1 b2] at w
        refine no (fun z => w ?_)
        unfold eqF at z
        rw [Bool.and_eq_true, decide_eq_true_iff] at z
        exact z.2
    · refine no (fun z => q ((has_bt _ (by omega)).mpr ?_))
      unfold eqF at z
      rw [Bool.and_eq_true] at z
      exact z.1
  · rintro ⟨y1, y2, y3, y4, y5, y6, a'⟩ ⟨e1, e2, e3, e4, e5, e6, e7⟩
    dsimp only at e1 e2 e3 e4 e5 e6 e7 ⊢
    subst e1; subst e2; subst e3; subst e4; subst e5; subst e6; subst e7
    have cl := cn_le (eqF m t k u h) 10
    have jj : iI (h : Int) + (1 : Int32) = iI ((h + 1 : Nat) : Int) := by rw [iI_lit, iI_add]; rfl
    unfold mb_X6_mostAlike_30 mj_X6_mostAlike_94
    refine pw_t (by decide) (pw_if (fun q => ?_) (fun q => ?_))
    · rw [iI_le (by omega) (by omega)] at q
      refine pw_map (pw_let (pw_some ?_))
      show Q (Sum.inl (_, _, _, iI (h : Int) + 1, a'))
      rw [jj]
      rw [show max X (eqN m t k u h) = X by unfold eqN; omega] at hQ
      exact hQ
    · rw [iI_le (by omega) (by omega)] at q
      refine pw_map (pw_let (pw_some ?_))
      show Q (Sum.inl (_, _, _, iI (h : Int) + 1, a'))
      rw [jj]
      rw [show max X (eqN m t k u h) = cn (eqF m t k u h) 10 by unfold eqN; omega] at hQ
      exact hQ
theorem p_most {k u : Nat} (hw : hwM m t a 10 0 0) (hk : k ≤ 30) (hu : u < things m) (hu8 : u < 8) : mf_mostAlike (setS m t 10) (iI ((8 * k + u : Nat) : Int)) a = some (iI (mstN m t k u : Int), a) := by
  have P : pw (mf_mostAlike (setS m t 10) (iI ((8 * k + u : Nat) : Int)) a) (fun q => q.1 = iI (mstN m t k u : Int) ∧ q.2 = a) := by
    unfold mf_mostAlike ml_X6_mostAlike_5
    refine pw_for (fun i q => q.1 = setS m t 10 ∧ q.2.1 = iI ((8 * k + u : Nat) : Int) ∧ q.2.2.1 = iI (mxN m t k u i : Int) ∧ q.2.2.2.1 = iI (i : Int) ∧ q.2.2.2.2 = a) 10 ?_ ?_ ⟨rfl, rfl, rfl, rfl, rfl⟩
    · rintro i ⟨y1, y2, y3, y4, a'⟩ hi ⟨e1, e2, e3, e4, e5⟩
      dsimp only at e1 e2 e3 e4 e5 ⊢
      subst e1; subst e2; subst e3; subst e4; subst e5
      have jj : iI (i : Int) + (1 : Int32) = iI ((i + 1 : Nat) : Int) := by rw [iI_lit, iI_add]; rfl
      have ml := mxN_le m t k u i
      unfold mb_X6_mostAlike_5
      refine pw_f (by rw [show (10 : Int32) = iI 10 from rfl, iI_le (by omega) (by omega)]; omega) (pw_if (fun q => ?_) (fun q => ?_))
      · have q' := (has_bt0 _ (by omega)).mp q
        unfold mj_X6_mostAlike_94
        refine pw_let (pw_some ⟨rfl, rfl, ?_, jj, rfl⟩)
        show iI (mxN m t k u i : Int) = iI ((max (mxN m t k u i) (if bt (setS m t 10) i = true then eqN m t k u i else 0) : Nat) : Int)
        rw [if_neg (by rw [q']; decide), Nat.max_eq_left (Nat.zero_le _)]
      · have q' : bt (setS m t 10) i = true := by
          cases e : bt (setS m t 10) i with
          | true => rfl
          | false => exact absurd ((has_bt0 _ (by omega)).mpr e) q
        refine p_most30 hw hk hu hu8 hi ml ⟨rfl, rfl, ?_, rfl, rfl⟩
        show iI ((max (mxN m t k u i) (eqN m t k u i) : Nat) : Int) = iI ((max (mxN m t k u i) (if bt (setS m t 10) i = true then eqN m t k u i else 0) : Nat) : Int)
        rw [if_pos q']
    · rintro ⟨y1, y2, y3, y4, a'⟩ ⟨e1, e2, e3, e4, e5⟩
      dsimp only at e1 e2 e3 e4 e5 ⊢
      subst e1; subst e2; subst e3; subst e4; subst e5
      unfold mb_X6_mostAlike_5
      exact pw_t (by decide) (pw_some ⟨rfl, rfl⟩)
  obtain ⟨⟨r, a'⟩, e, q1, q2⟩ := P
  dsimp only at q1 q2
  rw [e, q1, q2]
end TellsM
section TellsC
variable {m : MM} {μ : gM} {t : Nat}
theorem c_most19 {Q : ((Int32 × Int32 × Int32 × Int32 × Int32 × gM) ⊕ (Int32 × gM)) → Prop} {k u h X : Nat} (hw : hwC m t μ 10 0) (hk : k < ahN m) (hk30 : k ≤ 30) (hu : u < things m) (hu8 : u < 8) (hh : h < 10) (hX : X ≤ 10) (hQ : Q (Sum.inl (setS m t 10, iI k, iI u, iI ((max X (if bt (setS m t 10) h = true then eqN m t k u h else 0) : Nat) : Int), iI ((h + 1 : Nat) : Int), μ))) : pw (ml_X0_mostBy_19 (setS m t 10) (iI k) (iI u) (iI X) (iI h) 0 0 μ) Q := by
  have gh : ∀ b : Nat, b < 10 → gz_ix (iI (b : Int)) = b := fun b hb => by rw [gix (by omega)]; omega
  have gk : gz_ix (iI (k : Int)) = k := by rw [gix (by omega)]; omega
  have gu : gz_ix (iI (u : Int)) = u := by rw [gix (by omega)]; omega
  have ih : ∀ b : Nat, b < 10 → gz_in (iI (b : Int)) 10 := fun b hb => (gin_iI (by omega)).2 (by omega)
  have ik : gz_in (iI (k : Int)) 31 := (gin_iI (by omega)).2 (by omega)
  have iu : gz_in (iI (u : Int)) 8 := (gin_iI (by omega)).2 (by omega)
  unfold ml_X0_mostBy_19
  refine pw_for (fun i q => q.1 = setS m t 10 ∧ q.2.1 = iI k ∧ q.2.2.1 = iI u ∧ q.2.2.2.1 = iI X ∧ q.2.2.2.2.1 = iI h ∧ q.2.2.2.2.2.1 = iI (if bt (setS m t 10) h = true then (cn (eqF m t k u h) i : Int) else 0) ∧ q.2.2.2.2.2.2.1 = iI (i : Int) ∧ q.2.2.2.2.2.2.2 = μ) 10 ?_ ?_ ⟨rfl, rfl, rfl, rfl, rfl, by show (0 : Int32) = _; split <;> rfl, rfl, rfl⟩
  · rintro i ⟨y1, y2, y3, y4, y5, y6, y7, ν⟩ hi ⟨e1, e2, e3, e4, e5, e6, e7, e8⟩
    dsimp only at e1 e2 e3 e4 e5 e6 e7 e8 ⊢
    subst e1; subst e2; subst e3; subst e4; subst e5; subst e6; subst e7; subst e8
    have jj : iI (i : Int) + (1 : Int32) = iI ((i + 1 : Nat) : Int) := by rw [iI_lit, iI_add]; rfl
    have b1 : -2147483648 ≤ stH m t h k u ∧ stH m t h k u < 2147483648 := mi_r _ _ _
    have b2 : -2147483648 ≤ stH m t i k u ∧ stH m t i k u < 2147483648 := mi_r _ _ _
    unfold mb_X0_mostBy_19
    refine pw_f (by rw [show (10 : Int32) = iI 10 from rfl, iI_le (by omega) (by omega)]; omega) ?_
    rw [c_has ν _ (by omega)]
    refine pw_bind (pw_some ?_)
    dsimp only
    by_cases q : bt (setS m t 10) h = true
    · rw [if_pos q, if_pos q]
      have no : ¬ eqF m t k u h i = true → pw (mj_X0_mostBy_75 (setS m t 10) (iI k) (iI u) (iI X) (iI h) (iI i) (iI (cn (eqF m t k u h) i : Int)) ν) (Sum.elim (fun z : Int32 × Int32 × Int32 × Int32 × Int32 × Int32 × Int32 × gM => z.1 = setS m t 10 ∧ z.2.1 = iI k ∧ z.2.2.1 = iI u ∧ z.2.2.2.1 = iI X ∧ z.2.2.2.2.1 = iI h ∧ z.2.2.2.2.2.1 = iI (if bt (setS m t 10) h = true then (cn (eqF m t k u h) (i + 1) : Int) else 0) ∧ z.2.2.2.2.2.2.1 = iI ((i + 1 : Nat) : Int) ∧ z.2.2.2.2.2.2.2 = ν) Q) := fun w => by
        unfold mj_X0_mostBy_75 mj_X0_mostBy_76
        refine pw_let (pw_let (pw_some ⟨rfl, rfl, rfl, rfl, rfl, ?_, jj, rfl⟩))
        rw [if_pos q]
        show iI (cn (eqF m t k u h) i : Int) + (0 : Int32) = iI ((cn (eqF m t k u h) i + (if eqF m t k u h i = true then 1 else 0) : Nat) : Int)
        rw [if_neg w, iI_lit, iI_add]; rfl
      refine pw_f n10 ?_
      rw [c_has ν _ (by omega)]
      refine pw_bind (pw_some ?_)
      dsimp only
      by_cases p : bt (setS m t 10) i = true
      · rw [if_pos p, gh h hh, gh i hi, gk, gu]
        have a1 := hw h k u hk hu (by omega)
        have a2 := hw i k u hk hu (by omega)
        rw [show 1127 + 32 * h + 1 + k = 1128 + 32 * h + k by omega, show 1127 + 32 * i + 1 + k = 1128 + 32 * i + k by omega, a1, a2]
        refine pw_f n10 (pw_gu (ih h hh) (pw_gu ik (pw_gu iu (pw_gu (ih i hi) (pw_gu ik (pw_gu iu (pw_if (fun w => ?_) (fun w => ?_))))))))
        · rw [iI_eq b1 b2] at w
          have yes : eqF m t k u h i = true := by unfold eqF; rw [p, decide_eq_true w]; rfl
          unfold mj_X0_mostBy_76
          refine pw_let (pw_let (pw_some ⟨rfl, rfl, rfl, rfl, rfl, ?_, jj, rfl⟩))
          rw [if_pos q]
          show iI (cn (eqF m t k u h) i : Int) + (1 : Int32) = iI ((cn (eqF m t k u h) i + (if eqF m t k u h i = true then 1 else 0) : Nat) : Int)
          rw [if_pos yes, iI_lit, iI_add]; rfl
        · rw [iI_eq b1 b2] at w
          refine no (fun z => w ?_)
          unfold eqF at z
          rw [Bool.and_eq_true, decide_eq_true_iff] at z
          exact z.2
      · rw [if_neg p]
        refine pw_t rfl (no (fun z => p ?_))
        unfold eqF at z
        rw [Bool.and_eq_true] at z
        exact z.1
    · rw [if_neg q, if_neg q]
      unfold mj_X0_mostBy_75 mj_X0_mostBy_76
      refine pw_t rfl (pw_let (pw_let (pw_some ⟨rfl, rfl, rfl, rfl, rfl, ?_, jj, rfl⟩)))
      rw [if_neg q]; rfl
  · rintro ⟨y1, y2, y3, y4, y5, y6, y7, ν⟩ ⟨e1, e2, e3, e4, e5, e6, e7, e8⟩
    dsimp only at e1 e2 e3 e4 e5 e6 e7 e8 ⊢
    subst e1; subst e2; subst e3; subst e4; subst e5; subst e6; subst e7; subst e8
    have cl := cn_le (eqF m t k u h) 10
    have jj : iI (h : Int) + (1 : Int32) = iI ((h + 1 : Nat) : Int) := by rw [iI_lit, iI_add]; rfl
    have ev : (if bt (setS m t 10) h = true then (cn (eqF m t k u h) 10 : Int) else 0) = ((if bt (setS m t 10) h = true then eqN m t k u h else 0 : Nat) : Int) := by split <;> rfl
    have yb : (if bt (setS m t 10) h = true then eqN m t k u h else 0) ≤ 10 := by unfold eqN; split <;> omega
    unfold mb_X0_mostBy_19
    rw [ev]
    generalize (if bt (setS m t 10) h = true then eqN m t k u h else 0) = Y at *
    refine pw_t (by decide) ?_
    unfold cf_J8_max
    by_cases q : X < Y
    · rw [if_pos (show iI (X : Int) < iI (Y : Int) by rw [iI_lt (by omega) (by omega)]; omega)]
      refine pw_bind (pw_some (pw_let (pw_some ?_)))
      show Q (Sum.inl (_, _, _, iI (Y : Int), iI (h : Int) + 1, ν))
      rw [jj]
      rw [Nat.max_eq_right (by omega)] at hQ
      exact hQ
    · rw [if_neg (show ¬ iI (X : Int) < iI (Y : Int) by rw [iI_lt (by omega) (by omega)]; omega)]
      refine pw_bind (pw_some (pw_let (pw_some ?_)))
      show Q (Sum.inl (_, _, _, iI (X : Int), iI (h : Int) + 1, ν))
      rw [jj]
      rw [Nat.max_eq_left (by omega)] at hQ
      exact hQ
theorem c_mostB {k u : Nat} (hw : hwC m t μ 10 0) (hk : k < ahN m) (hk30 : k ≤ 30) (hu : u < things m) (hu8 : u < 8) : cf_X0_mostBy (setS m t 10) (iI k) (iI u) μ = some (iI (mstN m t k u : Int), μ) := by
  have P : pw (cf_X0_mostBy (setS m t 10) (iI k) (iI u) μ) (fun q => q.1 = iI (mstN m t k u : Int) ∧ q.2 = μ) := by
    unfold cf_X0_mostBy ml_X0_mostBy_6
    refine pw_for (fun i q => q.1 = setS m t 10 ∧ q.2.1 = iI k ∧ q.2.2.1 = iI u ∧ q.2.2.2.1 = iI (mxN m t k u i : Int) ∧ q.2.2.2.2.1 = iI (i : Int) ∧ q.2.2.2.2.2 = μ) 10 ?_ ?_ ⟨rfl, rfl, rfl, rfl, rfl, rfl⟩
    · rintro i ⟨y1, y2, y3, y4, y5, ν⟩ hi ⟨e1, e2, e3, e4, e5, e6⟩
      dsimp only at e1 e2 e3 e4 e5 e6 ⊢
      subst e1; subst e2; subst e3; subst e4; subst e5; subst e6
      unfold mb_X0_mostBy_6
      refine pw_f (by rw [show (10 : Int32) = iI 10 from rfl, iI_le (by omega) (by omega)]; omega) ?_
      exact c_most19 hw hk hk30 hu hu8 hi (mxN_le m t k u i) ⟨rfl, rfl, rfl, rfl, rfl, rfl⟩
    · rintro ⟨y1, y2, y3, y4, y5, ν⟩ ⟨e1, e2, e3, e4, e5, e6⟩
      dsimp only at e1 e2 e3 e4 e5 e6 ⊢
      subst e1; subst e2; subst e3; subst e4; subst e5; subst e6
      unfold mb_X0_mostBy_6
      exact pw_t (by decide) (pw_some ⟨rfl, rfl⟩)
  obtain ⟨⟨r, ν⟩, e, q1, q2⟩ := P
  dsimp only at q1 q2
  rw [e, q1, q2]
end TellsC
