/-! ===== lightings ===== -/
/-- some one below n that burns lights t -/
def mlB (m : MM) (s : Int32) (t : Nat) : Nat → Bool
  | 0 => false
  | b + 1 => mlB m s t b || (bt s b && clS m b t)
theorem mlB_s (m : MM) (s : Int32) (t b : Nat) : mlB m s t (b + 1) = (mlB m s t b || (bt s b && clS m b t)) := rfl
theorem mlB_up {m : MM} {s : Int32} {t i : Nat} (h : mlB m s t i = true) : ∀ j : Nat, mlB m s t (i + j) = true
  | 0 => h
  | j + 1 => by
    show (mlB m s t (i + j) || _) = true
    rw [mlB_up h j]
    rfl
theorem mlB_ex {m : MM} {s : Int32} {t : Nat} : ∀ {n : Nat}, mlB m s t n = true → ∃ b : Nat, b < n ∧ bt s b = true ∧ clS m b t = true
  | 0, h => by cases h
  | n + 1, h => by
    rw [mlB_s, Bool.or_eq_true, Bool.and_eq_true] at h
    rcases h with h | h
    · obtain ⟨b, h1, h2⟩ := mlB_ex h
      exact ⟨b, by omega, h2⟩
    · exact ⟨n, by omega, h⟩
theorem mlB_of {m : MM} {s : Int32} {t b n : Nat} (hb : b < n) (h1 : bt s b = true) (h2 : clS m b t = true) : mlB m s t n = true := by
  have : mlB m s t (b + 1) = true := by rw [mlB_s, h1, h2]; simp
  have := mlB_up this (n - (b + 1))
  rw [show b + 1 + (n - (b + 1)) = n by omega] at this
  exact this
def nxI (m : MM) (s : Int32) (t : Nat) (z : Int32) : Nat → Int32
  | 0 => z
  | b + 1 => if bt s b = true ∧ clS m b t = true then nxI m s t z b ||| ((1 : Int32) <<< (iI t &&& 31)) else nxI m s t z b
theorem nxI_s (m : MM) (s : Int32) (t : Nat) (z : Int32) (b : Nat) : nxI m s t z (b + 1) = if bt s b = true ∧ clS m b t = true then nxI m s t z b ||| ((1 : Int32) <<< (iI t &&& 31)) else nxI m s t z b := rfl
theorem nxI_bt (m : MM) (s : Int32) {t : Nat} (ht : t < 8) (z : Int32) {k : Nat} (hk : k < 32) : ∀ b : Nat, bt (nxI m s t z b) k = (bt z k || (decide (k = t) && mlB m s t b))
  | 0 => by
    show bt z k = (bt z k || (decide (k = t) && false))
    rw [Bool.and_false, Bool.or_false]
  | b + 1 => by
    have ih := nxI_bt m s ht z hk b
    rw [nxI_s, mlB_s]
    by_cases q : bt s b = true ∧ clS m b t = true
    · rw [if_pos q, bt_or1 _ (by omega) hk, ih, q.1, q.2]
      cases bt z k <;> cases decide (k = t) <;> cases mlB m s t b <;> rfl
    · rw [if_neg q, ih]
      have : (bt s b && clS m b t) = false := by
        cases h1 : bt s b
        · rfl
        · cases h2 : clS m b t
          · rfl
          · exact absurd ⟨h1, h2⟩ q
      rw [this, Bool.or_false]
def nxO (m : MM) (s : Int32) : Nat → Int32
  | 0 => s
  | t + 1 => nxI m s t (nxO m s t) (things m)
theorem nxO_bt (m : MM) (s : Int32) {k : Nat} (hk : k < 32) : ∀ n : Nat, n ≤ 8 → bt (nxO m s n) k = (bt s k || (decide (k < n) && mlB m s k (things m)))
  | 0, _ => by
    show bt s k = _
    rw [decide_eq_false (by omega)]
    simp
  | n + 1, hn => by
    show bt (nxI m s n (nxO m s n) (things m)) k = _
    rw [nxI_bt m s (by omega) _ hk, nxO_bt m s hk n (by omega)]
    by_cases z : k = n
    · subst z
      rw [decide_eq_true (show k = k from rfl), decide_eq_true (show k < k + 1 by omega), decide_eq_false (show ¬ k < k by omega)]
      simp
    · rw [decide_eq_false z]
      by_cases w : k < n
      · rw [decide_eq_true w, decide_eq_true (show k < n + 1 by omega)]
        simp
      · rw [decide_eq_false w, decide_eq_false (show ¬ k < n + 1 by omega)]
        simp
def nxS (m : MM) (s : Int32) : Int32 := nxO m s (things m)
theorem p_nextTo {m : MM} (h : rMany m) (hT : tieOK m) (s : Int32) : mf_nextTo s m = some (nxS m s, m) := by
  have hb := h.2.1
  have h8 : things m ≤ 8 := by unfold things; omega
  have hth : (things m : Int) = mi m 1038 7 := by unfold things; omega
  have key : pw (mf_nextTo s m) (fun r => r = (nxS m s, m)) := by
    unfold mf_nextTo ml_X6_nextTo_4
    refine pw_for (fun (i : Nat) (q : Int32 × Int32 × Int32 × MM) => q = (s, nxO m s i, iI i, m)) (things m) ?_ ?_ rfl
    · rintro i q hi rfl
      dsimp only
      have e1 : iI (i : Int) + (1 : Int32) = iI ((i + 1 : Nat) : Int) := by rw [iI_lit, iI_add]; rfl
      unfold mb_X6_nextTo_4
      rw [p_thingMany]
      refine pw_bind (pw_some ?_)
      dsimp only
      refine pw_f (by rw [iI_le (by omega) (by omega)]; omega) ?_
      unfold ml_X6_nextTo_15
      refine pw_for (fun (b : Nat) (q : Int32 × Int32 × Int32 × Int32 × MM) => q = (s, nxI m s i (nxO m s i) b, iI i, iI b, m)) (things m) ?_ ?_ rfl
      · rintro b q hb' rfl
        dsimp only
        have e2 : iI (b : Int) + (1 : Int32) = iI ((b + 1 : Nat) : Int) := by rw [iI_lit, iI_add]; rfl
        unfold mb_X6_nextTo_15 mj_X6_nextTo_50
        rw [p_thingMany]
        refine pw_bind (pw_some ?_)
        dsimp only
        refine pw_f (by rw [iI_le (by omega) (by omega)]; omega) ?_
        by_cases q1 : bt s b = true
        · refine pw_t ((has_bt _ (by omega)).2 q1) ?_
          rw [p_canLight h hT (by omega) (by omega)]
          refine pw_bind (pw_some ?_)
          dsimp only
          by_cases q2 : clS m b i = true
          · rw [if_pos q2]
            refine pw_f n10 (pw_let (pw_let (pw_some ?_)))
            show (s, nxI m s i (nxO m s i) b ||| ((1 : Int32) <<< (iI i &&& 31)), iI i, iI b + (1 : Int32), m) = _
            rw [e2, nxI_s, if_pos ⟨q1, q2⟩]
          · rw [if_neg q2]
            refine pw_t rfl (pw_let (pw_some ?_))
            show (s, nxI m s i (nxO m s i) b, iI i, iI b + (1 : Int32), m) = _
            rw [e2, nxI_s, if_neg (fun z => q2 z.2)]
        · refine pw_f (fun z => q1 ((has_bt _ (by omega)).1 z)) (pw_let (pw_some ?_))
          show (s, nxI m s i (nxO m s i) b, iI i, iI b + (1 : Int32), m) = _
          rw [e2, nxI_s, if_neg (fun z => q1 z.1)]
      · rintro q rfl
        dsimp only
        unfold mb_X6_nextTo_15
        rw [p_thingMany]
        refine pw_bind (pw_some ?_)
        dsimp only
        refine pw_t (by rw [iI_le (by omega) (by omega)]; omega) (pw_let (pw_some ?_))
        show (s, nxI m s i (nxO m s i) (things m), iI i + (1 : Int32), m) = _
        rw [e1]
        rfl
    · rintro q rfl
      dsimp only
      unfold mb_X6_nextTo_4
      rw [p_thingMany]
      refine pw_bind (pw_some ?_)
      dsimp only
      exact pw_t (by rw [iI_le (by omega) (by omega)]; omega) (pw_some rfl)
  obtain ⟨r, e1, e2⟩ := key
  rw [e1, e2]
/-- some one below n that burns lights another t -/
def mbB (m : MM) (s : Int32) (t : Nat) : Nat → Bool
  | 0 => false
  | b + 1 => mbB m s t b || (bt s b && (decide (b ≠ t) && clS m b t))
theorem mbB_s (m : MM) (s : Int32) (t b : Nat) : mbB m s t (b + 1) = (mbB m s t b || (bt s b && (decide (b ≠ t) && clS m b t))) := rfl
theorem mbB_up {m : MM} {s : Int32} {t i : Nat} (h : mbB m s t i = true) : ∀ j : Nat, mbB m s t (i + j) = true
  | 0 => h
  | j + 1 => by
    show (mbB m s t (i + j) || _) = true
    rw [mbB_up h j]
    rfl
theorem mb_ml {m : MM} {s : Int32} {t : Nat} : ∀ n : Nat, (bt s t || mbB m s t n) = (bt s t || mlB m s t n)
  | 0 => rfl
  | n + 1 => by
    have ih := mb_ml (m := m) (s := s) (t := t) n
    rw [mbB_s, mlB_s]
    by_cases q : n = t
    · subst q
      revert ih
      cases bt s n <;> cases mbB m s n n <;> cases mlB m s n n <;> cases clS m n n <;> simp
    · rw [decide_eq_true q]
      revert ih
      cases bt s t <;> cases bt s n <;> cases mbB m s t n <;> cases mlB m s t n <;> cases clS m n t <;> simp
theorem c_mayBeLit {m : MM} {μ : gM} (h : rHH m μ) {x : Nat} (hx : rTied m μ x) (s : Int32) {t : Nat} (ht : (t : Int) < mi m 1038 7) : cf_X5_mayBeLit x (iI t) s μ = some (if mbB m s t (things m) = true then 1 else 0, μ) := by
  have hb := h.1.2.1
  have h8 : things m ≤ 8 := by unfold things; omega
  have hth : (things m : Int) = mi m 1038 7 := by unfold things; omega
  have key : pw (cf_X5_mayBeLit x (iI t) s μ) (fun r => r = (if mbB m s t (things m) = true then 1 else 0, μ)) := by
    unfold cf_X5_mayBeLit ml_X5_mayBeLit_2
    refine pw_for (fun (i : Nat) (q : Int32 × Int32 × Int32 × gM) => q = (iI t, s, iI i, μ) ∧ mbB m s t i = false) (things m) ?_ ?_ ⟨rfl, rfl⟩
    · rintro i q hi ⟨rfl, hf⟩
      dsimp only
      have e1 : iI (i : Int) + (1 : Int32) = iI ((i + 1 : Nat) : Int) := by rw [iI_lit, iI_add]; rfl
      have no : (bt s i && (decide (i ≠ t) && clS m i t)) = false → pw (mj_X5_mayBeLit_32 x (iI t) s (iI i) μ) (Sum.elim (fun q : Int32 × Int32 × Int32 × gM => q = (iI t, s, iI ((i + 1 : Nat) : Int), μ) ∧ mbB m s t (i + 1) = false) (fun r => r = (if mbB m s t (things m) = true then 1 else 0, μ))) := by
        intro w
        unfold mj_X5_mayBeLit_32
        refine pw_let (pw_some ⟨?_, ?_⟩)
        · show (iI t, s, iI i + (1 : Int32), μ) = _
          rw [e1]
        · rw [mbB_s, hf, w]
          rfl
      unfold mb_X5_mayBeLit_2
      rw [c_things h]
      refine pw_bind (pw_some ?_)
      dsimp only
      refine pw_f (by rw [iI_le (by omega) (by omega)]; omega) ?_
      rw [c_has _ _ (by omega)]
      refine pw_bind (pw_some ?_)
      dsimp only
      by_cases q1 : bt s i = true
      · rw [if_pos q1]
        refine pw_f n10 ?_
        rw [c_mayLight h hx (by omega) ht]
        refine pw_bind (pw_some ?_)
        dsimp only
        by_cases q2 : i ≠ t ∧ clS m i t = true
        · rw [if_pos q2]
          refine pw_f n10 (pw_some ?_)
          have : mbB m s t (i + 1) = true := by rw [mbB_s, q1, q2.2, decide_eq_true q2.1]; simp
          have := mbB_up this (things m - (i + 1))
          rw [show i + 1 + (things m - (i + 1)) = things m by omega] at this
          show ((1 : Int32), μ) = _
          rw [if_pos this]
        · rw [if_neg q2]
          refine pw_t rfl (no ?_)
          rw [q1]
          cases h1 : clS m i t
          · simp
          · have : ¬ (i ≠ t) := fun z => q2 ⟨z, h1⟩
            rw [decide_eq_false this]
            rfl
      · rw [if_neg q1]
        refine pw_t rfl (no ?_)
        have : bt s i = false := by
          cases h1 : bt s i
          · rfl
          · exact absurd h1 q1
        rw [this]
        rfl
    · rintro q ⟨rfl, hf⟩
      dsimp only
      unfold mb_X5_mayBeLit_2
      rw [c_things h]
      refine pw_bind (pw_some ?_)
      dsimp only
      refine pw_t (by rw [iI_le (by omega) (by omega)]; omega) (pw_some ?_)
      show ((0 : Int32), μ) = _
      rw [hf]
      rfl
  obtain ⟨r, e1, e2⟩ := key
  rw [e1, e2]
def moF (m : MM) (s : Int32) : Nat → Int32
  | 0 => s
  | i + 1 => if mbB m s i (things m) = true then moF m s i ||| ((1 : Int32) <<< (iI i &&& 31)) else moF m s i
theorem moF_s (m : MM) (s : Int32) (i : Nat) : moF m s (i + 1) = if mbB m s i (things m) = true then moF m s i ||| ((1 : Int32) <<< (iI i &&& 31)) else moF m s i := rfl
theorem moF_bt (m : MM) (s : Int32) {k : Nat} (hk : k < 32) : ∀ n : Nat, n ≤ 8 → bt (moF m s n) k = (bt s k || (decide (k < n) && mbB m s k (things m)))
  | 0, _ => by
    show bt s k = _
    rw [decide_eq_false (by omega)]
    simp
  | n + 1, hn => by
    have ih := moF_bt m s hk n (by omega)
    rw [moF_s]
    by_cases q : mbB m s n (things m) = true
    · rw [if_pos q, bt_or1 _ (by omega) hk, ih]
      by_cases z : k = n
      · subst z
        rw [q, decide_eq_true (show k = k from rfl), decide_eq_true (show k < k + 1 by omega)]
        simp
      · rw [decide_eq_false z]
        by_cases w : k < n
        · rw [decide_eq_true w, decide_eq_true (show k < n + 1 by omega)]; simp
        · rw [decide_eq_false w, decide_eq_false (show ¬ k < n + 1 by omega)]; simp
    · rw [if_neg q, ih]
      by_cases z : k = n
      · subst z
        have : mbB m s k (things m) = false := by
          cases h1 : mbB m s k (things m)
          · rfl
          · exact absurd h1 q
        rw [this]
        simp
      · by_cases w : k < n
        · rw [decide_eq_true w, decide_eq_true (show k < n + 1 by omega)]
        · rw [decide_eq_false w, decide_eq_false (show ¬ k < n + 1 by omega)]
theorem mo_nx {m : MM} (h8 : things m ≤ 8) (s : Int32) : moF m s (things m) = nxS m s := b_ext fun k hk => by
  unfold nxS
  rw [moF_bt m s hk _ h8, nxO_bt m s hk _ h8]
  by_cases w : k < things m
  · rw [decide_eq_true w, Bool.true_and, Bool.true_and]
    exact mb_ml _
  · rw [decide_eq_false w]
    rfl
theorem c_more {m : MM} {μ : gM} (h : rHH m μ) (h6 : rTied m μ 1027) (x1 s x3 : Int32) : ml_X0_lightings_42 x1 s x3 s (0 : Int32) μ = some (Sum.inl (x1, nxS m s, x3 + 1, μ)) := by
  have hb := h.1.2.1
  have h8 : things m ≤ 8 := by unfold things; omega
  have hth : (things m : Int) = mi m 1038 7 := by unfold things; omega
  have key : pw (ml_X0_lightings_42 x1 s x3 s (0 : Int32) μ) (fun r => r = Sum.inl (x1, nxS m s, x3 + 1, μ)) := by
    unfold ml_X0_lightings_42
    refine pw_for (fun (i : Nat) (q : Int32 × Int32 × Int32 × Int32 × Int32 × gM) => q = (x1, s, x3, moF m s i, iI i, μ)) (things m) ?_ ?_ rfl
    · rintro i q hi rfl
      dsimp only
      have e1 : iI (i : Int) + (1 : Int32) = iI ((i + 1 : Nat) : Int) := by rw [iI_lit, iI_add]; rfl
      unfold mb_X0_lightings_42 mj_X0_lightings_74
      rw [c_things h]
      refine pw_bind (pw_some ?_)
      dsimp only
      refine pw_f (by rw [iI_le (by omega) (by omega)]; omega) ?_
      rw [c_mayBeLit h h6 s (by omega)]
      refine pw_bind (pw_some ?_)
      dsimp only
      by_cases q : mbB m s i (things m) = true
      · rw [if_pos q]
        refine pw_f n10 (pw_let (pw_let (pw_some ?_)))
        show (x1, s, x3, moF m s i ||| ((1 : Int32) <<< (iI i &&& 31)), iI i + (1 : Int32), μ) = _
        rw [e1, moF_s, if_pos q]
      · rw [if_neg q]
        refine pw_t rfl (pw_let (pw_let (pw_some ?_)))
        show (x1, s, x3, moF m s i ||| (0 : Int32), iI i + (1 : Int32), μ) = _
        rw [e1, moF_s, if_neg q, or_0]
    · rintro q rfl
      dsimp only
      unfold mb_X0_lightings_42
      rw [c_things h]
      refine pw_bind (pw_some ?_)
      dsimp only
      refine pw_t (by rw [iI_le (by omega) (by omega)]; omega) (pw_let (pw_some ?_))
      show Sum.inl (x1, moF m s (things m), x3 + (1 : Int32), μ) = _
      rw [mo_nx h8]
  obtain ⟨r, e1, e2⟩ := key
  rw [e1, e2]
