/-! ===== what may be lit ===== -/
def tlB (m : MM) (by_ t k : Nat) : Bool := decide (mi m 1051 (2 + k) = 1 ∧ ((mi m 1043 (24 + 2 * k) = by_ ∧ mi m 1043 (25 + 2 * k) = t) ∨ (mi m 1043 (24 + 2 * k) = t ∧ mi m 1043 (25 + 2 * k) = by_)))
def clF (m : MM) (by_ t : Nat) : Nat → Bool
  | 0 => decide (mi m 1041 (16 + 2 * by_) = mi m 1041 (16 + 2 * t))
  | i + 1 => clF m by_ t i || tlB m by_ t i
theorem clF_s (m : MM) (a t i : Nat) : clF m a t (i + 1) = (clF m a t i || tlB m a t i) := rfl
def clS (m : MM) (a t : Nat) : Bool := clF m a t (ties m)
theorem clF_up {m : MM} {a t i : Nat} (h : clF m a t i = true) : ∀ j : Nat, clF m a t (i + j) = true
  | 0 => h
  | j + 1 => by
    show (clF m a t (i + j) || tlB m a t (i + j)) = true
    rw [clF_up h j]
    rfl
theorem p_canLight {m : MM} (h : rMany m) (hT : tieOK m) {a t : Nat} (ha : a < 8) (ht : t < 8) : mf_canLight (iI a) (iI t) m = some (if clS m a t = true then 1 else 0, m) := by
  have hb := h.2.2.2.1
  have hti : (ties m : Int) = mi m 1038 9 := by unfold ties; omega
  have r1 := mi_r m 1041 (16 + 2 * a)
  have r2 := mi_r m 1041 (16 + 2 * t)
  unfold mf_canLight
  rw [p_hallOf ha]
  simp only [Option.bind_some]
  rw [p_hallOf ht]
  simp only [Option.bind_some]
  by_cases q : mi m 1041 (16 + 2 * a) = mi m 1041 (16 + 2 * t)
  · have : clS m a t = true := by
      have := clF_up (m := m) (a := a) (t := t) (i := 0) (decide_eq_true q) (ties m)
      rw [Nat.zero_add] at this
      exact this
    rw [if_pos (by rw [q]), if_pos this]
  · rw [if_neg (by rw [iI_eq r1 r2]; exact q)]
    have key : pw (ml_X6_canLight_17 (iI a) (iI t) (0 : Int32) m) (fun r => r = (if clS m a t = true then 1 else 0, m)) := by
      unfold ml_X6_canLight_17
      refine pw_for (fun (i : Nat) (s : Int32 × Int32 × Int32 × MM) => s = (iI a, iI t, iI i, m) ∧ clF m a t i = false) (ties m) ?_ ?_ ⟨rfl, decide_eq_false q⟩
      · rintro i s hi ⟨rfl, hf⟩
        dsimp only
        obtain ⟨⟨f1, f2⟩, g1, g2⟩ := hT.2 i (by omega)
        have e1 : iI (i : Int) + (1 : Int32) = iI ((i + 1 : Nat) : Int) := by rw [iI_lit, iI_add]; rfl
        have yes : tlB m a t i = true → (if clS m a t = true then (1 : Int32) else 0) = 1 := by
          intro w
          have : clF m a t (i + 1) = true := by rw [clF_s, w]; simp
          have := clF_up this (ties m - (i + 1))
          rw [show i + 1 + (ties m - (i + 1)) = ties m by omega] at this
          rw [if_pos (show clS m a t = true from this)]
        have no : tlB m a t i = false → pw (mj_X6_canLight_71 (iI a) (iI t) (iI i) m) (Sum.elim (fun s : Int32 × Int32 × Int32 × MM => s = (iI a, iI t, iI ((i + 1 : Nat) : Int), m) ∧ clF m a t (i + 1) = false) (fun r => r = (if clS m a t = true then 1 else 0, m))) := by
          intro w
          unfold mj_X6_canLight_71
          refine pw_let (pw_some ⟨?_, ?_⟩)
          · show (iI a, iI t, iI i + (1 : Int32), m) = _
            rw [e1]
          · rw [clF_s, hf, w]
            rfl
        have y51 : ¬ (mi m 1043 (24 + 2 * i) = a ∧ mi m 1043 (25 + 2 * i) = t) → mi m 1051 (2 + i) = 1 → pw (mj_X6_canLight_51 (iI a) (iI t) (iI i) m) (Sum.elim (fun s : Int32 × Int32 × Int32 × MM => s = (iI a, iI t, iI ((i + 1 : Nat) : Int), m) ∧ clF m a t (i + 1) = false) (fun r => r = (if clS m a t = true then 1 else 0, m))) := by
          intro w1 w2
          unfold mj_X6_canLight_51 mj_X6_canLight_69
          rw [p_fromOf (by omega)]
          refine pw_bind (pw_some ?_)
          dsimp only
          by_cases c1 : mi m 1043 (24 + 2 * i) = t
          · refine pw_t (by rw [c1]) ?_
            rw [p_toOf (by omega)]
            refine pw_bind (pw_some ?_)
            dsimp only
            by_cases c2 : mi m 1043 (25 + 2 * i) = a
            · refine pw_t (by rw [c2]) (pw_map (pw_some ?_))
              show ((1 : Int32), m) = _
              rw [yes (decide_eq_true ⟨w2, Or.inr ⟨c1, c2⟩⟩)]
            · exact pw_f (by rw [iI_eq (by omega) (by omega)]; exact c2) (no (decide_eq_false (fun z => z.2.elim w1 (fun y => c2 y.2))))
          · exact pw_f (by rw [iI_eq (by omega) (by omega)]; exact c1) (no (decide_eq_false (fun z => z.2.elim w1 (fun y => c1 y.1))))
        unfold mb_X6_canLight_17 mj_X6_canLight_69
        rw [p_tieMany]
        refine pw_bind (pw_some ?_)
        dsimp only
        refine pw_f (by rw [iI_le (by omega) (by omega)]; omega) ?_
        rw [p_doesHold (by omega)]
        refine pw_bind (pw_some ?_)
        dsimp only
        by_cases c0 : mi m 1051 (2 + i) = 1
        · rw [if_pos c0]
          refine pw_f n10 ?_
          rw [p_fromOf (by omega)]
          refine pw_bind (pw_some ?_)
          dsimp only
          by_cases c1 : mi m 1043 (24 + 2 * i) = a
          · refine pw_t (by rw [c1]) ?_
            rw [p_toOf (by omega)]
            refine pw_bind (pw_some ?_)
            dsimp only
            by_cases c2 : mi m 1043 (25 + 2 * i) = t
            · refine pw_t (by rw [c2]) (pw_map (pw_some ?_))
              show ((1 : Int32), m) = _
              rw [yes (decide_eq_true ⟨c0, Or.inl ⟨c1, c2⟩⟩)]
            · exact pw_f (by rw [iI_eq (by omega) (by omega)]; exact c2) (y51 (fun z => c2 z.2) c0)
          · exact pw_f (by rw [iI_eq (by omega) (by omega)]; exact c1) (y51 (fun z => c1 z.1) c0)
        · rw [if_neg c0]
          exact pw_t rfl (no (decide_eq_false (fun z => c0 z.1)))
      · rintro s ⟨rfl, hf⟩
        dsimp only
        unfold mb_X6_canLight_17
        rw [p_tieMany]
        refine pw_bind (pw_some ?_)
        dsimp only
        refine pw_t (by rw [iI_le (by omega) (by omega)]; omega) (pw_some ?_)
        show ((0 : Int32), m) = _
        rw [if_neg (by rw [show clS m a t = false from hf]; decide)]
    obtain ⟨r, k1, k2⟩ := key
    rw [k1, k2]
theorem or_01 (b c : Bool) : (if b = true then (1 : Int32) else 0) ||| (if c = true then 1 else 0) = if (b || c) = true then 1 else 0 := by cases b <;> cases c <;> decide
theorem c_mayLight {m : MM} {μ : gM} (h : rHH m μ) {x : Nat} (hx : rTied m μ x) {a t : Nat} (ha : (a : Int) < mi m 1038 7) (ht : (t : Int) < mi m 1038 7) : cf_X5_mayLight x (iI a) (iI t) μ = some (if a ≠ t ∧ clS m a t = true then 1 else 0, μ) := by
  have hb := h.1.2.2.2.1
  have hb7 := h.1.2.1
  have hT := tieOK.of h
  have hti : (ties m : Int) = mi m 1038 9 := by unfold ties; omega
  have r1 := mi_r m 1041 (16 + 2 * a)
  have r2 := mi_r m 1041 (16 + 2 * t)
  obtain ⟨t1, t2, -⟩ := h.2.2.1 a ha
  obtain ⟨u1, u2, -⟩ := h.2.2.1 t ht
  have loop : pw (ml_X5_mayLight_41 x (iI a) (iI t) (if clF m a t 0 = true then 1 else 0) (0 : Int32) μ) (fun r => r = (if clS m a t = true then 1 else 0, μ)) := by
    unfold ml_X5_mayLight_41
    refine pw_for (fun (i : Nat) (s : Int32 × Int32 × Int32 × Int32 × gM) => s = (iI a, iI t, if clF m a t i = true then 1 else 0, iI i, μ)) (ties m) ?_ ?_ rfl
    · rintro i s hi rfl
      dsimp only
      have hi' : (i : Int) < mi m 1038 9 := by omega
      obtain ⟨⟨f1, f2⟩, g1, g2⟩ := hT.2 i hi'
      obtain ⟨k1, k2, k3, -⟩ := h.2.2.2 i hi'
      have e1 : iI (i : Int) + (1 : Int32) = iI ((i + 1 : Nat) : Int) := by rw [iI_lit, iI_add]; rfl
      have fin : ∀ c : Bool, c = tlB m a t i → pw (mj_X5_mayLight_135 x (iI a) (iI t) (iI i) (if c = true then 1 else 0) (if clF m a t i = true then 1 else 0) μ) (Sum.elim (fun s : Int32 × Int32 × Int32 × Int32 × gM => s = (iI a, iI t, if clF m a t (i + 1) = true then 1 else 0, iI ((i + 1 : Nat) : Int), μ)) (fun r => r = (if clS m a t = true then 1 else 0, μ))) := by
        intro c hc
        unfold mj_X5_mayLight_135
        refine pw_let (pw_let (pw_some ?_))
        show (iI a, iI t, (if clF m a t i = true then (1 : Int32) else 0) ||| (if c = true then 1 else 0), iI i + (1 : Int32), μ) = _
        rw [or_01, e1, clF_s, hc]
      have f130 : tlB m a t i = true → pw (mj_X5_mayLight_130 x (iI a) (iI t) (iI i) (if clF m a t i = true then 1 else 0) μ) (Sum.elim (fun s : Int32 × Int32 × Int32 × Int32 × gM => s = (iI a, iI t, if clF m a t (i + 1) = true then 1 else 0, iI ((i + 1 : Nat) : Int), μ)) (fun r => r = (if clS m a t = true then 1 else 0, μ))) := fun w => fin true w.symm
      have f134 : tlB m a t i = false → pw (mj_X5_mayLight_134 x (iI a) (iI t) (iI i) (if clF m a t i = true then 1 else 0) μ) (Sum.elim (fun s : Int32 × Int32 × Int32 × Int32 × gM => s = (iI a, iI t, if clF m a t (i + 1) = true then 1 else 0, iI ((i + 1 : Nat) : Int), μ)) (fun r => r = (if clS m a t = true then 1 else 0, μ))) := fun w => fin false w.symm
      have f98 : ¬ (mi m 1043 (24 + 2 * i) = a ∧ mi m 1043 (25 + 2 * i) = t) → mi m 1051 (2 + i) = 1 → pw (mj_X5_mayLight_98 x (iI a) (iI t) (iI i) (if clF m a t i = true then 1 else 0) μ) (Sum.elim (fun s : Int32 × Int32 × Int32 × Int32 × gM => s = (iI a, iI t, if clF m a t (i + 1) = true then 1 else 0, iI ((i + 1 : Nat) : Int), μ)) (fun r => r = (if clS m a t = true then 1 else 0, μ))) := by
        intro w1 w2
        unfold mj_X5_mayLight_98
        rw [c_tieOf h hi']
        refine pw_bind (pw_some ?_)
        dsimp only
        refine pw_gu k1 ?_
        rw [ci_of μ (tiC μ i) 0, k2]
        by_cases c1 : mi m 1043 (24 + 2 * i) = t
        · refine pw_t (by rw [c1]) ?_
          rw [c_tieOf h hi']
          refine pw_bind (pw_some ?_)
          dsimp only
          refine pw_gu k1 ?_
          rw [ci_of μ (tiC μ i) 1, k3]
          by_cases c2 : mi m 1043 (25 + 2 * i) = a
          · exact pw_t (by rw [c2]) (f130 (decide_eq_true ⟨w2, Or.inr ⟨c1, c2⟩⟩))
          · exact pw_f (by rw [iI_eq (by omega) (by omega)]; exact c2) (f134 (decide_eq_false (fun z => z.2.elim w1 (fun y => c2 y.2))))
        · exact pw_f (by rw [iI_eq (by omega) (by omega)]; exact c1) (f134 (decide_eq_false (fun z => z.2.elim w1 (fun y => c1 y.1))))
      unfold mb_X5_mayLight_41
      rw [c_ties h]
      refine pw_bind (pw_some ?_)
      dsimp only
      refine pw_f (by rw [iI_le (by omega) (by omega)]; omega) ?_
      rw [c_has μ _ (by omega), hx i hi']
      refine pw_bind (pw_some ?_)
      dsimp only
      by_cases c0 : mi m 1051 (2 + i) = 1
      · rw [if_pos (decide_eq_true c0)]
        refine pw_f n10 ?_
        rw [c_tieOf h hi']
        refine pw_bind (pw_some ?_)
        dsimp only
        refine pw_gu k1 ?_
        rw [ci_of μ (tiC μ i) 0, k2]
        by_cases c1 : mi m 1043 (24 + 2 * i) = a
        · refine pw_t (by rw [c1]) ?_
          rw [c_tieOf h hi']
          refine pw_bind (pw_some ?_)
          dsimp only
          refine pw_gu k1 ?_
          rw [ci_of μ (tiC μ i) 1, k3]
          by_cases c2 : mi m 1043 (25 + 2 * i) = t
          · exact pw_t (by rw [c2]) (f130 (decide_eq_true ⟨c0, Or.inl ⟨c1, c2⟩⟩))
          · exact pw_f (by rw [iI_eq (by omega) (by omega)]; exact c2) (f98 (fun z => c2 z.2) c0)
        · exact pw_f (by rw [iI_eq (by omega) (by omega)]; exact c1) (f98 (fun z => c1 z.1) c0)
      · rw [if_neg (fun z => c0 (of_decide_eq_true z))]
        exact pw_t rfl (f134 (decide_eq_false (fun z => c0 z.1)))
    · rintro s rfl
      dsimp only
      unfold mb_X5_mayLight_41
      rw [c_ties h]
      refine pw_bind (pw_some ?_)
      dsimp only
      refine pw_t (by rw [iI_le (by omega) (by omega)]; omega) (pw_gu ?_ (pw_some rfl))
      cases clF m a t (ties m)
      · exact Or.inl rfl
      · exact Or.inr rfl
  obtain ⟨r, e1, e2⟩ := loop
  rw [e2] at e1
  unfold cf_X5_mayLight mj_X5_mayLight_37
  by_cases q0 : a = t
  · rw [if_pos (by rw [q0]), if_neg (fun z => z.1 q0)]
  · rw [if_neg (by rw [iI_eq (by omega) (by omega)]; omega), c_thingOf h ha]
    simp only [Option.bind_some]
    rw [if_pos t1, c_thingOf h ht]
    simp only [Option.bind_some]
    rw [if_pos u1, ci_of μ (thC μ a) 1, ci_of μ (thC μ t) 1, t2, u2]
    have ef : (if a ≠ t ∧ clS m a t = true then (1 : Int32) else 0) = if clS m a t = true then 1 else 0 := by
      by_cases w : clS m a t = true
      · rw [if_pos ⟨q0, w⟩, if_pos w]
      · rw [if_neg (fun z => w z.2), if_neg w]
    rw [ef]
    by_cases q : mi m 1041 (16 + 2 * a) = mi m 1041 (16 + 2 * t)
    · rw [if_pos (by rw [q])]
      rw [if_pos (show clF m a t 0 = true from decide_eq_true q)] at e1
      exact e1
    · rw [if_neg (by rw [iI_eq r1 r2]; exact q)]
      rw [if_neg (by rw [show clF m a t 0 = false from decide_eq_false q]; decide)] at e1
      exact e1
