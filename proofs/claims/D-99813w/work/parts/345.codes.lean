/-! ===== typed codes; what the model's codes tell ===== -/
/-- codes that fit piles by kinds (true: a test's answer), top first -/
def qT : List Int → List Bool → List Bool → Prop
  | [], s, e => s = e
  | c :: cs, s, e =>
    ((1 ≤ c ∧ c ≤ 6) ∧ ∃ r, s = false :: false :: r ∧ qT cs (false :: r) e) ∨ ((7 ≤ c ∧ c ≤ 9) ∧ ∃ r, s = false :: false :: r ∧ qT cs (true :: r) e) ∨
    ((10 ≤ c ∧ c ≤ 11) ∧ ∃ r, s = true :: true :: r ∧ qT cs (true :: r) e) ∨ (c = 12 ∧ ∃ r, s = true :: r ∧ qT cs (true :: r) e) ∨ (c = 13 ∧ qT cs (true :: s) e) ∨
    (((40 ≤ c ∧ c ≤ 46) ∨ (1000 ≤ c ∧ c ≤ 10999)) ∧ qT cs (false :: s) e) ∨ ((60 ≤ c ∧ c ≤ 61) ∧ ∃ r, s = false :: r ∧ qT cs (false :: r) e)
theorem qT_app : ∀ {a b : List Int} {d e f : List Bool}, qT a d e → qT b e f → qT (a ++ b) d f
  | [], _, _, _, _, h1, h2 => by have h1 : _ = _ := h1; subst h1; exact h2
  | _ :: _, _, _, _, _, h1, h2 => by
    rcases h1 with ⟨a, r, b, d⟩ | ⟨a, r, b, d⟩ | ⟨a, r, b, d⟩ | ⟨a, r, b, d⟩ | ⟨a, d⟩ | ⟨a, d⟩ | ⟨a, r, b, d⟩
    · exact Or.inl ⟨a, r, b, qT_app d h2⟩
    · exact Or.inr (Or.inl ⟨a, r, b, qT_app d h2⟩)
    · exact Or.inr (Or.inr (Or.inl ⟨a, r, b, qT_app d h2⟩))
    · exact Or.inr (Or.inr (Or.inr (Or.inl ⟨a, r, b, qT_app d h2⟩)))
    · exact Or.inr (Or.inr (Or.inr (Or.inr (Or.inl ⟨a, qT_app d h2⟩))))
    · exact Or.inr (Or.inr (Or.inr (Or.inr (Or.inr (Or.inl ⟨a, qT_app d h2⟩)))))
    · exact Or.inr (Or.inr (Or.inr (Or.inr (Or.inr (Or.inr ⟨a, r, b, qT_app d h2⟩)))))
/-- below what is there the codes don't look -/
theorem qT_under : ∀ {a : List Int} {d e : List Bool} (u : List Bool), qT a d e → qT a (d ++ u) (e ++ u)
  | [], _, _, _, h => by have h : _ = _ := h; subst h; rfl
  | _ :: _, _, _, u, h => by
    rcases h with ⟨a, r, b, d⟩ | ⟨a, r, b, d⟩ | ⟨a, r, b, d⟩ | ⟨a, r, b, d⟩ | ⟨a, d⟩ | ⟨a, d⟩ | ⟨a, r, b, d⟩
    · exact Or.inl ⟨a, r ++ u, by rw [b]; rfl, qT_under u d⟩
    · exact Or.inr (Or.inl ⟨a, r ++ u, by rw [b]; rfl, qT_under u d⟩)
    · exact Or.inr (Or.inr (Or.inl ⟨a, r ++ u, by rw [b]; rfl, qT_under u d⟩))
    · exact Or.inr (Or.inr (Or.inr (Or.inl ⟨a, r ++ u, by rw [b]; rfl, qT_under u d⟩)))
    · exact Or.inr (Or.inr (Or.inr (Or.inr (Or.inl ⟨a, qT_under u d⟩))))
    · exact Or.inr (Or.inr (Or.inr (Or.inr (Or.inr (Or.inl ⟨a, qT_under u d⟩)))))
    · exact Or.inr (Or.inr (Or.inr (Or.inr (Or.inr (Or.inr ⟨a, r ++ u, by rw [b]; rfl, qT_under u d⟩)))))
def vOK (t : Bool) (v : Int) : Prop := if t = true then (v = 0 ∨ v = 1) else (-1000000 ≤ v ∧ v ≤ 1000000)
theorem vOK.b {t : Bool} {v : Int} (h : vOK t v) : -1000000 ≤ v ∧ v ≤ 1000000 := by
  unfold vOK at h
  split at h <;> omega
def stOK : List Bool → List Int → Prop
  | [], st => st = []
  | t :: ts, st => ∃ v vs, st = v :: vs ∧ vOK t v ∧ stOK ts vs
theorem stOK_len : ∀ {ts : List Bool} {st : List Int}, stOK ts st → st.length = ts.length
  | [], _, h => by have h : _ = _ := h; subst h; rfl
  | _ :: _, _, ⟨v, vs, e, _, h⟩ => by subst e; simp [stOK_len h]
/-! the parts that may be asked of a thing -/
def nearF (m : MM) (t : Nat) : Nat → Int
  | 0 => 0
  | k + 1 => nearF m t k + (if k ≠ t ∧ 0 < mi m 1051 (14 + 2 * k) ∧ mi m 1041 (16 + 2 * k) = mi m 1041 (16 + 2 * t) then 1 else 0)
theorem nearF_s (m : MM) (t k : Nat) : nearF m t (k + 1) = nearF m t k + (if k ≠ t ∧ 0 < mi m 1051 (14 + 2 * k) ∧ mi m 1041 (16 + 2 * k) = mi m 1041 (16 + 2 * t) then 1 else 0) := rfl
theorem nearF_b (m : MM) (t : Nat) : ∀ k : Nat, 0 ≤ nearF m t k ∧ nearF m t k ≤ k
  | 0 => ⟨Int.le_refl _, Int.le_refl _⟩
  | k + 1 => by
    have := nearF_b m t k
    unfold nearF
    split <;> omega
def things (m : MM) : Nat := (mi m 1038 7).toNat
def heatS (m : MM) (t : Nat) : Int := if (t : Int) = mi m 2000 52 then mi m 2000 53 else mi m 1041 (17 + 2 * t)
def envM (m : MM) (t : Nat) (w : Int) : Int := if w = 0 then mi m 1051 (14 + 2 * t) else if w = 1 then heatS m t else if w = 2 then nearF m t (things m) else if w = 3 then mi m 1051 0 else if w = 4 then t else if w = 5 then mi m 1041 (16 + 2 * t) else mi m 1051 (15 + 2 * t)
theorem p_heatOf {m : MM} {t : Nat} (ht : t < 8) : mf_heatOf (iI t) m = some (iI (heatS m t), m) := by
  have := mi_r m 2000 52
  unfold mf_heatOf heatS
  by_cases h : (t : Int) = mi m 2000 52
  · rw [if_pos h]
    simp (disch := omega) only [gz_let, Option.bind_some, Option.map_some, mi_of, ml_of, ci_of, cl_of, iI_lit, lL_lit, iI_neg, lL_neg, iI_add, iI_sub, iI_mul, lL_add, lL_sub, lL_mul, i2l_iI, l2i_lL, gin_iI, ix_iI, iI_le, iI_lt, iI_eq, lL_le, lL_lt, lL_eq, if_pos, if_neg, if_true, if_false]
  · rw [if_neg h]
    simp (disch := omega) only [gz_let, Option.bind_some, Option.map_some, mi_of, ml_of, ci_of, cl_of, iI_lit, lL_lit, iI_neg, lL_neg, iI_add, iI_sub, iI_mul, lL_add, lL_sub, lL_mul, i2l_iI, l2i_lL, gin_iI, ix_iI, iI_le, iI_lt, iI_eq, lL_le, lL_lt, lL_eq, if_pos, if_neg, if_true, if_false, if_neg h]
    rw [show (17 + 2 * (t : Int)).toNat = 17 + 2 * t by omega]
theorem p_nearTo {m : MM} (h : rMany m) {t : Nat} (ht : t < 8) : mf_nearTo (iI t) m = some (iI (nearF m t (things m)), m) := by
  have hb := h.2.1
  have key : pw (mf_nearTo (iI t) m) (fun r => r = (iI (nearF m t (things m)), m)) := by
    unfold mf_nearTo ml_X6_nearTo_4
    refine pw_for (fun i q => q = (iI t, iI (nearF m t i), iI i, m)) (things m) ?_ ?_ rfl
    · rintro i q hi rfl
      have hi' : (i : Int) < mi m 1038 7 := by unfold things at hi; omega
      have hn := nearF_b m t i
      have r1 := mi_r m 1041 (16 + 2 * i)
      have r2 := mi_r m 1041 (16 + 2 * t)
      dsimp only
      unfold mb_X6_nearTo_4 mj_X6_nearTo_41
      rw [p_thingMany]
      refine pw_bind (pw_some ?_)
      dsimp only
      refine pw_f (by rw [iI_le (by omega) (by omega)]; omega) ?_
      have fin : ∀ z : Int, z = nearF m t (i + 1) → pw (gz_let (iI i + (1 : Int32)) fun y1 => (some (Sum.inl (iI t, iI z, y1, m)) : Option ((Int32 × Int32 × Int32 × MM) ⊕ (Int32 × MM)))) (Sum.elim (fun q => q = (iI t, iI (nearF m t (i + 1)), iI ((i + 1 : Nat) : Int), m)) (fun r => r = (iI (nearF m t (things m)), m))) := by
        intro z hz
        refine pw_let (pw_some ?_)
        show (iI t, iI z, iI i + (1 : Int32), m) = _
        rw [hz, iI_lit, iI_add]
        rfl
      by_cases c0 : i = t
      · refine pw_t (by rw [c0]) ?_
        exact fin _ (by rw [nearF_s, if_neg (fun q => q.1 c0)]; omega)
      · refine pw_f (by rw [iI_eq (by omega) (by omega)]; omega) ?_
        rw [p_doesBurn (by omega)]
        refine pw_bind (pw_some ?_)
        dsimp only
        by_cases c1 : 0 < mi m 1051 (14 + 2 * i)
        · rw [if_pos c1]
          refine pw_f (by decide) ?_
          rw [p_hallOf (by omega)]
          refine pw_bind (pw_some ?_)
          dsimp only
          rw [p_hallOf (by omega)]
          refine pw_bind (pw_some ?_)
          dsimp only
          by_cases c2 : mi m 1041 (16 + 2 * i) = mi m 1041 (16 + 2 * t)
          · refine pw_t (by rw [c2]) (pw_let ?_)
            have e9 : iI (nearF m t i) + (1 : Int32) = iI (nearF m t i + 1) := by rw [iI_lit, iI_add]
            rw [e9]
            exact fin _ (by rw [nearF_s, if_pos ⟨c0, c1, c2⟩])
          · refine pw_f (by rw [iI_eq r1 r2]; exact c2) ?_
            exact fin _ (by rw [nearF_s, if_neg (fun q => c2 q.2.2)]; omega)
        · rw [if_neg c1]
          refine pw_t rfl ?_
          exact fin _ (by rw [nearF_s, if_neg (fun q => c1 q.2.1)]; omega)
    · rintro q rfl
      dsimp only
      unfold mb_X6_nearTo_4
      rw [p_thingMany]
      refine pw_bind (pw_some ?_)
      dsimp only
      refine pw_t (by rw [iI_le (by omega) (by unfold things; omega)]; unfold things; omega) ?_
      exact pw_some rfl
  obtain ⟨r, e1, e2⟩ := key
  rw [e1, e2]
/-- what is within bounds all along -/
def okN (m : MM) : Prop := (0 ≤ mi m 1051 0 ∧ mi m 1051 0 ≤ 2000) ∧ (∀ t : Nat, t < 8 → (0 ≤ mi m 1051 (14 + 2 * t) ∧ mi m 1051 (14 + 2 * t) ≤ 99) ∧ (0 ≤ mi m 1051 (15 + 2 * t) ∧ mi m 1051 (15 + 2 * t) ≤ 99)) ∧ (0 ≤ mi m 2000 53 ∧ mi m 2000 53 ≤ 9) ∧ ∀ t : Nat, (t : Int) < mi m 1038 7 → (0 ≤ mi m 1041 (16 + 2 * t) ∧ mi m 1041 (16 + 2 * t) < 8) ∧ (0 ≤ mi m 1041 (17 + 2 * t) ∧ mi m 1041 (17 + 2 * t) ≤ 9)
theorem envM_b {m : MM} (h : rMany m) (hN : okN m) {t : Nat} (ht : (t : Int) < mi m 1038 7) (w : Int) : 0 ≤ envM m t w ∧ envM m t w ≤ 2000 := by
  have hb := h.2.1
  obtain ⟨h1, h2, h3, h4⟩ := hN
  obtain ⟨a1, a2⟩ := h2 t (by omega)
  obtain ⟨a3, a4⟩ := h4 t ht
  have hn := nearF_b m t (things m)
  have : (things m : Int) ≤ 8 := by unfold things; omega
  unfold envM heatS
  repeat' split
  all_goals omega
theorem p_qPartOf {m : MM} (h : rMany m) (hN : okN m) {t : Nat} (ht : (t : Int) < mi m 1038 7) (ha : mi m 2000 55 = t) {w : Int} (hw : 0 ≤ w ∧ w ≤ 6) (x2 : Int32) : mf_qPartOf (iI w) x2 m = some (lL (envM m t w), m) := by
  have hb := h.2.1
  have e0 : m.1 2000 55 = iI t := by rw [mi_of, ha]
  have be := envM_b h hN ht w
  unfold mf_qPartOf
  rw [e0]
  have hww : w = 0 ∨ w = 1 ∨ w = 2 ∨ w = 3 ∨ w = 4 ∨ w = 5 ∨ w = 6 := by omega
  rcases hww with e | e | e | e | e | e | e <;> subst e <;> unfold envM at be ⊢ <;> simp (disch := omega) only [if_pos, if_neg, if_true, if_false] at be ⊢
  · simp (disch := omega) only [if_true, if_false, iI_lit, iI_eq, if_pos, p_strengthOf, Option.bind_some, i2l_iI]
  · simp (disch := omega) only [if_true, if_false, iI_lit, iI_eq, if_pos, if_neg, p_heatOf, Option.bind_some, i2l_iI]
  · simp (disch := omega) only [if_true, if_false, iI_lit, iI_eq, if_pos, if_neg, p_nearTo h, Option.bind_some, i2l_iI]
  · simp (disch := omega) only [if_true, if_false, iI_lit, iI_eq, if_pos, if_neg, gin_iI, gix, mi_of, i2l_iI]
    simp (disch := omega) only [show (0 : Int).toNat = 0 from rfl, i2l_iI]
  · simp (disch := omega) only [if_true, if_false, iI_lit, iI_eq, if_pos, if_neg, i2l_iI]
  · simp (disch := omega) only [if_true, if_false, iI_lit, iI_eq, if_pos, if_neg, p_hallOf, Option.bind_some, i2l_iI]
  · simp (disch := omega) only [if_true, if_false, iI_lit, iI_eq, if_pos, if_neg, p_smellOf, Option.bind_some, i2l_iI]
