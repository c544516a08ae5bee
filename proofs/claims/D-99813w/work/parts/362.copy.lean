/-! ===== what is put aside; a State that is copied ===== -/
theorem p_putsAside (m : MM) : pw (mf_putsAside m) (fun q => (∀ c j : Nat, q.2.1 c j = if c = 1052 ∧ j < 30 then m.1 1051 j else if c = 2000 ∧ j = 56 then 1 else m.1 c j) ∧ q.2.2 = m.2) := by
  unfold mf_putsAside ml_X6_putsAside_7
  refine pw_let ?_
  refine pw_for (fun (i : Nat) (q : Int32 × MM) => q.1 = iI i ∧ (∀ c j : Nat, q.2.1 c j = if c = 1052 ∧ j < i then m.1 1051 j else if c = 2000 ∧ j = 56 then 1 else m.1 c j) ∧ q.2.2 = m.2) 30 ?_ ?_ ⟨rfl, fun c j => ?_, rfl⟩
  · rintro i ⟨y, m'⟩ hi ⟨rfl, h1, h2⟩
    dsimp only at h1 h2 ⊢
    have gi : gz_ix (iI (i : Int)) = i := by rw [gix (by omega)]; omega
    have e1 : iI (i : Int) + (1 : Int32) = iI ((i + 1 : Nat) : Int) := by rw [iI_lit, iI_add]; rfl
    unfold mb_X6_putsAside_7
    simp only [gi, e1, gz_let]
    refine pw_f (by rw [iI_lit, iI_le (by omega) (by omega)]; omega) (pw_gu ((gin_iI (by omega)).2 (by omega)) (pw_gu ((gin_iI (by omega)).2 (by omega)) (pw_some ⟨rfl, fun c j => ?_, h2⟩)))
    show (msI m' 1052 i (m'.1 1051 i)).1 c j = _
    rw [msI_i]
    by_cases q : c = 1052 ∧ j = i
    · rw [if_pos q, if_pos (by omega), h1, if_neg (by omega), if_neg (by omega), q.2]
    · rw [if_neg q, h1]
      by_cases q2 : c = 1052 ∧ j < i
      · rw [if_pos q2, if_pos (by omega)]
      · rw [if_neg q2, if_neg (show ¬ (c = 1052 ∧ j < i + 1) by omega)]
  · rintro ⟨y, m'⟩ ⟨rfl, h1, h2⟩
    dsimp only at h1 h2 ⊢
    unfold mb_X6_putsAside_7
    exact pw_t (by rw [iI_lit, iI_le (by omega) (by omega)]; omega) (pw_some ⟨h1, h2⟩)
  · show (msI m 2000 56 (1 : Int32)).1 c j = _
    rw [msI_i, if_neg (show ¬ (c = 1052 ∧ j < 0) by omega)]
theorem p_triesAnew (m : MM) : pw (mf_triesAnew m) (fun q => (∀ c j : Nat, q.2.1 c j = if c = 1051 ∧ j < 30 then m.1 1052 j else m.1 c j) ∧ q.2.2 = m.2) := by
  unfold mf_triesAnew ml_X6_triesAnew_2
  refine pw_for (fun (i : Nat) (q : Int32 × MM) => q.1 = iI i ∧ (∀ c j : Nat, q.2.1 c j = if c = 1051 ∧ j < i then m.1 1052 j else m.1 c j) ∧ q.2.2 = m.2) 30 ?_ ?_ ⟨rfl, fun c j => ?_, rfl⟩
  · rintro i ⟨y, m'⟩ hi ⟨rfl, h1, h2⟩
    dsimp only at h1 h2 ⊢
    have gi : gz_ix (iI (i : Int)) = i := by rw [gix (by omega)]; omega
    have e1 : iI (i : Int) + (1 : Int32) = iI ((i + 1 : Nat) : Int) := by rw [iI_lit, iI_add]; rfl
    unfold mb_X6_triesAnew_2
    simp only [gi, e1, gz_let]
    refine pw_f (by rw [iI_lit, iI_le (by omega) (by omega)]; omega) (pw_gu ((gin_iI (by omega)).2 (by omega)) (pw_gu ((gin_iI (by omega)).2 (by omega)) (pw_some ⟨rfl, fun c j => ?_, h2⟩)))
    show (msI m' 1051 i (m'.1 1052 i)).1 c j = _
    rw [msI_i]
    by_cases q : c = 1051 ∧ j = i
    · rw [if_pos q, if_pos (by omega), h1, if_neg (by omega), q.2]
    · rw [if_neg q, h1]
      by_cases q2 : c = 1051 ∧ j < i
      · rw [if_pos q2, if_pos (by omega)]
      · rw [if_neg q2, if_neg (by omega)]
  · rintro ⟨y, m'⟩ ⟨rfl, h1, h2⟩
    dsimp only at h1 h2 ⊢
    unfold mb_X6_triesAnew_2
    exact pw_t (by rw [iI_lit, iI_le (by omega) (by omega)]; omega) (pw_some ⟨h1, h2⟩)
  · dsimp only
    rw [if_neg (by omega)]
theorem p_takesBack (m : MM) : pw (mf_takesBack m) (fun q => (∀ c j : Nat, q.2.1 c j = if c = 2000 ∧ j = 56 then 0 else if c = 2000 ∧ j = 52 then -1 else if c = 1051 ∧ j < 30 then m.1 1052 j else m.1 c j) ∧ q.2.2 = m.2) := by
  unfold mf_takesBack
  refine pw_bind (pw_mono (p_triesAnew m) ?_)
  rintro ⟨u, m'⟩ ⟨h1, h2⟩
  dsimp only at h1 h2 ⊢
  refine pw_let (pw_let (pw_some ⟨fun c j => ?_, h2⟩))
  show (msI (msI m' 2000 52 (-1 : Int32)) 2000 56 (0 : Int32)).1 c j = _
  rw [msI_i, msI_i, h1]
theorem st_dis {x y : Nat} (hx : cSt x = true) (hy : cSt y = true) (h : x ≠ y) : x + 46 ≤ y ∨ y + 46 ≤ x := by
  simp [cSt] at hx hy
  omega
/-- what a copy into x may change -/
def yF (x : Nat) (μ μ' : gM) : Prop := μ'.1 = μ.1 ∧ μ'.2.1 = μ.2.1 ∧ μ'.2.2.2.2.2 = μ.2.2.2.2.2 ∧ (∀ c j : Nat, gL μ' c j = gL μ c j) ∧ (∀ c j : Nat, ¬ ((c = x ∧ j < 4) ∨ c = x + 1 ∨ c = x + 3 ∨ c = x + 4 ∨ (x + 6 ≤ c ∧ c < x + 46)) → gI μ' c j = gI μ c j) ∧ ∀ c j : Nat, gP μ' c j = gP μ c j
theorem yF.refl (x : Nat) (μ : gM) : yF x μ μ := ⟨rfl, rfl, rfl, fun _ _ => rfl, fun _ _ _ => rfl, fun _ _ => rfl⟩
theorem yF.trans {x : Nat} {a b c : gM} (h1 : yF x a b) (h2 : yF x b c) : yF x a c := ⟨h2.1.trans h1.1, h2.2.1.trans h1.2.1, h2.2.2.1.trans h1.2.2.1, fun u v => (h2.2.2.2.1 u v).trans (h1.2.2.2.1 u v), fun u v k => (h2.2.2.2.2.1 u v k).trans (h1.2.2.2.2.1 u v k), fun u v => (h2.2.2.2.2.2 u v).trans (h1.2.2.2.2.2 u v)⟩
theorem yF.sI {x c j : Nat} {μ : gM} {v : Int32} (hc : (c = x ∧ j < 4) ∨ c = x + 1 ∨ c = x + 3 ∨ c = x + 4 ∨ (x + 6 ≤ c ∧ c < x + 46)) : yF x μ (gz_sI μ c j v) := ⟨rfl, rfl, rfl, fun _ _ => rfl, fun c' j' h' => by rw [sI_i, if_neg (by omega)], fun _ _ => rfl⟩
theorem c_copy94 {x y : Nat} (hx : cSt x = true) (hy : cSt y = true) (hxy : x ≠ y) {μ : gM} (rx : rowOK μ x) (ry : rowOK μ y) {k : Nat} (hk : k < 40) : pw (ml_X5_copy_94 x y (iI k) (0 : Int32) μ) (fun r => ∃ μ', r = Sum.inl (iI ((k + 1 : Nat) : Int), μ') ∧ yF x μ μ' ∧ (∀ c j : Nat, c ≠ gP μ (x + 5) k → gI μ' c j = gI μ c j) ∧ ∀ j : Nat, j < 3 → gI μ' (gP μ (x + 5) k) j = gI μ (gP μ (y + 5) k) j) := by
  have gk : gz_ix (iI (k : Int)) = k := by rw [gix (by omega)]; omega
  have hk40 : gz_in (iI (k : Int)) 40 := (gin_iI (by omega)).2 (by omega)
  obtain ⟨x1, x2⟩ := (rx k hk).1
  obtain ⟨y1, y2⟩ := (ry k hk).1
  have rX := st_row hx x1 x2
  have rY := st_row hy y1 y2
  have hd := st_dis hx hy hxy
  have ek : iI (k : Int) + (1 : Int32) = iI ((k + 1 : Nat) : Int) := by rw [iI_lit, iI_add]; rfl
  unfold ml_X5_copy_94
  refine pw_for (fun (i : Nat) (q : Int32 × Int32 × gM) => q.1 = iI k ∧ q.2.1 = iI i ∧ yF x μ q.2.2 ∧ (∀ c j : Nat, c ≠ gP μ (x + 5) k → gI q.2.2 c j = gI μ c j) ∧ ∀ j : Nat, j < i → gI q.2.2 (gP μ (x + 5) k) j = gI μ (gP μ (y + 5) k) j) 3 ?_ ?_ ⟨rfl, rfl, yF.refl _ _, fun _ _ _ => rfl, fun j hj => absurd hj (Nat.not_lt_zero _)⟩
  · rintro i ⟨q1, q2, μ'⟩ hi ⟨rfl, rfl, h1, h2, h3⟩
    dsimp only at h1 h2 h3 ⊢
    have gi : gz_ix (iI (i : Int)) = i := by rw [gix (by omega)]; omega
    have hi3 : gz_in (iI (i : Int)) 3 := (gin_iI (by omega)).2 (by omega)
    have ei : iI (i : Int) + (1 : Int32) = iI ((i + 1 : Nat) : Int) := by rw [iI_lit, iI_add]; rfl
    unfold mb_X5_copy_94
    simp only [gi, gk, gz_let, ei, h1.2.2.2.2.2]
    refine pw_f (by rw [iI_lit, iI_le (by omega) (by omega)]; omega) (pw_gu hk40 (pw_gu (by omega) (pw_gu hk40 (pw_gu (by omega) (pw_gu rY (pw_gu hi3 (pw_gu rX (pw_gu hi3 (pw_some ⟨rfl, rfl, h1.trans (yF.sI (by omega)), fun c j hc => ?_, fun j hj => ?_⟩)))))))))
    · show gI (gz_sI μ' (gP μ (x + 5) k) i (gI μ' (gP μ (y + 5) k) i)) c j = _
      rw [sI_i, if_neg (fun z => hc z.1)]
      exact h2 c j hc
    · show gI (gz_sI μ' (gP μ (x + 5) k) i (gI μ' (gP μ (y + 5) k) i)) (gP μ (x + 5) k) j = _
      rw [sI_i]
      by_cases q : j = i
      · rw [if_pos ⟨rfl, q⟩, h2 _ _ (by omega), q]
      · rw [if_neg (fun z => q z.2)]
        exact h3 j (by omega)
  · rintro ⟨q1, q2, μ'⟩ ⟨rfl, rfl, h1, h2, h3⟩
    dsimp only at h1 h2 h3 ⊢
    unfold mb_X5_copy_94
    simp only [gz_let, ek]
    exact pw_t (by rw [iI_lit, iI_le (by omega) (by omega)]; omega) (pw_some ⟨μ', rfl, h1, h2, h3⟩)
theorem c_copy84 {x y : Nat} (hx : cSt x = true) (hy : cSt y = true) (hxy : x ≠ y) {μ : gM} (rx : rowOK μ x) {l : List (Int × Int × Int)} (hk : kC l μ y) (h1 : gI μ x 1 = gI μ y 1) : pw (ml_X5_copy_84 x y (0 : Int32) μ) (fun r => r.1 = x ∧ yF x μ r.2 ∧ (∀ c j : Nat, ¬ (x + 6 ≤ c ∧ c < x + 46) → gI r.2 c j = gI μ c j) ∧ kC l r.2 x) := by
  obtain ⟨k1, k2, k3, k4⟩ := hk
  have hd := st_dis hx hy hxy
  have hkx : ci μ x 1 = l.length := by unfold ci; rw [h1]; exact k2
  unfold ml_X5_copy_84
  refine pw_for (fun (i : Nat) (q : Int32 × gM) => q.1 = iI i ∧ yF x μ q.2 ∧ (∀ c j : Nat, ¬ (x + 6 ≤ c ∧ c < x + 46) → gI q.2 c j = gI μ c j) ∧ ∀ a b : Nat, a < i → b < 3 → gI q.2 (gP μ (x + 5) a) b = gI μ (gP μ (y + 5) a) b) l.length ?_ ?_ ⟨rfl, yF.refl _ _, fun _ _ _ => rfl, fun a b ha => absurd ha (Nat.not_lt_zero _)⟩
  · rintro i ⟨q1, μ'⟩ hi ⟨rfl, a1, a2, a3⟩
    dsimp only at a1 a2 a3 ⊢
    have e1 : gI μ' x 1 = iI l.length := by rw [a2 _ _ (by omega), ci_of, hkx]
    unfold mb_X5_copy_84
    refine pw_f (by rw [e1, iI_le (by omega) (by omega)]; omega) ?_
    have rx' : rowOK μ' x := fun i hi => by
      rw [a1.2.2.2.2.2]
      refine ⟨(rx i hi).1, fun j hj e => (rx i hi).2 j hj ?_⟩
      rw [a1.2.2.2.2.2] at e
      exact e
    have ry' : rowOK μ' y := fun i hi => by
      rw [a1.2.2.2.2.2]
      refine ⟨(k3 i hi).1, fun j hj e => (k3 i hi).2 j hj ?_⟩
      rw [a1.2.2.2.2.2] at e
      exact e
    refine pw_mono (c_copy94 hx hy hxy rx' ry' (k := i) (by omega)) ?_
    rintro r ⟨μ2, rfl, b1, b2, b3⟩
    rw [a1.2.2.2.2.2, a1.2.2.2.2.2] at b3
    rw [a1.2.2.2.2.2] at b2
    have xi := (rx i (by omega)).1
    refine ⟨rfl, a1.trans b1, fun c j hc => ?_, fun a b ha hb => ?_⟩
    · dsimp only
      rw [b2 _ _ (by omega)]
      exact a2 c j hc
    · dsimp only
      by_cases q : a = i
      · subst q
        rw [b3 b hb]
        have := (k3 a (by omega)).1
        exact a2 _ _ (by omega)
      · have hne : gP μ (x + 5) a ≠ gP μ (x + 5) i := fun e => q ((rx a (by omega)).2 i (by omega) e)
        rw [b2 _ _ hne]
        exact a3 a b (by omega) hb
  · rintro ⟨q1, μ'⟩ ⟨rfl, a1, a2, a3⟩
    dsimp only at a1 a2 a3 ⊢
    have e1 : gI μ' x 1 = iI l.length := by rw [a2 _ _ (by omega), ci_of, hkx]
    unfold mb_X5_copy_84
    refine pw_t (by rw [e1, iI_le (by omega) (by omega)]; omega) (pw_some ⟨rfl, a1, a2, k1, ?_, fun i hi => ?_, fun a b ha hb => ?_⟩)
    · dsimp only
      unfold ci
      rw [e1]
      exact toInt_iI (by omega) (by omega)
    · dsimp only
      rw [a1.2.2.2.2.2]
      refine ⟨(rx i hi).1, fun j hj e => (rx i hi).2 j hj ?_⟩
      rw [a1.2.2.2.2.2] at e
      exact e
    · dsimp only
      unfold ci
      rw [a1.2.2.2.2.2, a3 a b ha hb]
      exact k4 a b ha hb
theorem c_copy {x y : Nat} (hx : cSt x = true) (hy : cSt y = true) (hxy : x ≠ y) {μ : gM} (rx : rowOK μ x) {l : List (Int × Int × Int)} (hk : kC l μ y) : pw (cf_X5_copy x y μ) (fun r => r.1 = x ∧ yF x μ r.2 ∧ (∀ j : Nat, j < 4 → gI r.2 x j = gI μ y j) ∧ (∀ t : Nat, t < 8 → gI r.2 (x + 1) t = gI μ (y + 1) t ∧ gI r.2 (x + 3) t = gI μ (y + 3) t ∧ gI r.2 (x + 4) t = gI μ (y + 4) t) ∧ kC l r.2 x) := by
  have hd := st_dis hx hy hxy
  unfold cf_X5_copy
  simp only [gz_let]
  have h4 : yF x μ (gz_sI (gz_sI (gz_sI (gz_sI μ x 0 (gI μ y 0)) x 1 (gI (gz_sI μ x 0 (gI μ y 0)) y 1)) x 2 (gI (gz_sI (gz_sI μ x 0 (gI μ y 0)) x 1 (gI (gz_sI μ x 0 (gI μ y 0)) y 1)) y 2)) x 3 (gI (gz_sI (gz_sI (gz_sI μ x 0 (gI μ y 0)) x 1 (gI (gz_sI μ x 0 (gI μ y 0)) y 1)) x 2 (gI (gz_sI (gz_sI μ x 0 (gI μ y 0)) x 1 (gI (gz_sI μ x 0 (gI μ y 0)) y 1)) y 2)) y 3)) ∧ ∀ c j : Nat, gI (gz_sI (gz_sI (gz_sI (gz_sI μ x 0 (gI μ y 0)) x 1 (gI (gz_sI μ x 0 (gI μ y 0)) y 1)) x 2 (gI (gz_sI (gz_sI μ x 0 (gI μ y 0)) x 1 (gI (gz_sI μ x 0 (gI μ y 0)) y 1)) y 2)) x 3 (gI (gz_sI (gz_sI (gz_sI μ x 0 (gI μ y 0)) x 1 (gI (gz_sI μ x 0 (gI μ y 0)) y 1)) x 2 (gI (gz_sI (gz_sI μ x 0 (gI μ y 0)) x 1 (gI (gz_sI μ x 0 (gI μ y 0)) y 1)) y 2)) y 3)) c j = if c = x ∧ j < 4 then gI μ y j else gI μ c j := by
    refine ⟨(((yF.sI (by omega)).trans (yF.sI (by omega))).trans (yF.sI (by omega))).trans (yF.sI (by omega)), fun c j => ?_⟩
    simp only [sI_i, if_neg (show ¬ (y = x ∧ (3 : Nat) = 2) by omega), if_neg (show ¬ (y = x ∧ (3 : Nat) = 1) by omega), if_neg (show ¬ (y = x ∧ (3 : Nat) = 0) by omega), if_neg (show ¬ (y = x ∧ (2 : Nat) = 1) by omega), if_neg (show ¬ (y = x ∧ (2 : Nat) = 0) by omega), if_neg (show ¬ (y = x ∧ (1 : Nat) = 0) by omega)]
    by_cases q : c = x ∧ j < 4
    · rw [if_pos q]
      have hj : j = 0 ∨ j = 1 ∨ j = 2 ∨ j = 3 := by omega
      rcases hj with z | z | z | z <;> subst z
      · rw [if_neg (by omega), if_neg (by omega), if_neg (by omega), if_pos ⟨q.1, rfl⟩]
      · rw [if_neg (by omega), if_neg (by omega), if_pos ⟨q.1, rfl⟩]
      · rw [if_neg (by omega), if_pos ⟨q.1, rfl⟩]
      · rw [if_pos ⟨q.1, rfl⟩]
    · rw [if_neg q, if_neg (by omega), if_neg (by omega), if_neg (by omega), if_neg (by omega)]
  revert h4
  generalize gz_sI (gz_sI (gz_sI (gz_sI μ x 0 (gI μ y 0)) x 1 (gI (gz_sI μ x 0 (gI μ y 0)) y 1)) x 2 (gI (gz_sI (gz_sI μ x 0 (gI μ y 0)) x 1 (gI (gz_sI μ x 0 (gI μ y 0)) y 1)) y 2)) x 3 (gI (gz_sI (gz_sI (gz_sI μ x 0 (gI μ y 0)) x 1 (gI (gz_sI μ x 0 (gI μ y 0)) y 1)) x 2 (gI (gz_sI (gz_sI μ x 0 (gI μ y 0)) x 1 (gI (gz_sI μ x 0 (gI μ y 0)) y 1)) y 2)) y 3) = μ4
  rintro ⟨f4, i4⟩
  unfold ml_X5_copy_34
  refine pw_for (fun (i : Nat) (q : Int32 × gM) => q.1 = iI i ∧ yF x μ q.2 ∧ (∀ c j : Nat, ¬ (c = x + 1 ∨ c = x + 3 ∨ c = x + 4) → gI q.2 c j = gI μ4 c j) ∧ ∀ t : Nat, t < i → gI q.2 (x + 1) t = gI μ (y + 1) t ∧ gI q.2 (x + 3) t = gI μ (y + 3) t ∧ gI q.2 (x + 4) t = gI μ (y + 4) t) 8 ?_ ?_ ⟨rfl, f4, fun _ _ _ => rfl, fun t ht => absurd ht (Nat.not_lt_zero _)⟩
  · rintro i ⟨q1, μ'⟩ hi ⟨rfl, a1, a2, a3⟩
    dsimp only at a1 a2 a3 ⊢
    have gi : gz_ix (iI (i : Int)) = i := by rw [gix (by omega)]; omega
    have hi8 : gz_in (iI (i : Int)) 8 := (gin_iI (by omega)).2 (by omega)
    have ei : iI (i : Int) + (1 : Int32) = iI ((i + 1 : Nat) : Int) := by rw [iI_lit, iI_add]; rfl
    unfold mb_X5_copy_34
    simp only [gi, gz_let, ei]
    refine pw_f (by rw [iI_lit, iI_le (by omega) (by omega)]; omega) (pw_gu hi8 (pw_gu hi8 (pw_gu hi8 (pw_gu hi8 (pw_gu hi8 (pw_gu hi8 (pw_some ⟨rfl, ((a1.trans (yF.sI (by omega))).trans (yF.sI (by omega))).trans (yF.sI (by omega)), fun c j hc => ?_, fun t ht => ?_⟩)))))))
    · rw [sI_i, if_neg (by omega), sI_i, if_neg (by omega), sI_i, if_neg (by omega)]
      exact a2 c j hc
    · have b1 : gI μ' (y + 1) i = gI μ (y + 1) i := by rw [a2 _ _ (by omega), i4, if_neg (by omega)]
      have b3 : gI μ' (y + 3) i = gI μ (y + 3) i := by rw [a2 _ _ (by omega), i4, if_neg (by omega)]
      have b4 : gI μ' (y + 4) i = gI μ (y + 4) i := by rw [a2 _ _ (by omega), i4, if_neg (by omega)]
      simp only [sI_i]
      by_cases q : t = i
      · subst q
        refine ⟨?_, ?_, ?_⟩
        · rw [if_neg (by omega), if_neg (by omega), if_pos (by simp), b1]
        · rw [if_neg (by omega), if_pos (by simp), if_neg (by omega), b3]
        · rw [if_pos (by simp), if_neg (by omega), if_neg (by omega), b4]
      · rw [if_neg (by omega), if_neg (by omega), if_neg (by omega), if_neg (by omega), if_neg (by omega), if_neg (by omega), if_neg (by omega), if_neg (by omega), if_neg (by omega)]
        exact a3 t (by omega)
  · rintro ⟨q1, μ'⟩ ⟨rfl, a1, a2, a3⟩
    dsimp only at a1 a2 a3 ⊢
    unfold mb_X5_copy_34
    refine pw_t (by rw [iI_lit, iI_le (by omega) (by omega)]; omega) (pw_map ?_)
    have rx' : rowOK μ' x := fun i hi => by
      rw [a1.2.2.2.2.2]
      refine ⟨(rx i hi).1, fun j hj e => (rx i hi).2 j hj ?_⟩
      rw [a1.2.2.2.2.2] at e
      exact e
    have hk' : kC l μ' y := by
      obtain ⟨k1, k2, k3, k4⟩ := hk
      refine ⟨k1, ?_, fun i hi => ?_, fun a b ha hb => ?_⟩
      · unfold ci; rw [a1.2.2.2.2.1 _ _ (by omega)]; exact k2
      · rw [a1.2.2.2.2.2]
        refine ⟨(k3 i hi).1, fun j hj e => (k3 i hi).2 j hj ?_⟩
        rw [a1.2.2.2.2.2] at e
        exact e
      · have := (k3 a (by omega)).1
        unfold ci
        rw [a1.2.2.2.2.2, a1.2.2.2.2.1 _ _ (by omega)]
        exact k4 a b ha hb
    have e1 : gI μ' x 1 = gI μ' y 1 := by rw [a2 _ _ (by omega), i4, if_pos (by omega), a2 _ _ (by omega), i4, if_neg (by omega)]
    refine pw_mono (c_copy84 hx hy hxy rx' hk' e1) ?_
    rintro ⟨r, μ2⟩ ⟨b1, b2, b3, b4⟩
    dsimp only at b1 b2 b3 b4
    refine ⟨b1, a1.trans b2, fun j hj => ?_, fun t ht => ?_, b4⟩
    · dsimp only
      rw [b3 _ _ (by omega), a2 _ _ (by omega), i4, if_pos ⟨rfl, hj⟩]
    · dsimp only
      rw [b3 _ _ (by omega), b3 _ _ (by omega), b3 _ _ (by omega)]
      exact a3 t ht
