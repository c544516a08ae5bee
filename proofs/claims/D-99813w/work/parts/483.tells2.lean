/-! ===== tells: both sides ===== -/
def nbS (m : MM) (t k u : Nat) (B : Option (Nat × Nat × Nat)) : Option (Nat × Nat × Nat) := match B with
  | none => some (k, u, mstN m t k u)
  | some b => if mstN m t k u < b.2.2 then some (k, u, mstN m t k u) else some b
def inS (m : MM) (t k : Nat) (B : Option (Nat × Nat × Nat)) : Nat → Option (Nat × Nat × Nat)
  | 0 => B
  | u + 1 => nbS m t k u (inS m t k B u)
def ouS (m : MM) (t : Nat) : Nat → Option (Nat × Nat × Nat)
  | 0 => none
  | i + 1 => inS m t (i + 1) (ouS m t i) (things m)
def eM4 (B : Option (Nat × Nat × Nat)) : Int := match B with
  | none => -1
  | some b => b.1
def eM5 (B : Option (Nat × Nat × Nat)) : Int := match B with
  | none => -1
  | some b => b.2.1
def eM6 (B : Option (Nat × Nat × Nat)) : Int := match B with
  | none => 0
  | some b => b.2.2
def eC4 (B : Option (Nat × Nat × Nat)) : Int := match B with
  | none => -1
  | some b => 8 * b.1 + b.2.1
def eC5 (B : Option (Nat × Nat × Nat)) : Int := match B with
  | none => 100000000
  | some b => b.2.2
def bOK (B : Option (Nat × Nat × Nat)) : Prop := ∀ b, B = some b → 1 ≤ b.1 ∧ b.1 ≤ 30 ∧ b.2.1 < 8 ∧ b.2.2 ≤ 10
theorem nbS_ok {m : MM} {t k u : Nat} {B : Option (Nat × Nat × Nat)} (hB : bOK B) (hk : 1 ≤ k ∧ k ≤ 30) (hu : u < 8) : bOK (nbS m t k u B) := by
  intro b e
  have ml := mxN_le m t k u 10
  cases B with
  | none =>
    injection e with e
    rw [← e]
    exact ⟨hk.1, hk.2, hu, ml⟩
  | some c =>
    unfold nbS at e
    dsimp only at e
    split at e
    · injection e with e
      rw [← e]
      exact ⟨hk.1, hk.2, hu, ml⟩
    · injection e with e
      rw [← e]
      exact hB c rfl
theorem bOK.b {B : Option (Nat × Nat × Nat)} (hB : bOK B) : (-1 ≤ eM4 B ∧ eM4 B ≤ 30) ∧ (-1 ≤ eM5 B ∧ eM5 B ≤ 8) ∧ (0 ≤ eM6 B ∧ eM6 B ≤ 10) ∧ (-1 ≤ eC4 B ∧ eC4 B ≤ 300) ∧ (0 ≤ eC5 B ∧ eC5 B ≤ 100000000) := by
  cases B with
  | none =>
    show ((-1 : Int) ≤ -1 ∧ (-1 : Int) ≤ 30) ∧ ((-1 : Int) ≤ -1 ∧ (-1 : Int) ≤ 8) ∧ ((0 : Int) ≤ 0 ∧ (0 : Int) ≤ 10) ∧ ((-1 : Int) ≤ -1 ∧ (-1 : Int) ≤ 300) ∧ ((0 : Int) ≤ 100000000 ∧ (100000000 : Int) ≤ 100000000)
    omega
  | some b =>
    have := hB b rfl
    show ((-1 : Int) ≤ (b.1 : Int) ∧ (b.1 : Int) ≤ 30) ∧ ((-1 : Int) ≤ (b.2.1 : Int) ∧ (b.2.1 : Int) ≤ 8) ∧ ((0 : Int) ≤ (b.2.2 : Int) ∧ (b.2.2 : Int) ≤ 10) ∧ ((-1 : Int) ≤ 8 * (b.1 : Int) + b.2.1 ∧ 8 * (b.1 : Int) + b.2.1 ≤ 300) ∧ ((0 : Int) ≤ (b.2.2 : Int) ∧ (b.2.2 : Int) ≤ 100000000)
    omega
def anS (x : Int) (B : Option (Nat × Nat × Nat)) : Int := match B with
  | none => -1
  | some b => if x = 0 then b.1 else if x = 1 then b.2.1 else b.2.2
section Tells
variable {m : MM} {μ : gM} {t : Nat}
/-- the model's inner loop -/
theorem p_tells60 {a : MM} {Q : ((Int32 × Int32 × Int32 × Int32 × Int32 × Int32 × MM) ⊕ (Int32 × MM)) → Prop} {k : Nat} (hw : hwM m t a 10 0 0) (hM : rMany m) (e7 : mi a 1038 7 = mi m 1038 7) (hk : 1 ≤ k ∧ k ≤ 30) (x : Int32) {B : Option (Nat × Nat × Nat)} (hB : bOK B) (hQ : bOK (inS m t k B (things m)) → Q (Sum.inl (x, setS m t 10, iI (eM4 (inS m t k B (things m))), iI (eM5 (inS m t k B (things m))), iI (eM6 (inS m t k B (things m))), iI ((k + 1 : Nat) : Int), a))) : pw (ml_X6_tells_60 x (setS m t 10) (iI (eM4 B)) (iI (eM5 B)) (iI (eM6 B)) (iI k) 0 a) Q := by
  have hb := hM.2.1
  unfold ml_X6_tells_60
  refine pw_for (fun u q => q.1 = x ∧ q.2.1 = setS m t 10 ∧ q.2.2.1 = iI (eM4 (inS m t k B u)) ∧ q.2.2.2.1 = iI (eM5 (inS m t k B u)) ∧ q.2.2.2.2.1 = iI (eM6 (inS m t k B u)) ∧ q.2.2.2.2.2.1 = iI k ∧ q.2.2.2.2.2.2.1 = iI (u : Int) ∧ q.2.2.2.2.2.2.2 = a ∧ bOK (inS m t k B u)) (things m) ?_ ?_ ⟨rfl, rfl, rfl, rfl, rfl, rfl, rfl, rfl, hB⟩
  · rintro u ⟨y1, y2, y3, y4, y5, y6, y7, a'⟩ hu ⟨e1, e2, e3, e4, e5, e6, e8, e9, hB'⟩
    dsimp only at e1 e2 e3 e4 e5 e6 e8 e9 ⊢
    subst e1; subst e2; subst e3; subst e4; subst e5; subst e6; subst e8; subst e9
    have hu8 : u < 8 := by unfold things at hu; omega
    have hu7 : (u : Int) < mi m 1038 7 := by unfold things at hu; omega
    have jj : iI (u : Int) + (1 : Int32) = iI ((u + 1 : Nat) : Int) := by rw [iI_lit, iI_add]; rfl
    have e8 : (8 : Int32) * iI (k : Int) + iI (u : Int) = iI ((8 * k + u : Nat) : Int) := by rw [show (8 : Int32) = iI 8 from rfl, iI_mul, iI_add]; rfl
    have ok' := nbS_ok (m := m) (t := t) hB' hk hu8
    have ml := mxN_le m t k u 10
    unfold mb_X6_tells_60
    rw [p_thingMany, e7]
    refine pw_bind (pw_some (pw_f (by rw [iI_le (by omega) (by omega)]; omega) ?_))
    try dsimp only
    rw [e8, p_most hw (by omega) hu hu8]
    refine pw_bind (pw_some ?_)
    try dsimp only
    unfold mj_X6_tells_100 mj_X6_tells_112
    generalize hI : inS m t k B u = B' at *
    have hn : inS m t k B (u + 1) = nbS m t k u B' := by show nbS m t k u (inS m t k B u) = _; rw [hI]
    rw [hn]
    cases B' with
    | none => exact pw_t (by decide) (pw_let (pw_some ⟨rfl, rfl, rfl, rfl, rfl, rfl, jj, rfl, ok'⟩))
    | some b =>
      obtain ⟨b1, b2, b3, b4⟩ := hB' b rfl
      refine pw_f (show ¬ iI (b.1 : Int) = (-1 : Int32) by rw [show (-1 : Int32) = iI (-1) by decide, iI_eq (by omega) (by omega)]; omega) ?_
      by_cases q : mstN m t k u < b.2.2
      · have en : nbS m t k u (some b) = some (k, u, mstN m t k u) := if_pos q
        rw [en] at ok' ⊢
        exact pw_t (show iI (mstN m t k u : Int) < iI (b.2.2 : Int) by unfold mstN at q ⊢; rw [iI_lt (by omega) (by omega)]; omega) (pw_let (pw_some ⟨rfl, rfl, rfl, rfl, rfl, rfl, jj, rfl, ok'⟩))
      · have en : nbS m t k u (some b) = some b := if_neg q
        rw [en] at ok' ⊢
        exact pw_f (show ¬ iI (mstN m t k u : Int) < iI (b.2.2 : Int) by unfold mstN at q ⊢; rw [iI_lt (by omega) (by omega)]; omega) (pw_let (pw_some ⟨rfl, rfl, rfl, rfl, rfl, rfl, jj, rfl, ok'⟩))
  · rintro ⟨y1, y2, y3, y4, y5, y6, y7, a'⟩ ⟨e1, e2, e3, e4, e5, e6, e8, e9, hB'⟩
    dsimp only at e1 e2 e3 e4 e5 e6 e8 e9 ⊢
    subst e1; subst e2; subst e3; subst e4; subst e5; subst e6; subst e8; subst e9
    have jj : iI (k : Int) + (1 : Int32) = iI ((k + 1 : Nat) : Int) := by rw [iI_lit, iI_add]; rfl
    unfold mb_X6_tells_60
    rw [p_thingMany, e7]
    refine pw_bind (pw_some (pw_t (by unfold things; rw [iI_le (by omega) (by omega)]; omega) (pw_let (pw_some ?_))))
    show Q (Sum.inl (_, _, _, _, _, iI (k : Int) + 1, a'))
    rw [jj]
    exact hQ hB'
theorem p_tells41 {a : MM} (hw : hwM m t a 10 0 0) (hM : rMany m) (e7 : mi a 1038 7 = mi m 1038 7) (e0 : mi a 1051 0 = mi m 1051 0) (hN : okN a) (hS : ¬ setS m t 10 = 0) (h10 : mi m 1051 0 ≤ 999) {x : Int} (hx : 0 ≤ x ∧ x ≤ 2) : pw (ml_X6_tells_41 (iI x) (setS m t 10) (-1) (-1) 0 1 a) (fun q => q.1 = iI (anS x (ouS m t (ahN m - 1))) ∧ q.2 = a) := by
  have b0 := hN.1
  unfold ml_X6_tells_41
  refine pw_for (fun i q => q.1 = iI x ∧ q.2.1 = setS m t 10 ∧ q.2.2.1 = iI (eM4 (ouS m t i)) ∧ q.2.2.2.1 = iI (eM5 (ouS m t i)) ∧ q.2.2.2.2.1 = iI (eM6 (ouS m t i)) ∧ q.2.2.2.2.2.1 = iI ((i + 1 : Nat) : Int) ∧ q.2.2.2.2.2.2 = a ∧ bOK (ouS m t i)) (ahN m - 1) ?_ ?_ ⟨rfl, rfl, by show (-1 : Int32) = iI (-1); decide, by show (-1 : Int32) = iI (-1); decide, rfl, rfl, rfl, fun b e => by cases e⟩
  · rintro i ⟨y1, y2, y3, y4, y5, y6, a'⟩ hi ⟨e1, e2, e3, e4, e5, e6, e8, hB'⟩
    dsimp only at e1 e2 e3 e4 e5 e6 e8 ⊢
    subst e1; subst e2; subst e3; subst e4; subst e5; subst e6; subst e8
    have hi2 : i + 1 ≤ 30 ∧ mi m 1051 0 + ((i + 1 : Nat) : Int) ≤ 999 := by unfold ahN at hi; omega
    unfold mb_X6_tells_41
    refine pw_f hS ?_
    rw [show mf_isAhead (iI ((i + 1 : Nat) : Int)) (1 : Int32) (30 : Int32) a' = _ from p_isAhead hN (a := 1) (b := 30) (by omega) (by omega) (by omega), if_pos (by omega)]
    refine pw_bind (pw_some (pw_f n10 ?_))
    try dsimp only
    exact p_tells60 hw hM e7 (by omega) _ hB' (fun ok => ⟨rfl, rfl, rfl, rfl, rfl, rfl, rfl, ok⟩)
  · rintro ⟨y1, y2, y3, y4, y5, y6, a'⟩ ⟨e1, e2, e3, e4, e5, e6, e8, hB'⟩
    dsimp only at e1 e2 e3 e4 e5 e6 e8 ⊢
    subst e1; subst e2; subst e3; subst e4; subst e5; subst e6; subst e8
    have hi2 : ¬ (((1 : Int) ≤ ((ahN m - 1 + 1 : Nat) : Int) ∧ ((ahN m - 1 + 1 : Nat) : Int) ≤ 30) ∧ mi a' 1051 0 + ((ahN m - 1 + 1 : Nat) : Int) ≤ 999) := by unfold ahN; omega
    unfold mb_X6_tells_41
    refine pw_f hS ?_
    rw [show mf_isAhead (iI ((ahN m - 1 + 1 : Nat) : Int)) (1 : Int32) (30 : Int32) a' = _ from p_isAhead hN (a := 1) (b := 30) (by unfold ahN; omega) (by omega) (by omega), if_neg hi2]
    refine pw_bind (pw_some (pw_t rfl (pw_map ?_)))
    try dsimp only
    unfold mj_X6_tells_124
    generalize ouS m t (ahN m - 1) = B at *
    cases B with
    | none => exact pw_t (by decide) (pw_some ⟨by show (-1 : Int32) = iI (-1); decide, rfl⟩)
    | some b =>
      obtain ⟨b1, b2, b3, b4⟩ := hB' b rfl
      refine pw_f (show ¬ iI (b.1 : Int) = (-1 : Int32) by rw [show (-1 : Int32) = iI (-1) by decide, iI_eq (by omega) (by omega)]; omega) ?_
      obtain e | e | e : x = 0 ∨ x = 1 ∨ x = 2 := by omega
      · subst e; exact pw_t rfl (pw_some ⟨rfl, rfl⟩)
      · subst e; exact pw_f (by decide) (pw_t rfl (pw_some ⟨rfl, rfl⟩))
      · subst e; exact pw_f (by decide) (pw_f (by decide) (pw_some ⟨rfl, rfl⟩))
/-- the component's inner loop -/
theorem c_tells46 {Q : ((Int32 × Int32 × Int32 × Int32 × Int32 × gM) ⊕ (Int32 × gM)) → Prop} {k : Nat} (hw : hwC m t μ 10 0) (hH : rHH m μ) (hk : 1 ≤ k ∧ k ≤ 30) (hka : k < ahN m) (x : Int32) {B : Option (Nat × Nat × Nat)} (hB : bOK B) (hQ : bOK (inS m t k B (things m)) → Q (Sum.inl (x, setS m t 10, iI (eC4 (inS m t k B (things m))), iI (eC5 (inS m t k B (things m))), iI ((k + 1 : Nat) : Int), μ))) : pw (ml_X0_tells_46 x (setS m t 10) (iI (eC4 B)) (iI (eC5 B)) (iI k) 0 μ) Q := by
  have hb := hH.1.2.1
  unfold ml_X0_tells_46
  refine pw_for (fun u q => q.1 = x ∧ q.2.1 = setS m t 10 ∧ q.2.2.1 = iI (eC4 (inS m t k B u)) ∧ q.2.2.2.1 = iI (eC5 (inS m t k B u)) ∧ q.2.2.2.2.1 = iI k ∧ q.2.2.2.2.2.1 = iI (u : Int) ∧ q.2.2.2.2.2.2 = μ ∧ bOK (inS m t k B u)) (things m) ?_ ?_ ⟨rfl, rfl, rfl, rfl, rfl, rfl, rfl, hB⟩
  · rintro u ⟨y1, y2, y3, y4, y5, y6, ν⟩ hu ⟨e1, e2, e3, e4, e5, e6, e8, hB'⟩
    dsimp only at e1 e2 e3 e4 e5 e6 e8 ⊢
    subst e1; subst e2; subst e3; subst e4; subst e5; subst e6; subst e8
    have hu8 : u < 8 := by unfold things at hu; omega
    have hu7 : (u : Int) < mi m 1038 7 := by unfold things at hu; omega
    have jj : iI (u : Int) + (1 : Int32) = iI ((u + 1 : Nat) : Int) := by rw [iI_lit, iI_add]; rfl
    have e8 : (8 : Int32) * iI (k : Int) + iI (u : Int) = iI (8 * (k : Int) + u) := by rw [show (8 : Int32) = iI 8 from rfl, iI_mul, iI_add]
    have ok' := nbS_ok (m := m) (t := t) hB' hk hu8
    have ml := mxN_le m t k u 10
    unfold mb_X0_tells_46
    rw [c_things hH]
    refine pw_bind (pw_some (pw_f (by rw [iI_le (by omega) (by omega)]; omega) ?_))
    try dsimp only
    rw [e8, c_mostB hw hka (by omega) hu hu8]
    refine pw_bind (pw_some ?_)
    try dsimp only
    unfold mj_X0_tells_90
    generalize hI : inS m t k B u = B' at *
    have hn : inS m t k B (u + 1) = nbS m t k u B' := by show nbS m t k u (inS m t k B u) = _; rw [hI]
    rw [hn]
    cases B' with
    | none => exact pw_t (show iI (mstN m t k u : Int) < iI (100000000 : Int) by unfold mstN; rw [iI_lt (by omega) (by omega)]; omega) (pw_let (pw_let (pw_some ⟨rfl, rfl, rfl, rfl, rfl, jj, rfl, ok'⟩)))
    | some b =>
      obtain ⟨b1, b2, b3, b4⟩ := hB' b rfl
      by_cases q : mstN m t k u < b.2.2
      · have en : nbS m t k u (some b) = some (k, u, mstN m t k u) := if_pos q
        rw [en] at ok' ⊢
        exact pw_t (show iI (mstN m t k u : Int) < iI (b.2.2 : Int) by unfold mstN at q ⊢; rw [iI_lt (by omega) (by omega)]; omega) (pw_let (pw_let (pw_some ⟨rfl, rfl, rfl, rfl, rfl, jj, rfl, ok'⟩)))
      · have en : nbS m t k u (some b) = some b := if_neg q
        rw [en] at ok' ⊢
        exact pw_f (show ¬ iI (mstN m t k u : Int) < iI (b.2.2 : Int) by unfold mstN at q ⊢; rw [iI_lt (by omega) (by omega)]; omega) (pw_let (pw_some ⟨rfl, rfl, rfl, rfl, rfl, jj, rfl, ok'⟩))
  · rintro ⟨y1, y2, y3, y4, y5, y6, ν⟩ ⟨e1, e2, e3, e4, e5, e6, e8, hB'⟩
    dsimp only at e1 e2 e3 e4 e5 e6 e8 ⊢
    subst e1; subst e2; subst e3; subst e4; subst e5; subst e6; subst e8
    have jj : iI (k : Int) + (1 : Int32) = iI ((k + 1 : Nat) : Int) := by rw [iI_lit, iI_add]; rfl
    unfold mb_X0_tells_46
    rw [c_things hH]
    refine pw_bind (pw_some (pw_t (by unfold things; rw [iI_le (by omega) (by omega)]; omega) (pw_let (pw_some ?_))))
    show Q (Sum.inl (_, _, _, _, iI (k : Int) + 1, ν))
    rw [jj]
    exact hQ hB'
theorem c_tells31 (hw : hwC m t μ 10 0) (hH : rHH m μ) (hN : okN m) (h27 : gI μ 1027 0 = m.1 1051 0) (h10 : mi m 1051 0 ≤ 999) {x : Int} (hx : 0 ≤ x ∧ x ≤ 2) : pw (ml_X0_tells_31 (iI x) (setS m t 10) (-1) 100000000 1 μ) (fun q => q.1 = iI (anS x (ouS m t (ahN m - 1))) ∧ q.2 = μ) := by
  have b0 := hN.1
  unfold ml_X0_tells_31
  refine pw_for (fun i q => q.1 = iI x ∧ q.2.1 = setS m t 10 ∧ q.2.2.1 = iI (eC4 (ouS m t i)) ∧ q.2.2.2.1 = iI (eC5 (ouS m t i)) ∧ q.2.2.2.2.1 = iI ((i + 1 : Nat) : Int) ∧ q.2.2.2.2.2 = μ ∧ bOK (ouS m t i)) (ahN m - 1) ?_ ?_ ⟨rfl, rfl, by show (-1 : Int32) = iI (-1); decide, rfl, rfl, rfl, fun b e => by cases e⟩
  · rintro i ⟨y1, y2, y3, y4, y5, ν⟩ hi ⟨e1, e2, e3, e4, e5, e6, hB'⟩
    dsimp only at e1 e2 e3 e4 e5 e6 ⊢
    subst e1; subst e2; subst e3; subst e4; subst e5; subst e6
    have hi2 : i + 1 ≤ 30 ∧ mi m 1051 0 + ((i + 1 : Nat) : Int) ≤ 999 := by unfold ahN at hi; omega
    unfold mb_X0_tells_31
    rw [show cf_X0_isAhead (iI ((i + 1 : Nat) : Int)) (1 : Int32) (30 : Int32) ν = _ from c_isAhead hN h27 (a := 1) (b := 30) (by omega) (by omega) (by omega), if_pos (by omega)]
    refine pw_bind (pw_some (pw_f n10 ?_))
    try dsimp only
    exact c_tells46 hw hH (by omega) (by omega) _ hB' (fun ok => ⟨rfl, rfl, rfl, rfl, rfl, rfl, ok⟩)
  · rintro ⟨y1, y2, y3, y4, y5, ν⟩ ⟨e1, e2, e3, e4, e5, e6, hB'⟩
    dsimp only at e1 e2 e3 e4 e5 e6 ⊢
    subst e1; subst e2; subst e3; subst e4; subst e5; subst e6
    have hi2 : ¬ (((1 : Int) ≤ ((ahN m - 1 + 1 : Nat) : Int) ∧ ((ahN m - 1 + 1 : Nat) : Int) ≤ 30) ∧ mi m 1051 0 + ((ahN m - 1 + 1 : Nat) : Int) ≤ 999) := by unfold ahN; omega
    unfold mb_X0_tells_31
    rw [show cf_X0_isAhead (iI ((ahN m - 1 + 1 : Nat) : Int)) (1 : Int32) (30 : Int32) ν = _ from c_isAhead hN h27 (a := 1) (b := 30) (by unfold ahN; omega) (by omega) (by omega), if_neg hi2]
    refine pw_bind (pw_some (pw_t rfl ?_))
    try dsimp only
    generalize ouS m t (ahN m - 1) = B at *
    cases B with
    | none => exact pw_t (by decide) (pw_some ⟨by show (-1 : Int32) = iI (-1); decide, rfl⟩)
    | some b =>
      obtain ⟨b1, b2, b3, b4⟩ := hB' b rfl
      show pw (if iI (8 * (b.1 : Int) + b.2.1) = (-1 : Int32) then _ else if iI x = (0 : Int32) then some (Sum.inr (iI (8 * (b.1 : Int) + b.2.1) / (8 : Int32), ν)) else if iI x = (1 : Int32) then some (Sum.inr (iI (8 * (b.1 : Int) + b.2.1) - iI (8 * (b.1 : Int) + b.2.1) / (8 : Int32) * (8 : Int32), ν)) else some (Sum.inr (iI (b.2.2 : Int), ν))) _
      have d8 : iI (8 * (b.1 : Int) + b.2.1) / (8 : Int32) = iI (b.1 : Int) := by
        rw [show (8 : Int32) = iI 8 from rfl, iI_divn (by omega) (by omega)]; congr 1; omega
      rw [d8]
      refine pw_f (show ¬ iI (8 * (b.1 : Int) + b.2.1) = (-1 : Int32) by rw [show (-1 : Int32) = iI (-1) by decide, iI_eq (by omega) (by omega)]; omega) ?_
      obtain e | e | e : x = 0 ∨ x = 1 ∨ x = 2 := by omega
      · subst e; exact pw_t rfl (pw_some ⟨rfl, rfl⟩)
      · subst e
        refine pw_f (by decide) (pw_t rfl (pw_some ⟨?_, rfl⟩))
        show iI (8 * (b.1 : Int) + b.2.1) - iI (b.1 : Int) * (8 : Int32) = iI (b.2.1 : Int)
        rw [show (8 : Int32) = iI 8 from rfl, iI_mul, iI_sub]; congr 1; omega
      · subst e; exact pw_f (by decide) (pw_f (by decide) (pw_some ⟨rfl, rfl⟩))
theorem e_tells {l : List (Int × Int × Int)} (h : rCo l m μ) (hRo : rRows m μ) (x y : Int32) : eO (mf_tells x y m) (cf_X0_tells x y μ) m μ := by
  obtain ⟨h1, h2, h3, h4, h5, h6, h7, h8, h9, h10, h11, h12, h13⟩ := id h
  obtain ⟨z, hz, rfl⟩ := iI_ex x
  obtain ⟨w, hw, rfl⟩ := iI_ex y
  have b1 := h2.1.2.1
  by_cases q : 0 ≤ z ∧ z < mi m 1038 7
  · obtain ⟨t, rfl⟩ : ∃ t : Nat, z = t := ⟨z.toNat, by omega⟩
    obtain ⟨n, n1, n2⟩ := setS_n m t 10 (Nat.le_refl _)
    have n1 : n < 1024 := n1
    by_cases p : 0 ≤ w ∧ w ≤ 2
    · -- both look
      refine eO.of (if setS m t 10 = 0 then (-1 : Int32) else iI (anS w (ouS m t (ahN m - 1)))) ?_ ?_
      · unfold mf_tells
        rw [i2l_iI hz, i2l_iI hw, p_isThing h2.1 hz, if_pos q]
        refine pw_bind (pw_some (pw_f n10 ?_))
        try dsimp only
        rw [show mf_isIn (lL w) (0 : Int64) (2 : Int64) m = _ from p_isIn m (a := 0) (b := 2) (by omega) (by omega) (by omega), if_pos p]
        refine pw_bind (pw_some (pw_f n10 ?_))
        try dsimp only
        refine pw_bind (pw_mono (p_heatSet hRo.ok h2.1 h5 h4 h7 h10 h12 h13) ?_)
        rintro ⟨r, a⟩ ⟨f1, f2, f3⟩
        dsimp only at f1 f2 f3 ⊢
        subst f1
        by_cases s0 : setS m t 10 = 0
        · rw [if_pos s0, s0]
          unfold ml_X6_tells_41
          refine pw_for (fun _ q => q = (iI w, 0, (-1 : Int32), (-1 : Int32), 0, 1, a)) 0 (fun i _ hi => absurd hi (Nat.not_lt_zero _)) ?_ rfl
          rintro q rfl
          unfold mb_X6_tells_41 mj_X6_tells_124
          exact pw_t rfl (pw_map (pw_t rfl (pw_some ⟨rfl, f2⟩)))
        · rw [if_neg s0]
          have ra := h.sc f2 (cSc.refl μ) h9
          obtain ⟨-, -, -, -, na, -⟩ := ra
          have e1 : ∀ c j : Nat, ¬ scM c j → mi a c j = mi m c j := fun c j k => congrArg Int32.toInt (f2.1 c j k)
          refine pw_mono (p_tells41 f3 h2.1 (e1 _ _ (by unfold scM; omega)) (e1 _ _ (by unfold scM; omega)) na s0 h10 p) ?_
          rintro ⟨r, a'⟩ ⟨g1, g2⟩
          dsimp only at g1 g2 ⊢
          rw [g2]
          exact ⟨g1, f2⟩
      · unfold cf_X0_tells
        refine pw_bind (pw_mono (c_heats h hRo (by omega)) ?_)
        rintro ⟨r, ν⟩ ⟨f1, f2, f3, f4⟩
        dsimp only at f1 f2 f3 f4 ⊢
        subst f1
        by_cases s0 : setS m t 10 = 0
        · rw [if_pos s0, s0]
          unfold mj_X0_tells_19
          exact pw_t (by decide) (pw_some ⟨rfl, f2, f3⟩)
        · rw [if_neg s0]
          have sp : ¬ setS m t 10 ≤ (0 : Int32) := by
            intro k
            rw [n2] at k s0
            rw [show (0 : Int32) = iI 0 from rfl, iI_le (by omega) (by omega)] at k
            rw [show (0 : Int32) = iI 0 from rfl, iI_eq (by omega) (by omega)] at s0
            omega
          refine pw_f sp ?_
          rw [show cf_X0_is (iI w) (0 : Int32) (2 : Int32) ν = _ from p_is ν (a := 0) (b := 2) (by omega) (by omega) (by omega), if_pos p]
          refine pw_bind (pw_some (pw_f n10 ?_))
          try dsimp only
          have rn := h.sc (mSc.refl h5) f2 f3
          obtain ⟨-, hHn, -, -, -, hSn, -⟩ := rn
          refine pw_mono (c_tells31 f4 hHn h5 hSn.1 h10 p) ?_
          rintro ⟨r, ν'⟩ ⟨g1, g2⟩
          dsimp only at g1 g2 ⊢
          rw [g2]
          exact ⟨g1, f2, f3⟩
    · refine eO.of (-1) ?_ ?_
      · unfold mf_tells mj_X6_tells_21
        rw [i2l_iI hz, i2l_iI hw, p_isThing h2.1 hz, if_pos q]
        refine pw_bind (pw_some (pw_f n10 ?_))
        try dsimp only
        rw [show mf_isIn (lL w) (0 : Int64) (2 : Int64) m = _ from p_isIn m (a := 0) (b := 2) (by omega) (by omega) (by omega), if_neg p]
        exact pw_bind (pw_some (pw_t rfl (pw_some ⟨rfl, mSc.refl h5⟩)))
      · unfold cf_X0_tells mj_X0_tells_19
        refine pw_bind (pw_mono (c_heats h hRo (by omega)) ?_)
        rintro ⟨r, ν⟩ ⟨f1, f2, f3, f4⟩
        dsimp only at f1 f2 f3 f4 ⊢
        refine pw_if (fun _ => pw_some ⟨rfl, f2, f3⟩) (fun _ => ?_)
        rw [show cf_X0_is (iI w) (0 : Int32) (2 : Int32) ν = _ from p_is ν (a := 0) (b := 2) (by omega) (by omega) (by omega), if_neg p]
        exact pw_bind (pw_some (pw_t rfl (pw_some ⟨rfl, f2, f3⟩)))
  · refine eO.of (-1) ?_ ?_
    · unfold mf_tells mj_X6_tells_21
      rw [i2l_iI hz, p_isThing h2.1 hz, if_neg q]
      exact pw_bind (pw_some (pw_t rfl (pw_some ⟨rfl, mSc.refl h5⟩)))
    · unfold cf_X0_tells mj_X0_tells_19 cf_X0_heats
      rw [c_isThing h2 hz, if_neg q]
      exact pw_bind (pw_bind (pw_some (pw_t rfl (pw_some (pw_t (by decide) (pw_some ⟨rfl, cSc.refl μ, h9⟩))))))
end Tells
