/-! ===== what the model's codes tell of a thing ===== -/
/-- but for the pile, the thing asked, the kind of text all is as it was -/
def tE (m m' : MM) : Prop := (∀ c j : Nat, ¬ (c = 2000 ∧ (j = 48 ∨ j = 55 ∨ j = 99)) → m'.1 c j = m.1 c j) ∧ ∀ c j : Nat, c ≠ 1099 → m'.2 c j = m.2 c j
theorem tE.refl (m : MM) : tE m m := ⟨fun _ _ _ => rfl, fun _ _ _ => rfl⟩
theorem tE.trans {a b c : MM} (h1 : tE a b) (h2 : tE b c) : tE a c := ⟨fun x y h => (h2.1 x y h).trans (h1.1 x y h), fun x y h => (h2.2 x y h).trans (h1.2 x y h)⟩
theorem tE.of {a b : MM} (h : qE a b) : tE a b := ⟨fun c j hc => h.1 c j (fun q => hc ⟨q.1, Or.inr (Or.inr q.2)⟩), h.2⟩
theorem tE.at {a b : MM} (h : tE a b) {c j : Nat} (hc : ¬ (c = 2000 ∧ (j = 48 ∨ j = 55 ∨ j = 99))) : mi b c j = mi a c j := congrArg Int32.toInt (h.1 c j hc)
theorem tE.near {a b : MM} (h : tE a b) (t : Nat) : ∀ k : Nat, nearF b t k = nearF a t k
  | 0 => rfl
  | k + 1 => by rw [nearF_s, nearF_s, tE.near h t k, h.at (by omega), h.at (by omega), h.at (by omega)]
theorem tE.env {a b : MM} (h : tE a b) (t : Nat) (w : Int) : envM b t w = envM a t w := by
  unfold envM heatS things
  rw [h.at (c := 1051) (by omega), h.at (c := 2000) (j := 52) (by omega), h.at (c := 2000) (j := 53) (by omega), h.at (c := 1041) (j := 17 + 2 * t) (by omega), h.at (c := 1038) (by omega), tE.near h, h.at (c := 1051) (j := 0) (by omega), h.at (c := 1041) (j := 16 + 2 * t) (by omega), h.at (c := 1051) (j := 15 + 2 * t) (by omega)]
theorem tE.many {a b : MM} (h : tE a b) (hm : rMany a) : rMany b := by
  unfold rMany at hm ⊢
  rw [h.at (c := 1038) (j := 6) (by omega), h.at (c := 1038) (j := 7) (by omega), h.at (c := 1038) (j := 8) (by omega), h.at (c := 1038) (j := 9) (by omega), h.at (c := 1038) (j := 11) (by omega)]
  exact hm
theorem tE.okN {a b : MM} (h : tE a b) (hm : okN a) : okN b := by
  obtain ⟨h1, h2, h3, h4⟩ := hm
  refine ⟨?_, fun t ht => ?_, ?_, fun t ht => ?_⟩
  · rw [h.at (c := 1051) (by omega)]; exact h1
  · rw [h.at (c := 1051) (j := 14 + 2 * t) (by omega), h.at (c := 1051) (j := 15 + 2 * t) (by omega)]; exact h2 t ht
  · rw [h.at (c := 2000) (j := 53) (by omega)]; exact h3
  · rw [h.at (c := 1038) (by omega)] at ht
    rw [h.at (c := 1041) (j := 16 + 2 * t) (by omega), h.at (c := 1041) (j := 17 + 2 * t) (by omega)]; exact h4 t ht
def codesAt (m : MM) (w : Nat) (cs : List Int) : Prop := 0 ≤ mi m 1044 (2 + w) ∧ mi m 1045 (2 + w) = mi m 1044 (2 + w) + cs.length ∧ mi m 1045 (2 + w) ≤ 1600 ∧ ∀ i : Nat, i < cs.length → mi m 1046 (1600 + (mi m 1044 (2 + w)).toNat + i) = cs.getD i 0
theorem qR_lk (env : Int → Int) (lk lk' : Int → Int → Int) : ∀ (cs st : List Int), (∀ c ∈ cs, c < 60 ∨ 1000 ≤ c) → qR env lk cs st = qR env lk' cs st
  | [], _, _ => rfl
  | c :: cs, st, h => by
    have e : qS env lk c st = qS env lk' c st := by
      unfold qS
      have := h c List.mem_cons_self
      by_cases h1 : 1000 ≤ c
      · rw [if_pos h1, if_pos h1]
      · simp only [if_neg h1, if_neg (show ¬ 60 ≤ c by omega)]
    show qR env lk cs (qS env lk c st) = qR env lk' cs (qS env lk' c st)
    rw [e]
    exact qR_lk env lk lk' cs _ (fun c hc => h c (List.mem_cons_of_mem _ hc))
/-- one code of the model's row -/
theorem p_tell1 {m m0 : MM} (h : rMany m) (hN : okN m) {t : Nat} (ht : (t : Int) < mi m 1038 7) (ha : mi m 2000 55 = t) {st : List Int} (hp : pile m st) (hl : st.length < 1600) {w : Nat} (hw : w < 2) {k : Int} (hk : 0 ≤ k ∧ k < mi m 1045 (2 + w)) (hk2 : mi m 1045 (2 + w) ≤ 1600) {c : Int} (hc : mi m 1046 (1600 + k.toNat) = c) (hc60 : c < 60 ∨ 1000 ≤ c) {s e : List Bool} {cs : List Int} (hT : qT (c :: cs) s e) (hs : stOK s st) (lk : Int → Int → Int) :
    pw (mb_X6_codesTell_24 (iI w) (iI t) (iI k) m) (Sum.elim (fun q => q.1 = iI w ∧ q.2.1 = iI t ∧ q.2.2.1 = iI (k + 1) ∧ qE m q.2.2.2 ∧ ∃ s', pile q.2.2.2 (qS (envM m t) lk c st) ∧ stOK s' (qS (envM m t) lk c st) ∧ qT cs s' e) (fun _ => False)) := by
  have hb := h.2.1
  have r45 := mi_r m 1045 (2 + w)
  have hcb : 1 ≤ c ∧ c ≤ 10999 := by
    rcases hT with ⟨a, _⟩ | ⟨a, _⟩ | ⟨a, _⟩ | ⟨a, _⟩ | ⟨a, _⟩ | ⟨a, _⟩ | ⟨a, _⟩ <;> omega
  have i1 : (2 : Int32) + iI w = iI (2 + w) := by rw [iI_lit, iI_add]
  have i2 : gz_ix (iI (2 + (w : Int))) = 2 + w := by rw [gix (by omega)]; omega
  have i3 : (1600 : Int32) + iI k = iI (1600 + k) := by rw [iI_lit, iI_add]
  have i4 : gz_ix (iI (1600 + k)) = 1600 + k.toNat := by rw [gix (by omega)]; omega
  unfold mb_X6_codesTell_24
  rw [i1, i2, i3, i4, mi_of m 1045 (2 + w), mi_of m 1046 (1600 + k.toNat), hc]
  refine pw_gu (by rw [gin_iI (by omega)]; omega) ?_
  refine pw_f (by rw [iI_le (by omega) (by omega)]; omega) ?_
  refine pw_gu (by rw [gin_iI (by omega)]; omega) (pw_let ?_)
  have fin : ∀ (m2 : MM) (s' : List Bool), qE m m2 → pile m2 (qS (envM m t) lk c st) → stOK s' (qS (envM m t) lk c st) → qT cs s' e → pw (mj_X6_codesTell_149 (iI w) (iI t) (iI k) m2) (Sum.elim (fun q => q.1 = iI w ∧ q.2.1 = iI t ∧ q.2.2.1 = iI (k + 1) ∧ qE m q.2.2.2 ∧ ∃ s', pile q.2.2.2 (qS (envM m t) lk c st) ∧ stOK s' (qS (envM m t) lk c st) ∧ qT cs s' e) (fun _ => False)) := by
    intro m2 s' f1 f2 f3 f4
    unfold mj_X6_codesTell_149
    refine pw_let (pw_some ⟨rfl, rfl, ?_, f1, s', f2, f3, f4⟩)
    show iI k + (1 : Int32) = _
    rw [iI_lit, iI_add]
  rcases hT with ⟨a, r, b, d⟩ | ⟨a, r, b, d⟩ | ⟨a, r, b, d⟩ | ⟨a, r, b, d⟩ | ⟨a, d⟩ | ⟨a, d⟩ | ⟨a, r, b, d⟩
  · subst b
    obtain ⟨v1, vs, e1, w1, v2, vs2, e2, w2, hs2⟩ := hs
    subst e1; subst e2
    simp only [List.length_cons] at hl
    have eq : qS (envM m t) lk c (v1 :: v2 :: vs2) = qop c v2 v1 :: vs2 := by
      unfold qS
      rw [if_neg (by omega), if_neg (by omega), if_neg (by omega), if_neg (by omega), if_neg (by omega)]
    rw [eq] at fin ⊢
    have hv : vOK false (qop c v2 v1) := by
      unfold vOK
      rw [if_neg (by decide)]
      exact qop_b w2.b w1.b (by omega)
    refine pw_t (by rw [iI_lit, iI_lt (by omega) (by omega)]; omega) ?_
    refine pw_t (by rw [iI_lit, iI_lt (by omega) (by omega)]; omega) ?_
    refine pw_f (by rw [iI_lit, iI_eq (by omega) (by omega)]; omega) ?_
    refine pw_f (by rw [iI_lit, iI_eq (by omega) (by omega)]; omega) ?_
    refine pw_bind (pw_mono (p_qJoins hp (by omega) w2.b w1.b (by omega)) ?_)
    rintro ⟨u, m2⟩ ⟨q1, q2⟩
    exact fin m2 (false :: r) q1 q2 ⟨_, _, rfl, hv, hs2⟩ d
  · subst b
    obtain ⟨v1, vs, e1, w1, v2, vs2, e2, w2, hs2⟩ := hs
    subst e1; subst e2
    simp only [List.length_cons] at hl
    have eq : qS (envM m t) lk c (v1 :: v2 :: vs2) = qop c v2 v1 :: vs2 := by
      unfold qS
      rw [if_neg (by omega), if_neg (by omega), if_neg (by omega), if_neg (by omega), if_neg (by omega)]
    rw [eq] at fin ⊢
    have hv : vOK true (qop c v2 v1) := by
      unfold vOK
      rw [if_pos rfl]
      unfold qop
      rw [if_neg (by omega), if_neg (by omega), if_neg (by omega), if_neg (by omega), if_neg (by omega), if_neg (by omega)]
      repeat' split
      all_goals omega
    refine pw_t (by rw [iI_lit, iI_lt (by omega) (by omega)]; omega) ?_
    refine pw_t (by rw [iI_lit, iI_lt (by omega) (by omega)]; omega) ?_
    refine pw_f (by rw [iI_lit, iI_eq (by omega) (by omega)]; omega) ?_
    refine pw_f (by rw [iI_lit, iI_eq (by omega) (by omega)]; omega) ?_
    refine pw_bind (pw_mono (p_qJoins hp (by omega) w2.b w1.b (by omega)) ?_)
    rintro ⟨u, m2⟩ ⟨q1, q2⟩
    exact fin m2 (true :: r) q1 q2 ⟨_, _, rfl, hv, hs2⟩ d
  · subst b
    obtain ⟨v1, vs, e1, w1, v2, vs2, e2, w2, hs2⟩ := hs
    subst e1; subst e2
    simp only [List.length_cons] at hl
    have eq : qS (envM m t) lk c (v1 :: v2 :: vs2) = qop c v2 v1 :: vs2 := by
      unfold qS
      rw [if_neg (by omega), if_neg (by omega), if_neg (by omega), if_neg (by omega), if_neg (by omega)]
    rw [eq] at fin ⊢
    have hv : vOK true (qop c v2 v1) := by
      unfold vOK at w1 w2 ⊢
      rw [if_pos rfl] at w1 w2 ⊢
      unfold qop
      rw [if_neg (by omega), if_neg (by omega), if_neg (by omega), if_neg (by omega), if_neg (by omega), if_neg (by omega), if_neg (by omega), if_neg (by omega), if_neg (by omega)]
      rcases w1 with x | x <;> rcases w2 with y | y <;> subst x <;> subst y <;> repeat' split
      all_goals omega
    refine pw_t (by rw [iI_lit, iI_lt (by omega) (by omega)]; omega) ?_
    refine pw_t (by rw [iI_lit, iI_lt (by omega) (by omega)]; omega) ?_
    refine pw_f (by rw [iI_lit, iI_eq (by omega) (by omega)]; omega) ?_
    refine pw_f (by rw [iI_lit, iI_eq (by omega) (by omega)]; omega) ?_
    refine pw_bind (pw_mono (p_qJoins hp (by omega) w2.b w1.b (by omega)) ?_)
    rintro ⟨u, m2⟩ ⟨q1, q2⟩
    exact fin m2 (true :: r) q1 q2 ⟨_, _, rfl, hv, hs2⟩ d
  · subst b
    obtain ⟨v1, vs, e1, w1, hs2⟩ := hs
    subst e1; subst a
    simp only [List.length_cons] at hl
    have eq : qS (envM m t) lk 12 (v1 :: vs) = (1 - v1) :: vs := by
      unfold qS
      rw [if_neg (by omega), if_neg (by omega), if_neg (by omega), if_neg (by omega), if_pos rfl]
    rw [eq] at fin ⊢
    have n1 : mi m 2000 99 = (vs.length : Int) + 1 := by rw [hp.1]; simp
    have e0 : m.1 2000 99 - (1 : Int32) = iI (vs.length : Int) := by rw [mi_of, n1, iI_lit, iI_sub]; congr 1; omega
    have e1 : gz_ix (iI (vs.length : Int)) = vs.length := by rw [gix (by omega)]; omega
    have e2 : ml m 1099 vs.length = v1 := by have := hp.2 0 (by simp); simpa using this
    refine pw_t (by rw [iI_lit, iI_lt (by omega) (by omega)]; omega) ?_
    refine pw_t (by rw [iI_lit, iI_lt (by omega) (by omega)]; omega) ?_
    refine pw_f (by rw [iI_lit, iI_eq (by omega) (by omega)]; omega) ?_
    refine pw_t (by rw [iI_lit]) ?_
    have wb := w1.b
    rw [e0, e1, ml_of m 1099 vs.length, e2, lL_lit, lL_sub]
    refine pw_gu (by rw [gin_iI (by omega)]; omega) ?_
    refine pw_gu (by rw [gin_iI (by omega)]; omega) (pw_let ?_)
    refine fin _ (true :: r) ⟨fun c j _ => rfl, fun c j hc => by rw [msL_l, if_neg (fun q => hc q.1)]⟩ ⟨?_, fun j hj => ?_⟩ ⟨_, _, rfl, ?_, hs2⟩ d
    · rw [mi_sL]
      rw [n1]; simp
    · rw [ml_sL _ _ _ _ _ (by omega)]
      cases j with
      | zero => rw [if_pos ⟨rfl, by simp⟩]; simp
      | succ j =>
        simp only [List.length_cons] at hj ⊢
        have h9 := hp.2 (j + 1) (by simp only [List.length_cons]; omega)
        simp only [List.length_cons] at h9
        rw [if_neg (by omega), h9]
        simp
    · unfold vOK at w1 ⊢
      rw [if_pos rfl] at w1 ⊢
      omega
  · subst a
    have eq : qS (envM m t) lk 13 st = 1 :: st := by
      unfold qS
      rw [if_neg (by omega), if_neg (by omega), if_neg (by omega), if_pos rfl]
    rw [eq] at fin ⊢
    refine pw_t (by rw [iI_lit, iI_lt (by omega) (by omega)]; omega) ?_
    refine pw_t (by rw [iI_lit, iI_lt (by omega) (by omega)]; omega) ?_
    refine pw_t (by rw [iI_lit]) ?_
    rw [lL_lit]
    refine pw_bind (pw_mono (p_qPuts hp (by omega) (by omega)) ?_)
    rintro ⟨u, m2⟩ ⟨q1, q2⟩
    exact fin m2 (true :: s) q1 q2 ⟨_, _, rfl, Or.inr rfl, hs⟩ d
  · rcases a with a | a
    · have eb := envM_b h hN ht (c - 40)
      have eq : qS (envM m t) lk c st = envM m t (c - 40) :: st := by
        unfold qS
        rw [if_neg (by omega), if_neg (by omega), if_pos (by omega), clp_id (by omega)]
      rw [eq] at fin ⊢
      refine pw_t (by rw [iI_lit, iI_lt (by omega) (by omega)]; omega) ?_
      refine pw_f (by rw [iI_lit, iI_lt (by omega) (by omega)]; omega) ?_
      have i5 : iI c - (40 : Int32) = iI (c - 40) := by rw [iI_lit, iI_sub]
      rw [i5, p_qPartOf h hN ht ha (by omega)]
      refine pw_bind (pw_some ?_)
      dsimp only
      refine pw_bind (pw_mono (p_qPuts hp (by omega) (by omega)) ?_)
      rintro ⟨u, m2⟩ ⟨q1, q2⟩
      refine fin m2 (false :: s) q1 q2 ⟨_, _, rfl, ?_, hs⟩ d
      unfold vOK
      rw [if_neg (by decide)]
      omega
    · have eq : qS (envM m t) lk c st = (c - 1000) :: st := by
        unfold qS
        rw [if_pos (by omega)]
      rw [eq] at fin ⊢
      refine pw_f (by rw [iI_lit, iI_lt (by omega) (by omega)]; omega) ?_
      have i5 : (iI c - (1000 : Int32)).toInt64 = lL (c - 1000) := by rw [iI_lit, iI_sub, i2l_iI (by omega)]
      rw [i5]
      refine pw_bind (pw_mono (p_qPuts hp (by omega) (by omega)) ?_)
      rintro ⟨u, m2⟩ ⟨q1, q2⟩
      refine fin m2 (false :: s) q1 q2 ⟨_, _, rfl, ?_, hs⟩ d
      unfold vOK
      rw [if_neg (by decide)]
      omega
  · omega
