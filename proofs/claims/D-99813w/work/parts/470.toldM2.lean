/-! ===== the model: a question's codes ===== -/
theorem se1 (b : BitVec 32) : b.signExtend 64 &&& 1#64 = if b.getLsbD 0 = true then 1#64 else 0#64 := by
  apply BitVec.eq_of_getLsbD_eq
  intro i hi
  rw [BitVec.getLsbD_and, BitVec.getLsbD_signExtend]
  cases i with
  | zero =>
    by_cases h : b.getLsbD 0 = true
    · rw [if_pos h]; simp [h]
    · rw [if_neg h]; simp; simpa using h
  | succ n =>
    by_cases h : b.getLsbD 0 = true
    · rw [if_pos h]; simp [h]
    · rw [if_neg h]; simp [h]
theorem has64 (s : Int32) {k : Nat} (hk : k < 32) : ((s >>> (iI k &&& 31)).toInt64 &&& (1 : Int64)) = lL (if bt s k = true then 1 else 0) := by
  have e : bt (s >>> (iI k &&& 31)) 0 = bt s k := by
    rw [iI_nI, b_sshr k hk s (by omega), if_pos (by omega)]
    rfl
  have h1 := se1 (s >>> (iI k &&& 31)).toBitVec
  unfold bt at e
  rw [e] at h1
  apply Int64.toBitVec_inj.mp
  rw [Int64.toBitVec_and, Int32.toBitVec_toInt64]
  show _ &&& 1#64 = _
  rw [h1]
  unfold bt
  by_cases q : s.toBitVec.getLsbD k = true
  · rw [if_pos q, if_pos q]; rfl
  · rw [if_neg q, if_neg q]; rfl
/-- what is told of a number: ends, steps -/
def lkM (m : MM) (t : Nat) (k a : Int) : Int := if k = 0 then (if 0 ≤ a ∧ a < mi m 1038 7 then (if bt (m.1 1055 t) a.toNat = true then 1 else 0) else 0) else (if 0 ≤ a ∧ a < mi m 1038 6 then mi m 1050 (8 * (mi m 1041 (16 + 2 * t)).toNat + a.toNat) else -1)
def wyR (m : MM) : Prop := ∀ a b : Nat, a < 8 → b < 8 → -1 ≤ mi m 1050 (8 * a + b) ∧ mi m 1050 (8 * a + b) ≤ 900
theorem lkM_b {m : MM} (hm : rMany m) (hw : wyR m) {t : Nat} (hh : 0 ≤ mi m 1041 (16 + 2 * t) ∧ mi m 1041 (16 + 2 * t) < 8) (k a : Int) : -1000 ≤ lkM m t k a ∧ lkM m t k a ≤ 1000 := by
  have h1 := hm.1
  unfold lkM
  split
  · split
    · split <;> omega
    · omega
  · split
    · rename_i q
      have := hw (mi m 1041 (16 + 2 * t)).toNat a.toNat (by omega) (by omega)
      omega
    · omega
theorem p_qOf {m : MM} (hm : rMany m) {t : Nat} (ht : t < 8) (hh : 0 ≤ mi m 1041 (16 + 2 * t) ∧ mi m 1041 (16 + 2 * t) < 8) {k a : Int} (hk : k = 0 ∨ k = 1) (ha : -1000000 ≤ a ∧ a ≤ 1000000) : mf_qOf (iI k) (lL a) (iI t) m = some (lL (lkM m t k a), m) := by
  have h1 := hm.1
  have h2 := hm.2.1
  have gt : gz_ix (iI (t : Int)) = t := by rw [gix (by omega)]; omega
  unfold mf_qOf lkM
  rcases hk with hk | hk
  · subst hk
    rw [if_pos (show iI 0 = (0 : Int32) from rfl), p_isThing hm (by omega), if_pos rfl]
    simp only [Option.bind_some]
    by_cases q : 0 ≤ a ∧ a < mi m 1038 7
    · rw [if_pos q, if_neg n10, if_pos ((gin_iI (by omega)).2 (by omega)), gt, l2i_lL (by omega), if_pos q]
      obtain ⟨b, rfl⟩ : ∃ b : Nat, a = b := ⟨a.toNat, by omega⟩
      rw [has64 _ (by omega)]
      rfl
    · rw [if_neg q, if_pos rfl, if_neg q]
      rfl
  · subst hk
    rw [if_neg (show ¬ iI 1 = (0 : Int32) by decide), p_isHall hm (by omega), if_neg (show ¬ ((1 : Int) = 0) by omega)]
    simp only [Option.bind_some]
    by_cases q : 0 ≤ a ∧ a < mi m 1038 6
    · have e8 : (8 : Int32) * iI (mi m 1041 (16 + 2 * t)) + iI a = iI (8 * mi m 1041 (16 + 2 * t) + a) := by rw [show (8 : Int32) = iI 8 from rfl, iI_mul, iI_add]
      have g8 : gz_ix (iI (8 * mi m 1041 (16 + 2 * t) + a)) = 8 * (mi m 1041 (16 + 2 * t)).toNat + a.toNat := by rw [gix (by omega)]; omega
      rw [if_pos q, if_neg n10, p_hallOf ht]
      simp only [Option.bind_some]
      rw [l2i_lL (by omega), e8, if_pos ((gin_iI (by omega)).2 (by omega)), g8, mi_of m 1050, if_pos q]
      have r := mi_r m 1050 (8 * (mi m 1041 (16 + 2 * t)).toNat + a.toNat)
      rw [i2l_iI (by omega)]
    · rw [if_neg q, if_pos rfl, if_neg q]
      rfl
theorem p_told1 {m : MM} (h : rMany m) (hN : okN m) (hw : wyR m) {t : Nat} (ht : (t : Int) < mi m 1038 7) (ha : mi m 2000 55 = t) {st : List Int} (hp : pile m st) (hl : st.length < 1600) {k n : Nat} (hk : k < n) (hn : n ≤ 1600) (h93 : m.1 2000 93 = iI n) {c : Int} (hc : m.1 1093 k = iI c) {s e : List Bool} {cs : List Int} (hT : qT (c :: cs) s e) (hs : stOK s st) :
    pw (mb_X6_qTold_7 (iI t) (iI k) m) (Sum.elim (fun q => q.1 = iI t ∧ q.2.1 = iI ((k + 1 : Nat) : Int) ∧ qE m q.2.2 ∧ ∃ s', pile q.2.2 (qS (envM m t) (lkM m t) c st) ∧ stOK s' (qS (envM m t) (lkM m t) c st) ∧ qT cs s' e) (fun _ => False)) := by
  have hb := h.2.1
  have hcb : 1 ≤ c ∧ c ≤ 10999 := by
    rcases hT with ⟨a, _⟩ | ⟨a, _⟩ | ⟨a, _⟩ | ⟨a, _⟩ | ⟨a, _⟩ | ⟨a, _⟩ | ⟨a, _⟩ <;> omega
  have hh := (hN.2.2.2 t ht).1
  have gk : gz_ix (iI (k : Int)) = k := by rw [gix (by omega)]; omega
  unfold mb_X6_qTold_7
  rw [h93, gk, hc]
  refine pw_f (by rw [iI_le (by omega) (by omega)]; omega) (pw_gu ((gin_iI (by omega)).2 (by omega)) (pw_let ?_))
  have fin : ∀ (m2 : MM) (s' : List Bool), qE m m2 → pile m2 (qS (envM m t) (lkM m t) c st) → stOK s' (qS (envM m t) (lkM m t) c st) → qT cs s' e → pw (mj_X6_qTold_162 (iI t) (iI k) m2) (Sum.elim (fun q : Int32 × Int32 × MM => q.1 = iI t ∧ q.2.1 = iI ((k + 1 : Nat) : Int) ∧ qE m q.2.2 ∧ ∃ s', pile q.2.2 (qS (envM m t) (lkM m t) c st) ∧ stOK s' (qS (envM m t) (lkM m t) c st) ∧ qT cs s' e) (fun _ => False)) := by
    intro m2 s' f1 f2 f3 f4
    unfold mj_X6_qTold_162
    refine pw_let (pw_some ⟨rfl, ?_, f1, s', f2, f3, f4⟩)
    show iI (k : Int) + (1 : Int32) = _
    rw [show (1 : Int32) = iI 1 from rfl, iI_add]
    rfl
  rcases hT with ⟨a, r, b, d⟩ | ⟨a, r, b, d⟩ | ⟨a, r, b, d⟩ | ⟨a, r, b, d⟩ | ⟨a, d⟩ | ⟨a, d⟩ | ⟨a, r, b, d⟩
  · subst b
    obtain ⟨v1, vs, e1, w1, v2, vs2, e2, w2, hs2⟩ := hs
    subst e1; subst e2
    simp only [List.length_cons] at hl
    have eq : qS (envM m t) (lkM m t) c (v1 :: v2 :: vs2) = qop c v2 v1 :: vs2 := by
      unfold qS
      rw [if_neg (by omega), if_neg (by omega), if_neg (by omega), if_neg (by omega), if_neg (by omega)]
    rw [eq] at fin ⊢
    have hv : vOK false (qop c v2 v1) := by
      unfold vOK
      rw [if_neg (by decide)]
      exact qop_b w2.b w1.b (by omega)
    refine pw_t (by rw [iI_lit, iI_lt (by omega) (by omega)]; omega) ?_
    refine pw_t (by rw [iI_lit, iI_lt (by omega) (by omega)]; omega) ?_
    refine pw_t (by rw [iI_lit, iI_lt (by omega) (by omega)]; omega) ?_
    refine pw_f (by rw [iI_lit, iI_eq (by omega) (by omega)]; omega) ?_
    refine pw_f (by rw [iI_lit, iI_eq (by omega) (by omega)]; omega) ?_
    refine pw_bind (pw_mono (p_qJoins hp (by omega) w2.b w1.b (by omega)) ?_)
    rintro ⟨u, m2⟩ ⟨q1, q2⟩
    exact fin m2 (false :: r) q1 q2 ⟨_, _, rfl, hv, hs2⟩ d
  · subst b
    obtain ⟨v1, vs, e1, w1, v2, vs2, e2, w2, hs2⟩ := hs
    subst e1; subst e2
    simp only [List.length_cons] at hl
    have eq : qS (envM m t) (lkM m t) c (v1 :: v2 :: vs2) = qop c v2 v1 :: vs2 := by
      unfold qS
      rw [if_neg (by omega), if_neg (by omega), if_neg (by omega), if_neg (by omega), if_neg (by omega)]
    rw [eq] at fin ⊢
    have hv : vOK true (qop c v2 v1) := by
      unfold vOK
      rw [if_pos rfl]
      unfold qop
      rw [if_neg (by omega), if_neg (by omega), if_neg (by omega), if_neg (by omega), if_neg (by omega), if_neg (by omega)]
      repeat' split
      all_goals omega
    refine pw_t (by rw [iI_lit, iI_lt (by omega) (by omega)]; omega) ?_
    refine pw_t (by rw [iI_lit, iI_lt (by omega) (by omega)]; omega) ?_
    refine pw_t (by rw [iI_lit, iI_lt (by omega) (by omega)]; omega) ?_
    refine pw_f (by rw [iI_lit, iI_eq (by omega) (by omega)]; omega) ?_
    refine pw_f (by rw [iI_lit, iI_eq (by omega) (by omega)]; omega) ?_
    refine pw_bind (pw_mono (p_qJoins hp (by omega) w2.b w1.b (by omega)) ?_)
    rintro ⟨u, m2⟩ ⟨q1, q2⟩
    exact fin m2 (true :: r) q1 q2 ⟨_, _, rfl, hv, hs2⟩ d
  · subst b
    obtain ⟨v1, vs, e1, w1, v2, vs2, e2, w2, hs2⟩ := hs
    subst e1; subst e2
    simp only [List.length_cons] at hl
    have eq : qS (envM m t) (lkM m t) c (v1 :: v2 :: vs2) = qop c v2 v1 :: vs2 := by
      unfold qS
      rw [if_neg (by omega), if_neg (by omega), if_neg (by omega), if_neg (by omega), if_neg (by omega)]
    rw [eq] at fin ⊢
    have hv : vOK true (qop c v2 v1) := by
      unfold vOK at w1 w2 ⊢
      rw [if_pos rfl] at w1 w2 ⊢
      unfold qop
      rw [if_neg (by omega), if_neg (by omega), if_neg (by omega), if_neg (by omega), if_neg (by omega), if_neg (by omega), if_neg (by omega), if_neg (by omega), if_neg (by omega)]
      rcases w1 with x | x <;> rcases w2 with y | y <;> subst x <;> subst y <;> repeat' split
      all_goals omega
    refine pw_t (by rw [iI_lit, iI_lt (by omega) (by omega)]; omega) ?_
    refine pw_t (by rw [iI_lit, iI_lt (by omega) (by omega)]; omega) ?_
    refine pw_t (by rw [iI_lit, iI_lt (by omega) (by omega)]; omega) ?_
    refine pw_f (by rw [iI_lit, iI_eq (by omega) (by omega)]; omega) ?_
    refine pw_f (by rw [iI_lit, iI_eq (by omega) (by omega)]; omega) ?_
    refine pw_bind (pw_mono (p_qJoins hp (by omega) w2.b w1.b (by omega)) ?_)
    rintro ⟨u, m2⟩ ⟨q1, q2⟩
    exact fin m2 (true :: r) q1 q2 ⟨_, _, rfl, hv, hs2⟩ d
  · subst b
    obtain ⟨v1, vs, e1, w1, hs2⟩ := hs
    subst e1; subst a
    simp only [List.length_cons] at hl
    have eq : qS (envM m t) (lkM m t) 12 (v1 :: vs) = (1 - v1) :: vs := by
      unfold qS
      rw [if_neg (by omega), if_neg (by omega), if_neg (by omega), if_neg (by omega), if_pos rfl]
    rw [eq] at fin ⊢
    have n1 : mi m 2000 99 = (vs.length : Int) + 1 := by rw [hp.1]; simp
    have e0 : m.1 2000 99 - (1 : Int32) = iI (vs.length : Int) := by rw [mi_of, n1, iI_lit, iI_sub]; congr 1; omega
    have e1 : gz_ix (iI (vs.length : Int)) = vs.length := by rw [gix (by omega)]; omega
    have e2 : ml m 1099 vs.length = v1 := by have := hp.2 0 (by simp); simpa using this
    refine pw_t (by rw [iI_lit, iI_lt (by omega) (by omega)]; omega) ?_
    refine pw_t (by rw [iI_lit, iI_lt (by omega) (by omega)]; omega) ?_
    refine pw_t (by rw [iI_lit, iI_lt (by omega) (by omega)]; omega) ?_
    refine pw_f (by rw [iI_lit, iI_eq (by omega) (by omega)]; omega) ?_
    refine pw_t (by rw [iI_lit]) ?_
    have wb := w1.b
    rw [e0, e1, ml_of m 1099 vs.length, e2, lL_lit, lL_sub]
    refine pw_gu (by rw [gin_iI (by omega)]; omega) ?_
    refine pw_gu (by rw [gin_iI (by omega)]; omega) (pw_let ?_)
    refine fin _ (true :: r) ⟨fun c j _ => rfl, fun c j hc => by rw [msL_l, if_neg (fun q => hc q.1)]⟩ ⟨?_, fun j hj => ?_⟩ ⟨_, _, rfl, ?_, hs2⟩ d
    · rw [mi_sL]
      rw [n1]; simp
    · rw [ml_sL _ _ _ _ _ (by omega)]
      cases j with
      | zero => rw [if_pos ⟨rfl, by simp⟩]; simp
      | succ j =>
        simp only [List.length_cons] at hj ⊢
        have h9 := hp.2 (j + 1) (by simp only [List.length_cons]; omega)
        simp only [List.length_cons] at h9
        rw [if_neg (by omega), h9]
        simp
    · unfold vOK at w1 ⊢
      rw [if_pos rfl] at w1 ⊢
      omega
  · subst a
    have eq : qS (envM m t) (lkM m t) 13 st = 1 :: st := by
      unfold qS
      rw [if_neg (by omega), if_neg (by omega), if_neg (by omega), if_pos rfl]
    rw [eq] at fin ⊢
    refine pw_t (by rw [iI_lit, iI_lt (by omega) (by omega)]; omega) ?_
    refine pw_t (by rw [iI_lit, iI_lt (by omega) (by omega)]; omega) ?_
    refine pw_t (by rw [iI_lit, iI_lt (by omega) (by omega)]; omega) ?_
    refine pw_t (by rw [iI_lit]) ?_
    rw [lL_lit]
    refine pw_bind (pw_mono (p_qPuts hp (by omega) (by omega)) ?_)
    rintro ⟨u, m2⟩ ⟨q1, q2⟩
    exact fin m2 (true :: s) q1 q2 ⟨_, _, rfl, Or.inr rfl, hs⟩ d
  · rcases a with a | a
    · have eb := envM_b h hN ht (c - 40)
      have eq : qS (envM m t) (lkM m t) c st = envM m t (c - 40) :: st := by
        unfold qS
        rw [if_neg (by omega), if_neg (by omega), if_pos (by omega), clp_id (by omega)]
      rw [eq] at fin ⊢
      refine pw_t (by rw [iI_lit, iI_lt (by omega) (by omega)]; omega) ?_
      refine pw_t (by rw [iI_lit, iI_lt (by omega) (by omega)]; omega) ?_
      refine pw_f (by rw [iI_lit, iI_lt (by omega) (by omega)]; omega) ?_
      have i5 : iI c - (40 : Int32) = iI (c - 40) := by rw [iI_lit, iI_sub]
      rw [i5, p_qPartOf h hN ht ha (by omega)]
      refine pw_bind (pw_some ?_)
      dsimp only
      rw [p_qClip m (by omega), clp_id (by omega)]
      refine pw_bind (pw_some ?_)
      dsimp only
      refine pw_bind (pw_mono (p_qPuts hp (by omega) (by omega)) ?_)
      rintro ⟨u, m2⟩ ⟨q1, q2⟩
      refine fin m2 (false :: s) q1 q2 ⟨_, _, rfl, ?_, hs⟩ d
      unfold vOK
      rw [if_neg (by decide)]
      omega
    · have eq : qS (envM m t) (lkM m t) c st = (c - 1000) :: st := by
        unfold qS
        rw [if_pos (by omega)]
      rw [eq] at fin ⊢
      refine pw_f (by rw [iI_lit, iI_lt (by omega) (by omega)]; omega) ?_
      have i5 : (iI c - (1000 : Int32)).toInt64 = lL (c - 1000) := by rw [iI_lit, iI_sub, i2l_iI (by omega)]
      rw [i5]
      refine pw_bind (pw_mono (p_qPuts hp (by omega) (by omega)) ?_)
      rintro ⟨u, m2⟩ ⟨q1, q2⟩
      refine fin m2 (false :: s) q1 q2 ⟨_, _, rfl, ?_, hs⟩ d
      unfold vOK
      rw [if_neg (by decide)]
      omega
  · subst b
    obtain ⟨v1, vs, e1, w1, hs2⟩ := hs
    subst e1
    simp only [List.length_cons] at hl
    have wb := w1.b
    have lb := lkM_b h hw hh (c - 60) v1
    have eq : qS (envM m t) (lkM m t) c (v1 :: vs) = clp (lkM m t (c - 60) v1) :: vs := by
      unfold qS
      rw [if_neg (by omega), if_pos (by omega)]
    rw [eq] at fin ⊢
    have n1 : mi m 2000 99 = (vs.length : Int) + 1 := by rw [hp.1]; simp
    have e0 : m.1 2000 99 - (1 : Int32) = iI (vs.length : Int) := by rw [mi_of, n1, iI_lit, iI_sub]; congr 1; omega
    have e1 : gz_ix (iI (vs.length : Int)) = vs.length := by rw [gix (by omega)]; omega
    have e2 : ml m 1099 vs.length = v1 := by have := hp.2 0 (by simp); simpa using this
    have i5 : iI c - (60 : Int32) = iI (c - 60) := by rw [iI_lit, iI_sub]
    refine pw_t (by rw [iI_lit, iI_lt (by omega) (by omega)]; omega) ?_
    refine pw_f (by rw [iI_lit, iI_lt (by omega) (by omega)]; omega) ?_
    rw [e0, e1, ml_of m 1099 vs.length, e2, i5, p_qOf h (by omega) hh (by omega) wb]
    refine pw_gu (by rw [gin_iI (by omega)]; omega) (pw_bind (pw_some ?_))
    dsimp only
    rw [p_qClip m (by omega)]
    refine pw_bind (pw_some ?_)
    dsimp only
    refine pw_gu (by rw [gin_iI (by omega)]; omega) (pw_let ?_)
    have cb := clp_b (lkM m t (c - 60) v1)
    refine fin _ (false :: r) ⟨fun c j _ => rfl, fun c j hc => by rw [msL_l, if_neg (fun q => hc q.1)]⟩ ⟨?_, fun j hj => ?_⟩ ⟨_, _, rfl, ?_, hs2⟩ d
    · rw [mi_sL]
      rw [n1]; simp
    · rw [ml_sL _ _ _ _ _ (by omega)]
      cases j with
      | zero => rw [if_pos ⟨rfl, by simp⟩]; simp
      | succ j =>
        simp only [List.length_cons] at hj ⊢
        have h9 := hp.2 (j + 1) (by simp only [List.length_cons]; omega)
        simp only [List.length_cons] at h9
        rw [if_neg (by omega), h9]
        simp
    · unfold vOK
      rw [if_neg (by decide)]
      exact cb
/-- all codes of a question at one thing -/
theorem qE.lk {a b : MM} (h : qE a b) (t : Nat) : lkM b t = lkM a t := by
  funext k x
  unfold lkM
  rw [h.at (by omega), h.at (by omega), h.at (by omega), h.at (by omega), h.1 _ _ (by omega)]
theorem qE.env {a b : MM} (h : qE a b) (t : Nat) : envM b t = envM a t := funext fun w => (tE.of h).env t w
theorem p_qTold {m : MM} (h : rMany m) (hN : okN m) (hw : wyR m) {cs : List Int} (hl : cs.length ≤ 1500) (h93 : m.1 2000 93 = iI cs.length) (hc : ∀ i : Nat, i < cs.length → m.1 1093 i = iI (cs.getD i 0)) {ty : Bool} (hT : qT cs [] [ty]) {t : Nat} (ht : (t : Int) < mi m 1038 7) (ha : mi m 2000 55 = t) : pw (mf_qTold (iI t) m) (fun q => ∃ v : Int, qR (envM m t) (lkM m t) cs [] = [v] ∧ vOK ty v ∧ q.1 = lL v ∧ qE m q.2) := by
  have hb := h.2.1
  unfold mf_qTold
  refine pw_let ?_
  have hE0 : qE m (msI m 2000 99 0) := qE_99 m 0
  have h99 : pile (msI m 2000 99 0) [] := ⟨by rw [iI_lit, mi_sI _ _ _ _ _ (by omega), if_pos ⟨rfl, rfl⟩]; rfl, fun j hj => absurd hj (Nat.not_lt_zero _)⟩
  unfold ml_X6_qTold_7
  refine pw_for (fun i q => q.1 = iI t ∧ q.2.1 = iI (i : Int) ∧ qE m q.2.2 ∧ ∃ s, pile q.2.2 (qR (envM m t) (lkM m t) (cs.take i) []) ∧ stOK s (qR (envM m t) (lkM m t) (cs.take i) []) ∧ (qR (envM m t) (lkM m t) (cs.take i) []).length ≤ i ∧ qT (cs.drop i) s [ty]) cs.length ?_ ?_ ⟨rfl, rfl, hE0, [], h99, rfl, Nat.le_refl _, hT⟩
  · rintro i ⟨x1, x2, m2⟩ hi ⟨e1, e2, hE, s, hp, hs, hln, hq⟩
    dsimp only at e1 e2 hE hp ⊢
    subst e1; subst e2
    have hcons : cs.drop i = cs.getD i 0 :: cs.drop (i + 1) := by
      rw [List.getD_eq_getElem?_getD, List.getElem?_eq_getElem hi, Option.getD_some]
      exact List.drop_eq_getElem_cons hi
    have htake : cs.take (i + 1) = cs.take i ++ [cs.getD i 0] := by
      rw [List.getD_eq_getElem?_getD, List.getElem?_eq_getElem hi, Option.getD_some]
      exact (List.take_append_getElem hi).symm
    rw [hcons] at hq
    have hw2 : wyR m2 := fun a b ha hb => by rw [hE.at (by omega)]; exact hw a b ha hb
    have h1 := p_told1 ((tE.of hE).many h) ((tE.of hE).okN hN) hw2 (t := t) (by rw [hE.at (by omega)]; exact ht) (by rw [hE.at (by omega)]; exact ha) hp (by omega) (k := i) hi (by omega) ((hE.1 _ _ (by omega)).trans h93) (c := cs.getD i 0) ((hE.1 _ _ (by omega)).trans (hc i hi)) hq hs
    refine pw_mono h1 ?_
    rintro (q | q) hq2
    · obtain ⟨f1, f2, f4, s', f5, f6, f7⟩ := hq2
      have fenv : qS (envM m2 t) (lkM m2 t) (cs.getD i 0) (qR (envM m t) (lkM m t) (cs.take i) []) = qR (envM m t) (lkM m t) (cs.take (i + 1)) [] := by
        rw [htake, qR_app, hE.env, hE.lk]
        rfl
      rw [fenv] at f5 f6
      refine ⟨f1, f2, hE.trans f4, s', f5, f6, ?_, f7⟩
      have l1 := qS_len (envM m2 t) (lkM m2 t) (cs.getD i 0) (qR (envM m t) (lkM m t) (cs.take i) [])
      rw [fenv] at l1
      omega
    · exact hq2.elim
  · rintro ⟨x1, x2, m2⟩ ⟨e1, e2, hE, s, hp, hs, hln, hq⟩
    dsimp only at e1 e2 hE hp ⊢
    subst e1; subst e2
    rw [List.take_length] at hp hs
    rw [List.drop_length] at hq
    have hq : s = [ty] := hq
    subst hq
    obtain ⟨v, vs, ev, hv, hvs⟩ := hs
    have hvs : vs = [] := hvs
    subst hvs
    rw [ev] at hp
    have e0 : ml m2 1099 0 = v := by have := hp.2 0 (by simp); simpa using this
    have g0 : gz_ix (0 : Int32) = 0 := by decide
    unfold mb_X6_qTold_7
    rw [hE.1 2000 93 (by omega), h93, g0]
    refine pw_t (by rw [iI_le (by omega) (by omega)]; omega) (pw_gu (by decide) (pw_some ⟨v, ev, hv, ?_, hE⟩))
    show m2.2 1099 0 = lL v
    rw [ml_of, e0]
