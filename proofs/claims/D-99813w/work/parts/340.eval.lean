/-! ===== sums and tests as rows of codes ===== -/
def clp (z : Int) : Int := if 1000000 < z then 1000000 else if z < -1000000 then -1000000 else z
def fdv (a b : Int) : Int := if b = 0 then 0 else if a - a.tdiv b * b = 0 then a.tdiv b else if (a < 0 ↔ b < 0) then a.tdiv b else a.tdiv b - 1
def qop (c a b : Int) : Int := if c = 1 then clp (a + b) else if c = 2 then clp (a - b) else if c = 3 then clp (a * b) else if c = 4 then fdv a b else if c = 5 then (if a < b then a else b) else if c = 6 then (if b < a then a else b) else if c = 7 then (if a < b then 1 else 0) else if c = 8 then (if b < a then 1 else 0) else if c = 9 then (if a = b then 1 else 0) else if c = 10 then a * b else (if 0 < a + b then 1 else 0)
/-- one code over a pile (its top first); env: the parts, lk: parts of a number -/
def qS (env : Int → Int) (lk : Int → Int → Int) (c : Int) (st : List Int) : List Int :=
  if 1000 ≤ c then (c - 1000) :: st
  else if 60 ≤ c then (match st with | a :: r => clp (lk (c - 60) a) :: r | [] => [])
  else if 40 ≤ c then clp (env (c - 40)) :: st
  else if c = 13 then 1 :: st
  else if c = 12 then (match st with | a :: r => (1 - a) :: r | [] => [])
  else (match st with | b :: a :: r => qop c a b :: r | _ => [])
def qR (env : Int → Int) (lk : Int → Int → Int) : List Int → List Int → List Int
  | [], st => st
  | c :: cs, st => qR env lk cs (qS env lk c st)
theorem qR_app (env : Int → Int) (lk : Int → Int → Int) : ∀ (a b st : List Int), qR env lk (a ++ b) st = qR env lk b (qR env lk a st)
  | [], _, _ => rfl
  | _ :: a, b, _ => qR_app env lk a b _
/-- codes that never ask more of the pile than there is: from a pile of d they lead to one of e -/
def qW : List Int → Nat → Nat → Prop
  | [], d, e => d = e
  | c :: cs, d, e => (1 ≤ c ∧ c ≤ 11 ∧ 2 ≤ d ∧ qW cs (d - 1) e) ∨ ((c = 12 ∨ (60 ≤ c ∧ c ≤ 61)) ∧ 1 ≤ d ∧ qW cs d e) ∨ ((c = 13 ∨ (40 ≤ c ∧ c ≤ 46) ∨ (1000 ≤ c ∧ c ≤ 10999)) ∧ qW cs (d + 1) e)
theorem qW_app : ∀ {a b : List Int} {d e f : Nat}, qW a d e → qW b e f → qW (a ++ b) d f
  | [], _, _, _, _, h1, h2 => by have h1 : _ = _ := h1; subst h1; exact h2
  | _ :: _, _, _, _, _, h1, h2 => by
    rcases h1 with ⟨a, b, c, d⟩ | ⟨a, b, c⟩ | ⟨a, b⟩
    · exact Or.inl ⟨a, b, c, qW_app d h2⟩
    · exact Or.inr (Or.inl ⟨a, b, qW_app c h2⟩)
    · exact Or.inr (Or.inr ⟨a, qW_app b h2⟩)
theorem qW_len : ∀ {a : List Int} {d e : Nat}, qW a d e → e ≤ d + a.length
  | [], _, _, h => by have h : _ = _ := h; subst h; exact Nat.le_refl _
  | _ :: _, _, _, h => by
    rcases h with ⟨_, _, _, h⟩ | ⟨_, _, h⟩ | ⟨_, h⟩ <;> have := qW_len h <;> simp only [List.length_cons] <;> omega
/-! bounds -/
theorem clp_b (z : Int) : -1000000 ≤ clp z ∧ clp z ≤ 1000000 := by
  unfold clp
  split
  · omega
  · split <;> omega
theorem clp_id {z : Int} (h : -1000000 ≤ z ∧ z ≤ 1000000) : clp z = z := by
  unfold clp
  rw [if_neg (by omega), if_neg (by omega)]
theorem tdiv_b {a b : Int} {k : Nat} (ha : a.natAbs ≤ k) : (a.tdiv b).natAbs ≤ k := by
  rw [Int.natAbs_tdiv]
  exact Nat.le_trans (Nat.div_le_self _ _) ha
theorem fdv_b {a b : Int} (ha : -1000000 ≤ a ∧ a ≤ 1000000) : -1000000 ≤ fdv a b ∧ fdv a b ≤ 1000000 := by
  have h1 := tdiv_b (a := a) (b := b) (k := 1000000) (by omega)
  unfold fdv
  split
  · omega
  · split
    · omega
    · split
      · omega
      · rename_i h0 hr _
        have h2 : 2 ≤ b.natAbs := by
          rcases Nat.lt_or_ge b.natAbs 2 with h | h
          · exfalso
            have : b = 1 ∨ b = -1 := by omega
            rcases this with e | e
            · subst e; simp at hr
            · subst e; simp at hr
          · exact h
        have h3 : (a.tdiv b).natAbs ≤ 500000 := by
          rw [Int.natAbs_tdiv]
          refine Nat.le_trans (Nat.div_le_div_left h2 (by decide)) ?_
          omega
        omega
theorem qop_b {c a b : Int} (ha : -1000000 ≤ a ∧ a ≤ 1000000) (hb : -1000000 ≤ b ∧ b ≤ 1000000) (h10 : c = 10 → (a = 0 ∨ a = 1) ∧ (b = 0 ∨ b = 1)) : -1000000 ≤ qop c a b ∧ qop c a b ≤ 1000000 := by
  unfold qop
  split
  · exact clp_b _
  split
  · exact clp_b _
  split
  · exact clp_b _
  split
  · exact fdv_b ha
  split
  · split <;> omega
  split
  · split <;> omega
  split
  · split <;> omega
  split
  · split <;> omega
  split
  · split <;> omega
  split
  · rename_i h
    obtain ⟨h1 | h1, h2 | h2⟩ := h10 h <;> subst h1 <;> subst h2 <;> decide
  · split <;> omega
/-! the model's pile -/
def qE (m m' : MM) : Prop := (∀ c j : Nat, ¬ (c = 2000 ∧ j = 99) → m'.1 c j = m.1 c j) ∧ ∀ c j : Nat, c ≠ 1099 → m'.2 c j = m.2 c j
theorem qE.refl (m : MM) : qE m m := ⟨fun _ _ _ => rfl, fun _ _ _ => rfl⟩
theorem qE.trans {a b c : MM} (h1 : qE a b) (h2 : qE b c) : qE a c := ⟨fun x y h => (h2.1 x y h).trans (h1.1 x y h), fun x y h => (h2.2 x y h).trans (h1.2 x y h)⟩
theorem qE.at {a b : MM} (h : qE a b) {c j : Nat} (hc : ¬ (c = 2000 ∧ j = 99)) : mi b c j = mi a c j := congrArg Int32.toInt (h.1 c j hc)
theorem gix {z : Int} (h : -2147483648 ≤ z ∧ z < 2147483648) : gz_ix (iI z) = z.toNat := ix_iI h
def pile (m : MM) (st : List Int) : Prop := mi m 2000 99 = st.length ∧ ∀ j : Nat, j < st.length → ml m 1099 (st.length - 1 - j) = st.getD j 0
theorem p_qPuts {m : MM} {st : List Int} (h : pile m st) (hl : st.length < 1700) {v : Int} (hv : -9223372036854775808 ≤ v ∧ v < 9223372036854775808) : pw (mf_qPuts (lL v) m) (fun q => qE m q.2 ∧ pile q.2 (v :: st)) := by
  obtain ⟨h1, h2⟩ := h
  unfold mf_qPuts
  have e0 : m.1 2000 99 = iI st.length := by rw [mi_of, h1]
  rw [e0]
  refine pw_gu (by rw [gin_iI (by omega)]; omega) ?_
  refine pw_let (pw_let (pw_some ⟨⟨fun c j hc => ?_, fun c j hc => ?_⟩, ?_, fun j hj => ?_⟩))
  · rw [msI_i, if_neg hc]; rfl
  · show (msL m 1099 _ (lL v)).2 c j = _
    rw [msL_l, if_neg (fun q => hc q.1)]
  · show mi (msI (msL m 1099 _ (lL v)) 2000 99 ((msL m 1099 _ (lL v)).1 2000 99 + 1)) 2000 99 = _
    rw [msL_i, e0, iI_lit, iI_add, mi_sI _ _ _ _ _ (by omega), if_pos ⟨rfl, rfl⟩]
    simp
  · show ml (msL m 1099 _ (lL v)) 1099 _ = _
    rw [ml_sL _ _ _ _ _ hv, gix (z := (st.length : Int)) (by omega), Int.toNat_natCast]
    cases j with
    | zero => rw [if_pos ⟨rfl, by simp⟩]; simp
    | succ j =>
      simp only [List.length_cons] at hj ⊢
      rw [if_neg (by omega), show st.length + 1 - 1 - (j + 1) = st.length - 1 - j by omega, h2 j (by omega)]
      simp
theorem pile_2 {m : MM} {st : List Int} {a b : Int} (h : pile m (b :: a :: st)) (hl : st.length < 1700) : pile (msI m 2000 99 (iI st.length)) st := by
  obtain ⟨h1, h2⟩ := h
  refine ⟨by rw [mi_sI _ _ _ _ _ (by omega), if_pos ⟨rfl, rfl⟩], fun j hj => ?_⟩
  rw [ml_sI]
  have := h2 (j + 2) (by simp only [List.length_cons]; omega)
  simp only [List.length_cons] at this
  rw [show st.length + 1 + 1 - 1 - (j + 2) = st.length - 1 - j by omega] at this
  rw [this]
  simp
theorem qE_99 (m : MM) (x : Int32) : qE m (msI m 2000 99 x) := ⟨fun c j hc => by rw [msI_i, if_neg hc], fun _ _ _ => rfl⟩
theorem p_qClip {z : Int} (m : MM) (h : -9223372036854775808 ≤ z ∧ z < 9223372036854775808) : mf_qClip (lL z) m = some (lL (clp z), m) := by
  unfold mf_qClip clp
  by_cases h1 : 1000000 < z
  · simp (disch := omega) only [gz_let, Option.bind_some, Option.map_some, mi_of, ml_of, ci_of, cl_of, iI_lit, lL_lit, iI_neg, lL_neg, iI_add, iI_sub, iI_mul, lL_add, lL_sub, lL_mul, i2l_iI, l2i_lL, gin_iI, ix_iI, iI_le, iI_lt, iI_eq, lL_le, lL_lt, lL_eq, if_pos, if_neg, if_true, if_false]
  · by_cases h2 : z < -1000000
    · simp (disch := omega) only [gz_let, Option.bind_some, Option.map_some, mi_of, ml_of, ci_of, cl_of, iI_lit, lL_lit, iI_neg, lL_neg, iI_add, iI_sub, iI_mul, lL_add, lL_sub, lL_mul, i2l_iI, l2i_lL, gin_iI, ix_iI, iI_le, iI_lt, iI_eq, lL_le, lL_lt, lL_eq, if_pos, if_neg, if_true, if_false]
    · simp (disch := omega) only [gz_let, Option.bind_some, Option.map_some, mi_of, ml_of, ci_of, cl_of, iI_lit, lL_lit, iI_neg, lL_neg, iI_add, iI_sub, iI_mul, lL_add, lL_sub, lL_mul, i2l_iI, l2i_lL, gin_iI, ix_iI, iI_le, iI_lt, iI_eq, lL_le, lL_lt, lL_eq, if_pos, if_neg, if_true, if_false]
theorem lL_div {a b : Int} (ha : -1000000 ≤ a ∧ a ≤ 1000000) (hb : -1000000 ≤ b ∧ b ≤ 1000000) : lL a / lL b = lL (a.tdiv b) := by
  unfold lL
  refine (Int64.ofInt_tdiv ?_ ?_ ?_ ?_).symm
  · show (-9223372036854775808 : Int) ≤ a; omega
  · show a ≤ (9223372036854775807 : Int); omega
  · show (-9223372036854775808 : Int) ≤ b; omega
  · show b ≤ (9223372036854775807 : Int); omega
theorem p_qFloor {a b : Int} (m : MM) (ha : -1000000 ≤ a ∧ a ≤ 1000000) (hb : -1000000 ≤ b ∧ b ≤ 1000000) : mf_qFloor (lL a) (lL b) m = some (lL (fdv a b), m) := by
  have h1 := tdiv_b (a := a) (b := b) (k := 1000000) (by omega)
  have hm : (a - a.tdiv b * b).natAbs ≤ 1000000 := by
    have : a - a.tdiv b * b = a.tmod b := by rw [Int.tmod_def, Int.mul_comm]
    rw [this, Int.natAbs_tmod]
    exact Nat.le_trans (Nat.mod_le _ _) (by omega)
  unfold mf_qFloor mj_X6_qFloor_32 mj_X6_qFloor_43 mj_X6_qFloor_53 fdv
  by_cases h0 : b = 0
  · subst h0
    rfl
  · rw [lL_div ha hb, lL_mul, lL_sub]
    simp (disch := omega) only [gz_let, lL_lit, lL_eq, lL_le, lL_sub, if_neg h0, if_pos h0]
    by_cases h2 : a - a.tdiv b * b = 0
    · rw [if_pos h2, if_pos h2]
    · rw [if_neg h2, if_neg h2]
      by_cases h3 : 0 ≤ a
      · by_cases h4 : 0 ≤ b
        · rw [if_pos h3, if_pos h4, if_true, if_pos (by omega)]
        · rw [if_pos h3, if_neg h4, if_neg (by decide), if_neg (by omega)]
      · by_cases h4 : 0 ≤ b
        · rw [if_neg h3, if_pos h4, if_neg (by decide), if_neg (by omega)]
        · rw [if_neg h3, if_neg h4, if_true, if_pos (by omega)]
/-- two are joined -/
noncomputable def qJB (x1 : Int32) (y4 y2 : Int64) (m5 : MM) : Option (Unit × MM) := (if x1 = (1 : Int32) then ((mf_qClip (y4 + y2) m5).bind fun (r7, m8) => ((mf_qPuts r7 m8).bind fun (_, m11) => some ((), m11))) else (if x1 = (2 : Int32) then ((mf_qClip (y4 - y2) m5).bind fun (r14, m15) => ((mf_qPuts r14 m15).bind fun (_, m18) => some ((), m18))) else (if x1 = (3 : Int32) then ((mf_qClip (y4 * y2) m5).bind fun (r21, m22) => ((mf_qPuts r21 m22).bind fun (_, m25) => some ((), m25))) else (if x1 = (4 : Int32) then ((mf_qFloor y4 y2 m5).bind fun (r28, m29) => ((mf_qPuts r28 m29).bind fun (_, m32) => some ((), m32))) else (if x1 = (5 : Int32) then (if y2 ≤ y4 then (mj_X6_qJoins_161 y2 m5) else (mj_X6_qJoins_161 y4 m5)) else (if x1 = (6 : Int32) then (if y4 ≤ y2 then (mj_X6_qJoins_181 y2 m5) else (mj_X6_qJoins_181 y4 m5)) else (if x1 = (7 : Int32) then (if y2 ≤ y4 then (mj_X6_qJoins_200 (0 : Int64) m5) else (mj_X6_qJoins_200 (1 : Int64) m5)) else (if x1 = (8 : Int32) then (if y4 ≤ y2 then (mj_X6_qJoins_219 (0 : Int64) m5) else (mj_X6_qJoins_219 (1 : Int64) m5)) else (if x1 = (9 : Int32) then (if y4 = y2 then (mj_X6_qJoins_238 (1 : Int64) m5) else (mj_X6_qJoins_238 (0 : Int64) m5)) else (if x1 = (10 : Int32) then ((mf_qPuts (y4 * y2) m5).bind fun (_, m46) => some ((), m46)) else (if (y4 + y2) ≤ (0 : Int64) then (mj_X6_qJoins_270 (0 : Int64) m5) else (mj_X6_qJoins_270 (1 : Int64) m5))))))))))))
theorem qJ_fin {m5 : MM} {st : List Int} (hp : pile m5 st) (hl : st.length < 1690) {v : Int} (hv : -9223372036854775808 ≤ v ∧ v < 9223372036854775808) : pw ((mf_qPuts (lL v) m5).bind fun (_, m2) => (some ((), m2) : Option (Unit × MM))) (fun q => qE m5 q.2 ∧ pile q.2 (v :: st)) := by
  refine pw_bind (pw_mono (p_qPuts hp (by omega) hv) ?_)
  rintro ⟨u, m2⟩ ⟨q1, q2⟩
  exact pw_some ⟨q1, q2⟩
theorem qJ_1 {m5 : MM} {st : List Int} {a b : Int} (hp : pile m5 st) (hl : st.length < 1690) (ha : -1000000 ≤ a ∧ a ≤ 1000000) (hb : -1000000 ≤ b ∧ b ≤ 1000000) (hab : -1000000000000 ≤ a * b ∧ a * b ≤ 1000000000000) : pw (qJB (iI 1) (lL a) (lL b) m5) (fun q => qE m5 q.2 ∧ pile q.2 (qop 1 a b :: st)) := by
  unfold qJB
  rw [if_pos (by rw [iI_lit])]
  have e : qop 1 a b = clp (a + b) := by
    unfold qop
    rw [if_pos rfl]
  rw [e, lL_add, p_qClip m5 (by omega)]
  have hb9 := clp_b (a + b)
  generalize clp (a + b) = v at hb9
  exact qJ_fin hp hl (by omega)
theorem qJ_2 {m5 : MM} {st : List Int} {a b : Int} (hp : pile m5 st) (hl : st.length < 1690) (ha : -1000000 ≤ a ∧ a ≤ 1000000) (hb : -1000000 ≤ b ∧ b ≤ 1000000) (hab : -1000000000000 ≤ a * b ∧ a * b ≤ 1000000000000) : pw (qJB (iI 2) (lL a) (lL b) m5) (fun q => qE m5 q.2 ∧ pile q.2 (qop 2 a b :: st)) := by
  unfold qJB
  rw [if_neg (by rw [iI_lit, iI_eq (by omega) (by omega)]; omega)]
  rw [if_pos (by rw [iI_lit])]
  have e : qop 2 a b = clp (a - b) := by
    unfold qop
    rw [if_neg (by omega)]
    rw [if_pos rfl]
  rw [e, lL_sub, p_qClip m5 (by omega)]
  have hb9 := clp_b (a - b)
  generalize clp (a - b) = v at hb9
  exact qJ_fin hp hl (by omega)
theorem qJ_3 {m5 : MM} {st : List Int} {a b : Int} (hp : pile m5 st) (hl : st.length < 1690) (ha : -1000000 ≤ a ∧ a ≤ 1000000) (hb : -1000000 ≤ b ∧ b ≤ 1000000) (hab : -1000000000000 ≤ a * b ∧ a * b ≤ 1000000000000) : pw (qJB (iI 3) (lL a) (lL b) m5) (fun q => qE m5 q.2 ∧ pile q.2 (qop 3 a b :: st)) := by
  unfold qJB
  rw [if_neg (by rw [iI_lit, iI_eq (by omega) (by omega)]; omega)]
  rw [if_neg (by rw [iI_lit, iI_eq (by omega) (by omega)]; omega)]
  rw [if_pos (by rw [iI_lit])]
  have e : qop 3 a b = clp (a * b) := by
    unfold qop
    rw [if_neg (by omega)]
    rw [if_neg (by omega)]
    rw [if_pos rfl]
  rw [e, lL_mul, p_qClip m5 (by omega)]
  have hb9 := clp_b (a * b)
  generalize clp (a * b) = v at hb9
  exact qJ_fin hp hl (by omega)
theorem qJ_4 {m5 : MM} {st : List Int} {a b : Int} (hp : pile m5 st) (hl : st.length < 1690) (ha : -1000000 ≤ a ∧ a ≤ 1000000) (hb : -1000000 ≤ b ∧ b ≤ 1000000) (hab : -1000000000000 ≤ a * b ∧ a * b ≤ 1000000000000) : pw (qJB (iI 4) (lL a) (lL b) m5) (fun q => qE m5 q.2 ∧ pile q.2 (qop 4 a b :: st)) := by
  unfold qJB
  rw [if_neg (by rw [iI_lit, iI_eq (by omega) (by omega)]; omega)]
  rw [if_neg (by rw [iI_lit, iI_eq (by omega) (by omega)]; omega)]
  rw [if_neg (by rw [iI_lit, iI_eq (by omega) (by omega)]; omega)]
  rw [if_pos (by rw [iI_lit])]
  simp (disch := omega) only [p_qFloor, Option.bind_some, if_pos, if_neg, qop]
  exact qJ_fin hp hl (by have := fdv_b (b := b) ha; omega)
theorem qJ_5 {m5 : MM} {st : List Int} {a b : Int} (hp : pile m5 st) (hl : st.length < 1690) (ha : -1000000 ≤ a ∧ a ≤ 1000000) (hb : -1000000 ≤ b ∧ b ≤ 1000000) (hab : -1000000000000 ≤ a * b ∧ a * b ≤ 1000000000000) : pw (qJB (iI 5) (lL a) (lL b) m5) (fun q => qE m5 q.2 ∧ pile q.2 (qop 5 a b :: st)) := by
  unfold qJB
  rw [if_neg (by rw [iI_lit, iI_eq (by omega) (by omega)]; omega)]
  rw [if_neg (by rw [iI_lit, iI_eq (by omega) (by omega)]; omega)]
  rw [if_neg (by rw [iI_lit, iI_eq (by omega) (by omega)]; omega)]
  rw [if_neg (by rw [iI_lit, iI_eq (by omega) (by omega)]; omega)]
  rw [if_pos (by rw [iI_lit])]
  by_cases q : a < b <;> simp (disch := omega) only [mj_X6_qJoins_161, lL_le, if_pos, if_neg, qop] <;> exact qJ_fin hp hl (by omega)
theorem qJ_6 {m5 : MM} {st : List Int} {a b : Int} (hp : pile m5 st) (hl : st.length < 1690) (ha : -1000000 ≤ a ∧ a ≤ 1000000) (hb : -1000000 ≤ b ∧ b ≤ 1000000) (hab : -1000000000000 ≤ a * b ∧ a * b ≤ 1000000000000) : pw (qJB (iI 6) (lL a) (lL b) m5) (fun q => qE m5 q.2 ∧ pile q.2 (qop 6 a b :: st)) := by
  unfold qJB
  rw [if_neg (by rw [iI_lit, iI_eq (by omega) (by omega)]; omega)]
  rw [if_neg (by rw [iI_lit, iI_eq (by omega) (by omega)]; omega)]
  rw [if_neg (by rw [iI_lit, iI_eq (by omega) (by omega)]; omega)]
  rw [if_neg (by rw [iI_lit, iI_eq (by omega) (by omega)]; omega)]
  rw [if_neg (by rw [iI_lit, iI_eq (by omega) (by omega)]; omega)]
  rw [if_pos (by rw [iI_lit])]
  by_cases q : b < a <;> simp (disch := omega) only [mj_X6_qJoins_181, lL_le, if_pos, if_neg, qop] <;> exact qJ_fin hp hl (by omega)
theorem qJ_7 {m5 : MM} {st : List Int} {a b : Int} (hp : pile m5 st) (hl : st.length < 1690) (ha : -1000000 ≤ a ∧ a ≤ 1000000) (hb : -1000000 ≤ b ∧ b ≤ 1000000) (hab : -1000000000000 ≤ a * b ∧ a * b ≤ 1000000000000) : pw (qJB (iI 7) (lL a) (lL b) m5) (fun q => qE m5 q.2 ∧ pile q.2 (qop 7 a b :: st)) := by
  unfold qJB
  rw [if_neg (by rw [iI_lit, iI_eq (by omega) (by omega)]; omega)]
  rw [if_neg (by rw [iI_lit, iI_eq (by omega) (by omega)]; omega)]
  rw [if_neg (by rw [iI_lit, iI_eq (by omega) (by omega)]; omega)]
  rw [if_neg (by rw [iI_lit, iI_eq (by omega) (by omega)]; omega)]
  rw [if_neg (by rw [iI_lit, iI_eq (by omega) (by omega)]; omega)]
  rw [if_neg (by rw [iI_lit, iI_eq (by omega) (by omega)]; omega)]
  rw [if_pos (by rw [iI_lit])]
  by_cases q : a < b <;> simp (disch := omega) only [mj_X6_qJoins_200, lL_le, lL_lit, if_pos, if_neg, qop] <;> exact qJ_fin hp hl (by omega)
theorem qJ_8 {m5 : MM} {st : List Int} {a b : Int} (hp : pile m5 st) (hl : st.length < 1690) (ha : -1000000 ≤ a ∧ a ≤ 1000000) (hb : -1000000 ≤ b ∧ b ≤ 1000000) (hab : -1000000000000 ≤ a * b ∧ a * b ≤ 1000000000000) : pw (qJB (iI 8) (lL a) (lL b) m5) (fun q => qE m5 q.2 ∧ pile q.2 (qop 8 a b :: st)) := by
  unfold qJB
  rw [if_neg (by rw [iI_lit, iI_eq (by omega) (by omega)]; omega)]
  rw [if_neg (by rw [iI_lit, iI_eq (by omega) (by omega)]; omega)]
  rw [if_neg (by rw [iI_lit, iI_eq (by omega) (by omega)]; omega)]
  rw [if_neg (by rw [iI_lit, iI_eq (by omega) (by omega)]; omega)]
  rw [if_neg (by rw [iI_lit, iI_eq (by omega) (by omega)]; omega)]
  rw [if_neg (by rw [iI_lit, iI_eq (by omega) (by omega)]; omega)]
  rw [if_neg (by rw [iI_lit, iI_eq (by omega) (by omega)]; omega)]
  rw [if_pos (by rw [iI_lit])]
  by_cases q : b < a <;> simp (disch := omega) only [mj_X6_qJoins_219, lL_le, lL_lit, if_pos, if_neg, qop] <;> exact qJ_fin hp hl (by omega)
theorem qJ_9 {m5 : MM} {st : List Int} {a b : Int} (hp : pile m5 st) (hl : st.length < 1690) (ha : -1000000 ≤ a ∧ a ≤ 1000000) (hb : -1000000 ≤ b ∧ b ≤ 1000000) (hab : -1000000000000 ≤ a * b ∧ a * b ≤ 1000000000000) : pw (qJB (iI 9) (lL a) (lL b) m5) (fun q => qE m5 q.2 ∧ pile q.2 (qop 9 a b :: st)) := by
  unfold qJB
  rw [if_neg (by rw [iI_lit, iI_eq (by omega) (by omega)]; omega)]
  rw [if_neg (by rw [iI_lit, iI_eq (by omega) (by omega)]; omega)]
  rw [if_neg (by rw [iI_lit, iI_eq (by omega) (by omega)]; omega)]
  rw [if_neg (by rw [iI_lit, iI_eq (by omega) (by omega)]; omega)]
  rw [if_neg (by rw [iI_lit, iI_eq (by omega) (by omega)]; omega)]
  rw [if_neg (by rw [iI_lit, iI_eq (by omega) (by omega)]; omega)]
  rw [if_neg (by rw [iI_lit, iI_eq (by omega) (by omega)]; omega)]
  rw [if_neg (by rw [iI_lit, iI_eq (by omega) (by omega)]; omega)]
  rw [if_pos (by rw [iI_lit])]
  by_cases q : a = b <;> simp (disch := omega) only [mj_X6_qJoins_238, lL_eq, lL_lit, if_pos, if_neg, qop] <;> exact qJ_fin hp hl (by omega)
theorem qJ_10 {m5 : MM} {st : List Int} {a b : Int} (hp : pile m5 st) (hl : st.length < 1690) (ha : -1000000 ≤ a ∧ a ≤ 1000000) (hb : -1000000 ≤ b ∧ b ≤ 1000000) (hab : -1000000000000 ≤ a * b ∧ a * b ≤ 1000000000000) : pw (qJB (iI 10) (lL a) (lL b) m5) (fun q => qE m5 q.2 ∧ pile q.2 (qop 10 a b :: st)) := by
  unfold qJB
  rw [if_neg (by rw [iI_lit, iI_eq (by omega) (by omega)]; omega)]
  rw [if_neg (by rw [iI_lit, iI_eq (by omega) (by omega)]; omega)]
  rw [if_neg (by rw [iI_lit, iI_eq (by omega) (by omega)]; omega)]
  rw [if_neg (by rw [iI_lit, iI_eq (by omega) (by omega)]; omega)]
  rw [if_neg (by rw [iI_lit, iI_eq (by omega) (by omega)]; omega)]
  rw [if_neg (by rw [iI_lit, iI_eq (by omega) (by omega)]; omega)]
  rw [if_neg (by rw [iI_lit, iI_eq (by omega) (by omega)]; omega)]
  rw [if_neg (by rw [iI_lit, iI_eq (by omega) (by omega)]; omega)]
  rw [if_neg (by rw [iI_lit, iI_eq (by omega) (by omega)]; omega)]
  rw [if_pos (by rw [iI_lit])]
  simp (disch := omega) only [lL_mul, if_pos, if_neg, qop]
  exact qJ_fin hp hl (by omega)
theorem qJ_11 {m5 : MM} {st : List Int} {a b : Int} (hp : pile m5 st) (hl : st.length < 1690) (ha : -1000000 ≤ a ∧ a ≤ 1000000) (hb : -1000000 ≤ b ∧ b ≤ 1000000) (hab : -1000000000000 ≤ a * b ∧ a * b ≤ 1000000000000) : pw (qJB (iI 11) (lL a) (lL b) m5) (fun q => qE m5 q.2 ∧ pile q.2 (qop 11 a b :: st)) := by
  unfold qJB
  rw [if_neg (by rw [iI_lit, iI_eq (by omega) (by omega)]; omega)]
  rw [if_neg (by rw [iI_lit, iI_eq (by omega) (by omega)]; omega)]
  rw [if_neg (by rw [iI_lit, iI_eq (by omega) (by omega)]; omega)]
  rw [if_neg (by rw [iI_lit, iI_eq (by omega) (by omega)]; omega)]
  rw [if_neg (by rw [iI_lit, iI_eq (by omega) (by omega)]; omega)]
  rw [if_neg (by rw [iI_lit, iI_eq (by omega) (by omega)]; omega)]
  rw [if_neg (by rw [iI_lit, iI_eq (by omega) (by omega)]; omega)]
  rw [if_neg (by rw [iI_lit, iI_eq (by omega) (by omega)]; omega)]
  rw [if_neg (by rw [iI_lit, iI_eq (by omega) (by omega)]; omega)]
  rw [if_neg (by rw [iI_lit, iI_eq (by omega) (by omega)]; omega)]
  by_cases q : 0 < a + b <;> simp (disch := omega) only [mj_X6_qJoins_270, lL_add, lL_le, lL_lit, if_pos, if_neg, qop] <;> exact qJ_fin hp hl (by omega)
theorem p_qJoins {m : MM} {st : List Int} {a b c : Int} (h : pile m (b :: a :: st)) (hl : st.length < 1690) (ha : -1000000 ≤ a ∧ a ≤ 1000000) (hb : -1000000 ≤ b ∧ b ≤ 1000000) (hc : 1 ≤ c ∧ c ≤ 11) : pw (mf_qJoins (iI c) m) (fun q => qE m q.2 ∧ pile q.2 (qop c a b :: st)) := by
  have h1 : mi m 2000 99 = (st.length : Int) + 2 := by rw [h.1]; simp; omega
  have e0 : m.1 2000 99 = iI ((st.length : Int) + 2) := by rw [mi_of, h1]
  have eb : ml m 1099 (st.length + 1) = b := by have := h.2 0 (by simp); simpa using this
  have ea : ml m 1099 st.length = a := by have := h.2 1 (by simp); simpa using this
  have hab : -1000000000000 ≤ a * b ∧ a * b ≤ 1000000000000 := by
    have h3 : (a * b).natAbs ≤ 1000000000000 := by rw [Int.natAbs_mul]; exact Nat.le_trans (Nat.mul_le_mul (show a.natAbs ≤ 1000000 by omega) (show b.natAbs ≤ 1000000 by omega)) (Nat.le_of_ble_eq_true rfl)
    omega
  have i1 : iI ((st.length : Int) + 2) - (1 : Int32) = iI ((st.length : Int) + 1) := by rw [iI_lit, iI_sub]; congr 1; omega
  have i2 : iI ((st.length : Int) + 2) - (2 : Int32) = iI (st.length : Int) := by rw [iI_lit, iI_sub]; congr 1; omega
  have i3 : gz_ix (iI ((st.length : Int) + 1)) = st.length + 1 := by rw [gix (by omega)]; omega
  have i4 : gz_ix (iI (st.length : Int)) = st.length := by rw [gix (by omega)]; omega
  unfold mf_qJoins
  rw [e0, i1, i2, i3, i4, ml_of m 1099 (st.length + 1), ml_of m 1099 st.length, ea, eb]
  refine pw_gu (by rw [gin_iI (by omega)]; omega) (pw_let ?_)
  refine pw_gu (by rw [gin_iI (by omega)]; omega) (pw_let (pw_let ?_))
  have hp := pile_2 h (by omega)
  have hE := qE_99 m (iI st.length)
  have key : pw (qJB (iI c) (lL a) (lL b) (msI m 2000 99 (iI st.length))) (fun q => qE (msI m 2000 99 (iI st.length)) q.2 ∧ pile q.2 (qop c a b :: st)) := by
    have hcc : c = 1 ∨ c = 2 ∨ c = 3 ∨ c = 4 ∨ c = 5 ∨ c = 6 ∨ c = 7 ∨ c = 8 ∨ c = 9 ∨ c = 10 ∨ c = 11 := by omega
    rcases hcc with e | e | e | e | e | e | e | e | e | e | e <;> rw [e]
    · exact qJ_1 hp hl ha hb hab
    · exact qJ_2 hp hl ha hb hab
    · exact qJ_3 hp hl ha hb hab
    · exact qJ_4 hp hl ha hb hab
    · exact qJ_5 hp hl ha hb hab
    · exact qJ_6 hp hl ha hb hab
    · exact qJ_7 hp hl ha hb hab
    · exact qJ_8 hp hl ha hb hab
    · exact qJ_9 hp hl ha hb hab
    · exact qJ_10 hp hl ha hb hab
    · exact qJ_11 hp hl ha hb hab
  exact pw_mono key fun q hq => ⟨hE.trans hq.1, hq.2⟩
