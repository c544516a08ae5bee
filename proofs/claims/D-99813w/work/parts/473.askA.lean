/-! ===== the model: a question is answered ===== -/
def aS0 (k : Nat) : Int := if 2 ≤ k then 0 else -1
def aSt (k : Nat) (v : Int) (i : Nat) (A : Int) : Int := if k = 0 then (if v = 1 ∧ A = -1 then i else A) else if k = 1 then (if v = 1 then i else A) else if k = 2 then (if v = 1 then A + 1 else A) else if k = 3 then A + v else if k = 4 then (if i = 0 ∨ A < v then v else A) else (if i = 0 ∨ v < A then v else A)
def aS (k : Nat) (v : Nat → Int) : Nat → Int
  | 0 => aS0 k
  | i + 1 => aSt k (v i) i (aS k v i)
theorem aS_b {k : Nat} {v : Nat → Int} : ∀ (i : Nat), (∀ j : Nat, j < i → -1000000 ≤ v j ∧ v j ≤ 1000000) → -1000000 * (i : Int) - 1 ≤ aS k v i ∧ aS k v i ≤ 1000000 * (i : Int) + 1
  | 0, _ => by unfold aS aS0; split <;> omega
  | i + 1, h => by
    have h1 := aS_b (k := k) (v := v) i (fun j hj => h j (by omega))
    have h2 := h i (by omega)
    show -1000000 * ((i + 1 : Nat) : Int) - 1 ≤ aSt k (v i) i (aS k v i) ∧ aSt k (v i) i (aS k v i) ≤ 1000000 * ((i + 1 : Nat) : Int) + 1
    unfold aSt
    repeat' split
    all_goals omega
def tkQ (m0 : MM) (A : Int) (q : Unit × MM) : Prop := (∀ c j : Nat, ¬ (c = 2000 ∧ j = 101) → q.2.1 c j = m0.1 c j) ∧ q.2.1 2000 101 = 0 ∧ (∀ c j : Nat, ¬ (c = 2000 ∧ j = 100) → q.2.2 c j = m0.2 c j) ∧ q.2.2 2000 100 = lL A
theorem tk133 {m m0 : MM} {A : Int} (f1 : m.1 = m0.1) (f2 : ∀ c j : Nat, ¬ (c = 2000 ∧ j = 100) → m.2 c j = m0.2 c j) (f3 : m.2 2000 100 = lL A) : pw (mj_X6_qTakes_133 m) (tkQ m0 A) := by
  unfold mj_X6_qTakes_133
  refine pw_let (pw_some ⟨fun c j h => ?_, ?_, f2, f3⟩)
  · show (msI m 2000 101 0).1 c j = _
    rw [msI_i, if_neg h, f1]
  · show (msI m 2000 101 0).1 2000 101 = _
    rw [msI_i, if_pos ⟨rfl, rfl⟩]
theorem msL_at (m : MM) (x : Int64) : (msL m 2000 100 x).1 = m.1 ∧ (∀ c j : Nat, ¬ (c = 2000 ∧ j = 100) → (msL m 2000 100 x).2 c j = m.2 c j) ∧ (msL m 2000 100 x).2 2000 100 = x := ⟨rfl, fun c j h => by rw [msL_l, if_neg h], by rw [msL_l, if_pos ⟨rfl, rfl⟩]⟩
theorem tk90 {m m0 : MM} {A v : Int} {k : Nat} (hk : k ≤ 3) (f1 : m.1 = m0.1) (f2 : ∀ c j : Nat, ¬ (c = 2000 ∧ j = 100) → m.2 c j = m0.2 c j) (f3 : m.2 2000 100 = lL A) : pw (mj_X6_qTakes_90 (iI k) (lL v) m) (tkQ m0 A) := by
  unfold mj_X6_qTakes_90
  exact pw_t (by rw [show (3 : Int32) = iI 3 from rfl, iI_le (by omega) (by omega)]; omega) (tk133 f1 f2 f3)
theorem k_ne {k j : Nat} (hk : k < 6) (hj : j < 6) (h : k ≠ j) : ¬ iI (k : Int) = iI (j : Int) := by
  rw [iI_eq (by omega) (by omega)]; omega
theorem tk75 {m m0 : MM} {A v : Int} {k : Nat} (hk : k ≤ 2) (f1 : m.1 = m0.1) (f2 : ∀ c j : Nat, ¬ (c = 2000 ∧ j = 100) → m.2 c j = m0.2 c j) (f3 : m.2 2000 100 = lL A) : pw (mj_X6_qTakes_75 (iI k) (lL v) m) (tkQ m0 A) := by
  unfold mj_X6_qTakes_75
  exact pw_f (k_ne (j := 3) (by omega) (by omega) (by omega)) (tk90 (by omega) f1 f2 f3)
theorem tk55 {m m0 : MM} {A v : Int} {k : Nat} (hk : k ≤ 1) (x5 : Int32) (f1 : m.1 = m0.1) (f2 : ∀ c j : Nat, ¬ (c = 2000 ∧ j = 100) → m.2 c j = m0.2 c j) (f3 : m.2 2000 100 = lL A) : pw (mj_X6_qTakes_55 (iI k) (lL v) x5 m) (tkQ m0 A) := by
  unfold mj_X6_qTakes_55
  exact pw_f (k_ne (j := 2) (by omega) (by omega) (by omega)) (tk75 (by omega) f1 f2 f3)
theorem tk48 {m : MM} {v : Int} {k i : Nat} (hk : k ≤ 1) (hi : i < 8) (x5 : Int32) : pw (mj_X6_qTakes_48 (iI k) (lL v) (iI i) x5 m) (tkQ m i) := by
  unfold mj_X6_qTakes_48
  obtain ⟨a1, a2, a3⟩ := msL_at m ((iI (i : Int)).toInt64)
  refine pw_let (tk55 hk x5 a1 a2 ?_)
  rw [a3, i2l_iI (by omega)]
theorem p_takesQ {m : MM} {k i : Nat} {v A : Int} (hk : k < 6) (hi : i < 8) (hv : -1000000 ≤ v ∧ v ≤ 1000000) (hA : -9000000 ≤ A ∧ A ≤ 9000000) (e1 : m.2 2000 100 = lL A) (e2 : m.1 2000 101 = if i = 0 then 1 else 0) : pw (mf_qTakes (iI k) (lL v) (iI i) m) (tkQ m (aSt k v i A)) := by
  have v1 : (lL v = (1 : Int64)) = (v = 1) := by rw [show (1 : Int64) = lL 1 from rfl, lL_eq (by omega) (by omega)]
  have a1 : (lL A = (-1 : Int64)) = (A = -1) := by rw [show (-1 : Int64) = lL (-1) by decide, lL_eq (by omega) (by omega)]
  have id1 : ∀ c j : Nat, ¬ (c = 2000 ∧ j = 100) → m.2 c j = m.2 c j := fun _ _ _ => rfl
  unfold mf_qTakes
  obtain e | e | e | e | e | e : k = 0 ∨ k = 1 ∨ k = 2 ∨ k = 3 ∨ k = 4 ∨ k = 5 := by omega
  · subst e
    have no : pw (mj_X6_qTakes_38 (iI (0 : Nat)) (lL v) (iI i) 0 m) (tkQ m A) ∧ pw (mj_X6_qTakes_38 (iI (0 : Nat)) (lL v) (iI i) 1 m) (tkQ m A) := by
      unfold mj_X6_qTakes_38
      exact ⟨pw_f (by decide) (tk55 (by omega) _ rfl id1 e1), pw_f (by decide) (tk55 (by omega) _ rfl id1 e1)⟩
    refine pw_f (by decide) ?_
    unfold mj_X6_qTakes_15 mj_X6_qTakes_16
    show pw _ (tkQ m (if v = 1 ∧ A = -1 then (i : Int) else A))
    refine pw_if (fun q => ?_) (fun q => ?_)
    · rw [v1] at q
      refine pw_t rfl (pw_f n10 ?_)
      rw [e1]
      refine pw_if (fun p => ?_) (fun p => ?_)
      · rw [a1] at p
        rw [if_pos ⟨q, p⟩]
        exact tk48 (by omega) hi _
      · rw [a1] at p
        rw [if_neg (fun h => p h.2)]
        exact no.2
    · rw [v1] at q
      rw [show (if v = 1 ∧ A = -1 then (i : Int) else A) = A from if_neg (fun h => q h.1)]
      exact pw_t rfl (pw_t rfl no.1)
  · subst e
    refine pw_f (by decide) ?_
    unfold mj_X6_qTakes_15 mj_X6_qTakes_16 mj_X6_qTakes_38
    show pw _ (tkQ m (if v = 1 then (i : Int) else A))
    refine pw_if (fun q => ?_) (fun q => ?_)
    · rw [v1] at q
      rw [if_pos q]
      exact pw_f (by decide) (pw_t rfl (pw_f n10 (tk48 (by omega) hi _)))
    · rw [v1] at q
      rw [if_neg q]
      exact pw_f (by decide) (pw_t rfl (pw_t rfl (tk55 (by omega) _ rfl id1 e1)))
  · subst e
    refine pw_f (by decide) ?_
    unfold mj_X6_qTakes_15 mj_X6_qTakes_16 mj_X6_qTakes_38 mj_X6_qTakes_55
    show pw _ (tkQ m (if v = 1 then A + 1 else A))
    refine pw_if (fun q => ?_) (fun q => ?_)
    · rw [v1] at q
      rw [if_pos q]
      obtain ⟨b1, b2, b3⟩ := msL_at m (m.2 2000 100 + 1)
      refine pw_f (by decide) (pw_f (by decide) (pw_t rfl (pw_f n10 (pw_let (tk75 (by omega) b1 b2 ?_)))))
      rw [b3, e1, show (1 : Int64) = lL 1 from rfl, lL_add]
    · rw [v1] at q
      rw [if_neg q]
      exact pw_f (by decide) (pw_f (by decide) (pw_t rfl (pw_t rfl (tk75 (by omega) rfl id1 e1))))
  · subst e
    refine pw_t (by decide) ?_
    unfold mj_X6_qTakes_15 mj_X6_qTakes_16 mj_X6_qTakes_38 mj_X6_qTakes_55 mj_X6_qTakes_75
    show pw _ (tkQ m (A + v))
    obtain ⟨b1, b2, b3⟩ := msL_at m (m.2 2000 100 + lL v)
    refine pw_f (by decide) (pw_f (by decide) (pw_f (by decide) (pw_t rfl (pw_let (tk90 (by omega) b1 b2 ?_)))))
    rw [b3, e1, lL_add]
  · subst e
    obtain ⟨b1, b2, b3⟩ := msL_at m (lL v)
    refine pw_t (by decide) ?_
    unfold mj_X6_qTakes_15 mj_X6_qTakes_16 mj_X6_qTakes_38 mj_X6_qTakes_55 mj_X6_qTakes_75 mj_X6_qTakes_90 mj_X6_qTakes_128
    show pw _ (tkQ m (if i = 0 ∨ A < v then v else A))
    rw [e2, e1]
    refine pw_f (by decide) (pw_f (by decide) (pw_f (by decide) (pw_f (by decide) (pw_f (by decide) ?_))))
    by_cases hz : i = 0
    · rw [if_pos hz, if_pos (Or.inl hz)]
      exact pw_f n10 (pw_let (tk133 b1 b2 b3))
    · rw [if_neg hz]
      refine pw_t rfl (pw_t rfl (pw_if (fun q => ?_) (fun q => ?_)))
      · rw [lL_le (by omega) (by omega)] at q
        rw [if_neg (by omega)]
        exact tk133 rfl id1 e1
      · rw [lL_le (by omega) (by omega)] at q
        rw [if_pos (by omega)]
        exact pw_let (tk133 b1 b2 b3)
  · subst e
    obtain ⟨b1, b2, b3⟩ := msL_at m (lL v)
    refine pw_t (by decide) ?_
    unfold mj_X6_qTakes_15 mj_X6_qTakes_16 mj_X6_qTakes_38 mj_X6_qTakes_55 mj_X6_qTakes_75 mj_X6_qTakes_90 mj_X6_qTakes_128
    show pw _ (tkQ m (if i = 0 ∨ v < A then v else A))
    rw [e2, e1]
    refine pw_f (by decide) (pw_f (by decide) (pw_f (by decide) (pw_f (by decide) (pw_f (by decide) ?_))))
    by_cases hz : i = 0
    · rw [if_pos hz, if_pos (Or.inl hz)]
      exact pw_f n10 (pw_let (tk133 b1 b2 b3))
    · rw [if_neg hz]
      refine pw_t rfl (pw_f (by decide) (pw_if (fun q => ?_) (fun q => ?_)))
      · rw [lL_le (by omega) (by omega)] at q
        rw [if_neg (by omega)]
        exact tk133 rfl id1 e1
      · rw [lL_le (by omega) (by omega)] at q
        rw [if_pos (by omega)]
        exact pw_let (tk133 b1 b2 b3)
/-- what answering may change in the model -/
def akE (m m' : MM) : Prop := (∀ c j : Nat, ¬ (c = 2000 ∧ (j = 55 ∨ j = 99 ∨ j = 101)) → m'.1 c j = m.1 c j) ∧ ∀ c j : Nat, c ≠ 1099 → ¬ (c = 2000 ∧ j = 100) → m'.2 c j = m.2 c j
theorem akE.refl (m : MM) : akE m m := ⟨fun _ _ _ => rfl, fun _ _ _ _ => rfl⟩
theorem akE.at {a b : MM} (h : akE a b) {c j : Nat} (hc : ¬ (c = 2000 ∧ (j = 55 ∨ j = 99 ∨ j = 101))) : mi b c j = mi a c j := congrArg Int32.toInt (h.1 c j hc)
theorem akE.trans {a b c : MM} (h1 : akE a b) (h2 : akE b c) : akE a c := ⟨fun x y h => (h2.1 x y h).trans (h1.1 x y h), fun x y h k => (h2.2 x y h k).trans (h1.2 x y h k)⟩
theorem akE.near {a b : MM} (h : akE a b) (t : Nat) : ∀ k : Nat, nearF b t k = nearF a t k
  | 0 => rfl
  | k + 1 => by
    rw [nearF_s, nearF_s, h.near t k, h.at (by omega), h.at (by omega), h.at (by omega)]
theorem akE.env {a b : MM} (h : akE a b) (t : Nat) : envM b t = envM a t := by
  funext w
  unfold envM things heatS
  rw [h.at (by omega), h.at (by omega), h.at (by omega), h.at (by omega), h.near, h.at (by omega), h.at (by omega), h.at (by omega), h.at (by omega)]
theorem akE.lk {a b : MM} (h : akE a b) (t : Nat) : lkM b t = lkM a t := by
  funext k x
  unfold lkM
  rw [h.at (by omega), h.at (by omega), h.at (by omega), h.at (by omega), h.1 _ _ (by omega)]
theorem akE.many {a b : MM} (h : akE a b) (hm : rMany a) : rMany b := by
  unfold rMany
  rw [h.at (by omega), h.at (by omega), h.at (by omega), h.at (by omega), h.at (by omega)]
  exact hm
theorem akE.okN {a b : MM} (h : akE a b) (hm : okN a) : okN b := by
  obtain ⟨a1, a2, a3, a4⟩ := hm
  refine ⟨by rw [h.at (by omega)]; exact a1, fun t ht => by rw [h.at (by omega), h.at (by omega)]; exact a2 t ht, by rw [h.at (by omega)]; exact a3, fun t ht => ?_⟩
  rw [h.at (by omega)] at ht
  rw [h.at (by omega), h.at (by omega)]
  exact a4 t ht
/-- what the question tells of thing t -/
def qv (m : MM) (cs : List Int) (t : Nat) : Int := (qR (envM m t) (lkM m t) cs []).headD 0
theorem p_answers {m : MM} (h : rMany m) (hN : okN m) (hw : wyR m) {cs : List Int} (hl : cs.length ≤ 1500) (h93 : m.1 2000 93 = iI cs.length) (hc : ∀ i : Nat, i < cs.length → m.1 1093 i = iI (cs.getD i 0)) {ty : Bool} (hT : qT cs [] [ty]) {k : Nat} (hk : k < 6) (e0 : m.2 2000 100 = lL (aS0 k)) (e1 : m.1 2000 101 = 1) : pw (ml_X6_ask_199 (iI k) 0 m) (fun q => q.1 = lL (aS k (qv m cs) (things m)) ∧ akE m q.2) := by
  have hb := h.2.1
  unfold ml_X6_ask_199
  refine pw_for (fun i q => q.1 = iI k ∧ q.2.1 = iI (i : Int) ∧ akE m q.2.2 ∧ q.2.2.2 2000 100 = lL (aS k (qv m cs) i) ∧ q.2.2.1 2000 101 = (if i = 0 then 1 else 0) ∧ ∀ j : Nat, j < i → -1000000 ≤ qv m cs j ∧ qv m cs j ≤ 1000000) (things m) ?_ ?_ ⟨rfl, rfl, akE.refl m, e0, by rw [if_pos rfl]; exact e1, fun j hj => absurd hj (Nat.not_lt_zero _)⟩
  · rintro i ⟨x1, x2, m2⟩ hi ⟨q1, q2, hE, q4, q5, q6⟩
    dsimp only at q1 q2 hE q4 q5 ⊢
    subst q1; subst q2
    unfold things at hi
    unfold mb_X6_ask_199
    rw [p_thingMany, hE.at (by omega)]
    refine pw_bind (pw_some (pw_f (by rw [iI_le (by omega) (by omega)]; omega) (pw_let ?_)))
    have hE5 : akE m (msI m2 2000 55 (iI i)) := hE.trans ⟨fun c j hc => by rw [msI_i, if_neg (by omega)], fun _ _ _ _ => rfl⟩
    have v55 : mi (msI m2 2000 55 (iI i)) 2000 55 = i := by rw [mi_sI _ _ _ _ _ (by omega), if_pos ⟨rfl, rfl⟩]
    have v101 : (msI m2 2000 55 (iI i)).1 2000 101 = (if i = 0 then 1 else 0) := by rw [msI_i, if_neg (by omega)]; exact q5
    have v100 : (msI m2 2000 55 (iI i)).2 2000 100 = lL (aS k (qv m cs) i) := q4
    generalize msI m2 2000 55 (iI i) = m5 at *
    refine pw_bind (pw_mono (p_qTold (hE5.many h) (hE5.okN hN) (fun a b ha hb => by rw [hE5.at (by omega)]; exact hw a b ha hb) hl ((hE5.1 _ _ (by omega)).trans h93) (fun j hj => (hE5.1 _ _ (by omega)).trans (hc j hj)) hT (t := i) (by rw [hE5.at (by omega)]; omega) v55) ?_)
    rintro ⟨r6, m7⟩ ⟨v, ev, hv, er, hE7⟩
    dsimp only at er hE7 ⊢
    subst er
    rw [hE5.env, hE5.lk] at ev
    have eqv : qv m cs i = v := by unfold qv; rw [ev]; rfl
    have hvb := hv.b
    have Ab := aS_b (k := k) i q6
    refine pw_bind (pw_mono (p_takesQ (m := m7) (k := k) (i := i) (v := v) (A := aS k (qv m cs) i) hk (by omega) hvb (by omega) ((hE7.2 _ _ (by omega)).trans v100) ((hE7.1 _ _ (by omega)).trans v101)) ?_)
    rintro ⟨⟨⟩, m10⟩ ⟨t1, t2, t3, t4⟩
    dsimp only at t1 t2 t3 t4 ⊢
    refine pw_let (pw_some ⟨rfl, ?_, hE5.trans ⟨fun c j hc => (t1 c j (by omega)).trans (hE7.1 c j (by omega)), fun c j hc hd => (t3 c j hd).trans (hE7.2 c j hc)⟩, ?_, ?_, fun j hj => ?_⟩)
    · show iI (i : Int) + (1 : Int32) = _
      rw [show (1 : Int32) = iI 1 from rfl, iI_add]; rfl
    · show m10.2 2000 100 = lL (aSt k (qv m cs i) i (aS k (qv m cs) i))
      rw [eqv]; exact t4
    · show m10.1 2000 101 = _
      rw [if_neg (by omega)]; exact t2
    · rcases Nat.lt_or_ge j i with q | q
      · exact q6 j q
      · have : j = i := by omega
        subst this
        rw [eqv]; exact hvb
  · rintro ⟨x1, x2, m2⟩ ⟨q1, q2, hE, q4, q5, q6⟩
    dsimp only at q1 q2 hE q4 q5 ⊢
    subst q1; subst q2
    unfold mb_X6_ask_199
    rw [p_thingMany, hE.at (by omega)]
    refine pw_bind (pw_some (pw_t (by unfold things; rw [iI_le (by omega) (by omega)]; omega) (pw_some ⟨q4, hE⟩)))
/-- the ends of all things -/
theorem ends_mv {a b : MM} (E : ∀ c j : Nat, c ≠ 1055 → b.1 c j = a.1 c j) (t : Nat) : endsS b t = endsS a t := by
  have mE : ∀ c j : Nat, c ≠ 1055 → mi b c j = mi a c j := fun c j hc => congrArg Int32.toInt (E c j hc)
  have st : ∀ (k : Nat) (s : Int32), tStep b k s = tStep a k s := fun k s => by
    unfold tStep
    rw [mE _ _ (by omega), mE _ _ (by omega), mE _ _ (by omega)]
  have ps : ∀ (k : Nat) (s : Int32), tPass b k s = tPass a k s := fun k => by
    induction k with
    | zero => intro s; rfl
    | succ k ih => intro s; show tStep b k (tPass b k s) = tStep a k (tPass a k s); rw [ih, st]
  have cl : ∀ (n K : Nat) (s : Int32), tClo b K n s = tClo a K n s := fun n => by
    induction n with
    | zero => intro K s; rfl
    | succ n ih => intro K s; unfold tClo; rw [ps, ih]
  unfold endsS ties
  rw [cl, mE _ _ (by omega)]
theorem p_endsAll {m : MM} (h : tieOK m) {x : Int32} {Q : Int64 × MM → Prop} (hQ : ∀ m' : MM, (∀ c j : Nat, c ≠ 1055 → ¬ (c = 2000 ∧ j = 48) → m'.1 c j = m.1 c j) → m'.2 = m.2 → (∀ t : Nat, t < things m → m'.1 1055 t = endsS m t) → pw (ml_X6_ask_199 x 0 m') Q) : pw (ml_X6_ask_167 x 0 m) Q := by
  have hb := h.1.2.1
  unfold ml_X6_ask_167
  refine pw_for (fun i q => q.1 = x ∧ q.2.1 = iI (i : Int) ∧ (∀ c j : Nat, c ≠ 1055 → q.2.2.1 c j = m.1 c j) ∧ q.2.2.2 = m.2 ∧ ∀ t : Nat, t < i → q.2.2.1 1055 t = endsS m t) (things m) ?_ ?_ ⟨rfl, rfl, fun _ _ _ => rfl, rfl, fun t ht => absurd ht (Nat.not_lt_zero _)⟩
  · rintro i ⟨x1, x2, m2⟩ hi ⟨q1, q2, hE, hL, q4⟩
    dsimp only at q1 q2 hE hL q4 ⊢
    subst q1; subst q2
    unfold things at hi
    have mE : ∀ c j : Nat, c ≠ 1055 → mi m2 c j = mi m c j := fun c j hc => congrArg Int32.toInt (hE c j hc)
    have tie2 : tieOK m2 := by
      refine ⟨?_, fun k hk => ?_⟩
      · unfold rMany
        rw [mE _ _ (by omega), mE _ _ (by omega), mE _ _ (by omega), mE _ _ (by omega), mE _ _ (by omega)]
        exact h.1
      · rw [mE _ _ (by omega)] at hk
        rw [mE _ _ (by omega), mE _ _ (by omega)]
        exact h.2 k hk
    have clo : endsS m2 i = endsS m i := ends_mv (fun c j hc => hE c j hc) i
    unfold mb_X6_ask_167
    rw [p_thingMany, mE _ _ (by omega)]
    refine pw_bind (pw_some (pw_f (by rw [iI_le (by omega) (by omega)]; omega) ?_))
    dsimp only
    rw [p_endsOf tie2 (by omega)]
    refine pw_bind (pw_some (pw_gu ((gin_iI (by omega)).2 (by omega)) (pw_let (pw_let (pw_some ⟨rfl, ?_, fun c j hc => ?_, hL, fun t ht => ?_⟩)))))
    · show iI (i : Int) + (1 : Int32) = _
      rw [show (1 : Int32) = iI 1 from rfl, iI_add]; rfl
    · show (msI m2 1055 _ _).1 c j = _
      rw [msI_i, if_neg (fun q => hc q.1)]; exact hE c j hc
    · show (msI m2 1055 _ _).1 1055 t = _
      rw [msI_i, gix (by omega)]
      by_cases q : t = i
      · subst q
        rw [if_pos ⟨rfl, by omega⟩]
        exact clo
      · rw [if_neg (by omega)]
        exact q4 t (by omega)
  · rintro ⟨x1, x2, m2⟩ ⟨q1, q2, hE, hL, q4⟩
    dsimp only at q1 q2 hE hL q4 ⊢
    subst q1; subst q2
    have mE : mi m2 1038 7 = mi m 1038 7 := congrArg Int32.toInt (hE _ _ (by omega))
    unfold mb_X6_ask_167
    rw [p_thingMany, mE]
    refine pw_bind (pw_some (pw_t (by unfold things; rw [iI_le (by omega) (by omega)]; omega) (pw_let (pw_map ?_))))
    refine pw_mono (hQ (msI m2 2000 48 3) (fun c j hc hd => ?_) hL (fun t ht => ?_)) (fun a ha => ha)
    · rw [msI_i, if_neg hd]; exact hE c j hc
    · rw [msI_i, if_neg (by omega)]; exact q4 t ht
