/-! ===== round: the query ===== -/
theorem sub_bits {x s : Int32} (h : (x &&& (s ^^^ (-1 : Int32))) = 0) : ∀ i : Nat, i < 32 → bt x i = true → bt s i = true := by
  intro i hi q
  have e : bt (x &&& (s ^^^ (-1 : Int32))) i = false := by
    rw [h]
    exact (by decide +kernel : ∀ k, k < 32 → bt (0 : Int32) k = false) i hi
  rw [b_and, b_xor, b_m1 i hi, q] at e
  cases e2 : bt s i with
  | true => rfl
  | false => rw [e2] at e; cases e
theorem pow_nI : ∀ T : Nat, T ≤ 8 → ((1 : Int32) <<< (iI (T : Int) &&& 31)) = iI ((2 ^ T : Nat) : Int) := by decide +kernel
theorem bsL_le (f : Nat → Bool) : ∀ {a b : Nat}, a ≤ b → (bsL f a).length ≤ (bsL f b).length
  | a, 0, h => by rw [show a = 0 by omega]; exact Nat.le_refl _
  | a, b + 1, h => by
    rcases Nat.lt_or_ge b a with q | q
    · rw [show a = b + 1 by omega]; exact Nat.le_refl _
    · have := bsL_le f (a := a) (b := b) q
      show _ ≤ (if f b = true then bsL f b ++ [b] else bsL f b).length
      split
      · rw [List.length_append]; omega
      · exact this
theorem bsL_cut {f : Nat → Bool} {k : Nat} : ∀ n : Nat, k ≤ n → (∀ t : Nat, k ≤ t → t < n → f t = false) → bsL f n = bsL f k
  | 0, h, _ => by rw [show k = 0 by omega]
  | n + 1, h, e => by
    rcases Nat.lt_or_ge n k with q | q
    · rw [show k = n + 1 by omega]
    · show (if f n = true then bsL f n ++ [n] else bsL f n) = _
      rw [if_neg (by rw [e n q (by omega)]; decide)]
      exact bsL_cut n q (fun t h1 h2 => e t h1 (by omega))
theorem lay_B {m a : MM} {K : Nat} (h : lrM m K none a) (b : MM) (e : ∀ c j : Nat, c ≠ 1060 → b.1 c j = a.1 c j) (e2 : b.2 = a.2) : lrM m K none b := h.go ⟨e, e2⟩
theorem pop_pos : ∀ n : Nat, n < 256 → n ≠ 0 → 1 ≤ popN n := by decide +kernel
/-- the best of all orders -/
def rdB (m : MM) (n : Nat) : Option (Int × List Nat) := (lxP (popN n) n.testBit).foldl (bsS m) none
section Round
variable {m : MM} {μ : gM} {l : List (Int × Int × Int)}
theorem p_laysRound {n : Nat} (hn : n < 256) (hn0 : n ≠ 0) (hp : popN n ≤ 4) (hb : ∀ t : Nat, n.testBit t = true → (t : Int) < mi m 1038 7) (hM : rMany m) (hc : cOK m) (hT : tieOK m) (hwy : wyR m) (hN : okN m) (h10 : mi m 1051 0 ≤ 999) (h11 : 0 ≤ mi m 1051 1 ∧ mi m 1051 1 < 8) (hkp : kpM l m) {a : MM} (ht : tk m a) (hs : sE m a) : pw (mf_laysRound (iI n) a) (fun q => q.1 = iI (bM (rdB m n)) ∧ lrM m (popN n) (rdB m n) q.2) := by
  have hb7 := hM.2.1
  have ob := List.all_eq_true.mp ord_all n (List.mem_range.mpr hn)
  unfold ordB at ob
  have ob : ((lxP (popN n) n.testBit).headD [] = bsL n.testBit 8) ∧ chB (lxP (popN n) n.testBit) = true ∧ (bsL n.testBit 8).length = popN n ∧ ∀ o ∈ lxP (popN n) n.testBit, o.length = popN n ∧ ∀ t ∈ o, n.testBit t = true ∧ t < 8 := by
    have e1 : Nat.ble 5 (popN n) = false := by
      cases e : Nat.ble 5 (popN n) with
      | false => rfl
      | true => have := Nat.le_of_ble_eq_true e; omega
    have e2 : (n == 0) = false := by simpa using hn0
    rw [e1, e2] at ob
    simp only [Bool.false_or, Bool.and_eq_true, beq_iff_eq, List.all_eq_true] at ob
    obtain ⟨⟨⟨o1, o2⟩, o3⟩, o4⟩ := ob
    refine ⟨o1, o2, o3, fun o ho => ⟨(o4 o ho).1, fun t htt => ?_⟩⟩
    have := (o4 o ho).2 t htt
    exact ⟨this.1, Nat.le_of_ble_eq_true this.2⟩
  obtain ⟨o1, o2, o3, o4⟩ := ob
  have hcut : bsL n.testBit 8 = bsL n.testBit (things m) := bsL_cut 8 (by unfold things; omega) (fun t h1 h2 => by
    cases e : n.testBit t with
    | false => rfl
    | true => have := hb t e; unfold things at h1; omega)
  have K1 : 1 ≤ popN n := pop_pos n hn hn0
  have hA : ∀ o ∈ lxP (popN n) n.testBit, o.length = popN n ∧ ordOK m o ∧ o8 o := fun o ho => by
    obtain ⟨q1, q2⟩ := o4 o ho
    refine ⟨q1, fun t htt => hb t (q2 t htt).1, fun i => ?_⟩
    rcases Nat.lt_or_ge i o.length with z | z
    · rw [List.getD_eq_getElem?_getD, List.getElem?_eq_getElem z, Option.getD_some]
      exact (q2 _ (List.getElem_mem z)).2
    · rw [List.getD_eq_getElem?_getD, List.getElem?_eq_none z, Option.getD_none]
      omega
  unfold mf_laysRound ml_X6_laysRound_7
  refine pw_for (fun t q => q.1 = iI n ∧ q.2.1 = iI ((bsL n.testBit t).length : Int) ∧ q.2.2.1 = -1 ∧ q.2.2.2.1 = iI (t : Int) ∧ lrM m (popN n) none q.2.2.2.2 ∧ arM (bsL n.testBit t) q.2.2.2.2) (things m) ?_ ?_ ⟨rfl, rfl, rfl, rfl, ⟨ht, hs, fun b e => by cases e⟩, fun i hi => absurd hi (Nat.not_lt_zero _)⟩
  · rintro t ⟨y1, y2, y3, y4, b⟩ hi ⟨e1, e2, e3, e4, L, ar⟩
    dsimp only at e1 e2 e3 e4 L ar ⊢
    subst e1; subst e2; subst e3; subst e4
    have t7 : (t : Int) < mi m 1038 7 := by unfold things at hi; omega
    have m7 : mi b 1038 7 = mi m 1038 7 := L.2.1.w 7
    have jj : iI (t : Int) + (1 : Int32) = iI ((t + 1 : Nat) : Int) := by rw [iI_lit, iI_add]; rfl
    have eb : bt (iI (n : Int)) t = n.testBit t := by rw [iI_nI]; exact bt_nI n (by omega)
    have ll := bsL_le n.testBit (a := t + 1) (b := 8) (by omega)
    unfold mb_X6_laysRound_7 mj_X6_laysRound_37
    rw [p_thingMany, m7]
    refine pw_bind (pw_some (pw_f (by rw [iI_le (by omega) (by omega)]; omega) ?_))
    try dsimp only
    refine pw_if (fun q => ?_) (fun q => ?_)
    · have q' : n.testBit t = true := by rw [← eb]; exact (has_bt _ (by omega)).mp q
      have es : bsL n.testBit (t + 1) = bsL n.testBit t ++ [t] := if_pos q'
      have el : (bsL n.testBit (t + 1)).length = (bsL n.testBit t).length + 1 := by rw [es, List.length_append]; rfl
      have gi : gz_ix (iI ((bsL n.testBit t).length : Int)) = (bsL n.testBit t).length := by rw [gix (by omega)]; omega
      rw [gi]
      refine pw_gu ((gin_iI (by omega)).2 (by omega)) (pw_let (pw_let (pw_let (pw_some ⟨rfl, ?_, rfl, jj, lay_B L _ (fun c j k => ?_) rfl, fun i hi2 => ?_⟩))))
      · show iI ((bsL n.testBit t).length : Int) + (1 : Int32) = _
        rw [el, iI_lit, iI_add]; rfl
      · show (msI b 1060 _ _).1 c j = _
        rw [msI_i, if_neg (fun w => k w.1)]
      · show (msI b 1060 _ _).1 1060 i = _
        rw [el] at hi2
        rw [msI_i, es, List.getD_eq_getElem?_getD]
        by_cases z : i = (bsL n.testBit t).length
        · rw [if_pos ⟨rfl, z⟩, z, List.getElem?_append_right (Nat.le_refl _), Nat.sub_self]; rfl
        · rw [if_neg (fun w => z w.2), List.getElem?_append_left (by omega), ← List.getD_eq_getElem?_getD]
          exact ar i (by omega)
    · have q' : ¬ n.testBit t = true := by rw [← eb]; exact fun w => q ((has_bt _ (by omega)).mpr w)
      have es : bsL n.testBit (t + 1) = bsL n.testBit t := if_neg q'
      refine pw_let (pw_some ⟨rfl, ?_, rfl, jj, L, ?_⟩)
      · show iI ((bsL n.testBit t).length : Int) = _
        rw [es]
      · rw [es]; exact ar
  · rintro ⟨y1, y2, y3, y4, b⟩ ⟨e1, e2, e3, e4, L, ar⟩
    dsimp only at e1 e2 e3 e4 L ar ⊢
    subst e1; subst e2; subst e3; subst e4
    have m7 : mi b 1038 7 = mi m 1038 7 := L.2.1.w 7
    unfold mb_X6_laysRound_7
    rw [p_thingMany, m7]
    refine pw_bind (pw_some (pw_t (by unfold things; rw [iI_le (by omega) (by omega)]; omega) (pw_map ?_)))
    rw [← hcut, o3]
    rw [← hcut, ← o1] at ar
    exact pw_mono (p_round46 hM hc hT hwy hN h10 h11 hkp ⟨K1, hp⟩ o2 hA L ar) (fun z hz => hz)
theorem e_round (h : rCo l m μ) (hWy : rWay m μ) (x y : Int32) : eO (mf_round x y m) (cf_X0_round x y μ) m μ := by
  obtain ⟨h1, h2, h3, h4, h5, h6, h7, h8, h9, h10, h11, h12, h13⟩ := id h
  obtain ⟨z, hz, rfl⟩ := iI_ex x
  obtain ⟨w, hw, rfl⟩ := iI_ex y
  have b7 := h2.1.2.1
  have hwy : wyR m := fun a b ha hb => by rcases hWy a b ha hb with ⟨q, -⟩ | ⟨q, -⟩ <;> omega
  have no : ∀ (o1 : Option (Int32 × MM)) (o2 : Option (Int32 × gM)), o1 = some (-1, m) → o2 = some (-1, μ) → eO o1 o2 m μ := fun o1 o2 e1 e2 => ⟨-1, m, μ, e1, e2, mSc.refl h5, cSc.refl μ, h9⟩
  unfold mf_round cf_X0_round mj_X6_round_43 mj_X0_round_36
  rw [p_burningSet h2.1]
  simp only [Option.bind_some]
  by_cases q0 : iI z ≤ (0 : Int32)
  · rw [if_pos q0, if_pos q0]
    exact no _ _ rfl rfl
  rw [if_neg q0, if_neg q0, c_things h2]
  simp only [Option.bind_some]
  have cl : cf_X5_lit 1027 μ = some (litS m, μ) := c_lit h2 (fun t ht => (h6.2.2.2.2 t ht).1)
  rw [cl]
  simp only [Option.bind_some]
  by_cases q1 : (iI z &&& (litS m ^^^ (-1 : Int32))) = 0
  rotate_left
  · rw [if_neg q1, if_neg q1]
    refine no _ _ rfl ?_
    split <;> rfl
  rw [if_pos q1, if_pos q1]
  -- a set of things that burn
  have sb := sub_bits q1
  have lb : ∀ i : Nat, i < 32 → bt (iI z) i = true → (i : Int) < mi m 1038 7 := fun i hi q => by
    have := sb i hi q
    rw [litS_bt h2.1 hi] at this
    exact (of_decide_eq_true this).1
  have s8z : ∀ i : Nat, 8 ≤ i → i < 32 → bt (iI z) i = false := fun i a b => by
    cases e : bt (iI z) i with
    | false => rfl
    | true => have := lb i b e; omega
  obtain ⟨n, n1, n2, n3⟩ := s12_ex (s := iI z) (fun i a b => s8z i (by omega) b)
  have nb : ∀ t : Nat, n.testBit t = true → (t : Int) < mi m 1038 7 := fun t e => by
    rcases Nat.lt_or_ge t 32 with q | q
    · exact lb t q (by rw [← n3 t q]; exact e)
    · have : n.testBit t = false := Nat.testBit_lt_two_pow (Nat.lt_of_lt_of_le n1 (Nat.pow_le_pow_right (n := 2) (by omega) (show 12 ≤ t by omega)))
      rw [this] at e; cases e
  have n256 : n < 256 := by
    have : n < 2 ^ 8 := Nat.lt_pow_two_of_testBit n (fun i hi => by
      cases e : n.testBit i with
      | false => rfl
      | true => have := nb i e; omega)
    exact this
  have nT : n < 2 ^ things m := Nat.lt_pow_two_of_testBit n (fun i hi => by
    cases e : n.testBit i with
    | false => rfl
    | true => have := nb i e; unfold things at hi; omega)
  have T8 : things m ≤ 8 := by unfold things; omega
  have eT : iI (mi m 1038 7) = iI (things m : Int) := by unfold things; congr 1; omega
  have p2 : 2 ^ things m ≤ 2 ^ 8 := Nat.pow_le_pow_right (by omega) T8
  have p2 : 2 ^ things m ≤ 256 := p2
  have ez : iI z = iI (n : Int) := by rw [n2, iI_nI]
  rw [eT, pow_nI _ T8, ez]
  rw [ez] at q0
  have hn0 : n ≠ 0 := fun e => q0 (by rw [e]; decide)
  rw [if_neg (show ¬ iI ((2 ^ things m : Nat) : Int) ≤ iI (n : Int) by rw [iI_le (by omega) (by omega)]; omega)]
  rw [show iI (n : Int) = nI n from iI_nI n, p_bits n1, c_bitCount n1]
  simp only [Option.bind_some]
  have pl := popN_lt n
  rw [show nI (popN n) = iI (popN n : Int) from (iI_nI _).symm]
  by_cases q4 : popN n ≤ 4
  rotate_left
  · rw [if_pos (show (4 : Int32) < iI (popN n : Int) by rw [show (4 : Int32) = iI 4 from rfl, iI_lt (by omega) (by omega)]; omega), if_neg (show ¬ iI (popN n : Int) ≤ (4 : Int32) by rw [show (4 : Int32) = iI 4 from rfl, iI_le (by omega) (by omega)]; omega)]
    exact no _ _ rfl rfl
  rw [if_neg (show ¬ (4 : Int32) < iI (popN n : Int) by rw [show (4 : Int32) = iI 4 from rfl, iI_lt (by omega) (by omega)]; omega), if_pos (show iI (popN n : Int) ≤ (4 : Int32) by rw [show (4 : Int32) = iI 4 from rfl, iI_le (by omega) (by omega)]; omega)]
  rw [p_bits n1, c_bitCount n1]
  simp only [Option.bind_some]
  rw [show nI (popN n) = iI (popN n : Int) from (iI_nI _).symm, show iI (popN n : Int) - (1 : Int32) = iI ((popN n : Int) - 1) by rw [iI_lit, iI_sub], i2l_iI hw, i2l_iI (by omega)]
  rw [show mf_isIn (lL w) (-1 : Int64) (lL ((popN n : Int) - 1)) m = some (if -1 ≤ w ∧ w ≤ (popN n : Int) - 1 then 1 else 0, m) by rw [show (-1 : Int64) = lL (-1) by decide]; exact p_isIn m (by omega) (by omega) (by omega)]
  rw [show cf_X0_is (iI w) (-1 : Int32) (iI ((popN n : Int) - 1)) μ = some (if -1 ≤ w ∧ w ≤ (popN n : Int) - 1 then 1 else 0, μ) by rw [show (-1 : Int32) = iI (-1) by decide]; exact p_is μ (by omega) (by omega) (by omega)]
  simp only [Option.bind_some]
  by_cases q5 : -1 ≤ w ∧ w ≤ (popN n : Int) - 1
  rotate_left
  · rw [if_neg q5]
    exact no _ _ rfl rfl
  rw [if_pos q5, if_neg n10, if_neg n10, show nI n = iI (n : Int) from (iI_nI n).symm]
  have PL := fun (a : MM) (t1 : tk m a) (t2 : sE m a) => p_laysRound n256 hn0 q4 nb h2.1 h4 (tieOK.of h2) hwy h5 h10 h11 h7 t1 t2
  have CL := fun (m21 : gM) (S0 : tSt l m μ (popN n) none m21) => c_ceo (l := l) (μ := μ) hwy h2.1 q4 (popN n) 6 (by omega) 0 [] (iI (n : Int)) n.testBit m21 none (by omega) rfl (fun i hi => absurd hi (Nat.not_lt_zero _)) (fun t ht => by rw [iI_nI]; exact bt_nI n (by omega)) (fun t _ e => nb t e) (fun t ht => absurd ht List.not_mem_nil) S0
  have eC : (lxP (popN n) n.testBit).foldl (fun B o => bsS m B ([] ++ o)) none = rdB m n := rfl
  rw [eC] at CL
  generalize rdB m n = B at PL CL
  clear eC
  refine eO.of (match B with | none => (-1 : Int32) | some b => if w = -1 then iI b.1 else iI ((b.2.getD w.toNat 0 : Nat) : Int)) ?_ ?_
  · refine pw_bind (pw_mono (tk.aside h5) ?_)
    rintro ⟨⟨⟩, a⟩ ⟨t1, t2⟩
    dsimp only at t1 t2 ⊢
    refine pw_bind (pw_mono (PL a t1 t2) ?_)
    rintro ⟨r, b⟩ ⟨g1, g2⟩
    dsimp only at g1 g2 ⊢
    subst g1
    refine pw_bind (pw_mono (pw_and (g2.1.back h12 h13) (p_takesBack b)) ?_)
    rintro ⟨⟨⟩, d⟩ ⟨d1, d2, d3⟩
    dsimp only at d1 d2 d3 ⊢
    unfold mj_X6_round_71
    cases B with
    | none => exact pw_t (show iI (-1) = (-1 : Int32) by decide) (pw_some ⟨by show iI (-1) = (-1 : Int32); decide, d1⟩)
    | some c =>
      obtain ⟨c1, c2⟩ := g2.2.2 c rfl
      refine pw_f (show ¬ iI c.1 = (-1 : Int32) by rw [show (-1 : Int32) = iI (-1) by decide, iI_eq (by omega) (by omega)]; omega) ?_
      show pw _ (fun q : Int32 × MM => q.1 = (if w = -1 then iI c.1 else iI ((c.2.getD w.toNat 0 : Nat) : Int)) ∧ mSc m q.2)
      by_cases q6 : w = -1
      · rw [if_pos q6]
        exact pw_t (by rw [q6]; decide) (pw_some ⟨rfl, d1⟩)
      · rw [if_neg q6]
        refine pw_f (by rw [show (-1 : Int32) = iI (-1) by decide, iI_eq (by omega) (by omega)]; exact q6) (pw_gu ((gin_iI (by omega)).2 (by omega)) (pw_some ⟨?_, d1⟩))
        show d.1 1061 (gz_ix (iI w)) = _
        rw [gix (by omega), d2, if_neg (by omega), if_neg (by omega), if_neg (by omega)]
        exact c2 w.toNat (by omega)
  · refine pw_let ?_
    have c21 : cSc μ (gz_sI μ 1000 14 (100000000 : Int32)) := ⟨rfl, rfl, rfl, fun c j k => by rw [sI_i, if_neg (by unfold scC at k; omega)], fun _ _ _ _ => rfl, fun _ _ _ => rfl⟩
    have v21 : gI (gz_sI μ 1000 14 (100000000 : Int32)) 1000 14 = iI 100000000 := by rw [sI_i, if_pos ⟨rfl, rfl⟩]; rfl
    have r21 : rowOK (gz_sI μ 1000 14 (100000000 : Int32)) 1073 := h9
    generalize gz_sI μ 1000 14 (100000000 : Int32) = m21 at c21 v21 r21 ⊢
    have S0 : tSt l m μ (popN n) none m21 := ⟨⟨h, hWy, c21⟩, r21, v21, by show (0 : Int) ≤ 100000000 ∧ (100000000 : Int) ≤ 100000000; omega, fun b e => by cases e⟩
    refine pw_bind (pw_mono (CL m21 S0) ?_)
    rintro ⟨⟨⟩, ξ⟩ ⟨g1, -⟩
    dsimp only at g1 ⊢
    obtain ⟨⟨-, -, g2⟩, g3, g4, g5, g6⟩ := g1
    rw [g4]
    cases B with
    | none => exact pw_t rfl (pw_some ⟨rfl, g2, g3⟩)
    | some c =>
      obtain ⟨c1, c2⟩ := g6 c rfl
      have g5 : 0 ≤ c.1 ∧ c.1 ≤ 100000000 := g5
      refine pw_f (show ¬ iI c.1 = (100000000 : Int32) by rw [show (100000000 : Int32) = iI 100000000 from rfl, iI_eq (by omega) (by omega)]; omega) ?_
      show pw _ (fun q : Int32 × gM => q.1 = (if w = -1 then iI c.1 else iI ((c.2.getD w.toNat 0 : Nat) : Int)) ∧ cSc μ q.2 ∧ rowOK q.2 1073)
      by_cases q6 : w = -1
      · rw [if_pos q6]
        exact pw_t (by rw [q6]; decide) (pw_some ⟨rfl, g2, g3⟩)
      · rw [if_neg q6]
        refine pw_f (by rw [show (-1 : Int32) = iI (-1) by decide, iI_eq (by omega) (by omega)]; exact q6) (pw_gu ((gin_iI (by omega)).2 (by omega)) (pw_some ⟨?_, g2, g3⟩))
        show gI ξ 1120 (gz_ix (iI w)) = _
        rw [gix (by omega)]
        exact c2 w.toNat (by omega)
end Round
