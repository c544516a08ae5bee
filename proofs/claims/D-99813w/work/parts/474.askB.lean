/-! ===== the component: a question is answered ===== -/
def akF (c : Nat) (μ ν : gM) : Prop := ν.1 = μ.1 ∧ ν.2.1 = μ.2.1 ∧ ν.2.2.2.2 = μ.2.2.2.2 ∧ (∀ d j : Nat, ¬ (d = 1000 ∧ j = 25) → ¬ (d = c ∧ j = 4) → gI ν d j = gI μ d j) ∧ ∀ d j : Nat, d ≠ 1016 → ¬ (d = c ∧ j = 3) → gL ν d j = gL μ d j
theorem akF.refl (c : Nat) (μ : gM) : akF c μ μ := ⟨rfl, rfl, rfl, fun _ _ _ _ => rfl, fun _ _ _ _ => rfl⟩
theorem akF.trans {c : Nat} {μ ν ξ : gM} (h1 : akF c μ ν) (h2 : akF c ν ξ) : akF c μ ξ := ⟨h2.1.trans h1.1, h2.2.1.trans h1.2.1, h2.2.2.1.trans h1.2.2.1, fun d j a b => (h2.2.2.2.1 d j a b).trans (h1.2.2.2.1 d j a b), fun d j a b => (h2.2.2.2.2 d j a b).trans (h1.2.2.2.2 d j a b)⟩
theorem akF.K {c : Nat} {μ ν : gM} (h : akF c μ ν) (d : Nat) : gK ν d = gK μ d := congrFun h.1 d
theorem akF.P {c : Nat} {μ ν : gM} (h : akF c μ ν) (d j : Nat) : gP ν d j = gP μ d j := congrFun (congrFun (congrArg Prod.fst h.2.2.1) d) j
theorem akF.z {c : Nat} {μ ν : gM} (h : akF c μ ν) : ν.2.2.2.2.2 = μ.2.2.2.2.2 := congrArg Prod.snd h.2.2.1
theorem akF.sL {c : Nat} {μ ν : gM} (h : akF c μ ν) (j : Nat) (x : Int64) : akF c μ (gz_sL ν 1016 j x) := h.trans ⟨rfl, rfl, rfl, fun _ _ _ _ => rfl, fun d j' a b => by rw [sL_l, if_neg (fun q => a q.1)]⟩
/-- what has been found so far -/
def aR (k i : Nat) (A : Int) (ν : gM) (c : Nat) : Prop :=
  (k < 2 ∧ gL ν c 3 = lL A ∧ ((A = -1 ∧ gI ν c 4 = 0) ∨ (0 ≤ A ∧ gI ν c 4 = 1))) ∨ (k = 2 ∧ ((A = 0 ∧ gL ν c 3 = lL (-1) ∧ gI ν c 4 = 0) ∨ (1 ≤ A ∧ gL ν c 3 = lL A ∧ gI ν c 4 = 1))) ∨ (3 ≤ k ∧ ((i = 0 ∧ A = 0 ∧ gI ν c 4 = 0) ∨ (0 < i ∧ gL ν c 3 = lL A ∧ gI ν c 4 = 1)))
theorem aR.mv {k i : Nat} {A : Int} {ν ν' : gM} {c : Nat} (h : aR k i A ν c) (e1 : gL ν' c 3 = gL ν c 3) (e2 : gI ν' c 4 = gI ν c 4) : aR k i A ν' c := by
  unfold aR at h ⊢
  rw [e1, e2]
  exact h
theorem mt65 {c : Nat} {ν : gM} {x : Int64} {Q : Unit × gM → Prop} (kk : gK ν c = 20) (hc : 2369 ≤ c) (hQ : ∀ ν' : gM, akF c ν ν' → gI ν' 1000 25 = gI ν 1000 25 → gL ν' c 3 = x → gI ν' c 4 = 1 → Q ((), ν')) : pw (mj_X22_meets_65 c x c ν) Q := by
  unfold mj_X22_meets_65
  refine pw_gu kk (pw_gu (by omega) (pw_let (pw_gu kk (pw_gu (by omega) (pw_let (pw_some (hQ _ ⟨rfl, rfl, rfl, fun d j a b => ?_, fun d j a b => ?_⟩ ?_ ?_ ?_)))))))
  · rw [sI_i, if_neg b]; rfl
  · show gL (gz_sL ν c 3 x) d j = _
    rw [sL_l, if_neg b]
  · rw [sI_i, if_neg (by omega)]; rfl
  · show gL (gz_sL ν c 3 x) c 3 = _
    rw [sL_l, if_pos ⟨rfl, rfl⟩]
  · rw [sI_i, if_pos ⟨rfl, rfl⟩]
theorem mt139 {c : Nat} {ν : gM} {x : Int64} {Q : Unit × gM → Prop} (kk : gK ν c = 20) (hc : 2369 ≤ c) (hQ : ∀ ν' : gM, akF c ν ν' → gI ν' 1000 25 = gI ν 1000 25 → gL ν' c 3 = x → gI ν' c 4 = 1 → Q ((), ν')) : pw (mj_X22_meets_139 c x c ν) Q := mt65 kk hc hQ
theorem aSt3 (v : Int) (i : Nat) (A : Int) : aSt 3 v i A = A + v := rfl
theorem aSt4 (v : Int) (i : Nat) (A : Int) : aSt 4 v i A = (if i = 0 ∨ A < v then v else A) := rfl
theorem aSt5 (v : Int) (i : Nat) (A : Int) : aSt 5 v i A = (if i = 0 ∨ v < A then v else A) := rfl
theorem aSt0 (v : Int) (i : Nat) (A : Int) : aSt 0 v i A = (if v = 1 ∧ A = -1 then (i : Int) else A) := rfl
theorem aSt1 (v : Int) (i : Nat) (A : Int) : aSt 1 v i A = (if v = 1 then (i : Int) else A) := rfl
theorem aSt2 (v : Int) (i : Nat) (A : Int) : aSt 2 v i A = (if v = 1 then A + 1 else A) := rfl
def mtQ (c k i : Nat) (v A : Int) (ν : gM) (q : Unit × gM) : Prop := akF c ν q.2 ∧ gI q.2 1000 25 = gI ν 1000 25 ∧ aR k (i + 1) (aSt k v i A) q.2 c
theorem c_meets {ν : gM} {c k i : Nat} {v A : Int} (kk : gK ν c = 20) (hc : 2369 ≤ c) (hk : k < 6) (hi : i < 8) (k0 : gI ν c 0 = iI k) (ev1 : k < 3 → gP ν c 1 ≠ 0 ∧ (v = 0 ∨ v = 1) ∧ (cev 60).2 (gP ν c 1) 1015 ν = some (iI v, ν)) (ev2 : 3 ≤ k → gP ν c 2 ≠ 0 ∧ (cev 60).1 (gP ν c 2) 1015 ν = some (lL v, ν)) (hv : -1000000 ≤ v ∧ v ≤ 1000000) (hA : -9000000 ≤ A ∧ A ≤ 9000000) (R : aR k i A ν c) : pw (cf_X22_meets c (iI i) 1015 ν) (mtQ c k i v A ν) := by
  unfold cf_X22_meets
  refine pw_gu kk ?_
  rw [k0]
  by_cases h3 : 3 ≤ k
  · obtain ⟨p0, ev⟩ := ev2 h3
    refine pw_t (by rw [show (3 : Int32) = iI 3 from rfl, iI_le (by omega) (by omega)]; omega) (pw_gu kk (pw_let (pw_gu p0 ?_)))
    rw [ev]
    refine pw_bind (pw_some (pw_gu kk ?_))
    dsimp only
    have R3 : (i = 0 ∧ A = 0 ∧ gI ν c 4 = 0) ∨ (0 < i ∧ gL ν c 3 = lL A ∧ gI ν c 4 = 1) := by
      rcases R with ⟨r, -⟩ | ⟨r, -⟩ | ⟨-, r⟩
      · omega
      · omega
      · exact r
    rcases R3 with ⟨r1, r2, r3⟩ | ⟨r1, r2, r3⟩
    · refine pw_t r3 (mt139 kk hc fun ν' f1 f2 f3 f4 => ⟨f1, f2, Or.inr (Or.inr ⟨h3, Or.inr ⟨by omega, ?_, f4⟩⟩)⟩)
      rw [f3]
      obtain e | e | e : k = 3 ∨ k = 4 ∨ k = 5 := by omega
      · rw [e, aSt3, r2, Int.zero_add]
      · rw [e, aSt4, if_pos (Or.inl r1)]
      · rw [e, aSt5, if_pos (Or.inl r1)]
    · have r3' : ¬ gI ν c 4 = 0 := by rw [r3]; exact n10
      have fin : ∀ x : Int, x = aSt k v i A → pw (mj_X22_meets_139 c (lL x) c ν) (mtQ c k i v A ν) := fun x hx => mt139 kk hc fun ν' f1 f2 f3 f4 => ⟨f1, f2, Or.inr (Or.inr ⟨h3, Or.inr ⟨by omega, by rw [f3, hx], f4⟩⟩)⟩
      refine pw_f r3' (pw_gu kk ?_)
      rw [k0, r2]
      obtain e | e | e : k = 3 ∨ k = 4 ∨ k = 5 := by omega
      · subst e
        refine pw_t rfl (pw_gu kk ?_)
        rw [lL_add]
        exact fin _ rfl
      · subst e
        refine pw_f (by decide) (pw_gu kk (pw_t rfl (pw_gu kk ?_)))
        unfold cf_J8_max_2
        by_cases q : A < v
        · rw [if_pos (show lL A < lL v by rw [lL_lt (by omega) (by omega)]; exact q)]
          exact pw_bind (pw_some (fin v (by rw [aSt4, if_pos (Or.inr q)])))
        · rw [if_neg (show ¬ lL A < lL v by rw [lL_lt (by omega) (by omega)]; exact q)]
          exact pw_bind (pw_some (fin A (by rw [aSt4, if_neg (by omega)])))
      · subst e
        refine pw_f (by decide) (pw_gu kk (pw_f (by decide) (pw_gu kk ?_)))
        unfold cf_J8_min_2
        by_cases q : v < A
        · rw [if_pos (show lL v < lL A by rw [lL_lt (by omega) (by omega)]; exact q)]
          exact pw_bind (pw_some (fin v (by rw [aSt5, if_pos (Or.inr q)])))
        · rw [if_neg (show ¬ lL v < lL A by rw [lL_lt (by omega) (by omega)]; exact q)]
          exact pw_bind (pw_some (fin A (by rw [aSt5, if_neg (by omega)])))
  · obtain ⟨p0, v01, ev⟩ := ev1 (by omega)
    refine pw_f (by rw [show (3 : Int32) = iI 3 from rfl, iI_le (by omega) (by omega)]; omega) (pw_gu kk (pw_let (pw_gu p0 ?_)))
    rw [ev]
    refine pw_bind (pw_some ?_)
    dsimp only
    have same : aSt k v i A = A → mtQ c k i v A ν ((), ν) := fun e => ⟨akF.refl c ν, rfl, by
      rw [e]
      rcases R with r | r | ⟨r, -⟩
      · exact Or.inl r
      · exact Or.inr (Or.inl r)
      · omega⟩
    rcases v01 with e | e
    · subst e
      refine pw_t rfl (pw_some (same ?_))
      obtain e | e | e : k = 0 ∨ k = 1 ∨ k = 2 := by omega
      · rw [e, aSt0, if_neg (by omega)]
      · rw [e, aSt1, if_neg (by omega)]
      · rw [e, aSt2, if_neg (by omega)]
    · subst e
      refine pw_f n10 (pw_gu kk ?_)
      rw [k0]
      obtain e | e | e : k = 0 ∨ k = 1 ∨ k = 2 := by omega
      · subst e
        refine pw_f (by decide) (pw_gu kk (pw_t rfl (pw_gu kk ?_)))
        rcases R with ⟨-, r1, r2⟩ | ⟨r, -⟩ | ⟨r, -⟩
        rotate_left
        · omega
        · omega
        rcases r2 with ⟨r2, r3⟩ | ⟨r2, r3⟩
        · refine pw_t r3 ?_
          unfold mj_X22_meets_63
          rw [i2l_iI (by omega)]
          exact mt65 kk hc fun ν' f1 f2 f3 f4 => ⟨f1, f2, Or.inl ⟨by omega, by rw [f3, aSt0, if_pos ⟨rfl, r2⟩], Or.inr ⟨by rw [aSt0, if_pos ⟨rfl, r2⟩]; omega, f4⟩⟩⟩
        · refine pw_f (by rw [r3]; exact n10) (pw_gu kk (mt65 kk hc fun ν' f1 f2 f3 f4 => ⟨f1, f2, Or.inl ⟨by omega, by rw [f3, aSt0, if_neg (by omega)]; exact r1, Or.inr ⟨by rw [aSt0, if_neg (by omega)]; omega, f4⟩⟩⟩))
      · subst e
        refine pw_f (by decide) (pw_gu kk (pw_f (by decide) ?_))
        unfold mj_X22_meets_63
        rw [i2l_iI (by omega)]
        exact mt65 kk hc fun ν' f1 f2 f3 f4 => ⟨f1, f2, Or.inl ⟨by omega, by rw [f3, aSt1, if_pos rfl], Or.inr ⟨by rw [aSt1, if_pos rfl]; omega, f4⟩⟩⟩
      · subst e
        refine pw_t rfl (pw_gu kk ?_)
        have fin : ∀ x : Int64, x + 1 = lL (A + 1) → 0 ≤ A → pw (mj_X22_meets_65 c (x + 1) c ν) (mtQ c 2 i 1 A ν) := fun x hx h0 => mt65 kk hc fun ν' f1 f2 f3 f4 => ⟨f1, f2, Or.inr (Or.inl ⟨rfl, Or.inr ⟨by rw [aSt2, if_pos rfl]; omega, by rw [f3, aSt2, if_pos rfl]; exact hx, f4⟩⟩)⟩
        unfold cf_J8_max_2
        rcases R with ⟨r, -⟩ | ⟨-, r⟩ | ⟨r, -⟩
        · omega
        · rcases r with ⟨r1, r2, r3⟩ | ⟨r1, r2, r3⟩
          · rw [r2, if_neg (show ¬ (0 : Int64) < lL (-1) by decide)]
            exact pw_bind (pw_some (fin 0 (by rw [r1]; decide) (by omega)))
          · rw [r2, if_pos (show (0 : Int64) < lL A by rw [show (0 : Int64) = lL 0 from rfl, lL_lt (by omega) (by omega)]; omega)]
            exact pw_bind (pw_some (fin (lL A) (by rw [show (1 : Int64) = lL 1 from rfl, lL_add]) (by omega)))
        · omega
/-- what is told of a number -/
def akW (m : MM) (ν : gM) : Prop := cLay ν ∧ rHH m ν ∧ rSt m ν 1027 ∧ rWay m ν
theorem c_looked {m : MM} {ν : gM} (h : akW m ν) {i : Nat} (hi : (i : Int) < mi m 1038 7) (e : gI ν 1000 25 = iI i) (h55 : m.1 1055 i = endsS m i) {k a : Int} (hk : k = 0 ∨ k = 1) (ha : -1000000 ≤ a ∧ a ≤ 1000000) : cf_X0_looked (iI k) (lL a) ν = some (lL (lkM m i k a), ν) := by
  obtain ⟨h1, h2, h3, h4⟩ := h
  have hb := h2.1.1
  have hb2 := h2.1.2.1
  unfold cf_X0_looked mj_X0_looked_43 mj_X0_looked_82
  rcases hk with hk | hk
  · subst hk
    unfold lkM
    rw [if_pos (show iI 0 = (0 : Int32) from rfl), if_pos (show (0 : Int) = 0 from rfl)]
    by_cases q : a < 0
    · rw [if_pos (show lL a < (0 : Int64) by rw [show (0 : Int64) = lL 0 from rfl, lL_lt (by omega) (by omega)]; exact q), if_neg (by omega)]; rfl
    · rw [if_neg (show ¬ lL a < (0 : Int64) by rw [show (0 : Int64) = lL 0 from rfl, lL_lt (by omega) (by omega)]; exact q), c_things h2]
      simp only [Option.bind_some]
      rw [i2l_iI (by omega), l2i_lL (by omega)]
      by_cases q2 : mi m 1038 7 ≤ a
      · rw [if_pos (show lL (mi m 1038 7) ≤ lL a by rw [lL_le (by omega) (by omega)]; exact q2), if_neg (by omega)]; rfl
      · rw [if_neg (show ¬ lL (mi m 1038 7) ≤ lL a by rw [lL_le (by omega) (by omega)]; exact q2), if_pos (by omega), e, c_along h2 h3.2.2.1 (by omega)]
        simp only [Option.bind_some]
        obtain ⟨b, hbn⟩ : ∃ b : Nat, a = b := ⟨a.toNat, by omega⟩
        subst hbn
        rw [c_has ν _ (by omega), h55]
        simp only [Option.bind_some, Int.toNat_natCast]
        by_cases q3 : bt (endsS m i) b = true
        · rw [if_pos q3, if_pos q3, if_neg n10]; rfl
        · rw [if_neg q3, if_neg q3, if_pos rfl]; rfl
  · subst hk
    unfold lkM
    rw [if_neg (show ¬ iI 1 = (0 : Int32) from n10), if_neg (show ¬ (1 : Int) = 0 by omega)]
    by_cases q : a < 0
    · rw [if_pos (show lL a < (0 : Int64) by rw [show (0 : Int64) = lL 0 from rfl, lL_lt (by omega) (by omega)]; exact q), if_neg (by omega)]; rfl
    · rw [if_neg (show ¬ lL a < (0 : Int64) by rw [show (0 : Int64) = lL 0 from rfl, lL_lt (by omega) (by omega)]; exact q), c_halls h2]
      simp only [Option.bind_some]
      rw [i2l_iI (by omega), l2i_lL (by omega)]
      by_cases q2 : mi m 1038 6 ≤ a
      · rw [if_pos (show lL (mi m 1038 6) ≤ lL a by rw [lL_le (by omega) (by omega)]; exact q2), if_neg (by omega)]; rfl
      · rw [if_neg (show ¬ lL (mi m 1038 6) ≤ lL a by rw [lL_le (by omega) (by omega)]; exact q2), if_pos (by omega), e, c_thingOf h2 hi]
        simp only [Option.bind_some]
        obtain ⟨t1, t2, t3, t4, t5⟩ := h2.2.2.1 i hi
        obtain ⟨b, hbn⟩ : ∃ b : Nat, a = b := ⟨a.toNat, by omega⟩
        subst hbn
        have eh : mi m 1041 (16 + 2 * i) = ((mi m 1041 (16 + 2 * i)).toNat : Int) := by omega
        rw [if_pos t1, ci_of ν (thC ν i) 1, t2]
        generalize mi m 1041 (16 + 2 * i) = H at *
        obtain ⟨hn, hhn⟩ : ∃ x : Nat, H = x := ⟨H.toNat, by omega⟩
        subst hhn
        rw [c_wayBetween h4 (by omega) (by omega)]
        simp only [Option.bind_some, Int.toNat_natCast]
        rw [i2l_iI (mi_r _ _ _)]
theorem cL_1015 {ν : gM} (h : cLay ν) : moOK ν 1015 ∧ gP ν 1015 0 = 1016 := by
  have h1 := h 1015 (by decide)
  have h2 := h 1016 (by decide)
  have e : gP ν 1015 0 = 1016 := h1.2.2 0 (by decide)
  unfold moOK
  rw [e]
  exact ⟨⟨h1.1, by decide, h2.1, h2.2.1⟩, rfl⟩
section Answers
variable {m : MM} {μ : gM} {c k : Nat} {cs : List Int}
/-- the parts that are told of thing i -/
def akV (m : MM) (i : Nat) (ν : gM) : Prop := gL ν 1016 0 = lL (envM m i 0) ∧ gL ν 1016 1 = lL (envM m i 1) ∧ gL ν 1016 3 = lL (envM m i 3) ∧ gL ν 1016 4 = lL (envM m i 6) ∧ gL ν 1016 5 = lL (envM m i 4) ∧ gL ν 1016 6 = lL (envM m i 5)
theorem akV.env (h : rMany m) (hN : okN m) {i : Nat} (hi : (i : Int) < mi m 1038 7) {ν : gM} (hl : cLay ν) (hV : akV m i ν) : ∀ w : Int, 0 ≤ w → w ≤ 6 → alS true w → clp (cl ν (gP ν 1015 0) w.toNat) = clp (envM m i (prt w)) := by
  intro w w1 w2 w3
  have w3 : w ≠ 2 := w3
  rw [(cL_1015 hl).2]
  obtain ⟨v0, v1, v3, v4, v5, v6⟩ := hV
  have go : ∀ x : Int, gL ν 1016 w.toNat = lL (envM m i x) → prt w = x → clp (cl ν 1016 w.toNat) = clp (envM m i (prt w)) := fun x e1 e2 => by
    have b := envM_b h hN hi x
    unfold cl
    rw [e1, e2, toInt_lL (by omega) (by omega)]
  obtain e | e | e | e | e | e : w = 0 ∨ w = 1 ∨ w = 3 ∨ w = 4 ∨ w = 5 ∨ w = 6 := by omega
  all_goals subst e
  · exact go 0 v0 rfl
  · exact go 1 v1 rfl
  · exact go 3 v3 rfl
  · exact go 6 v4 rfl
  · exact go 4 v5 rfl
  · exact go 5 v6 rfl
theorem c_answers (hN : okN m) (hw : wyR m) (h52 : m.1 2000 52 = -1) (h55 : ∀ t : Nat, t < things m → m.1 1055 t = endsS m t) (hk : k < 6) (hc : 2369 ≤ c) (kk : gK μ c = 20) (k0 : gI μ c 0 = iI k) (base : ∀ ν : gM, akF c μ ν → akW m ν ∧ (k < 3 → gP ν c 1 ≠ 0 ∧ tRep (alS true) true 60 ν (gP ν c 1) cs) ∧ (3 ≤ k → gP ν c 2 ≠ 0 ∧ vRep (alS true) true 60 ν (gP ν c 2) cs)) (i0 : gI μ 1000 25 = 0) (R0 : aR k 0 (aS0 k) μ c) : pw (ml_X0_ask_53 c μ) (fun q => q.1 = lL (aS k (qv m cs) (things m)) ∧ akF c μ q.2) := by
  have hM : rMany m := (base μ (akF.refl c μ)).1.2.1.1
  have hb := hM.2.1
  unfold ml_X0_ask_53
  refine pw_for (fun i ν => akF c μ ν ∧ gI ν 1000 25 = iI (i : Int) ∧ aR k i (aS k (qv m cs) i) ν c ∧ ∀ j : Nat, j < i → -1000000 ≤ qv m cs j ∧ qv m cs j ≤ 1000000) (things m) ?_ ?_ ⟨akF.refl c μ, i0, R0, fun j hj => absurd hj (Nat.not_lt_zero _)⟩
  · rintro i ν hi ⟨hF, hI, hR, hvs⟩
    have hi7 : (i : Int) < mi m 1038 7 := by unfold things at hi; omega
    have gi : gz_ix (iI (i : Int)) = i := by rw [gix (by omega)]; omega
    have ii : gz_in (iI (i : Int)) 8 := (gin_iI (by omega)).2 (by omega)
    unfold mb_X0_ask_53
    rw [c_things (base ν hF).1.2.1]
    refine pw_bind (pw_some (pw_gu rfl ?_))
    dsimp only
    rw [hI]
    refine pw_f (by rw [iI_le (by omega) (by omega)]; omega) (pw_gu ii (pw_gu (by decide) (pw_let ?_)))
    -- strength
    have F13 := hF.sL (gz_ix (0 : Int32)) ((gI ν 1028 (gz_ix (iI (i : Int)))).toInt64)
    have V13 : gL (gz_sL ν 1016 (gz_ix (0 : Int32)) ((gI ν 1028 (gz_ix (iI (i : Int)))).toInt64)) 1016 0 = lL (envM m i 0) := by
      rw [sL_l, if_pos ⟨rfl, by decide⟩, gi]
      have := ((base ν hF).1.2.2.1.2.2.2.2 i hi7).1
      rw [this, mi_of m, i2l_iI (mi_r _ _ _)]; rfl
    have I13 : gI (gz_sL ν 1016 (gz_ix (0 : Int32)) ((gI ν 1028 (gz_ix (iI (i : Int)))).toInt64)) 1000 25 = iI (i : Int) := hI
    have A13 : aR k i (aS k (qv m cs) i) (gz_sL ν 1016 (gz_ix (0 : Int32)) ((gI ν 1028 (gz_ix (iI (i : Int)))).toInt64)) c := hR.mv (by rw [sL_l, if_neg (by omega)]) rfl
    generalize gz_sL ν 1016 (gz_ix (0 : Int32)) ((gI ν 1028 (gz_ix (iI (i : Int)))).toInt64) = m13 at F13 V13 I13 A13
    have W13 := (base m13 F13).1
    rw [I13, c_thingOf W13.2.1 hi7]
    obtain ⟨t1, t2, t3, -, -⟩ := W13.2.1.2.2.1 i hi7
    refine pw_bind (pw_some (pw_gu rfl (pw_gu t1 (pw_gu (by decide) (pw_let ?_)))))
    dsimp only
    -- heat
    have F20 := F13.sL (gz_ix (1 : Int32)) ((gI m13 (thC m13 i) 3).toInt64)
    have V20 : gL (gz_sL m13 1016 (gz_ix (1 : Int32)) ((gI m13 (thC m13 i) 3).toInt64)) 1016 0 = lL (envM m i 0) ∧ gL (gz_sL m13 1016 (gz_ix (1 : Int32)) ((gI m13 (thC m13 i) 3).toInt64)) 1016 1 = lL (envM m i 1) := by
      refine ⟨by rw [sL_l, if_neg (by decide)]; exact V13, ?_⟩
      rw [sL_l, if_pos ⟨rfl, by decide⟩, ci_of m13, t3, i2l_iI (mi_r _ _ _), show envM m i 1 = heatS m i from rfl, heat_no h52]
    have I20 : gI (gz_sL m13 1016 (gz_ix (1 : Int32)) ((gI m13 (thC m13 i) 3).toInt64)) 1000 25 = iI (i : Int) := I13
    have A20 : aR k i (aS k (qv m cs) i) (gz_sL m13 1016 (gz_ix (1 : Int32)) ((gI m13 (thC m13 i) 3).toInt64)) c := A13.mv (by rw [sL_l, if_neg (by omega)]) rfl
    generalize gz_sL m13 1016 (gz_ix (1 : Int32)) ((gI m13 (thC m13 i) 3).toInt64) = m20 at F20 V20 I20 A20
    refine pw_gu (by decide) (pw_let ?_)
    -- hour
    have W20 := (base m20 F20).1
    have F22 := F20.sL (gz_ix (3 : Int32)) ((gI m20 1027 0).toInt64)
    have V22 : gL (gz_sL m20 1016 (gz_ix (3 : Int32)) ((gI m20 1027 0).toInt64)) 1016 0 = lL (envM m i 0) ∧ gL (gz_sL m20 1016 (gz_ix (3 : Int32)) ((gI m20 1027 0).toInt64)) 1016 1 = lL (envM m i 1) ∧ gL (gz_sL m20 1016 (gz_ix (3 : Int32)) ((gI m20 1027 0).toInt64)) 1016 3 = lL (envM m i 3) := by
      refine ⟨by rw [sL_l, if_neg (by decide)]; exact V20.1, by rw [sL_l, if_neg (by decide)]; exact V20.2, ?_⟩
      rw [sL_l, if_pos ⟨rfl, by decide⟩, W20.2.2.1.1, mi_of m, i2l_iI (mi_r _ _ _)]; rfl
    have I22 : gI (gz_sL m20 1016 (gz_ix (3 : Int32)) ((gI m20 1027 0).toInt64)) 1000 25 = iI (i : Int) := I20
    have A22 : aR k i (aS k (qv m cs) i) (gz_sL m20 1016 (gz_ix (3 : Int32)) ((gI m20 1027 0).toInt64)) c := A20.mv (by rw [sL_l, if_neg (by omega)]) rfl
    generalize gz_sL m20 1016 (gz_ix (3 : Int32)) ((gI m20 1027 0).toInt64) = m22 at F22 V22 I22 A22
    rw [I22]
    refine pw_gu ii (pw_gu (by decide) (pw_let ?_))
    -- smell
    have W22 := (base m22 F22).1
    have F25 := F22.sL (gz_ix (4 : Int32)) ((gI m22 1030 (gz_ix (iI (i : Int)))).toInt64)
    have V25 : (gL (gz_sL m22 1016 (gz_ix (4 : Int32)) ((gI m22 1030 (gz_ix (iI (i : Int)))).toInt64)) 1016 0 = lL (envM m i 0) ∧ gL (gz_sL m22 1016 (gz_ix (4 : Int32)) ((gI m22 1030 (gz_ix (iI (i : Int)))).toInt64)) 1016 1 = lL (envM m i 1) ∧ gL (gz_sL m22 1016 (gz_ix (4 : Int32)) ((gI m22 1030 (gz_ix (iI (i : Int)))).toInt64)) 1016 3 = lL (envM m i 3)) ∧ gL (gz_sL m22 1016 (gz_ix (4 : Int32)) ((gI m22 1030 (gz_ix (iI (i : Int)))).toInt64)) 1016 4 = lL (envM m i 6) := by
      refine ⟨⟨by rw [sL_l, if_neg (by decide)]; exact V22.1, by rw [sL_l, if_neg (by decide)]; exact V22.2.1, by rw [sL_l, if_neg (by decide)]; exact V22.2.2⟩, ?_⟩
      rw [sL_l, if_pos ⟨rfl, by decide⟩, gi]
      have := (W22.2.2.1.2.2.2.2 i hi7).2.1
      rw [this, mi_of m, i2l_iI (mi_r _ _ _)]; rfl
    have I25 : gI (gz_sL m22 1016 (gz_ix (4 : Int32)) ((gI m22 1030 (gz_ix (iI (i : Int)))).toInt64)) 1000 25 = iI (i : Int) := I22
    have A25 : aR k i (aS k (qv m cs) i) (gz_sL m22 1016 (gz_ix (4 : Int32)) ((gI m22 1030 (gz_ix (iI (i : Int)))).toInt64)) c := A22.mv (by rw [sL_l, if_neg (by omega)]) rfl
    generalize gz_sL m22 1016 (gz_ix (4 : Int32)) ((gI m22 1030 (gz_ix (iI (i : Int)))).toInt64) = m25 at F25 V25 I25 A25
    rw [I25]
    refine pw_gu (by decide) (pw_let ?_)
    -- thing
    have F27 := F25.sL (gz_ix (5 : Int32)) ((iI (i : Int)).toInt64)
    have V27 : (gL (gz_sL m25 1016 (gz_ix (5 : Int32)) ((iI (i : Int)).toInt64)) 1016 0 = lL (envM m i 0) ∧ gL (gz_sL m25 1016 (gz_ix (5 : Int32)) ((iI (i : Int)).toInt64)) 1016 1 = lL (envM m i 1) ∧ gL (gz_sL m25 1016 (gz_ix (5 : Int32)) ((iI (i : Int)).toInt64)) 1016 3 = lL (envM m i 3)) ∧ gL (gz_sL m25 1016 (gz_ix (5 : Int32)) ((iI (i : Int)).toInt64)) 1016 4 = lL (envM m i 6) ∧ gL (gz_sL m25 1016 (gz_ix (5 : Int32)) ((iI (i : Int)).toInt64)) 1016 5 = lL (envM m i 4) := by
      refine ⟨⟨by rw [sL_l, if_neg (by decide)]; exact V25.1.1, by rw [sL_l, if_neg (by decide)]; exact V25.1.2.1, by rw [sL_l, if_neg (by decide)]; exact V25.1.2.2⟩, by rw [sL_l, if_neg (by decide)]; exact V25.2, ?_⟩
      rw [sL_l, if_pos ⟨rfl, by decide⟩, i2l_iI (by omega)]; rfl
    have I27 : gI (gz_sL m25 1016 (gz_ix (5 : Int32)) ((iI (i : Int)).toInt64)) 1000 25 = iI (i : Int) := I25
    have A27 : aR k i (aS k (qv m cs) i) (gz_sL m25 1016 (gz_ix (5 : Int32)) ((iI (i : Int)).toInt64)) c := A25.mv (by rw [sL_l, if_neg (by omega)]) rfl
    generalize gz_sL m25 1016 (gz_ix (5 : Int32)) ((iI (i : Int)).toInt64) = m27 at F27 V27 I27 A27
    have W27 := (base m27 F27).1
    rw [I27, c_thingOf W27.2.1 hi7]
    obtain ⟨t1', t2', -, -, -⟩ := W27.2.1.2.2.1 i hi7
    refine pw_bind (pw_some (pw_gu rfl (pw_gu t1' (pw_gu (by decide) (pw_let ?_)))))
    dsimp only
    -- hall
    have F34 := F27.sL (gz_ix (6 : Int32)) ((gI m27 (thC m27 i) 1).toInt64)
    have V34 : akV m i (gz_sL m27 1016 (gz_ix (6 : Int32)) ((gI m27 (thC m27 i) 1).toInt64)) := by
      refine ⟨by rw [sL_l, if_neg (by decide)]; exact V27.1.1, by rw [sL_l, if_neg (by decide)]; exact V27.1.2.1, by rw [sL_l, if_neg (by decide)]; exact V27.1.2.2, by rw [sL_l, if_neg (by decide)]; exact V27.2.1, by rw [sL_l, if_neg (by decide)]; exact V27.2.2, ?_⟩
      rw [sL_l, if_pos ⟨rfl, by decide⟩, ci_of m27, t2', i2l_iI (mi_r _ _ _)]; rfl
    have I34 : gI (gz_sL m27 1016 (gz_ix (6 : Int32)) ((gI m27 (thC m27 i) 1).toInt64)) 1000 25 = iI (i : Int) := I27
    have A34 : aR k i (aS k (qv m cs) i) (gz_sL m27 1016 (gz_ix (6 : Int32)) ((gI m27 (thC m27 i) 1).toInt64)) c := A27.mv (by rw [sL_l, if_neg (by omega)]) rfl
    generalize gz_sL m27 1016 (gz_ix (6 : Int32)) ((gI m27 (thC m27 i) 1).toInt64) = m34 at F34 V34 I34 A34
    obtain ⟨W34, T1, T2⟩ := base m34 F34
    have kk34 : gK m34 c = 20 := (F34.K c).trans kk
    have env34 := V34.env hM hN hi7 W34.1
    have hh := (hN.2.2.2 i hi7).1
    have lk34 : true = true → ∀ k a : Int, (k = 0 ∨ k = 1) → (-1000000 ≤ a ∧ a ≤ 1000000) → (-9223372036854775808 ≤ lkM m i k a ∧ lkM m i k a < 9223372036854775808) ∧ cf_X0_looked (iI k) (lL a) m34 = some (lL (lkM m i k a), m34) := fun _ k a h1 h2 => by
      have b := lkM_b hM hw hh k a
      exact ⟨by omega, c_looked W34 hi7 I34 (h55 i hi) h1 h2⟩
    have VV : ∃ v : Int, qv m cs i = v ∧ (-1000000 ≤ v ∧ v ≤ 1000000) ∧ (k < 3 → gP m34 c 1 ≠ 0 ∧ (v = 0 ∨ v = 1) ∧ (cev 60).2 (gP m34 c 1) 1015 m34 = some (iI v, m34)) ∧ (3 ≤ k → gP m34 c 2 ≠ 0 ∧ (cev 60).1 (gP m34 c 2) 1015 m34 = some (lL v, m34)) := by
      by_cases q : k < 3
      · obtain ⟨p0, tr⟩ := T1 q
        obtain ⟨v, hv, e1, e2⟩ := c_holds (cL_1015 W34.1).1 env34 lk34 60 tr
        exact ⟨v, by unfold qv; rw [e2 []]; rfl, by omega, fun _ => ⟨p0, hv, e1⟩, fun h => by omega⟩
      · obtain ⟨p0, tr⟩ := T2 (by omega)
        obtain ⟨v, hv, e1, e2⟩ := c_at (cL_1015 W34.1).1 env34 lk34 60 tr
        exact ⟨v, by unfold qv; rw [e2 []]; rfl, hv, fun h => by omega, fun _ => ⟨p0, e1⟩⟩
    obtain ⟨v, ev, hv, E1, E2⟩ := VV
    have Ab := aS_b (k := k) i hvs
    rw [I34]
    refine pw_gu kk34 (pw_bind (pw_mono (c_meets kk34 hc hk (by omega) ((F34.2.2.2.1 c 0 (by omega) (by omega)).trans k0) E1 E2 hv (by omega) A34) ?_))
    rintro ⟨⟨⟩, m37⟩ ⟨f37, i37, r37⟩
    dsimp only at f37 i37 r37 ⊢
    refine pw_gu f37.z (pw_let (pw_some ⟨(F34.trans f37).trans ⟨rfl, rfl, rfl, fun d j a b => by rw [sI_i, if_neg a], fun _ _ _ _ => rfl⟩, ?_, ?_, fun j hj => ?_⟩))
    · rw [sI_i, if_pos ⟨rfl, rfl⟩, i37, I34, show (1 : Int32) = iI 1 from rfl, iI_add]; rfl
    · show aR k (i + 1) (aSt k (qv m cs i) i (aS k (qv m cs) i)) _ c
      rw [ev]
      exact r37.mv rfl (by rw [sI_i, if_neg (by omega)])
    · rcases Nat.lt_or_ge j i with q | q
      · exact hvs j q
      · have : j = i := by omega
        subst this
        rw [ev]; exact hv
  · rintro ν ⟨hF, hI, hR, hvs⟩
    unfold mb_X0_ask_53
    rw [c_things (base ν hF).1.2.1]
    refine pw_bind (pw_some (pw_gu rfl ?_))
    dsimp only
    rw [hI]
    have kkv : gK ν c = 20 := (hF.K c).trans kk
    refine pw_t (by unfold things; rw [iI_le (by omega) (by omega)]; omega) (pw_gu kkv ?_)
    have ans : cf_X22_answer c ν = some (lL (aS k (qv m cs) (things m)), ν) := by
      unfold cf_X22_answer mj_X22_answer_15
      rw [(hF.2.2.2.1 c 0 (by omega) (by omega)).trans k0]
      simp only [kkv, if_true]
      rcases hR with ⟨r, r1, r2⟩ | ⟨r, r2⟩ | ⟨r, r2⟩
      · rw [if_neg (show ¬ (2 : Int32) ≤ iI (k : Int) by rw [show (2 : Int32) = iI 2 from rfl, iI_le (by omega) (by omega)]; omega), r1]
        split <;> rfl
      · rw [if_pos (show (2 : Int32) ≤ iI (k : Int) by rw [show (2 : Int32) = iI 2 from rfl, iI_le (by omega) (by omega)]; omega)]
        rcases r2 with ⟨a1, a2, a3⟩ | ⟨a1, a2, a3⟩
        · rw [if_pos a3, a1]; rfl
        · rw [if_neg (by rw [a3]; exact n10), a2]
      · rw [if_pos (show (2 : Int32) ≤ iI (k : Int) by rw [show (2 : Int32) = iI 2 from rfl, iI_le (by omega) (by omega)]; omega)]
        rcases r2 with ⟨a1, a2, a3⟩ | ⟨a1, a2, a3⟩
        · rw [if_pos a3, a2]; rfl
        · rw [if_neg (by rw [a3]; exact n10), a2]
    rw [ans]
    exact pw_bind (pw_some (pw_gu rfl (pw_some ⟨rfl, hF⟩)))
end Answers
