/-! ===== atoms of any depth; lists of tests ===== -/
section FactsC
variable {T : Nat → Int} {n S : Nat} {ask : Bool}
theorem crA_C (hT : tOK T n) (hSn : 2 * n + 1000 ≤ S) : ∀ (d o : Nat), o ≤ 6 → 7 ≤ d + o → cP T n S (mkA ask) (vRep (alS ask) ask (3 * d)) (crA d) (sA T n ask d) o 600 0
  | 0, o, h1, h2 => by omega
  | d + 1, o, h1, h2 => atomC (D := 3 * d) hT hSn h1 (fun h => crA_C hT hSn d (o + 1) (by omega) (by omega)) (sA_ok hT d)
theorem sumTop (hT : tOK T n) (hSn : 2 * n + 1000 ≤ S) {o : Nat} (ho : o ≤ 6) : cP T n S (mkA ask) (vRep (alS ask) ask 26) (cf_X2_sum (crA 8)) (sSum T n (sA T n ask 8)) o 428 180 := sumC (sl := 428) (fl := 0) hT hSn (crA_C hT hSn 8 o ho (by omega)) (sA_ok hT 8)
/-- a sum that begins with a word begins with a known one -/
theorem atom_kn {at' sm : Nat → Nat → Rs (List Int)} {o p p' : Nat} {cs : List Int} (h : sAtomF T n ask at' sm o p = Sum.inr (p', cs)) (hl : isL (T p)) : wE T n p ≤ p + 8 := by
  have c40 : T p ≠ 40 := by omega
  by_cases h2 : alB T p
  · rw [atom_num c40 (fun z => z.2 h2), sNum_nd (by omega)] at h
    cases h
  · by_cases e1 : wL T n p = wMin
    · have := ((isW_iff hl h2).2 e1).2.2.1
      rw [this, show wMin.length = 3 from rfl]; omega
    by_cases e2 : wL T n p = wMax
    · have := ((isW_iff hl h2).2 e2).2.2.1
      rw [this, show wMax.length = 3 from rfl]; omega
    rcases Nat.lt_or_ge (qK T n p) 9 with q | q
    · have := (qK_W (T := T) (n := n) p q).2.2.1
      have k8 : ∀ k : Nat, k < 9 → (kW k).length ≤ 8 := by decide +kernel
      have := k8 _ q
      omega
    · rw [(atom_word c40 hl h2).2.2 e1 e2, if_neg (by omega), if_neg (by omega)] at h
      cases h
theorem sum_kn {d o p p' : Nat} {cs : List Int} (h : sSum T n (sA T n ask (d + 1)) o p = Sum.inr (p', cs)) (hl : isL (T p)) : wE T n p ≤ p + 8 := by
  unfold sSum sProd at h
  cases e : sA T n ask (d + 1) o p with
  | inl e' => rw [e] at h; cases h
  | inr r =>
    obtain ⟨p1, c1⟩ := r
    exact atom_kn (at' := sA T n ask d) (sm := sSum T n (sA T n ask d)) (o := o) e hl
/-- a list of tests: all (k = 1) or any (k = 0) -/
def faR (al : Int → Prop) (lo : Bool) (d : Nat) (μ : gM) (c n : Nat) (f : Nat → List Int) (k : Int) : Prop := gK μ c = 16 ∧ (2369 ≤ c ∧ c < gZ μ) ∧ lsT (tRep al lo d) μ c (gP μ c 0) c c n f ∧ gI μ c 1 = iI k
theorem faR.mv {al : Int → Prop} {lo : Bool} {d : Nat} {μ μ' : gM} {c n : Nat} {f : Nat → List Int} {k : Int} (h : faR al lo d μ c n f k) (hi : inR c (gZ μ) μ μ') (hz : gZ μ ≤ gZ μ') : faR al lo d μ' c n f k ∧ gP μ' c 0 = gP μ c 0 ∧ gP μ' (gP μ c 0) 1 = gP μ (gP μ c 0) 1 := by
  obtain ⟨h1, ⟨h2, h3⟩, h4, h5⟩ := h
  obtain ⟨⟨a1, a2⟩, ⟨a3, a4⟩, a5, -, -⟩ := h4.at
  obtain ⟨e1, e2, e3⟩ := hi c (Nat.le_refl _) h3
  have p0 : gP μ' c 0 = gP μ c 0 := (e3 0).2.2
  have pr : gP μ' (gP μ c 0) 1 = gP μ (gP μ c 0) 1 := ((hi _ (by omega) a2).2.2 1).2.2
  refine ⟨⟨e1.trans h1, ⟨h2, by omega⟩, ?_, ((e3 1).1).trans h5⟩, p0, pr⟩
  rw [p0]
  exact h4.mv (gR_t al lo d) (Or.inl rfl) (hi.dn (by omega) (by omega)) (hi.dn (by omega) (by omega)) (fun a b k1 _ _ _ k2 => hi.dn (by omega) k2) hz
theorem faR.tree {al : Int → Prop} {lo : Bool} {d : Nat} {μ : gM} {c n : Nat} {f : Nat → List Int} {k : Int} (h : faR al lo d μ c (n + 1) f k) (hn : n < 100000) (hk : k = 0 ∨ k = 1) : Tv (tRep al lo (d + 1)) c (gZ μ) μ c (chC f (fun _ => 11 - k) n) := by
  have hc := h.2.1
  refine ⟨⟨Nat.le_refl _, hc.2⟩, ⟨hc.1, Nat.le_refl _⟩, fun μ' hi => ?_⟩
  obtain ⟨h1, ⟨h2, h3⟩, h4, h5⟩ := h
  obtain ⟨⟨a1, a2⟩, ⟨a3, a4⟩, a5, -, -⟩ := h4.at
  obtain ⟨e1, e2, e3⟩ := hi c (Nat.le_refl _) h3
  have p0 : gP μ' c 0 = gP μ c 0 := (e3 0).2.2
  obtain ⟨L, l1, -, l2⟩ := h4
  obtain ⟨q1, q2, q3⟩ := l1.1.i (hi.dn (by omega) (by omega)) (hi.dn (by omega) (by omega))
  refine ⟨by omega, ks_hi h2, Or.inr (Or.inr (Or.inr ⟨e1.trans h1, n, f, k, hk, hn, ((e3 1).1).trans h5, ?_, fun i hi' => ?_, rfl⟩))⟩
  · rw [p0]; exact q1
  · rw [p0, q3, (l1.2.2.2.2.2 i (by omega)).1]
    obtain ⟨a, b, k1, k2⟩ := l2 i (by omega)
    exact k2.2.2 μ' (hi.dn (by omega) k2.2.1.2)
/-- a test is put to the list -/
theorem c_faAdd {al : Int → Prop} {lo : Bool} {d : Nat} {μ0 μ : gM} {c n e a b : Nat} {f : Nat → List Int} {k : Int} {cs : List Int} (h0 : faR al lo d μ0 c n f k) (hp : pF (gZ μ0) μ0 μ) (hn : n < 1200) (ht : Tv (tRep al lo d) a b μ e cs) (ha : gZ μ0 ≤ a) : ∃ μ' : gM, cf_J2_add (gP μ0 c 0) e μ = some (1, μ') ∧ faR al lo d μ' c (n + 1) (fun i => if i = n then cs else f i) k ∧ sFr c μ μ' ∧ gP μ' c 0 = gP μ0 c 0 ∧ gC μ' ≤ gC μ + (2 * n + 9) ∧ gK μ (gP μ0 c 0) = 21 := by
  have hc0 := h0.2.1
  obtain ⟨h, s1, s2⟩ := h0.mv (hp.i hc0.1 (Nat.le_refl _)) hp.1
  have r0 := h0.2.2.1.at
  obtain ⟨h1, ⟨h2, h3⟩, h4, h5⟩ := h
  rw [s1] at h4
  obtain ⟨⟨a1, a2⟩, ⟨a3, a4⟩, a5, a6, a7⟩ := h4.at
  have w2 : gP μ (gP μ0 c 0) 1 < a := by rw [s2]; omega
  obtain ⟨m7, u1, u2, u3, u4, u5⟩ := c_addT (gR_t al lo d) h4 hn ht ⟨⟨by omega, by omega, Or.inl w2⟩, Or.inl (by omega), Or.inl (by omega)⟩
  have jc : inR c (c + 1) μ m7 := u3.i (by omega) (by omega) (by omega)
  obtain ⟨t1, t2, t3⟩ := jc c (Nat.le_refl _) (Nat.lt_succ_self _)
  have p7 : gP m7 c 0 = gP μ0 c 0 := ((t3 0).2.2).trans s1
  have uz := u3.1
  exact ⟨m7, u1, ⟨t1.trans h1, ⟨h2, by omega⟩, by rw [p7]; exact u2, ((t3 1).1).trans h5⟩, u3.s (by omega) (by omega) (by omega), p7, by omega, a6⟩
/-- a new list of tests -/
theorem c_fa0 {al : Int → Prop} {lo : Bool} {d : Nat} {μ : gM} (hz : 2369 ≤ gZ μ) (f : Nat → List Int) {k : Int} (hk : k = 0 ∨ k = 1) : ∃ μ' : gM, cf_X18_init (gZ μ) (iI k) (gz_al μ (15 + 1) 0 2) = some ((), μ') ∧ faR al lo d μ' (gZ μ) 0 f k ∧ sFr (gZ μ) μ μ' ∧ gC μ' = gC μ + 31 ∧ gZ μ + 1 ≤ gZ μ' ∧ gW μ + 2 ≤ gW μ' := by
  generalize hc : gZ μ = c at hz
  generalize hm2 : gz_al μ (15 + 1) 0 2 = m2
  have z2 : gZ m2 = c + 1 := by rw [← hm2, ← hc]; rfl
  have w2 : gW m2 = gW μ + 2 := by rw [← hm2]; rfl
  have k2 : gK m2 c = 16 := by rw [← hm2, al_k, if_pos hc.symm]
  have f2 : sFr c μ m2 := by rw [← hm2]; exact sFr.al (by omega)
  generalize hm6 : gz_al m2 (20 + 1) 0 3 = m6
  have z6 : gZ m6 = c + 2 := by rw [← hm6]; show gZ m2 + 1 = _; omega
  have w6 : gW m6 = gW μ + 5 := by rw [← hm6]; show gW m2 + 3 = _; omega
  have f6 : sFr (c + 1) m2 m6 := by rw [← hm6]; exact sFr.al (by omega)
  have k6 : gK m6 (c + 1) = 21 := by rw [← hm6, al_k, if_pos z2.symm]
  have i6 : gI m6 (c + 1) 2 = 0 := by rw [← hm6, al_i, if_pos z2.symm]
  have k6c : gK m6 c = 16 := ((f6.2.2 c (by omega)).1).trans k2
  obtain ⟨m8, s1, s2, s3, s4, s5, s6⟩ := c_newList (μ := m6) (r := c + 1) (k := 2) k6 ⟨by omega, by omega⟩ i6 (by omega) (by omega)
  have s1 : cf_J2_init (c + 1) (2 : Int32) m6 = some ((), m8) := s1
  have k8c : gK m8 c = 16 := ((s4.2.2 c (by omega) (by omega) (by omega)).1).trans k6c
  have lz := s2.2.2.1
  have sz := s4.1
  have hk01 : iI k = 0 ∨ iI k = 1 := by
    rcases hk with rfl | rfl
    · exact Or.inl rfl
    · exact Or.inr rfl
  generalize hm18 : gz_sI (gz_sP m8 c 0 (c + 1)) c 1 (iI k) = m18
  have i18 : ∀ a b : Nat, c < a → inR a b m8 m18 := fun a b ha => fun x l r => by
    rw [← hm18]
    exact ⟨rfl, rfl, fun j => ⟨by rw [sI_i, if_neg (by omega)]; rfl, rfl, by show gP (gz_sP m8 c 0 (c + 1)) x j = _; rw [sP_p, if_neg (by omega)]⟩⟩
  have z18 : gZ m18 = gZ m8 := by rw [← hm18]; rfl
  have w18 : gW m18 = gW m8 := by rw [← hm18]; rfl
  have p0 : gP m18 c 0 = c + 1 := by rw [← hm18]; show gP (gz_sP m8 c 0 (c + 1)) c 0 = _; rw [sP_p, if_pos ⟨rfl, rfl⟩]
  have l18 : lsR m18 (c + 1) 0 (fun _ => 0) := s2.i (i18 _ _ (by omega)) (i18 _ _ (by omega)) (by omega) (fun i hi => absurd hi (Nat.not_lt_zero _))
  have pr : gP m18 (c + 1) 1 = gP m8 (c + 1) 1 := ((i18 (c + 1) (c + 2) (by omega) (c + 1) (Nat.le_refl _) (by omega)).2.2 1).2.2
  have slow : sFr c μ m18 := by
    refine ((f2.trans (f6.dn (by omega))).trans (s4.s (by omega) (by omega) (by omega))).trans ?_
    rw [← hm18]
    exact (sFr.sP (Nat.le_refl _)).trans (sFr.sI (Nat.le_refl _))
  refine ⟨m18, ?_, ⟨by rw [← hm18]; exact k8c, ⟨hz, by omega⟩, ?_, by rw [← hm18, sI_i, if_pos ⟨rfl, rfl⟩]⟩, slow, ?_, by omega, by have := s4.2.1; omega⟩
  · unfold cf_X18_init cf_X17_init
    simp only [Option.bind_some, gz_let]
    rw [if_pos trivial, if_pos (by omega), hm6, z2, s1]
    simp only [Option.bind_some]
    rw [if_pos ⟨by omega, s4.2.1⟩, if_pos k8c, if_pos (by omega), if_pos ⟨sr_hi2 hz 0, by omega⟩, if_pos (show gK (gz_sP m8 c 0 (c + 1)) c = 16 from k8c), if_pos hk01, if_pos (by omega), hm18]
  · rw [p0]
    exact ⟨fun _ => 0, l18, ⟨by omega, by rw [pr]; omega, by rw [pr]; omega⟩, fun i hi => absurd hi (Nat.not_lt_zero _)⟩
  · show 8 * gZ m18 + gW m18 = 8 * gZ μ + gW μ + 31
    have e8 : 8 * gZ m8 + gW m8 = 8 * gZ m6 + gW m6 + 10 := s6
    omega
end FactsC
