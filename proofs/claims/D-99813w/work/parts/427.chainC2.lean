/-! ===== chains of sums and products ===== -/
/-- the chain at c with n parts -/
def chR (al : Int → Prop) (lo : Bool) (d : Nat) (μ : gM) (c n : Nat) (f : Nat → List Int) (g : Nat → Int) : Prop := gK μ c = 11 ∧ (2369 ≤ c ∧ c < gZ μ) ∧ lsT (vRep al lo d) μ c (gP μ c 0) (gP μ c 1) (gP μ (gP μ c 1) 0) n f ∧ sbP μ (gP μ c 1) n g ∧ (c < gP μ c 1 ∧ c < gP μ (gP μ c 1) 0) ∧ (gP μ c 1 ≠ gP μ c 0 ∧ gP μ c 1 ≠ gP μ (gP μ c 0) 1 ∧ gP μ (gP μ c 1) 0 ≠ gP μ c 0 ∧ gP μ (gP μ c 1) 0 ≠ gP μ (gP μ c 0) 1)
theorem lsT.at {R : gM → Nat → List Int → Prop} {μ : gM} {c r x y n : Nat} {f : Nat → List Int} (h : lsT R μ c r x y n f) : (c < r ∧ r < gZ μ) ∧ (c < gP μ r 1 ∧ gP μ r 1 < gZ μ) ∧ r ≠ gP μ r 1 ∧ gK μ r = 21 ∧ r ≠ 0 := by
  obtain ⟨L, l1, d, -⟩ := h
  exact ⟨⟨d.1, l1.2.1.2⟩, ⟨d.2.1, l1.2.2.1.2⟩, d.2.2, l1.1.2.2.1, l1.1.1⟩
/-- nothing of the chain is touched -/
theorem chR.mv {al : Int → Prop} {lo : Bool} {d : Nat} {μ μ' : gM} {c n : Nat} {f : Nat → List Int} {g : Nat → Int} (h : chR al lo d μ c n f g) (hi : inR c (gZ μ) μ μ') (hz : gZ μ ≤ gZ μ') : chR al lo d μ' c n f g ∧ gP μ' c 0 = gP μ c 0 ∧ gP μ' c 1 = gP μ c 1 ∧ gP μ' (gP μ c 0) 1 = gP μ (gP μ c 0) 1 ∧ gP μ' (gP μ c 1) 0 = gP μ (gP μ c 1) 0 := by
  obtain ⟨h1, ⟨h2, h3⟩, h4, h5, ⟨h6, h7⟩, h8⟩ := h
  obtain ⟨⟨a1, a2⟩, ⟨a3, a4⟩, a5, -, -⟩ := h4.at
  obtain ⟨e1, e2, e3⟩ := hi c (Nat.le_refl _) h3
  have p0 : gP μ' c 0 = gP μ c 0 := (e3 0).2.2
  have p1 : gP μ' c 1 = gP μ c 1 := (e3 1).2.2
  obtain ⟨s1, s2⟩ := h5.i (hi.dn (by omega) (by have := h5.2.1; omega)) (hi.dn (by omega) (by have := h5.2.2.1; omega)) hz
  have pr : gP μ' (gP μ c 0) 1 = gP μ (gP μ c 0) 1 := ((hi _ (by omega) a2).2.2 1).2.2
  refine ⟨⟨e1.trans h1, ⟨h2, by omega⟩, ?_, by rw [p1]; exact s1, by rw [p1, s2]; exact ⟨h6, h7⟩, by rw [p0, p1, pr, s2]; exact h8⟩, p0, p1, pr, s2⟩
  rw [p0, p1, s2]
  exact h4.mv (gR_v al lo d) (Or.inl rfl) (hi.dn (by omega) (by omega)) (hi.dn (by omega) (by omega)) (fun a b k1 _ _ _ k2 => hi.dn (by omega) k2) hz
/-- the chain as a tree -/
theorem chR.tree {al : Int → Prop} {lo : Bool} {d : Nat} {μ : gM} {c n : Nat} {f : Nat → List Int} {g : Nat → Int} (h : chR al lo d μ c (n + 1) f g) (hn : n < 100000) (hg : ∀ i : Nat, 1 ≤ i → i ≤ n → 1 ≤ g i ∧ g i ≤ 4) : Tv (vRep al lo (d + 1)) c (gZ μ) μ c (chC f g n) := by
  have hc := h.2.1
  refine ⟨⟨Nat.le_refl _, hc.2⟩, ⟨hc.1, Nat.le_refl _⟩, fun μ' hi => ?_⟩
  obtain ⟨h1, ⟨h2, h3⟩, h4, h5, ⟨h6, h7⟩, h8⟩ := h
  obtain ⟨⟨a1, a2⟩, ⟨a3, a4⟩, a5, -, -⟩ := h4.at
  obtain ⟨e1, e2, e3⟩ := hi c (Nat.le_refl _) h3
  have p0 : gP μ' c 0 = gP μ c 0 := (e3 0).2.2
  have p1 : gP μ' c 1 = gP μ c 1 := (e3 1).2.2
  obtain ⟨L, l1, -, l2⟩ := h4
  obtain ⟨q1, q2, q3⟩ := l1.1.i (hi.dn (by omega) (by omega)) (hi.dn (by omega) (by omega))
  obtain ⟨f1, f2, f3⟩ := hi (gP μ c 1) (by omega) h5.2.1.2
  obtain ⟨o1, o2, o3⟩ := hi (gP μ (gP μ c 1) 0) (by omega) h5.2.2.1.2
  have pb : gP μ' (gP μ c 1) 0 = gP μ (gP μ c 1) 0 := (f3 0).2.2
  obtain ⟨b1, b2, b3, b4, b5, b6, b7, b8, b9, b10, b11⟩ := h5.1
  refine ⟨by omega, ks_hi h2, Or.inr (Or.inr (Or.inr (Or.inr ⟨e1.trans h1, n, f, g, hn, ?_, fun i hi' => ?_, ?_, hg, rfl⟩)))⟩
  · rw [p0]; exact q1
  · rw [p0, q3, (l1.2.2.2.2.2 i (by omega)).1]
    obtain ⟨a, b, k1, k2⟩ := l2 i (by omega)
    exact k2.2.2 μ' (hi.dn (by omega) k2.2.1.2)
  · rw [p1]
    exact ⟨b1, b2, f1.trans b3, (f3 1).1.trans b4, (f3 3).1.trans b5, by rw [pb]; exact b6, by rw [pb]; exact b7, by rw [pb]; exact o1.trans b8, by rw [pb, o2]; exact b9, by rw [pb, o2]; exact b10, fun i hi' => by rw [pb, (o3 i).1]; exact b11 i hi'⟩
/-- a part is put to the chain -/
theorem c_chAdd {al : Int → Prop} {lo : Bool} {d : Nat} {μ0 μ : gM} {c n e a b : Nat} {f : Nat → List Int} {g : Nat → Int} {cs : List Int} (h0 : chR al lo d μ0 c n f g) (hp : pF (gZ μ0) μ0 μ) (hn : n < 1200) (ht : Tv (vRep al lo d) a b μ e cs) (ha : gZ μ0 ≤ a) (x : Int) : ∃ μ' : gM, cf_X12_add c (iI (sgn x)) e μ = some ((), μ') ∧ chR al lo d μ' c (n + 1) (fun i => if i = n then cs else f i) (fun i => if i = n then x else g i) ∧ sFr c μ μ' ∧ gC μ' ≤ gC μ + (4 * n + 19) := by
  have hc0 := h0.2.1
  obtain ⟨h, -⟩ := h0.mv (hp.i hc0.1 (Nat.le_refl _)) hp.1
  have same := (h0.mv (hp.i hc0.1 (Nat.le_refl _)) hp.1).2
  have r0 := h0.2.2.1.at
  have s0 := h0.2.2.2.1
  obtain ⟨h1, ⟨h2, h3⟩, h4, h5, ⟨h6, h7⟩, h8⟩ := h
  obtain ⟨⟨a1, a2⟩, ⟨a3, a4⟩, a5, a6, a7⟩ := h4.at
  have w1 : gP μ c 0 < a := by rw [same.1]; omega
  have w2 : gP μ (gP μ c 0) 1 < a := by rw [same.1, same.2.2.1]; omega
  have w3 : gP μ c 1 < a := by rw [same.2.1]; have := s0.2.1; omega
  have w4 : gP μ (gP μ c 1) 0 < a := by rw [same.2.1, same.2.2.2]; have := s0.2.2.1; omega
  generalize hr : gP μ c 0 = r at *
  generalize hb : gP μ c 1 = bb at *
  generalize hra : gP μ r 1 = ra at *
  generalize hba : gP μ bb 0 = ba at *
  have kb := h5.1.2.2.1
  have b0 := h5.1.1
  obtain ⟨m6, t1, t2, t3, t4, t5⟩ := c_append h5 (by omega) x
  rw [hba] at t3 t4
  have ic : inR c (c + 1) μ m6 := t3.i (by omega) (by omega) (by omega)
  have k6 : gK m6 c = 11 := ((ic c (Nat.le_refl _) (Nat.lt_succ_self _)).1).trans h1
  have p60 : gP m6 c 0 = r := (((ic c (Nat.le_refl _) (Nat.lt_succ_self _)).2.2 0).2.2).trans hr
  have p61 : gP m6 c 1 = bb := (((ic c (Nat.le_refl _) (Nat.lt_succ_self _)).2.2 1).2.2).trans hb
  have ir : inR r (r + 1) μ m6 := t3.i (by omega) (by omega) (by omega)
  have ira : inR (gP μ r 1) (gP μ r 1 + 1) μ m6 := by rw [hra]; exact t3.i (by omega) (by omega) (by omega)
  have pr6 : gP m6 r 1 = ra := (((ir r (Nat.le_refl _) (Nat.lt_succ_self _)).2.2 1).2.2).trans hra
  have L6 : lsT (vRep al lo d) m6 c r bb (gP m6 bb 0) n f := h4.mv (gR_v al lo d) (by rcases t4 with z | z <;> omega) ir ira (fun a' b' _ _ k3 k4 k5 => t3.i k5 k3 k4) t3.1
  have ht6 : Tv (vRep al lo d) a b m6 e cs := ht.mv (t3.i ht.2.1.2 (Or.inl w3) (Or.inl w4)) t3.1
  have hbz := ht.2.1.2
  have hba' : gP m6 bb 0 < a ∨ b ≤ gP m6 bb 0 := by
    rcases t4 with z | z
    · left; omega
    · right; omega
  obtain ⟨m7, u1, u2, u3, u4, u5⟩ := c_addT (gR_v al lo d) L6 hn ht6 ⟨⟨by omega, w1, by rw [pr6]; exact Or.inl w2⟩, Or.inl w3, hba'⟩
  rw [pr6] at u3 u4
  have tz := t2.2.2.1
  have tb := t2.2.1
  have n1 : gP m6 bb 0 ≠ r := by rcases t4 with z | z <;> omega
  have n2 : gP m6 bb 0 ≠ ra := by rcases t4 with z | z <;> omega
  have jc : inR c (c + 1) m6 m7 := u3.i (by omega) (by omega) (by omega)
  have p70 : gP m7 c 0 = r := (((jc c (Nat.le_refl _) (Nat.lt_succ_self _)).2.2 0).2.2).trans p60
  have p71 : gP m7 c 1 = bb := (((jc c (Nat.le_refl _) (Nat.lt_succ_self _)).2.2 1).2.2).trans p61
  obtain ⟨v1, v2⟩ := t2.i (μ' := m7) (u3.i (by omega) (by omega) (by omega)) (u3.i (by omega) (by omega) (by omega)) u3.1
  have uz := u3.1
  refine ⟨m7, ?_, ⟨((jc c (Nat.le_refl _) (Nat.lt_succ_self _)).1).trans k6, ⟨h2, by omega⟩, ?_, by rw [p71]; exact v1, ?_, ?_⟩, (t3.s (by omega) (by omega) (by omega)).trans (u3.s (by omega) (by omega) (by omega)), ?_⟩
  · unfold cf_X12_add
    simp only [gz_let]
    rw [if_pos h1, hb, if_pos b0, if_pos kb, t1]
    simp only [Option.bind_some]
    rw [if_pos ⟨t3.1, t3.2.1⟩, if_pos k6, p60, if_pos a7, if_pos (show gK m6 r = 21 from ((ir r (Nat.le_refl _) (Nat.lt_succ_self _)).1).trans a6), u1]
    simp only [Option.bind_some]
    rw [if_pos ⟨u3.1, u3.2.1⟩]
  · rw [p70, p71, v2]
    exact u2
  · rw [p71, v2]
    exact ⟨h6, by rcases t4 with z | z <;> omega⟩
  · rw [p70, p71, v2]
    refine ⟨h8.1, ?_, n1, ?_⟩
    · rcases u4 with z | z
      · rw [z]; exact h8.2.1
      · rw [z]; omega
    · rcases u4 with z | z
      · rw [z]; exact n2
      · rw [z]; omega
  · omega
/-- a new chain -/
theorem c_ch0 {al : Int → Prop} {lo : Bool} {d : Nat} {μ : gM} (hz : 2369 ≤ gZ μ) (f : Nat → List Int) (g : Nat → Int) : ∃ μ' : gM, cf_X12_init (gZ μ) (gz_al μ (10 + 1) 0 2) = some ((), μ') ∧ chR al lo d μ' (gZ μ) 0 f g ∧ sFr (gZ μ) μ μ' ∧ gC μ' = gC μ + 67 ∧ gZ μ + 1 ≤ gZ μ' ∧ gW μ + 2 ≤ gW μ' := by
  generalize hc : gZ μ = c at hz
  generalize hm2 : gz_al μ (10 + 1) 0 2 = m2
  have z2 : gZ m2 = c + 1 := by rw [← hm2, ← hc]; rfl
  have w2 : gW m2 = gW μ + 2 := by rw [← hm2]; rfl
  have k2 : gK m2 c = 11 := by rw [← hm2, al_k, if_pos hc.symm]
  have f2 : sFr c μ m2 := by rw [← hm2]; exact sFr.al (by omega)
  generalize hm6 : gz_al m2 (20 + 1) 0 3 = m6
  have z6 : gZ m6 = c + 2 := by rw [← hm6]; show gZ m2 + 1 = _; omega
  have w6 : gW m6 = gW μ + 5 := by rw [← hm6]; show gW m2 + 3 = _; omega
  have f6 : sFr (c + 1) m2 m6 := by rw [← hm6]; exact sFr.al (by omega)
  have k6 : gK m6 (c + 1) = 21 := by rw [← hm6, al_k, if_pos z2.symm]
  have i6 : gI m6 (c + 1) 2 = 0 := by rw [← hm6, al_i, if_pos z2.symm]
  have k6c : gK m6 c = 11 := ((f6.2.2 c (by omega)).1).trans k2
  obtain ⟨m8, s1, s2, s3, s4, s5, s6⟩ := c_newList (μ := m6) (r := c + 1) (k := 2) k6 ⟨by omega, by omega⟩ i6 (by omega) (by omega)
  have s1 : cf_J2_init (c + 1) (2 : Int32) m6 = some ((), m8) := s1
  have k8c : gK m8 c = 11 := ((s4.2.2 c (by omega) (by omega) (by omega)).1).trans k6c
  have lz := s2.2.2.1
  generalize hm14 : gz_sP m8 c 0 (c + 1) = m14
  have k14 : ∀ x : Nat, gK m14 x = gK m8 x := fun x => by rw [← hm14]; rfl
  have z14 : m14.2.2.2.2.2 = m8.2.2.2.2.2 := by rw [← hm14]; rfl
  have zz14 : gZ m14 = gZ m8 := congrArg Prod.fst z14
  have ww14 : gW m14 = gW m8 := congrArg Prod.snd z14
  have i14 : ∀ a b : Nat, c < a → inR a b m8 m14 := fun a b ha => fun x l r => by
    rw [← hm14]
    exact ⟨rfl, rfl, fun j => ⟨rfl, rfl, by rw [sP_p, if_neg (by omega)]⟩⟩
  generalize hm16 : gz_al m14 (22 + 1) 0 4 = m16
  have z16 : gZ m16 = gZ m8 + 1 := by rw [← hm16]; show gZ m14 + 1 = _; omega
  have w16 : gW m16 = gW m8 + 4 := by rw [← hm16]; show gW m14 + 4 = _; omega
  have f16 : sFr (gZ m14) m14 m16 := by rw [← hm16]; exact sFr.al (Nat.le_refl _)
  have k16 : gK m16 (gZ m8) = 23 := by rw [← hm16, al_k, if_pos zz14.symm]
  have i16 : gI m16 (gZ m8) 3 = 0 := by rw [← hm16, al_i, if_pos zz14.symm]
  obtain ⟨m18, t1, t2, t3, t4, t5⟩ := c_newSB (μ := m16) (b := gZ m8) k16 ⟨by omega, by omega⟩ i16
  have q16 : inR 0 (gZ m8) m14 m16 := fun x _ r => f16.2.2 x (by omega)
  have q18 : inR 0 (gZ m8) m16 m18 := fun x _ r => t3.2.2 x (by omega) (by omega) (by omega)
  have k18c : gK m18 c = 11 := ((q18 c (by omega) (by omega)).1).trans (((q16 c (by omega) (by omega)).1).trans ((k14 c).trans k8c))
  have sz := t2.2.2.1
  have sb := t2.2.1
  generalize hm24 : gz_sP m18 c 1 (gZ m8) = m24
  have i24 : ∀ a b : Nat, c < a → inR a b m18 m24 := fun a b ha => fun x l r => by
    rw [← hm24]
    exact ⟨rfl, rfl, fun j => ⟨rfl, rfl, by rw [sP_p, if_neg (by omega)]⟩⟩
  have z24 : gZ m24 = gZ m18 := by rw [← hm24]; rfl
  have w24 : gW m24 = gW m18 := by rw [← hm24]; rfl
  have p0 : gP m24 c 0 = c + 1 := by
    rw [← hm24, sP_p, if_neg (by omega), ((q18 c (by omega) (by omega)).2.2 0).2.2, ((q16 c (by omega) (by omega)).2.2 0).2.2, ← hm14, sP_p, if_pos ⟨rfl, rfl⟩]
  have p1 : gP m24 c 1 = gZ m8 := by rw [← hm24, sP_p, if_pos ⟨rfl, rfl⟩]
  have tz := t3.1
  have all1 : ∀ a b : Nat, c < a → b ≤ gZ m8 → inR a b m8 m24 := fun a b ha hb => (((i14 a b ha).trans (q16.dn (by omega) hb)).trans (q18.dn (by omega) hb)).trans (i24 a b ha)
  have l24 : lsR m24 (c + 1) 0 (fun _ => 0) := s2.i (all1 _ _ (by omega) (by omega)) (all1 _ _ (by omega) (by omega)) (by omega) (fun i hi => absurd hi (Nat.not_lt_zero _))
  have pr : gP m24 (c + 1) 1 = gP m8 (c + 1) 1 := ((all1 (c + 1) (c + 2) (by omega) (by omega) (c + 1) (Nat.le_refl _) (by omega)).2.2 1).2.2
  obtain ⟨b24, pb⟩ := t2.i (μ' := m24) (i24 _ _ (by omega)) (i24 _ _ (by omega)) (by omega)
  have slow : sFr c μ m24 := by
    refine ((f2.trans (f6.dn (by omega))).trans (s4.s (by omega) (by omega) (by omega))).trans ?_
    refine ⟨by omega, by have := t3.2.1; omega, fun x hx => ?_⟩
    have y1 := q16 x (by omega) (by omega)
    have y2 := q18 x (by omega) (by omega)
    refine ⟨?_, ?_, fun j => ⟨?_, ?_, ?_⟩⟩
    · rw [← hm24]; exact y2.1.trans (y1.1.trans (k14 x))
    · rw [← hm24]; exact y2.2.1.trans (y1.2.1.trans (by rw [← hm14]; rfl))
    · rw [← hm24]; exact (y2.2.2 j).1.trans ((y1.2.2 j).1.trans (by rw [← hm14]; rfl))
    · rw [← hm24]; exact (y2.2.2 j).2.1.trans ((y1.2.2 j).2.1.trans (by rw [← hm14]; rfl))
    · rw [← hm24, sP_p, if_neg (by omega), (y2.2.2 j).2.2, (y1.2.2 j).2.2, ← hm14, sP_p, if_neg (by omega)]
  refine ⟨m24, ?_, ⟨by rw [← hm24]; exact k18c, ⟨hz, by omega⟩, ?_, by rw [p1]; obtain ⟨⟨e1, e2, e3, e4, e5, e6, e7, e8, e9, e10, e11⟩, e12⟩ := b24; exact ⟨⟨e1, e2, e3, e4, e5, e6, e7, e8, e9, e10, fun i hi => absurd hi (Nat.not_lt_zero _)⟩, e12⟩, by rw [p1, pb]; exact ⟨by omega, by omega⟩, by rw [p0, p1, pr, pb]; exact ⟨by omega, by omega, by omega, by omega⟩⟩, slow, ?_, by omega, by have := s4.2.1; have := t3.2.1; omega⟩
  · unfold cf_X12_init cf_X11_init
    simp only [Option.bind_some, gz_let]
    rw [if_pos trivial, if_pos (by omega), hm6, z2, s1]
    simp only [Option.bind_some]
    rw [if_pos ⟨by omega, s4.2.1⟩, if_pos k8c, if_pos (by omega), if_pos ⟨sr_hi2 hz 0, by omega⟩, hm14, if_pos (by omega), hm16, zz14, t1]
    simp only [Option.bind_some]
    rw [if_pos ⟨by omega, t3.2.1⟩, if_pos k18c, if_pos (by omega), if_pos ⟨sr_hi2 hz 1, by omega⟩, hm24]
  · rw [p0]
    exact ⟨fun _ => 0, l24, ⟨by omega, by rw [pr]; omega, by rw [pr]; omega⟩, fun i hi => absurd hi (Nat.not_lt_zero _)⟩
  · show 8 * gZ m24 + gW m24 = 8 * gZ μ + gW μ + 67
    have e8 : 8 * gZ m8 + gW m8 = 8 * gZ m6 + gW m6 + 10 := s6
    have e18 : 8 * gZ m18 + gW m18 = 8 * gZ m16 + gW m16 + 24 := t5
    omega
