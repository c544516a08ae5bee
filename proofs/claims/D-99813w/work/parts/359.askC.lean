/-! ===== the component asks of a thing ===== -/
def cLay (μ : gM) : Prop := clc μ.1 μ.2.1 μ.2.2.2.2.1
def al4 (w : Int) : Prop := w < 4
def rTree (m : MM) (μ : gM) : Prop := ((mi m 1044 2 = -1 ∧ gP μ (hC μ) 7 = 0) ∨ (mi m 1044 2 ≠ -1 ∧ vRep al4 false 60 μ (gP μ (hC μ) 7) (csM m 0))) ∧ ((mi m 1044 3 = -1 ∧ gP μ (hC μ) 8 = 0) ∨ (mi m 1044 3 ≠ -1 ∧ tRep al4 false 60 μ (gP μ (hC μ) 8) (csM m 1)))
def rSt (m : MM) (μ : gM) (x : Nat) : Prop := gI μ x 0 = m.1 1051 0 ∧ gI μ x 2 = m.1 1051 1 ∧ rTied m μ x ∧ (∀ k : Nat, k < 32 → mi m 1038 9 ≤ k → bt (gI μ x 3) k = false) ∧ ∀ t : Nat, (t : Int) < mi m 1038 7 → gI μ (x + 1) t = m.1 1051 (14 + 2 * t) ∧ gI μ (x + 3) t = m.1 1051 (15 + 2 * t) ∧ ci μ (x + 4) t = heatS m t
/-- the household is the same -/
def hhE (m m' : MM) : Prop := ∀ c j : Nat, (c = 1038 ∨ c = 1041 ∨ c = 1043 ∨ c = 1044 ∨ c = 1045 ∨ c = 1046 ∨ c = 1050) → m'.1 c j = m.1 c j
theorem hhE.refl (m : MM) : hhE m m := fun _ _ _ => rfl
theorem hhE.trans {a b c : MM} (h1 : hhE a b) (h2 : hhE b c) : hhE a c := fun x y k => (h2 x y k).trans (h1 x y k)
theorem hhE.at {a b : MM} (h : hhE a b) {c j : Nat} (hc : c = 1038 ∨ c = 1041 ∨ c = 1043 ∨ c = 1044 ∨ c = 1045 ∨ c = 1046 ∨ c = 1050) : mi b c j = mi a c j := congrArg Int32.toInt (h c j hc)
theorem hhE.of {a b : MM} (h : sE a b) : hhE a b := fun c j k => h c j (by unfold kyC; omega)
theorem hhE.hour (m : MM) : hhE m (hourM m) := fun c j k => hourM_o m (by omega)
theorem hhE.cs {a b : MM} (h : hhE a b) (w : Nat) : csM b w = csM a w := by
  unfold csM
  rw [h.at (c := 1045) (by omega), h.at (c := 1044) (by omega)]
  congr 1
  funext i
  exact h.at (by omega)
theorem rHH.mv {m m' : MM} {μ μ' : gM} (h : rHH m μ) (hs : hhE m m') (hd : dyS μ μ') (h0 : gP μ' 1000 0 = gP μ 1000 0) : rHH m' μ' := by
  obtain ⟨h1, h2, h3, h4⟩ := h
  obtain ⟨a1, a2, a3, a4, a5, a6, a7, a8⟩ := h2
  have w : ∀ j, mi m' 1038 j = mi m 1038 j := fun j => hs.at (by omega)
  have g : ∀ j, mi m' 1041 j = mi m 1041 j := fun j => hs.at (by omega)
  have k : ∀ j, mi m' 1043 j = mi m 1043 j := fun j => hs.at (by omega)
  have eK : gK μ' = gK μ := hd.1
  have hc : hC μ' = hC μ := h0
  have hP : ∀ j, gP μ' (hC μ) j = gP μ (hC μ) j := fun j => (hd.2.2.2 _ a2 j).2.2
  refine ⟨?_, ⟨by rw [hc]; exact a1, by rw [hc]; exact a2, by rw [hc, eK]; exact a3, ?_, ?_, ?_, ?_, ?_⟩, fun t ht => ?_, fun t ht => ?_⟩
  · unfold rMany; rw [w, w, w, w, w]; exact h1
  · rw [hc, hP, w]; exact (a4.dy hd).1
  · rw [hc, hP, w]; exact (a5.dy hd).1
  · rw [hc, hP, w]; exact (a6.dy hd).1
  · rw [hc, hP, w]; exact (a7.dy hd).1
  · unfold ci; rw [hc, (hd.2.2.2 _ a2 2).1, w]; exact a8
  · rw [w] at ht
    have e : thC μ' t = thC μ t := by unfold thC; rw [hc, hP]; exact (a6.dy hd).2 t
    have d := (a6.2.2.2.2.2.2.2.2 t ht).2
    unfold ci
    rw [e, eK, (hd.2.2.2 (thC μ t) d 1).1, (hd.2.2.2 (thC μ t) d 3).1, g, g, w]
    exact h3 t ht
  · rw [w] at ht
    have e : tiC μ' t = tiC μ t := by unfold tiC; rw [hc, hP]; exact (a7.dy hd).2 t
    have d := (a7.2.2.2.2.2.2.2.2 t ht).2
    unfold ci
    rw [e, eK, (hd.2.2.2 (tiC μ t) d 0).1, (hd.2.2.2 (tiC μ t) d 1).1, k, k, w]
    exact h4 t ht
theorem rTree.mv {m m' : MM} {μ μ' : gM} (h : rTree m μ) (hh : rHH m μ) (hs : hhE m m') (hd : dyS μ μ') (h0 : gP μ' 1000 0 = gP μ 1000 0) : rTree m' μ' := by
  have hc : hC μ' = hC μ := h0
  have hP : ∀ j, gP μ' (hC μ) j = gP μ (hC μ) j := fun j => (hd.2.2.2 _ hh.2.1.2.1 j).2.2
  unfold rTree
  rw [hc, hP, hP, hs.cs, hs.cs, hs.at (c := 1044) (by omega), hs.at (c := 1044) (by omega)]
  obtain ⟨h1, h2⟩ := h
  refine ⟨h1.elim Or.inl (fun q => Or.inr ⟨q.1, vRep_dy hd 60 q.2⟩), h2.elim Or.inl (fun q => Or.inr ⟨q.1, tRep_dy hd 60 q.2⟩)⟩
/-- only the moment changes -/
def oF (μ μ' : gM) : Prop := μ'.1 = μ.1 ∧ μ'.2.1 = μ.2.1 ∧ μ'.2.2.2.2.2 = μ.2.2.2.2.2 ∧ (∀ c j : Nat, gI μ' c j = gI μ c j) ∧ (∀ c j : Nat, c ≠ 1014 → gL μ' c j = gL μ c j) ∧ ∀ c j : Nat, gP μ' c j = gP μ c j
theorem oF.refl (μ : gM) : oF μ μ := ⟨rfl, rfl, rfl, fun _ _ => rfl, fun _ _ _ => rfl, fun _ _ => rfl⟩
theorem oF.trans {a b c : gM} (h1 : oF a b) (h2 : oF b c) : oF a c := ⟨h2.1.trans h1.1, h2.2.1.trans h1.2.1, h2.2.2.1.trans h1.2.2.1, fun x y => (h2.2.2.2.1 x y).trans (h1.2.2.2.1 x y), fun x y k => (h2.2.2.2.2.1 x y k).trans (h1.2.2.2.2.1 x y k), fun x y => (h2.2.2.2.2.2 x y).trans (h1.2.2.2.2.2 x y)⟩
theorem oF.sL (μ : gM) (j : Nat) (v : Int64) : oF μ (gz_sL μ 1014 j v) := ⟨rfl, rfl, rfl, fun _ _ => rfl, fun c k hc => by rw [sL_l, if_neg (fun q => hc q.1)], fun _ _ => rfl⟩
theorem oF.dy {μ μ' : gM} (h : oF μ μ') : dyS μ μ' := ⟨h.1, h.2.1, h.2.2.1, fun c hc j => ⟨h.2.2.2.1 c j, h.2.2.2.2.1 c j (fun q => by subst q; revert hc; decide), h.2.2.2.2.2 c j⟩⟩
theorem oF.lay {μ μ' : gM} (h : oF μ μ') (hl : cLay μ) : cLay μ' := by
  have hP : μ'.2.2.2.2.1 = μ.2.2.2.2.1 := funext fun c => funext fun j => h.2.2.2.2.2 c j
  unfold cLay
  rw [h.1, h.2.1, hP]
  exact hl
theorem c_isLit {m : MM} {μ : gM} {x t : Nat} (ht : t < 8) (h : gI μ (x + 1) t = m.1 1051 (14 + 2 * t)) : cf_X5_isLit x (iI t) μ = some (if 0 < mi m 1051 (14 + 2 * t) then 1 else 0, μ) := by
  have r := mi_r m 1051 (14 + 2 * t)
  unfold cf_X5_isLit
  rw [if_pos ((gin_iI (by omega)).2 (by omega)), gix (by omega), show ((t : Int)).toNat = t by omega, h, mi_of m]
  by_cases q : 0 < mi m 1051 (14 + 2 * t)
  · rw [if_neg (by rw [iI_lit, iI_le (by omega) (by omega)]; omega), if_pos q]
  · rw [if_pos (by rw [iI_lit, iI_le (by omega) (by omega)]; omega), if_neg q]
theorem c_nearby {m : MM} {μ : gM} (h : rHH m μ) {x : Nat} (hs : ∀ t : Nat, (t : Int) < mi m 1038 7 → gI μ (x + 1) t = m.1 1051 (14 + 2 * t)) {t : Nat} (ht : (t : Int) < mi m 1038 7) : cf_X5_nearby x (iI t) μ = some (iI (nearF m t (things m)), μ) := by
  have hb := h.1.2.1
  have key : pw (cf_X5_nearby x (iI t) μ) (fun r => r = (iI (nearF m t (things m)), μ)) := by
    unfold cf_X5_nearby ml_X5_nearby_4
    refine pw_for (fun i q => q = (iI t, iI (nearF m t i), iI i, μ)) (things m) ?_ ?_ rfl
    · rintro i q hi rfl
      have hi' : (i : Int) < mi m 1038 7 := by unfold things at hi; omega
      have hn := nearF_b m t i
      have r1 := mi_r m 1041 (16 + 2 * i)
      have r2 := mi_r m 1041 (16 + 2 * t)
      obtain ⟨t1, t2, -⟩ := h.2.2.1 i hi'
      obtain ⟨u1, u2, -⟩ := h.2.2.1 t ht
      have fin : ∀ z y : Int, z + y = nearF m t (i + 1) → pw (mj_X5_nearby_59 x (iI t) (iI i) (iI y) (iI z) μ) (Sum.elim (fun q => q = (iI t, iI (nearF m t (i + 1)), iI ((i + 1 : Nat) : Int), μ)) (fun r => r = (iI (nearF m t (things m)), μ))) := by
        intro z y hz
        unfold mj_X5_nearby_59
        refine pw_let (pw_let (pw_some ?_))
        show (iI t, iI z + iI y, iI i + (1 : Int32), μ) = _
        rw [iI_add, hz, iI_lit, iI_add]
        rfl
      have fin0 : nearF m t i = nearF m t (i + 1) → pw (mj_X5_nearby_58 x (iI t) (iI i) (iI (nearF m t i)) μ) (Sum.elim (fun q => q = (iI t, iI (nearF m t (i + 1)), iI ((i + 1 : Nat) : Int), μ)) (fun r => r = (iI (nearF m t (things m)), μ))) := by
        intro e
        unfold mj_X5_nearby_58
        exact fin (nearF m t i) 0 (by omega)
      dsimp only
      unfold mb_X5_nearby_4
      rw [c_things h]
      refine pw_bind (pw_some ?_)
      dsimp only
      refine pw_f (by rw [iI_le (by omega) (by omega)]; omega) ?_
      by_cases c0 : i = t
      · refine pw_t (by rw [c0]) ?_
        exact fin0 (by rw [nearF_s, if_neg (fun q => q.1 c0)]; omega)
      · refine pw_f (by rw [iI_eq (by omega) (by omega)]; omega) ?_
        rw [c_isLit (by omega) (hs i hi')]
        refine pw_bind (pw_some ?_)
        dsimp only
        by_cases c1 : 0 < mi m 1051 (14 + 2 * i)
        · rw [if_pos c1]
          refine pw_f (by decide) ?_
          rw [c_thingOf h hi']
          refine pw_bind (pw_some ?_)
          dsimp only
          refine pw_gu t1 ?_
          rw [c_thingOf h ht]
          refine pw_bind (pw_some ?_)
          dsimp only
          refine pw_gu u1 ?_
          rw [ci_of μ (thC μ i) 1, ci_of μ (thC μ t) 1, t2, u2]
          by_cases c2 : mi m 1041 (16 + 2 * i) = mi m 1041 (16 + 2 * t)
          · refine pw_t (by rw [c2]) ?_
            exact fin (nearF m t i) 1 (by rw [nearF_s, if_pos ⟨c0, c1, c2⟩])
          · refine pw_f (by rw [iI_eq r1 r2]; exact c2) ?_
            exact fin0 (by rw [nearF_s, if_neg (fun q => c2 q.2.2)]; omega)
        · rw [if_neg c1]
          refine pw_t rfl ?_
          exact fin0 (by rw [nearF_s, if_neg (fun q => c1 q.2.1)]; omega)
    · rintro q rfl
      dsimp only
      unfold mb_X5_nearby_4
      rw [c_things h]
      refine pw_bind (pw_some ?_)
      dsimp only
      refine pw_t (by rw [iI_le (by omega) (by unfold things; omega)]; unfold things; omega) ?_
      exact pw_some rfl
  obtain ⟨r, e1, e2⟩ := key
  rw [e1, e2]
theorem c_asks {m : MM} {μ : gM} (h : rHH m μ) {x : Nat} (hx : rSt m μ x) (hN : okN m) {t : Nat} (ht : (t : Int) < mi m 1038 7) : pw (cf_X5_asks x (iI t) μ) (fun q => oF μ q.2 ∧ ∀ w : Int, 0 ≤ w → w < 4 → cl q.2 1014 w.toNat = envM m t w) := by
  have hb := h.1.2.1
  obtain ⟨s1, s2, s3, s4, s5⟩ := hx
  have hst := (hN.2.1 t (by omega)).1
  have g0 : gz_ix (0 : Int32) = 0 := by decide
  have g1 : gz_ix (1 : Int32) = 1 := by decide
  have g2 : gz_ix (2 : Int32) = 2 := by decide
  have g3 : gz_ix (3 : Int32) = 3 := by decide
  have gt : gz_ix (iI (t : Int)) = t := by rw [gix (by omega)]; omega
  have hw1 := envM_b h.1 hN ht 1
  have hheat : envM m t 1 = heatS m t := by unfold envM; rw [if_neg (by omega), if_pos rfl]
  have hnear := nearF_b m t (things m)
  have hth : (things m : Int) ≤ 8 := by unfold things; omega
  unfold cf_X5_asks
  have e0 : (gI μ (x + 1) t).toInt64 = lL (mi m 1051 (14 + 2 * t)) := by rw [(s5 t ht).1, mi_of m, i2l_iI (by omega)]
  have e1 : ∀ μ' : gM, oF μ μ' → (gI μ' (x + 4) t).toInt64 = lL (heatS m t) := fun μ' hm => by rw [hm.2.2.2.1, ci_of, (s5 t ht).2.2, i2l_iI (by omega)]
  simp only [gz_let, g0, g1, g2, g3, gt]
  have hi8 : gz_in (iI (t : Int)) 8 := (gin_iI (by omega)).2 (by omega)
  refine pw_gu hi8 (pw_gu (by decide) (pw_gu hi8 (pw_gu (by decide) ?_)))
  rw [e0, e1 _ (oF.sL _ _ _)]
  have m6 := (oF.sL μ 0 (lL (mi m 1051 (14 + 2 * t)))).trans (oF.sL _ 1 (lL (heatS m t)))
  have hv6 : ∀ j : Nat, gL (gz_sL (gz_sL μ 1014 0 (lL (mi m 1051 (14 + 2 * t)))) 1014 1 (lL (heatS m t))) 1014 j = if j = 1 then lL (heatS m t) else if j = 0 then lL (mi m 1051 (14 + 2 * t)) else gL μ 1014 j := by
    intro j
    rw [sL_l, sL_l]
    by_cases q : j = 1
    · rw [if_pos ⟨rfl, q⟩, if_pos q]
    · rw [if_neg (fun z => q z.2), if_neg q]
      by_cases q0 : j = 0
      · rw [if_pos ⟨rfl, q0⟩, if_pos q0]
      · rw [if_neg (fun z => q0 z.2), if_neg q0]
  revert m6 hv6
  generalize gz_sL (gz_sL μ 1014 0 (lL (mi m 1051 (14 + 2 * t)))) 1014 1 (lL (heatS m t)) = μ6
  intro m6 hv6
  rw [c_nearby (h.mv (hhE.refl m) m6.dy (m6.2.2.2.2.2 _ _)) (fun t ht => by rw [m6.2.2.2.1]; exact (s5 t ht).1) ht]
  refine pw_bind (pw_some ?_)
  dsimp only
  rw [i2l_iI (by omega)]
  refine pw_gu (by decide) (pw_gu (by decide) (pw_some ?_))
  have e3 : ∀ μ' : gM, oF μ6 μ' → (gI μ' x 0).toInt64 = lL (mi m 1051 0) := fun μ' hm => by rw [hm.2.2.2.1, m6.2.2.2.1, s1, mi_of m, i2l_iI (by have := hN.1; omega)]
  rw [e3 _ (oF.sL _ _ _)]
  refine ⟨(m6.trans (oF.sL _ _ _)).trans (oF.sL _ _ _), fun w h1 h2 => ?_⟩
  have hw : w = 0 ∨ w = 1 ∨ w = 2 ∨ w = 3 := by omega
  unfold cl
  rw [sL_l, sL_l]
  rcases hw with z | z | z | z <;> subst z
  · rw [if_neg (by decide), if_neg (by decide), hv6, if_neg (by decide), if_pos (by decide)]
    exact toInt_lL (by omega) (by omega)
  · rw [if_neg (by decide), if_neg (by decide), hv6, if_pos (by decide), hheat]
    exact toInt_lL (by omega) (by omega)
  · rw [if_neg (by decide), if_pos ⟨rfl, by decide⟩]
    exact toInt_lL (by omega) (by omega)
  · rw [if_pos ⟨rfl, by decide⟩]
    have := hN.1
    exact toInt_lL (by omega) (by omega)
theorem c_within {v : Int} (μ : gM) (h : -9223372036854775808 ≤ v ∧ v < 9223372036854775808) : cf_X0_within (lL v) (99 : Int32) μ = some (iI (cutS v), μ) := by
  have e : (99 : Int32).toInt64 = lL 99 := by decide
  unfold cf_X0_within cf_J8_min_2 cf_J8_max_2 cutS
  rw [e]
  by_cases q1 : v < 99
  · rw [if_pos (by rw [lL_lt h (by omega)]; exact q1)]
    simp only [Option.bind_some]
    by_cases q2 : 0 < v
    · rw [if_pos (by rw [lL_lit, lL_lt (by omega) h]; exact q2), if_neg (by omega), if_neg (by omega)]
      simp only [Option.bind_some]
      rw [l2i_lL (by omega)]
    · rw [if_neg (by rw [lL_lit, lL_lt (by omega) h]; exact q2)]
      simp only [Option.bind_some]
      by_cases q3 : v < 0
      · rw [if_pos q3]; rfl
      · rw [if_neg q3, if_neg (by omega), show v = 0 by omega]; rfl
  · rw [if_neg (by rw [lL_lt h (by omega)]; exact q1)]
    simp only [Option.bind_some]
    rw [if_pos (by decide), if_neg (by omega)]
    simp only [Option.bind_some]
    by_cases q2 : 99 < v
    · rw [if_pos q2]; rfl
    · rw [if_neg q2, show v = 99 by omega]; rfl
theorem c_moOK {μ : gM} (h : cLay μ) : moOK μ 1013 ∧ gP μ 1013 0 = 1014 := by
  have h1 := h 1013 (by decide)
  have h2 := h 1014 (by decide)
  have e : gP μ 1013 0 = 1014 := h1.2.2 0 (by decide)
  unfold moOK
  rw [e]
  exact ⟨⟨h1.1, by decide, h2.1, h2.2.1⟩, rfl⟩
theorem c_henv {m : MM} {μ : gM} {t : Nat} (hl : cLay μ) (h : ∀ w : Int, 0 ≤ w → w < 4 → cl μ 1014 w.toNat = envM m t w) : ∀ w : Int, 0 ≤ w → w ≤ 6 → al4 w → clp (cl μ (gP μ 1013 0) w.toNat) = clp (envM m t (prt w)) := by
  intro w h1 _ h2
  rw [(c_moOK hl).2, h w h1 h2]
  congr 2
  unfold prt al4 at *
  rw [if_neg (by omega), if_neg (by omega), if_neg (by omega)]
theorem c_onward {m : MM} {μ : gM} (hl : cLay μ) (h : rHH m μ) (hT : rTree m μ) {x : Nat} (hx : rSt m μ x) (hN : okN m) {t : Nat} (ht : (t : Int) < mi m 1038 7) (hp : 0 < mi m 1051 (14 + 2 * t)) : pw (cf_X5_onward x (iI t) μ) (fun q => q.1 = iI (nxM m t) ∧ oF μ q.2) := by
  have hb := h.1.2.1
  have hst := (hN.2.1 t (by omega)).1
  have gt : gz_ix (iI (t : Int)) = t := by rw [gix (by omega)]; omega
  unfold cf_X5_onward
  refine pw_let (pw_gu h.2.1.1 (pw_gu h.2.1.2.2.1 ?_))
  rcases hT.1 with ⟨q1, q2⟩ | ⟨q1, q2⟩
  · refine pw_t q2 (pw_gu ((gin_iI (by omega)).2 (by omega)) (pw_some ⟨?_, oF.refl _⟩))
    dsimp only
    rw [gt, (hx.2.2.2.2 t ht).1, mi_of m, iI_lit, iI_sub]
    unfold nxM cutS
    rw [if_neg (by omega), if_pos q1, if_neg (by omega), if_neg (by omega)]
  · have r0 := vRep_0 q2
    refine pw_f r0 (pw_bind (pw_mono (c_asks h hx hN ht) ?_))
    rintro ⟨u, μ6⟩ ⟨a1, a2⟩
    dsimp only at a1 a2 ⊢
    have hc : gP μ6 1000 0 = hC μ := a1.2.2.2.2.2 _ _
    have h7 : gP μ6 (hC μ) 7 = gP μ (hC μ) 7 := a1.2.2.2.2.2 _ _
    have hK : gK μ6 (hC μ) = 2 := by rw [show gK μ6 = gK μ from a1.1]; exact h.2.1.2.2.1
    refine pw_let ?_
    rw [hc]
    refine pw_gu h.2.1.1 (pw_gu hK (pw_let ?_))
    rw [h7]
    refine pw_gu r0 ?_
    obtain ⟨v, b, e, z⟩ := c_at (lk := lk0) (c_moOK (a1.lay hl)).1 (c_henv (a1.lay hl) a2) (fun q => by cases q) 60 (vRep_dy a1.dy 60 q2)
    rw [e]
    refine pw_bind (pw_some ?_)
    dsimp only
    rw [c_within _ (by omega)]
    refine pw_bind (pw_some (pw_some ⟨?_, a1⟩))
    have hv : valM m 0 t = v := val_of (z [])
    unfold nxM
    rw [if_neg (by omega), if_neg q1, hv]
theorem c_isMinding {m : MM} {μ : gM} (hl : cLay μ) (h : rHH m μ) (hT : rTree m μ) {x : Nat} (hx : rSt m μ x) (hN : okN m) {t : Nat} (ht : (t : Int) < mi m 1038 7) : pw (cf_X5_isMinding x (iI t) μ) (fun q => (q.1 = 1 ∧ mdM m t ∨ q.1 = 0 ∧ ¬ mdM m t) ∧ oF μ q.2) := by
  have hb := h.1.2.1
  unfold cf_X5_isMinding mj_X5_isMinding_21
  rw [c_isLit (by omega) (hx.2.2.2.2 t ht).1]
  refine pw_bind (pw_some ?_)
  dsimp only
  by_cases hp : 0 < mi m 1051 (14 + 2 * t)
  · rw [if_pos hp]
    refine pw_f (by decide) (pw_let (pw_gu h.2.1.1 (pw_gu h.2.1.2.2.1 ?_)))
    rcases hT.2 with ⟨q1, q2⟩ | ⟨q1, q2⟩
    · exact pw_t q2 (pw_some ⟨Or.inr ⟨rfl, fun z => z.2.1 q1⟩, oF.refl _⟩)
    · have r0 := (tRep_k q2).1
      refine pw_f r0 (pw_bind (pw_mono (c_asks h hx hN ht) ?_))
      rintro ⟨u, μ6⟩ ⟨a1, a2⟩
      dsimp only at a1 a2 ⊢
      have hc : gP μ6 1000 0 = hC μ := a1.2.2.2.2.2 _ _
      have h7 : gP μ6 (hC μ) 8 = gP μ (hC μ) 8 := a1.2.2.2.2.2 _ _
      have hK : gK μ6 (hC μ) = 2 := by rw [show gK μ6 = gK μ from a1.1]; exact h.2.1.2.2.1
      refine pw_let ?_
      rw [hc]
      refine pw_gu h.2.1.1 (pw_gu hK (pw_let ?_))
      rw [h7]
      refine pw_gu r0 ?_
      obtain ⟨v, b, e, z⟩ := c_holds (lk := lk0) (c_moOK (a1.lay hl)).1 (c_henv (a1.lay hl) a2) (fun q => by cases q) 60 (tRep_dy a1.dy 60 q2)
      rw [e]
      refine pw_bind (pw_some ?_)
      dsimp only
      have hv : valM m 1 t = v := val_of (z [])
      rcases b with y | y <;> subst y
      · exact pw_gu (Or.inl rfl) (pw_some ⟨Or.inr ⟨rfl, fun w => by have := w.2.2; omega⟩, a1⟩)
      · exact pw_gu (Or.inr rfl) (pw_some ⟨Or.inl ⟨rfl, hp, q1, hv⟩, a1⟩)
  · rw [if_neg hp]
    exact pw_t rfl (pw_some ⟨Or.inr ⟨rfl, fun z => hp z.1⟩, oF.refl _⟩)
