/-! ===== round: the component reaches one thing ===== -/
/-- what trying may change -/
def rcF (μ ν : gM) : Prop := ν.1 = μ.1 ∧ ν.2.1 = μ.2.1 ∧ ν.2.2.2.2.2 = μ.2.2.2.2.2 ∧ (∀ c j : Nat, c ≠ 1014 → gL ν c j = gL μ c j) ∧ (∀ c j : Nat, ¬ (1073 ≤ c ∧ c < 1119) → gI ν c j = gI μ c j) ∧ ∀ c j : Nat, c ≠ 1078 → gP ν c j = gP μ c j
theorem rcF.refl (μ : gM) : rcF μ μ := ⟨rfl, rfl, rfl, fun _ _ _ => rfl, fun _ _ _ => rfl, fun _ _ _ => rfl⟩
theorem rcF.trans {a b c : gM} (h1 : rcF a b) (h2 : rcF b c) : rcF a c := ⟨h2.1.trans h1.1, h2.2.1.trans h1.2.1, h2.2.2.1.trans h1.2.2.1, fun u v k => (h2.2.2.2.1 u v k).trans (h1.2.2.2.1 u v k), fun u v k => (h2.2.2.2.2.1 u v k).trans (h1.2.2.2.2.1 u v k), fun u v k => (h2.2.2.2.2.2 u v k).trans (h1.2.2.2.2.2 u v k)⟩
theorem rcF.c {a b : gM} (h : cF 1073 a b) : rcF a b := ⟨h.1, h.2.1, h.2.2.1, h.2.2.2.1, fun c j k => h.2.2.2.2.1 c j (by omega), h.2.2.2.2.2⟩
theorem rcF.y {a b : gM} (h : yF 1073 a b) : rcF a b := ⟨h.1, h.2.1, h.2.2.1, fun c j _ => h.2.2.2.1 c j, fun c j k => h.2.2.2.2.1 c j (by omega), fun c j _ => h.2.2.2.2.2 c j⟩
theorem rcF.o {a b : gM} (h : oF a b) : rcF a b := rcF.c (cF.of h)
theorem rcF.sc {a b : gM} (h : rcF a b) : cSc a b := ⟨h.1, h.2.1, h.2.2.1, fun c j k => h.2.2.2.2.1 c j (by unfold scC at k; omega), fun c j k _ => h.2.2.2.1 c j k, h.2.2.2.2.2⟩
theorem rcF.sI {a : gM} {j : Nat} (v : Int32) : rcF a (gz_sI a 1073 j v) := ⟨rfl, rfl, rfl, fun _ _ _ => rfl, fun c j k => by rw [sI_i, if_neg (by omega)], fun _ _ _ => rfl⟩
section Reach
variable {m : MM} {μ : gM} {t : Nat}
/-- all that is known of the house while trying -/
def rcW (l : List (Int × Int × Int)) (m : MM) (μ ν : gM) : Prop := rCo l m μ ∧ rWay m μ ∧ cSc μ ν
theorem rcW.mv {l : List (Int × Int × Int)} {ν ξ : gM} (h : rcW l m μ ν) (f : rcF ν ξ) : rcW l m μ ξ := ⟨h.1, h.2.1, h.2.2.trans f.sc⟩
theorem rcW.lay {l : List (Int × Int × Int)} {ν : gM} (h : rcW l m μ ν) : cLay ν := h.2.2.lay h.1.1
theorem rcW.hh {l : List (Int × Int × Int)} {ν : gM} {w : MM} (h : rcW l m μ ν) (hw : hhE m w) : rHH w ν := h.1.2.1.mv hw h.2.2.dy (h.2.2.2.2.2.2.2 _ _ (by omega))
theorem rcW.tr {l : List (Int × Int × Int)} {ν : gM} {w : MM} (h : rcW l m μ ν) (hw : hhE m w) : rTree w ν := h.1.2.2.1.mv h.1.2.1 hw h.2.2.dy (h.2.2.2.2.2.2.2 _ _ (by omega))
theorem rcW.way {l : List (Int × Int × Int)} {ν : gM} {w : MM} (h : rcW l m μ ν) (hw : hhE m w) : rWay w ν := fun a b ha hb => by
  unfold ci
  rw [hw.at (by omega), h.2.2.2.2.2.1 _ _ (by unfold scC; omega)]
  exact h.2.1 a b ha hb
theorem c_goesOn {l l1 : List (Int × Int × Int)} {w : MM} {ν : gM} (h : rcW l m μ ν) (hw : wlO m w) (hS : rSt w ν 1073) (hk : kC l1 ν 1073) {n : Nat} (hn : n ≤ 900) : pw (cf_X0_goesOn (iI n) ν) (fun q => rcF ν q.2 ∧ ((mi w 1051 0 + n ≤ 999 ∧ q.1 = 1 ∧ rSt (hoursS n w) q.2 1073 ∧ kC (kN w l1 n) q.2 1073) ∨ (¬ mi w 1051 0 + n ≤ 999 ∧ q.1 = 0 ∧ q.2 = ν))) := by
  have h0 := hw.2.1.1
  unfold cf_X0_goesOn
  rw [hS.1, mi_of w, iI_add]
  refine pw_if (fun q => ?_) (fun q => ?_)
  · rw [show (999 : Int32) = iI 999 from rfl, iI_le (by omega) (by omega)] at q
    refine pw_bind (pw_mono (c_goesBy (x := 1073) (by decide) h.lay hw.2.1 (h.hh hw.1) (h.tr hw.1) hS hk (n := n) (by omega)) ?_)
    rintro ⟨r, ξ⟩ ⟨c1, c2, c3, c4⟩
    exact pw_some ⟨rcF.c c4, Or.inl ⟨q, rfl, c2, c3⟩⟩
  · rw [show (999 : Int32) = iI 999 from rfl, iI_le (by omega) (by omega)] at q
    exact pw_some ⟨rcF.refl ν, Or.inr ⟨q, rfl, rfl⟩⟩
def rcQ (ν : gM) (o : Option MM) (q : Int32 × gM) : Prop := rcF ν q.2 ∧ rowOK q.2 1073 ∧ ((∃ (w' : MM) (l' : List (Int × Int × Int)), o = some w' ∧ q.1 = 1 ∧ rSt w' q.2 1073 ∧ kC l' q.2 1073) ∨ (o = none ∧ q.1 = 0))
theorem c_reach65 {l l1 : List (Int × Int × Int)} {w : MM} {ν : gM} (h : rcW l m μ ν) (hw : wlO m w) (hS : rSt w ν 1073) (hk : kC l1 ν 1073) (ht : (t : Int) < mi m 1038 7) : pw (ml_X0_reaches_65 (iI t) 0 ν) (rcQ ν (wtS t 20 w)) := by
  have hM := h.1.2.1.1
  have hb := hM.2.1
  unfold ml_X0_reaches_65
  have step : ∀ (i : Nat) (ξ : gM) (w1 : MM) (l2 : List (Int × Int × Int)) (Q : ((Int32 × Int32 × gM) ⊕ (Int32 × gM)) → Prop), i ≤ 20 → rcF ν ξ → rSt w1 ξ 1073 → kC l2 ξ 1073 → wlO m w1 → wtS t (20 - i) w1 = wtS t 20 w → (∀ (r : Int32) (ζ : gM), rcQ ν (wtS t 20 w) (r, ζ) → Q (Sum.inr (r, ζ))) → (i < 20 → ∀ (ζ : gM) (l3 : List (Int × Int × Int)), rcF ν ζ → rSt (hourM w1) ζ 1073 → kC l3 ζ 1073 → wlO m (hourM w1) → wtS t (20 - (i + 1)) (hourM w1) = wtS t 20 w → Q (Sum.inl (iI t, iI ((i + 1 : Nat) : Int), ζ))) → pw (mb_X0_reaches_65 (iI t) (iI i) ξ) Q := by
    intro i ξ w1 l2 Q hi f1 hS1 hk1 hw1 ew hR hL
    have g := h.mv f1
    have t7 : (t : Int) < mi w1 1038 7 := by rw [hw1.1.at (by omega)]; exact ht
    unfold mb_X0_reaches_65
    refine pw_bind (pw_mono (c_isMinding g.lay (g.hh hw1.1) (g.tr hw1.1) hS1 hw1.2.1 t7) ?_)
    rintro ⟨r, ζ⟩ ⟨c1, c2⟩
    dsimp only at c1 c2 ⊢
    have f2 := f1.trans (rcF.o c2)
    have S2 : rSt w1 ζ 1073 := hS1.sc (hw1.1.many hM) (fun _ => rfl) (fun _ _ => rfl) (fun _ => rfl) (fun c j _ _ => c2.2.2.2.1 c j)
    have K2 : kC l2 ζ 1073 := hk1.oF c2
    have g2 := h.mv f2
    have h0 := hw1.2.1.1
    rcases c1 with ⟨e, hmd⟩ | ⟨e, hmd⟩
    · subst e
      have q := (mdB_iff w1 t).mpr hmd
      refine pw_f n10 ?_
      by_cases p : i = 20
      · subst p
        unfold mj_X0_reaches_90
        refine pw_t rfl (pw_map (pw_some (hR _ _ ⟨f2, K2.2.2.1, Or.inr ⟨?_, rfl⟩⟩)))
        rw [← ew]
        exact if_pos q
      · refine pw_f (by rw [show (20 : Int32) = iI 20 from rfl, iI_eq (by omega) (by omega)]; omega) ?_
        have en : wtS t (20 - i) w1 = (if mi w1 1051 0 = 999 then none else wtS t (20 - (i + 1)) (hourM w1)) := by
          rw [show 20 - i = (20 - (i + 1)) + 1 by omega]
          exact if_pos q
        refine pw_bind (pw_mono (c_goesOn g2 hw1 S2 K2 (n := 1) (by omega)) ?_)
        rintro ⟨r2, θ⟩ ⟨d1, d2⟩
        dsimp only at d1 d2 ⊢
        have hle := hw1.2.2.1
        rcases d2 with ⟨d3, d4, d5, d6⟩ | ⟨d3, d4, d5⟩
        · subst d4
          have nq : ¬ mi w1 1051 0 = 999 := by omega
          rw [if_neg nq] at en
          refine pw_f n10 (pw_let (pw_some ?_))
          show Q (Sum.inl (iI t, iI (i : Int) + 1, θ))
          rw [show iI (i : Int) + (1 : Int32) = iI ((i + 1 : Nat) : Int) by rw [iI_lit, iI_add]; rfl]
          exact hL (by omega) θ _ (f2.trans d1) d5 d6 (hour_wlO hM hw1 nq) (by rw [← en]; exact ew)
        · subst d4; subst d5
          have nq : mi w1 1051 0 = 999 := by omega
          rw [if_pos nq] at en
          unfold mj_X0_reaches_90
          exact pw_t rfl (pw_map (pw_some (hR _ _ ⟨f2, K2.2.2.1, Or.inr ⟨by rw [← ew, en], rfl⟩⟩)))
    · subst e
      have q : ¬ mdB w1 t = true := fun z => hmd ((mdB_iff w1 t).mp z)
      refine pw_t rfl ?_
      rw [c_isLit (m := w1) (by omega) (S2.2.2.2.2 t t7).1]
      refine pw_bind (pw_some ?_)
      dsimp only
      have ev := wtS_no q (20 - i)
      rw [ew] at ev
      unfold outM at ev
      unfold mj_X0_reaches_118
      by_cases p : 0 < mi w1 1051 (14 + 2 * t)
      · rw [if_pos p]
        rw [if_pos p] at ev
        refine pw_f n10 ?_
        refine pw_bind (pw_mono (c_putsOut (x := 1073) (by decide) (g2.hh hw1.1) S2 K2 (t := t) (by omega)) ?_)
        rintro ⟨r2, θ⟩ ⟨d1, d2, d3, d4⟩
        dsimp only at d1 d2 d3 d4 ⊢
        exact pw_map (pw_some (hR _ _ ⟨f2.trans (rcF.c d4), d3.2.2.1, Or.inl ⟨_, _, ev, rfl, d2, d3⟩⟩))
      · rw [if_neg p]
        rw [if_neg p] at ev
        exact pw_t rfl (pw_map (pw_some (hR _ _ ⟨f2, K2.2.2.1, Or.inl ⟨_, _, ev, rfl, S2, K2⟩⟩)))
  refine pw_for (fun i q => q.1 = iI t ∧ q.2.1 = iI (i : Int) ∧ rcF ν q.2.2 ∧ ∃ (w1 : MM) (l2 : List (Int × Int × Int)), rSt w1 q.2.2 1073 ∧ kC l2 q.2.2 1073 ∧ wlO m w1 ∧ wtS t (20 - i) w1 = wtS t 20 w) 20 ?_ ?_ ⟨rfl, rfl, rcF.refl ν, w, l1, hS, hk, hw, rfl⟩
  · rintro i ⟨y1, y2, ξ⟩ hi ⟨e1, e2, f1, w1, l2, hS1, hk1, hw1, ew⟩
    dsimp only at e1 e2 f1 hS1 hk1 ⊢
    subst e1; subst e2
    exact step i ξ w1 l2 _ (by omega) f1 hS1 hk1 hw1 ew (fun r ζ hz => hz) (fun _ ζ l3 a1 a2 a3 a4 a5 => ⟨rfl, rfl, a1, hourM w1, l3, a2, a3, a4, a5⟩)
  · rintro ⟨y1, y2, ξ⟩ ⟨e1, e2, f1, w1, l2, hS1, hk1, hw1, ew⟩
    dsimp only at e1 e2 f1 hS1 hk1 ⊢
    subst e1; subst e2
    exact step 20 ξ w1 l2 _ (by omega) f1 hS1 hk1 hw1 ew (fun r ζ hz => hz) (fun z => by omega)
theorem c_reaches {l l1 : List (Int × Int × Int)} {w : MM} {ν : gM} (h : rcW l m μ ν) (hw : wlO m w) (hS : rSt w ν 1073) (hk : kC l1 ν 1073) (ht : (t : Int) < mi m 1038 7) : pw (cf_X0_reaches (iI t) ν) (rcQ ν (viS t w)) := by
  have hM := h.1.2.1.1
  have hb := hM.2.1
  have t7 : (t : Int) < mi w 1038 7 := by rw [hw.1.at (by omega)]; exact ht
  have hl := (hw.2.1.2.2.2 t t7).1
  have at8 := hw.2.2.2
  have hwy := h.way hw.1
  unfold cf_X0_reaches
  rw [c_isLit (m := w) (by omega) (hS.2.2.2.2 t t7).1]
  refine pw_bind (pw_some ?_)
  dsimp only
  by_cases p : 0 < mi w 1051 (14 + 2 * t)
  · have ev : viS t w = (if wyM w t = -1 then none else if mi w 1051 0 + wyM w t ≤ 999 then wtS t 20 (atM (hoursS (wyM w t).toNat w) (hlM w t)) else none) := if_pos p
    rw [if_pos p]
    refine pw_f n10 ?_
    obtain ⟨u1, u2, u3, u4, u5⟩ := (h.hh hw.1).2.2.1 t t7
    rw [c_thingOf (h.hh hw.1) t7]
    refine pw_bind (pw_some (pw_gu u1 ?_))
    dsimp only
    obtain ⟨xa, hxa⟩ : ∃ n : Nat, mi w 1051 1 = n := ⟨(mi w 1051 1).toNat, by omega⟩
    obtain ⟨xh, hxh⟩ : ∃ n : Nat, mi w 1041 (16 + 2 * t) = n := ⟨(mi w 1041 (16 + 2 * t)).toNat, by omega⟩
    have ewy : mi w 1050 (8 * xa + xh) = wyM w t := by
      unfold wyM hlM
      rw [hxa, hxh, Int.toNat_natCast, Int.toNat_natCast]
    rw [hS.2.1, mi_of w 1051 1, hxa, ci_of ν (thC ν t) 1, u2, hxh, c_wayBetween hwy (by omega) (by omega), ewy]
    refine pw_bind (pw_some ?_)
    dsimp only
    have wy : -1 ≤ wyM w t ∧ wyM w t ≤ 900 := by
      rw [← ewy]
      rcases hwy xa xh (by omega) (by omega) with ⟨z, -⟩ | ⟨z, -⟩ <;> omega
    unfold mj_X0_reaches_46
    refine pw_if (fun q => ?_) (fun q => ?_)
    · rw [show (-1 : Int32) = iI (-1) by decide, iI_eq (by omega) (by omega)] at q
      exact pw_some ⟨rcF.refl ν, hk.2.2.1, Or.inr ⟨by rw [ev, if_pos q], rfl⟩⟩
    · rw [show (-1 : Int32) = iI (-1) by decide, iI_eq (by omega) (by omega)] at q
      obtain ⟨n, hn⟩ : ∃ n : Nat, wyM w t = n := ⟨(wyM w t).toNat, by omega⟩
      rw [if_neg q, hn, Int.toNat_natCast] at ev
      rw [hn]
      refine pw_bind (pw_mono (c_goesOn h hw hS hk (n := n) (by omega)) ?_)
      rintro ⟨r, ξ⟩ ⟨c1, c2⟩
      dsimp only at c1 c2 ⊢
      rcases c2 with ⟨c3, c4, c5, c6⟩ | ⟨c3, c4, c5⟩
      · subst c4
        rw [if_pos c3] at ev
        have hhn := hw.1.trans (hoursS_hh w n)
        have g := h.mv c1
        have t7' : (t : Int) < mi (hoursS n w) 1038 7 := by rw [hhn.at (by omega)]; exact ht
        obtain ⟨v1, v2, v3, v4, v5⟩ := (g.hh hhn).2.2.1 t t7'
        refine pw_f n10 ?_
        rw [c_thingOf (g.hh hhn) t7']
        refine pw_bind (pw_some (pw_gu v1 (pw_let ?_)))
        dsimp only
        have eh : mi (hoursS n w) 1041 (16 + 2 * t) = hlM w t := (hoursS_hh w n).at (by omega)
        rw [ci_of ξ (thC ξ t) 1, v2, eh]
        have f2 : rcF ν (gz_sI ξ 1073 2 (iI (hlM w t))) := c1.trans (rcF.sI _)
        refine pw_mono (c_reach65 (h.mv f2) (at_wlO hM hw ht (by omega)) (c5.at_ (hlM w t)) (c6.sI (by omega)) ht) ?_
        rintro ⟨r1, d⟩ ⟨d1, d2, d3⟩
        rw [← ev] at d3
        exact ⟨f2.trans d1, d2, d3⟩
      · subst c4; subst c5
        rw [if_neg c3] at ev
        exact pw_t rfl (pw_some ⟨rcF.refl _, hk.2.2.1, Or.inr ⟨ev, rfl⟩⟩)
  · rw [if_neg p]
    exact pw_t rfl (pw_some ⟨rcF.refl ν, hk.2.2.1, Or.inl ⟨w, l1, if_neg p, rfl, hS, hk⟩⟩)
end Reach
