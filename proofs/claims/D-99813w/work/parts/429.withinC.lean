/-! ===== what stands within brackets ===== -/
theorem mulU (S : Nat) {a b : Nat} (h : a + 1 ≤ b) : S * a + S ≤ S * b := by rw [← Nat.mul_succ]; exact Nat.mul_le_mul_left _ h
theorem mulL (S : Nat) {a b : Nat} (h : a ≤ b) : S * a ≤ S * b := Nat.mul_le_mul_left _ h
theorem Tv.p {R : gM → Nat → List Int → Prop} {a b : Nat} {μ μ' : gM} {r : Nat} {cs : List Int} (h : Tv R a b μ r cs) {z : Nat} (hp : pF z μ μ') (hb : b ≤ z) : Tv R a b μ' r cs := h.mv (hp.i h.2.1.1 hb) hp.1
theorem Tv.up {R R' : gM → Nat → List Int → Prop} {a b : Nat} {μ : gM} {r : Nat} {cs : List Int} (h : Tv R a b μ r cs) (hR : ∀ (μ : gM) (r : Nat) (cs : List Int), R μ r cs → R' μ r cs) : Tv R' a b μ r cs := ⟨h.1, h.2.1, fun μ' i => hR _ _ _ (h.2.2 μ' i)⟩
section WithinC
variable {T : Nat → Int} {n S : Nat} {am : Int}
theorem closeC (F : gM → Option (Option Nat × gM)) {μ : gM} {c3 p1 o : Nat} (hL : cLx T n μ) (ha : cAt T n μ p1) (h4 : gI μ 1011 4 = iI ((o + 1 : Nat) : Int)) : pw (mj_X2_within_77 F c3 μ) (fun q => (∀ z : Nat, z ≤ gZ μ → pF z μ q.2) ∧ q.2.2.2.2.2.2 = μ.2.2.2.2.2 ∧ ((T p1 = 41 ∧ q.1 = some c3 ∧ p1 < n ∧ cAt T n q.2 (skp T n (p1 + 1)) ∧ gI q.2 1011 4 = iI o) ∨ (T p1 ≠ 41 ∧ q.1 = none ∧ cErr q.2 1 p1))) := by
  unfold mj_X2_within_77
  refine pw_bind (pw_mono (c_must hL ha (c := 41) (by omega)) ?_)
  rintro ⟨r, m2⟩ ⟨a1, a2, ⟨b1, b2, b3, b4, b5⟩ | ⟨b1, b2, b3⟩⟩
  · dsimp only at a1 a2 b2 b4 b5 ⊢
    subst b2
    refine pw_gu (zle a2) (pw_gxs (pw_let (pw_some ⟨fun z hz => (a1.dn hz).trans (pF.sI (Or.inl (by unfold pX; omega))), a2, Or.inl ⟨b1, rfl, b3, cAt.of (by rw [sI_i, if_neg (by omega)]; exact b5) (by omega), ?_⟩⟩)))
    rw [sI_i, if_pos ⟨rfl, rfl⟩, b4.at (by omega), h4, iI_lit, iI_sub]
    exact congrArg iI (by omega)
  · dsimp only at a1 a2 b2 b3 ⊢
    subst b2
    exact pw_gu (zle a2) (pw_gxn (pw_some ⟨fun z hz => a1.dn hz, a2, Or.inr ⟨b1, rfl, b3⟩⟩))
theorem withinC {al : Int → Prop} {lo : Bool} {D o : Nat} (hT : tOK T n) (hSn : 2 * n + 1000 ≤ S) (ho : o ≤ 6) {F : gM → Option (Option Nat × gM)} {sm : Nat → Nat → Rs (List Int)} (hS : o ≠ 6 → cP T n S am (vRep al lo D) (cf_X2_sum F) sm (o + 1) 428 180) (hok : rsAll T n sm) {two : Nat} (h2 : two ≤ 2) : cP T n S am (vRep al lo (D + 1)) (cf_X2_within F (iI two)) (sWithin T n sm two) o 600 0 := by
  intro μ p hL ha h4 h5
  obtain ⟨hpn, hsk⟩ := ha.le hT
  have hz := hL.2.2.2.2
  have hn := hT.1
  have hr := hT.r p
  have mp := mulL S (show p ≤ n + 2 by omega)
  unfold cf_X2_within
  refine pw_bind (pw_mono (c_here1 hL ha) ?_)
  rintro ⟨r1, m2⟩ ⟨e1, a1, a2, -⟩
  dsimp only at e1 a1 a2 ⊢
  subst e1
  have gc2 : gC m2 = gC μ := zgC a1.z
  refine pw_gu a1.z ?_
  by_cases c40 : T p = 40
  rotate_left
  · refine pw_f (by rw [iI_lit, iI_eq (by omega) (by omega)]; exact c40) ?_
    rw [a2]
    refine c_thr (α := Nat) (k := 1) (l := p) (e := fun m2 => some (none, m2)) (fun μ' b1 b2 b3 => pw_some ⟨(a1.p _).trans (b3 _), Or.inr ⟨1, p, by unfold sWithin; rw [if_pos c40], rfl, b1, ?_⟩⟩)
    show gC μ' + _ ≤ _
    rw [zgC b2, gc2]
    omega
  refine pw_t (by rw [c40]; rfl) ?_
  rw [a2]
  refine pw_bind (pw_mono (c_opens (μ := m2) (o := o) ((a1.at (by omega)).trans h4) ho p) ?_)
  rintro ⟨r9, m7⟩ ⟨a3, a4, ⟨d1, d2, d3⟩ | ⟨d1, d2, d3⟩⟩
  · dsimp only at a3 a4 d2 d3 ⊢
    subst d2
    refine pw_gu (zle a4) (pw_gxn (pw_some ⟨(a1.p _).trans (a3.dn (by rw [show gZ m2 = gZ μ from congrArg Prod.fst a1.z]; exact Nat.le_refl _)), Or.inr ⟨4, p, by unfold sWithin; rw [if_neg (fun z => z c40), if_pos d1], rfl, d3, ?_⟩⟩))
    show gC m7 + _ ≤ _
    rw [zgC a4, gc2]
    omega
  dsimp only at a3 a4 d2 d3 ⊢
  subst d2
  have hp1 := T_lt hT c40 (by omega)
  refine pw_gu (zle a4) (pw_gxs (pw_let ?_))
  have i72 : gI m7 1011 2 = iI p := by rw [d3, sI_i, if_neg (by omega)]; exact a2
  have e1 : iI (p : Int) + (1 : Int32) = iI ((p + 1 : Nat) : Int) := by rw [iI_lit, iI_add]; rfl
  rw [i72, e1]
  have f11 : ∀ z : Nat, pF z μ (gz_sI m7 1011 2 (iI ((p + 1 : Nat) : Int))) := fun z => by
    rw [d3]
    exact ((a1.p z).trans (pF.sI (Or.inl (by unfold pX; omega)))).trans (pF.sI (Or.inl (by unfold pX; omega)))
  have z11 : (gz_sI m7 1011 2 (iI ((p + 1 : Nat) : Int))).2.2.2.2.2 = μ.2.2.2.2.2 := by rw [d3]; exact a1.z
  have i2 : gI (gz_sI m7 1011 2 (iI ((p + 1 : Nat) : Int))) 1011 2 = iI ((p + 1 : Nat) : Int) := by rw [sI_i, if_pos ⟨rfl, rfl⟩]
  have i4 : gI (gz_sI m7 1011 2 (iI ((p + 1 : Nat) : Int))) 1011 4 = iI ((o + 1 : Nat) : Int) := by rw [sI_i, if_neg (by omega), d3, sI_i, if_pos ⟨rfl, rfl⟩]
  have i5 : gI (gz_sI m7 1011 2 (iI ((p + 1 : Nat) : Int))) 1011 5 = iI am := by rw [sI_i, if_neg (by omega), d3, sI_i, if_neg (by omega), a1.at (by omega)]; exact h5
  generalize gz_sI m7 1011 2 (iI ((p + 1 : Nat) : Int)) = m11 at f11 z11 i2 i4 i5
  have gz11 : gZ m11 = gZ μ := congrArg Prod.fst z11
  have gc11 : gC m11 = gC μ := zgC z11
  have hL11 := hL.p (f11 _)
  have gsk := skp_ge T n (p + 1)
  have hskn := skp_le hT (show p + 1 ≤ n from hp1)
  have mu1 := mulU S gsk
  refine pw_bind (pw_mono (hS d1 m11 (skp T n (p + 1)) hL11 (cAt.of i2 (by omega)) i4 i5) ?_)
  rintro ⟨r15, m13⟩ ⟨a5, ⟨p1, c1, r1, b1, b2, b3, b4, b5, b6⟩ | ⟨k, l, b1, b2, b3, b4⟩⟩
  rotate_left
  · dsimp only at a5 b2 b3 b4 ⊢
    subst b2
    refine pw_gu ⟨a5.1, a5.2.1⟩ (pw_gxn (pw_some ⟨(f11 _).trans (a5.dn (by omega)), Or.inr ⟨k, l, by unfold sWithin; rw [if_neg (fun z => z c40), if_neg d1, b1], rfl, b3, ?_⟩⟩))
    show gC m13 + _ ≤ _
    omega
  dsimp only at a5 b2 b3 b4 b5 b6 ⊢
  subst b2
  have hk1 := (hok (o + 1) _ hskn (skp_skp hT _)).get b1
  have mn1 := mulL S (show p1 ≤ n + 2 by omega)
  have f13 : pF (gZ μ) μ m13 := (f11 _).trans (a5.dn (by omega))
  have hL13 := hL.p f13
  have z13 := a5.1
  refine pw_gu ⟨a5.1, a5.2.1⟩ (pw_gxs ?_)
  by_cases t0 : two = 0
  · subst t0
    refine pw_t (by decide) ?_
    refine pw_mono (closeC F hL13 b4 b5) ?_
    rintro ⟨q, m'⟩ ⟨w1, w2, ⟨x1, x2, x3, x4, x5⟩ | ⟨x1, x2, x3⟩⟩
    · dsimp only at w1 w2 x2 x4 x5 ⊢
      subst x2
      have mu2 := mulU S (skp_ge T n (p1 + 1))
      have gcm : gC m' = gC m13 := zgC w2
      have gzm : gZ m' = gZ m13 := congrArg Prod.fst w2
      refine ⟨f13.trans (w1 _ (by omega)), Or.inl ⟨skp T n (p1 + 1), c1, r1, by unfold sWithin; rw [if_neg (fun z => z c40), if_neg d1, b1]; dsimp only; rw [if_pos rfl, if_pos x1], rfl, ?_, x4, x5, by omega⟩⟩
      have := (b3.p (w1 _ (Nat.le_refl _)) (Nat.le_refl _)).up (fun _ _ _ h => vRep_s _ h)
      rw [gz11, ← gzm] at this
      exact this
    · dsimp only at w1 w2 x2 x3 ⊢
      subst x2
      have gcm : gC m' = gC m13 := zgC w2
      exact ⟨f13.trans (w1 _ (by omega)), Or.inr ⟨1, p1, by unfold sWithin; rw [if_neg (fun z => z c40), if_neg d1, b1]; dsimp only; rw [if_pos rfl, if_neg x1], rfl, x3, by omega⟩⟩
  refine pw_f (by rw [iI_lit, iI_le (by omega) (by omega)]; omega) ?_
  refine pw_bind (pw_mono (c_must hL13 b4 (c := 44) (by omega)) ?_)
  rintro ⟨r21, m19⟩ ⟨a6, a7, ⟨g1, g2, g3, g4, g5⟩ | ⟨g1, g2, g3⟩⟩
  rotate_left
  · dsimp only at a6 a7 g2 g3 ⊢
    subst g2
    have gcm : gC m19 = gC m13 := zgC a7
    exact pw_gu (zle a7) (pw_gxn (pw_some ⟨f13.trans (a6.dn (by omega)), Or.inr ⟨1, p1, by unfold sWithin; rw [if_neg (fun z => z c40), if_neg d1, b1]; dsimp only; rw [if_neg t0, if_pos g1], rfl, g3, by show gC m19 + _ ≤ _; omega⟩⟩))
  dsimp only at a6 a7 g2 g4 g5 ⊢
  subst g2
  have gc19 : gC m19 = gC m13 := zgC a7
  have gz19 : gZ m19 = gZ m13 := congrArg Prod.fst a7
  refine pw_gu (zle a7) (pw_gxs (pw_gu (by omega) (pw_let ?_)))
  have f24 : pF (gZ m19) m19 (gz_al m19 (11 + 1) 0 3) := pF.al (Nat.le_refl _)
  have k24 : gK (gz_al m19 (11 + 1) 0 3) (gZ m19) = 12 := by rw [al_k, if_pos rfl]
  have gz24 : gZ (gz_al m19 (11 + 1) 0 3) = gZ m19 + 1 := rfl
  have gc24 : gC (gz_al m19 (11 + 1) 0 3) = gC m19 + 11 := by
    show 8 * (gZ m19 + 1) + (gW m19 + 3) = 8 * gZ m19 + gW m19 + 11
    omega
  have j24 : ∀ j : Nat, gI (gz_al m19 (11 + 1) 0 3) 1011 j = gI m19 1011 j := fun j => by rw [al_i, if_neg (by omega)]
  generalize gz_al m19 (11 + 1) 0 3 = m24 at f24 k24 gz24 gc24 j24
  have gsk2 := skp_ge T n (p1 + 1)
  have hskn2 := skp_le hT (show p1 + 1 ≤ n from g3)
  have mu2 := mulU S gsk2
  have f24' : pF (gZ m13) m13 m24 := a6.trans (f24.dn (by omega))
  have key : ∀ s0 : Int, (s0 = 0 ∧ two = 1) ∨ (s0 = 1 ∧ two = 2) → pw (mj_X2_within_68 F r1 (iI s0) (gZ m19) (gZ m19) m24) (fun q => pF (gZ μ) μ q.2 ∧ ((∃ (p' : Nat) (cs : List Int) (r : Nat), sWithin T n sm two o p = Sum.inr (p', cs) ∧ q.1 = some r ∧ Tv (vRep al lo (D + 1)) (gZ μ) (gZ q.2) q.2 r cs ∧ cAt T n q.2 p' ∧ gI q.2 1011 4 = iI o ∧ gC q.2 + S * p + 600 ≤ gC μ + S * p') ∨ ∃ (k : Int) (l : Nat), sWithin T n sm two o p = Sum.inl (k, l) ∧ q.1 = none ∧ cErr q.2 k l ∧ gC q.2 + S * p ≤ gC μ + S * (n + 2) + 0)) := by
    intro s0 hs0
    unfold mj_X2_within_68
    refine pw_bind (pw_mono (hS d1 m24 (skp T n (p1 + 1)) (hL13.p f24') (cAt.of ((j24 2).trans g5) (by omega)) (((j24 4).trans (g4.at (by omega))).trans b5) (((j24 5).trans (g4.at (by omega))).trans ((a5.at5 (by omega)).trans i5))) ?_)
    rintro ⟨r4, m5⟩ ⟨y0, ⟨p2, c2, r2, y1, y2, y3, y4, y5, y6⟩ | ⟨k, l, y1, y2, y3, y4⟩⟩
    rotate_left
    · dsimp only at y0 y2 y3 y4 ⊢
      subst y2
      refine pw_gu ⟨y0.1, y0.2.1⟩ (pw_gxn (pw_some ⟨(f13.trans (f24'.dn (by omega))).trans (y0.dn (by omega)), Or.inr ⟨k, l, by unfold sWithin; rw [if_neg (fun z => z c40), if_neg d1, b1]; dsimp only; rw [if_neg t0, if_neg (fun z => z g1), y1], rfl, y3, ?_⟩⟩))
      show gC m5 + _ ≤ _
      omega
    dsimp only at y0 y2 y3 y4 y5 y6 ⊢
    subst y2
    have y0z := y0.1
    have hk2 := (hok (o + 1) _ hskn2 (skp_skp hT _)).get y1
    have mn2 := mulL S (show p2 ≤ n + 2 by omega)
    refine pw_gu ⟨y0.1, y0.2.1⟩ (pw_gxs ?_)
    have kc : gK m5 (gZ m19) = 12 := ((y0.2.2 (gZ m19) (by omega)).1).trans k24
    have r1z : r1 ≠ 0 := by have := b3.1; omega
    have r2z : r2 ≠ 0 := by have := y3.1; omega
    have hs01 : iI s0 = 0 ∨ iI s0 = 1 := by rcases hs0 with ⟨z, _⟩ | ⟨z, _⟩ <;> rw [z]; exact Or.inl rfl; exact Or.inr rfl
    have init : cf_X13_init (gZ m19) (iI s0) r1 r2 m5 = some ((), gz_sP (gz_sP (gz_sI m5 (gZ m19) 0 (iI s0)) (gZ m19) 1 r1) (gZ m19) 2 r2) := by
      unfold cf_X13_init cf_X11_init
      simp only [Option.bind_some, gz_let]
      rw [if_pos kc, if_pos hs01, if_pos (by omega), if_pos (show gK (gz_sI m5 (gZ m19) 0 (iI s0)) (gZ m19) = 12 from kc), if_pos (by omega), if_pos ⟨sr_hi2 (by omega) 1, r1z⟩, if_pos (show gK (gz_sP (gz_sI m5 (gZ m19) 0 (iI s0)) (gZ m19) 1 r1) (gZ m19) = 12 from kc), if_pos (by omega), if_pos ⟨sr_hi2 (by omega) 2, r2z⟩]
    rw [init]
    have z7 : (gz_sP (gz_sP (gz_sI m5 (gZ m19) 0 (iI s0)) (gZ m19) 1 r1) (gZ m19) 2 r2).2.2.2.2.2 = m5.2.2.2.2.2 := rfl
    have f7 : sFr (gZ m19) m5 (gz_sP (gz_sP (gz_sI m5 (gZ m19) 0 (iI s0)) (gZ m19) 1 r1) (gZ m19) 2 r2) := ((sFr.sI (Nat.le_refl _)).trans (sFr.sP (Nat.le_refl _))).trans (sFr.sP (Nat.le_refl _))
    have kc7 : gK (gz_sP (gz_sP (gz_sI m5 (gZ m19) 0 (iI s0)) (gZ m19) 1 r1) (gZ m19) 2 r2) (gZ m19) = 12 := kc
    have i7 : gI (gz_sP (gz_sP (gz_sI m5 (gZ m19) 0 (iI s0)) (gZ m19) 1 r1) (gZ m19) 2 r2) (gZ m19) 0 = iI s0 := by show gI (gz_sI m5 (gZ m19) 0 (iI s0)) (gZ m19) 0 = _; rw [sI_i, if_pos ⟨rfl, rfl⟩]
    have p71 : gP (gz_sP (gz_sP (gz_sI m5 (gZ m19) 0 (iI s0)) (gZ m19) 1 r1) (gZ m19) 2 r2) (gZ m19) 1 = r1 := by rw [sP_p, if_neg (by omega), sP_p, if_pos ⟨rfl, rfl⟩]
    have p72 : gP (gz_sP (gz_sP (gz_sI m5 (gZ m19) 0 (iI s0)) (gZ m19) 1 r1) (gZ m19) 2 r2) (gZ m19) 2 = r2 := by rw [sP_p, if_pos ⟨rfl, rfl⟩]
    have hi7 : ∀ a b : Nat, gZ m19 < a → inR a b m5 (gz_sP (gz_sP (gz_sI m5 (gZ m19) 0 (iI s0)) (gZ m19) 1 r1) (gZ m19) 2 r2) := fun a b hab => fun x l r => by
      refine ⟨rfl, rfl, fun j => ⟨?_, rfl, ?_⟩⟩
      · show gI (gz_sI m5 (gZ m19) 0 (iI s0)) x j = _
        rw [sI_i, if_neg (by omega)]
      · rw [sP_p, if_neg (by omega), sP_p, if_neg (by omega)]
        rfl
    generalize gz_sP (gz_sP (gz_sI m5 (gZ m19) 0 (iI s0)) (gZ m19) 1 r1) (gZ m19) 2 r2 = m7' at z7 f7 kc7 i7 p71 p72 hi7
    have gz7 : gZ m7' = gZ m5 := congrArg Prod.fst z7
    have gc7 : gC m7' = gC m5 := zgC z7
    refine pw_bind (pw_some (pw_gu z7 ?_))
    have fall : pF (gZ m13) m13 m7' := (f24'.trans (y0.dn (by omega))).trans (f7.dn (by omega)).p
    refine pw_mono (closeC F (hL13.pz (by omega) fall) (y4.p (f7.at (by omega) 2)) ((f7.at (by omega) 4).trans y5)) ?_
    rintro ⟨q, m'⟩ ⟨w1, w2, ⟨x1, x2, x3, x4, x5⟩ | ⟨x1, x2, x3⟩⟩
    · dsimp only at w1 w2 x2 x4 x5 ⊢
      subst x2
      have mu3 := mulU S (skp_ge T n (p2 + 1))
      have gcm : gC m' = gC m7' := zgC w2
      have gzm : gZ m' = gZ m7' := congrArg Prod.fst w2
      refine ⟨(f13.trans (fall.dn (by omega))).trans (w1 _ (by omega)), Or.inl ⟨skp T n (p2 + 1), c1 ++ (c2 ++ [4 + (two : Int)]), gZ m19, by unfold sWithin; rw [if_neg (fun z => z c40), if_neg d1, b1]; dsimp only; rw [if_neg t0, if_neg (fun z => z g1), y1]; dsimp only; rw [if_pos x1], rfl, ?_, x4, x5, by omega⟩⟩
      have w1' := w1 (gZ m7') (Nat.le_refl _)
      refine ⟨⟨by omega, by omega⟩, ⟨by omega, Nat.le_refl _⟩, fun μ' hi => ?_⟩
      have hm7 : inR (gZ μ) (gZ m') m7' μ' := (w1'.i (by omega) (by omega)).trans hi
      obtain ⟨o1, o2, o3⟩ := hm7 (gZ m19) (by omega) (by omega)
      refine ⟨by omega, ks_hi (by omega), Or.inr (Or.inr (Or.inl ⟨o1.trans kc7, c1, c2, s0, by omega, ((o3 0).1).trans i7, ?_, ?_, ?_⟩))⟩
      · rw [(o3 1).2.2, p71]
        refine b3.2.2 μ' ?_
        refine ((f24'.i (by omega) (Nat.le_refl _)).trans (y0.i (by omega) (by omega))).trans (((f7.dn (by omega)).p.i (by omega) (Nat.le_refl _)).trans (hm7.dn (by omega) (by omega)))
      · rw [(o3 2).2.2, p72]
        refine y3.2.2 μ' ?_
        exact (hi7 _ _ (by omega)).trans (hm7.dn (by omega) (by omega))
      · rw [show 4 + (two : Int) = 5 + s0 by omega]
    · dsimp only at w1 w2 x2 x3 ⊢
      subst x2
      have gcm : gC m' = gC m7' := zgC w2
      exact ⟨(f13.trans (fall.dn (by omega))).trans (w1 _ (by omega)), Or.inr ⟨1, p2, by unfold sWithin; rw [if_neg (fun z => z c40), if_neg d1, b1]; dsimp only; rw [if_neg t0, if_neg (fun z => z g1), y1]; dsimp only; rw [if_neg x1], rfl, x3, by omega⟩⟩
  by_cases t2 : two = 2
  · refine pw_t (by rw [t2]; rfl) ?_
    exact key 1 (Or.inr ⟨rfl, t2⟩)
  · refine pw_f (by rw [iI_lit, iI_eq (by omega) (by omega)]; omega) ?_
    exact key 0 (Or.inl ⟨rfl, by omega⟩)
end WithinC
