section FactC2
variable {T : Nat → Int} {n S : Nat} {ask : Bool}
theorem fact_sq {ft : Nat → Nat → Rs (List Int)} {o p : Nat} (c : T p = 91) : sFactF T n ask ft o p = (if o = 6 then Sum.inl (4, p) else match sTest T n ft (o + 1) (skp T n (p + 1)) with | Sum.inl e => Sum.inl e | Sum.inr (p1, c1) => if T p1 = 93 then Sum.inr (skp T n (p1 + 1), c1) else Sum.inl (1, p1)) := by
  unfold sFactF
  rw [if_pos c]
  rfl
theorem fact_not {ft : Nat → Nat → Rs (List Int)} {o p : Nat} (c : T p ≠ 91) (h : isW T n p wNot) : sFactF T n ask ft o p = (if o = 6 then Sum.inl (4, p) else match ft (o + 1) (skp T n (p + 3)) with | Sum.inl e => Sum.inl e | Sum.inr (p1, c1) => Sum.inr (p1, c1 ++ [12])) := by
  unfold sFactF
  rw [if_neg c, if_pos h]
  rfl
theorem fact_all {ft : Nat → Nat → Rs (List Int)} {o p : Nat} (c : T p ≠ 91) (h : ¬ isW T n p wNot) (h2 : isW T n p wAll) : sFactF T n ask ft o p = Sum.inr (skp T n (p + 3), [13]) := by
  unfold sFactF
  rw [if_neg c, if_neg h, if_pos h2]
theorem fact_cmp {ft : Nat → Nat → Rs (List Int)} {o p : Nat} (c : T p ≠ 91) (h : ¬ isW T n p wNot) (h2 : ¬ isW T n p wAll) : sFactF T n ask ft o p = (match sSum T n (sA T n ask 8) o p with | Sum.inl e => Sum.inl e | Sum.inr (p1, c1) => if T p1 = 60 ∨ T p1 = 62 ∨ T p1 = 61 then (match sSum T n (sA T n ask 8) o (skp T n (p1 + 1)) with | Sum.inl e => Sum.inl e | Sum.inr (p2, c2) => Sum.inr (p2, c1 ++ (c2 ++ [if T p1 = 60 then 7 else if T p1 = 62 then 8 else 9]))) else Sum.inl (1, p1)) := by
  unfold sFactF
  rw [if_neg c, if_neg h, if_neg h2]
  rfl
theorem factC {D o : Nat} (hT : tOK T n) (hSn : 2 * n + 1000 ≤ S) (ho : o ≤ 6) (hD : 24 ≤ D) {F : gM → Option (Option Nat × gM)} {ft : Nat → Nat → Rs (List Int)} (hF : o ≠ 6 → cP T n S (mkA ask) (tRep (alS ask) ask D) F ft (o + 1) 600 (4 * n + 400)) (hok : rsAll T n ft) : cP T n S (mkA ask) (tRep (alS ask) ask (D + 3)) (cf_X2_fact F) (sFactF T n ask ft) o 600 (4 * n + 400) := by
  intro μ p hL ha h4 h5
  show pw _ (cQp T n S (tRep (alS ask) ask (D + 3)) (sFactF T n ask ft) o 600 (4 * n + 400) μ p)
  obtain ⟨hpn, hsk⟩ := ha.le hT
  have hz := hL.2.2.2.2
  have hn := hT.1
  have hr := hT.r p
  have mN := mulU S (show p + 1 ≤ n + 2 by omega)
  have n10 : ¬ (1 : Int32) = 0 := by decide
  have hTest : o ≠ 6 → cPt T n S (mkA ask) (tRep (alS ask) ask (D + 2)) (cf_X2_test F) (sTest T n ft) (o + 1) 2 520 (4 * n + 400 + 40 + 40) := fun h => testC (sl := 520) hT hSn (by omega) (hF h) hok
  have htok := sTest_ok hT hok
  unfold cf_X2_fact
  refine pw_bind (pw_mono (c_here1 hL ha) ?_)
  rintro ⟨r1, m2⟩ ⟨e1, a1, a2, -⟩
  dsimp only at e1 a1 a2 ⊢
  subst e1
  have gc2 : gC m2 = gC μ := zgC a1.z
  have gz2 : gZ m2 = gZ μ := congrArg Prod.fst a1.z
  have o2 : gI m2 1011 4 = iI o := (a1.at (by omega)).trans h4
  refine pw_gu a1.z ?_
  by_cases c91 : T p = 91
  · refine pw_t (by rw [c91]; rfl) ?_
    rw [a2]
    refine pw_bind (pw_mono (c_opens (μ := m2) (o := o) o2 ho p) ?_)
    rintro ⟨r9, m7⟩ ⟨a3, a4, ⟨d1, d2, d3⟩ | ⟨d1, d2, d3⟩⟩
    · dsimp only at a3 a4 d2 d3 ⊢
      subst d2
      refine pw_gu (zle a4) (pw_gxn (pw_some ⟨(a1.p _).trans (a3.dn (by omega)), Or.inr ⟨4, p, by rw [fact_sq c91, if_pos d1], rfl, d3, ?_⟩⟩))
      show gC m7 + S * p ≤ gC μ + S * (n + 2) + (4 * n + 400)
      rw [zgC a4, gc2]
      omega
    dsimp only at a3 a4 d2 d3 ⊢
    subst d2
    have hp1 := T_lt hT c91 (by omega)
    refine pw_gu (zle a4) (pw_gxs (pw_let ?_))
    have i72 : gI m7 1011 2 = iI p := by rw [d3, sI_i, if_neg (by omega)]; exact a2
    rw [i72, show iI (p : Int) + (1 : Int32) = iI ((p + 1 : Nat) : Int) by rw [iI_lit, iI_add]; rfl]
    have f11 : ∀ z : Nat, pF z μ (gz_sI m7 1011 2 (iI ((p + 1 : Nat) : Int))) := fun z => by
      rw [d3]
      exact ((a1.p z).trans (pF.sI (Or.inl (by unfold pX; omega)))).trans (pF.sI (Or.inl (by unfold pX; omega)))
    have z11 : (gz_sI m7 1011 2 (iI ((p + 1 : Nat) : Int))).2.2.2.2.2 = μ.2.2.2.2.2 := by rw [d3]; exact a1.z
    have i2 : gI (gz_sI m7 1011 2 (iI ((p + 1 : Nat) : Int))) 1011 2 = iI ((p + 1 : Nat) : Int) := by rw [sI_i, if_pos ⟨rfl, rfl⟩]
    have i4 : gI (gz_sI m7 1011 2 (iI ((p + 1 : Nat) : Int))) 1011 4 = iI ((o + 1 : Nat) : Int) := by rw [sI_i, if_neg (by omega), d3, sI_i, if_pos ⟨rfl, rfl⟩]
    generalize gz_sI m7 1011 2 (iI ((p + 1 : Nat) : Int)) = m11 at f11 z11 i2 i4
    have gz11 : gZ m11 = gZ μ := congrArg Prod.fst z11
    have gc11 : gC m11 = gC μ := zgC z11
    have gsk := skp_ge T n (p + 1)
    have hskn := skp_le hT (show p + 1 ≤ n from hp1)
    have mu1 := mulU S gsk
    have spS := fact_sq (n := n) (ask := ask) (ft := ft) (o := o) c91
    rw [if_neg d1] at spS
    refine pw_bind (pw_mono (hTest d1 m11 (skp T n (p + 1)) (hL.p (f11 _)) (cAt.of i2 (by omega)) i4 (((f11 (gZ μ)).at5 hz).trans h5)) ?_)
    rintro ⟨r15, m13⟩ ⟨a5, ⟨p1, c1, r1, b1, b2, b3, b4, b5, b6⟩ | ⟨k, l, b1, b2, b3, b4⟩ | ⟨p1, c1, b1, b2, b3, b4, b5⟩⟩
    · dsimp only at a5 b2 b3 b4 b5 b6 ⊢
      subst b2
      have hk1 := (htok (o + 1) _ hskn (skp_skp hT _)).get b1
      have xb := xE_b hT hk1.2.1
      have mn1 := mulL S (show p1 ≤ n + 2 by omega)
      have f13 : pF (gZ μ) μ m13 := (f11 _).trans (a5.dn (by omega))
      have z13 := a5.1
      refine pw_gu ⟨a5.1, a5.2.1⟩ (pw_gxs ?_)
      refine pw_bind (pw_mono (c_must (hL.p f13) b4 (c := 93) (by omega)) ?_)
      rintro ⟨r72, m70⟩ ⟨x0, xz, ⟨x1, x2, x3, x4, x5⟩ | ⟨x1, x2, x3⟩⟩
      · dsimp only at x0 xz x2 x4 x5 ⊢
        subst x2
        have mu2 := mulU S (skp_ge T n (p1 + 1))
        have gz70 : gZ m70 = gZ m13 := congrArg Prod.fst xz
        have gc70 : gC m70 = gC m13 := zgC xz
        have x0' : xE T n p1 = 0 := by unfold xE; rw [if_neg (by rw [x1]; omega)]
        rw [x0', Nat.mul_zero] at b6
        refine pw_gu (zle xz) (pw_gxs (pw_let ?_))
        rw [x4.at (by omega), b5, show iI ((o + 1 : Nat) : Int) - (1 : Int32) = iI (o : Int) by rw [iI_lit, iI_sub]; exact congrArg iI (by omega)]
        have fE : pF (gZ m13) m13 (gz_sI m70 1011 4 (iI (o : Int))) := x0.trans (pF.sI (Or.inl (by unfold pX; omega)))
        refine pw_some ⟨f13.trans (fE.dn (by omega)), Or.inl ⟨skp T n (p1 + 1), c1, r1, by rw [spS, b1]; dsimp only; rw [if_pos x1], rfl, ?_, cAt.of (by rw [sI_i, if_neg (by omega)]; exact x5) (by omega), by rw [sI_i, if_pos ⟨rfl, rfl⟩], ?_⟩⟩
        · have t := (b3.p fE (Nat.le_refl _)).up (fun _ _ _ h => tRep_le (d := D + 2) (d' := D + 3) (by omega) h)
          rw [gz11] at t
          show Tv _ (gZ μ) (gZ m70) _ _ _
          rw [gz70]
          exact t
        · show gC m70 + S * p + 600 ≤ gC μ + S * skp T n (p1 + 1)
          omega
      · dsimp only at x0 xz x2 x3 ⊢
        subst x2
        refine pw_gu (zle xz) (pw_gxn (pw_some ⟨f13.trans (x0.dn (by omega)), Or.inr ⟨1, p1, by rw [spS, b1]; dsimp only; rw [if_neg x1], rfl, x3, ?_⟩⟩))
        show gC m70 + S * p ≤ gC μ + S * (n + 2) + (4 * n + 400)
        rw [zgC xz]
        omega
    · dsimp only at a5 b2 b3 b4 ⊢
      subst b2
      refine pw_gu ⟨a5.1, a5.2.1⟩ (pw_gxn (pw_some ⟨(f11 _).trans (a5.dn (by omega)), Or.inr ⟨k, l, by rw [spS, b1], rfl, b3, ?_⟩⟩))
      show gC m13 + S * p ≤ gC μ + S * (n + 2) + (4 * n + 400)
      omega
    · dsimp only at a5 b3 b4 b5 ⊢
      subst b3
      refine pw_gu ⟨a5.1, a5.2.1⟩ (pw_gxn (pw_some ⟨(f11 _).trans (a5.dn (by omega)), Or.inr ⟨1, p1, by rw [spS, b1]; dsimp only; rw [if_neg (by have := b2.1; omega)], rfl, b4, ?_⟩⟩))
      show gC m13 + S * p ≤ gC μ + S * (n + 2) + (4 * n + 400)
      omega
  refine pw_f (by rw [iI_lit, iI_eq (by omega) (by omega)]; exact c91) ?_
  have hL2 := hL.p (a1.p _)
  have ha2 : cAt T n m2 p := cAt.here a2 hpn hsk
  have lit1 : litC m2 154 wNot := lit_of (by decide) m2 hL2.2.2.2.1
  refine pw_bind (pw_mono (c_passes hL2 ha2 lit1) ?_)
  rintro ⟨o9, m7⟩ ⟨a3, ⟨b1, b2, b3, b4, b5⟩ | ⟨b1, b3, b4, b5, b6, b7⟩ | ⟨b1, b2, b3, b4, b5, b6⟩⟩
  · dsimp only at a3 b3 b4 b5 ⊢
    subst b3
    refine pw_gu ⟨a3.1, a3.2.1⟩ (pw_gxn (pw_some ⟨(a1.p _).trans (a3.dn (by omega)), Or.inr ⟨1, p, by rw [fact_cmp c91 (fun z => z.2.1 b2) (fun z => z.2.1 b2), sum_gl b1 b2], rfl, b4, ?_⟩⟩))
    show gC m7 + S * p ≤ gC μ + S * (n + 2) + (4 * n + 400)
    omega
  · -- not
    dsimp only at a3 b3 b4 b5 b6 b7 ⊢
    subst b3
    have hwl : wE T n p = p + 3 := b1.2.2.1
    have hwn := wE_le hT hpn
    have b7' : gC m7 = gC m2 + 34 := b7
    have f7 : pF (gZ μ) μ m7 := (a1.p _).trans (a3.dn (by omega))
    have a3z := a3.1
    have hL7 := hL.p f7
    have o7 : gI m7 1011 4 = iI o := b6.trans o2
    have i5 : gI m7 1011 5 = iI (mkA ask) := (f7.at5 hz).trans h5
    have at7 : cAt T n m7 (skp T n (p + 3)) := cAt.of (by rw [b4, hwl]) (by omega)
    have spN := fact_not (ask := ask) (ft := ft) (o := o) c91 b1
    have gsk := skp_ge T n (p + 3)
    have mu3 := mulU S (show p + 1 ≤ skp T n (p + 3) by omega)
    refine pw_gu ⟨a3.1, a3.2.1⟩ (pw_gxs (pw_f n10 ?_))
    rw [b5]
    refine pw_bind (pw_mono (c_opens (μ := m7) (o := o) o7 ho p) ?_)
    rintro ⟨r9, m42⟩ ⟨a4, a5, ⟨d1, d2, d3⟩ | ⟨d1, d2, d3⟩⟩
    · dsimp only at a4 a5 d2 d3 ⊢
      subst d2
      refine pw_gu (zle a5) (pw_gxn (pw_some ⟨f7.trans (a4.dn (by omega)), Or.inr ⟨4, p, by rw [spN, if_pos d1], rfl, d3, ?_⟩⟩))
      show gC m42 + S * p ≤ gC μ + S * (n + 2) + (4 * n + 400)
      rw [zgC a5]
      omega
    dsimp only at a4 a5 d2 d3 ⊢
    subst d2
    rw [if_neg d1] at spN
    have gz42 : gZ m42 = gZ m7 := congrArg Prod.fst a5
    have gc42 : gC m42 = gC m7 := zgC a5
    refine pw_gu (zle a5) (pw_gxs (pw_gu (by omega) (pw_let ?_)))
    have f47 : pF (gZ m42) m42 (gz_al m42 (16 + 1) 0 1) := pF.al (Nat.le_refl _)
    have k47 : gK (gz_al m42 (16 + 1) 0 1) (gZ m42) = 17 := by rw [al_k, if_pos rfl]
    have gz47 : gZ (gz_al m42 (16 + 1) 0 1) = gZ m42 + 1 := rfl
    have gc47 : gC (gz_al m42 (16 + 1) 0 1) = gC m42 + 9 := by
      show 8 * (gZ m42 + 1) + (gW m42 + 1) = 8 * gZ m42 + gW m42 + 9
      omega
    have j47 : ∀ j : Nat, gI (gz_al m42 (16 + 1) 0 1) 1011 j = gI m42 1011 j := fun j => by rw [al_i, if_neg (by omega)]
    generalize gz_al m42 (16 + 1) 0 1 = m47 at f47 k47 gz47 gc47 j47
    have f8 : pF (gZ m7) m7 m47 := a4.trans (f47.dn (by omega))
    have fm : pF (gZ μ) μ m47 := f7.trans (f8.dn (by omega))
    have l2 : gI m42 1011 2 = gI m7 1011 2 := by rw [d3, sI_i, if_neg (by omega)]
    have l4 : gI m42 1011 4 = iI ((o + 1 : Nat) : Int) := by rw [d3, sI_i, if_pos ⟨rfl, rfl⟩]
    refine pw_bind (pw_mono (hF d1 m47 _ (hL.p fm) (at7.p ((j47 2).trans l2)) ((j47 4).trans l4) ((fm.at5 hz).trans h5)) ?_)
    rintro ⟨o51, m49⟩ ⟨w0, ⟨p', cs, r48, w1, w2, w3, w4, w5, w6⟩ | ⟨k, l, w1, w2, w3, w4⟩⟩
    rotate_left
    · dsimp only at w0 w2 w3 w4 ⊢
      subst w2
      refine pw_gu ⟨w0.1, w0.2.1⟩ (pw_gxn (pw_some ⟨fm.trans (w0.dn (by omega)), Or.inr ⟨k, l, by rw [spN, w1], rfl, w3, ?_⟩⟩))
      show gC m49 + S * p ≤ gC μ + S * (n + 2) + (4 * n + 400)
      omega
    dsimp only at w0 w2 w3 w4 w5 w6 ⊢
    subst w2
    have w0z := w0.1
    refine pw_gu ⟨w0.1, w0.2.1⟩ (pw_gxs ?_)
    have kc : gK m49 (gZ m42) = 17 := ((w0.2.2 (gZ m42) (by omega)).1).trans k47
    have r48z : r48 ≠ 0 := by have := w3.1; omega
    have init : cf_X19_init (gZ m42) r48 m49 = some ((), gz_sP m49 (gZ m42) 0 r48) := by
      unfold cf_X19_init cf_X17_init
      simp only [Option.bind_some, gz_let]
      rw [if_pos kc, if_pos (by omega), if_pos ⟨sr_hi2 (by omega) 0, r48z⟩]
    rw [init]
    have z54 : (gz_sP m49 (gZ m42) 0 r48).2.2.2.2.2 = m49.2.2.2.2.2 := rfl
    have f54 : sFr (gZ m42) m49 (gz_sP m49 (gZ m42) 0 r48) := sFr.sP (Nat.le_refl _)
    have k54 : gK (gz_sP m49 (gZ m42) 0 r48) (gZ m42) = 17 := kc
    have p54 : gP (gz_sP m49 (gZ m42) 0 r48) (gZ m42) 0 = r48 := by rw [sP_p, if_pos ⟨rfl, rfl⟩]
    have hi54 : ∀ a b : Nat, gZ m42 < a → inR a b m49 (gz_sP m49 (gZ m42) 0 r48) := fun a b hab => fun x l r => ⟨rfl, rfl, fun jj => ⟨rfl, rfl, by rw [sP_p, if_neg (by omega)]⟩⟩
    generalize gz_sP m49 (gZ m42) 0 r48 = m54 at z54 f54 k54 p54 hi54
    have gz54 : gZ m54 = gZ m49 := congrArg Prod.fst z54
    have gc54 : gC m54 = gC m49 := zgC z54
    refine pw_bind (pw_some (pw_gu z54 (pw_let ?_)))
    rw [(f54.at (by omega) 4).trans w5, show iI ((o + 1 : Nat) : Int) - (1 : Int32) = iI (o : Int) by rw [iI_lit, iI_sub]; exact congrArg iI (by omega)]
    refine pw_some ⟨((fm.trans (w0.dn (by omega))).trans ((f54.dn (by omega)).p)).trans (pF.sI (Or.inl (by unfold pX; omega))), Or.inl ⟨p', cs ++ [12], gZ m42, by rw [spN, w1], rfl, ?_, (w4.p (f54.at (by omega) 2)).p (by rw [sI_i, if_neg (by omega)]), by rw [sI_i, if_pos ⟨rfl, rfl⟩], ?_⟩⟩
    · refine ⟨⟨by omega, by show gZ m42 < gZ m54; omega⟩, ⟨hz, Nat.le_refl _⟩, fun μ' hi => ?_⟩
      have hi' : inR (gZ μ) (gZ m54) m54 μ' := fun x l r => by
        obtain ⟨t1, t2, t3⟩ := hi x l r
        refine ⟨t1, t2, fun jj => ⟨?_, (t3 jj).2⟩⟩
        rw [(t3 jj).1, sI_i, if_neg (by omega)]
      obtain ⟨q1, q2, q3⟩ := hi' (gZ m42) (by omega) (by omega)
      refine ⟨by omega, ks_hi (by omega), Or.inr (Or.inr (Or.inl ⟨q1.trans k54, cs, ?_, rfl⟩))⟩
      rw [(q3 0).2.2, p54]
      refine tRep_le (d := D) (by omega) (w3.2.2 μ' ?_)
      exact (hi54 _ _ (by omega)).trans (hi'.dn (by omega) (by omega))
    · show gC m54 + S * p + 600 ≤ gC μ + S * p'
      omega
  · dsimp only at a3 b3 b4 b5 b6 ⊢
    subst b3
    have f7 : pF (gZ μ) μ m7 := (a1.p _).trans (a3.dn (by omega))
    have a3z := a3.1
    have b6' : gC m7 ≤ gC m2 + xE T n p := b6
    have xb := xE_b hT hpn
    refine pw_gu ⟨a3.1, a3.2.1⟩ (pw_gxs (pw_t (by first | rfl | exact True.intro) ?_))
    have hL7 := hL.p f7
    have lit2 : litC m7 156 wAll := lit_of (by decide) m7 hL7.2.2.2.1
    refine pw_bind (pw_mono (c_passes hL7 b4 lit2) ?_)
    rintro ⟨o15, m13⟩ ⟨d0, ⟨d1, d2, d3, d4, d5⟩ | ⟨d1, d3, d4, d5, d6, d7⟩ | ⟨d1, d2, d3, d4, d5, d6⟩⟩
    · exact absurd ⟨d1, d2⟩ b2
    · -- all
      dsimp only at d0 d3 d4 d5 d6 d7 ⊢
      subst d3
      have hwl : wE T n p = p + 3 := d1.2.2.1
      have hwn := wE_le hT hpn
      have d7' : gC m13 = gC m7 + 34 := d7
      have d0z := d0.1
      have f13 : pF (gZ μ) μ m13 := f7.trans (d0.dn (by omega))
      have xp : xE T n p = 34 := by unfold xE; rw [if_pos d1.1, hwl]; omega
      have mu3 := mulU S (show p + 1 ≤ skp T n (p + 3) by have := skp_ge T n (p + 3); omega)
      refine pw_gu ⟨d0.1, d0.2.1⟩ (pw_gxs (pw_f n10 (pw_gu (by omega) (pw_let ?_))))
      have f36 : pF (gZ m13) m13 (gz_al m13 (17 + 1) 0 0) := pF.al (Nat.le_refl _)
      have k36 : gK (gz_al m13 (17 + 1) 0 0) (gZ m13) = 18 := by rw [al_k, if_pos rfl]
      have gz36 : gZ (gz_al m13 (17 + 1) 0 0) = gZ m13 + 1 := rfl
      have gc36 : gC (gz_al m13 (17 + 1) 0 0) = gC m13 + 8 := by
        show 8 * (gZ m13 + 1) + (gW m13 + 0) = 8 * gZ m13 + gW m13 + 8
        omega
      have j36 : ∀ j : Nat, gI (gz_al m13 (17 + 1) 0 0) 1011 j = gI m13 1011 j := fun j => by rw [al_i, if_neg (by omega)]
      generalize gz_al m13 (17 + 1) 0 0 = m36 at f36 k36 gz36 gc36 j36
      unfold cf_X20_init cf_X17_init
      refine pw_bind (pw_some (pw_gu rfl (pw_some ⟨f13.trans (f36.dn (by omega)), Or.inl ⟨skp T n (p + 3), [13], gZ m13, fact_all c91 b1 d1, rfl, ?_, cAt.of (by rw [j36, d4, hwl]) (by omega), ((j36 4).trans d6).trans (b5.trans o2), ?_⟩⟩)))
      · refine ⟨⟨by omega, by show gZ m13 < gZ m36; omega⟩, ⟨hz, Nat.le_refl _⟩, fun μ' hi => ?_⟩
        obtain ⟨q1, q2, q3⟩ := hi (gZ m13) (by omega) (by show gZ m13 < gZ m36; omega)
        exact ⟨by omega, ks_hi (by omega), Or.inl ⟨q1.trans k36, rfl⟩⟩
      · show gC m36 + S * p + 600 ≤ gC μ + S * skp T n (p + 3)
        omega
    · dsimp only at d0 d3 d4 d5 d6 ⊢
      subst d3
      have d6' : gC m13 ≤ gC m7 + xE T n p := d6
      have d0z := d0.1
      have f13 : pF (gZ μ) μ m13 := f7.trans (d0.dn (by omega))
      have o13 : gI m13 1011 4 = iI o := d5.trans (b5.trans o2)
      have spC := fact_cmp (ask := ask) (ft := ft) (o := o) c91 b1 d1
      refine pw_gu ⟨d0.1, d0.2.1⟩ (pw_gxs (pw_t (by first | rfl | exact True.intro) ?_))
      refine pw_bind (pw_mono (sumTop (ask := ask) hT hSn ho m13 p (hL.p f13) d4 o13 ((f13.at5 hz).trans h5)) ?_)
      rintro ⟨o21, m19⟩ ⟨w0, ⟨p1, c1, r18, w1, w2, w3, w4, w5, w6⟩ | ⟨k, l, w1, w2, w3, w4⟩⟩
      rotate_left
      · dsimp only at w0 w2 w3 w4 ⊢
        subst w2
        refine pw_gu ⟨w0.1, w0.2.1⟩ (pw_gxn (pw_some ⟨f13.trans (w0.dn (by omega)), Or.inr ⟨k, l, by rw [spC, w1], rfl, w3, ?_⟩⟩))
        show gC m19 + S * p ≤ gC μ + S * (n + 2) + (4 * n + 400)
        omega
      dsimp only at w0 w2 w3 w4 w5 w6 ⊢
      subst w2
      have w0z := w0.1
      have f19 : pF (gZ μ) μ m19 := f13.trans (w0.dn (by omega))
      have hk1 := (sSum_ok hT (sA_ok (ask := ask) hT 8) o _ hpn hsk).get w1
      have mn1 := mulL S (show p1 ≤ n + 2 by omega)
      have xk : xE T n p ≤ 44 := by
        by_cases hl : isL (T p)
        · have := sum_kn (d := 7) w1 hl
          unfold xE
          rw [if_pos hl]
          omega
        · unfold xE
          rw [if_neg hl]
          omega
      refine pw_gu ⟨w0.1, w0.2.1⟩ (pw_gxs ?_)
      refine pw_bind (pw_mono (c_here1 (hL.p f19) w4) ?_)
      rintro ⟨r23, m24⟩ ⟨e1, x1, x2, -⟩
      dsimp only at e1 x1 x2 ⊢
      subst e1
      have gz24 : gZ m24 = gZ m19 := congrArg Prod.fst x1.z
      have gc24 : gC m24 = gC m19 := zgC x1.z
      have hr1 := hT.r p1
      have f24 : pF (gZ μ) μ m24 := f19.trans (x1.p _)
      have o24 : gI m24 1011 4 = iI o := (x1.at (by omega)).trans w5
      have t24 : Tv (vRep (alS ask) ask 26) (gZ μ) (gZ m24) m24 r18 c1 := by
        have := (w3.p (x1.p _) (Nat.le_refl _)).wide (a' := gZ μ) (b' := gZ m24) (by omega) (by omega) hz (Nat.le_refl _)
        exact this
      refine pw_gu x1.z ?_
      have than : ∀ (hx : T p1 = 60 ∨ T p1 = 62 ∨ T p1 = 61), pw (mj_X2_fact_148 F r18 (iI (T p1)) m24) (cQp T n S (tRep (alS ask) ask (D + 3)) (sFactF T n ask ft) o 600 (4 * n + 400) μ p) := fun hx => by
        have hp1 : p1 < n := by rcases hx with e | e | e <;> exact T_lt hT e (by omega)
        exact thanC hT hSn ho hD hL h5 hpn f24 x2 o24 hp1 (by omega) t24 hx (by rw [spC, w1]; dsimp only; rw [if_pos hx]; rfl)
      by_cases y1 : T p1 = 60
      · exact pw_t (by rw [y1]; rfl) (than (Or.inl y1))
      refine pw_f (by rw [iI_lit, iI_eq (by omega) (by omega)]; exact y1) ?_
      by_cases y2 : T p1 = 62
      · exact pw_t (by rw [y2]; rfl) (than (Or.inr (Or.inl y2)))
      refine pw_f (by rw [iI_lit, iI_eq (by omega) (by omega)]; exact y2) ?_
      by_cases y3 : T p1 = 61
      · exact pw_t (by rw [y3]; rfl) (than (Or.inr (Or.inr y3)))
      refine pw_f (by rw [iI_lit, iI_eq (by omega) (by omega)]; exact y3) ?_
      rw [x2]
      refine c_thr (α := Nat) (k := 1) (l := p1) (e := fun m2 => some (none, m2)) (fun μ' g1 g2 g3 => pw_some ⟨f24.trans (g3 _), Or.inr ⟨1, p1, by rw [spC, w1]; dsimp only; rw [if_neg (by omega)], rfl, g1, ?_⟩⟩)
      show gC μ' + S * p ≤ gC μ + S * (n + 2) + (4 * n + 400)
      rw [zgC g2]
      omega
theorem crF_C (hT : tOK T n) (hSn : 2 * n + 1000 ≤ S) : ∀ (d o : Nat), o ≤ 6 → 7 ≤ d + o → cP T n S (mkA ask) (tRep (alS ask) ask (24 + 3 * d)) (crF d) (sF T n ask d) o 600 (4 * n + 400)
  | 0, o, h1, h2 => by omega
  | d + 1, o, h1, h2 => factC (D := 24 + 3 * d) hT hSn h1 (by omega) (fun h => crF_C hT hSn d (o + 1) (by omega) (by omega)) (sF_ok hT d)
/-- a test is read whole -/
theorem testTop (hT : tOK T n) (hSn : 2 * n + 1000 ≤ S) {o : Nat} (ho : o ≤ 6) : cPt T n S (mkA ask) (tRep (alS ask) ask 50) (cf_X2_test (crF 8)) (sTest T n (sF T n ask 8)) o 2 520 (4 * n + 480) := testC (sl := 520) (fl := 4 * n + 400) hT hSn (by omega) (crF_C hT hSn 8 o ho (by omega)) (sF_ok hT 8)
end FactC2
