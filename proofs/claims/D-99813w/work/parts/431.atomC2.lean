section AtomC
variable {T : Nat → Int} {n S : Nat} {ask : Bool}
theorem sNum_nd {p : Nat} {lo hi : Int} (h : ¬ isD (T p)) : sNum T n p lo hi = Sum.inl (1, p) := by unfold sNum; rw [if_pos (Or.inl h)]
theorem cAt.here {μ : gM} {p : Nat} (h : gI μ 1011 2 = iI p) (hp : p ≤ n) (hs : skp T n p = p) : cAt T n μ p := ⟨p, h, hp, hs⟩
/-- a word that is read, as the spec sees it -/
theorem atom_word {at' sm : Nat → Nat → Rs (List Int)} {o p : Nat} (c40 : T p ≠ 40) (h1 : isL (T p)) (h2 : ¬ alB T p) : (wL T n p = wMin → sAtomF T n ask at' sm o p = sWithin T n sm 1 o (skp T n (p + 3))) ∧ (wL T n p = wMax → sAtomF T n ask at' sm o p = sWithin T n sm 2 o (skp T n (p + 3))) ∧ (wL T n p ≠ wMin → wL T n p ≠ wMax → sAtomF T n ask at' sm o p = (if (7 ≤ qK T n p ∧ qK T n p < 9) ∧ qAl ask (qK T n p) then (if o = 6 then Sum.inl (4, p) else match at' (o + 1) (skp T n (p + (kW (qK T n p)).length)) with | Sum.inl e => Sum.inl e | Sum.inr (p1, c1) => Sum.inr (p1, c1 ++ [53 + (qK T n p : Int)])) else if qK T n p < 7 ∧ qAl ask (qK T n p) then Sum.inr (skp T n (p + (kW (qK T n p)).length), [40 + (qK T n p : Int)]) else Sum.inl (1, p))) := by
  have nd : ¬ isD (T p) := fun z => by omega
  refine ⟨fun e => ?_, fun e => ?_, fun e1 e2 => ?_⟩
  · unfold sAtomF
    rw [if_neg c40, if_pos ((isW_iff h1 h2).2 e)]
  · unfold sAtomF
    rw [if_neg c40, if_neg (fun z => absurd (((isW_iff h1 h2).1 z).symm.trans e) (by decide)), if_pos ((isW_iff h1 h2).2 e)]
  · unfold sAtomF
    rw [if_neg c40, if_neg (fun z => e1 ((isW_iff h1 h2).1 z)), if_neg (fun z => e2 ((isW_iff h1 h2).1 z)), sNum_nd nd]
    rfl
theorem atom_num {at' sm : Nat → Nat → Rs (List Int)} {o p : Nat} (c40 : T p ≠ 40) (h : ¬ (isL (T p) ∧ ¬ alB T p)) : sAtomF T n ask at' sm o p = (match sNum T n p 0 9999 with | Sum.inl e => Sum.inl e | Sum.inr (p1, v) => Sum.inr (p1, [1000 + v])) := by
  have q9 := qK_nl (n := n) h
  unfold sAtomF
  rw [if_neg c40, if_neg (fun z => h ⟨z.1, z.2.1⟩), if_neg (fun z => h ⟨z.1, z.2.1⟩), q9, if_neg (by omega), if_neg (by omega)]
  rfl
/-- an atom is read -/
theorem atomC {D o : Nat} (hT : tOK T n) (hSn : 2 * n + 1000 ≤ S) (ho : o ≤ 6) {F : gM → Option (Option Nat × gM)} {at' : Nat → Nat → Rs (List Int)} (hF : o ≠ 6 → cP T n S (mkA ask) (vRep (alS ask) ask D) F at' (o + 1) 600 0) (hok : rsAll T n at') : cP T n S (mkA ask) (vRep (alS ask) ask (D + 3)) (cf_X2_atom F) (sAtomF T n ask at' (sSum T n at')) o 600 0 := by
  intro μ p hL ha h4 h5
  obtain ⟨hpn, hsk⟩ := ha.le hT
  have hz := hL.2.2.2.2
  have hn := hT.1
  have hr := hT.r p
  have mp := mulL S (show p ≤ n + 2 by omega)
  have hSum : o ≠ 6 → cP T n S (mkA ask) (vRep (alS ask) ask (D + 2)) (cf_X2_sum F) (sSum T n at') (o + 1) 428 180 := fun h => sumC (sl := 428) (fl := 0) hT hSn (hF h) hok
  have hsok := sSum_ok hT hok
  have fin : ∀ (two : Nat) (m1 : gM) (p1 : Nat), two ≤ 2 → pF (gZ μ) μ m1 → cAt T n m1 p1 → gI m1 1011 4 = iI o → gC m1 + S * p ≤ gC μ + S * p1 → sAtomF T n ask at' (sSum T n at') o p = sWithin T n (sSum T n at') two o p1 → pw ((cf_X2_within F (iI two) m1).bind fun (x : Option Nat × gM) => (if gZ m1 ≤ gZ x.2 ∧ gW m1 ≤ gW x.2 then gx_o x.1 (fun r => some (some r, x.2)) (some (none, x.2)) else none)) (fun q => pF (gZ μ) μ q.2 ∧ ((∃ (p' : Nat) (cs : List Int) (r : Nat), sAtomF T n ask at' (sSum T n at') o p = Sum.inr (p', cs) ∧ q.1 = some r ∧ Tv (vRep (alS ask) ask (D + 3)) (gZ μ) (gZ q.2) q.2 r cs ∧ cAt T n q.2 p' ∧ gI q.2 1011 4 = iI o ∧ gC q.2 + S * p + 600 ≤ gC μ + S * p') ∨ ∃ (k : Int) (l : Nat), sAtomF T n ask at' (sSum T n at') o p = Sum.inl (k, l) ∧ q.1 = none ∧ cErr q.2 k l ∧ gC q.2 + S * p ≤ gC μ + S * (n + 2) + 0)) := by
    intro two m1 p1 h2 f1 at1 o1 hc eA
    refine pw_bind (pw_mono (withinC hT hSn ho hSum hsok h2 m1 p1 (hL.p f1) at1 o1 ((f1.at5 hz).trans h5)) ?_)
    rintro ⟨o50, m48⟩ ⟨w1, ⟨p', cs, r, x1, x2, x3, x4, x5, x6⟩ | ⟨k, l, x1, x2, x3, x4⟩⟩
    · dsimp only at w1 x2 x3 x4 x5 x6 ⊢
      subst x2
      have f1z := f1.1
      refine pw_gu ⟨w1.1, w1.2.1⟩ (pw_gxs (pw_some ⟨f1.trans (w1.dn f1z), Or.inl ⟨p', cs, r, eA.trans x1, rfl, x3.wide f1z (Nat.le_refl _) hz (Nat.le_refl _), x4, x5, ?_⟩⟩))
      show gC m48 + S * p + 600 ≤ gC μ + S * p'
      omega
    · dsimp only at w1 x2 x3 x4 ⊢
      subst x2
      refine pw_gu ⟨w1.1, w1.2.1⟩ (pw_gxn (pw_some ⟨f1.trans (w1.dn f1.1), Or.inr ⟨k, l, eA.trans x1, rfl, x3, ?_⟩⟩))
      show gC m48 + S * p ≤ gC μ + S * (n + 2) + 0
      omega
  unfold cf_X2_atom
  refine pw_bind (pw_mono (c_here1 hL ha) ?_)
  rintro ⟨r1, m2⟩ ⟨e1, a1, a2, -⟩
  dsimp only at e1 a1 a2 ⊢
  subst e1
  refine pw_gu a1.z ?_
  by_cases c40 : T p = 40
  · refine pw_t (by rw [c40]; rfl) ?_
    exact fin 0 m2 p (by omega) (a1.p _) (cAt.here a2 hpn hsk) ((a1.at (by omega)).trans h4) (by rw [zgC a1.z]; exact Nat.le_refl _) (by unfold sAtomF; rw [if_pos c40])
  refine pw_f (by rw [iI_lit, iI_eq (by omega) (by omega)]; exact c40) ?_
  refine pw_bind (pw_mono (c_here1 (hL.p (a1.p _)) (cAt.here a2 hpn hsk)) ?_)
  rintro ⟨r6, m7⟩ ⟨e1, b1, b2, -⟩
  dsimp only at e1 b1 b2 ⊢
  subst e1
  have x7 := a1.trans b1
  refine pw_gu b1.z ?_
  rw [c_isD (by omega)]
  refine pw_bind (pw_some (pw_gu rfl ?_))
  have gz7 : gZ m7 = gZ μ := congrArg Prod.fst x7.z
  have gc7 : gC m7 = gC μ := zgC x7.z
  have hL7 := hL.p (x7.p _)
  by_cases dg : isD (T p)
  · -- a number
    dsimp only
    rw [if_pos dg]
    refine pw_f (by decide) (pw_gu (by omega) (pw_let ?_))
    have f37 : pF (gZ m7) m7 (gz_al m7 (12 + 1) 0 1) := pF.al (Nat.le_refl _)
    have k37 : gK (gz_al m7 (12 + 1) 0 1) (gZ m7) = 13 := by rw [al_k, if_pos rfl]
    have gz37 : gZ (gz_al m7 (12 + 1) 0 1) = gZ m7 + 1 := rfl
    have gc37 : gC (gz_al m7 (12 + 1) 0 1) = gC m7 + 9 := by
      show 8 * (gZ m7 + 1) + (gW m7 + 1) = 8 * gZ m7 + gW m7 + 9
      omega
    have j37 : ∀ j : Nat, gI (gz_al m7 (12 + 1) 0 1) 1011 j = gI m7 1011 j := fun j => by rw [al_i, if_neg (by omega)]
    generalize gz_al m7 (12 + 1) 0 1 = m37 at f37 k37 gz37 gc37 j37
    have eA : sAtomF T n ask at' (sSum T n at') o p = _ := atom_num c40 (fun z => by omega)
    refine pw_bind (pw_mono (c_number (hL7.p f37) (cAt.here ((j37 2).trans b2) hpn hsk) (lo := 0) (hi := 9999) (by omega) (by omega)) ?_)
    rintro ⟨o41, m39⟩ ⟨y0, yz, ⟨k, l, y1, y2, y3⟩ | ⟨p', v, y1, y2, y3, y4, y5⟩⟩
    · dsimp only at y0 yz y2 y3 ⊢
      subst y2
      refine pw_gu (zle yz) (pw_gxn (pw_some ⟨((x7.p _).trans (f37.dn (by omega))).trans (y0.dn (by omega)), Or.inr ⟨k, l, by rw [eA, y1], rfl, y3, ?_⟩⟩))
      show gC m39 + S * p ≤ gC μ + S * (n + 2) + 0
      have m2' := mulU S (show p + 1 ≤ n + 2 by omega)
      rw [zgC yz]
      omega
    · dsimp only at y0 yz y2 y4 y5 ⊢
      subst y2
      have gz39 : gZ m39 = gZ m37 := congrArg Prod.fst yz
      have gc39 : gC m39 = gC m37 := zgC yz
      have k39 : gK m39 (gZ m7) = 13 := ((y0.2.2 (gZ m7) (by omega)).1).trans k37
      refine pw_gu (zle yz) (pw_gxs ?_)
      rw [i2l_iI (by omega)]
      unfold cf_X14_init cf_X11_init
      simp only [Option.bind_some, gz_let]
      rw [if_pos k39, if_pos (by omega)]
      refine pw_bind (pw_some (pw_gu rfl (pw_some ⟨?_, Or.inl ⟨p', [1000 + v], gZ m7, by rw [eA, y1], rfl, ?_, ?_, ?_, ?_⟩⟩)))
      · exact (((x7.p _).trans (f37.dn (by omega))).trans (y0.dn (by omega))).trans (pF.sL (by omega))
      · refine ⟨⟨by omega, by show gZ m7 < gZ m39; omega⟩, ⟨hz, Nat.le_refl _⟩, fun μ' hi => ?_⟩
        obtain ⟨o1, o2, o3⟩ := hi (gZ m7) (by omega) (by show gZ m7 < gZ m39; omega)
        refine ⟨by omega, ks_hi (by omega), Or.inl ⟨o1.trans k39, v, y3, ?_, rfl⟩⟩
        rw [(o3 0).2.1, sL_l, if_pos ⟨rfl, rfl⟩]
      · exact y5.p rfl
      · show gI m39 1011 4 = _
        rw [y4.at (by omega), j37, x7.at (by omega)]
        exact h4
      · show gC m39 + S * p + 600 ≤ gC μ + S * p'
        rcases sNum_ok hT (p := p) 0 9999 hpn with ⟨k, l, z, _⟩ | ⟨p2, v2, z, z1, _⟩
        · rw [y1] at z; cases z
        · rw [y1] at z
          injection z with z
          injection z with z z'
          have := mulU S (show p + 1 ≤ p' by omega)
          omega
  -- a word
  dsimp only
  rw [if_neg dg]
  refine pw_t (by first | rfl | exact True.intro) ?_
  refine pw_bind (pw_mono (c_word hL7 (cAt.here b2 hpn hsk)) ?_)
  rintro ⟨o18, m16⟩ ⟨y0, ⟨s, y1, y2, y3, y4, y5, y6, y7, y8, y9, y10⟩ | ⟨y1, y2, y3, y4⟩⟩
  rotate_left
  · dsimp only at y0 y2 y3 y4 ⊢
    subst y2
    refine pw_gu ⟨y0.1, y0.2.1⟩ (pw_gxn (pw_some ⟨(x7.p _).trans (y0.dn (by omega)), Or.inr ⟨1, p, by rw [atom_num c40 y1, sNum_nd dg], rfl, y3, ?_⟩⟩))
    show gC m16 + S * p ≤ gC μ + S * (n + 2) + 0
    rw [zgC y4]
    omega
  dsimp only at y0 y2 y3 y4 y5 y6 y7 y8 y9 y10 ⊢
  subst y2
  refine pw_gu ⟨y0.1, y0.2.1⟩ (pw_gxs ?_)
  have z16 := y0.1
  have hwE : p + 1 ≤ wE T n p := by rw [wE_s hT y1.1]; exact wE_ge T n (p + 1)
  have hwn := wE_le hT hpn
  have hlen := wL_len T n p
  have f16 : pF (gZ μ) μ m16 := (x7.p _).trans (y0.dn (by omega))
  have hL16 := hL.p f16
  have hsr := hL16.2.2.2.1
  have k16 : gK m16 s = 22 := y4.1.2.2.1
  have i4 : gI m16 1011 4 = iI o := y9.trans ((x7.at (by omega)).trans h4)
  have i5 : gI m16 1011 5 = iI (mkA ask) := (f16.at5 hz).trans h5
  have at16 : cAt T n m16 (skp T n (wE T n p)) := cAt.of y7 hwn
  have gskE := skp_ge T n (wE T n p)
  have muE := mulU S (show p + 1 ≤ skp T n (wE T n p) by omega)
  have muN := mulU S (show p + 1 ≤ n + 2 by omega)
  have hmin : strR m16 158 wMin := hsr.str (c := 158) (by decide)
  have hmax : strR m16 160 wMax := hsr.str (c := 160) (by decide)
  have n10 : ¬ (1 : Int32) = 0 := by decide
  obtain ⟨sp1, sp2, sp3⟩ := atom_word (n := n) (ask := ask) (at' := at') (sm := sSum T n at') (o := o) c40 y1.1 y1.2
  have Pbad : ∀ m' : gM, cErr m' 1 p → m'.2.2.2.2.2 = m16.2.2.2.2.2 → (∀ z : Nat, pF z m16 m') → sAtomF T n ask at' (sSum T n at') o p = Sum.inl (1, p) → pF (gZ μ) μ m' ∧ gC m' + S * p ≤ gC μ + S * (n + 2) + 0 := fun m' _ e2 e3 _ => ⟨f16.trans (e3 _), by rw [zgC e2, y10]; omega⟩
  have m142 : ∀ two : Nat, (two = 1 ∧ wL T n p = wMin) ∨ (two = 2 ∧ wL T n p = wMax ∧ wL T n p ≠ wMin) → pw (mj_X2_atom_142 F s m16) (fun q => pF (gZ μ) μ q.2 ∧ ((∃ (p' : Nat) (cs : List Int) (r : Nat), sAtomF T n ask at' (sSum T n at') o p = Sum.inr (p', cs) ∧ q.1 = some r ∧ Tv (vRep (alS ask) ask (D + 3)) (gZ μ) (gZ q.2) q.2 r cs ∧ cAt T n q.2 p' ∧ gI q.2 1011 4 = iI o ∧ gC q.2 + S * p + 600 ≤ gC μ + S * p') ∨ ∃ (k : Int) (l : Nat), sAtomF T n ask at' (sSum T n at') o p = Sum.inl (k, l) ∧ q.1 = none ∧ cErr q.2 k l ∧ gC q.2 + S * p ≤ gC μ + S * (n + 2) + 0)) := by
    intro two h2
    have l3 : wE T n p = p + 3 := by
      rcases h2 with ⟨_, e⟩ | ⟨_, e, _⟩
      · rw [e, show wMin.length = 3 from rfl] at hlen; omega
      · rw [e, show wMax.length = 3 from rfl] at hlen; omega
    rw [l3] at at16 muE y10
    unfold mj_X2_atom_142
    refine pw_gu k16 ?_
    rw [c_equals y4 hmin]
    refine pw_bind (pw_some (pw_gu rfl ?_))
    try dsimp only
    rcases h2 with ⟨rfl, e⟩ | ⟨rfl, e, e'⟩
    · rw [if_pos e]
      refine pw_f n10 ?_
      exact fin 1 m16 _ (by omega) f16 at16 i4 (by omega) (sp1 e)
    · rw [if_neg e']
      refine pw_t (by first | rfl | exact True.intro) ?_
      exact fin 2 m16 _ (by omega) f16 at16 i4 (by omega) (sp2 e)
  have m100 : (wL T n p ≠ wMin → wL T n p ≠ wMax → sAtomF T n ask at' (sSum T n at') o p = Sum.inl (1, p)) → pw (mj_X2_atom_100 F s (-1 : Int32) m16) (fun q => pF (gZ μ) μ q.2 ∧ ((∃ (p' : Nat) (cs : List Int) (r : Nat), sAtomF T n ask at' (sSum T n at') o p = Sum.inr (p', cs) ∧ q.1 = some r ∧ Tv (vRep (alS ask) ask (D + 3)) (gZ μ) (gZ q.2) q.2 r cs ∧ cAt T n q.2 p' ∧ gI q.2 1011 4 = iI o ∧ gC q.2 + S * p + 600 ≤ gC μ + S * p') ∨ ∃ (k : Int) (l : Nat), sAtomF T n ask at' (sSum T n at') o p = Sum.inl (k, l) ∧ q.1 = none ∧ cErr q.2 k l ∧ gC q.2 + S * p ≤ gC μ + S * (n + 2) + 0)) := by
    intro hq
    unfold mj_X2_atom_100
    refine pw_t rfl (pw_gu k16 ?_)
    rw [c_equals y4 hmin]
    refine pw_bind (pw_some (pw_gu rfl ?_))
    try dsimp only
    by_cases e1 : wL T n p = wMin
    · rw [if_pos e1]
      exact pw_f n10 (m142 1 (Or.inl ⟨rfl, e1⟩))
    rw [if_neg e1]
    refine pw_t (by first | rfl | exact True.intro) (pw_gu k16 ?_)
    rw [c_equals y4 hmax]
    refine pw_bind (pw_some (pw_gu rfl ?_))
    try dsimp only
    by_cases e2 : wL T n p = wMax
    · rw [if_pos e2]
      exact pw_f n10 (m142 2 (Or.inr ⟨rfl, e2, e1⟩))
    rw [if_neg e2]
    refine pw_t (by first | rfl | exact True.intro) ?_
    rw [y8]
    refine c_thr (α := Nat) (k := 1) (l := p) (e := fun m2 => some (none, m2)) (fun μ' b1 b2 b3 => ?_)
    obtain ⟨g1, g2⟩ := Pbad μ' b1 b2 b3 (hq e1 e2)
    exact pw_some ⟨g1, Or.inr ⟨1, p, hq e1 e2, rfl, b1, g2⟩⟩
  have m80 : (∀ i : Nat, i < 7 → sWd (cASKED.getD i 0) = wL T n p → ¬ qAl ask (prn i)) → pw (mj_X2_atom_80 F s m16) (fun q => pF (gZ μ) μ q.2 ∧ ((∃ (p' : Nat) (cs : List Int) (r : Nat), sAtomF T n ask at' (sSum T n at') o p = Sum.inr (p', cs) ∧ q.1 = some r ∧ Tv (vRep (alS ask) ask (D + 3)) (gZ μ) (gZ q.2) q.2 r cs ∧ cAt T n q.2 p' ∧ gI q.2 1011 4 = iI o ∧ gC q.2 + S * p + 600 ≤ gC μ + S * p') ∨ ∃ (k : Int) (l : Nat), sAtomF T n ask at' (sSum T n at') o p = Sum.inl (k, l) ∧ q.1 = none ∧ cErr q.2 k l ∧ gC q.2 + S * p ≤ gC μ + S * (n + 2) + 0)) := by
    intro hna
    have no7 : ¬ (qK T n p < 7 ∧ qAl ask (qK T n p)) := fun ⟨q1, q2⟩ => by
      have hw := (isW_iff y1.1 y1.2).1 (qK_W (T := T) (n := n) p (by omega))
      obtain ⟨i, hi, ei⟩ := kW_asked _ q1
      have : prn i = qK T n p := kW_inj _ (by have := prn_b i hi; omega) _ (by omega) ((sWd_asked i hi).symm.trans ei)
      exact hna i hi (ei.trans hw.symm) (by rw [this]; exact q2)
    have spN : ¬ ((7 ≤ qK T n p ∧ qK T n p < 9) ∧ qAl ask (qK T n p)) → wL T n p ≠ wMin → wL T n p ≠ wMax → sAtomF T n ask at' (sSum T n at') o p = Sum.inl (1, p) := fun h e1 e2 => by rw [sp3 e1 e2, if_neg h, if_neg no7]
    unfold mj_X2_atom_80
    rw [i5]
    by_cases ha' : ask = true
    rotate_left
    · have hf : ask = false := by cases ask <;> simp_all
      refine pw_f (by rw [hf]; decide) (m100 (spN (fun z => ?_)))
      have z2 := z.2
      rw [hf] at z2
      have : qK T n p < 4 := by unfold qAl at z2; rw [if_neg Bool.false_ne_true] at z2; exact z2
      omega
    refine pw_t (by rw [ha']; rfl) ?_
    obtain ⟨r, f1, f2⟩ := c_find y4 hsr.2.2.2.1 (fun c hc => hsr.str (by simp [hc])) (by decide)
    rw [f1]
    refine pw_bind (pw_some (pw_gu rfl ?_))
    try dsimp only
    rcases f2 with ⟨j, j1, rfl, j2, j3⟩ | ⟨rfl, j2⟩
    rotate_left
    · rw [show iI (-1) = (-1 : Int32) by decide]
      refine m100 (spN (fun z => ?_))
      have hw := (isW_iff y1.1 y1.2).1 (qK_W (T := T) (n := n) p (by omega))
      have h78 := sWd_looked (qK T n p - 7) (by omega)
      rw [show 7 + (qK T n p - 7) = qK T n p by omega] at h78
      exact j2 (qK T n p - 7) (by show _ < 2; omega) (h78.trans hw.symm)
    have j1' : j < 2 := j1
    have hwj : wL T n p = kW (7 + j) := j2.symm.trans (sWd_looked j j1')
    have hqj : qK T n p = 7 + j := qK_eq y1.1 y1.2 (by omega) hwj
    have nmm := kW_mm (7 + j) (by omega)
    have ek : wE T n p = p + (kW (7 + j)).length := by rw [← hwj, hlen]; omega
    have spJ := sp3 (by rw [hwj]; exact nmm.1) (by rw [hwj]; exact nmm.2)
    rw [if_pos ⟨⟨by omega, by omega⟩, by rw [hqj]; unfold qAl; rw [if_pos ha']; omega⟩, hqj, ← ek] at spJ
    unfold mj_X2_atom_100
    refine pw_f (by rw [show (-1 : Int32) = iI (-1) by decide, iI_eq (by omega) (by omega)]; omega) ?_
    have looked : pw (cf_X2_looked F (iI (j : Int)) m16) (fun q => pF (gZ m16) m16 q.2 ∧ ((∃ (p' : Nat) (cs : List Int) (r : Nat), sAtomF T n ask at' (sSum T n at') o p = Sum.inr (p', cs) ∧ q.1 = some r ∧ Tv (vRep (alS ask) ask (D + 3)) (gZ μ) (gZ q.2) q.2 r cs ∧ cAt T n q.2 p' ∧ gI q.2 1011 4 = iI o ∧ gC q.2 + S * p + 600 ≤ gC μ + S * p') ∨ ∃ (k : Int) (l : Nat), sAtomF T n ask at' (sSum T n at') o p = Sum.inl (k, l) ∧ q.1 = none ∧ cErr q.2 k l ∧ gC q.2 + S * p ≤ gC μ + S * (n + 2) + 0)) := by
      unfold cf_X2_looked
      rw [y8]
      refine pw_bind (pw_mono (c_opens (μ := m16) (o := o) i4 ho p) ?_)
      rintro ⟨r9, m2⟩ ⟨a3, a4, ⟨d1, d2, d3⟩ | ⟨d1, d2, d3⟩⟩
      · dsimp only at a3 a4 d2 d3 ⊢
        subst d2
        refine pw_gu (zle a4) (pw_gxn (pw_some ⟨a3, Or.inr ⟨4, p, by rw [spJ, if_pos d1], rfl, d3, ?_⟩⟩))
        show gC m2 + S * p ≤ gC μ + S * (n + 2) + 0
        rw [zgC a4, y10]
        omega
      dsimp only at a3 a4 d2 d3 ⊢
      subst d2
      have gz2 : gZ m2 = gZ m16 := congrArg Prod.fst a4
      have gc2 : gC m2 = gC m16 := zgC a4
      refine pw_gu (zle a4) (pw_gxs (pw_gu (by omega) (pw_let ?_)))
      have f7 : pF (gZ m2) m2 (gz_al m2 (14 + 1) 0 3) := pF.al (Nat.le_refl _)
      have k7 : gK (gz_al m2 (14 + 1) 0 3) (gZ m2) = 15 := by rw [al_k, if_pos rfl]
      have gz7' : gZ (gz_al m2 (14 + 1) 0 3) = gZ m2 + 1 := rfl
      have gc7' : gC (gz_al m2 (14 + 1) 0 3) = gC m2 + 11 := by
        show 8 * (gZ m2 + 1) + (gW m2 + 3) = 8 * gZ m2 + gW m2 + 11
        omega
      have j7 : ∀ j : Nat, gI (gz_al m2 (14 + 1) 0 3) 1011 j = gI m2 1011 j := fun j => by rw [al_i, if_neg (by omega)]
      generalize gz_al m2 (14 + 1) 0 3 = m8 at f7 k7 gz7' gc7' j7
      have f8 : pF (gZ m16) m16 m8 := a3.trans (f7.dn (by omega))
      have l2 : gI m2 1011 2 = gI m16 1011 2 := by rw [d3, sI_i, if_neg (by omega)]
      have l4 : gI m2 1011 4 = iI ((o + 1 : Nat) : Int) := by rw [d3, sI_i, if_pos ⟨rfl, rfl⟩]
      have l5 : gI m2 1011 5 = iI (mkA ask) := by rw [d3, sI_i, if_neg (by omega)]; exact i5
      refine pw_bind (pw_mono (hF d1 m8 _ (hL16.p f8) (at16.p ((j7 2).trans l2)) ((j7 4).trans l4) ((j7 5).trans l5)) ?_)
      rintro ⟨o11, m9⟩ ⟨w0, ⟨p', cs, r8, w1, w2, w3, w4, w5, w6⟩ | ⟨k, l, w1, w2, w3, w4⟩⟩
      rotate_left
      · dsimp only at w0 w2 w3 w4 ⊢
        subst w2
        refine pw_gu ⟨w0.1, w0.2.1⟩ (pw_gxn (pw_some ⟨f8.trans (w0.dn (by omega)), Or.inr ⟨k, l, by rw [spJ, if_neg d1, w1], rfl, w3, ?_⟩⟩))
        show gC m9 + S * p ≤ gC μ + S * (n + 2) + 0
        have := mulL S (show p + (wE T n p - p) ≤ skp T n (wE T n p) by omega)
        rw [Nat.mul_add] at this
        have m4 := Nat.mul_le_mul_right (wE T n p - p) (show 1000 ≤ S by omega)
        omega
      dsimp only at w0 w2 w3 w4 w5 w6 ⊢
      subst w2
      have w0z := w0.1
      refine pw_gu ⟨w0.1, w0.2.1⟩ (pw_gxs ?_)
      have kc : gK m9 (gZ m2) = 15 := ((w0.2.2 (gZ m2) (by omega)).1).trans k7
      have r8z : r8 ≠ 0 := by have := w3.1; omega
      have init : cf_X16_init (gZ m2) 1000 (iI (j : Int)) r8 m9 = some ((), gz_sP (gz_sI (gz_sP m9 (gZ m2) 2 1000) (gZ m2) 0 (iI (j : Int))) (gZ m2) 1 r8) := by
        unfold cf_X16_init cf_X11_init
        simp only [Option.bind_some, gz_let]
        rw [if_pos kc, if_pos (by omega), if_pos ⟨sr_hi2 (by omega) 2, by omega⟩, if_pos (show gK (gz_sP m9 (gZ m2) 2 1000) (gZ m2) = 15 from kc), if_pos (by omega), if_pos (show gK (gz_sI (gz_sP m9 (gZ m2) 2 1000) (gZ m2) 0 (iI (j : Int))) (gZ m2) = 15 from kc), if_pos (by omega), if_pos ⟨sr_hi2 (by omega) 1, r8z⟩]
      rw [init]
      have z7 : (gz_sP (gz_sI (gz_sP m9 (gZ m2) 2 1000) (gZ m2) 0 (iI (j : Int))) (gZ m2) 1 r8).2.2.2.2.2 = m9.2.2.2.2.2 := rfl
      have f14 : sFr (gZ m2) m9 (gz_sP (gz_sI (gz_sP m9 (gZ m2) 2 1000) (gZ m2) 0 (iI (j : Int))) (gZ m2) 1 r8) := ((sFr.sP (Nat.le_refl _)).trans (sFr.sI (Nat.le_refl _))).trans (sFr.sP (Nat.le_refl _))
      have kc7 : gK (gz_sP (gz_sI (gz_sP m9 (gZ m2) 2 1000) (gZ m2) 0 (iI (j : Int))) (gZ m2) 1 r8) (gZ m2) = 15 := kc
      have i14 : gI (gz_sP (gz_sI (gz_sP m9 (gZ m2) 2 1000) (gZ m2) 0 (iI (j : Int))) (gZ m2) 1 r8) (gZ m2) 0 = iI (j : Int) := by show gI (gz_sI (gz_sP m9 (gZ m2) 2 1000) (gZ m2) 0 (iI (j : Int))) (gZ m2) 0 = _; rw [sI_i, if_pos ⟨rfl, rfl⟩]
      have p141 : gP (gz_sP (gz_sI (gz_sP m9 (gZ m2) 2 1000) (gZ m2) 0 (iI (j : Int))) (gZ m2) 1 r8) (gZ m2) 1 = r8 := by rw [sP_p, if_pos ⟨rfl, rfl⟩]
      have p142 : gP (gz_sP (gz_sI (gz_sP m9 (gZ m2) 2 1000) (gZ m2) 0 (iI (j : Int))) (gZ m2) 1 r8) (gZ m2) 2 = 1000 := by
        rw [sP_p, if_neg (by omega)]
        show gP (gz_sP m9 (gZ m2) 2 1000) (gZ m2) 2 = 1000
        rw [sP_p, if_pos ⟨rfl, rfl⟩]
      have hi14 : ∀ a b : Nat, gZ m2 < a → inR a b m9 (gz_sP (gz_sI (gz_sP m9 (gZ m2) 2 1000) (gZ m2) 0 (iI (j : Int))) (gZ m2) 1 r8) := fun a b hab => fun x l r => by
        refine ⟨rfl, rfl, fun jj => ⟨?_, rfl, ?_⟩⟩
        · show gI (gz_sI (gz_sP m9 (gZ m2) 2 1000) (gZ m2) 0 (iI (j : Int))) x jj = _
          rw [sI_i, if_neg (by omega)]
          rfl
        · rw [sP_p, if_neg (by omega)]
          show gP (gz_sP m9 (gZ m2) 2 1000) x jj = _
          rw [sP_p, if_neg (by omega)]
      generalize gz_sP (gz_sI (gz_sP m9 (gZ m2) 2 1000) (gZ m2) 0 (iI (j : Int))) (gZ m2) 1 r8 = m14 at z7 f14 kc7 i14 p141 p142 hi14
      have gz14 : gZ m14 = gZ m9 := congrArg Prod.fst z7
      have gc14 : gC m14 = gC m9 := zgC z7
      have q4 : gI m14 1011 4 = iI ((o + 1 : Nat) : Int) := (f14.at (by omega) 4).trans w5
      have e4 : iI ((o + 1 : Nat) : Int) - (1 : Int32) = iI (o : Int) := by
        rw [iI_lit, iI_sub]
        exact congrArg iI (by omega)
      refine pw_bind (pw_some (pw_gu z7 (pw_let ?_)))
      rw [q4, e4]
      refine pw_some ⟨((f8.trans (w0.dn (by omega))).trans ((f14.dn (by omega)).p)).trans (pF.sI (Or.inl (by unfold pX; omega))), Or.inl ⟨p', cs ++ [60 + (j : Int)], gZ m2, ?_, rfl, ?_, ?_, ?_, ?_⟩⟩
      · rw [spJ, if_neg d1, w1]
        show Sum.inr (p', cs ++ [53 + ((7 + j : Nat) : Int)]) = Sum.inr (p', cs ++ [60 + (j : Int)])
        rw [show 53 + ((7 + j : Nat) : Int) = 60 + (j : Int) by omega]
      · refine ⟨⟨by omega, by show gZ m2 < gZ m14; omega⟩, ⟨hz, Nat.le_refl _⟩, fun μ' hi => ?_⟩
        have hi' : inR (gZ μ) (gZ m14) m14 μ' := fun x l r => by
          obtain ⟨t1, t2, t3⟩ := hi x l r
          refine ⟨t1, t2, fun jj => ⟨?_, (t3 jj).2⟩⟩
          rw [(t3 jj).1, sI_i, if_neg (by omega)]
        obtain ⟨o1, o2, o3⟩ := hi' (gZ m2) (by omega) (by omega)
        refine ⟨by omega, ks_hi (by omega), Or.inr (Or.inr (Or.inr (Or.inl ⟨o1.trans kc7, ha', cs, j, by omega, ((o3 0).1).trans i14, ((o3 2).2.2).trans p142, ?_, rfl⟩)))⟩
        rw [(o3 1).2.2, p141]
        refine vRep_le (d := D) (by omega) (w3.2.2 μ' ?_)
        exact (hi14 _ _ (by omega)).trans (hi'.dn (by omega) (by omega))
      · refine w4.p ?_
        rw [sI_i, if_neg (by omega)]
        exact f14.at (by omega) 2
      · rw [sI_i, if_pos ⟨rfl, rfl⟩]
      · show gC m14 + S * p + 600 ≤ gC μ + S * p'
        have := mulL S (show p + (wE T n p - p) ≤ skp T n (wE T n p) by omega)
        rw [Nat.mul_add] at this
        have m4 := Nat.mul_le_mul_right (wE T n p - p) (show 1000 ≤ S by omega)
        omega
    refine pw_bind (pw_mono looked ?_)
    rintro ⟨o22, m20⟩ ⟨v0, ⟨p', cs, r', v1, v2, v3, v4, v5, v6⟩ | ⟨k, l, v1, v2, v3, v4⟩⟩
    · dsimp only at v0 v2 v3 v4 v5 v6 ⊢
      subst v2
      exact pw_gu ⟨v0.1, v0.2.1⟩ (pw_gxs (pw_some ⟨f16.trans (v0.dn (by omega)), Or.inl ⟨p', cs, r', v1, rfl, v3, v4, v5, v6⟩⟩))
    · dsimp only at v0 v2 v3 v4 ⊢
      subst v2
      exact pw_gu ⟨v0.1, v0.2.1⟩ (pw_gxn (pw_some ⟨f16.trans (v0.dn (by omega)), Or.inr ⟨k, l, v1, rfl, v3, v4⟩⟩))
  obtain ⟨r, f1, f2⟩ := c_find y4 hsr.2.2.1 (fun c hc => hsr.str (by simp [hc])) (by decide)
  rw [f1]
  refine pw_bind (pw_some (pw_gu rfl ?_))
  try dsimp only
  rcases f2 with ⟨i, j1, rfl, j2, j3⟩ | ⟨rfl, j2⟩
  rotate_left
  · rw [show iI (-1) = (-1 : Int32) by decide]
    exact pw_t rfl (m80 (fun i hi e => absurd e (j2 i hi)))
  have j1' : i < 7 := j1
  have hwi : wL T n p = kW (prn i) := j2.symm.trans (sWd_asked i j1')
  have hpb := prn_b i j1'
  have hqi : qK T n p = prn i := qK_eq y1.1 y1.2 (by omega) hwi
  refine pw_f (by rw [show (-1 : Int32) = iI (-1) by decide, iI_eq (by omega) (by omega)]; omega) ?_
  rw [i5, c_hasA j1']
  refine pw_bind (pw_some (pw_gu rfl ?_))
  try dsimp only
  by_cases hal : qAl ask (prn i)
  rotate_left
  · rw [if_neg hal]
    refine pw_t (by first | rfl | exact True.intro) (m80 (fun i' hi' e => ?_))
    have : prn i' = prn i := kW_inj _ (by have := prn_b i' hi'; omega) _ (by omega) (((sWd_asked i' hi').symm.trans e).trans hwi)
    rw [this]
    exact hal
  rw [if_pos hal]
  have nmm := kW_mm (prn i) (by omega)
  have ek : wE T n p = p + (kW (prn i)).length := by rw [← hwi, hlen]; omega
  have spI := sp3 (by rw [hwi]; exact nmm.1) (by rw [hwi]; exact nmm.2)
  rw [if_neg (by omega), if_pos ⟨by omega, by rw [hqi]; exact hal⟩, hqi, ← ek] at spI
  refine pw_f n10 (pw_gu (by omega) (pw_let ?_))
  have f31 : pF (gZ m16) m16 (gz_al m16 (13 + 1) 0 1) := pF.al (Nat.le_refl _)
  have k31 : gK (gz_al m16 (13 + 1) 0 1) (gZ m16) = 14 := by rw [al_k, if_pos rfl]
  have gz31 : gZ (gz_al m16 (13 + 1) 0 1) = gZ m16 + 1 := rfl
  have gc31 : gC (gz_al m16 (13 + 1) 0 1) = gC m16 + 9 := by
    show 8 * (gZ m16 + 1) + (gW m16 + 1) = 8 * gZ m16 + gW m16 + 9
    omega
  have j31 : ∀ j : Nat, gI (gz_al m16 (13 + 1) 0 1) 1011 j = gI m16 1011 j := fun j => by rw [al_i, if_neg (by omega)]
  generalize gz_al m16 (13 + 1) 0 1 = m31 at f31 k31 gz31 gc31 j31
  unfold cf_X15_init cf_X11_init
  simp only [Option.bind_some, gz_let]
  rw [if_pos k31, if_pos (by omega)]
  refine pw_bind (pw_some (pw_gu rfl (pw_some ⟨(f16.trans (f31.dn (by omega))).trans (pF.sI (Or.inr (by omega))), Or.inl ⟨skp T n (wE T n p), [40 + (prn i : Int)], gZ m16, spI, rfl, ?_, ?_, ?_, ?_⟩⟩)))
  · refine ⟨⟨by omega, by show gZ m16 < gZ m31; omega⟩, ⟨hz, Nat.le_refl _⟩, fun μ' hi => ?_⟩
    obtain ⟨o1, o2, o3⟩ := hi (gZ m16) (by omega) (by show gZ m16 < gZ m31; omega)
    refine ⟨by omega, ks_hi (by omega), Or.inr (Or.inl ⟨o1.trans k31, i, by omega, qAl_alS j1' hal, ?_, by rw [prn_prt i j1']⟩)⟩
    rw [(o3 0).1, sI_i, if_pos ⟨rfl, rfl⟩]
  · refine at16.p ?_
    rw [sI_i, if_neg (by omega)]
    exact j31 2
  · rw [sI_i, if_neg (by omega), j31]
    exact i4
  · show gC m31 + S * p + 600 ≤ gC μ + S * skp T n (wE T n p)
    have := mulL S (show p + (wE T n p - p) ≤ skp T n (wE T n p) by omega)
    rw [Nat.mul_add] at this
    have m4 := Nat.mul_le_mul_right (wE T n p - p) (show 1000 ≤ S by omega)
    omega
end AtomC
