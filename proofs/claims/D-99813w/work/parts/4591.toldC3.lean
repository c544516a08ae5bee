/-! ===== the component: things and ties are told ===== -/
section ToldC3
variable {T : Nat → Int} {n S z0 c : Nat} {μ : gM} {h : HS}
theorem c_thingT {p p0 : Nat} (hS : 1000 ≤ S) (hL : cLx T n μ) (ha : cAt T n μ p) (ho : hsOK h) (st : stC z0 c μ h) : pw (cf_X2_readsThing (iI p0) μ) (tC T n S z0 c μ (sThing T n h p0 p) p ()) := by
  obtain ⟨hT, -⟩ := id hL
  have hpn := (ha.le hT).1
  obtain ⟨z1, z2, z3, z4, z5, z6⟩ := st.z
  have hz := hL.2.2.2.2
  have h9 := ho.nt8
  have h8 := ho.nh8
  have ls2 : lst μ (gP μ c 5) h.nt := st.ls (i := 2) (by omega)
  unfold cf_X2_readsThing
  refine pw_let ?_
  rw [st.2.2.1]
  refine pw_gu z3 (pw_gu z4 (pw_let (pw_gu ls2.1 (pw_gu ls2.2.2.1 ?_))))
  rw [c_size ls2]
  refine pw_bind (pw_some (pw_gu rfl ?_))
  have main : ∀ s : Nat, ((s = 1 ∧ h.nt = 8) ∨ (s = 0 ∧ h.nt ≠ 8)) → pw (mj_X2_readsThing_23 (iI p0) (iI s) μ) (tC T n S z0 c μ (sThing T n h p0 p) p ()) := fun s hs => by
    unfold mj_X2_readsThing_23
    refine pw_bind (pw_mono (c_most (s := s) (l := p0) (by omega)) ?_)
    rintro ⟨o, m2⟩ h2
    dsimp only at h2 ⊢
    rcases h2 with ⟨s0, e, e2⟩ | ⟨s1, e, hE, zE, fE⟩
    rotate_left
    · subst e
      have hn : h.nt = 8 := by omega
      exact pw_gu (zle zE) (pw_gxn (pw_some (tC.bad z1 z2 hpn (fE _) (by unfold sThing; rw [if_pos hn]) hE (by rw [zgC zE]; omega))))
    subst e e2
    have hn : h.nt ≠ 8 := by omega
    refine pw_gu ⟨Nat.le_refl _, Nat.le_refl _⟩ (pw_gxs ?_)
    refine pw_bind (pw_mono (c_fresh hL ha ho st.2.2.1 st.1) ?_)
    rintro ⟨o, m7⟩ ⟨f7, h7⟩
    dsimp only at f7 h7 ⊢
    refine pw_gu ⟨f7.1, f7.2.1⟩ ?_
    rcases h7 with ⟨p1, sx, w, e1, e, hs1, hs2, hs3, a1, b4, bC⟩ | ⟨k, l, e1, e, hE, hC⟩
    rotate_left
    · subst e
      exact pw_gxn (pw_some (tC.bad z1 z2 hpn f7 (by unfold sThing; rw [if_neg hn, rB_l e1]) hE (by omega)))
    subst e
    have o1 := sFresh_ok hT e1
    have st1 := st.p f7 b4
    have hL1 := hL.p f7
    refine pw_gxs (pw_bind (pw_mono (c_word3 hL1 a1 (litW hL1 (show (138, wIn) ∈ sTab by decide +kernel) (by omega))) ?_))
    rintro ⟨o, m12⟩ ⟨f12, h12⟩
    dsimp only at f12 h12 ⊢
    have x12 : pF (gZ m2) m2 m12 := f7.trans (f12.dn f7.1)
    refine pw_gu ⟨f12.1, f12.2.1⟩ ?_
    rcases h12 with ⟨e2, e, a2, b42, bC2⟩ | ⟨e2, e, hE, hC⟩
    rotate_left
    · subst e
      exact pw_gxn (pw_some (tC.bad z1 z2 hpn x12 (by unfold sThing; rw [if_neg hn, rB_r e1, rB_l e2]) hE (by omega)))
    subst e
    have st2 := st1.p f12 b42
    have hL2 := hL1.p f12
    have wl : wIn.length = 2 := rfl
    refine pw_gxs (pw_let ?_)
    rw [st2.2.2.1]
    have lsb : lst m12 (gP m12 c 3) h.nh := st2.ls (i := 0) (by omega)
    refine pw_gu z3 (pw_gu st2.z.2.2.2.1 (pw_let (pw_gu lsb.1 ?_)))
    refine pw_bind (pw_mono (c_known1 (i := 0) hL2 a2 ho st2.1 (Or.inl rfl)) ?_)
    rintro ⟨o, m22⟩ ⟨f22, h22⟩
    dsimp only at f22 h22 ⊢
    have x22 : pF (gZ m2) m2 m22 := x12.trans (f22.dn x12.1)
    refine pw_gu ⟨f22.1, f22.2.1⟩ ?_
    rcases h22 with ⟨p3, a, e3, e, a3, -, b43, bC3⟩ | ⟨k, l, e3, e, hE, hC⟩
    rotate_left
    · subst e
      exact pw_gxn (pw_some (tC.bad z1 z2 hpn x22 (by unfold sThing; rw [if_neg hn, rB_r e1, rB_r e2]; exact rB_l e3) hE (by omega)))
    subst e
    have e3 : sKnown T n h.hn h.nh (-1) (skp T n (p1 + wIn.length)) = Sum.inr (p3, a) := e3
    have o3 := sKnown_ok hT e3
    have st3 := st2.p f22 b43
    have hL3 := hL2.p f22
    refine pw_gxs (pw_bind (pw_mono (c_numW hL3 a3 (litW hL3 (show (140, wBurns) ∈ sTab by decide +kernel) (by omega)) (lo := 1) (hi := 99) (by omega) (by omega)) ?_))
    rintro ⟨o, m27⟩ ⟨f27, h27⟩
    dsimp only at f27 h27 ⊢
    have x27 : pF (gZ m2) m2 m27 := x22.trans (f27.dn x22.1)
    refine pw_gu ⟨f27.1, f27.2.1⟩ ?_
    have wl2 : wBurns.length = 5 := rfl
    rcases h27 with ⟨p4, p5, v, e4, e5, e, a5, b45, bC5⟩ | ⟨k, l, e4, e, hE, hC⟩
    rotate_left
    · subst e
      refine pw_gxn (pw_some (tC.bad z1 z2 hpn x27 (k := k) (l := l) ?_ hE (by omega)))
      unfold sThing
      rw [if_neg hn, rB_r e1, rB_r e2, rB_r e3]
      rcases e4 with e4 | ⟨p4, e4, e5⟩
      · exact rB_l e4
      · rw [rB_r e4]; exact rB_l e5
    subst e
    have st4 := st3.p f27 b45
    have hL4 := hL3.p f27
    refine pw_gxs (pw_let ?_)
    rw [st4.2.2.1]
    have lsd : lst m27 (gP m27 c 5) h.nt := st4.ls (i := 2) (by omega)
    refine pw_gu z3 (pw_gu st4.z.2.2.2.1 (pw_let (pw_gu lsd.1 (pw_gu (by have := x27.1; omega) (pw_let ?_)))))
    have x37 : pF (gZ m27) m27 (gz_al m27 (8 + 1) 0 4) := pF.al (Nat.le_refl _)
    have k37 : gK (gz_al m27 (8 + 1) 0 4) (gZ m27) = 9 := by rw [al_k, if_pos rfl]
    have g37 : gZ (gz_al m27 (8 + 1) 0 4) = gZ m27 + 1 := rfl
    have c37 := al_c m27 (8 + 1) 4
    have z27 := x27.1
    have i37 : ∀ j : Nat, gI (gz_al m27 (8 + 1) 0 4) 1011 j = gI m27 1011 j := fun j => by rw [al_i, if_neg (by omega)]
    generalize gz_al m27 (8 + 1) 0 4 = m37 at x37 k37 g37 c37 i37
    have hL5 := hL4.p x37
    refine pw_bind (pw_mono (c_numW hL5 (a5.p (i37 2)) (litW hL5 (show (102, wHeat) ∈ sTab by decide +kernel) (by omega)) (lo := 0) (hi := 9) (by omega) (by omega)) ?_)
    rintro ⟨o, m39⟩ ⟨f39, h39⟩
    dsimp only at f39 h39 ⊢
    have x39 : pF (gZ m27) m27 m39 := x37.trans (f39.dn (by omega))
    refine pw_gu ⟨f39.1, f39.2.1⟩ ?_
    have wl3 : wHeat.length = 4 := rfl
    rcases h39 with ⟨p6, p7, u, e6, e7, e, a7, b47, bC7⟩ | ⟨k, l, e6, e, hE, hC⟩
    rotate_left
    · subst e
      refine pw_gxn (pw_some (tC.bad z1 z2 hpn (x27.trans (x39.dn (by omega))) (k := k) (l := l) ?_ hE (by omega)))
      unfold sThing
      rw [if_neg hn, rB_r e1, rB_r e2, rB_r e3, rB_r e4, rB_r e5]
      rcases e6 with e6 | ⟨p6, e6, e7⟩
      · exact rB_l e6
      · rw [rB_r e6]; exact rB_l e7
    subst e
    refine pw_gxs ?_
    have o2 := sWrd_ok hT (by decide) e2
    have o4 := sWrd_ok hT (by decide) e4
    have o5 := sNum_ok2 hT o4.2.2.1 e5
    have o6 := sWrd_ok hT (by decide) e6
    have o7 := sNum_ok2 hT o6.2.2.1 e7
    have k39 : gK m39 (gZ m27) = 9 := ((f39.2.2 (gZ m27) (by omega)).1).trans k37
    have l39 := f39.1
    have lsx : sx < gZ m27 ∧ gP m7 sx 0 < gZ m27 := by have := f12.1; have := f22.1; have := f27.1; omega
    have l7 : gZ m7 ≤ gZ m27 := by have := f12.1; have := f22.1; have := f27.1; omega
    -- the name still stands
    have f7' : pF (gZ m7) m7 m39 := ((f12.trans (f22.dn f12.1)).trans (f27.dn (by have := f12.1; have := f22.1; omega))).trans (x39.dn l7)
    have nm39 : strR m39 sx w := by
      have a := f7'.sm (d := sx) (by omega) hs1.2
      have b := f7'.sm (d := gP m7 sx 0) (by omega) hs3.2
      obtain ⟨⟨t1, t2, t3, t4⟩, ⟨t5, t6, t7, t8⟩, t9, t10⟩ := hs2
      have eP2 : gP m39 sx 0 = gP m7 sx 0 := (a.2.2 0).2.2
      refine ⟨⟨t1, t2, a.1.trans t3, ((a.2.2 1).1).trans t4⟩, ⟨by rw [eP2]; exact t5, by rw [eP2]; exact t6, by rw [eP2]; exact b.1.trans t7, by rw [eP2]; exact b.2.1.trans t8⟩, t9, fun i hi => ?_⟩
      rw [eP2]
      exact ⟨((b.2.2 i).1).trans (t10 i hi).1, (t10 i hi).2⟩
    have eP39 : gP m39 sx 0 = gP m7 sx 0 := ((f7'.sm (d := sx) (by omega) hs1.2).2.2 0).2.2
    have init : cf_X9_init (gZ m27) sx (iI a) (iI v) (iI u) m39 = some ((), gz_sI (gz_sI (gz_sI (gz_sP m39 (gZ m27) 0 sx) (gZ m27) 1 (iI a)) (gZ m27) 2 (iI v)) (gZ m27) 3 (iI u)) := by
      unfold cf_X9_init cf_X7_init
      rw [if_pos (Or.inr k39), if_pos (show 1000 ≤ gZ m27 by omega), if_pos ⟨sr_hi2 (by omega) 0, by omega⟩]
      simp only [gz_let, Option.bind_some]
      rw [if_pos (show gK (gz_sP m39 (gZ m27) 0 sx) (gZ m27) = 9 from k39), if_pos (by omega), if_pos (show gK (gz_sI (gz_sP m39 (gZ m27) 0 sx) (gZ m27) 1 (iI a)) (gZ m27) = 9 from k39), if_pos (by omega), if_pos (show gK (gz_sI (gz_sI (gz_sP m39 (gZ m27) 0 sx) (gZ m27) 1 (iI a)) (gZ m27) 2 (iI v)) (gZ m27) = 9 from k39), if_pos (by omega)]
    rw [init]
    refine pw_bind (pw_some (pw_gu rfl ?_))
    have x44 : pF (gZ m27) m27 (gz_sI (gz_sI (gz_sI (gz_sP m39 (gZ m27) 0 sx) (gZ m27) 1 (iI a)) (gZ m27) 2 (iI v)) (gZ m27) 3 (iI u)) := (((x39.trans (pF.sP (Nat.le_refl _))).trans (pF.sI (Or.inr (Nat.le_refl _)))).trans (pF.sI (Or.inr (Nat.le_refl _)))).trans (pF.sI (Or.inr (Nat.le_refl _)))
    have y0 : ∀ j : Nat, gI (gz_sI (gz_sI (gz_sI (gz_sP m39 (gZ m27) 0 sx) (gZ m27) 1 (iI a)) (gZ m27) 2 (iI v)) (gZ m27) 3 (iI u)) 1011 j = gI m39 1011 j := fun j => by rw [sI_i, if_neg (by omega), sI_i, if_neg (by omega), sI_i, if_neg (by omega)]; rfl
    have yK : gK (gz_sI (gz_sI (gz_sI (gz_sP m39 (gZ m27) 0 sx) (gZ m27) 1 (iI a)) (gZ m27) 2 (iI v)) (gZ m27) 3 (iI u)) (gZ m27) = 9 := k39
    have y1 : gI (gz_sI (gz_sI (gz_sI (gz_sP m39 (gZ m27) 0 sx) (gZ m27) 1 (iI a)) (gZ m27) 2 (iI v)) (gZ m27) 3 (iI u)) (gZ m27) 1 = iI a := by rw [sI_i, if_neg (by omega), sI_i, if_neg (by omega), sI_i, if_pos ⟨rfl, rfl⟩]
    have y2 : gI (gz_sI (gz_sI (gz_sI (gz_sP m39 (gZ m27) 0 sx) (gZ m27) 1 (iI a)) (gZ m27) 2 (iI v)) (gZ m27) 3 (iI u)) (gZ m27) 2 = iI v := by rw [sI_i, if_neg (by omega), sI_i, if_pos ⟨rfl, rfl⟩]
    have y3 : gI (gz_sI (gz_sI (gz_sI (gz_sP m39 (gZ m27) 0 sx) (gZ m27) 1 (iI a)) (gZ m27) 2 (iI v)) (gZ m27) 3 (iI u)) (gZ m27) 3 = iI u := by rw [sI_i, if_pos ⟨rfl, rfl⟩]
    have yP : gP (gz_sI (gz_sI (gz_sI (gz_sP m39 (gZ m27) 0 sx) (gZ m27) 1 (iI a)) (gZ m27) 2 (iI v)) (gZ m27) 3 (iI u)) (gZ m27) 0 = sx := by
      show gP (gz_sP m39 (gZ m27) 0 sx) (gZ m27) 0 = sx
      rw [sP_p, if_pos ⟨rfl, rfl⟩]
    have yS : smC m39 (gz_sI (gz_sI (gz_sI (gz_sP m39 (gZ m27) 0 sx) (gZ m27) 1 (iI a)) (gZ m27) 2 (iI v)) (gZ m27) 3 (iI u)) sx ∧ smC m39 (gz_sI (gz_sI (gz_sI (gz_sP m39 (gZ m27) 0 sx) (gZ m27) 1 (iI a)) (gZ m27) 2 (iI v)) (gZ m27) 3 (iI u)) (gP m7 sx 0) := by
      refine ⟨⟨rfl, rfl, fun j => ⟨?_, rfl, ?_⟩⟩, ⟨rfl, rfl, fun j => ⟨?_, rfl, ?_⟩⟩⟩
      · rw [sI_i, if_neg (by omega), sI_i, if_neg (by omega), sI_i, if_neg (by omega)]; rfl
      · show gP (gz_sP m39 (gZ m27) 0 sx) sx j = _
        rw [sP_p, if_neg (by omega)]
      · rw [sI_i, if_neg (by omega), sI_i, if_neg (by omega), sI_i, if_neg (by omega)]; rfl
      · show gP (gz_sP m39 (gZ m27) 0 sx) (gP m7 sx 0) j = _
        rw [sP_p, if_neg (by omega)]
    have yZ : gZ (gz_sI (gz_sI (gz_sI (gz_sP m39 (gZ m27) 0 sx) (gZ m27) 1 (iI a)) (gZ m27) 2 (iI v)) (gZ m27) 3 (iI u)) = gZ m39 := rfl
    have yC : gC (gz_sI (gz_sI (gz_sI (gz_sP m39 (gZ m27) 0 sx) (gZ m27) 1 (iI a)) (gZ m27) 2 (iI v)) (gZ m27) 3 (iI u)) = gC m39 := rfl
    generalize gz_sI (gz_sI (gz_sI (gz_sP m39 (gZ m27) 0 sx) (gZ m27) 1 (iI a)) (gZ m27) 2 (iI v)) (gZ m27) 3 (iI u) = m44 at x44 y0 yK y1 y2 y3 yP yS yZ yC
    have X44 : pF (gZ m2) m2 m44 := x27.trans (x44.dn z27)
    obtain ⟨μ', q1, q0, q2, q3, q4, q5, q6, q7, q8, q9⟩ := c_put (i := 2) (e := gZ m27) (h' := (HS.mk h.nh h.hn (h.nt + 1) (hupd h.tn h.nt w) (hupd h.tv h.nt (a, v, u)) h.nd h.dv h.ni h.iv h.st h.dg h.bu h.mn h.sm)) st ho (by omega) X44 (by omega) (cOb_of yK (by omega) (by omega)) ((y0 4).trans (b47.trans ((i37 4).trans (b45.trans (b43.trans (b42.trans b4)))))) (by
        funext j
        by_cases e : j = 2
        · subst e; rfl
        · rw [hupd_ne _ _ e]; unfold hN
          by_cases e0 : j = 0
          · rw [if_pos e0, if_pos e0]; rfl
          · rw [if_neg e0, if_neg e0]
            by_cases e1 : j = 1
            · rw [if_pos e1, if_pos e1]; rfl
            · rw [if_neg e1, if_neg e1, if_neg e, if_neg e]; rfl) (fun j k hj hk μ' r q => by
        by_cases e : j = 2
        · subst e
          have hk : k < h.nt := hk
          show _ ∧ strR μ' (gP μ' r 0) (hupd h.tn h.nt w k) ∧ gI μ' r 1 = iI (hupd h.tv h.nt (a, v, u) k).1 ∧ gI μ' r 2 = iI (hupd h.tv h.nt (a, v, u) k).2.1 ∧ gI μ' r 3 = iI (hupd h.tv h.nt (a, v, u) k).2.2
          rw [hupd_ne _ _ (show k ≠ h.nt by omega), hupd_ne _ _ (show k ≠ h.nt by omega)]; exact q
        · unfold hP at q ⊢
          by_cases e0 : j = 0
          · rw [if_pos e0] at q ⊢; exact q
          · rw [if_neg e0] at q ⊢
            by_cases e1 : j = 1
            · rw [if_pos e1] at q ⊢; exact q
            · rw [if_neg e1, if_neg e] at q ⊢; exact q) ⟨fun d => d = gZ m27 ∨ d = sx ∨ d = gP m7 sx 0, fun d hd => by
        rcases hd with e | e | e <;> omega, fun μ' hd => by
        have d1 := hd _ (Or.inl rfl)
        have d2 := yS.1.trans (hd _ (Or.inr (Or.inl rfl)))
        have d3 := yS.2.trans (hd _ (Or.inr (Or.inr rfl)))
        have eP : gP μ' (gZ m27) 0 = sx := ((d1.2.2 0).2.2).trans yP
        show _ ∧ strR μ' (gP μ' (gZ m27) 0) (hupd h.tn h.nt w h.nt) ∧ gI μ' (gZ m27) 1 = iI (hupd h.tv h.nt (a, v, u) h.nt).1 ∧ gI μ' (gZ m27) 2 = iI (hupd h.tv h.nt (a, v, u) h.nt).2.1 ∧ gI μ' (gZ m27) 3 = iI (hupd h.tv h.nt (a, v, u) h.nt).2.2
        rw [hupd_at, hupd_at, eP]
        obtain ⟨⟨t1, t2, t3, t4⟩, ⟨t5, t6, t7, t8⟩, t9, t10⟩ := nm39
        rw [eP39] at t5 t6 t7 t8 t10
        have eP2 : gP μ' sx 0 = gP m7 sx 0 := ((d2.2.2 0).2.2).trans eP39
        refine ⟨d1.1.trans yK, ⟨⟨t1, t2, d2.1.trans t3, ((d2.2.2 1).1).trans t4⟩, ⟨by rw [eP2]; exact t5, by rw [eP2]; exact t6, by rw [eP2]; exact d3.1.trans t7, by rw [eP2]; exact d3.2.1.trans t8⟩, t9, fun i hi => ?_⟩, ((d1.2.2 1).1).trans y1, ((d1.2.2 2).1).trans y2, ((d1.2.2 3).1).trans y3⟩
        rw [eP2]
        exact ⟨((d3.2.2 i).1).trans (t10 i hi).1, (t10 i hi).2⟩⟩ ⟨rfl, rfl, rfl, rfl⟩
    have el5 : gP m27 c 5 = lcC m2 c 2 := (st.1.pl x27 2 (by omega)).1
    rw [el5]
    refine pw_gu q0 ?_
    rw [q1]
    refine pw_bind (pw_some (pw_gu ⟨q8, q9⟩ (pw_some (tC.good hS q3 q4 (by unfold sThing; rw [if_neg hn, rB_r e1, rB_r e2, rB_r e3, rB_r e4, rB_r e5, rB_r e6, rB_r e7]) q2 (a7.p (q5.trans (y0 2))) q6 (by omega) (by show gC μ' ≤ _; omega)))))
  by_cases q : h.nt = 8
  · rw [q]
    exact pw_t (by decide) (main 1 (Or.inl ⟨rfl, q⟩))
  · exact pw_f (by rw [show (8 : Int32) = iI 8 from rfl, iI_eq (by omega) (by omega)]; omega) (main 0 (Or.inr ⟨rfl, q⟩))
theorem c_tieT {p p0 : Nat} (hS : 1000 ≤ S) (hL : cLx T n μ) (ha : cAt T n μ p) (ho : hsOK h) (st : stC z0 c μ h) : pw (cf_X2_readsTie (iI p0) μ) (tC T n S z0 c μ (sTie T n h p0 p) p ()) := by
  obtain ⟨hT, -⟩ := id hL
  have hpn := (ha.le hT).1
  obtain ⟨z1, z2, z3, z4, z5, z6⟩ := st.z
  have hz := hL.2.2.2.2
  have h12 := ho.ni12
  have h9 := ho.nt8
  have ls3 : lst μ (gP μ c 6) h.ni := st.ls (i := 3) (by omega)
  have ls2 : lst μ (gP μ c 5) h.nt := st.ls (i := 2) (by omega)
  unfold cf_X2_readsTie
  refine pw_let ?_
  rw [st.2.2.1]
  refine pw_gu z3 (pw_gu z4 (pw_let (pw_gu ls3.1 (pw_gu ls3.2.2.1 ?_))))
  rw [c_size ls3]
  refine pw_bind (pw_some (pw_gu rfl ?_))
  have main : ∀ s : Nat, ((s = 1 ∧ h.ni = 12) ∨ (s = 0 ∧ h.ni ≠ 12)) → pw (mj_X2_readsTie_23 (iI p0) (iI s) μ) (tC T n S z0 c μ (sTie T n h p0 p) p ()) := fun s hs => by
    unfold mj_X2_readsTie_23
    refine pw_bind (pw_mono (c_most (s := s) (l := p0) (by omega)) ?_)
    rintro ⟨o, m2⟩ h2
    dsimp only at h2 ⊢
    rcases h2 with ⟨s0, e, e2⟩ | ⟨s1, e, hE, zE, fE⟩
    rotate_left
    · subst e
      have hn : h.ni = 12 := by omega
      exact pw_gu (zle zE) (pw_gxn (pw_some (tC.bad z1 z2 hpn (fE _) (by unfold sTie; rw [if_pos hn]) hE (by rw [zgC zE]; omega))))
    subst e e2
    have hn : h.ni ≠ 12 := by omega
    refine pw_gu ⟨Nat.le_refl _, Nat.le_refl _⟩ (pw_gxs (pw_let ?_))
    rw [st.2.2.1]
    refine pw_gu z3 (pw_gu z4 (pw_let (pw_gu ls2.1 ?_)))
    refine pw_bind (pw_mono (c_known1 (i := 2) hL ha ho st.1 (Or.inr rfl)) ?_)
    rintro ⟨o, m12⟩ ⟨f12, h12'⟩
    dsimp only at f12 h12' ⊢
    refine pw_gu ⟨f12.1, f12.2.1⟩ ?_
    rcases h12' with ⟨p1, a, e1, e, a1, -, b4, bC⟩ | ⟨k, l, e1, e, hE, hC⟩
    rotate_left
    · subst e
      exact pw_gxn (pw_some (tC.bad z1 z2 hpn f12 (by unfold sTie; rw [if_neg hn]; exact rB_l e1) hE (by omega)))
    subst e
    have e1 : sKnown T n h.tn h.nt (-1) p = Sum.inr (p1, a) := e1
    have o1 := sKnown_ok hT e1
    have st1 := st.p f12 b4
    have hL1 := hL.p f12
    refine pw_gxs (pw_bind (pw_mono (c_word3 hL1 a1 (litW hL1 (show (134, wTo) ∈ sTab by decide +kernel) (by omega))) ?_))
    rintro ⟨o, m17⟩ ⟨f17, h17⟩
    dsimp only at f17 h17 ⊢
    have x17 : pF (gZ m2) m2 m17 := f12.trans (f17.dn f12.1)
    refine pw_gu ⟨f17.1, f17.2.1⟩ ?_
    rcases h17 with ⟨e2, e, a2, b42, bC2⟩ | ⟨e2, e, hE, hC⟩
    rotate_left
    · subst e
      exact pw_gxn (pw_some (tC.bad z1 z2 hpn x17 (by unfold sTie; rw [if_neg hn, rB_r e1, rB_l e2]) hE (by omega)))
    subst e
    have st2 := st1.p f17 b42
    have hL2 := hL1.p f17
    refine pw_gxs (pw_let ?_)
    rw [st2.2.2.1]
    have lsb : lst m17 (gP m17 c 5) h.nt := st2.ls (i := 2) (by omega)
    refine pw_gu z3 (pw_gu st2.z.2.2.2.1 (pw_let (pw_gu lsb.1 ?_)))
    refine pw_bind (pw_mono (c_known (i := 2) (but := a) hL2 a2 ho st2.1 (Or.inr rfl) (by omega)) ?_)
    rintro ⟨o, m27⟩ ⟨f27, h27⟩
    dsimp only at f27 h27 ⊢
    have x27 : pF (gZ m2) m2 m27 := x17.trans (f27.dn x17.1)
    refine pw_gu ⟨f27.1, f27.2.1⟩ ?_
    have wl : wTo.length = 2 := rfl
    rcases h27 with ⟨p3, b, e3, e, a3, b33, b43, bC3⟩ | ⟨k, l, e3, e, hE, hC⟩
    rotate_left
    · subst e
      exact pw_gxn (pw_some (tC.bad z1 z2 hpn x27 (by unfold sTie; rw [if_neg hn, rB_r e1, rB_r e2]; exact rB_l e3) hE (by omega)))
    subst e
    have e3 : sKnown T n h.tn h.nt a (skp T n (p1 + wTo.length)) = Sum.inr (p3, b) := e3
    have o3 := sKnown_ok hT e3
    have o2 := sWrd_ok hT (by decide) e2
    have st3 := st2.p f27 b43
    have hL3 := hL2.p f27
    have z27 := x27.1
    refine pw_gxs (pw_let ?_)
    rw [st3.2.2.1]
    refine pw_gu z3 (pw_gu st3.z.2.2.2.1 ?_)
    rw [c_isTied ho st3.1 (by omega) (by omega)]
    refine pw_bind (pw_some (pw_gu rfl ?_))
    dsimp only
    by_cases qt : fp h.iv a b h.ni = true
    · rw [if_pos qt, b33]
      refine pw_f n10 ?_
      exact c_thr (α := Nat) (k := 3) (e := fun m2 => some (none, m2)) (fun μ' g1 g2 g3 => pw_some (tC.bad z1 z2 hpn (x27.trans (g3 _)) (by unfold sTie; rw [if_neg hn, rB_r e1, rB_r e2, rB_r e3, if_pos qt]) g1 (by have e4 : gC μ' = gC m27 := zgC g2; omega)))
    rw [if_neg qt]
    refine pw_t (by first | rfl | exact True.intro) (pw_let ?_)
    rw [st3.2.2.1]
    have lsd : lst m27 (gP m27 c 6) h.ni := st3.ls (i := 3) (by omega)
    refine pw_gu z3 (pw_gu st3.z.2.2.2.1 (pw_let (pw_gu lsd.1 (pw_gu (by omega) (pw_let ?_)))))
    have x37 : pF (gZ m27) m27 (gz_al m27 (9 + 1) 0 2) := pF.al (Nat.le_refl _)
    have k37 : gK (gz_al m27 (9 + 1) 0 2) (gZ m27) = 10 := by rw [al_k, if_pos rfl]
    have g37 : gZ (gz_al m27 (9 + 1) 0 2) = gZ m27 + 1 := rfl
    have c37 := al_c m27 (9 + 1) 2
    have i37 : ∀ j : Nat, gI (gz_al m27 (9 + 1) 0 2) 1011 j = gI m27 1011 j := fun j => by rw [al_i, if_neg (by omega)]
    generalize gz_al m27 (9 + 1) 0 2 = m39 at x37 k37 g37 c37 i37
    have init : cf_X10_init (gZ m27) (iI a) (iI b) m39 = some ((), gz_sI (gz_sI m39 (gZ m27) 0 (iI a)) (gZ m27) 1 (iI b)) := by
      unfold cf_X10_init
      simp only [gz_let]
      rw [if_pos k37, if_pos (by omega), if_pos (show gK (gz_sI m39 (gZ m27) 0 (iI a)) (gZ m27) = 10 from k37), if_pos (by omega)]
    rw [init]
    refine pw_bind (pw_some (pw_gu rfl ?_))
    have x44 : pF (gZ m27) m27 (gz_sI (gz_sI m39 (gZ m27) 0 (iI a)) (gZ m27) 1 (iI b)) := (x37.trans (pF.sI (Or.inr (Nat.le_refl _)))).trans (pF.sI (Or.inr (Nat.le_refl _)))
    have y0 : ∀ j : Nat, gI (gz_sI (gz_sI m39 (gZ m27) 0 (iI a)) (gZ m27) 1 (iI b)) 1011 j = gI m39 1011 j := fun j => by rw [sI_i, if_neg (by omega), sI_i, if_neg (by omega)]
    have yK : gK (gz_sI (gz_sI m39 (gZ m27) 0 (iI a)) (gZ m27) 1 (iI b)) (gZ m27) = 10 := k37
    have y1 : gI (gz_sI (gz_sI m39 (gZ m27) 0 (iI a)) (gZ m27) 1 (iI b)) (gZ m27) 0 = iI a := by rw [sI_i, if_neg (by omega), sI_i, if_pos ⟨rfl, rfl⟩]
    have y2 : gI (gz_sI (gz_sI m39 (gZ m27) 0 (iI a)) (gZ m27) 1 (iI b)) (gZ m27) 1 = iI b := by rw [sI_i, if_pos ⟨rfl, rfl⟩]
    have yZ : gZ (gz_sI (gz_sI m39 (gZ m27) 0 (iI a)) (gZ m27) 1 (iI b)) = gZ m39 := rfl
    have yC : gC (gz_sI (gz_sI m39 (gZ m27) 0 (iI a)) (gZ m27) 1 (iI b)) = gC m39 := rfl
    generalize gz_sI (gz_sI m39 (gZ m27) 0 (iI a)) (gZ m27) 1 (iI b) = m44 at x44 y0 yK y1 y2 yZ yC
    obtain ⟨μ', q1, q0, q2, q3, q4, q5, q6, q7, q8, q9⟩ := c_put (i := 3) (e := gZ m27) (h' := (HS.mk h.nh h.hn h.nt h.tn h.tv h.nd h.dv (h.ni + 1) (hupd h.iv h.ni (a, b)) h.st h.dg h.bu h.mn h.sm)) st3 ho (by omega) x44 (by omega) (cOb_of yK (by omega) (by omega)) ((y0 4).trans (i37 4)) (by
        funext j
        by_cases e : j = 3
        · subst e; rfl
        · rw [hupd_ne _ _ e]; unfold hN
          by_cases e0 : j = 0
          · rw [if_pos e0, if_pos e0]; rfl
          · rw [if_neg e0, if_neg e0]
            by_cases e1 : j = 1
            · rw [if_pos e1, if_pos e1]; rfl
            · rw [if_neg e1, if_neg e1]
              by_cases e2 : j = 2
              · rw [if_pos e2, if_pos e2]; rfl
              · rw [if_neg e2, if_neg e2, if_neg e, if_neg e]) (fun j k hj hk μ' r q => by
        by_cases e : j = 3
        · subst e
          have hk : k < h.ni := hk
          show _ ∧ gI μ' r 0 = iI (hupd h.iv h.ni (a, b) k).1 ∧ gI μ' r 1 = iI (hupd h.iv h.ni (a, b) k).2
          rw [hupd_ne _ _ (by omega)]; exact q
        · unfold hP at q ⊢
          by_cases e0 : j = 0
          · rw [if_pos e0] at q ⊢; exact q
          · rw [if_neg e0] at q ⊢
            by_cases e1 : j = 1
            · rw [if_pos e1] at q ⊢; exact q
            · rw [if_neg e1, if_pos (show j = 2 by omega)] at q ⊢; exact q) ⟨fun d => d = gZ m27, fun d hd => by omega, fun μ' hd => by
        have d1 := hd _ rfl
        show _ ∧ gI μ' (gZ m27) 0 = iI (hupd h.iv h.ni (a, b) h.ni).1 ∧ gI μ' (gZ m27) 1 = iI (hupd h.iv h.ni (a, b) h.ni).2
        rw [hupd_at]
        exact ⟨d1.1.trans yK, ((d1.2.2 0).1).trans y1, ((d1.2.2 1).1).trans y2⟩⟩ ⟨rfl, rfl, rfl, rfl⟩
    refine pw_gu q0 ?_
    rw [show cf_J2_add (gP m27 c 6) (gZ m27) m44 = some (1, μ') from q1]
    have smc := x27.sm z6 z5
    refine pw_bind (pw_some (pw_gu ⟨q8, q9⟩ (pw_some (tC.good hS ((x27.hp z1).trans q3) (q4.trans (x27.at1 (by omega)).1) (by unfold sTie; rw [if_neg hn, rB_r e1, rB_r e2, rB_r e3, if_neg qt]) q2 (a3.p (q5.trans ((y0 2).trans (i37 2)))) (q6.trans (smc.2.2 0).1) (by omega) (by show gC μ' ≤ _; omega)))))
  by_cases q : h.ni = 12
  · rw [q]
    exact pw_t (by decide) (main 1 (Or.inl ⟨rfl, q⟩))
  · exact pw_f (by rw [show (12 : Int32) = iI 12 from rfl, iI_eq (by omega) (by omega)]; omega) (main 0 (Or.inr ⟨rfl, q⟩))
end ToldC3
