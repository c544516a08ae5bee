/-! ===== the component: halls, doors, things, ties are told ===== -/
section ToldC2
variable {T : Nat → Int} {n S z0 c : Nat} {μ : gM} {h : HS}
theorem c_put {i e : Nat} {h' : HS} {m : gM} (st : stC z0 c μ h) (ho : hsOK h) (hi : i < 4) (x : pF (gZ μ) μ m) (he : gZ μ ≤ e ∧ e < gZ m) (hcb : cOb m e = true) (h4 : gI m 1011 4 = gI μ 1011 4) (hNN : hN h' = hupd (hN h) i (hN h i + 1)) (hold : ∀ j k : Nat, j < 4 → k < hN h j → ∀ (μ' : gM) (r : Nat), hP h j k μ' r → hP h' j k μ' r) (hnew : ∃ Sx : Nat → Prop, (∀ d : Nat, Sx d → gZ μ ≤ d ∧ d < gZ m) ∧ ∀ μ' : gM, (∀ d : Nat, Sx d → smC m μ' d) → hP h' i (hN h i) μ' e) (hst : h'.st = h.st ∧ h'.dg = h.dg ∧ h'.bu = h.bu ∧ h'.mn = h.mn) : ∃ μ' : gM, cf_J2_add (lcC μ c i) e m = some (1, μ') ∧ gK m (lcC μ c i) = 21 ∧ stC z0 c μ' h' ∧ hpF z0 μ μ' ∧ gI μ' 1011 1 = gI μ 1011 1 ∧ gI μ' 1011 2 = gI m 1011 2 ∧ gI μ' c 0 = gI μ c 0 ∧ gC μ' ≤ gC m + 27 ∧ gZ m ≤ gZ μ' ∧ gW m ≤ gW μ' := by
  have sz := st.z
  have sm := st.p x h4
  have pl := st.1.pl x
  obtain ⟨Sx, n1, n2⟩ := hnew
  have lz : gZ μ ≤ gZ m := x.1
  have mu : ∀ d : Nat, Mu m c d → d < gZ μ := fun d q => by
    refine Mu_lt st.1.1 ?_
    rcases q with q | ⟨j, hj, q⟩
    · exact Or.inl q
    · rw [(pl j hj).1, (pl j hj).2] at q
      exact Or.inr ⟨j, hj, q⟩
  obtain ⟨μ', a1, a2, a3, a4, a5, a6⟩ := sm.add ho hi (show 2369 ≤ e ∧ e < gZ m by omega) hcb hNN hold ⟨Sx, fun d hd => ⟨by have := n1 d hd; omega, (n1 d hd).2, fun q => by have := mu d q; have := n1 d hd; omega⟩, n2⟩ hst
  rw [(pl i hi).1] at a1
  have ls := sm.ls hi
  rw [(pl i hi).1] at ls
  have f1 := (a3.2.2 1011 (by omega)).2.2 1
  have smc := x.sm sz.2.2.2.2.2 sz.2.2.2.2.1
  exact ⟨μ', a1, ls.2.2.1, a2, (x.hp sz.1).trans (a3.p.hp (Nat.le_refl _)), f1.1.trans (x.at1 (by omega)).1, a4, a5.trans (smc.2.2 0).1, a6, a3.1, a3.2.1⟩
theorem tC.good {β : Type} {b : β} {s : Rs HS} {p p' : Nat} {h' : HS} {m : gM} (hS : 1000 ≤ S) (x : hpF z0 μ m) (h1 : gI m 1011 1 = gI μ 1011 1) (es : s = Sum.inr (p', h')) (st : stC z0 c m h') (ha : cAt T n m p') (h0 : gI m c 0 = gI μ c 0) (hp : p < p') (hg : gC m ≤ gC μ + 1000) : tC T n S z0 c μ s p b (some b, m) := by
  refine ⟨x, h1, Or.inl ⟨p', h', es, rfl, st, ha, h0, ?_⟩⟩
  have := Nat.mul_le_mul_left S (show p + 1 ≤ p' by omega)
  rw [Nat.mul_add, Nat.mul_one] at this
  show gC m + S * p ≤ _
  omega
theorem al_c (m : gM) (kd sl : Nat) : gC (gz_al m kd 0 sl) = gC m + (8 + sl) := by
  show 8 * (gZ m + 1) + (gW m + sl) = 8 * gZ m + gW m + (8 + sl)
  omega
theorem c_hall191 {s p p0 : Nat} (hS : 1000 ≤ S) (hL : cLx T n μ) (ha : cAt T n μ p) (ho : hsOK h) (st : stC z0 c μ h) (hs : (s = 1 ∧ h.nh = 8) ∨ (s = 0 ∧ h.nh ≠ 8)) : pw (mj_X2_isTold_191 (iI p0) (iI s) μ) (tC T n S z0 c μ (sHall T n h p0 p) p (1 : Int32)) := by
  obtain ⟨hT, -⟩ := id hL
  have hpn := (ha.le hT).1
  obtain ⟨z1, z2, z3, z4, z5, z6⟩ := st.z
  have hz := hL.2.2.2.2
  unfold mj_X2_isTold_191
  refine pw_bind (pw_mono (c_most (s := s) (l := p0) (by omega)) ?_)
  rintro ⟨o, m2⟩ h2
  dsimp only at h2 ⊢
  rcases h2 with ⟨s0, e, e2⟩ | ⟨s1, e, hE, zE, fE⟩
  rotate_left
  · subst e
    have hn8 : h.nh = 8 := by omega
    exact pw_gu (zle zE) (pw_gxn (pw_some (tC.bad z1 z2 hpn (fE _) (by unfold sHall; rw [if_pos hn8]) hE (by rw [zgC zE]; omega))))
  subst e e2
  have hn8 : h.nh ≠ 8 := by omega
  refine pw_gu ⟨Nat.le_refl _, Nat.le_refl _⟩ (pw_gxs (pw_let ?_))
  rw [st.2.2.1]
  have ls := st.ls (i := 0) (by omega)
  refine pw_gu z3 (pw_gu z4 (pw_let (pw_gu ls.1 (pw_gu (by omega) (pw_let ?_)))))
  have x12 : pF (gZ m2) m2 (gz_al m2 (6 + 1) 0 1) := pF.al (Nat.le_refl _)
  have k12 : gK (gz_al m2 (6 + 1) 0 1) (gZ m2) = 7 := by rw [al_k, if_pos rfl]
  have g12 : gZ (gz_al m2 (6 + 1) 0 1) = gZ m2 + 1 := rfl
  have c12 := al_c m2 (6 + 1) 1
  have i12 : ∀ j : Nat, gI (gz_al m2 (6 + 1) 0 1) 1011 j = gI m2 1011 j := fun j => by rw [al_i, if_neg (by omega)]
  generalize gz_al m2 (6 + 1) 0 1 = m12 at x12 k12 g12 c12 i12
  have st12 := st.p x12 (i12 4)
  refine pw_bind (pw_mono (c_fresh (hL.p x12) (ha.p (i12 2)) ho st12.2.2.1 st12.1) ?_)
  rintro ⟨o, m14⟩ ⟨f14, h14⟩
  dsimp only at f14 h14 ⊢
  have x14 : pF (gZ m2) m2 m14 := x12.trans (f14.dn (by omega))
  refine pw_gu ⟨f14.1, f14.2.1⟩ ?_
  rcases h14 with ⟨p', sx, w, es, e, hs1, hs2, hs3, a14, b4, bC⟩ | ⟨k, l, es, e, hE, hC⟩
  rotate_left
  · subst e
    exact pw_gxn (pw_some (tC.bad z1 z2 hpn x14 (by unfold sHall; rw [if_neg hn8, rB_l es]) hE (by omega)))
  subst e
  refine pw_gxs ?_
  have k14 : gK m14 (gZ m2) = 7 := ((f14.2.2 (gZ m2) (by omega)).1).trans k12
  have init : cf_X7_init (gZ m2) sx m14 = some ((), gz_sP m14 (gZ m2) 0 sx) := by
    unfold cf_X7_init
    rw [if_pos (Or.inl k14), if_pos (by omega), if_pos ⟨sr_hi2 (by omega) 0, by omega⟩]
    rfl
  rw [init]
  refine pw_bind (pw_some (pw_gu rfl ?_))
  have x19 : pF (gZ m2) m2 (gz_sP m14 (gZ m2) 0 sx) := x14.trans (pF.sP (Nat.le_refl _))
  have ok := sFresh_ok hT es
  obtain ⟨μ', q1, q0, q2, q3, q4, q5, q6, q7, q8, q9⟩ := c_put (i := 0) (e := gZ m2) (h' := (HS.mk (h.nh + 1) (hupd h.hn h.nh w) h.nt h.tn h.tv h.nd h.dv h.ni h.iv h.st h.dg h.bu h.mn h.sm)) st ho (by omega) x19 (show gZ m2 ≤ gZ m2 ∧ gZ m2 < gZ m14 by have := f14.1; omega) (cOb_of k14 (by omega) (by omega)) (b4.trans (i12 4)) (by
      funext j
      by_cases e : j = 0
      · subst e; rfl
      · rw [hupd_ne _ _ e]; unfold hN; rw [if_neg e, if_neg e]; rfl) (fun j k hj hk μ' r q => by
      by_cases e : j = 0
      · subst e
        have hk : k < h.nh := hk
        obtain ⟨a, b⟩ := q
        refine ⟨a, ?_⟩
        show strR _ _ (hupd h.hn h.nh w k)
        rw [hupd_ne _ _ (by omega)]; exact b
      · unfold hP at q ⊢; rw [if_neg e] at q ⊢; exact q) ⟨fun d => d = gZ m2 ∨ d = sx ∨ d = gP m14 sx 0, fun d hd => by
      have l1 := f14.1
      show gZ m2 ≤ d ∧ d < gZ m14
      rcases hd with e | e | e
      · omega
      · omega
      · omega, fun μ' hd => by
      have d1 := hd _ (Or.inl rfl)
      have d2 := hd _ (Or.inr (Or.inl rfl))
      have d3 := hd _ (Or.inr (Or.inr rfl))
      have ne1 : sx ≠ gZ m2 := by omega
      have ne2 : gP m14 sx 0 ≠ gZ m2 := by omega
      have eP : gP μ' (gZ m2) 0 = sx := ((d1.2.2 0).2.2).trans (by rw [sP_p, if_pos ⟨rfl, rfl⟩])
      refine ⟨d1.1.trans k14, ?_⟩
      show strR μ' (gP μ' (gZ m2) 0) (hupd h.hn h.nh w h.nh)
      rw [hupd_at, eP]
      obtain ⟨⟨t1, t2, t3, t4⟩, ⟨t5, t6, t7, t8⟩, t9, t10⟩ := hs2
      have eP2 : gP μ' sx 0 = gP m14 sx 0 := ((d2.2.2 0).2.2).trans (by rw [sP_p, if_neg (fun z => ne1 z.1)])
      refine ⟨⟨t1, t2, d2.1.trans t3, ((d2.2.2 1).1).trans t4⟩, ⟨by rw [eP2]; exact t5, by rw [eP2]; exact t6, by rw [eP2]; exact d3.1.trans t7, by rw [eP2]; exact d3.2.1.trans t8⟩, t9, fun i hi => ?_⟩
      rw [eP2]
      refine ⟨((d3.2.2 i).1).trans (t10 i hi).1, (t10 i hi).2⟩⟩ ⟨rfl, rfl, rfl, rfl⟩
  refine pw_gu q0 ?_
  rw [show cf_J2_add (gP m2 c 3) (gZ m2) (gz_sP m14 (gZ m2) 0 sx) = some (1, μ') from q1]
  have hgC : gC (gz_sP m14 (gZ m2) 0 sx) = gC m14 := rfl
  refine pw_bind (pw_some (pw_gu ⟨q8, q9⟩ (pw_some (tC.good hS q3 q4 (by unfold sHall; rw [if_neg hn8, rB_r es]) q2 (a14.p q5) q6 ok.2.2.2.1 (by show gC μ' ≤ _; omega)))))
theorem c_doorT {p p0 : Nat} (hS : 1000 ≤ S) (hL : cLx T n μ) (ha : cAt T n μ p) (ho : hsOK h) (st : stC z0 c μ h) : pw (cf_X2_readsDoor (iI p0) μ) (tC T n S z0 c μ (sDoor T n h p0 p) p ()) := by
  obtain ⟨hT, -⟩ := id hL
  have hpn := (ha.le hT).1
  obtain ⟨z1, z2, z3, z4, z5, z6⟩ := st.z
  have hz := hL.2.2.2.2
  have h12 := ho.nd12
  have h8 := ho.nh8
  have ls1 : lst μ (gP μ c 4) h.nd := st.ls (i := 1) (by omega)
  have ls0 : lst μ (gP μ c 3) h.nh := st.ls (i := 0) (by omega)
  unfold cf_X2_readsDoor
  refine pw_let ?_
  rw [st.2.2.1]
  refine pw_gu z3 (pw_gu z4 (pw_let (pw_gu ls1.1 (pw_gu ls1.2.2.1 ?_))))
  rw [c_size ls1]
  refine pw_bind (pw_some (pw_gu rfl ?_))
  have main : ∀ s : Nat, ((s = 1 ∧ h.nd = 12) ∨ (s = 0 ∧ h.nd ≠ 12)) → pw (mj_X2_readsDoor_23 (iI p0) (iI s) μ) (tC T n S z0 c μ (sDoor T n h p0 p) p ()) := fun s hs => by
    unfold mj_X2_readsDoor_23
    refine pw_bind (pw_mono (c_most (s := s) (l := p0) (by omega)) ?_)
    rintro ⟨o, m2⟩ h2
    dsimp only at h2 ⊢
    rcases h2 with ⟨s0, e, e2⟩ | ⟨s1, e, hE, zE, fE⟩
    rotate_left
    · subst e
      have hn : h.nd = 12 := by omega
      exact pw_gu (zle zE) (pw_gxn (pw_some (tC.bad z1 z2 hpn (fE _) (by unfold sDoor; rw [if_pos hn]) hE (by rw [zgC zE]; omega))))
    subst e e2
    have hn : h.nd ≠ 12 := by omega
    refine pw_gu ⟨Nat.le_refl _, Nat.le_refl _⟩ (pw_gxs (pw_let ?_))
    rw [st.2.2.1]
    refine pw_gu z3 (pw_gu z4 (pw_let (pw_gu ls0.1 ?_)))
    refine pw_bind (pw_mono (c_known1 (i := 0) hL ha ho st.1 (Or.inl rfl)) ?_)
    rintro ⟨o, m12⟩ ⟨f12, h12'⟩
    dsimp only at f12 h12' ⊢
    refine pw_gu ⟨f12.1, f12.2.1⟩ ?_
    rcases h12' with ⟨p1, a, e1, e, a1, -, b4, bC⟩ | ⟨k, l, e1, e, hE, hC⟩
    rotate_left
    · subst e
      exact pw_gxn (pw_some (tC.bad z1 z2 hpn f12 (by unfold sDoor; rw [if_neg hn]; exact rB_l e1) hE (by omega)))
    subst e
    have e1 : sKnown T n h.hn h.nh (-1) p = Sum.inr (p1, a) := e1
    have o1 := sKnown_ok hT e1
    have st1 := st.p f12 b4
    have hL1 := hL.p f12
    refine pw_gxs (pw_bind (pw_mono (c_word3 hL1 a1 (litW hL1 (show (134, wTo) ∈ sTab by decide +kernel) (by omega))) ?_))
    rintro ⟨o, m17⟩ ⟨f17, h17⟩
    dsimp only at f17 h17 ⊢
    have x17 : pF (gZ m2) m2 m17 := f12.trans (f17.dn f12.1)
    refine pw_gu ⟨f17.1, f17.2.1⟩ ?_
    rcases h17 with ⟨e2, e, a2, b42, bC2⟩ | ⟨e2, e, hE, hC⟩
    rotate_left
    · subst e
      exact pw_gxn (pw_some (tC.bad z1 z2 hpn x17 (by unfold sDoor; rw [if_neg hn, rB_r e1, rB_l e2]) hE (by omega)))
    subst e
    have st2 := st1.p f17 b42
    have hL2 := hL1.p f17
    refine pw_gxs (pw_let ?_)
    rw [st2.2.2.1]
    have lsb : lst m17 (gP m17 c 3) h.nh := st2.ls (i := 0) (by omega)
    refine pw_gu z3 (pw_gu st2.z.2.2.2.1 (pw_let (pw_gu lsb.1 ?_)))
    refine pw_bind (pw_mono (c_known (i := 0) (but := a) hL2 a2 ho st2.1 (Or.inl rfl) (by omega)) ?_)
    rintro ⟨o, m27⟩ ⟨f27, h27⟩
    dsimp only at f27 h27 ⊢
    have x27 : pF (gZ m2) m2 m27 := x17.trans (f27.dn x17.1)
    refine pw_gu ⟨f27.1, f27.2.1⟩ ?_
    have wl : wTo.length = 2 := rfl
    rcases h27 with ⟨p3, b, e3, e, a3, -, b43, bC3⟩ | ⟨k, l, e3, e, hE, hC⟩
    rotate_left
    · subst e
      exact pw_gxn (pw_some (tC.bad z1 z2 hpn x27 (by unfold sDoor; rw [if_neg hn, rB_r e1, rB_r e2]; exact rB_l e3) hE (by omega)))
    subst e
    have e3 : sKnown T n h.hn h.nh a (skp T n (p1 + wTo.length)) = Sum.inr (p3, b) := e3
    have o3 := sKnown_ok hT e3
    have st3 := st2.p f27 b43
    have hL3 := hL2.p f27
    refine pw_gxs (pw_let ?_)
    rw [st3.2.2.1]
    have lsd : lst m27 (gP m27 c 4) h.nd := st3.ls (i := 1) (by omega)
    refine pw_gu z3 (pw_gu st3.z.2.2.2.1 (pw_let (pw_gu lsd.1 (pw_gu (by have := x27.1; omega) (pw_let ?_)))))
    have x37 : pF (gZ m27) m27 (gz_al m27 (7 + 1) 0 3) := pF.al (Nat.le_refl _)
    have k37 : gK (gz_al m27 (7 + 1) 0 3) (gZ m27) = 8 := by rw [al_k, if_pos rfl]
    have g37 : gZ (gz_al m27 (7 + 1) 0 3) = gZ m27 + 1 := rfl
    have c37 := al_c m27 (7 + 1) 3
    have z27 := x27.1
    have i37 : ∀ j : Nat, gI (gz_al m27 (7 + 1) 0 3) 1011 j = gI m27 1011 j := fun j => by rw [al_i, if_neg (by omega)]
    generalize gz_al m27 (7 + 1) 0 3 = m37 at x37 k37 g37 c37 i37
    have hL4 := hL3.p x37
    refine pw_bind (pw_mono (c_numW hL4 (a3.p (i37 2)) (litW hL4 (show (116, wSteps) ∈ sTab by decide +kernel) (by omega)) (lo := 1) (hi := 9) (by omega) (by omega)) ?_)
    rintro ⟨o, m39⟩ ⟨f39, h39⟩
    dsimp only at f39 h39 ⊢
    have x39 : pF (gZ m27) m27 m39 := x37.trans (f39.dn (by omega))
    refine pw_gu ⟨f39.1, f39.2.1⟩ ?_
    have wl2 : wSteps.length = 5 := rfl
    rcases h39 with ⟨p5, p6, v, e5, e6, e, a6, b46, bC6⟩ | ⟨k, l, e5, e, hE, hC⟩
    rotate_left
    · subst e
      refine pw_gxn (pw_some (tC.bad z1 z2 hpn (x27.trans (x39.dn (by omega))) (k := k) (l := l) ?_ hE (by omega)))
      unfold sDoor
      rw [if_neg hn, rB_r e1, rB_r e2, rB_r e3]
      rcases e5 with e5 | ⟨p5, e5, e6⟩
      · exact rB_l e5
      · rw [rB_r e5]; exact rB_l e6
    subst e
    refine pw_gxs ?_
    have o6 := sWrd_ok hT (by decide) e5
    have o7 := sNum_ok2 hT o6.2.2.1 e6
    have o2 := sWrd_ok hT (by decide) e2
    have k39 : gK m39 (gZ m27) = 8 := ((f39.2.2 (gZ m27) (by omega)).1).trans k37
    have init : cf_X8_init (gZ m27) (iI a) (iI b) (iI v) m39 = some ((), gz_sI (gz_sI (gz_sI m39 (gZ m27) 0 (iI a)) (gZ m27) 1 (iI b)) (gZ m27) 2 (iI v)) := by
      unfold cf_X8_init
      simp only [gz_let]
      rw [if_pos k39, if_pos (by omega), if_pos (show gK (gz_sI m39 (gZ m27) 0 (iI a)) (gZ m27) = 8 from k39), if_pos (by omega), if_pos (show gK (gz_sI (gz_sI m39 (gZ m27) 0 (iI a)) (gZ m27) 1 (iI b)) (gZ m27) = 8 from k39), if_pos (by omega)]
    rw [init]
    refine pw_bind (pw_some (pw_gu rfl ?_))
    have x44 : pF (gZ m27) m27 (gz_sI (gz_sI (gz_sI m39 (gZ m27) 0 (iI a)) (gZ m27) 1 (iI b)) (gZ m27) 2 (iI v)) := ((x39.trans (pF.sI (Or.inr (Nat.le_refl _)))).trans (pF.sI (Or.inr (Nat.le_refl _)))).trans (pF.sI (Or.inr (Nat.le_refl _)))
    have y0 : ∀ j : Nat, gI (gz_sI (gz_sI (gz_sI m39 (gZ m27) 0 (iI a)) (gZ m27) 1 (iI b)) (gZ m27) 2 (iI v)) 1011 j = gI m39 1011 j := fun j => by rw [sI_i, if_neg (by omega), sI_i, if_neg (by omega), sI_i, if_neg (by omega)]
    have yK : gK (gz_sI (gz_sI (gz_sI m39 (gZ m27) 0 (iI a)) (gZ m27) 1 (iI b)) (gZ m27) 2 (iI v)) (gZ m27) = 8 := k39
    have y1 : gI (gz_sI (gz_sI (gz_sI m39 (gZ m27) 0 (iI a)) (gZ m27) 1 (iI b)) (gZ m27) 2 (iI v)) (gZ m27) 0 = iI a := by rw [sI_i, if_neg (by omega), sI_i, if_neg (by omega), sI_i, if_pos ⟨rfl, rfl⟩]
    have y2 : gI (gz_sI (gz_sI (gz_sI m39 (gZ m27) 0 (iI a)) (gZ m27) 1 (iI b)) (gZ m27) 2 (iI v)) (gZ m27) 1 = iI b := by rw [sI_i, if_neg (by omega), sI_i, if_pos ⟨rfl, rfl⟩]
    have y3 : gI (gz_sI (gz_sI (gz_sI m39 (gZ m27) 0 (iI a)) (gZ m27) 1 (iI b)) (gZ m27) 2 (iI v)) (gZ m27) 2 = iI v := by rw [sI_i, if_pos ⟨rfl, rfl⟩]
    have yZ : gZ (gz_sI (gz_sI (gz_sI m39 (gZ m27) 0 (iI a)) (gZ m27) 1 (iI b)) (gZ m27) 2 (iI v)) = gZ m39 := rfl
    have yC : gC (gz_sI (gz_sI (gz_sI m39 (gZ m27) 0 (iI a)) (gZ m27) 1 (iI b)) (gZ m27) 2 (iI v)) = gC m39 := rfl
    generalize gz_sI (gz_sI (gz_sI m39 (gZ m27) 0 (iI a)) (gZ m27) 1 (iI b)) (gZ m27) 2 (iI v) = m44 at x44 y0 yK y1 y2 y3 yZ yC
    have l39 := f39.1
    obtain ⟨μ', q1, q0, q2, q3, q4, q5, q6, q7, q8, q9⟩ := c_put (i := 1) (e := gZ m27) (h' := (HS.mk h.nh h.hn h.nt h.tn h.tv (h.nd + 1) (hupd h.dv h.nd (a, b, v)) h.ni h.iv h.st h.dg h.bu h.mn h.sm)) st3 ho (by omega) x44 (by omega) (cOb_of yK (by omega) (by omega)) ((y0 4).trans (b46.trans (i37 4))) (by
        funext j
        by_cases e : j = 1
        · subst e; rfl
        · rw [hupd_ne _ _ e]; unfold hN
          by_cases e0 : j = 0
          · rw [if_pos e0, if_pos e0]; rfl
          · rw [if_neg e0, if_neg e0, if_neg e, if_neg e]; rfl) (fun j k hj hk μ' r q => by
        by_cases e : j = 1
        · subst e
          have hk : k < h.nd := hk
          show _ ∧ gI μ' r 0 = iI (hupd h.dv h.nd (a, b, v) k).1 ∧ gI μ' r 1 = iI (hupd h.dv h.nd (a, b, v) k).2.1 ∧ gI μ' r 2 = iI (hupd h.dv h.nd (a, b, v) k).2.2
          rw [hupd_ne _ _ (by omega)]; exact q
        · unfold hP at q ⊢
          by_cases e0 : j = 0
          · rw [if_pos e0] at q ⊢; exact q
          · rw [if_neg e0, if_neg e] at q ⊢; exact q) ⟨fun d => d = gZ m27, fun d hd => by omega, fun μ' hd => by
        have d1 := hd _ rfl
        show _ ∧ gI μ' (gZ m27) 0 = iI (hupd h.dv h.nd (a, b, v) h.nd).1 ∧ gI μ' (gZ m27) 1 = iI (hupd h.dv h.nd (a, b, v) h.nd).2.1 ∧ gI μ' (gZ m27) 2 = iI (hupd h.dv h.nd (a, b, v) h.nd).2.2
        rw [hupd_at]
        exact ⟨d1.1.trans yK, ((d1.2.2 0).1).trans y1, ((d1.2.2 1).1).trans y2, ((d1.2.2 2).1).trans y3⟩⟩ ⟨rfl, rfl, rfl, rfl⟩
    refine pw_gu q0 ?_
    rw [show cf_J2_add (gP m27 c 4) (gZ m27) m44 = some (1, μ') from q1]
    have smc := x27.sm z6 z5
    refine pw_bind (pw_some (pw_gu ⟨q8, q9⟩ (pw_some (tC.good hS ((x27.hp z1).trans q3) (q4.trans (x27.at1 (by omega)).1) (by unfold sDoor; rw [if_neg hn, rB_r e1, rB_r e2, rB_r e3, rB_r e5, rB_r e6]) q2 (a6.p (q5.trans (y0 2))) (q6.trans (smc.2.2 0).1) (by omega) (by show gC μ' ≤ _; omega)))))
  by_cases q : h.nd = 12
  · rw [q]
    exact pw_t (by decide) (main 1 (Or.inl ⟨rfl, q⟩))
  · exact pw_f (by rw [show (12 : Int32) = iI 12 from rfl, iI_eq (by omega) (by omega)]; omega) (main 0 (Or.inr ⟨rfl, q⟩))
end ToldC2
