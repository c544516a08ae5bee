/-! ===== the component: all statements ===== -/
section AllC3
variable {T : Nat → Int} {n S z0 c : Nat}
theorem sTell_no {h : HS} {p : Nat} (hw : ¬ (isL (T p) ∧ ¬ alB T p)) : sTell T n h p = Sum.inl (1, p) := by
  have no : ∀ w : List Int, ¬ isW T n p w := fun w q => hw ⟨q.1, q.2.1⟩
  unfold sTell sDraught
  rw [if_neg (no _), if_neg (no _), if_neg (no _), if_neg (no _), if_neg (no _), if_neg (no _), if_neg (no _), rB_l (sWrd_n (no _))]
theorem sTell_w {h : HS} {p : Nat} (h1 : isL (T p)) (h2 : ¬ alB T p) (hge : p ≤ wE T n p) : (tIx (wL T n p) ≠ -1 → sTell T n h p = if wL T n p = wHall then sHall T n h p (skp T n (wE T n p)) else if wL T n p = wDoor then sDoor T n h p (skp T n (wE T n p)) else if wL T n p = wThing then sThing T n h p (skp T n (wE T n p)) else if wL T n p = wTie then sTie T n h p (skp T n (wE T n p)) else sStarts T n h (skp T n (wE T n p))) ∧ (tIx (wL T n p) = -1 → sTell T n h p = if wL T n p = wBurns then sBurns T n h p (skp T n (wE T n p)) else if wL T n p = wMinds then sMinds T n h p (skp T n (wE T n p)) else if wL T n p = wDraught then rB (sNum T n (skp T n (wE T n p)) 0 100) (fun p2 v => Sum.inr (p2, (HS.mk h.nh h.hn h.nt h.tn h.tv h.nd h.dv h.ni h.iv h.st v h.bu h.mn h.sm))) else Sum.inl (1, p)) := by
  have iff : ∀ w : List Int, isW T n p w ↔ wL T n p = w := fun w => isW_iff h1 h2
  have len : ∀ (w : List Int) (k : Nat), wL T n p = w → w.length = k → wE T n p = p + k := fun w k e hk => by
    have := wL_len T n p
    rw [e, hk] at this
    omega
  have pos : ∀ w : List Int, wL T n p = w → isW T n p w := fun w e => (iff w).mpr e
  have neg : ∀ w : List Int, wL T n p ≠ w → ¬ isW T n p w := fun w e q => e ((iff w).mp q)
  unfold sTell
  by_cases q1 : wL T n p = wHall
  · rw [if_pos (pos _ q1), if_pos q1, len _ 4 q1 rfl]
    exact ⟨fun _ => rfl, fun e => by rw [q1] at e; exact absurd e (by decide)⟩
  rw [if_neg (neg _ q1), if_neg q1]
  by_cases q2 : wL T n p = wDoor
  · rw [if_pos (pos _ q2), if_pos q2, len _ 4 q2 rfl]
    exact ⟨fun _ => rfl, fun e => by rw [q2] at e; exact absurd e (by decide)⟩
  rw [if_neg (neg _ q2), if_neg q2]
  by_cases q3 : wL T n p = wThing
  · rw [if_pos (pos _ q3), if_pos q3, len _ 5 q3 rfl]
    exact ⟨fun _ => rfl, fun e => by rw [q3] at e; exact absurd e (by decide)⟩
  rw [if_neg (neg _ q3), if_neg q3]
  by_cases q4 : wL T n p = wTie
  · rw [if_pos (pos _ q4), if_pos q4, len _ 3 q4 rfl]
    exact ⟨fun _ => rfl, fun e => by rw [q4] at e; exact absurd e (by decide)⟩
  rw [if_neg (neg _ q4), if_neg q4]
  by_cases q5 : wL T n p = wStarts
  · rw [if_pos (pos _ q5), len _ 6 q5 rfl]
    exact ⟨fun _ => rfl, fun e => by rw [q5] at e; exact absurd e (by decide)⟩
  rw [if_neg (neg _ q5)]
  refine ⟨fun e => ?_, fun _ => ?_⟩
  · exfalso
    apply e
    unfold tIx
    rw [if_neg q1, if_neg q2, if_neg q3, if_neg q4, if_neg q5]
  by_cases q6 : wL T n p = wBurns
  · rw [if_pos (pos _ q6), if_pos q6, len _ 5 q6 rfl]
  rw [if_neg (neg _ q6), if_neg q6]
  by_cases q7 : wL T n p = wMinds
  · rw [if_pos (pos _ q7), if_pos q7, len _ 5 q7 rfl]
  rw [if_neg (neg _ q7), if_neg q7]
  unfold sDraught
  by_cases q8 : wL T n p = wDraught
  · rw [if_pos q8, rB_r (sWrd_y (pos _ q8)), len _ 7 q8 rfl]
    rfl
  · rw [if_neg q8, rB_l (sWrd_n (neg _ q8))]
theorem c_stmt {μ : gM} {h : HS} {p : Nat} (hT : tOK T n) (hS : 2 * n + 1000 ≤ S) (hL : cLx T n μ) (ha : gI μ 1011 2 = iI p) (hp : p ≤ n) (hsk : skp T n p = p) (ho : hsOK h) (st : stC z0 c μ h) (hsm : gI μ c 0 = iI h.sm) (s0 : Nat) (hs0 : (s0 = 1 ∧ h.sm = 60) ∨ (s0 = 0 ∧ h.sm ≠ 60)) : pw (mj_X2_all_52 (iI s0) μ) (lpQ T n S z0 c μ (sStmt T n h p) p) := by
  have sz := st.z
  have hn := hT.1
  have h60 := ho.smO
  have hS1 : 1000 ≤ S := by omega
  have mle := Nat.mul_le_mul_left S (show p ≤ n + 2 by omega)
  unfold mj_X2_all_52 sStmt
  rw [ha]
  refine pw_bind (pw_mono (c_most (s := s0) (l := p) (by omega)) ?_)
  rintro ⟨o, m2⟩ h2
  dsimp only at h2 ⊢
  rcases h2 with ⟨e0, e, e2⟩ | ⟨e1, e, hE, zE, fE⟩
  rotate_left
  · subst e
    have hq : h.sm = 60 := by omega
    rw [if_pos hq]
    exact pw_gu (zle zE) (pw_gxn (pw_some ⟨5, p, rfl, rfl, hE, (fE _).hp sz.1, ((fE 2369).at1 (by omega)).1, by show gC m2 + S * p ≤ _; rw [zgC zE]; omega⟩))
  subst e e2
  have hq : h.sm ≠ 60 := by omega
  rw [if_neg hq]
  refine pw_gu ⟨Nat.le_refl _, Nat.le_refl _⟩ (pw_gxs (pw_let ?_))
  rw [st.2.2.1, hsm]
  refine pw_gu sz.2.2.1 (pw_gu sz.2.2.2.1 (pw_gu sz.2.2.2.1 (pw_gu (by omega) (pw_let ?_))))
  have es1 : iI (h.sm : Int) + 1 = iI ((h.sm + 1 : Nat) : Int) := by rw [show (1 : Int32) = iI 1 from rfl, iI_add]; rfl
  rw [es1]
  have st11 : stC z0 c (gz_sI m2 c 0 (iI ((h.sm + 1 : Nat) : Int))) h := st.sI rfl rfl (by show gI (gz_sI m2 c 0 (iI ((h.sm + 1 : Nat) : Int))) c 1 = _; rw [sI_i, if_neg (by omega)]; exact st.1.2.1.1) (by show gI (gz_sI m2 c 0 (iI ((h.sm + 1 : Nat) : Int))) c 2 = _; rw [sI_i, if_neg (by omega)]; exact st.1.2.1.2) ⟨rfl, rfl⟩
  have x11 : pF z0 m2 (gz_sI m2 c 0 (iI ((h.sm + 1 : Nat) : Int))) := pF.sI (Or.inr st.2.1.1.2)
  have c11 : gI (gz_sI m2 c 0 (iI ((h.sm + 1 : Nat) : Int))) c 0 = iI ((h.sm + 1 : Nat) : Int) := by rw [sI_i, if_pos ⟨rfl, rfl⟩]
  have i11 : ∀ j : Nat, gI (gz_sI m2 c 0 (iI ((h.sm + 1 : Nat) : Int))) 1011 j = gI m2 1011 j := fun j => by rw [sI_i, if_neg (by omega)]
  have g11 : gC (gz_sI m2 c 0 (iI ((h.sm + 1 : Nat) : Int))) = gC m2 := rfl
  generalize gz_sI m2 c 0 (iI ((h.sm + 1 : Nat) : Int)) = m11 at st11 x11 c11 i11 g11
  have hL11 : cLx T n m11 := hL.pz sz.2.1 x11
  have sz11 := st11.z
  have ha11 : cAt T n m11 p := ⟨p, (i11 2).trans ha, hp, hsk⟩
  refine pw_bind (pw_mono (c_word hL11 ha11) ?_)
  rintro ⟨o, m13⟩ ⟨f13, h13⟩
  dsimp only at f13 h13 ⊢
  refine pw_gu ⟨f13.1, f13.2.1⟩ ?_
  rcases h13 with ⟨sx, ⟨w1, w2⟩, e, hs1, hs2, hs3, hs4, b1, b2, b3, b4⟩ | ⟨w2, e, hE, zE⟩
  rotate_left
  · subst e
    exact pw_gxn (pw_some ⟨1, p, by rw [sTell_no w2]; rfl, rfl, hE, (x11.hp (Nat.le_refl _)).trans (f13.hp sz11.1), ((f13.at1 (by omega)).1).trans (i11 1), by show gC m13 + S * p ≤ _; rw [zgC zE]; omega⟩)
  subst e
  refine pw_gxs ?_
  rw [b2]
  have hge := wE_ge T n p
  have hwe := wE_le hT hp
  have hlt : p < wE T n p := by
    have := wE_ge T n (p + 1)
    rw [wE_s hT w1]
    omega
  have gsk := skp_ge T n (wE T n p)
  have hL13 := hL11.p f13
  obtain ⟨T1, T2⟩ := sTell_w (h := h) w1 w2 hge
  refine pw_bind (c_isTold hL13 hs2 hs3 (by omega) (fun m3 y3 s3 r3 => ?_))
  have f3 : pF (gZ m11) m11 m3 := f13.trans (y3.p hs1.1)
  have z3 : m3.2.2.2.2.2 = m13.2.2.2.2.2 := congrArg (fun z => z.2.2) y3.2.2.1
  have i3 : ∀ j : Nat, gI m3 1011 j = gI m13 1011 j := fun j => y3.2.2.2 1011 j (by omega)
  have st3 : stC z0 c m3 h := st11.p f3 ((i3 4).trans b3)
  have hL3 := hL11.p f3
  have a3 : cAt T n m3 (skp T n (wE T n p)) := cAt.of ((i3 2).trans b1) hwe
  have x3 : hpF z0 m11 m3 := f3.hp sz11.1
  have o3 : gI m3 1011 1 = gI m11 1011 1 := (f3.at1 (by omega)).1
  have c3 : gI m3 c 0 = gI m11 c 0 := ((f3.sm sz11.2.2.2.2.2 sz11.2.2.2.2.1).2.2 0).1
  have g3 : gC m3 ≤ gC m11 + (2 * (skp T n (wE T n p) - p) + 28) := by rw [zgC z3, b4]; omega
  have x01 : hpF z0 m2 m11 := x11.hp (Nat.le_refl _)
  refine pw_mono (c_told5 (p := p) (w := wL T n p) hT hS1 hL3 ho st3 a3 _ rfl) ?_
  rintro ⟨o, m18⟩ ht
  dsimp only
  rcases ht with ⟨q, ht⟩ | ⟨q, ht⟩
  · rw [← T1 q] at ht
    refine pw_gu ⟨Nat.le_trans (zle z3).1 ht.1.1, Nat.le_trans (zle z3).2 ht.1.2.1⟩ ?_
    exact c_after hT hS1 hL11 sz.2.1 (ht.two.up hS1 (by omega) x3 o3 c3 g3) x01 (i11 1) c11 (by omega) _ (if_neg n10)
  · injection ht with e1 e2
    replace e2 := e2.symm
    subst e1 e2
    refine pw_gu (zle z3) (pw_gxs (pw_t rfl ?_))
    rw [show gI m3 1011 3 = iI p from (i3 3).trans b2]
    refine pw_bind (c_moreW hL3 s3 r3 (by omega) (fun m4 y4 => ?_))
    have y4s : ∀ d : Nat, d < gZ m11 → d ≠ 1011 → smC m3 m4 d := fun d d1 d2 => by
      obtain ⟨v1, v2, v3, v4⟩ := y4
      have hL' : gL m4 = gL m3 := congrArg Prod.fst v3
      have hP' : gP m4 = gP m3 := congrArg (fun z => z.2.1) v3
      exact ⟨congrFun v1 d, congrFun v2 d, fun j => ⟨(v4 d j (by omega)).trans (by rw [sI_i, if_neg (fun q => d2 q.1)]), by rw [hL'], by rw [hP']⟩⟩
    have z4 : m4.2.2.2.2.2 = m3.2.2.2.2.2 := congrArg (fun z => z.2.2) y4.2.2.1
    have i4 : ∀ j : Nat, j ≠ 5 → gI m4 1011 j = gI m3 1011 j := fun j hj => (y4.2.2.2 1011 j (by omega)).trans (by rw [sI_i, if_neg (fun q => hj q.2)])
    have i45 : gI m4 1011 5 = iI 15 := (y4.2.2.2 1011 5 (by omega)).trans (by rw [sI_i, if_pos ⟨rfl, rfl⟩]; rfl)
    have p46 : gP m4 1011 6 = gP m3 1011 6 := congrFun (congrFun (congrArg (fun z => z.2.1) y4.2.2.1) 1011) 6
    have hz34 : gZ m11 ≤ gZ m4 := by have := (zle z4).1; have := f3.1; omega
    have st4 : stC z0 c m4 h := by
      have hs : ∀ d : Nat, 2369 ≤ d → d < gZ m11 → smC m11 m4 d := fun d d1 d2 => (f3.sm d1 d2).trans (y4s d d2 (by omega))
      obtain ⟨b1', b2'⟩ := st11.1.1.p hs hz34
      have smc := hs c sz11.2.2.2.2.2 sz11.2.2.2.2.1
      have mu : ∀ d : Nat, d < gZ m11 → Mu m4 c d → Mu m11 c d := fun d _ q => by
        rcases q with q | ⟨j, hj, q⟩
        · exact Or.inl q
        · rw [(b2' j hj).1, (b2' j hj).2] at q
          exact Or.inr ⟨j, hj, q⟩
      exact ⟨⟨b1', ⟨(smc.2.2 1).1.trans st11.1.2.1.1, (smc.2.2 2).1.trans st11.1.2.1.2⟩, st11.1.2.2.1.mv (smc.2.2 7).2.2 (fun d d1 d2 _ => hs d d1 d2) hz34 mu, st11.1.2.2.2.mv (smc.2.2 8).2.2 (fun d d1 d2 _ => hs d d1 d2) hz34 mu⟩, ⟨st11.2.1.1, fun i hi => by rw [(b2' i hi).1, (b2' i hi).2]; exact st11.2.1.2 i hi⟩, p46.trans st3.2.2.1, (i4 4 (by omega)).trans st3.2.2.2⟩
    have x34 : hpF z0 m3 m4 := ⟨(zle z4).1, (zle z4).2, fun d hd => by
      have hd2 : d < gZ m11 := by omega
      by_cases q : d = 1011
      · subst q
        obtain ⟨v1, v2, v3, v4⟩ := y4
        exact ⟨congrFun v1 _, congrFun v2 _, fun j => ⟨fun k => absurd rfl k, congrFun (congrFun (congrArg Prod.fst v3) _) j, fun _ => congrFun (congrFun (congrArg (fun z => z.2.1) v3) _) j⟩⟩
      · have := y4s d hd2 q
        exact ⟨this.1, this.2.1, fun j => ⟨fun _ _ => (this.2.2 j).1, (this.2.2 j).2.1, fun _ => (this.2.2 j).2.2⟩⟩⟩
    have hL4 : cLx T n m4 := hL3.hp sz.2.1 x34 (i4 1 (by omega))
    refine pw_mono (c_more3 (p := p) (w := wL T n p) hT hS hL4 ho st4 (a3.p (i4 2 (by omega))) i45 _ rfl) ?_
    rintro ⟨o, m24⟩ ht
    dsimp only
    rw [← T2 q] at ht
    refine pw_gu ⟨Nat.le_trans (zle z4).1 ht.1.1, Nat.le_trans (zle z4).2 ht.1.2.1⟩ ?_
    refine c_after hT hS1 hL11 sz.2.1 (ht.up hS1 (by omega) (x3.trans x34) ((i4 1 (by omega)).trans o3) (((y4s c sz11.2.2.2.2.1 (by omega)).2.2 0).1.trans c3) (by rw [zgC z4]; exact g3)) x01 (i11 1) c11 (by omega) _ rfl
theorem c_allL {Q : Option Nat × gM → Prop} (hT : tOK T n) (hS : 2 * n + 1000 ≤ S) : ∀ (f : Nat) (μ : gM) (h : HS) (p : Nat), n < p + f → cLx T n μ → cAt T n μ p → hsOK h → stC z0 c μ h → gI μ c 0 = iI h.sm → (∀ (m : gM) (p' : Nat) (h' : HS), sAll T n f h p = Sum.inr (p', h') → hpF z0 μ m → gI m 1011 1 = gI μ 1011 1 → stC z0 c m h' → gI m c 0 = iI h'.sm → hsOK h' → gC m + S * p ≤ gC μ + S * p' → p' ≤ n → Q (some c, m)) → (∀ (m : gM) (k : Int) (l : Nat), sAll T n f h p = Sum.inl (k, l) → hpF z0 μ m → cErr m k l → gC m + S * p ≤ gC μ + S * (n + 2) + (4 * n + 2300) → Q (none, m)) → pw (ml_X2_all_26 μ) Q
  | 0, μ, h, p, hf, hL, ha, ho, st, hsm, hG, hB => absurd (ha.le hT).1 (by omega)
  | f + 1, μ, h, p, hf, hL, ha, ho, st, hsm, hG, hB => by
    have hp := ha.le hT
    have sz := st.z
    have h60 := ho.smO
    unfold ml_X2_all_26
    refine pw_unroll ?_
    unfold mb_X2_all_26
    refine pw_bind (pw_mono (c_here1 hL ha) ?_)
    rintro ⟨r, m2⟩ ⟨e, x2, a2, -, -⟩
    dsimp only at e x2 a2 ⊢
    subst e
    have hr := hT.r p
    have f2 : pF (gZ μ) μ m2 := x2.p _
    have st2 := st.p f2 (x2.at (by omega))
    have hL2 := hL.p f2
    have c2 : gI m2 c 0 = iI h.sm := (((f2.sm sz.2.2.2.2.2 sz.2.2.2.2.1).2.2 0).1).trans hsm
    have gC2 : gC m2 = gC μ := zgC x2.z
    refine pw_gu x2.z (pw_if (fun q => ?_) (fun q => ?_))
    · rw [show (-1 : Int32) = iI (-1) by decide, iI_eq (by omega) (by omega)] at q
      refine pw_let ?_
      rw [st2.2.2.1]
      refine pw_gu sz.2.2.1 (pw_some (hG m2 p h ?_ (f2.hp sz.1) (f2.at1 (by omega)).1 st2 c2 ho (by omega) hp.1))
      show (if T p = -1 then _ else _) = _
      rw [if_pos q]
    · rw [show (-1 : Int32) = iI (-1) by decide, iI_eq (by omega) (by omega)] at q
      have sA1 : sAll T n (f + 1) h p = rB (sStmt T n h p) fun p1 h1 => sAll T n f h1 p1 := by
        show (if T p = -1 then _ else _) = _
        rw [if_neg q]
      refine pw_let ?_
      rw [st2.2.2.1, c2]
      refine pw_gu sz.2.2.1 (pw_gu st2.z.2.2.2.1 ?_)
      have fin : ∀ s0 : Nat, ((s0 = 1 ∧ h.sm = 60) ∨ (s0 = 0 ∧ h.sm ≠ 60)) → pw (mj_X2_all_52 (iI s0) m2) (Sum.elim (fun s' => pw (gz_loop (fun q => mb_X2_all_26 q) s') Q) Q) := fun s0 hs0 => by
        refine pw_mono (c_stmt hT hS hL2 a2 hp.1 hp.2 ho st2 c2 s0 hs0) ?_
        rintro (m3 | ⟨o, m3⟩) hq
        · obtain ⟨p', h', es, x3, o3, st3, c3, a3, g3⟩ := hq
          have ok := sStmt_ok hT ho es
          show pw (ml_X2_all_26 m3) Q
          refine c_allL hT hS f m3 h' p' (by omega) (hL2.hp sz.2.1 x3 o3) a3 ok.1 st3 c3 (fun m p'' h'' e1 e2 e3 e4 e5 e6 e7 e8 => hG m p'' h'' (by rw [sA1, rB_r es]; exact e1) (((f2.hp sz.1).trans x3).trans e2) (e3.trans (o3.trans (f2.at1 (by omega)).1)) e4 e5 e6 (by omega) e8) (fun m k l e1 e2 e3 e4 => hB m k l (by rw [sA1, rB_r es]; exact e1) (((f2.hp sz.1).trans x3).trans e2) e3 (by omega))
        · obtain ⟨k, l, es, e, hE, x3, o3, g3⟩ := hq
          dsimp only at e
          subst e
          exact hB m3 k l (by rw [sA1, rB_l es]) ((f2.hp sz.1).trans x3) hE (by rw [← gC2]; exact g3)
      refine pw_if (fun q2 => ?_) (fun q2 => ?_)
      · rw [show (60 : Int32) = iI 60 from rfl, iI_eq (by omega) (by omega)] at q2
        exact fin 1 (Or.inl ⟨rfl, by omega⟩)
      · rw [show (60 : Int32) = iI 60 from rfl, iI_eq (by omega) (by omega)] at q2
        exact fin 0 (Or.inr ⟨rfl, by omega⟩)
end AllC3
