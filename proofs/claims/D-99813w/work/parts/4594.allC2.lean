/-! ===== the component: a statement ===== -/
section AllC2
variable {T : Nat → Int} {n S z0 c : Nat}
def lpQ (T : Nat → Int) (n S z0 c : Nat) (μ0 : gM) (s : Rs HS) (p : Nat) : (gM ⊕ (Option Nat × gM)) → Prop := Sum.elim (fun m' => ∃ (p' : Nat) (h' : HS), s = Sum.inr (p', h') ∧ hpF z0 μ0 m' ∧ gI m' 1011 1 = gI μ0 1011 1 ∧ stC z0 c m' h' ∧ gI m' c 0 = iI h'.sm ∧ cAt T n m' p' ∧ gC m' + S * p ≤ gC μ0 + S * p') (fun q => ∃ (k : Int) (l : Nat), s = Sum.inl (k, l) ∧ q.1 = none ∧ cErr q.2 k l ∧ hpF z0 μ0 q.2 ∧ gI q.2 1011 1 = gI μ0 1011 1 ∧ gC q.2 + S * p ≤ gC μ0 + S * (n + 2) + (4 * n + 2300))
theorem stC.sm {μ : gM} {h1 : HS} (st : stC z0 c μ h1) (k : Nat) : stC z0 c μ (HS.mk h1.nh h1.hn h1.nt h1.tn h1.tv h1.nd h1.dv h1.ni h1.iv h1.st h1.dg h1.bu h1.mn k) := st
theorem c_98 {μ0 m : gM} {s : Rs HS} {p p' : Nat} {h h1 : HS} (hT : tOK T n) (hS : 1000 ≤ S) (hL : cLx T n m) (x : hpF z0 μ0 m) (h11 : gI m 1011 1 = gI μ0 1011 1) (es : s = Sum.inr (p', h1)) (st : stC z0 c m h1) (ha : cAt T n m p') (h0 : gI m c 0 = iI ((h.sm + 1 : Nat) : Int)) (hg : gC m + S * p ≤ gC μ0 + S * p' + 2 * xE T n p' + 200) : pw (mj_X2_all_98 m) (lpQ T n S z0 c μ0 (rB s fun p1 h1 => rB (sSgn T n p1 59) fun p2 _ => Sum.inr (p2, (HS.mk h1.nh h1.hn h1.nt h1.tn h1.tv h1.nd h1.dv h1.ni h1.iv h1.st h1.dg h1.bu h1.mn (h.sm + 1)))) p) := by
  have hp' := (ha.le hT).1
  have sz := st.z
  unfold mj_X2_all_98
  refine pw_bind (pw_mono (c_must hL ha (c := 59) (by omega)) ?_)
  rintro ⟨o, m2⟩ ⟨f2, zz, h2⟩
  dsimp only at f2 zz h2 ⊢
  refine pw_gu ⟨f2.1, f2.2.1⟩ ?_
  rcases h2 with ⟨t, e, hlt, x2, a2⟩ | ⟨t, e, hE⟩
  · subst e
    refine pw_gxs (pw_some ⟨skp T n (p' + 1), _, by rw [rB_r es]; unfold sSgn; rw [if_pos t]; rfl, x.trans (f2.hp sz.1), ((f2.at1 (by omega)).1).trans h11, (st.p f2 (x2.at (by omega))).sm (h.sm + 1), ?_, cAt.of a2 hlt, ?_⟩)
    · show gI m2 c 0 = iI ((h.sm + 1 : Nat) : Int)
      rw [← h0]
      exact ((f2.sm sz.2.2.2.2.2 sz.2.2.2.2.1).2.2 0).1
    · have xe : xE T n p' = 0 := by unfold xE; rw [if_neg (by rw [t]; decide)]
      rw [xe] at hg
      have g1 := skp_ge T n (p' + 1)
      have := Nat.mul_le_mul_left S (show p' + 1 ≤ skp T n (p' + 1) by omega)
      rw [Nat.mul_add, Nat.mul_one] at this
      show gC m2 + S * p ≤ _
      rw [zgC zz]
      omega
  · subst e
    refine pw_gxn (pw_some ⟨1, p', by rw [rB_r es]; unfold sSgn; rw [if_neg t]; rfl, rfl, hE, x.trans (f2.hp sz.1), ((f2.at1 (by omega)).1).trans h11, ?_⟩)
    have xb : xE T n p' ≤ 2 * n + 28 := xE_b hT hp'
    have := Nat.mul_le_mul_left S (show p' ≤ n + 2 by omega)
    show gC m2 + S * p ≤ _
    rw [zgC zz]
    omega
theorem cst_a {a b c x y z z' d : Nat} (h1 : a + x ≤ b + y + z) (h2 : b ≤ c + d) (h3 : z + d ≤ z') : a + x ≤ c + y + z' := by omega
/-- what was told, with what comes behind -/
theorem c_after {μ0 μ1 m : gM} {s : Rs HS} {p : Nat} {h : HS} {β : Type} {b : β} {o : Option β} (hT : tOK T n) (hS : 1000 ≤ S) (hL1 : cLx T n μ1) (hz : 2369 ≤ z0) (ht : tC2 T n S z0 c μ1 s p b (o, m)) (x01 : hpF z0 μ0 μ1) (h01 : gI μ1 1011 1 = gI μ0 1011 1) (hc0 : gI μ1 c 0 = iI ((h.sm + 1 : Nat) : Int)) (hgC : gC μ1 ≤ gC μ0 + 100) (f : β → Option (gM ⊕ (Option Nat × gM))) (hf : f b = mj_X2_all_98 m) : pw (gx_o o f (some (Sum.inr (none, m)))) (lpQ T n S z0 c μ0 (rB s fun p1 h1 => rB (sSgn T n p1 59) fun p2 _ => Sum.inr (p2, (HS.mk h1.nh h1.hn h1.nt h1.tn h1.tv h1.nd h1.dv h1.ni h1.iv h1.st h1.dg h1.bu h1.mn (h.sm + 1)))) p) := by
  obtain ⟨x, h1, h2⟩ := ht
  dsimp only at x h1 h2
  rcases h2 with ⟨p', h', es, e, st, ha, hc, hg⟩ | ⟨k, l, es, e, hE, hg⟩ | ⟨p', h', es, t, e, hE, hg⟩
  · subst e
    refine pw_gxs ?_
    rw [hf]
    exact c_98 hT hS (hL1.hp hz x h1) (x01.trans x) (h1.trans h01) es st ha (hc.trans hc0) (by omega)
  · subst e
    exact pw_gxn (pw_some ⟨k, l, rB_l es, rfl, hE, x01.trans x, h1.trans h01, cst_a hg hgC (by omega)⟩)
  · subst e
    exact pw_gxn (pw_some ⟨1, p', by rw [rB_r es]; unfold sSgn; rw [if_neg t]; rfl, rfl, hE, x01.trans x, h1.trans h01, cst_a hg hgC (by omega)⟩)
/-- the words of the first five statements -/
theorem c_told5 {m : gM} {h : HS} {p p1 : Nat} {w : List Int} (hT : tOK T n) (hS : 1000 ≤ S) (hL : cLx T n m) (ho : hsOK h) (st : stC z0 c m h) (ha : cAt T n m p1) (s : Rs HS) (hs : s = if w = wHall then sHall T n h p p1 else if w = wDoor then sDoor T n h p p1 else if w = wThing then sThing T n h p p1 else if w = wTie then sTie T n h p p1 else sStarts T n h p1) : pw (mj_X2_isTold_132 (iI p) (iI (tIx w)) m) (fun q => (tIx w ≠ -1 ∧ tC T n S z0 c m s p1 (1 : Int32) q) ∨ (tIx w = -1 ∧ q = (some 0, m))) := by
  have sz := st.z
  have h8 := ho.nh8
  have pn := (ha.le hT).1
  unfold mj_X2_isTold_132
  by_cases q1 : w = wHall
  · have et : tIx w = 0 := by rw [q1]; decide
    rw [if_pos q1] at hs
    rw [et]
    refine pw_t rfl (pw_let ?_)
    rw [st.2.2.1]
    have ls : lst m (gP m c 3) h.nh := st.ls (i := 0) (by omega)
    refine pw_gu sz.2.2.1 (pw_gu sz.2.2.2.1 (pw_let (pw_gu ls.1 (pw_gu ls.2.2.1 ?_))))
    rw [c_size ls]
    refine pw_bind (pw_some (pw_gu rfl ?_))
    have fin : ∀ k : Nat, ((k = 1 ∧ h.nh = 8) ∨ (k = 0 ∧ h.nh ≠ 8)) → pw (mj_X2_isTold_191 (iI p) (iI k) m) (fun q => ((0 : Int) ≠ -1 ∧ tC T n S z0 c m s p1 (1 : Int32) q) ∨ ((0 : Int) = -1 ∧ q = (some 0, m))) := fun k hk => pw_mono (c_hall191 (p0 := p) hS hL ha ho st hk) (fun q hq => Or.inl ⟨by decide, by rw [hs]; exact hq⟩)
    by_cases q : h.nh = 8
    · rw [q]; exact pw_t (by decide) (fin 1 (Or.inl ⟨rfl, q⟩))
    · exact pw_f (by rw [show (8 : Int32) = iI 8 from rfl, iI_eq (by omega) (by omega)]; omega) (fin 0 (Or.inr ⟨rfl, q⟩))
  rw [if_neg q1] at hs
  -- what the three readers give
  have rd : ∀ (k : Int) (F : Option (Option Unit × gM)), k ≠ -1 → pw F (tC T n S z0 c m s p1 ()) → pw (F.bind fun (o17, m15) => (if gZ m ≤ gZ m15 ∧ gW m ≤ gW m15 then gx_o o17 (fun r14 => some (some (1 : Int32), m15)) (some (none, m15)) else none)) (fun q => (k ≠ -1 ∧ tC T n S z0 c m s p1 (1 : Int32) q) ∨ (k = -1 ∧ q = (some 0, m))) := fun k F hk hF => by
    refine pw_bind (pw_mono hF ?_)
    rintro ⟨o, m15⟩ ht
    dsimp only
    refine pw_gu ⟨ht.1.1, ht.1.2.1⟩ ?_
    obtain ⟨a1, a2, a3⟩ := ht
    dsimp only at a1 a2 a3
    rcases a3 with ⟨p', h', b1, b2, b3⟩ | ⟨k', l, b1, b2, b3⟩
    · subst b2
      exact pw_gxs (pw_some (Or.inl ⟨hk, a1, a2, Or.inl ⟨p', h', b1, rfl, b3⟩⟩))
    · subst b2
      exact pw_gxn (pw_some (Or.inl ⟨hk, a1, a2, Or.inr ⟨k', l, b1, rfl, b3⟩⟩))
  by_cases q2 : w = wDoor
  · have et : tIx w = 1 := by rw [q2]; decide
    rw [if_pos q2] at hs
    rw [et]
    exact pw_f (by decide) (pw_t rfl (rd 1 _ (by decide) (by rw [hs]; exact c_doorT (p0 := p) hS hL ha ho st)))
  rw [if_neg q2] at hs
  by_cases q3 : w = wThing
  · have et : tIx w = 2 := by rw [q3]; decide
    rw [if_pos q3] at hs
    rw [et]
    exact pw_f (by decide) (pw_f (by decide) (pw_t rfl (rd 2 _ (by decide) (by rw [hs]; exact c_thingT (p0 := p) hS hL ha ho st))))
  rw [if_neg q3] at hs
  by_cases q4 : w = wTie
  · have et : tIx w = 3 := by rw [q4]; decide
    rw [if_pos q4] at hs
    rw [et]
    exact pw_f (by decide) (pw_f (by decide) (pw_f (by decide) (pw_t rfl (rd 3 _ (by decide) (by rw [hs]; exact c_tieT (p0 := p) hS hL ha ho st)))))
  rw [if_neg q4] at hs
  by_cases q5 : w = wStarts
  · have et : tIx w = 4 := by rw [q5]; decide
    rw [et]
    refine pw_f (by decide) (pw_f (by decide) (pw_f (by decide) (pw_f (by decide) (pw_t rfl (pw_let ?_)))))
    rw [st.2.2.1]
    have ls : lst m (gP m c 3) h.nh := st.ls (i := 0) (by omega)
    refine pw_gu sz.2.2.1 (pw_let (pw_gu sz.2.2.1 (pw_gu sz.2.2.2.1 (pw_let (pw_gu ls.1 ?_)))))
    refine pw_bind (pw_mono (c_known1 (i := 0) hL ha ho st.1 (Or.inl rfl)) ?_)
    rintro ⟨o, m4⟩ ⟨f4, h4⟩
    dsimp only at f4 h4 ⊢
    refine pw_gu ⟨f4.1, f4.2.1⟩ ?_
    rcases h4 with ⟨p', k, e1, e, a4, -, b4, bC⟩ | ⟨k, l, e1, e, hE, hC⟩
    · subst e
      have e1 : sKnown T n h.hn h.nh (-1) p1 = Sum.inr (p', k) := e1
      have o1 := sKnown_ok hT e1
      have st4 := st.p f4 b4
      have sz4 := st4.z
      refine pw_gxs (pw_gu sz4.2.2.2.1 (pw_gu (by omega) (pw_let (pw_some (Or.inl ⟨by decide, ?_⟩)))))
      have st5 : stC z0 c (gz_sI m4 c 1 (iI k)) (HS.mk h.nh h.hn h.nt h.tn h.tv h.nd h.dv h.ni h.iv k h.dg h.bu h.mn h.sm) := st4.sI rfl rfl (by show gI (gz_sI m4 c 1 (iI k)) c 1 = iI k; rw [sI_i, if_pos ⟨rfl, rfl⟩]) (by show gI (gz_sI m4 c 1 (iI k)) c 2 = iI h.dg; rw [sI_i, if_neg (by omega)]; exact st4.1.2.1.2) ⟨rfl, rfl⟩
      exact tC.good hS ((f4.hp sz.1).trans ((pF.sI (z := z0) (Or.inr st.2.1.1.2)).hp (Nat.le_refl _))) (by rw [sI_i, if_neg (by omega)]; exact (f4.at1 (by omega)).1) (by rw [hs]; unfold sStarts; rw [rB_r e1]) st5 (a4.p (by rw [sI_i, if_neg (by omega)])) (by rw [sI_i, if_neg (by omega)]; exact ((f4.sm sz.2.2.2.2.2 sz.2.2.2.2.1).2.2 0).1) o1.2.2.1 (by show gC m4 ≤ _; omega)
    · subst e
      exact pw_gxn (pw_some (Or.inl ⟨by decide, tC.bad sz.1 sz.2.1 pn f4 (k := k) (l := l) (by rw [hs]; unfold sStarts; exact rB_l e1) hE (by omega)⟩))
  have et : tIx w = -1 := by unfold tIx; rw [if_neg q1, if_neg q2, if_neg q3, if_neg q4, if_neg q5]
  rw [et]
  exact pw_f (by decide) (pw_f (by decide) (pw_f (by decide) (pw_f (by decide) (pw_f (by decide) (pw_some (Or.inr ⟨rfl, rfl⟩))))))
/-- the words of the last three -/
theorem c_more3 {m : gM} {h : HS} {p p1 : Nat} {w : List Int} (hT : tOK T n) (hS : 2 * n + 1000 ≤ S) (hL : cLx T n m) (ho : hsOK h) (st : stC z0 c m h) (ha : cAt T n m p1) (h5 : gI m 1011 5 = iI 15) (s : Rs HS) (hs : s = if w = wBurns then sBurns T n h p p1 else if w = wMinds then sMinds T n h p p1 else if w = wDraught then rB (sNum T n p1 0 100) (fun p2 v => Sum.inr (p2, (HS.mk h.nh h.hn h.nt h.tn h.tv h.nd h.dv h.ni h.iv h.st v h.bu h.mn h.sm))) else Sum.inl (1, p)) : pw (mj_X2_more_90 (iI p) (iI (mIx w)) m) (tC2 T n S z0 c m s p1 ()) := by
  have sz := st.z
  have pn := (ha.le hT).1
  have hS1 : 1000 ≤ S := by omega
  have hmul3 := Nat.mul_le_mul_left S (show p1 ≤ n + 2 by omega)
  have fail : ∀ {m2 : gM} {k : Int} {l : Nat}, pF (gZ m) m m2 → s = Sum.inl (k, l) → cErr m2 k l → gC m2 + S * p1 ≤ gC m + S * (n + 2) + (4 * n + 2000) → tC2 T n S z0 c m s p1 () (none, m2) := fun f es hE hc => ⟨f.hp sz.1, (f.at1 (by omega)).1, Or.inr (Or.inl ⟨_, _, es, rfl, hE, Nat.le_trans hc (Nat.add_le_add_left (by omega) _)⟩)⟩
  unfold mj_X2_more_90
  by_cases q1 : w = wBurns
  · have et : mIx w = 0 := by rw [q1]; decide
    rw [if_pos q1] at hs
    rw [et]
    refine pw_t rfl (pw_let ?_)
    rw [st.2.2.1]
    refine pw_gu sz.2.2.1 (pw_gu sz.2.2.2.1 ?_)
    have t7 := st.1.2.2.1
    have main : ∀ k : Nat, ((k = 1 ∧ h.bu ≠ none) ∨ (k = 0 ∧ h.bu = none)) → pw (mj_X2_more_136 (iI p) (iI k) m) (tC2 T n S z0 c m s p1 ()) := fun k hk => by
      unfold mj_X2_more_136
      refine pw_bind (pw_mono (c_most (s := k) (l := p) (by omega)) ?_)
      rintro ⟨o, m2⟩ h2
      dsimp only at h2 ⊢
      rcases h2 with ⟨s0, e, e2⟩ | ⟨s1, e, hE, zE, fE⟩
      rotate_left
      · subst e
        have hb : h.bu ≠ none := by rcases hk with ⟨_, q⟩ | ⟨q, _⟩; exact q; omega
        exact pw_gu (zle zE) (pw_gxn (pw_some (fail (fE _) (by rw [hs]; unfold sBurns; rw [if_pos hb]) hE (by rw [zgC zE]; omega))))
      subst e e2
      have hb : h.bu = none := by rcases hk with ⟨q, _⟩ | ⟨_, q⟩; omega; exact q
      refine pw_gu ⟨Nat.le_refl _, Nat.le_refl _⟩ (pw_gxs (pw_let ?_))
      rw [st.2.2.1]
      refine pw_gu sz.2.2.1 (pw_bind (pw_mono (sumTop (ask := false) hT hS (o := 0) (by omega) m2 p1 hL ha st.2.2.2 h5) ?_))
      rintro ⟨o, m9⟩ ⟨f9, h9⟩
      dsimp only at f9 h9 ⊢
      refine pw_gu ⟨f9.1, f9.2.1⟩ ?_
      rcases h9 with ⟨p', cs, r, es, e, tv, a9, o9, g9⟩ | ⟨k', l, es, e, hE, g9⟩
      · subst e
        have hr := (gR_v _ _ _ _ _ _ (tv.2.2 m9 (inR.refl _ _ _))).1
        obtain ⟨s1, s2, s3, s4⟩ := st.tree (h' := (HS.mk h.nh h.hn h.nt h.tn h.tv h.nd h.dv h.ni h.iv h.st h.dg (some cs) h.mn h.sm)) f9 (o9.trans st.2.2.2.symm) (Or.inl rfl) tv hr rfl rfl ⟨rfl, rfl⟩ (Or.inl ⟨rfl, rfl, rfl, rfl⟩)
        have k9 : gK m9 c = 2 := ((f9.sm sz.2.2.2.2.2 sz.2.2.2.2.1).1).trans sz.2.2.2.1
        refine pw_gxs (pw_gu k9 (pw_gu (by omega) (pw_gu ⟨sr_hi2 (by omega) 7, hr⟩ (pw_let (pw_some ⟨s2, s3, Or.inl ⟨p', _, by rw [hs]; unfold sBurns; rw [if_neg (fun q => q hb), rB_r es], rfl, s1, a9.p rfl, s4, ?_⟩⟩)))))
        show gC m9 + S * p1 ≤ _
        omega
      · subst e
        exact pw_gxn (pw_some (fail f9 (by rw [hs]; unfold sBurns; rw [if_neg (fun q => q hb), rB_l es]) hE (Nat.le_trans g9 (Nat.add_le_add_left (by omega) _))))
    refine pw_if (fun q => main 0 (Or.inr ⟨rfl, ?_⟩)) (fun q => main 1 (Or.inl ⟨rfl, fun hb => q ?_⟩))
    · cases hb : h.bu with
      | none => rfl
      | some cs => rw [hb] at t7; exact absurd q t7.1
    · rw [hb] at t7; exact t7
  rw [if_neg q1] at hs
  by_cases q2 : w = wMinds
  · have et : mIx w = 1 := by rw [q2]; decide
    rw [if_pos q2] at hs
    rw [et]
    refine pw_f (by decide) (pw_t rfl (pw_let ?_))
    rw [st.2.2.1]
    refine pw_gu sz.2.2.1 (pw_gu sz.2.2.2.1 ?_)
    have t8 := st.1.2.2.2
    have main : ∀ k : Nat, ((k = 1 ∧ h.mn ≠ none) ∨ (k = 0 ∧ h.mn = none)) → pw (mj_X2_more_170 (iI p) (iI k) m) (tC2 T n S z0 c m s p1 ()) := fun k hk => by
      unfold mj_X2_more_170
      refine pw_bind (pw_mono (c_most (s := k) (l := p) (by omega)) ?_)
      rintro ⟨o, m2⟩ h2
      dsimp only at h2 ⊢
      rcases h2 with ⟨s0, e, e2⟩ | ⟨s1, e, hE, zE, fE⟩
      rotate_left
      · subst e
        have hb : h.mn ≠ none := by rcases hk with ⟨_, q⟩ | ⟨q, _⟩; exact q; omega
        exact pw_gu (zle zE) (pw_gxn (pw_some (fail (fE _) (by rw [hs]; unfold sMinds; rw [if_pos hb]) hE (by rw [zgC zE]; omega))))
      subst e e2
      have hb : h.mn = none := by rcases hk with ⟨q, _⟩ | ⟨_, q⟩; omega; exact q
      refine pw_gu ⟨Nat.le_refl _, Nat.le_refl _⟩ (pw_gxs (pw_let ?_))
      rw [st.2.2.1]
      refine pw_gu sz.2.2.1 (pw_bind (pw_mono (testTop (ask := false) hT hS (o := 0) (by omega) m2 p1 hL ha st.2.2.2 h5) ?_))
      rintro ⟨o, m9⟩ ⟨f9, h9⟩
      dsimp only at f9 h9 ⊢
      refine pw_gu ⟨f9.1, f9.2.1⟩ ?_
      rcases h9 with ⟨p', cs, r, es, e, tv, a9, o9, g9⟩ | ⟨k', l, es, e, hE, g9⟩ | ⟨p', cs, es, tl, e, hE, g9⟩
      · subst e
        have hr := (gR_t _ _ _ _ _ _ (tv.2.2 m9 (inR.refl _ _ _))).1
        obtain ⟨s1, s2, s3, s4⟩ := st.tree (h' := (HS.mk h.nh h.hn h.nt h.tn h.tv h.nd h.dv h.ni h.iv h.st h.dg h.bu (some cs) h.sm)) f9 (o9.trans st.2.2.2.symm) (Or.inr rfl) tv hr rfl rfl ⟨rfl, rfl⟩ (Or.inr ⟨rfl, rfl, rfl, rfl⟩)
        have k9 : gK m9 c = 2 := ((f9.sm sz.2.2.2.2.2 sz.2.2.2.2.1).1).trans sz.2.2.2.1
        refine pw_gxs (pw_gu k9 (pw_gu (by omega) (pw_gu ⟨sr_hi2 (by omega) 8, hr⟩ (pw_let (pw_some ⟨s2, s3, Or.inl ⟨p', _, by rw [hs]; unfold sMinds; rw [if_neg (fun q => q hb), rB_r es], rfl, s1, a9.p rfl, s4, ?_⟩⟩)))))
        show gC m9 + S * p1 ≤ _
        omega
      · subst e
        exact pw_gxn (pw_some (fail f9 (by rw [hs]; unfold sMinds; rw [if_neg (fun q => q hb), rB_l es]) hE (Nat.le_trans g9 (Nat.add_le_add_left (by omega) _))))
      · subst e
        refine pw_gxn (pw_some ⟨f9.hp sz.1, (f9.at1 (by omega)).1, Or.inr (Or.inr ⟨p', _, by rw [hs]; unfold sMinds; rw [if_neg (fun q => q hb), rB_r es], fun q => ?_, rfl, hE, ?_⟩)⟩)
        · have := tl.1
          rw [q] at this
          exact absurd this (by decide)
        · exact Nat.le_trans g9 (Nat.add_le_add_left (by omega) _)
    refine pw_if (fun q => main 0 (Or.inr ⟨rfl, ?_⟩)) (fun q => main 1 (Or.inl ⟨rfl, fun hb => q ?_⟩))
    · cases hb : h.mn with
      | none => rfl
      | some cs => rw [hb] at t8; exact absurd q t8.1
    · rw [hb] at t8; exact t8
  rw [if_neg q2] at hs
  by_cases q3 : w = wDraught
  · have et : mIx w = 2 := by rw [q3]; decide
    rw [if_pos q3] at hs
    rw [et]
    refine pw_f (by decide) (pw_f (by decide) (pw_t rfl (pw_let ?_)))
    rw [st.2.2.1]
    refine pw_gu sz.2.2.1 (pw_bind (pw_mono (c_number hL ha (lo := 0) (hi := 100) (by omega) (by omega)) ?_))
    rintro ⟨o, m4⟩ ⟨f4, z4, h4⟩
    dsimp only at f4 z4 h4 ⊢
    refine pw_gu ⟨f4.1, f4.2.1⟩ ?_
    rcases h4 with ⟨k, l, e1, e, hE⟩ | ⟨p', v, e1, e, -, x4, a4⟩
    · subst e
      exact pw_gxn (pw_some (fail f4 (by rw [hs]; exact rB_l e1) hE (by rw [zgC z4]; omega)))
    · subst e
      have o1 := sNum_ok2 hT pn e1
      have st4 := st.p f4 (x4.at (by omega))
      have sz4 := st4.z
      refine pw_gxs (pw_gu sz4.2.2.2.1 (pw_gu (by omega) (pw_let (pw_some ?_))))
      have st5 : stC z0 c (gz_sI m4 c 2 (iI v)) (HS.mk h.nh h.hn h.nt h.tn h.tv h.nd h.dv h.ni h.iv h.st v h.bu h.mn h.sm) := st4.sI rfl rfl (by show gI (gz_sI m4 c 2 (iI v)) c 1 = iI h.st; rw [sI_i, if_neg (by omega)]; exact st4.1.2.1.1) (by show gI (gz_sI m4 c 2 (iI v)) c 2 = iI v; rw [sI_i, if_pos ⟨rfl, rfl⟩]) ⟨rfl, rfl⟩
      refine ⟨(f4.hp sz.1).trans ((pF.sI (z := z0) (Or.inr st.2.1.1.2)).hp (Nat.le_refl _)), ?_, Or.inl ⟨p', _, by rw [hs, rB_r e1], rfl, st5, a4.p (by rw [sI_i, if_neg (by omega)]), ?_, ?_⟩⟩
      · show gI (gz_sI m4 c 2 (iI v)) 1011 1 = _
        rw [sI_i, if_neg (by omega)]; exact (f4.at1 (by omega)).1
      · show gI (gz_sI m4 c 2 (iI v)) c 0 = _
        rw [sI_i, if_neg (by omega)]; exact ((f4.sm sz.2.2.2.2.2 sz.2.2.2.2.1).2.2 0).1
      · have := Nat.mul_le_mul_left S (show p1 ≤ p' by omega)
        show gC m4 + S * p1 ≤ _
        rw [zgC z4]
        omega
  have et : mIx w = -1 := by unfold mIx; rw [if_neg q1, if_neg q2, if_neg q3]
  rw [if_neg q3] at hs
  rw [et]
  refine pw_f (by decide) (pw_f (by decide) (pw_f (by decide) ?_))
  exact c_thr (α := Nat) (k := 1) (e := fun m2 => some (none, m2)) (fun μ' g1 g2 g3 => pw_some (fail (g3 _) hs g1 (by rw [zgC g2]; omega)))
end AllC2
