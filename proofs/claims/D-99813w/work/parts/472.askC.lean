/-! ===== the component reads a question ===== -/
/-- a question: which it is, its codes; what it has found so far -/
def quR (μ : gM) (c k : Nat) (cs : List Int) : Prop := gK μ c = 20 ∧ (2369 ≤ c ∧ c < gZ μ) ∧ gI μ c 0 = iI k ∧ (k < 3 → gP μ c 1 ≠ 0 ∧ Tv (tRep (alS true) true 50) (c + 1) (gZ μ) μ (gP μ c 1) cs) ∧ (3 ≤ k → gP μ c 2 ≠ 0 ∧ Tv (vRep (alS true) true 26) (c + 1) (gZ μ) μ (gP μ c 2) cs)
section AskC
variable {T : Nat → Int} {n S : Nat}
theorem c_qInit {m : gM} {c k a b : Nat} (hk : gK m c = 20) (hc : 2369 ≤ c) : cf_X22_init c (iI k) a b m = some ((), gz_sP (gz_sP (gz_sI (gz_sL m c 3 (-1)) c 0 (iI k)) c 1 a) c 2 b) := by
  unfold cf_X22_init
  simp only [gz_let]
  rw [if_pos hk, if_pos (by omega), if_pos (show gK (gz_sL m c 3 (-1)) c = 20 from hk), if_pos (by omega), if_pos (show gK (gz_sI (gz_sL m c 3 (-1)) c 0 (iI k)) c = 20 from hk), if_pos (by omega), if_pos (sr_hi2 hc 1), if_pos (show gK (gz_sP (gz_sI (gz_sL m c 3 (-1)) c 0 (iI k)) c 1 a) c = 20 from hk), if_pos (by omega), if_pos (sr_hi2 hc 2)]
/-- the question's end -/
def qQ (T : Nat → Int) (n S : Nat) (μ : gM) (q : Option Nat × gM) : Prop := hpF (gZ μ) μ q.2 ∧ ((∃ (p2 k : Nat) (cs : List Int) (c : Nat), sAsk T n = Sum.inr (p2, (k, cs)) ∧ k < 6 ∧ q.1 = some c ∧ gZ μ ≤ c ∧ quR q.2 c k cs ∧ gL q.2 c 3 = -1 ∧ gI q.2 c 4 = 0 ∧ gC q.2 ≤ gC μ + S * (n + 2) + (4 * n + 2500)) ∨ ∃ (k : Int) (l : Nat), sAsk T n = Sum.inl (k, l) ∧ q.1 = none ∧ cErr q.2 k l ∧ gC q.2 ≤ gC μ + S * (n + 2) + (4 * n + 2500))
theorem c_q81 {μ m : gM} {c k p' r : Nat} {cs : List Int} {s : Rs (List Int)} (hT : tOK T n) (hz : 2369 ≤ gZ μ) (hL : cLx T n m) (ha : cAt T n m p') (x : hpF (gZ μ) μ m) (hc : gZ μ ≤ c) (hk6 : k < 6) (hq : quR m c k cs) (h3 : gL m c 3 = -1) (h4 : gI m c 4 = 0) (es : s = Sum.inr (p', cs)) (eA : sAsk T n = rB s fun p2 cs => if T p2 = -1 then Sum.inr (p2, (k, cs)) else Sum.inl (1, p2)) (hg : gC m ≤ gC μ + S * (n + 2) + (4 * n + 2500)) : pw (mj_X2_question_81 c m) (qQ T n S μ) := by
  have hn := hT.1
  unfold mj_X2_question_81
  refine pw_bind (pw_mono (c_here1 hL ha) ?_)
  rintro ⟨r1, m2⟩ ⟨e, x2, a2, -, -⟩
  dsimp only at e x2 a2 ⊢
  subst e
  have hr := hT.r p'
  obtain ⟨q1, q2, q3, q4, q5⟩ := hq
  have f2 : pF (gZ m) m m2 := x2.p _
  have smc := f2.sm q2.1 q2.2
  have zz : gZ m2 = gZ m := congrArg Prod.fst x2.z
  refine pw_gu x2.z (pw_if (fun q => ?_) (fun q => ?_))
  · rw [show (-1 : Int32) = iI (-1) by decide, iI_eq (by omega) (by omega)] at q
    have ti : inR (c + 1) (gZ m) m m2 := f2.i (by omega) (Nat.le_refl _)
    refine pw_some ⟨x.trans (f2.hp x.1), Or.inl ⟨p', k, cs, c, by rw [eA, rB_r es, if_pos q], hk6, rfl, hc, ⟨smc.1.trans q1, by show 2369 ≤ c ∧ c < gZ m2; omega, (smc.2.2 0).1.trans q3, fun h => ?_, fun h => ?_⟩, (smc.2.2 3).2.1.trans h3, (smc.2.2 4).1.trans h4, by show gC m2 ≤ _; rw [zgC x2.z]; exact hg⟩⟩
    · show gP m2 c 1 ≠ 0 ∧ Tv _ (c + 1) (gZ m2) m2 (gP m2 c 1) cs
      rw [(smc.2.2 1).2.2, zz]
      exact ⟨(q4 h).1, (q4 h).2.mv ti (by omega)⟩
    · show gP m2 c 2 ≠ 0 ∧ Tv _ (c + 1) (gZ m2) m2 (gP m2 c 2) cs
      rw [(smc.2.2 2).2.2, zz]
      exact ⟨(q5 h).1, (q5 h).2.mv ti (by omega)⟩
  · rw [show (-1 : Int32) = iI (-1) by decide, iI_eq (by omega) (by omega)] at q
    rw [a2]
    exact c_thr (α := Nat) (k := 1) (e := fun m2 => some (none, m2)) (fun μ' e1 e2 e3 => pw_some ⟨(x.trans (f2.hp x.1)).trans ((e3 (gZ μ)).hp (Nat.le_refl _)), Or.inr ⟨1, p', by rw [eA, rB_r es, if_neg q], rfl, e1, by show gC μ' ≤ _; rw [zgC e2, zgC x2.z]; exact hg⟩⟩)
theorem c_question {μ : gM} (hT : tOK T n) (hS : 2 * n + 1000 ≤ S) (hB : ∀ k : Nat, k < n → gI μ 1010 k &&& (255 : Int32) = iI (T k) ∧ bB (gI μ 1010 k)) (hsr : srOK μ) (hz : 2369 ≤ gZ μ) : pw (cf_X2_question (iI n) μ) (qQ T n S μ) := by
  have hn := hT.1
  have hS1 : 1000 ≤ S := by omega
  unfold cf_X2_question
  refine pw_let (pw_let (pw_let (pw_let ?_)))
  generalize hM : gz_sI (gz_sI (gz_sI (gz_sI μ 1011 1 (iI n)) 1011 2 0) 1011 4 0) 1011 5 123 = m4
  have x4 : hpF (gZ μ) μ m4 := by
    rw [← hM]
    exact ⟨Nat.le_refl _, Nat.le_refl _, fun c hc => ⟨rfl, rfl, fun j => ⟨fun k _ => by rw [sI_i, if_neg (fun q => k q.1), sI_i, if_neg (fun q => k q.1), sI_i, if_neg (fun q => k q.1), sI_i, if_neg (fun q => k q.1)], rfl, fun _ => rfl⟩⟩⟩
  have V : gI m4 1011 1 = iI n ∧ gI m4 1011 2 = iI 0 ∧ gI m4 1011 4 = iI 0 ∧ gI m4 1011 5 = iI 123 := by
    rw [← hM]
    exact ⟨rfl, rfl, rfl, rfl⟩
  have G4 : gZ m4 = gZ μ ∧ gC m4 = gC μ := by rw [← hM]; exact ⟨rfl, rfl⟩
  clear hM
  obtain ⟨v1, v2, v4, v5⟩ := V
  have hL : cLx T n m4 := ⟨hT, fun k hk => by rw [((x4.2.2 1010 (by omega)).2.2 k).1 (by omega) (by omega)]; exact hB k hk, v1, hsr.lo x4.lo (by omega), by omega⟩
  have ha : cAt T n m4 (skp T n 0) := ⟨0, v2, Nat.zero_le _, rfl⟩
  have hsk := skp_le hT (Nat.zero_le n)
  have low : S * (n + 2) = S * n + 2 * S := by rw [Nat.mul_add]; omega
  refine pw_bind (pw_mono (c_word hL ha) ?_)
  rintro ⟨o, m6⟩ ⟨f6, h6⟩
  dsimp only at f6 h6 ⊢
  refine pw_gu ⟨f6.1, f6.2.1⟩ ?_
  have z6 := f6.1
  have x6 : hpF (gZ μ) μ m6 := x4.trans (f6.hp (by omega))
  rcases h6 with ⟨s, ⟨c1, c2⟩, e, hs, hs2, hs3, hs4, b1, b2, b3, b4⟩ | ⟨w2, e, e1, e2⟩
  rotate_left
  · subst e
    have no : ∀ k : Nat, k < 6 → ¬ isW T n (skp T n 0) (kdW k) := fun k _ q => w2 ⟨q.1, q.2.1⟩
    refine pw_gxn (pw_some ⟨x6, Or.inr ⟨1, skp T n 0, by unfold sAsk; rw [if_pos (by rw [kdK_no no]; exact Nat.le_refl _)], rfl, e1, ?_⟩⟩)
    show gC m6 ≤ _
    rw [zgC e2, G4.2]
    generalize S * (n + 2) = X
    omega
  subst e
  refine pw_gxs ?_
  have hL6 := hL.p f6
  have hS6 := hL6.2.2.2.1
  obtain ⟨r, er, hr⟩ := c_find (L := cTOLD) hs2 hS6.2.2.2.2 (fun c hc => hS6.str (told_mem c hc)) (by decide)
  have l6 : cTOLD.length = 6 := by decide
  have hwe := wE_le hT hsk
  have hge := wE_ge T n (skp T n 0)
  rw [er]
  refine pw_bind (pw_some (pw_gu rfl ?_))
  dsimp only
  rcases hr with ⟨i, i1, i2, i3, -⟩ | ⟨i2, i3⟩
  rotate_left
  · have no : ∀ k : Nat, k < 6 → ¬ isW T n (skp T n 0) (kdW k) := fun k hk q => i3 k (by rw [l6]; exact hk) (by rw [(kd_in k hk).2.1]; exact ((isW_iff c1 c2).mp q).symm)
    have sp : sAsk T n = Sum.inl (1, skp T n 0) := by unfold sAsk; rw [if_pos (by rw [kdK_no no]; exact Nat.le_refl _)]
    clear i3 no
    rw [b2]
    refine pw_t (by rw [i2]; exact (show iI (-1) = (-1 : Int32) by decide)) ?_
    exact c_thr (α := Nat) (k := 1) (e := fun m2 => some (none, m2)) (fun μ' e1 e2 e3 => pw_some ⟨x6.trans ((e3 (gZ μ)).hp (Nat.le_refl _)), Or.inr ⟨1, skp T n 0, sp, rfl, e1, by
      show gC μ' ≤ _
      rw [zgC e2, b4, G4.2]
      generalize S * (n + 2) = X
      omega⟩⟩)
  rw [l6] at i1
  have hW : isW T n (skp T n 0) (kdW i) := (isW_iff c1 c2).mpr (by rw [← (kd_in i i1).2.1]; exact i3.symm)
  have ek := kdK_of i1 hW
  clear i3
  have elen : wE T n (skp T n 0) = skp T n 0 + (kdW i).length := hW.2.2.1
  have eA : sAsk T n = rB (if i < 3 then sTest T n (sF T n true 8) 0 (skp T n (wE T n (skp T n 0))) else sSum T n (sA T n true 8) 0 (skp T n (wE T n (skp T n 0)))) fun p2 cs => if T p2 = -1 then Sum.inr (p2, (i, cs)) else Sum.inl (1, p2) := by
    unfold sAsk
    rw [ek, if_neg (by omega), ← elen]
  subst i2
  refine pw_f (by rw [show (-1 : Int32) = iI (-1) by decide, iI_eq (by omega) (by omega)]; omega) ?_
  have a6 : cAt T n m6 (skp T n (wE T n (skp T n 0))) := cAt.of b1 hwe
  have pn := (a6.le hT).1
  have g6 := skp_ge T n (wE T n (skp T n 0))
  have k6 := (kd_in i i1).2.2
  have zc : gZ m6 = gZ m6 := rfl
  have x17 : pF (gZ m6) m6 (gz_al m6 (19 + 1) 0 5) := pF.al (Nat.le_refl _)
  have k17 : gK (gz_al m6 (19 + 1) 0 5) (gZ m6) = 20 := by rw [al_k, if_pos rfl]
  have n17 : gI (gz_al m6 (19 + 1) 0 5) (gZ m6) 4 = 0 := by rw [al_i, if_pos rfl]
  have g17 : gZ (gz_al m6 (19 + 1) 0 5) = gZ m6 + 1 := rfl
  have c17 := al_c m6 (19 + 1) 5
  have i17 : ∀ j : Nat, gI (gz_al m6 (19 + 1) 0 5) 1011 j = gI m6 1011 j := fun j => by rw [al_i, if_neg (by omega)]
  have zle17 : gW m6 ≤ gW (gz_al m6 (19 + 1) 0 5) := x17.2.1
  have h5 : gI m6 1011 5 = iI (mkA true) := (f6.at5 (by omega)).trans v5
  have mS := Nat.mul_le_mul_left S (show skp T n (wE T n (skp T n 0)) ≤ n + 2 by omega)
  -- what follows the tree
  have fin : ∀ (m19 : gM) (p' : Nat) (cs : List Int) (rr a b : Nat) (s : Rs (List Int)), pF (gZ m6 + 1) (gz_al m6 (19 + 1) 0 5) m19 → cAt T n m19 p' → s = Sum.inr (p', cs) → sAsk T n = rB s (fun p2 cs => if T p2 = -1 then Sum.inr (p2, (i, cs)) else Sum.inl (1, p2)) → ((i < 3 ∧ a = rr ∧ b = 0 ∧ rr ≠ 0 ∧ Tv (tRep (alS true) true 50) (gZ m6 + 1) (gZ m19) m19 rr cs) ∨ (3 ≤ i ∧ a = 0 ∧ b = rr ∧ rr ≠ 0 ∧ Tv (vRep (alS true) true 26) (gZ m6 + 1) (gZ m19) m19 rr cs)) → gC m19 ≤ gC μ + S * (n + 2) + (4 * n + 2500) → pw ((cf_X22_init (gZ m6) (iI (i : Int)) a b m19).bind fun (x : Unit × gM) => (if x.2.2.2.2.2.2 = m19.2.2.2.2.2 then (mj_X2_question_81 (gZ m6) x.2) else none)) (qQ T n S μ) := fun m19 p' cs rr a b s f19 a19 es eA2 ht hg => by
    have k19 : gK m19 (gZ m6) = 20 := ((f19.2.2 (gZ m6) (by omega)).1).trans k17
    have n19 : gI m19 (gZ m6) 4 = 0 := ((f19.sm (by omega) (show gZ m6 < gZ m6 + 1 by omega)).2.2 4).1.trans n17
    have z19 := f19.1
    rw [c_qInit k19 (by omega)]
    refine pw_bind (pw_some (pw_gu rfl ?_))
    dsimp only
    generalize hM2 : gz_sP (gz_sP (gz_sI (gz_sL m19 (gZ m6) 3 (-1)) (gZ m6) 0 (iI (i : Int))) (gZ m6) 1 a) (gZ m6) 2 b = m25
    have s25 : ∀ d : Nat, d ≠ gZ m6 → smC m19 m25 d := fun d hd => by
      rw [← hM2]
      refine ⟨rfl, rfl, fun j => ⟨?_, ?_, ?_⟩⟩
      · show gI (gz_sI (gz_sL m19 (gZ m6) 3 (-1)) (gZ m6) 0 (iI (i : Int))) d j = _
        rw [sI_i, if_neg (fun q => hd q.1)]; rfl
      · show gL (gz_sL m19 (gZ m6) 3 (-1)) d j = _
        rw [sL_l, if_neg (fun q => hd q.1)]
      · rw [sP_p, if_neg (fun q => hd q.1), sP_p, if_neg (fun q => hd q.1)]; rfl
    have V25 : gK m25 (gZ m6) = 20 ∧ gI m25 (gZ m6) 0 = iI (i : Int) ∧ gI m25 (gZ m6) 4 = 0 ∧ gL m25 (gZ m6) 3 = -1 ∧ gP m25 (gZ m6) 1 = a ∧ gP m25 (gZ m6) 2 = b ∧ gZ m25 = gZ m19 ∧ gC m25 = gC m19 := by
      rw [← hM2]
      refine ⟨k19, ?_, ?_, ?_, ?_, ?_, rfl, rfl⟩
      · show gI (gz_sI (gz_sL m19 (gZ m6) 3 (-1)) (gZ m6) 0 (iI (i : Int))) (gZ m6) 0 = _
        rw [sI_i, if_pos ⟨rfl, rfl⟩]
      · show gI (gz_sI (gz_sL m19 (gZ m6) 3 (-1)) (gZ m6) 0 (iI (i : Int))) (gZ m6) 4 = _
        rw [sI_i, if_neg (by omega)]; exact n19
      · show gL (gz_sL m19 (gZ m6) 3 (-1)) (gZ m6) 3 = _
        rw [sL_l, if_pos ⟨rfl, rfl⟩]
      · rw [sP_p, if_neg (by omega), sP_p, if_pos ⟨rfl, rfl⟩]
      · rw [sP_p, if_pos ⟨rfl, rfl⟩]
    have W25 : gW m25 = gW m19 := by rw [← hM2]; rfl
    clear hM2
    obtain ⟨w1, w2, w3, w4, w5, w6, w7, w8⟩ := V25
    have x25 : hpF (gZ μ) μ m25 := by
      have h19 : hpF (gZ μ) μ m19 := (x6.trans ((x17.hp (by omega)))).trans (f19.hp (by omega))
      refine h19.trans ⟨by omega, by omega, fun d hd => ?_⟩
      have := s25 d (by omega)
      exact ⟨this.1, this.2.1, fun j => ⟨fun _ _ => (this.2.2 j).1, (this.2.2 j).2.1, fun _ => (this.2.2 j).2.2⟩⟩
    have hL25 : cLx T n m25 := by
      have q : pF 2369 m19 m25 := ⟨by omega, by omega, fun d hd => by
        have := s25 d (by omega)
        exact ⟨this.1, this.2.1, fun j => ⟨fun _ => (this.2.2 j).1, (this.2.2 j).2⟩⟩⟩
      exact (((hL6.p x17).pz (z := gZ m6 + 1) (by omega) f19)).pz (Nat.le_refl _) q
    have ti : ∀ {y z : Nat}, gZ m6 + 1 ≤ y → inR y z m19 m25 := fun hy d d1 d2 => s25 d (by omega)
    refine c_q81 (s := s) (k := i) (r := 0) hT hz hL25 (a19.p (((s25 1011 (by omega)).2.2 2).1)) x25 (by omega) i1 ⟨w1, by omega, w2, fun h => ?_, fun h => ?_⟩ w4 w3 es eA2 (by omega)
    · rcases ht with ⟨q1, q2, q3, q4, q5⟩ | ⟨q1, -⟩
      · rw [w5, q2, w7]
        exact ⟨q4, q5.mv (ti (Nat.le_refl _)) (by omega)⟩
      · omega
    · rcases ht with ⟨q1, -⟩ | ⟨q1, q2, q3, q4, q5⟩
      · omega
      · rw [w6, q3, w7]
        exact ⟨q4, q5.mv (ti (Nat.le_refl _)) (by omega)⟩
  by_cases q3 : i < 3
  · rw [if_pos q3] at eA
    refine pw_f (by rw [show (3 : Int32) = iI 3 from rfl, iI_le (by omega) (by omega)]; omega) (pw_gu (by omega) (pw_let ?_))
    refine pw_bind (pw_mono (testTop (ask := true) hT hS (o := 0) (by omega) _ _ (hL6.p x17) (a6.p (i17 2)) ((i17 4).trans (b3.trans v4)) ((i17 5).trans h5)) ?_)
    rintro ⟨o, m19⟩ ⟨f19, h19⟩
    dsimp only at f19 h19 ⊢
    refine pw_gu ⟨f19.1, f19.2.1⟩ ?_
    have x19 : hpF (gZ μ) μ m19 := (x6.trans (x17.hp (by omega))).trans (f19.hp (by omega))
    rcases h19 with ⟨p', cs, rr, es, e, tv, a9, o9, g9⟩ | ⟨k', l, es, e, hE, g9⟩ | ⟨p', cs, es, tl, e, hE, g9⟩
    · subst e
      have hrr := (gR_t _ _ _ _ _ _ (tv.2.2 m19 (inR.refl _ _ _))).1
      have pn' := (a9.le hT).1
      have xb : xE T n p' ≤ 2 * n + 28 := xE_b hT pn'
      have mS2 := Nat.mul_le_mul_left S (show p' ≤ n + 2 by omega)
      refine pw_gxs (pw_gu hrr (fin m19 p' cs rr rr 0 _ (by rw [g17] at f19; exact f19) a9 es eA (Or.inl ⟨q3, rfl, rfl, hrr, by rw [g17] at tv; exact tv⟩) ?_))
      generalize S * (n + 2) = X at *
      generalize S * skp T n (wE T n (skp T n 0)) = Y at *
      generalize S * p' = Z at *
      omega
    · subst e
      refine pw_gxn (pw_some ⟨x19, Or.inr ⟨k', l, by rw [eA, rB_l es], rfl, hE, ?_⟩⟩)
      show gC m19 ≤ _
      generalize S * (n + 2) = X at *
      generalize S * skp T n (wE T n (skp T n 0)) = Y at *
      omega
    · subst e
      have tne : ¬ T p' = -1 := fun q => by
        have := tl.1
        rw [q] at this
        exact absurd this (by decide)
      refine pw_gxn (pw_some ⟨x19, Or.inr ⟨1, p', by rw [eA, rB_r es, if_neg tne], rfl, hE, ?_⟩⟩)
      show gC m19 ≤ _
      generalize S * (n + 2) = X at *
      generalize S * skp T n (wE T n (skp T n 0)) = Y at *
      omega
  · rw [if_neg q3] at eA
    refine pw_t (by rw [show (3 : Int32) = iI 3 from rfl, iI_le (by omega) (by omega)]; omega) (pw_gu (by omega) (pw_let ?_))
    refine pw_bind (pw_mono (sumTop (ask := true) hT hS (o := 0) (by omega) _ _ (hL6.p x17) (a6.p (i17 2)) ((i17 4).trans (b3.trans v4)) ((i17 5).trans h5)) ?_)
    rintro ⟨o, m19⟩ ⟨f19, h19⟩
    dsimp only at f19 h19 ⊢
    refine pw_gu ⟨f19.1, f19.2.1⟩ ?_
    have x19 : hpF (gZ μ) μ m19 := (x6.trans (x17.hp (by omega))).trans (f19.hp (by omega))
    rcases h19 with ⟨p', cs, rr, es, e, tv, a9, o9, g9⟩ | ⟨k', l, es, e, hE, g9⟩
    · subst e
      have hrr := (gR_v _ _ _ _ _ _ (tv.2.2 m19 (inR.refl _ _ _))).1
      have pn' := (a9.le hT).1
      have mS2 := Nat.mul_le_mul_left S (show p' ≤ n + 2 by omega)
      refine pw_gxs (pw_gu hrr (fin m19 p' cs rr 0 rr _ (by rw [g17] at f19; exact f19) a9 es eA (Or.inr ⟨by omega, rfl, rfl, hrr, by rw [g17] at tv; exact tv⟩) ?_))
      generalize S * (n + 2) = X at *
      generalize S * skp T n (wE T n (skp T n 0)) = Y at *
      generalize S * p' = Z at *
      omega
    · subst e
      refine pw_gxn (pw_some ⟨x19, Or.inr ⟨k', l, by rw [eA, rB_l es], rfl, hE, ?_⟩⟩)
      show gC m19 ≤ _
      generalize S * (n + 2) = X at *
      generalize S * skp T n (wE T n (skp T n 0)) = Y at *
      omega
end AskC
