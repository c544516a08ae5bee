/-! ===== a question: both sides together ===== -/
theorem e_ask {n : Nat} {m : MM} {μ : gM} (hW : rWd m μ) (hD : rDk n m μ) (hn : n < 70) {N : Nat} (hN : mi m 2000 1 = N) : ∃ (r : Int64) (m' : MM) (μ' : gM), mf_ask m = some (r, m') ∧ cf_X0_ask μ = some (r, μ') ∧ rWd m' μ' ∧ rDk n m' μ' ∧ gZ μ ≤ gZ μ' ∧ gW μ ≤ gW μ' ∧ mi m' 2000 1 = 0 ∧ gC μ' ≤ gC μ + (2 * N + 1000) * (N + 2) + (4 * N + 2500) := by
  obtain ⟨⟨tp1, tp2, tp3, tp4⟩, ⟨fa1, fa2⟩, rf, ⟨sd1, sd2, sd3⟩, ⟨ou1, ou2, ou3, ou4⟩⟩ := id hD
  have hNm : rNm m μ := by obtain ⟨_, _, _, _, _, _, x⟩ := id hW; exact x
  have hz := hNm.2.2.1
  have hN2 : N ≤ 1600 := by omega
  have hNi : m.1 2000 1 = iI N := by rw [mi_of m 2000 1, hN]
  have hT := tpT_ok (m := m) hN2 (fun k hk => (tp1 k hk).2)
  -- the component, up to the text
  have cD6 : cD μ (gz_sI (gz_sI (gz_sI μ 1000 2 0) 1000 3 0) 1000 4 (-1)) := ((cD.sI (by unfold dkC; omega)).trans (cD.sI (by unfold dkC; omega))).trans (cD.sI (by unfold dkC; omega))
  have a4 : gI (gz_sI (gz_sI (gz_sI μ 1000 2 0) 1000 3 0) 1000 4 (-1)) 1000 4 = -1 := by rw [sI_i, if_pos ⟨rfl, rfl⟩]
  have a3 : gI (gz_sI (gz_sI (gz_sI μ 1000 2 0) 1000 3 0) 1000 4 (-1)) 1000 3 = 0 := by rw [sI_i, if_neg (by omega), sI_i, if_pos ⟨rfl, rfl⟩]
  have a2 : gI (gz_sI (gz_sI (gz_sI μ 1000 2 0) 1000 3 0) 1000 4 (-1)) 1000 2 = 0 := by rw [sI_i, if_neg (by omega), sI_i, if_neg (by omega), sI_i, if_pos ⟨rfl, rfl⟩]
  have eT : cf_X0_tapeTaken μ = some (iI N, gz_sI μ 1000 2 0) := by
    unfold cf_X0_tapeTaken
    simp only [gz_let]
    rw [ci_of μ 1000 2, tp2, hN]
  have I6 : ∀ c j : Nat, c ≠ 1000 → gI (gz_sI (gz_sI (gz_sI μ 1000 2 0) 1000 3 0) 1000 4 (-1)) c j = gI μ c j := fun c j k => by rw [sI_i, if_neg (by omega), sI_i, if_neg (by omega), sI_i, if_neg (by omega)]
  have J6 : ∀ j : Nat, j ≠ 2 → j ≠ 3 → j ≠ 4 → gI (gz_sI (gz_sI (gz_sI μ 1000 2 0) 1000 3 0) 1000 4 (-1)) 1000 j = gI μ 1000 j := fun j k1 k2 k3 => by rw [sI_i, if_neg (by omega), sI_i, if_neg (by omega), sI_i, if_neg (by omega)]
  have G6 : gZ (gz_sI (gz_sI (gz_sI μ 1000 2 0) 1000 3 0) 1000 4 (-1)) = gZ μ := rfl
  have W6 : gW (gz_sI (gz_sI (gz_sI μ 1000 2 0) 1000 3 0) 1000 4 (-1)) = gW μ := rfl
  have C6 : gC (gz_sI (gz_sI (gz_sI μ 1000 2 0) 1000 3 0) 1000 4 (-1)) = gC μ := rfl
  have L6 : ∀ c j : Nat, gL (gz_sI (gz_sI (gz_sI μ 1000 2 0) 1000 3 0) 1000 4 (-1)) c j = gL μ c j := fun _ _ => rfl
  have unf : ∀ (o : Option Nat) (m8 : gM) (Q : Int64 × gM → Prop), cf_X2_question (iI N) (gz_sI (gz_sI (gz_sI μ 1000 2 0) 1000 3 0) 1000 4 (-1)) = some (o, m8) → gZ (gz_sI (gz_sI (gz_sI μ 1000 2 0) 1000 3 0) 1000 4 (-1)) ≤ gZ m8 ∧ gW (gz_sI (gz_sI (gz_sI μ 1000 2 0) 1000 3 0) 1000 4 (-1)) ≤ gW m8 → pw (gx_o o (fun r7 => gz_let (gz_sI m8 1000 25 (0 : Int32)) fun m14 => (ml_X0_ask_53 r7 m14)) (gz_let (gz_sI m8 1000 3 (gI m8 1012 6)) fun m12 => gz_let (gz_sI m12 1000 4 (gI m12 1012 7)) fun m13 => some ((-1000000000000000 : Int64), m13))) Q → pw (cf_X0_ask μ) Q := fun o m8 Q e hle hQ => by
    unfold cf_X0_ask
    rw [eT]
    refine pw_bind (pw_some (pw_gu rfl (pw_let (pw_let ?_))))
    dsimp only
    rw [e]
    exact pw_bind (pw_some (pw_gu hle hQ))
  have hWx : ∀ mm : MM, (∀ c j : Nat, ¬ rdX c j → ¬ dkM c j → mm.1 c j = m.1 c j) → (∀ j : Nat, 16 ≤ j → mm.2 1039 j = m.2 1039 j) → rWd mm (gz_sI (gz_sI (gz_sI μ 1000 2 0) 1000 3 0) 1000 4 (-1)) := fun mm E EL => hW.rdk E EL cD6
  have sr6 : srOK (gz_sI (gz_sI (gz_sI μ 1000 2 0) 1000 3 0) 1000 4 (-1)) := by
    obtain ⟨_, _, _, _, _, _, n4⟩ := hW.dk (mD.refl m) cD6
    exact n4.1
  clear cD6
  generalize gz_sI (gz_sI (gz_sI μ 1000 2 0) 1000 3 0) 1000 4 (-1) = m6 at *
  obtain ⟨⟨o, m8⟩, e8, x8, h8⟩ := c_question (T := tpT m N) (n := N) (S := 2 * N + 1000) (μ := m6) hT (Nat.le_refl _) (fun k hk => by
    rw [I6 _ _ (by omega)]
    obtain ⟨⟨u1, u2⟩, u3⟩ := tp1 k (by omega)
    refine ⟨?_, u2⟩
    rw [u1, mi_of m 1001 k]
    unfold tpT
    rw [if_pos hk]) sr6 (by omega)
  dsimp only at x8 h8
  have i8 : ∀ c j : Nat, c < 2369 → c ≠ 1011 → c ≠ 1012 → gI m8 c j = gI m6 c j := fun c j k1 k2 k3 => ((x8.2.2 c (by omega)).2.2 j).1 k2 k3
  have l8 : ∀ c j : Nat, c < 2369 → gL m8 c j = gL m6 c j := fun c j k1 => ((x8.2.2 c (by omega)).2.2 j).2.1
  have tT : ∀ k : Nat, k < N → m.1 1001 k = iI (tpT m N k) := fun k hk => by
    unfold tpT
    rw [if_pos hk, mi_of m 1001 k]
  -- the desk
  have desk : ∀ (m' : MM) (ν : gM), (∀ c j : Nat, ¬ rdX c j → ¬ (c = 2000 ∧ (j = 1 ∨ j = 7 ∨ j = 8)) → m'.1 c j = m.1 c j) → (∀ c j : Nat, c ≠ 1099 → ¬ (c = 2000 ∧ j = 100) → m'.2 c j = m.2 c j) → m'.1 2000 1 = 0 → (∀ c j : Nat, c < 2369 → c ≠ 1011 → c ≠ 1012 → ¬ (c = 1000 ∧ (j = 25 ∨ j = 3 ∨ j = 4)) → gI ν c j = gI m6 c j) → gL ν 1000 24 = gL m6 1000 24 → rFault m' ν → rDk n m' ν := fun m' ν E EL e1 F FL hF => by
    have z1 : mi m' 2000 1 = 0 := by unfold mi; rw [e1]; decide
    have J2 : ∀ c' j : Nat, c' = 1010 ∨ c' = 1017 ∨ c' = 2368 → gI ν c' j = gI μ c' j := fun c' j hc' => by
      rw [F _ _ (by omega) (by omega) (by omega) (by omega), I6 _ _ (by omega)]
    have M : ∀ c' j : Nat, c' = 1001 ∨ c' = 1010 ∨ c' = 1103 ∨ (c' = 2000 ∧ j = 103) → m'.1 c' j = m.1 c' j := fun c' j hc' => E c' j (by unfold rdX; omega) (by omega)
    have Mi : ∀ c' j : Nat, c' = 1001 ∨ c' = 1010 ∨ c' = 1103 ∨ (c' = 2000 ∧ j = 103) → mi m' c' j = mi m c' j := fun c' j hc' => congrArg Int32.toInt (M c' j hc')
    refine ⟨⟨fun k hk => ?_, ?_, by omega, by omega⟩, hF, fun i hi => ?_, ⟨?_, ?_, ?_⟩, ⟨?_, ?_, ?_, fun i hi => ?_⟩⟩
    · rw [J2 _ _ (by omega), M _ _ (by omega), Mi _ _ (by omega)]; exact tp1 k hk
    · rw [z1]; exact ci_i (v := 0) (by rw [F _ _ (by omega) (by omega) (by omega) (by omega), a2]; rfl) (by omega)
    · rw [J2 _ _ (by omega), M _ _ (by omega)]; exact rf i hi
    · rw [FL, L6, EL _ _ (by omega) (by omega)]; exact sd1
    · unfold ml; rw [EL _ _ (by omega) (by omega)]; exact sd2
    · unfold ml; rw [EL _ _ (by omega) (by omega)]; exact sd3
    · rw [F _ _ (by omega) (by omega) (by omega) (by omega), J6 27 (by omega) (by omega) (by omega), M _ _ (by omega)]; exact ou1
    · rw [Mi _ _ (by omega)]; exact ou2
    · rw [Mi _ _ (by omega)]; exact ou3
    · rw [Mi _ _ (by omega)] at hi
      rw [J2 _ _ (by omega), M _ _ (by omega)]; exact ou4 i hi
  rcases h8 with ⟨p2, k, cs, c, es, hk, e, hcz, ⟨kk, hcb, k0, T1, T2⟩, g3, g4, hg⟩ | ⟨k, l, es, e, hE, hg⟩
  · -- the question stands
    subst e
    have hc : 2369 ≤ c := by omega
    obtain ⟨ty, hty⟩ : ∃ ty : Bool, qT cs [] [ty] := by
      by_cases q : k < 3
      · exact ⟨true, tRep_T 50 ((T1 q).2.2.2 m8 (inR.refl _ _ _))⟩
      · exact ⟨false, vRep_T 26 ((T2 (by omega)).2.2.2 m8 (inR.refl _ _ _))⟩
    -- the model
    obtain ⟨⟨r, m'⟩, em, mC, J1, J2, c7, c8, c55, er, ae⟩ := p_askR (Q := fun q => ∃ mC : MM, (∀ c j : Nat, ¬ rdX c j → ¬ (c = 2000 ∧ (j = 1 ∨ j = 7 ∨ j = 8)) → mC.1 c j = m.1 c j) ∧ ((∀ c j : Nat, ¬ (c = 2000 ∧ j = 100) → mC.2 c j = m.2 c j) ∧ mC.1 2000 1 = 0) ∧ mC.1 2000 7 = 0 ∧ mC.1 2000 8 = -1 ∧ (∀ t : Nat, t < things mC → mC.1 1055 t = endsS mC t) ∧ q.1 = lL (aS k (qv mC cs) (things mC)) ∧ akE mC q.2) hNi hT tT hNm.2.1 (fun m1 p2' k' cs' es' hk' f1 f2 f3 f4 f5 f6 f7 => by
      rw [es] at es'
      injection es' with e1
      injection e1 with e2 e3
      injection e3 with e4 e5
      subst e2 e4 e5
      have w1 := hWx m1 (fun c j q1 q2 => f1 c j q1 (by unfold dkM at q2; omega)) (fun j _ => by rw [f2])
      obtain ⟨⟨-, hh1, -⟩, n1, -⟩ := w1.ak
      have Nb : cs.length ≤ 1500 := by omega
      refine pw_mono (p_ask117 hk f4 f5 f6 Nb hty hh1.1 n1 w1.ways (tieOK.of hh1)) ?_
      rintro q ⟨mC, b1, b2, b3, b4, b5, b6, b7⟩
      refine ⟨mC, fun c j q1 q2 => (b1 c j (fun h => q1 (by unfold rdX; omega)) (fun h => ?_)).trans (f1 c j q1 (by omega)), ⟨fun c j h => by rw [b2 c j h, f2], ?_⟩, b3, b4, b5, b6, b7⟩
      · unfold rdX at q1
        omega
      · rw [b1 _ _ (by omega) (by omega)]; exact f3) (fun m1 k' l' x' es' => by rw [es] at es'; cases es')
    dsimp only at em er ae
    have wC : rWd mC m6 := hWx mC (fun c j q1 q2 => J1 c j q1 (by unfold dkM at q2; omega)) (fun j _ => J2.1 _ _ (by omega))
    -- the component
    have F14 : ∀ ν : gM, akF c (gz_sI m8 1000 25 0) ν → upA m6 ν := fun ν f => by
      have zz : gZ ν = gZ m8 := congrArg Prod.fst f.z
      refine ⟨by rw [zz]; exact x8.1, fun d hd => ?_⟩
      obtain ⟨b1, b2, b3⟩ := x8.2.2 d hd
      refine ⟨(f.K d).trans b1, (congrFun f.2.1 d).trans b2, fun j => ⟨fun q1 q2 q3 => ?_, fun q1 => ?_, fun q1 => ?_⟩⟩
      · rw [f.2.2.2.1 d j q3 (by omega), sI_i, if_neg q3]
        exact (b3 j).1 q1 q2
      · rw [f.2.2.2.2 d j q1 (by omega)]
        exact (b3 j).2.1
      · rw [f.P d j]
        exact (b3 j).2.2 q1
    have ti : ∀ ν : gM, akF c (gz_sI m8 1000 25 0) ν → inR (c + 1) (gZ m8) m8 ν := fun ν f d d1 d2 => ⟨f.K d, congrFun f.2.1 d, fun j => ⟨by rw [f.2.2.2.1 d j (by omega) (by omega), sI_i, if_neg (by omega)], by rw [f.2.2.2.2 d j (by omega) (by omega)]; rfl, f.P d j⟩⟩
    have R0 : aR k 0 (aS0 k) (gz_sI m8 1000 25 0) c := by
      have g3' : gL (gz_sI m8 1000 25 0) c 3 = lL (-1) := g3.trans (by decide)
      have g4' : gI (gz_sI m8 1000 25 0) c 4 = 0 := by rw [sI_i, if_neg (by omega)]; exact g4
      unfold aR aS0
      rw [g3', g4']
      obtain q | q | q : k < 2 ∨ k = 2 ∨ 3 ≤ k := by omega
      · rw [if_neg (by omega)]; exact Or.inl ⟨q, rfl, Or.inl ⟨rfl, rfl⟩⟩
      · rw [if_pos (by omega)]; exact Or.inr (Or.inl ⟨q, Or.inl ⟨rfl, rfl, rfl⟩⟩)
      · rw [if_pos (by omega)]; exact Or.inr (Or.inr ⟨q, Or.inl ⟨rfl, rfl, rfl⟩⟩)
    obtain ⟨-, nC, h52⟩ := wC.ak
    have goal : pw (cf_X0_ask μ) (fun q => q.1 = r ∧ akF c (gz_sI m8 1000 25 0) q.2) := by
      refine unf _ m8 _ e8 ⟨x8.1, x8.2.1⟩ (pw_gxs (pw_let ?_))
      rw [er]
      refine c_answers nC wC.ways h52 c55 hk hc kk (by rw [sI_i, if_neg (by omega)]; exact k0) (fun ν f => ⟨(wC.up (F14 ν f)).ak.1, fun q => ?_, fun q => ?_⟩) (by rw [sI_i, if_pos ⟨rfl, rfl⟩]) R0
      · rw [f.P c 1]
        exact ⟨(T1 q).1, tRep_le (by omega) ((T1 q).2.2.2 ν (ti ν f))⟩
      · rw [f.P c 2]
        exact ⟨(T2 q).1, vRep_le (by omega) ((T2 q).2.2.2 ν (ti ν f))⟩
    obtain ⟨⟨r2, ν⟩, ec, q1, fν⟩ := goal
    dsimp only at q1 fν
    subst q1
    have zz : ν.2.2.2.2.2 = m8.2.2.2.2.2 := fν.z
    have w' : rWd m' m6 := hWx m' (fun c j q1 q2 => by
      rw [ae.1 c j (fun h => q1 (by unfold rdX; omega))]
      exact J1 c j q1 (by unfold dkM at q2; omega)) (fun j _ => (ae.2 _ _ (by omega) (by omega)).trans (J2.1 _ _ (by omega)))
    have one : m'.1 2000 1 = 0 := (ae.1 _ _ (by omega)).trans J2.2
    refine ⟨r2, m', ν, em, ec, w'.up (F14 ν fν), desk m' ν (fun c j q1 q2 => ?_) (fun c j q1 q2 => ?_) one (fun d j q1 q2 q3 q4 => ?_) ?_ ⟨?_, ?_⟩, ?_, ?_, by unfold mi; rw [one]; decide, ?_⟩
    · rw [ae.1 c j (fun h => q1 (by unfold rdX; omega))]
      exact J1 c j q1 q2
    · exact (ae.2 c j q1 q2).trans (J2.1 c j q2)
    · rw [fν.2.2.2.1 d j (by omega) (by omega), sI_i, if_neg (by omega)]
      exact i8 d j q1 q2 q3
    · rw [fν.2.2.2.2 _ _ (by omega) (by omega)]
      exact l8 _ _ (by omega)
    · rw [fν.2.2.2.1 _ _ (by omega) (by omega), sI_i, if_neg (by omega), i8 _ _ (by omega) (by omega) (by omega), a3, ae.1 _ _ (by omega), c7]
    · rw [fν.2.2.2.1 _ _ (by omega) (by omega), sI_i, if_neg (by omega), i8 _ _ (by omega) (by omega) (by omega), a4, ae.1 _ _ (by omega), c8]
    · have e1 : gZ ν = gZ m8 := congrArg Prod.fst zz
      have := x8.1
      omega
    · have e1 : gW ν = gW m8 := congrArg Prod.snd zz
      have := x8.2.1
      omega
    · rw [zgC zz, ← C6]
      rw [Nat.mul_add] at hg ⊢
      generalize (2 * N + 1000) * N = X at *
      omega
  · -- a fault
    subst e
    obtain ⟨⟨r, m'⟩, em, J1, J2, c1, c7, c8, er⟩ := p_askR (Q := fun q => (∀ c j : Nat, ¬ rdX c j → ¬ (c = 2000 ∧ (j = 1 ∨ j = 7 ∨ j = 8)) → q.2.1 c j = m.1 c j) ∧ q.2.2 = m.2 ∧ q.2.1 2000 1 = 0 ∧ q.2.1 2000 7 = iI k ∧ q.2.1 2000 8 = iI l ∧ q.1 = -1000000000000000) hNi hT tT hNm.2.1 (fun m1 p2' k' cs' es' => by rw [es] at es'; cases es') (fun m1 k' l' x' es' f1 f2 f3 f4 => by
      rw [es] at es'
      injection es' with e1
      injection e1 with e2 e3
      subst e2 e3
      unfold mj_X6_ask_117
      have h5' : ¬ (msI (msI m1 2000 7 (m1.1 2000 5)) 2000 8 ((msI m1 2000 7 (m1.1 2000 5)).1 2000 6)).1 2000 5 = 0 := by
        rw [msI_i, if_neg (by omega), msI_i, if_neg (by omega)]; exact f4.ne
      refine pw_let (pw_let (pw_f h5' (pw_some ⟨fun c j q1 q2 => ?_, f2, ?_, ?_, ?_, rfl⟩)))
      · show (msI (msI m1 2000 7 (m1.1 2000 5)) 2000 8 ((msI m1 2000 7 (m1.1 2000 5)).1 2000 6)).1 c j = _
        rw [msI_i, if_neg (by omega), msI_i, if_neg (by omega)]
        exact f1 c j q1 (by omega)
      · exact f3
      · show m1.1 2000 5 = _
        exact f4.2.1
      · show (msI m1 2000 7 (m1.1 2000 5)).1 2000 6 = _
        rw [msI_i, if_neg (by omega)]
        exact f4.2.2)
    dsimp only at em J1 J2 c1 c7 c8 er
    have goal : pw (cf_X0_ask μ) (fun q => q.1 = r ∧ q.2 = gz_sI (gz_sI m8 1000 3 (iI k)) 1000 4 (iI l)) := by
      refine unf _ m8 _ e8 ⟨x8.1, x8.2.1⟩ (pw_gxn (pw_let (pw_let (pw_some ⟨er.symm, ?_⟩))))
      show gz_sI (gz_sI m8 1000 3 (gI m8 1012 6)) 1000 4 (gI (gz_sI m8 1000 3 (gI m8 1012 6)) 1012 7) = _
      rw [hE.1, show gI (gz_sI m8 1000 3 (iI k)) 1012 7 = iI l by rw [sI_i, if_neg (by omega)]; exact hE.2]
    obtain ⟨⟨r2, ν⟩, ec, q1, q2⟩ := goal
    dsimp only at q1 q2
    subst q1 q2
    have w' : rWd m' m6 := hWx m' (fun c j q1 q2 => J1 c j q1 (by unfold dkM at q2; omega)) (fun j _ => by rw [J2])
    refine ⟨r2, m', _, em, ec, (w'.up x8.a).dk (mD.refl m') ((cD.sI (by unfold dkC; omega)).trans (cD.sI (by unfold dkC; omega))), desk m' _ (fun c j q1 q2 => J1 c j q1 q2) (fun c j q1 q2 => by rw [J2]) c1 (fun d j q1 q2 q3 q4 => ?_) ?_ ⟨?_, ?_⟩, ?_, ?_, by unfold mi; rw [c1]; decide, ?_⟩
    · rw [sI_i, if_neg (by omega), sI_i, if_neg (by omega)]
      exact i8 d j q1 q2 q3
    · show gL m8 1000 24 = _
      exact l8 _ _ (by omega)
    · rw [sI_i, if_neg (by omega), sI_i, if_pos ⟨rfl, rfl⟩, c7]
    · rw [sI_i, if_pos ⟨rfl, rfl⟩, c8]
    · have := x8.1
      show gZ μ ≤ gZ m8
      omega
    · have := x8.2.1
      show gW μ ≤ gW m8
      omega
    · show gC m8 ≤ _
      rw [← C6]
      rw [Nat.mul_add] at hg ⊢
      generalize (2 * N + 1000) * N = X at *
      omega
