theorem ks_hi {c : Nat} (h : 2369 ≤ c) : ks c = 0 := by
  unfold ks
  rw [if_neg (by omega), if_neg (by omega), if_neg (by omega), if_neg (by omega), if_neg (by omega), if_neg (by omega), if_neg (by omega), if_neg (by omega), if_neg (by omega), if_neg (by omega)]
theorem sr_hi2 {c : Nat} (h : 2369 ≤ c) (k : Nat) : sr c k = 0 := by
  have h1 : cSt c = false := by
    unfold cSt
    have a1 : (c == 1027) = false := by simp; omega
    have a2 : (c == 1073) = false := by simp; omega
    have a3 : Nat.blt c 2368 = false := by
      rw [Bool.eq_false_iff]
      intro w
      have := Nat.le_of_ble_eq_true w
      omega
    rw [a1, a2, a3]
    simp
  unfold sr
  rw [if_neg (by omega), if_neg (by omega), if_neg (by omega), if_neg (by omega), h1, if_neg Bool.false_ne_true, if_neg (by omega), if_neg (by omega)]
/-- a string is made of signs -/
theorem c_valueOf {μ : gM} {ca : Nat} {w : List Int} (hk : gK μ ca = 103) (hn : gN μ ca = w.length) (hl : 1 ≤ w.length ∧ w.length ≤ 1600) (hc : ∀ i : Nat, i < w.length → gI μ ca i = iI (w.getD i 0) ∧ 0 ≤ w.getD i 0 ∧ w.getD i 0 < 128) (hz : 2369 ≤ gZ μ) (hca : ca < gZ μ) : ∃ μ' : gM, cf_J9_valueOf ca μ = some (gZ μ, μ') ∧ strR μ' (gZ μ) w ∧ hsR μ' (gZ μ) w ∧ sFr (gZ μ) μ μ' ∧ gZ μ' = gZ μ + 2 ∧ gW μ' = gW μ + (4 + w.length) ∧ gP μ' (gZ μ) 0 = gZ μ + 1 := by
  have g0 : gz_ix (0 : Int32) = 0 := by decide
  have gl : gz_ix (iI (w.length : Int)) = w.length := by rw [gix (by omega)]; omega
  generalize hZ : gZ μ = z at *
  -- the string, the bytes
  generalize hm2 : gz_al μ (21 + 1) 0 4 = m2
  have z2 : gZ m2 = z + 1 := by rw [← hm2, ← hZ]; rfl
  have w2 : gW m2 = gW μ + 4 := by rw [← hm2]; rfl
  have f2 : sFr z μ m2 := by rw [← hm2]; exact sFr.al (by omega)
  have k2 : gK m2 z = 22 := by rw [← hm2, al_k, if_pos hZ.symm]
  have i2 : ∀ j : Nat, gI m2 z j = 0 := fun j => by rw [← hm2, al_i, if_pos hZ.symm]
  generalize hm3 : gz_al m2 (1 + 101) (gz_ix (iI (w.length : Int))) (gz_ix (iI (w.length : Int))) = m3
  have z3 : gZ m3 = z + 2 := by rw [← hm3, show gZ (gz_al m2 (1 + 101) (gz_ix (iI (w.length : Int))) (gz_ix (iI (w.length : Int)))) = gZ m2 + 1 from rfl, z2]
  have w3 : gW m3 = gW μ + 4 + w.length := by rw [← hm3, show gW (gz_al m2 (1 + 101) (gz_ix (iI (w.length : Int))) (gz_ix (iI (w.length : Int)))) = gW m2 + gz_ix (iI (w.length : Int)) from rfl, w2, gl]
  have f3 : sFr (z + 1) m2 m3 := by rw [← hm3]; exact sFr.al (by omega)
  have k3 : gK m3 (z + 1) = 102 := by rw [← hm3, al_k, if_pos z2.symm]
  have n3 : gN m3 (z + 1) = w.length := by rw [← hm3, al_n, if_pos z2.symm, gl]
  have f23 : sFr z μ m3 := f2.trans (f3.dn (by omega))
  have cK : gK m3 ca = 103 := by rw [(f23.2.2 ca hca).1]; exact hk
  have cN : gN m3 ca = w.length := by rw [(f23.2.2 ca hca).2.1]; exact hn
  have cI : ∀ i : Nat, i < w.length → gI m3 ca i = iI (w.getD i 0) := fun i hi => by
    rw [← hm3, al_i, if_neg (by omega), ← hm2, al_i, if_neg (by omega)]
    exact (hc i hi).1
  have k3z : gK m3 z = 22 := by rw [← hm3, al_k, if_neg (by omega)]; exact k2
  have i3z : ∀ j : Nat, gI m3 z j = 0 := fun j => by rw [← hm3, al_i, if_neg (by omega)]; exact i2 j
  -- the signs go over
  have cp : pw (cf_J10_compress_2 ca (0 : Int32) (z + 1) (0 : Int32) (iI (w.length : Int)) m3) (fun q => q.1 = iI (w.length : Int) ∧ q.2.1 = m3.1 ∧ q.2.2.1 = m3.2.1 ∧ q.2.2.2.2 = m3.2.2.2 ∧ (∀ c j : Nat, c ≠ z + 1 → gI q.2 c j = gI m3 c j) ∧ ∀ j : Nat, j < w.length → gI q.2 (z + 1) j = iI (w.getD j 0)) := by
    unfold cf_J10_compress_2 ml_J10_compress_2_3
    refine pw_for (fun (i : Nat) (q : Int32 × Int32 × Int32 × Int32 × gM) => q.1 = iI i ∧ q.2.1 = iI i ∧ q.2.2.1 = iI (w.length : Int) ∧ q.2.2.2.1 = iI i ∧ q.2.2.2.2.1 = m3.1 ∧ q.2.2.2.2.2.1 = m3.2.1 ∧ q.2.2.2.2.2.2.2 = m3.2.2.2 ∧ (∀ c j : Nat, c ≠ z + 1 → gI q.2.2.2.2 c j = gI m3 c j) ∧ ∀ j : Nat, j < i → gI q.2.2.2.2 (z + 1) j = iI (w.getD j 0)) w.length ?_ ?_ ⟨rfl, rfl, rfl, rfl, rfl, rfl, rfl, fun _ _ _ => rfl, fun j hj => absurd hj (Nat.not_lt_zero _)⟩
    · rintro i ⟨y1, y2, y3, y4, m⟩ hi ⟨rfl, rfl, rfl, rfl, a1, a2, a3, a4, a5⟩
      dsimp only at a1 a2 a3 a4 a5 ⊢
      have gi : gz_ix (iI (i : Int)) = i := by rw [gix (by omega)]; omega
      have ei : iI (i : Int) + (1 : Int32) = iI ((i + 1 : Nat) : Int) := by rw [iI_lit, iI_add]; rfl
      obtain ⟨C, hC⟩ : ∃ C : Nat, w.getD i 0 = C := ⟨(w.getD i 0).toNat, by have := hc i hi; omega⟩
      have hC2 := (hc i hi).2
      unfold mb_J10_compress_2_3
      rw [gi, ei, a4 _ _ (by omega), cI i hi, hC]
      simp only [gz_let]
      rw [byt8 C (by omega)]
      refine pw_f (by rw [iI_le (by omega) (by omega)]; omega) (pw_gu (by show m.1 ca = 103; rw [a1]; exact cK) (pw_gu ((gin_iI (by omega)).2 (by show _ ∧ _ < (m.2.1 ca : Int); rw [a2]; show _ ∧ _ < (gN m3 ca : Int); rw [cN]; omega)) (pw_t (by rw [iI_lit, iI_le (by omega) (by omega)]; omega) (pw_gu ⟨by show m.1 (z + 1) = 102; rw [a1]; exact k3, by omega⟩ (pw_gu ((gin_iI (by omega)).2 (by show _ ∧ _ < (m.2.1 (z + 1) : Int); rw [a2]; show _ ∧ _ < (gN m3 (z + 1) : Int); rw [n3]; omega)) (pw_some ⟨rfl, rfl, rfl, rfl, a1, a2, a3, fun c j h => ?_, fun j hj => ?_⟩))))))
      · dsimp only
        rw [sI_i, if_neg (fun q => h q.1)]
        exact a4 c j h
      · dsimp only
        rw [sI_i]
        by_cases q : j = i
        · rw [if_pos ⟨rfl, q⟩, q, hC]
        · rw [if_neg (fun x => q x.2)]
          exact a5 j (by omega)
    · rintro ⟨y1, y2, y3, y4, m⟩ ⟨rfl, rfl, rfl, rfl, a1, a2, a3, a4, a5⟩
      dsimp only at a1 a2 a3 a4 a5 ⊢
      unfold mb_J10_compress_2_3
      exact pw_t (by rw [iI_le (by omega) (by omega)]; omega) (pw_some ⟨rfl, a1, a2, a3, a4, a5⟩)
  obtain ⟨⟨r4, m4⟩, e4, rfl, d1, d2, d3, d4, d5⟩ := cp
  dsimp only at e4 d1 d2 d3 d4 d5
  have z4 : m4.2.2.2.2.2 = m3.2.2.2.2.2 := by rw [d3]
  have k4 : gK m4 (z + 1) = 102 := by show m4.1 (z + 1) = 102; rw [d1]; exact k3
  have n4 : gN m4 (z + 1) = w.length := by show m4.2.1 (z + 1) = w.length; rw [d2]; exact n3
  have k4z : gK m4 z = 22 := by show m4.1 z = 22; rw [d1]; exact k3z
  have i4z : ∀ j : Nat, gI m4 z j = 0 := fun j => by rw [d4 _ _ (by omega)]; exact i3z j
  have coder : cf_J10_coderFromArrayLen (z + 1) (iI (w.length : Int)) m4 = some (0, m4) := by
    unfold cf_J10_coderFromArrayLen
    rw [if_pos k4, n4, ← iI_nI, iI_sub, show (w.length : Int) - (w.length : Int) = 0 by omega]
    rfl
  have sr1 := sr_hi2 (c := z) (by omega) 0
  refine ⟨gz_sP (gz_sI m4 z 1 (0 : Int32)) z 0 (z + 1), ?_, ⟨⟨by omega, ks_hi (by omega), k4z, ?_⟩, ⟨?_, ?_, ?_, ?_⟩, hl.2, fun i hi => ?_⟩, Or.inl ⟨?_, ?_⟩, ?_, ?_, ?_, ?_⟩
  · unfold cf_J9_valueOf
    rw [if_pos (by omega), hm2]
    simp only [gz_let]
    unfold cf_J9_init
    rw [if_pos (show gK m2 ca = 103 by rw [← hm2, al_k, if_neg (by omega)]; exact hk), show gN m2 ca = w.length by rw [← hm2, al_n, if_neg (by omega)]; exact hn, ← iI_nI]
    unfold cf_J9_init_2
    rw [if_neg (by rw [iI_lit, iI_eq (by omega) (by omega)]; omega), if_neg n10]
    unfold cf_J10_compress
    rw [if_pos ⟨by rw [show (0 : Int32) = iI 0 from rfl, iI_le (by omega) (by omega)]; omega, by rw [gl]; omega, by omega⟩, hm3]
    simp only [gz_let]
    rw [z2, e4]
    simp only [Option.bind_some]
    rw [if_pos z4, if_pos trivial]
    unfold mj_J10_compress_57
    simp only [Option.bind_some]
    have zz : gZ m4 = z + 2 := by rw [← z3]; show m4.2.2.2.2.2.1 = m3.2.2.2.2.2.1; rw [z4]
    have ww : gW m4 = gW μ + 4 + w.length := by rw [← w3]; show m4.2.2.2.2.2.2 = m3.2.2.2.2.2.2; rw [z4]
    rw [if_pos ⟨by omega, by omega⟩, coder]
    simp only [Option.bind_some]
    rw [if_pos trivial, hZ, if_pos k4z, if_pos (Or.inl trivial), if_pos (by omega), if_pos (show gK (gz_sI m4 z 1 (0 : Int32)) z = 22 from k4z), if_pos (by omega), if_pos ⟨sr1, by omega⟩]
    simp only [Option.bind_some]
    rw [if_pos ⟨by show _ ≤ gZ m4; omega, by show _ ≤ gW m4; omega⟩]
    simp only [Option.bind_some]
    rw [if_pos ⟨by show _ ≤ gZ m4; omega, by show _ ≤ gW m4; omega⟩]
  · show gI (gz_sI m4 z 1 (0 : Int32)) z 1 = 0
    rw [sI_i, if_pos ⟨rfl, rfl⟩]
  · rw [sP_p, if_pos ⟨rfl, rfl⟩]; omega
  · rw [sP_p, if_pos ⟨rfl, rfl⟩]; exact ks_hi (by omega)
  · rw [sP_p, if_pos ⟨rfl, rfl⟩]; exact k4
  · rw [sP_p, if_pos ⟨rfl, rfl⟩]; exact n4
  · refine ⟨?_, (hc i hi).2⟩
    rw [sP_p, if_pos ⟨rfl, rfl⟩]
    show gI (gz_sI m4 z 1 (0 : Int32)) (z + 1) i = _
    rw [sI_i, if_neg (by omega)]
    exact d5 i hi
  · show gI (gz_sI m4 z 1 (0 : Int32)) z 2 = 0
    rw [sI_i, if_neg (by omega)]
    exact i4z 2
  · show gI (gz_sI m4 z 1 (0 : Int32)) z 3 = 0
    rw [sI_i, if_neg (by omega)]
    exact i4z 3
  · have f34 : sFr z m3 m4 := by
      refine ⟨by show m3.2.2.2.2.2.1 ≤ m4.2.2.2.2.2.1; rw [z4]; exact Nat.le_refl _, by show m3.2.2.2.2.2.2 ≤ m4.2.2.2.2.2.2; rw [z4]; exact Nat.le_refl _, fun c hcz => ⟨by show m4.1 c = m3.1 c; rw [d1], by show m4.2.1 c = m3.2.1 c; rw [d2], fun j => ⟨d4 c j (by omega), ?_, ?_⟩⟩⟩
      · show m4.2.2.2.1 c j = m3.2.2.2.1 c j
        rw [d3]
      · show m4.2.2.2.2.1 c j = m3.2.2.2.2.1 c j
        rw [d3]
    exact ((f23.trans f34).trans (sFr.sI (Nat.le_refl _))).trans (sFr.sP (Nat.le_refl _))
  · show m4.2.2.2.2.2.1 = z + 2
    rw [z4]
    exact z3
  · show m4.2.2.2.2.2.2 = gW μ + (4 + w.length)
    rw [z4]
    show gW m3 = _
    omega
  · rw [sP_p, if_pos ⟨rfl, rfl⟩]
/-- what a word costs -/
def gC (μ : gM) : Nat := 8 * gZ μ + gW μ
theorem c_word {T : Nat → Int} {n : Nat} {μ : gM} (hL : cLx T n μ) {p : Nat} (h : cAt T n μ p) : pw (cf_X2_word μ) (fun q => pF (gZ μ) μ q.2 ∧ ((∃ s : Nat, (isL (T p) ∧ ¬ alB T p) ∧ q.1 = some s ∧ (gZ μ ≤ s ∧ s < gZ q.2) ∧ strR q.2 s (wL T n p) ∧ hsR q.2 s (wL T n p) ∧ (gZ μ ≤ gP q.2 s 0 ∧ gP q.2 s 0 < gZ q.2) ∧ gI q.2 1011 2 = iI (wE T n p : Int) ∧ gI q.2 1011 3 = iI p ∧ gI q.2 1011 4 = gI μ 1011 4 ∧ gC q.2 = gC μ + (2 * (wE T n p - p) + 28)) ∨ (¬ (isL (T p) ∧ ¬ alB T p) ∧ q.1 = none ∧ cErr q.2 1 p ∧ q.2.2.2.2.2.2 = μ.2.2.2.2.2))) := by
  obtain ⟨hT, hB, -⟩ := id hL
  have hn := hT.1
  have hz := hL.2.2.2.2
  unfold cf_X2_word
  refine pw_bind (pw_mono (c_here1 hL h) ?_)
  rintro ⟨r, m1⟩ ⟨rfl, x1, a1, hpn, hsk⟩
  dsimp only at x1 a1 ⊢
  have hr := hT.r p
  have zx1 := x1.z
  refine pw_gu zx1 ?_
  rw [c_isL (by omega)]
  refine pw_bind (pw_some (pw_gu rfl ?_))
  have zz1 : gZ m1 = gZ μ := congrArg Prod.fst zx1
  have ww1 : gW m1 = gW μ := congrArg Prod.snd zx1
  by_cases c1 : isL (T p)
  rotate_left
  · rw [if_neg c1]
    refine pw_t (by first | rfl | exact True.intro) ?_
    rw [a1]
    exact c_thr (α := Nat) (k := 1) (e := fun m2 => some (none, m2)) (fun μ' e1 e2 e3 => pw_some ⟨(x1.p _).trans (e3 _), Or.inr ⟨fun w => c1 w.1, rfl, e1, e2.trans zx1⟩⟩)
  rw [if_pos c1]
  have hL1 := hL.p (x1.p _)
  refine pw_f n10 (pw_bind (pw_mono (c_parted hL1 a1 hpn) ?_))
  rintro ⟨o, m2⟩ (⟨w, rfl, e1, e2, e3⟩ | ⟨w, rfl, rfl⟩)
  · dsimp only at e1 e2 e3 ⊢
    refine pw_gu ⟨by show m1.2.2.2.2.2.1 ≤ m2.2.2.2.2.2.1; rw [e2]; exact Nat.le_refl _, by show m1.2.2.2.2.2.2 ≤ m2.2.2.2.2.2.2; rw [e2]; exact Nat.le_refl _⟩ ?_
    exact pw_some ⟨(x1.p _).trans (e3 _), Or.inr ⟨fun z => z.2 w, rfl, e1, e2.trans zx1⟩⟩
  dsimp only
  refine pw_gu ⟨Nat.le_refl _, Nat.le_refl _⟩ ?_
  show pw (gz_let (gz_sI m2 1011 3 (gI m2 1011 2)) fun m15 => ml_X2_word_32 m15) _
  rw [a1]
  refine pw_let ?_
  have hwg := wE_ge T n p
  have hwe := wE_le hT hpn
  have hpw : p < wE T n p := by
    have := wE_s hT c1
    have := wE_ge T n (p + 1)
    omega
  unfold ml_X2_word_32
  refine pw_for (fun (i : Nat) (m : gM) => rX m2 m ∧ gI m 1011 2 = iI ((p + i : Nat) : Int) ∧ gI m 1011 3 = iI p) (wE T n p - p) ?_ ?_ ⟨rX.sI (by omega), by rw [sI_i, if_neg (by omega)]; exact a1, by rw [sI_i, if_pos ⟨rfl, rfl⟩]⟩
  · rintro i m hi ⟨x, b1, b2⟩
    have hl : isL (T (p + i)) := wE_in (n := n) (p := p) (by omega) (by omega)
    have ei : iI ((p + i : Nat) : Int) + (1 : Int32) = iI ((p + (i + 1) : Nat) : Int) := by rw [iI_lit, iI_add]; exact congrArg iI (by omega)
    unfold mb_X2_word_32
    rw [b1, c_bAt (hL1.p (x.p _)) (by omega)]
    refine pw_bind (pw_some (pw_gu rfl ?_))
    rw [c_isL (by omega), if_pos hl]
    refine pw_bind (pw_some (pw_gu rfl (pw_f n10 ?_)))
    rw [b1, ei]
    exact pw_let (pw_some ⟨x.trans (rX.sI (by omega)), by rw [sI_i, if_pos ⟨rfl, rfl⟩], by rw [sI_i, if_neg (by omega)]; exact b2⟩)
  · rintro m ⟨x, b1, b2⟩
    rw [show p + (wE T n p - p) = wE T n p by omega] at b1
    have ho := wE_out hT p
    have hr2 := hT.r (wE T n p)
    have zx := x.z
    have zzm : gZ m = gZ μ := (congrArg Prod.fst zx).trans zz1
    have wwm : gW m = gW μ := (congrArg Prod.snd zx).trans ww1
    have Lm := hL1.p (x.p _)
    have el : iI (wE T n p : Int) - iI (p : Int) = iI ((wE T n p - p : Nat) : Int) := by rw [iI_sub]; exact congrArg iI (by omega)
    have gl : gz_ix (iI ((wE T n p - p : Nat) : Int)) = wE T n p - p := by rw [gix (by omega)]; omega
    unfold mb_X2_word_32
    rw [b1, c_bAt Lm (by omega)]
    refine pw_bind (pw_some (pw_gu rfl ?_))
    rw [c_isL (by omega), if_neg ho]
    refine pw_bind (pw_some (pw_gu rfl (pw_t (by first | rfl | exact True.intro) ?_)))
    rw [b1, b2, el, gl]
    refine pw_gu ⟨by rw [show (0 : Int32) = iI 0 from rfl, iI_le (by omega) (by omega)]; omega, by omega, by omega⟩ ?_
    refine pw_let (pw_let (pw_map ?_))
    -- the signs are laid down
    generalize hm3 : gz_al m (2 + 101) (wE T n p - p) (wE T n p - p) = m3
    have z3 : gZ m3 = gZ μ + 1 := by rw [← hm3, show gZ (gz_al m (2 + 101) (wE T n p - p) (wE T n p - p)) = gZ m + 1 from rfl, zzm]
    have w3 : gW m3 = gW μ + (wE T n p - p) := by rw [← hm3, show gW (gz_al m (2 + 101) (wE T n p - p) (wE T n p - p)) = gW m + (wE T n p - p) from rfl, wwm]
    have f3 : pF (gZ μ) m m3 := by rw [← hm3]; exact pF.al (by omega)
    have k3 : gK m3 (gZ μ) = 103 := by rw [← hm3, al_k, if_pos zzm.symm]
    have n3 : gN m3 (gZ μ) = wE T n p - p := by rw [← hm3, al_n, if_pos zzm.symm]
    have i3 : ∀ c j : Nat, c < gZ μ → gI m3 c j = gI m c j := fun c j hc => by rw [← hm3, al_i, if_neg (by omega)]
    rw [zzm, i3 1011 3 (by omega), b2]
    unfold ml_X2_word_76
    refine pw_for (fun (i : Nat) (q : Int32 × gM) => q.1 = iI ((p + i : Nat) : Int) ∧ q.2.1 = m3.1 ∧ q.2.2.1 = m3.2.1 ∧ q.2.2.2.2 = m3.2.2.2 ∧ (∀ c j : Nat, c ≠ gZ μ → gI q.2 c j = gI m3 c j) ∧ ∀ j : Nat, j < i → gI q.2 (gZ μ) j = iI (T (p + j))) (wE T n p - p) ?_ ?_ ⟨rfl, rfl, rfl, rfl, fun _ _ _ => rfl, fun j hj => absurd hj (Nat.not_lt_zero _)⟩
    · rintro i ⟨y, m4⟩ hi ⟨rfl, d1, d2, d3, d4, d5⟩
      dsimp only at d1 d2 d3 d4 d5 ⊢
      have hl : isL (T (p + i)) := wE_in (n := n) (p := p) (by omega) (by omega)
      have ei : iI ((p + i : Nat) : Int) + (1 : Int32) = iI ((p + (i + 1) : Nat) : Int) := by rw [iI_lit, iI_add]; exact congrArg iI (by omega)
      have gi : gz_ix (iI ((p + i : Nat) : Int)) = p + i := by rw [gix (by omega)]; omega
      have es : iI ((p + i : Nat) : Int) - iI (p : Int) = iI (i : Int) := by rw [iI_sub]; exact congrArg iI (by omega)
      have gi2 : gz_ix (iI (i : Int)) = i := by rw [gix (by omega)]; omega
      have e2 : gI m4 1011 2 = iI (wE T n p : Int) := by rw [d4 _ _ (by omega), i3 _ _ (by omega)]; exact b1
      have e3 : gI m4 1011 3 = iI p := by rw [d4 _ _ (by omega), i3 _ _ (by omega)]; exact b2
      obtain ⟨C, hC⟩ : ∃ C : Nat, T (p + i) = C := ⟨(T (p + i)).toNat, by omega⟩
      have et : gI m4 1010 (p + i) = iI (C : Int) := by
        rw [d4 _ _ (by omega), i3 _ _ (by omega)]
        obtain ⟨t1, t2⟩ := Lm.2.1 (p + i) (by omega)
        rw [hC] at t1
        exact chr8 t2 t1 (by omega)
      unfold mb_X2_word_76
      rw [e2, e3, es, gi, gi2, et, chr16 C (by omega), ei]
      simp only [gz_let]
      refine pw_f (by rw [iI_le (by omega) (by omega)]; omega) (pw_gu ((gin_iI (by omega)).2 (by omega)) (pw_gu ⟨by show m4.1 (gZ μ) = 103; rw [d1]; exact k3, by omega⟩ (pw_gu ((gin_iI (by omega)).2 (by show _ ∧ _ < (m4.2.1 (gZ μ) : Int); rw [d2]; show _ ∧ _ < (gN m3 (gZ μ) : Int); rw [n3]; omega)) (pw_some ⟨rfl, d1, d2, d3, fun c j hc => ?_, fun j hj => ?_⟩))))
      · dsimp only
        rw [sI_i, if_neg (fun q => hc q.1)]
        exact d4 c j hc
      · dsimp only
        rw [sI_i]
        by_cases q : j = i
        · rw [if_pos ⟨rfl, q⟩, q, hC]
        · rw [if_neg (fun x => q x.2)]
          exact d5 j (by omega)
    · rintro ⟨y, m4⟩ ⟨rfl, d1, d2, d3, d4, d5⟩
      dsimp only at d1 d2 d3 d4 d5 ⊢
      have e2 : gI m4 1011 2 = iI (wE T n p : Int) := by rw [d4 _ _ (by omega), i3 _ _ (by omega)]; exact b1
      have e3 : gI m4 1011 3 = iI p := by rw [d4 _ _ (by omega), i3 _ _ (by omega)]; exact b2
      have z4 : m4.2.2.2.2.2 = m3.2.2.2.2.2 := by rw [d3]
      have zz4 : gZ m4 = gZ μ + 1 := by rw [← z3]; exact congrArg Prod.fst z4
      have ww4 : gW m4 = gW μ + (wE T n p - p) := by rw [← w3]; exact congrArg Prod.snd z4
      have f34 : pF (gZ μ) m3 m4 := by
        refine ⟨by show m3.2.2.2.2.2.1 ≤ m4.2.2.2.2.2.1; rw [z4]; exact Nat.le_refl _, by show m3.2.2.2.2.2.2 ≤ m4.2.2.2.2.2.2; rw [z4]; exact Nat.le_refl _, fun c hcz => ⟨by show m4.1 c = m3.1 c; rw [d1], by show m4.2.1 c = m3.2.1 c; rw [d2], fun j => ⟨fun _ => d4 c j (by omega), ?_, ?_⟩⟩⟩
        · show m4.2.2.2.1 c j = m3.2.2.2.1 c j
          rw [d3]
        · show m4.2.2.2.2.1 c j = m3.2.2.2.2.1 c j
          rw [d3]
      obtain ⟨μ', v1, v2, v3, v4, v5, v6, v7⟩ := c_valueOf (μ := m4) (ca := gZ μ) (w := wL T n p) (by show m4.1 (gZ μ) = 103; rw [d1]; exact k3) (by show m4.2.1 (gZ μ) = _; rw [d2, wL_len]; exact n3) (by rw [wL_len]; omega) (fun i hi => by
        rw [wL_len] at hi
        have hl : isL (T (p + i)) := wE_in (n := n) (p := p) (by omega) (by omega)
        rw [wL_get hi]
        exact ⟨d5 i hi, by omega, by omega⟩) (by omega) (by omega)
      rw [wL_len] at v6
      have fin := (((x1.p (gZ μ)).trans (x.p (gZ μ))).trans f3).trans (f34.trans (v4.p.dn (by omega)))
      unfold mb_X2_word_76
      rw [e2, v1]
      refine pw_t (by rw [iI_le (by omega) (by omega)]; omega) (pw_bind (pw_some (pw_gu ⟨v4.1, v4.2.1⟩ (pw_some ⟨fin, Or.inl ⟨gZ m4, ⟨c1, w⟩, rfl, ⟨by omega, by show gZ m4 < gZ μ'; omega⟩, v2, v3, by show gZ μ ≤ gP μ' (gZ m4) 0 ∧ gP μ' (gZ m4) 0 < gZ μ'; omega, ?_, ?_, ?_, ?_⟩⟩))))
      · rw [((v4.2.2 1011 (by omega)).2.2 2).1]
        exact e2
      · rw [((v4.2.2 1011 (by omega)).2.2 3).1]
        exact e3
      · rw [((v4.2.2 1011 (by omega)).2.2 4).1, d4 _ _ (by omega), i3 _ _ (by omega), x.2.2.2 _ _ (by omega), x1.2.2.2 _ _ (by omega)]
      · show 8 * gZ μ' + gW μ' = 8 * gZ μ + gW μ + _
        omega
