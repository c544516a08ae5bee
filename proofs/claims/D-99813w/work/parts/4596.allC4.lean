/-! ===== the component: a new household, all that is told ===== -/
section AllC4
theorem c_l1 {m : gM} {c j : Nat} (hk : gK m c = 2) (hc : 2369 ≤ c ∧ c < gZ m) : ∃ m4 : gM, cf_J2_init (gZ m) (4 : Int32) (gz_al m (20 + 1) 0 3) = some ((), m4) ∧ (gZ (gz_al m (20 + 1) 0 3) ≤ gZ m4 ∧ gW (gz_al m (20 + 1) 0 3) ≤ gW m4) ∧ gK m4 c = 2 ∧ lsR (gz_sP m4 c j (gZ m)) (gZ m) 0 (fun _ => 0) ∧ gP (gz_sP m4 c j (gZ m)) c j = gZ m ∧ gP (gz_sP m4 c j (gZ m)) (gZ m) 1 = gZ m + 1 ∧ gZ m + 2 ≤ gZ (gz_sP m4 c j (gZ m)) ∧ gC (gz_sP m4 c j (gZ m)) = gC m + 23 ∧ (∀ d : Nat, d < gZ m → d ≠ c → smC m (gz_sP m4 c j (gZ m)) d) ∧ gK (gz_sP m4 c j (gZ m)) c = 2 ∧ (∀ j' : Nat, gI (gz_sP m4 c j (gZ m)) c j' = gI m c j') ∧ (∀ j' : Nat, j' ≠ j → gP (gz_sP m4 c j (gZ m)) c j' = gP m c j') ∧ gW m ≤ gW (gz_sP m4 c j (gZ m)) := by
  have x2 : sFr (gZ m) m (gz_al m (20 + 1) 0 3) := sFr.al (Nat.le_refl _)
  have k2 : gK (gz_al m (20 + 1) 0 3) (gZ m) = 21 := by rw [al_k, if_pos rfl]
  have i2 : gI (gz_al m (20 + 1) 0 3) (gZ m) 2 = 0 := by rw [al_i, if_pos rfl]
  have c2 := al_c m (20 + 1) 3
  have g2 : gZ (gz_al m (20 + 1) 0 3) = gZ m + 1 := rfl
  obtain ⟨m4, e1, e2, e3, e4, e5, e6⟩ := c_newList (r := gZ m) (k := 4) k2 (by omega) i2 (by omega) (by omega)
  have smd : ∀ d : Nat, d < gZ m → smC m m4 d := fun d hd => (x2.sm hd).trans (e4.sm (by omega) (by omega) (by omega))
  have s0 := e2.2.1
  have s1 := e2.2.2.1
  have sm' : ∀ d : Nat, d ≠ c → smC m4 (gz_sP m4 c j (gZ m)) d := fun d hd => ⟨rfl, rfl, fun j' => ⟨rfl, rfl, by rw [sP_p, if_neg (fun q => hd q.1)]⟩⟩
  have e5' : gP m4 (gZ m) 1 = gZ m + 1 := by rw [e5]; exact g2
  refine ⟨m4, e1, ⟨e4.1, e4.2.1⟩, (smd c hc.2).1.trans hk, ?_, by rw [sP_p, if_pos ⟨rfl, rfl⟩], by rw [sP_p, if_neg (by omega)]; exact e5', ?_, ?_, fun d hd hd2 => (smd d hd).trans (sm' d hd2), (smd c hc.2).1.trans hk, fun j' => ((smd c hc.2).2.2 j').1, fun j' hj => by rw [sP_p, if_neg (fun q => hj q.2)]; exact ((smd c hc.2).2.2 j').2.2, ?_⟩
  · refine e2.i (sm' _ (by omega)).i (sm' _ ?_).i (Nat.le_refl _) (fun i hi => absurd hi (Nat.not_lt_zero _))
    rw [e5']; omega
  · show gZ m + 2 ≤ gZ m4
    rw [e5'] at s1
    omega
  · show gC m4 = _
    rw [e6, c2]
  · show gW m ≤ gW m4
    have := x2.2.1
    have := e4.2.1
    omega
/-- a household that holds nothing -/
theorem c_hh0 {μ : gM} (hz : 2369 ≤ gZ μ) : ∃ m : gM, cf_X1_init (gZ μ) (gz_al μ (1 + 1) 0 9) = some ((), m) ∧ hcR m (gZ μ) HS0 ∧ (∀ i : Nat, i < 4 → gZ μ ≤ lcC m (gZ μ) i ∧ gZ μ ≤ acC m (gZ μ) i) ∧ gI m (gZ μ) 0 = 0 ∧ sFr (gZ μ) μ m ∧ gZ μ + 1 ≤ gZ m ∧ gW (gz_al μ (1 + 1) 0 9) ≤ gW m ∧ gZ (gz_al μ (1 + 1) 0 9) ≤ gZ m ∧ gC m = gC μ + 109 := by
  generalize hc : gZ μ = c at *
  have x2 : sFr c μ (gz_al μ (1 + 1) 0 9) := sFr.al (by omega)
  have k2 : gK (gz_al μ (1 + 1) 0 9) c = 2 := by rw [al_k, if_pos hc.symm]
  have i2 : ∀ j : Nat, gI (gz_al μ (1 + 1) 0 9) c j = 0 := fun j => by rw [al_i, if_pos hc.symm]
  have p2 : ∀ j : Nat, gP (gz_al μ (1 + 1) 0 9) c j = 0 := fun j => by rw [al_p, if_pos hc.symm]
  have c2 := al_c μ (1 + 1) 9
  have g2 : gZ (gz_al μ (1 + 1) 0 9) = c + 1 := by rw [← hc]; rfl
  have w2 : gW (gz_al μ (1 + 1) 0 9) ≤ gW (gz_al μ (1 + 1) 0 9) := Nat.le_refl _
  generalize hm0 : gz_al μ (1 + 1) 0 9 = M0 at *
  have hz0 : c + 1 ≤ gZ M0 := by omega
  obtain ⟨n0, a0, b0, d0, l0, q0, r0, z0, g0, s0, K0, I0, P0, W0⟩ := c_l1 (m := M0) (c := c) (j := 3) k2 (by omega)
  have tz0 : sr c 3 = 0 ∧ gZ M0 ≠ 0 := ⟨sr_hi2 (by omega) 3, by omega⟩
  have nz0 : gZ M0 ≠ 0 := tz0.2
  generalize hM1 : gz_sP n0 c 3 (gZ M0) = M1 at l0 q0 r0 z0 g0 s0 K0 I0 P0 W0
  obtain ⟨n1, a1, b1, d1, l1, q1, r1, z1, g1, s1, K1, I1, P1, W1⟩ := c_l1 (m := M1) (c := c) (j := 4) K0 (by omega)
  have tz1 : sr c 4 = 0 ∧ gZ M1 ≠ 0 := ⟨sr_hi2 (by omega) 4, by omega⟩
  have nz1 : gZ M1 ≠ 0 := tz1.2
  generalize hM2 : gz_sP n1 c 4 (gZ M1) = M2 at l1 q1 r1 z1 g1 s1 K1 I1 P1 W1
  obtain ⟨n2, a2, b2, d2, l2, q2, r2, z2, g2, s2, K2, I2, P2, W2⟩ := c_l1 (m := M2) (c := c) (j := 5) K1 (by omega)
  have tz2 : sr c 5 = 0 ∧ gZ M2 ≠ 0 := ⟨sr_hi2 (by omega) 5, by omega⟩
  have nz2 : gZ M2 ≠ 0 := tz2.2
  generalize hM3 : gz_sP n2 c 5 (gZ M2) = M3 at l2 q2 r2 z2 g2 s2 K2 I2 P2 W2
  obtain ⟨n3, a3, b3, d3, l3, q3, r3, z3, g3, s3, K3, I3, P3, W3⟩ := c_l1 (m := M3) (c := c) (j := 6) K2 (by omega)
  have tz3 : sr c 6 = 0 ∧ gZ M3 ≠ 0 := ⟨sr_hi2 (by omega) 6, by omega⟩
  have nz3 : gZ M3 ≠ 0 := tz3.2
  generalize hM4 : gz_sP n3 c 6 (gZ M3) = M4 at l3 q3 r3 z3 g3 s3 K3 I3 P3 W3
  have e0 : gP M4 c 3 = gZ M0 := (P3 3 (by omega)).trans ((P2 3 (by omega)).trans ((P1 3 (by omega)).trans (q0)))
  have f0 : gP M4 (gZ M0) 1 = gZ M0 + 1 := (((s3 (gZ M0) (by omega) (by omega)).2.2 1).2.2).trans ((((s2 (gZ M0) (by omega) (by omega)).2.2 1).2.2).trans ((((s1 (gZ M0) (by omega) (by omega)).2.2 1).2.2).trans (r0)))
  have e1 : gP M4 c 4 = gZ M1 := (P3 4 (by omega)).trans ((P2 4 (by omega)).trans (q1))
  have f1 : gP M4 (gZ M1) 1 = gZ M1 + 1 := (((s3 (gZ M1) (by omega) (by omega)).2.2 1).2.2).trans ((((s2 (gZ M1) (by omega) (by omega)).2.2 1).2.2).trans (r1))
  have e2 : gP M4 c 5 = gZ M2 := (P3 5 (by omega)).trans (q2)
  have f2 : gP M4 (gZ M2) 1 = gZ M2 + 1 := (((s3 (gZ M2) (by omega) (by omega)).2.2 1).2.2).trans (r2)
  have e3 : gP M4 c 6 = gZ M3 := q3
  have f3 : gP M4 (gZ M3) 1 = gZ M3 + 1 := r3
  have h1000 : 1000 ≤ c := by omega
  refine ⟨M4, ?_, ?_, ?_, ?_, ?_, by omega, by omega, by omega, by omega⟩
  · unfold cf_X1_init
    simp only [gz_let]
    rw [if_pos nz0, a0]
    simp only [Option.bind_some]
    rw [if_pos b0, if_pos d0, if_pos h1000, if_pos tz0, hM1]
    rw [if_pos nz1, a1]
    simp only [Option.bind_some]
    rw [if_pos b1, if_pos d1, if_pos h1000, if_pos tz1, hM2]
    rw [if_pos nz2, a2]
    simp only [Option.bind_some]
    rw [if_pos b2, if_pos d2, if_pos h1000, if_pos tz2, hM3]
    rw [if_pos nz3, a3]
    simp only [Option.bind_some]
    rw [if_pos b3, if_pos d3, if_pos h1000, if_pos tz3, hM4]

  · have LC : ∀ i : Nat, i < 4 → ∃ z : Nat, lcC M4 c i = z ∧ acC M4 c i = z + 1 ∧ c < z ∧ z + 1 < gZ M4 ∧ lsR M4 z 0 (fun _ => 0) ∧ ((i = 0 ∧ z = gZ M0) ∨ (i = 1 ∧ z = gZ M1) ∨ (i = 2 ∧ z = gZ M2) ∨ (i = 3 ∧ z = gZ M3)) := fun i hi => by
      obtain rfl | rfl | rfl | rfl : i = 0 ∨ i = 1 ∨ i = 2 ∨ i = 3 := by omega
      · have ea : acC M4 c 0 = gZ M0 + 1 := by
          show gP M4 (gP M4 c 3) 1 = _
          rw [e0]; exact f0
        have rr0_1 : gP M2 (gZ M0) 1 = gZ M0 + 1 := (((s1 (gZ M0) (by omega) (by omega)).2.2 1).2.2).trans r0
        have rr0_2 : gP M3 (gZ M0) 1 = gZ M0 + 1 := (((s2 (gZ M0) (by omega) (by omega)).2.2 1).2.2).trans rr0_1
        have rr0_3 : gP M4 (gZ M0) 1 = gZ M0 + 1 := (((s3 (gZ M0) (by omega) (by omega)).2.2 1).2.2).trans rr0_2
        exact ⟨gZ M0, e0, ea, by omega, by omega, ((((((l0).i (s1 _ (by omega) (by omega)).i (s1 _ (by rw [r0]; omega) (by rw [r0]; omega)).i (by omega) (fun j hj => absurd hj (Nat.not_lt_zero _)))).i (s2 _ (by omega) (by omega)).i (s2 _ (by rw [rr0_1]; omega) (by rw [rr0_1]; omega)).i (by omega) (fun j hj => absurd hj (Nat.not_lt_zero _)))).i (s3 _ (by omega) (by omega)).i (s3 _ (by rw [rr0_2]; omega) (by rw [rr0_2]; omega)).i (by omega) (fun j hj => absurd hj (Nat.not_lt_zero _))), by omega⟩
      · have ea : acC M4 c 1 = gZ M1 + 1 := by
          show gP M4 (gP M4 c 4) 1 = _
          rw [e1]; exact f1
        have rr1_2 : gP M3 (gZ M1) 1 = gZ M1 + 1 := (((s2 (gZ M1) (by omega) (by omega)).2.2 1).2.2).trans r1
        have rr1_3 : gP M4 (gZ M1) 1 = gZ M1 + 1 := (((s3 (gZ M1) (by omega) (by omega)).2.2 1).2.2).trans rr1_2
        exact ⟨gZ M1, e1, ea, by omega, by omega, ((((l1).i (s2 _ (by omega) (by omega)).i (s2 _ (by rw [r1]; omega) (by rw [r1]; omega)).i (by omega) (fun j hj => absurd hj (Nat.not_lt_zero _)))).i (s3 _ (by omega) (by omega)).i (s3 _ (by rw [rr1_2]; omega) (by rw [rr1_2]; omega)).i (by omega) (fun j hj => absurd hj (Nat.not_lt_zero _))), by omega⟩
      · have ea : acC M4 c 2 = gZ M2 + 1 := by
          show gP M4 (gP M4 c 5) 1 = _
          rw [e2]; exact f2
        have rr2_3 : gP M4 (gZ M2) 1 = gZ M2 + 1 := (((s3 (gZ M2) (by omega) (by omega)).2.2 1).2.2).trans r2
        exact ⟨gZ M2, e2, ea, by omega, by omega, ((l2).i (s3 _ (by omega) (by omega)).i (s3 _ (by rw [r2]; omega) (by rw [r2]; omega)).i (by omega) (fun j hj => absurd hj (Nat.not_lt_zero _))), by omega⟩
      · have ea : acC M4 c 3 = gZ M3 + 1 := by
          show gP M4 (gP M4 c 6) 1 = _
          rw [e3]; exact f3
        exact ⟨gZ M3, e3, ea, by omega, by omega, l3, by omega⟩
    refine ⟨⟨⟨K3, by omega, by omega⟩, ⟨fun i hi => ?_, fun i j hi hj => ?_, fun i j hi hj hne => ?_⟩, fun i hi => ?_⟩, ⟨?_, ?_⟩, ?_, ?_⟩
    · obtain ⟨z, u1, u2, u3, u4, u5, u6⟩ := LC i hi
      rw [u1, u2]; omega
    · obtain ⟨z, u1, u2, u3, u4, u5, u6⟩ := LC i hi
      obtain ⟨y, v1, v2, v3, v4, v5, v6⟩ := LC j hj
      rw [u1, v2]; omega
    · obtain ⟨z, u1, u2, u3, u4, u5, u6⟩ := LC i hi
      obtain ⟨y, v1, v2, v3, v4, v5, v6⟩ := LC j hj
      rw [u1, u2, v1, v2]; omega
    · obtain ⟨z, u1, u2, u3, u4, u5, u6⟩ := LC i hi
      have n0 : hN HS0 i = 0 := by
        unfold hN
        split
        · rfl
        · split
          · rfl
          · split
            · rfl
            · split <;> rfl
      rw [n0, u1]
      exact ⟨_, u5, fun k hk => absurd hk (Nat.not_lt_zero _)⟩
    · exact (I3 1).trans ((I2 1).trans ((I1 1).trans ((I0 1).trans (i2 1))))
    · exact (I3 2).trans ((I2 2).trans ((I1 2).trans ((I0 2).trans (i2 2))))
    · exact (P3 7 (by omega)).trans ((P2 7 (by omega)).trans ((P1 7 (by omega)).trans ((P0 7 (by omega)).trans (p2 7))))
    · exact (P3 8 (by omega)).trans ((P2 8 (by omega)).trans ((P1 8 (by omega)).trans ((P0 8 (by omega)).trans (p2 8))))
  · intro i hi
    obtain rfl | rfl | rfl | rfl : i = 0 ∨ i = 1 ∨ i = 2 ∨ i = 3 := by omega
    · show c ≤ gP M4 c 3 ∧ c ≤ gP M4 (gP M4 c 3) 1
      rw [e0, f0]; omega
    · show c ≤ gP M4 c 4 ∧ c ≤ gP M4 (gP M4 c 4) 1
      rw [e1, f1]; omega
    · show c ≤ gP M4 c 5 ∧ c ≤ gP M4 (gP M4 c 5) 1
      rw [e2, f2]; omega
    · show c ≤ gP M4 c 6 ∧ c ≤ gP M4 (gP M4 c 6) 1
      rw [e3, f3]; omega
  · exact (I3 0).trans ((I2 0).trans ((I1 0).trans ((I0 0).trans (i2 0))))
  · refine ⟨by omega, by have := x2.2.1; omega, fun d hd => ?_⟩
    exact (x2.sm hd).trans ((s0 d (by omega) (by omega)).trans ((s1 d (by omega) (by omega)).trans ((s2 d (by omega) (by omega)).trans (s3 d (by omega) (by omega)))))
/-- all that is told -/
theorem c_all {T : Nat → Int} {n S : Nat} {μ : gM} (hT : tOK T n) (hS : 2 * n + 1000 ≤ S) (hB : ∀ k : Nat, k < n → gI μ 1010 k &&& (255 : Int32) = iI (T k) ∧ bB (gI μ 1010 k)) (hsr : srOK μ) (hz : 2369 ≤ gZ μ) : pw (cf_X2_all (iI n) μ) (fun q => hpF (gZ μ) μ q.2 ∧ ((∃ (p' : Nat) (h' : HS) (c : Nat), sAll T n (n + 1) HS0 (skp T n 0) = Sum.inr (p', h') ∧ q.1 = some c ∧ gZ μ ≤ c ∧ hcR q.2 c h' ∧ gI q.2 c 0 = iI h'.sm ∧ hsOK h' ∧ gC q.2 ≤ gC μ + S * n + 200) ∨ ∃ (k : Int) (l : Nat), sAll T n (n + 1) HS0 (skp T n 0) = Sum.inl (k, l) ∧ q.1 = none ∧ cErr q.2 k l ∧ gC q.2 ≤ gC μ + S * (n + 2) + (4 * n + 2500))) := by
  have hn := hT.1
  obtain ⟨m4, a1, a2, a3, a4, a5, a6, a7, a8, a9⟩ := c_hh0 hz
  unfold cf_X2_all
  refine pw_gu (by omega) (pw_let ?_)
  rw [a1]
  refine pw_bind (pw_some (pw_gu ⟨a8, a7⟩ (pw_gu ⟨by decide, by omega⟩ (pw_let (pw_let (pw_let (pw_let ?_)))))))
  have c4 := a2.1.1
  have hs : ∀ d : Nat, d ≠ 1011 → smC m4 (gz_sI (gz_sI (gz_sI (gz_sP m4 1011 6 (gZ μ)) 1011 1 (iI n)) 1011 2 0) 1011 4 0) d := fun d hd => ⟨rfl, rfl, fun j => ⟨by rw [sI_i, if_neg (by omega), sI_i, if_neg (by omega), sI_i, if_neg (by omega)]; rfl, rfl, by
    show gP (gz_sP m4 1011 6 (gZ μ)) d j = _
    rw [sP_p, if_neg (by omega)]⟩⟩
  have i1 : gI (gz_sI (gz_sI (gz_sI (gz_sP m4 1011 6 (gZ μ)) 1011 1 (iI n)) 1011 2 0) 1011 4 0) 1011 1 = iI n := by rw [sI_i, if_neg (by omega), sI_i, if_neg (by omega), sI_i, if_pos ⟨rfl, rfl⟩]
  have i2 : gI (gz_sI (gz_sI (gz_sI (gz_sP m4 1011 6 (gZ μ)) 1011 1 (iI n)) 1011 2 0) 1011 4 0) 1011 2 = iI 0 := by rw [sI_i, if_neg (by omega), sI_i, if_pos ⟨rfl, rfl⟩]; rfl
  have i4 : gI (gz_sI (gz_sI (gz_sI (gz_sP m4 1011 6 (gZ μ)) 1011 1 (iI n)) 1011 2 0) 1011 4 0) 1011 4 = iI 0 := by rw [sI_i, if_pos ⟨rfl, rfl⟩]; rfl
  have p6 : gP (gz_sI (gz_sI (gz_sI (gz_sP m4 1011 6 (gZ μ)) 1011 1 (iI n)) 1011 2 0) 1011 4 0) 1011 6 = gZ μ := by
    show gP (gz_sP m4 1011 6 (gZ μ)) 1011 6 = _
    rw [sP_p, if_pos ⟨rfl, rfl⟩]
  have p6' : ∀ j : Nat, j ≠ 6 → gP (gz_sI (gz_sI (gz_sI (gz_sP m4 1011 6 (gZ μ)) 1011 1 (iI n)) 1011 2 0) 1011 4 0) 1011 j = gP m4 1011 j := fun j hj => by
    show gP (gz_sP m4 1011 6 (gZ μ)) 1011 j = _
    rw [sP_p, if_neg (fun q => hj q.2)]
  have gz : gZ (gz_sI (gz_sI (gz_sI (gz_sP m4 1011 6 (gZ μ)) 1011 1 (iI n)) 1011 2 0) 1011 4 0) = gZ m4 := rfl
  have gw : gW (gz_sI (gz_sI (gz_sI (gz_sP m4 1011 6 (gZ μ)) 1011 1 (iI n)) 1011 2 0) 1011 4 0) = gW m4 := rfl
  have gl : gL (gz_sI (gz_sI (gz_sI (gz_sP m4 1011 6 (gZ μ)) 1011 1 (iI n)) 1011 2 0) 1011 4 0) = gL m4 := rfl
  have gk : gK (gz_sI (gz_sI (gz_sI (gz_sP m4 1011 6 (gZ μ)) 1011 1 (iI n)) 1011 2 0) 1011 4 0) = gK m4 := rfl
  have gn : gN (gz_sI (gz_sI (gz_sI (gz_sP m4 1011 6 (gZ μ)) 1011 1 (iI n)) 1011 2 0) 1011 4 0) = gN m4 := rfl
  have gc : gC (gz_sI (gz_sI (gz_sI (gz_sP m4 1011 6 (gZ μ)) 1011 1 (iI n)) 1011 2 0) 1011 4 0) = gC m4 := rfl
  generalize gz_sI (gz_sI (gz_sI (gz_sP m4 1011 6 (gZ μ)) 1011 1 (iI n)) 1011 2 0) 1011 4 0 = m11 at hs i1 i2 i4 p6 p6' gz gw gl gk gn gc
  have x11 : hpF (gZ μ) μ m11 := ⟨by have := a5.1; omega, by have := a5.2.1; omega, fun d hd => by
    have s1 := a5.sm hd
    by_cases q : d = 1011
    · subst q
      exact ⟨by rw [gk]; exact s1.1, by rw [gn]; exact s1.2.1, fun j => ⟨fun k => absurd rfl k, by rw [gl]; exact (s1.2.2 j).2.1, fun k => (p6' j (fun q => k ⟨rfl, q⟩)).trans (s1.2.2 j).2.2⟩⟩
    · have s2 := s1.trans (hs d q)
      exact ⟨s2.1, s2.2.1, fun j => ⟨fun _ _ => (s2.2.2 j).1, (s2.2.2 j).2.1, fun _ => (s2.2.2 j).2.2⟩⟩⟩
  have hL : cLx T n m11 := ⟨hT, fun k hk => by rw [((x11.2.2 1010 (by omega)).2.2 k).1 (by omega) (by omega)]; exact hB k hk, i1, hsr.lo x11.lo (by omega), by omega⟩
  have hs4 : ∀ d : Nat, 2369 ≤ d → d < gZ m4 → smC m4 m11 d := fun d d1 _ => hs d (by omega)
  obtain ⟨b1, b2⟩ := a2.1.p hs4 (by omega)
  have smc := hs (gZ μ) (by omega)
  have mu : ∀ d : Nat, d < gZ m4 → Mu m11 (gZ μ) d → Mu m4 (gZ μ) d := fun d _ q => by
    rcases q with q | ⟨j, hj, q⟩
    · exact Or.inl q
    · rw [(b2 j hj).1, (b2 j hj).2] at q
      exact Or.inr ⟨j, hj, q⟩
  have st : stC (gZ μ) (gZ μ) m11 HS0 := ⟨⟨b1, ⟨(smc.2.2 1).1.trans a2.2.1.1, (smc.2.2 2).1.trans a2.2.1.2⟩, a2.2.2.1.mv (smc.2.2 7).2.2 (fun d d1 d2 _ => hs4 d d1 d2) (by omega) mu, a2.2.2.2.mv (smc.2.2 8).2.2 (fun d d1 d2 _ => hs4 d d1 d2) (by omega) mu⟩, ⟨⟨hz, Nat.le_refl _⟩, fun i hi => by rw [(b2 i hi).1, (b2 i hi).2]; exact a3 i hi⟩, p6, i4⟩
  have hsk := skp_le hT (Nat.zero_le n)
  refine c_allL (S := S) hT hS (n + 1) m11 HS0 (skp T n 0) (by omega) hL ⟨0, i2, Nat.zero_le _, rfl⟩ hsOK0 st ((smc.2.2 0).1.trans a4) (fun m p' h' e1 e2 e3 e4 e5 e6 e7 e8 => ?_) (fun m k l e1 e2 e3 e4 => ?_)
  · refine ⟨x11.trans e2, Or.inl ⟨p', h', gZ μ, e1, rfl, Nat.le_refl _, e4.1, e5, e6, ?_⟩⟩
    have := Nat.mul_le_mul_left S e8
    show gC m ≤ _
    omega
  · refine ⟨x11.trans e2, Or.inr ⟨k, l, e1, rfl, e3, ?_⟩⟩
    show gC m ≤ _
    omega
end AllC4
