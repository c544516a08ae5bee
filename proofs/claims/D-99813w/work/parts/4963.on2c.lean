theorem c_comesOn {n : Nat} {l : List (Int × Int × Int)} {m : MM} {μ : gM} (h : rCo l m μ) (hT : rTape n m μ) {z : Nat} (hz : z < 100000) : pw (cf_X0_comesOn (iI z) μ) (fun q => cSc μ q.2 ∧ rowOK q.2 1073 ∧ ((q.1 = 0 ∧ ¬ imgOK m z) ∨ (q.1 = 1 ∧ imgOK m z ∧ coI n m μ (ties m) (things m) q.2))) := by
  have hR := h
  obtain ⟨q1, q2, q3, q4, q5, q6, q7, q8, q9, q10, q11, q12, q13⟩ := h
  have b6 := q2.1.1
  have b7 := q2.1.2.1
  have b9 := q2.1.2.2.2.1
  have hT8 : things m ≤ 8 := by unfold things; omega
  have hK : ties m ≤ 12 := by unfold ties; omega
  have eT : mi m 1038 7 = things m := by unfold things; omega
  have eK : mi m 1038 9 = ties m := by unfold ties; omega
  have tp : ∀ {μ' : gM}, cSc μ μ' → ∀ k : Nat, k < 1600 → cf_X0_byteAt (iI k) μ' = some (iI (iB m k), μ') := by
    intro μ' w k hk
    have gk : gz_ix (iI (k : Int)) = k := by rw [gix (by omega)]; omega
    unfold cf_X0_byteAt
    rw [if_pos ((gin_iI (by omega)).2 (by omega)), gk, w.2.2.2.1 _ _ (by unfold scC; omega), (hT.1 k hk).1.1, mi_of m]
    rfl
  have hB : ∀ k : Nat, k < 1600 → 0 ≤ iB m k ∧ iB m k < 256 := fun k hk => (hT.1 k hk).2
  have w0 := hB 0 (by omega)
  have w1 := hB 1 (by omega)
  have w2 := hB 2 (by omega)
  have ek : (3 : Int32) + iI (ties m : Int) = iI ((3 + ties m : Nat) : Int) := by rw [iI_lit, iI_add]; exact congrArg iI (by omega)
  have ez : iI ((3 + ties m : Nat) : Int) + (2 : Int32) * iI (things m : Int) + (1 : Int32) = iI ((3 + ties m + 2 * things m + 1 : Nat) : Int) := by
    rw [iI_lit, iI_lit, iI_mul, iI_add, iI_add]
    exact congrArg iI (by omega)
  have eh : (iI (iB m 0) <<< ((8 : Int32) &&& 31)) ||| iI (iB m 1) = iI (256 * iB m 0 + iB m 1) := by
    obtain ⟨A, hA⟩ : ∃ A : Nat, iB m 0 = A := ⟨(iB m 0).toNat, by omega⟩
    obtain ⟨B, hB'⟩ : ∃ B : Nat, iB m 1 = B := ⟨(iB m 1).toNat, by omega⟩
    rw [hA, hB', orB (by omega) (by omega)]
    exact congrArg iI (by omega)
  have no : ∀ {P : Prop}, ¬ imgOK m z → pw (mj_X0_comesOn_79 μ) (fun q => cSc μ q.2 ∧ rowOK q.2 1073 ∧ ((q.1 = 0 ∧ ¬ imgOK m z) ∨ (q.1 = 1 ∧ imgOK m z ∧ coI n m μ (ties m) (things m) q.2))) := fun y => pw_some ⟨cSc.refl _, q9, Or.inl ⟨rfl, y⟩⟩
  unfold cf_X0_comesOn
  rw [c_ties q2]
  refine pw_bind (pw_some ?_)
  try dsimp only
  rw [eK, ek]
  refine pw_let ?_
  try dsimp only
  rw [show cf_X0_byteAt (0 : Int32) μ = some (iI (iB m 0), μ) from tp (cSc.refl μ) 0 (by omega)]
  refine pw_bind (pw_some ?_)
  try dsimp only
  rw [show cf_X0_byteAt (1 : Int32) μ = some (iI (iB m 1), μ) from tp (cSc.refl μ) 1 (by omega)]
  refine pw_bind (pw_some ?_)
  try dsimp only
  rw [eh]
  refine pw_let ?_
  try dsimp only
  rw [c_things q2]
  refine pw_bind (pw_some ?_)
  try dsimp only
  rw [eT, ez]
  by_cases c1 : z = 3 + ties m + 2 * things m + 1
  rotate_left
  · exact pw_f (by rw [iI_eq (by omega) (by omega)]; omega) (no (P := True) (fun y => c1 y.1))
  subst c1
  refine pw_t rfl ?_
  have e1 : iI ((3 + ties m + 2 * things m + 1 : Nat) : Int) - (1 : Int32) = iI ((3 + ties m + 2 * things m : Nat) : Int) := by rw [iI_lit, iI_sub]; exact congrArg iI (by omega)
  have hb := chkS_b (f := iB m) (3 + ties m + 2 * things m)
  have wl := hB (3 + ties m + 2 * things m) (by omega)
  have hsub : 3 + ties m + 2 * things m + 1 - 1 = 3 + ties m + 2 * things m := by omega
  obtain ⟨L1, L2, -⟩ := q1 1010 (by decide)
  rw [e1, tp (cSc.refl μ) _ (by omega)]
  refine pw_bind (pw_some ?_)
  try dsimp only
  rw [c_check (c0 := 1010) (n := 3 + ties m + 2 * things m) (f := iB m) (by rw [show gK μ 1010 = ks 1010 from L1]; decide) (by rw [show gN μ 1010 = ns 1010 from L2, show ns 1010 = 1600 by decide]; omega) (by omega) (fun j hj => ⟨by rw [(hT.1 j (by omega)).1.1, mi_of m]; rfl, hB j (by omega)⟩)]
  refine pw_bind (pw_some ?_)
  try dsimp only
  by_cases c2 : iB m (3 + ties m + 2 * things m) = chkS (iB m) (3 + ties m + 2 * things m)
  rotate_left
  · exact pw_f (by rw [iI_eq (by omega) (by omega)]; exact c2) (no (P := True) (fun y => c2 (by have := y.2.1; rw [hsub] at this; exact this)))
  refine pw_t (by rw [c2]) ?_
  by_cases c3 : 256 * iB m 0 + iB m 1 ≤ 999
  rotate_left
  · exact pw_t (by rw [iI_lit, iI_lt (by omega) (by omega)]; omega) (no (P := True) (fun y => c3 y.2.2.1))
  refine pw_f (by rw [iI_lit, iI_lt (by omega) (by omega)]; omega) ?_
  rw [show cf_X0_byteAt (2 : Int32) μ = some (iI (iB m 2), μ) from tp (cSc.refl μ) 2 (by omega)]
  refine pw_bind (pw_some ?_)
  try dsimp only
  rw [c_halls q2]
  refine pw_bind (pw_some ?_)
  try dsimp only
  have emax : cf_J8_max (1 : Int32) (iI (mi m 1038 6)) μ = some (iI (if 1 < mi m 1038 6 then mi m 1038 6 else 1), μ) := by
    unfold cf_J8_max
    by_cases y : 1 < mi m 1038 6
    · rw [if_pos (by rw [iI_lit, iI_lt (by omega) (by omega)]; exact y), if_pos y]
    · rw [if_neg (by rw [iI_lit, iI_lt (by omega) (by omega)]; exact y), if_neg y]
      rfl
  rw [emax]
  refine pw_bind (pw_some ?_)
  try dsimp only
  have hmx : (iB m 2 < (if 1 < mi m 1038 6 then mi m 1038 6 else 1)) ↔ iB m 2 ≤ (if mi m 1038 6 = 0 then 0 else mi m 1038 6 - 1) := by
    split <;> split <;> omega
  have hmr : 0 ≤ (if 1 < mi m 1038 6 then mi m 1038 6 else 1) ∧ (if 1 < mi m 1038 6 then mi m 1038 6 else 1) ≤ 8 := by split <;> omega
  generalize (if 1 < mi m 1038 6 then mi m 1038 6 else 1) = mx at hmx hmr
  by_cases c4 : iB m 2 < mx
  rotate_left
  · exact pw_f (by rw [iI_lt (by omega) (by omega)]; exact c4) (no (P := True) (fun y => c4 (hmx.2 y.2.2.2.1)))
  refine pw_t (by rw [iI_lt (by omega) (by omega)]; exact c4) ?_
  refine pw_bind (pw_mono (c_tries hR) ?_)
  rintro ⟨r, μ1⟩ ⟨rfl, k1, k2, k3⟩
  dsimp only at k1 k2 k3 ⊢
  refine pw_gu (by decide) (pw_let (pw_let ?_))
  try dsimp only
  have cs : ∀ (j : Nat) (v : Int32) {μ'' : gM}, cSc μ μ'' → cSc μ (gz_sI μ'' 1073 j v) := fun j v μ'' x => x.trans ⟨rfl, rfl, rfl, fun c' j' k => by rw [sI_i, if_neg (by unfold scC at k; omega)], fun _ _ _ _ => rfl, fun _ _ _ => rfl⟩
  have k4 := cs 1 (0 : Int32) (cs 0 (iI (256 * iB m 0 + iB m 1)) k1)
  rw [show cf_X0_byteAt (2 : Int32) _ = some (iI (iB m 2), _) from tp k4 2 (by omega)]
  refine pw_bind (pw_some ?_)
  try dsimp only
  refine pw_let (pw_let ?_)
  try dsimp only
  have hI : coI n m μ 0 0 (gz_sI (gz_sI (gz_sI (gz_sI μ1 1073 0 (iI (256 * iB m 0 + iB m 1))) 1073 1 (0 : Int32)) 1073 2 (iI (iB m 2))) 1073 3 (0 : Int32)) := by
    refine ⟨cs 3 _ (cs 2 _ k4), k3.2.2.1.o (fun _ => rfl), ?_, ?_, ?_, fun j hj => ?_, fun k hk => absurd hk (Nat.not_lt_zero _), fun s hs => ?_, fun s hs => absurd hs (Nat.not_lt_zero _)⟩
    · rw [sI_i, if_neg (by omega), sI_i, if_neg (by omega), sI_i, if_neg (by omega), sI_i, if_pos ⟨rfl, rfl⟩]
    · rw [sI_i, if_neg (by omega), sI_i, if_neg (by omega), sI_i, if_pos ⟨rfl, rfl⟩]
    · rw [sI_i, if_neg (by omega), sI_i, if_pos ⟨rfl, rfl⟩]
    · rw [sI_i, if_pos ⟨rfl, rfl⟩, b_0, decide_eq_false (by omega)]
    · unfold ci
      rw [sI_i, if_neg (by omega), sI_i, if_neg (by omega), sI_i, if_neg (by omega), sI_i, if_neg (by omega)]
      exact (k2.2.2.2.2 s (by omega)).2.2
  refine pw_mono (c_on1 hR hT hI) ?_
  rintro ⟨r, μ2⟩ y
  dsimp only at y ⊢
  rcases y with ⟨y1, y2⟩ | ⟨y1, y2, y3, y4⟩
  · exact ⟨y2.1, y2.2.1, Or.inr ⟨y1, ⟨rfl, by rw [hsub]; exact c2, c3, hmx.1 c4, y2.2.2.2.2.2.2.1, fun t ht => (y2.2.2.2.2.2.2.2.2 t ht).2.2⟩, y2⟩⟩
  · exact ⟨y2, y3, Or.inl ⟨y1, fun x => y4 ⟨x.2.2.2.2.1, x.2.2.2.2.2⟩⟩⟩
