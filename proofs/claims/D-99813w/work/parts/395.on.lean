/-! ===== an image comes on ===== -/
theorem bt_nI (n : Nat) {i : Nat} (hi : i < 32) : bt (nI n) i = n.testBit i := by
  unfold bt nI
  show (BitVec.ofNat 32 n).getLsbD i = _
  rw [BitVec.getLsbD_ofNat]
  simp [hi]
theorem orB {a b : Nat} (ha : a < 256) (hb : b < 256) : (iI a <<< ((8 : Int32) &&& 31)) ||| iI b = iI ((256 * a + b : Nat) : Int) := by
  rw [iI_nI, iI_nI, iI_nI]
  apply b_ext
  intro i hi
  have e := Nat.testBit_two_pow_mul_add a (show b < 2 ^ 8 from hb) i
  rw [b_or, b_shl8 _ hi, bt_nI _ (show i - 8 < 32 by omega), bt_nI _ hi, bt_nI _ hi, show 256 * a + b = 2 ^ 8 * a + b from rfl, e]
  by_cases h : i < 8
  · rw [if_pos h, decide_eq_false (by omega)]
    simp
  · have h8 : 2 ^ 8 ≤ 2 ^ i := Nat.pow_le_pow_right (by omega) (by omega)
    rw [if_neg h, decide_eq_true (show 8 ≤ i by omega), Nat.testBit_lt_two_pow (show b < 2 ^ i from Nat.lt_of_lt_of_le (show b < 2 ^ 8 from hb) h8)]
    simp
def iB (m : MM) (k : Nat) : Int := mi m 1001 k
def imgOK (m : MM) (z : Nat) : Prop := z = 3 + ties m + 2 * things m + 1 ∧ iB m (z - 1) = chkS (iB m) (z - 1) ∧ 256 * iB m 0 + iB m 1 ≤ 999 ∧ iB m 2 ≤ (if mi m 1038 6 = 0 then 0 else mi m 1038 6 - 1) ∧ (∀ k : Nat, k < ties m → iB m (3 + k) ≤ 1) ∧ ∀ t : Nat, t < things m → iB m (3 + ties m + 2 * t) ≤ 99 ∧ iB m (3 + ties m + 2 * t + 1) ≤ (if 0 < iB m (3 + ties m + 2 * t) then 0 else 99)
theorem p_img2 {m : MM} (hB : ∀ k : Nat, k < 1600 → 0 ≤ iB m k ∧ iB m k < 256) {K T : Nat} (hK : K ≤ 12) (hT : T ≤ 8) : pw (ml_X6_isImage_120 (iI ((3 + K + 2 * T + 1 : Nat) : Int)) (iI ((3 + K : Nat) : Int)) m) (fun q => q.2 = m ∧ ((q.1 = 1 ∧ ∀ t : Nat, t < T → iB m (3 + K + 2 * t) ≤ 99 ∧ iB m (3 + K + 2 * t + 1) ≤ (if 0 < iB m (3 + K + 2 * t) then 0 else 99)) ∨ (q.1 = 0 ∧ ¬ ∀ t : Nat, t < T → iB m (3 + K + 2 * t) ≤ 99 ∧ iB m (3 + K + 2 * t + 1) ≤ (if 0 < iB m (3 + K + 2 * t) then 0 else 99)))) := by
  have e1 : iI ((3 + K + 2 * T + 1 : Nat) : Int) - (1 : Int32) = iI ((3 + K + 2 * T : Nat) : Int) := by rw [iI_lit, iI_sub]; exact congrArg iI (by omega)
  unfold ml_X6_isImage_120
  refine pw_for (fun (i : Nat) (q : Int32 × Int32 × MM) => q.1 = iI ((3 + K + 2 * T + 1 : Nat) : Int) ∧ q.2.1 = iI ((3 + K + 2 * i : Nat) : Int) ∧ q.2.2 = m ∧ ∀ t : Nat, t < i → iB m (3 + K + 2 * t) ≤ 99 ∧ iB m (3 + K + 2 * t + 1) ≤ (if 0 < iB m (3 + K + 2 * t) then 0 else 99)) T ?_ ?_ ⟨rfl, rfl, rfl, fun t ht => absurd ht (Nat.not_lt_zero _)⟩
  · rintro i ⟨q1, q2, m'⟩ hi hq0
    dsimp only at hq0
    obtain ⟨rfl, rfl, rfl, w⟩ := hq0
    dsimp only at w ⊢
    have g0 : gz_ix (iI ((3 + K + 2 * i : Nat) : Int)) = 3 + K + 2 * i := by rw [gix (by omega)]; omega
    have f1 : iI ((3 + K + 2 * i : Nat) : Int) + (1 : Int32) = iI ((3 + K + 2 * i + 1 : Nat) : Int) := by rw [iI_lit, iI_add]; exact congrArg iI (by omega)
    have f2 : iI ((3 + K + 2 * i : Nat) : Int) + (2 : Int32) = iI ((3 + K + 2 * (i + 1) : Nat) : Int) := by rw [iI_lit, iI_add]; exact congrArg iI (by omega)
    have g1 : gz_ix (iI ((3 + K + 2 * i + 1 : Nat) : Int)) = 3 + K + 2 * i + 1 := by rw [gix (by omega)]; omega
    have b0 := hB (3 + K + 2 * i) (by omega)
    have b1 := hB (3 + K + 2 * i + 1) (by omega)
    have v0 : m'.1 1001 (3 + K + 2 * i) = iI (iB m' (3 + K + 2 * i)) := mi_of _ _ _
    have v1 : m'.1 1001 (3 + K + 2 * i + 1) = iI (iB m' (3 + K + 2 * i + 1)) := mi_of _ _ _
    unfold mb_X6_isImage_120 mj_X6_isImage_161 mj_X6_isImage_164
    rw [e1, f1, f2, g0, g1, v0, v1]
    simp only [gz_let]
    refine pw_f (by rw [iI_le (by omega) (by omega)]; omega) (pw_gu ((gin_iI (by omega)).2 (by omega)) ?_)
    by_cases c1 : 99 < iB m' (3 + K + 2 * i)
    · refine pw_t (by rw [iI_lit, iI_lt (by omega) (by omega)]; exact c1) (pw_some ⟨rfl, Or.inr ⟨rfl, fun y => ?_⟩⟩)
      have := (y i hi).1
      omega
    · refine pw_f (by rw [iI_lit, iI_lt (by omega) (by omega)]; exact c1) (pw_gu ((gin_iI (by omega)).2 (by omega)) (pw_gu ((gin_iI (by omega)).2 (by omega)) ?_))
      by_cases c2 : iB m' (3 + K + 2 * i) ≤ 0
      · refine pw_t (by rw [iI_lit, iI_le (by omega) (by omega)]; exact c2) ?_
        by_cases c3 : iB m' (3 + K + 2 * i + 1) ≤ 99
        · refine pw_t (by rw [iI_lit, iI_le (by omega) (by omega)]; exact c3) (pw_some ⟨rfl, rfl, rfl, fun t ht => ?_⟩)
          by_cases y : t = i
          · subst y
            rw [if_neg (by omega)]
            exact ⟨by omega, c3⟩
          · exact w t (by omega)
        · refine pw_f (by rw [iI_lit, iI_le (by omega) (by omega)]; exact c3) (pw_some ⟨rfl, Or.inr ⟨rfl, fun y => ?_⟩⟩)
          have := (y i hi).2
          rw [if_neg (by omega)] at this
          omega
      · refine pw_f (by rw [iI_lit, iI_le (by omega) (by omega)]; exact c2) ?_
        by_cases c3 : iB m' (3 + K + 2 * i + 1) ≤ 0
        · refine pw_t (by rw [iI_lit, iI_le (by omega) (by omega)]; exact c3) (pw_some ⟨rfl, rfl, rfl, fun t ht => ?_⟩)
          by_cases y : t = i
          · subst y
            rw [if_pos (by omega)]
            exact ⟨by omega, c3⟩
          · exact w t (by omega)
        · refine pw_f (by rw [iI_lit, iI_le (by omega) (by omega)]; exact c3) (pw_some ⟨rfl, Or.inr ⟨rfl, fun y => ?_⟩⟩)
          have := (y i hi).2
          rw [if_pos (by omega)] at this
          omega
  · rintro ⟨q1, q2, m'⟩ hq0
    dsimp only at hq0
    obtain ⟨rfl, rfl, rfl, w⟩ := hq0
    dsimp only at w ⊢
    unfold mb_X6_isImage_120
    rw [e1]
    exact pw_t (by rw [iI_le (by omega) (by omega)]; omega) (pw_some ⟨rfl, Or.inl ⟨rfl, w⟩⟩)
theorem p_isImage {m : MM} (hm : rMany m) (hB : ∀ k : Nat, k < 1600 → 0 ≤ iB m k ∧ iB m k < 256) {z : Nat} (hz : z < 100000) : pw (mf_isImage (iI z) m) (fun q => q.2 = m ∧ ((q.1 = 1 ∧ imgOK m z) ∨ (q.1 = 0 ∧ ¬ imgOK m z))) := by
  have b6 := hm.1
  have b7 := hm.2.1
  have b9 := hm.2.2.2.1
  have hT : things m ≤ 8 := by unfold things; omega
  have hK : ties m ≤ 12 := by unfold ties; omega
  have eT : mi m 1038 7 = things m := by unfold things; omega
  have eK : mi m 1038 9 = ties m := by unfold ties; omega
  have g0 : gz_ix (0 : Int32) = 0 := by decide
  have g1 : gz_ix (1 : Int32) = 1 := by decide
  have g2 : gz_ix (2 : Int32) = 2 := by decide
  have v0 : m.1 1001 0 = iI (iB m 0) := mi_of _ _ _
  have v1 : m.1 1001 1 = iI (iB m 1) := mi_of _ _ _
  have v2 : m.1 1001 2 = iI (iB m 2) := mi_of _ _ _
  have w0 := hB 0 (by omega)
  have w1 := hB 1 (by omega)
  have w2 := hB 2 (by omega)
  have ek : (3 : Int32) + iI (ties m : Int) = iI ((3 + ties m : Nat) : Int) := by rw [iI_lit, iI_add]; exact congrArg iI (by omega)
  have ez : iI ((3 + ties m : Nat) : Int) + (2 : Int32) * iI (things m : Int) + (1 : Int32) = iI ((3 + ties m + 2 * things m + 1 : Nat) : Int) := by
    rw [iI_lit, iI_lit, iI_mul, iI_add, iI_add]
    exact congrArg iI (by omega)
  unfold mf_isImage mj_X6_isImage_91
  rw [p_tieMany]
  simp only [Option.bind_some, gz_let]
  rw [p_thingMany]
  simp only [Option.bind_some, eT, eK, ek, ez, g0, g1, g2, v0, v1, v2]
  by_cases c1 : z = 3 + ties m + 2 * things m + 1
  rotate_left
  · refine pw_f (by rw [iI_eq (by omega) (by omega)]; omega) (pw_some ⟨rfl, Or.inr ⟨rfl, fun y => c1 y.1⟩⟩)
  subst c1
  refine pw_t rfl ?_
  have e1 : iI ((3 + ties m + 2 * things m + 1 : Nat) : Int) - (1 : Int32) = iI ((3 + ties m + 2 * things m : Nat) : Int) := by rw [iI_lit, iI_sub]; exact congrArg iI (by omega)
  have gl : gz_ix (iI ((3 + ties m + 2 * things m : Nat) : Int)) = 3 + ties m + 2 * things m := by rw [gix (by omega)]; omega
  have vl : m.1 1001 (3 + ties m + 2 * things m) = iI (iB m (3 + ties m + 2 * things m)) := mi_of _ _ _
  have wl := hB (3 + ties m + 2 * things m) (by omega)
  have hb := chkS_b (f := iB m) (3 + ties m + 2 * things m)
  have hsub : 3 + ties m + 2 * things m + 1 - 1 = 3 + ties m + 2 * things m := by omega
  rw [e1, gl, vl, p_checked (c0 := 1001) (n := 3 + ties m + 2 * things m) (f := iB m) (by show _ ≤ 1600; omega) (by omega) (fun j hj => ⟨mi_of _ _ _, hB j (by omega)⟩)]
  simp only [Option.bind_some]
  refine pw_gu ((gin_iI (by omega)).2 (by omega)) ?_
  by_cases c2 : iB m (3 + ties m + 2 * things m) = chkS (iB m) (3 + ties m + 2 * things m)
  rotate_left
  · refine pw_f (by rw [iI_eq (by omega) (by omega)]; exact c2) (pw_some ⟨rfl, Or.inr ⟨rfl, fun y => c2 (by have := y.2.1; rw [hsub] at this; exact this)⟩⟩)
  refine pw_t (by rw [c2]) (pw_gu (by decide) (pw_gu (by decide) ?_))
  simp only [v0, v1, v2]
  rw [show (256 : Int32) = iI 256 from rfl, iI_mul, iI_add]
  by_cases c3 : 256 * iB m 0 + iB m 1 ≤ 999
  rotate_left
  · refine pw_t (by rw [iI_lit, iI_lt (by omega) (by omega)]; omega) (pw_some ⟨rfl, Or.inr ⟨rfl, fun y => c3 y.2.2.1⟩⟩)
  refine pw_f (by rw [iI_lit, iI_lt (by omega) (by omega)]; omega) (pw_gu (by decide) ?_)
  have fin : ∀ h : Int, h = (if mi m 1038 6 = 0 then 0 else mi m 1038 6 - 1) → pw (mj_X6_isImage_88 (iI ((3 + ties m + 2 * things m + 1 : Nat) : Int)) (iI ((3 + ties m : Nat) : Int)) (iI h) (iI (iB m 2)) m) (fun q => q.2 = m ∧ ((q.1 = 1 ∧ imgOK m (3 + ties m + 2 * things m + 1)) ∨ (q.1 = 0 ∧ ¬ imgOK m (3 + ties m + 2 * things m + 1)))) := by
    intro h hh
    have hb6 : 0 ≤ h ∧ h ≤ 8 := by rw [hh]; split <;> omega
    unfold mj_X6_isImage_88 mj_X6_isImage_91
    by_cases c4 : iB m 2 ≤ h
    rotate_left
    · refine pw_f (by rw [iI_le (by omega) (by omega)]; exact c4) (pw_some ⟨rfl, Or.inr ⟨rfl, fun y => c4 (by have := y.2.2.2.1; rw [← hh] at this; exact this)⟩⟩)
    refine pw_t (by rw [iI_le (by omega) (by omega)]; exact c4) ?_
    unfold ml_X6_isImage_95
    refine pw_for (fun (i : Nat) (q : Int32 × Int32 × Int32 × MM) => q.1 = iI ((3 + ties m + 2 * things m + 1 : Nat) : Int) ∧ q.2.1 = iI ((3 + ties m : Nat) : Int) ∧ q.2.2.1 = iI ((3 + i : Nat) : Int) ∧ q.2.2.2 = m ∧ ∀ k : Nat, k < i → iB m (3 + k) ≤ 1) (ties m) ?_ ?_ ⟨rfl, rfl, rfl, rfl, fun t ht => absurd ht (Nat.not_lt_zero _)⟩
    · rintro i ⟨q1, q2, q3, m'⟩ hi hq0
      dsimp only at hq0
      obtain ⟨rfl, rfl, rfl, rfl, w⟩ := hq0
      dsimp only at w ⊢
      have g0 : gz_ix (iI ((3 + i : Nat) : Int)) = 3 + i := by rw [gix (by omega)]; omega
      have f1 : iI ((3 + i : Nat) : Int) + (1 : Int32) = iI ((3 + (i + 1) : Nat) : Int) := by rw [iI_lit, iI_add]; exact congrArg iI (by omega)
      have v0 : m'.1 1001 (3 + i) = iI (iB m' (3 + i)) := mi_of _ _ _
      have b0 := hB (3 + i) (by omega)
      unfold mb_X6_isImage_95
      rw [f1, g0, v0]
      simp only [gz_let]
      refine pw_f (by rw [iI_le (by omega) (by omega)]; omega) (pw_gu ((gin_iI (by omega)).2 (by omega)) ?_)
      by_cases c5 : iB m' (3 + i) ≤ 1
      · refine pw_t (by rw [iI_lit, iI_le (by omega) (by omega)]; exact c5) (pw_some ⟨rfl, rfl, rfl, rfl, fun k hk => ?_⟩)
        by_cases y : k = i
        · subst y; exact c5
        · exact w k (by omega)
      · refine pw_f (by rw [iI_lit, iI_le (by omega) (by omega)]; exact c5) (pw_some ⟨rfl, Or.inr ⟨rfl, fun y => c5 (y.2.2.2.2.1 i hi)⟩⟩)
    · rintro ⟨q1, q2, q3, m'⟩ hq0
      dsimp only at hq0
      obtain ⟨rfl, rfl, rfl, rfl, w⟩ := hq0
      dsimp only at w ⊢
      unfold mb_X6_isImage_95
      refine pw_t (by rw [iI_le (by omega) (by omega)]; omega) (pw_map (pw_mono (p_img2 hB hK hT) ?_))
      rintro ⟨r, m''⟩ ⟨rfl, y⟩
      dsimp only at y ⊢
      refine ⟨rfl, ?_⟩
      rcases y with ⟨y1, y2⟩ | ⟨y1, y2⟩
      · exact Or.inl ⟨y1, rfl, by rw [hsub]; exact c2, c3, by rw [← hh]; exact c4, w, y2⟩
      · exact Or.inr ⟨y1, fun x => y2 x.2.2.2.2.2⟩
  rw [p_hallMany]
  simp only [Option.bind_some]
  by_cases c6 : mi m 1038 6 = 0
  · refine pw_t (by rw [c6]; rfl) ?_
    exact fin 0 (by rw [if_pos c6])
  · refine pw_f (by rw [iI_lit, iI_eq (by omega) (by omega)]; exact c6) ?_
    rw [p_hallMany]
    simp only [Option.bind_some]
    rw [show (1 : Int32) = iI 1 from rfl, iI_sub]
    exact fin _ (by rw [if_neg c6])
