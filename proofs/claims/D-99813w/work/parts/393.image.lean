/-! ===== images ===== -/
def chkS (f : Nat → Int) : Nat → Int
  | 0 => 211
  | k + 1 => (3 * chkS f k + f k) % 251
theorem chkS_b {f : Nat → Int} : ∀ k : Nat, (0 ≤ chkS f k ∧ chkS f k < 251)
  | 0 => by unfold chkS; omega
  | k + 1 => ⟨Int.emod_nonneg _ (by omega), Int.emod_lt_of_pos _ (by omega)⟩
theorem chkS_eq {f g : Nat → Int} : ∀ k : Nat, (∀ j, j < k → f j = g j) → chkS f k = chkS g k
  | 0, _ => rfl
  | k + 1, h => by
    show (3 * chkS f k + f k) % 251 = (3 * chkS g k + g k) % 251
    rw [chkS_eq k (fun j hj => h j (by omega)), h k (by omega)]
theorem p_checked {m : MM} {c0 n : Nat} {f : Nat → Int} (hn : n ≤ nM c0) (hn2 : n < 2000) (hf : ∀ j : Nat, j < n → m.1 c0 j = iI (f j) ∧ 0 ≤ f j ∧ f j < 256) : mf_checked c0 (iI n) m = some (iI (chkS f n), m) := by
  have key : pw (mf_checked c0 (iI n) m) (fun q => q = (iI (chkS f n), m)) := by
    unfold mf_checked ml_X6_checked_6
    refine pw_for (fun (i : Nat) (q : Int32 × Int32 × Int32 × MM) => q.1 = iI n ∧ q.2.1 = iI (chkS f i) ∧ q.2.2.1 = iI i ∧ q.2.2.2 = m) n ?_ ?_ ⟨rfl, rfl, rfl, rfl⟩
    · rintro i ⟨q1, q2, q3, m'⟩ hi ⟨rfl, rfl, rfl, rfl⟩
      dsimp only
      have gi : gz_ix (iI (i : Int)) = i := by rw [gix (by omega)]; omega
      have ei : iI (i : Int) + (1 : Int32) = iI ((i + 1 : Nat) : Int) := by rw [iI_lit, iI_add]; rfl
      obtain ⟨f1, f2, f3⟩ := hf i hi
      have hb := chkS_b (f := f) i
      unfold mb_X6_checked_6
      rw [gi, f1, ei]
      simp only [gz_let]
      refine pw_f (by rw [iI_le (by omega) (by omega)]; omega) (pw_gu ((gin_iI (by omega)).2 (by omega)) (pw_some ⟨rfl, ?_, rfl, rfl⟩))
      dsimp only
      rw [iI_lit, iI_lit, iI_mul, iI_add, iI_remn (by omega) (by omega)]
      rfl
    · rintro ⟨q1, q2, q3, m'⟩ ⟨rfl, rfl, rfl, rfl⟩
      dsimp only
      unfold mb_X6_checked_6
      exact pw_t (by rw [iI_le (by omega) (by omega)]; omega) (pw_some rfl)
  obtain ⟨q, e, rfl⟩ := key
  exact e
theorem c_check {μ : gM} {c0 n : Nat} {f : Nat → Int} (hk : gK μ c0 = 102) (hn : n ≤ gN μ c0) (hn2 : n < 2000) (hf : ∀ j : Nat, j < n → gI μ c0 j &&& (255 : Int32) = iI (f j) ∧ 0 ≤ f j ∧ f j < 256) : cf_X0_check c0 (iI n) μ = some (iI (chkS f n), μ) := by
  have key : pw (cf_X0_check c0 (iI n) μ) (fun q => q = (iI (chkS f n), μ)) := by
    unfold cf_X0_check ml_X0_check_6
    refine pw_for (fun (i : Nat) (q : Int32 × Int32 × Int32 × gM) => q.1 = iI n ∧ q.2.1 = iI (chkS f i) ∧ q.2.2.1 = iI i ∧ q.2.2.2 = μ) n ?_ ?_ ⟨rfl, rfl, rfl, rfl⟩
    · rintro i ⟨q1, q2, q3, m'⟩ hi ⟨rfl, rfl, rfl, rfl⟩
      dsimp only
      have gi : gz_ix (iI (i : Int)) = i := by rw [gix (by omega)]; omega
      have ei : iI (i : Int) + (1 : Int32) = iI ((i + 1 : Nat) : Int) := by rw [iI_lit, iI_add]; rfl
      obtain ⟨f1, f2, f3⟩ := hf i hi
      have f1 : gI m' c0 i &&& (255 : Int32) = iI (f i) := f1
      have hn' : n ≤ gN m' c0 := hn
      have hb := chkS_b (f := f) i
      unfold mb_X0_check_6
      rw [gi, f1, ei]
      simp only [gz_let]
      refine pw_f (by rw [iI_le (by omega) (by omega)]; omega) (pw_gu hk (pw_gu ((gin_iI (by omega)).2 (by omega)) (pw_some ⟨rfl, ?_, rfl, rfl⟩)))
      dsimp only
      rw [iI_lit, iI_lit, iI_mul, iI_add, iI_remn (by omega) (by omega)]
      rfl
    · rintro ⟨q1, q2, q3, m'⟩ ⟨rfl, rfl, rfl, rfl⟩
      dsimp only
      unfold mb_X0_check_6
      exact pw_t (by rw [iI_le (by omega) (by omega)]; omega) (pw_some rfl)
  obtain ⟨q, e, rfl⟩ := key
  exact e
/-- what stands in an image at k -/
def imV (m : MM) (k : Nat) : Int := if k = 0 then mi m 1051 0 / 256 else if k = 1 then mi m 1051 0 % 256 else if k = 2 then mi m 1051 1 else if k < 3 + ties m then mi m 1051 (2 + (k - 3)) else mi m 1051 (14 + (k - 3 - ties m))
theorem imV_b {l : List (Int × Int × Int)} {m : MM} {μ : gM} (h : rCo l m μ) (ht : t01 m) {k : Nat} (hk : k < 3 + ties m + 2 * things m) : 0 ≤ imV m k ∧ imV m k < 256 := by
  obtain ⟨q1, q2, q3, q4, q5, q6, q7, q8, q9, q10, q11, q12, q13⟩ := h
  have b7 := q2.1.2.1
  have b9 := q2.1.2.2.2.1
  have h0 := q5.1
  unfold imV
  split
  · omega
  · split
    · omega
    · split
      · omega
      · split
        · have := ht (k - 3) (by unfold ties at *; omega)
          omega
        · have hz : k - 3 - ties m < 16 := by unfold things at hk; omega
          have := q5.2.1 ((k - 3 - ties m) / 2) (by omega)
          rcases Nat.mod_two_eq_zero_or_one (k - 3 - ties m) with e | e
          · rw [show 14 + (k - 3 - ties m) = 14 + 2 * ((k - 3 - ties m) / 2) by omega]; omega
          · rw [show 14 + (k - 3 - ties m) = 15 + 2 * ((k - 3 - ties m) / 2) by omega]; omega
def wI (f : Nat → Int) (k : Nat) (m m' : MM) : Prop := (∀ c j : Nat, ¬ (c = 1103 ∨ (c = 2000 ∧ j = 103)) → m'.1 c j = m.1 c j) ∧ m'.2 = m.2 ∧ m'.1 2000 103 = iI k ∧ ∀ j : Nat, j < k → m'.1 1103 j = iI (f j)
theorem p_writes {f : Nat → Int} {k : Nat} {m m' : MM} (h : wI f k m m') (hk : k < 32) {v : Int32} (hv : v = iI (f k)) : pw (mf_writes v m') (fun q => wI f (k + 1) m q.2) := by
  obtain ⟨h1, h2, h3, h4⟩ := h
  have gk : gz_ix (iI (k : Int)) = k := by rw [gix (by omega)]; omega
  unfold mf_writes
  rw [h3, gk]
  simp only [gz_let]
  refine pw_gu ((gin_iI (by omega)).2 (by omega)) (pw_some ⟨fun c j hc => ?_, h2, ?_, fun j hj => ?_⟩)
  · rw [msI_i, if_neg (by omega), msI_i, if_neg (by omega)]
    exact h1 c j hc
  · rw [msI_i, if_pos ⟨rfl, rfl⟩, msI_i, if_neg (by omega), h3, iI_lit, iI_add]
    rfl
  · rw [msI_i, if_neg (by omega), msI_i]
    by_cases z : j = k
    · rw [if_pos ⟨rfl, z⟩, hv, z]
    · rw [if_neg (fun w => z w.2)]
      exact h4 j (by omega)
def vI (f : Nat → Int) (k : Nat) (μ μ' : gM) : Prop := cD μ μ' ∧ (∀ c j : Nat, ¬ (c = 2368 ∨ (c = 1000 ∧ j = 27)) → gI μ' c j = gI μ c j) ∧ (∀ c j : Nat, gL μ' c j = gL μ c j) ∧ gI μ' 1000 27 = iI k ∧ ∀ j : Nat, j < k → gI μ' 2368 j &&& (255 : Int32) = iI (f j)
theorem c_writes {f : Nat → Int} {k : Nat} {μ μ' : gM} (h : vI f k μ μ') (hk : k < 32) {v : Int32} (hv : v &&& (255 : Int32) = iI (f k)) : pw (cf_X0_writes v μ') (fun q => vI f (k + 1) μ q.2) := by
  obtain ⟨h0, h1, h2, h3, h4⟩ := h
  have gk : gz_ix (iI (k : Int)) = k := by rw [gix (by omega)]; omega
  unfold cf_X0_writes
  rw [h3, gk]
  simp only [gz_let]
  refine pw_gu ((gin_iI (by omega)).2 (by omega)) (pw_some ⟨(h0.trans (cD.sI (by unfold dkC; omega))).trans (cD.sI (by unfold dkC; omega)), fun c j hc => ?_, h2, ?_, fun j hj => ?_⟩)
  · rw [sI_i, if_neg (by omega), sI_i, if_neg (by omega)]
    exact h1 c j hc
  · rw [sI_i, if_neg (by omega), sI_i, if_pos ⟨rfl, rfl⟩, iI_lit, iI_add]
    rfl
  · rw [sI_i]
    by_cases z : j = k
    · rw [if_pos ⟨rfl, z⟩, b8, hv, z]
    · rw [if_neg (fun w => z w.2), sI_i, if_neg (by omega)]
      exact h4 j (by omega)
theorem hr8 : ∀ h : Nat, h < 1000 → (iI h >>> ((8 : Int32) &&& 31)) &&& (255 : Int32) = iI ((h / 256 : Nat) : Int) ∧ iI h &&& (255 : Int32) = iI ((h % 256 : Nat) : Int) := by decide +kernel
theorem an8 : ∀ h : Nat, h < 256 → iI h &&& (255 : Int32) = iI h := by decide +kernel
theorem p_image {l : List (Int × Int × Int)} {m : MM} {μ : gM} (h : rCo l m μ) (ht : t01 m) : pw (mf_image m) (fun q => q.1 = iI ((3 + ties m + 2 * things m + 1 : Nat) : Int) ∧ wI (fun j => if j = 3 + ties m + 2 * things m then chkS (imV m) (3 + ties m + 2 * things m) else imV m j) (3 + ties m + 2 * things m + 1) m q.2) := by
  have hR := h
  obtain ⟨q1, q2, q3, q4, q5, q6, q7, q8, q9, q10, q11, q12, q13⟩ := h
  have b7 := q2.1.2.1
  have b9 := q2.1.2.2.2.1
  have h0 := q5.1
  have g0 : gz_ix (0 : Int32) = 0 := by decide
  have g1 : gz_ix (1 : Int32) = 1 := by decide
  have hT : things m ≤ 8 := by unfold things; omega
  have hK : ties m ≤ 12 := by unfold ties; omega
  have eT : mi m 1038 7 = things m := by unfold things; omega
  have eK : mi m 1038 9 = ties m := by unfold ties; omega
  generalize hF : (fun j => if j = 3 + ties m + 2 * things m then chkS (imV m) (3 + ties m + 2 * things m) else imV m j) = F
  have F1 : ∀ j, j < 3 + ties m + 2 * things m → F j = imV m j := fun j hj => by rw [← hF]; exact if_neg (by omega)
  have F2 : F (3 + ties m + 2 * things m) = chkS (imV m) (3 + ties m + 2 * things m) := by rw [← hF]; exact if_pos rfl
  have w0 : wI F 0 m (msI m 2000 103 (0 : Int32)) := ⟨fun c j hc => by rw [msI_i, if_neg (by omega)], rfl, by rw [msI_i, if_pos ⟨rfl, rfl⟩]; rfl, fun j hj => absurd hj (Nat.not_lt_zero _)⟩
  unfold mf_image
  simp only [gz_let, g0, g1]
  refine pw_gu (by decide) (pw_bind (pw_mono (p_writes w0 (by omega) ?_) ?_))
  · rw [msI_i, if_neg (by omega), mi_of m, iI_lit, iI_divn (by omega) (by omega), F1 0 (by omega)]
    rfl
  rintro ⟨⟨⟩, m1⟩ w1
  dsimp only at w1 ⊢
  have n1 : m1.1 1051 0 = iI (mi m 1051 0) := by rw [w1.1 _ _ (by omega), mi_of m]
  refine pw_gu (by decide) (pw_bind (pw_mono (p_writes w1 (by omega) ?_) ?_))
  · rw [n1, iI_lit, iI_remn (by omega) (by omega), F1 1 (by omega)]
    rfl
  rintro ⟨⟨⟩, m2⟩ w2
  dsimp only at w2 ⊢
  refine pw_gu (by decide) (pw_bind (pw_mono (p_writes w2 (by omega) ?_) ?_))
  · rw [w2.1 _ _ (by omega), mi_of m, F1 2 (by omega)]
    rfl
  rintro ⟨⟨⟩, m3⟩ w3
  dsimp only at w3 ⊢
  unfold ml_X6_image_45
  refine pw_for (fun (i : Nat) (q : Int32 × MM) => q.1 = iI i ∧ wI F (3 + i) m q.2) (ties m) ?_ ?_ ⟨rfl, w3⟩
  · rintro i ⟨y, m'⟩ hi ⟨rfl, w⟩
    dsimp only at w ⊢
    have ei : iI (i : Int) + (1 : Int32) = iI ((i + 1 : Nat) : Int) := by rw [iI_lit, iI_add]; rfl
    have e2 : (2 : Int32) + iI (i : Int) = iI ((2 + i : Nat) : Int) := by rw [iI_lit, iI_add]; exact congrArg iI (by omega)
    have g2 : gz_ix (iI ((2 + i : Nat) : Int)) = 2 + i := by rw [gix (by omega)]; omega
    have eK' : mi m' 1038 9 = ties m := by rw [← eK]; exact congrArg Int32.toInt (w.1 _ _ (by omega))
    unfold mb_X6_image_45
    rw [p_tieMany]
    simp only [Option.bind_some, gz_let, e2, g2, ei, eK']
    refine pw_f (by rw [iI_le (by omega) (by omega)]; omega) (pw_gu ((gin_iI (by omega)).2 (by omega)) (pw_bind (pw_mono (p_writes w (by omega) ?_) ?_)))
    · rw [w.1 _ _ (by omega), mi_of m, F1 _ (by omega)]
      unfold imV
      rw [if_neg (by omega), if_neg (by omega), if_neg (by omega), if_pos (by omega), show 2 + (3 + i - 3) = 2 + i by omega]
    rintro ⟨⟨⟩, m''⟩ w'
    dsimp only at w' ⊢
    exact pw_some ⟨rfl, by rw [show 3 + (i + 1) = 3 + i + 1 by omega]; exact w'⟩
  rintro ⟨y, m'⟩ ⟨rfl, w⟩
  dsimp only at w ⊢
  have eK' : mi m' 1038 9 = ties m := by rw [← eK]; exact congrArg Int32.toInt (w.1 _ _ (by omega))
  unfold mb_X6_image_45
  rw [p_tieMany]
  simp only [Option.bind_some, eK']
  refine pw_t (by rw [iI_le (by omega) (by omega)]; omega) (pw_map ?_)
  unfold ml_X6_image_73
  refine pw_for (fun (i : Nat) (q : Int32 × MM) => q.1 = iI i ∧ wI F (3 + ties m + i) m q.2) (2 * things m) ?_ ?_ ⟨rfl, w⟩
  · rintro i ⟨y, m2⟩ hi ⟨rfl, w⟩
    dsimp only at w ⊢
    have ei : iI (i : Int) + (1 : Int32) = iI ((i + 1 : Nat) : Int) := by rw [iI_lit, iI_add]; rfl
    have e2 : (14 : Int32) + iI (i : Int) = iI ((14 + i : Nat) : Int) := by rw [iI_lit, iI_add]; exact congrArg iI (by omega)
    have g2 : gz_ix (iI ((14 + i : Nat) : Int)) = 14 + i := by rw [gix (by omega)]; omega
    have eT' : mi m2 1038 7 = things m := by rw [← eT]; exact congrArg Int32.toInt (w.1 _ _ (by omega))
    unfold mb_X6_image_73
    rw [p_thingMany]
    simp only [Option.bind_some, gz_let, e2, g2, ei, eT']
    refine pw_f (by rw [iI_lit, iI_mul, iI_le (by omega) (by omega)]; omega) (pw_gu ((gin_iI (by omega)).2 (by omega)) (pw_bind (pw_mono (p_writes w (by omega) ?_) ?_)))
    · rw [w.1 _ _ (by omega), mi_of m, F1 _ (by omega)]
      unfold imV
      rw [if_neg (by omega), if_neg (by omega), if_neg (by omega), if_neg (by omega), show 14 + (3 + ties m + i - 3 - ties m) = 14 + i by omega]
    rintro ⟨⟨⟩, m''⟩ w'
    dsimp only at w' ⊢
    exact pw_some ⟨rfl, by rw [show 3 + ties m + (i + 1) = 3 + ties m + i + 1 by omega]; exact w'⟩
  rintro ⟨y, m2⟩ ⟨rfl, w⟩
  dsimp only at w ⊢
  have eT' : mi m2 1038 7 = things m := by rw [← eT]; exact congrArg Int32.toInt (w.1 _ _ (by omega))
  unfold mb_X6_image_73
  rw [p_thingMany]
  simp only [Option.bind_some, eT']
  refine pw_t (by rw [iI_lit, iI_mul, iI_le (by omega) (by omega)]; omega) ?_
  rw [w.2.2.1, p_checked (c0 := 1103) (n := 3 + ties m + 2 * things m) (f := imV m) (by show _ ≤ 32; omega) (by omega) (fun j hj => ⟨by rw [w.2.2.2 j hj, F1 j hj], imV_b hR ht hj⟩)]
  simp only [Option.bind_some]
  refine pw_bind (pw_mono (p_writes w (by omega) (by rw [F2])) ?_)
  rintro ⟨⟨⟩, m''⟩ w'
  dsimp only at w' ⊢
  exact pw_some ⟨w'.2.2.1, w'⟩
theorem c_image {l : List (Int × Int × Int)} {m : MM} {μ : gM} (h : rCo l m μ) (ht : t01 m) : pw (cf_X0_image μ) (fun q => q.1 = iI ((3 + ties m + 2 * things m + 1 : Nat) : Int) ∧ vI (fun j => if j = 3 + ties m + 2 * things m then chkS (imV m) (3 + ties m + 2 * things m) else imV m j) (3 + ties m + 2 * things m + 1) μ q.2) := by
  have hR := h
  obtain ⟨q1, q2, q3, q4, q5, q6, q7, q8, q9, q10, q11, q12, q13⟩ := h
  have b7 := q2.1.2.1
  have b9 := q2.1.2.2.2.1
  have h0 := q5.1
  have hT : things m ≤ 8 := by unfold things; omega
  have hK : ties m ≤ 12 := by unfold ties; omega
  have eT : mi m 1038 7 = things m := by unfold things; omega
  have eK : mi m 1038 9 = ties m := by unfold ties; omega
  generalize hF : (fun j => if j = 3 + ties m + 2 * things m then chkS (imV m) (3 + ties m + 2 * things m) else imV m j) = F
  have F1 : ∀ j, j < 3 + ties m + 2 * things m → F j = imV m j := fun j hj => by rw [← hF]; exact if_neg (by omega)
  have F2 : F (3 + ties m + 2 * things m) = chkS (imV m) (3 + ties m + 2 * things m) := by rw [← hF]; exact if_pos rfl
  have hh : ∀ {k : Nat} {μ' : gM}, vI F k μ μ' → rHH m μ' := fun w => q2.mv (hhE.refl m) w.1.dy (w.1.2.2.2.2.2 _ _)
  have w0 : vI F 0 μ (gz_sI μ 1000 27 (0 : Int32)) := ⟨cD.sI (by unfold dkC; omega), fun c j hc => by rw [sI_i, if_neg (by omega)], fun _ _ => rfl, by rw [sI_i, if_pos ⟨rfl, rfl⟩]; rfl, fun j hj => absurd hj (Nat.not_lt_zero _)⟩
  obtain ⟨H, hH⟩ : ∃ H : Nat, mi m 1051 0 = H := ⟨(mi m 1051 0).toNat, by omega⟩
  have nH : gI μ 1027 0 = iI H := by rw [q6.1, mi_of m, hH]
  obtain ⟨y1, y2⟩ := hr8 H (by omega)
  unfold cf_X0_image
  simp only [gz_let]
  refine pw_bind (pw_mono (c_writes w0 (by omega) ?_) ?_)
  · rw [sI_i, if_neg (by omega), nH, y1, F1 0 (by omega)]
    unfold imV
    rw [if_pos rfl, hH]
    exact congrArg iI (by omega)
  rintro ⟨⟨⟩, m1⟩ w1
  dsimp only at w1 ⊢
  refine pw_bind (pw_mono (c_writes w1 (by omega) ?_) ?_)
  · rw [w1.2.1 _ _ (by omega), nH, y2, F1 1 (by omega)]
    unfold imV
    rw [if_neg (by omega), if_pos rfl, hH]
    exact congrArg iI (by omega)
  rintro ⟨⟨⟩, m2⟩ w2
  dsimp only at w2 ⊢
  refine pw_bind (pw_mono (c_writes w2 (by omega) ?_) ?_)
  · obtain ⟨A, hA⟩ : ∃ A : Nat, mi m 1051 1 = A := ⟨(mi m 1051 1).toNat, by omega⟩
    rw [w2.2.1 _ _ (by omega), q6.2.1, mi_of m, hA, an8 A (by omega), F1 2 (by omega)]
    unfold imV
    rw [if_neg (by omega), if_neg (by omega), if_pos rfl, hA]
  rintro ⟨⟨⟩, m3⟩ w3
  dsimp only at w3 ⊢
  unfold ml_X0_image_43
  refine pw_for (fun (i : Nat) (q : Int32 × gM) => q.1 = iI i ∧ vI F (3 + i) μ q.2) (ties m) ?_ ?_ ⟨rfl, w3⟩
  · rintro i ⟨y, m'⟩ hi ⟨rfl, w⟩
    dsimp only at w ⊢
    have ei : iI (i : Int) + (1 : Int32) = iI ((i + 1 : Nat) : Int) := by rw [iI_lit, iI_add]; rfl
    have hv : F (3 + i) = mi m 1051 (2 + i) := by
      rw [F1 _ (by omega)]
      unfold imV
      rw [if_neg (by omega), if_neg (by omega), if_neg (by omega), if_pos (by omega), show 2 + (3 + i - 3) = 2 + i by omega]
    have ht' := ht i (by omega)
    have fin : ∀ v : Int32, v &&& (255 : Int32) = iI (F (3 + i)) → pw (mj_X0_image_71 (iI i) v m') (Sum.elim (fun q => q.1 = iI ((i + 1 : Nat) : Int) ∧ vI F (3 + (i + 1)) μ q.2) (fun q => q.1 = iI ((3 + ties m + 2 * things m + 1 : Nat) : Int) ∧ vI F (3 + ties m + 2 * things m + 1) μ q.2)) := by
      intro v hv
      unfold mj_X0_image_71
      simp only [gz_let, ei]
      refine pw_bind (pw_mono (c_writes w (by omega) hv) ?_)
      rintro ⟨⟨⟩, m''⟩ w'
      dsimp only at w' ⊢
      exact pw_some ⟨rfl, by rw [show 3 + (i + 1) = 3 + i + 1 by omega]; exact w'⟩
    unfold mb_X0_image_43
    rw [c_ties (hh w)]
    simp only [Option.bind_some, eK]
    refine pw_f (by rw [iI_le (by omega) (by omega)]; omega) ?_
    rw [w.2.1 1027 3 (by omega), c_has m' (gI μ 1027 3) (by omega)]
    simp only [Option.bind_some]
    have hti : bt (gI μ 1027 3) i = decide (mi m 1051 (2 + i) = 1) := q6.2.2.1 i (by omega)
    by_cases z : mi m 1051 (2 + i) = 1
    · rw [if_pos (show bt (gI μ 1027 3) i = true by rw [hti]; exact decide_eq_true z)]
      refine pw_f n10 (fin 1 ?_)
      rw [hv, z]
      decide
    · rw [if_neg (show ¬ bt (gI μ 1027 3) i = true by rw [hti, decide_eq_false z]; exact Bool.false_ne_true)]
      refine pw_t rfl (fin 0 ?_)
      rw [hv, show mi m 1051 (2 + i) = 0 by omega]
      decide
  rintro ⟨y, m'⟩ ⟨rfl, w⟩
  dsimp only at w ⊢
  unfold mb_X0_image_43
  rw [c_ties (hh w)]
  simp only [Option.bind_some, eK]
  refine pw_t (by rw [iI_le (by omega) (by omega)]; omega) (pw_map ?_)
  unfold ml_X0_image_82
  refine pw_for (fun (i : Nat) (q : Int32 × gM) => q.1 = iI i ∧ vI F (3 + ties m + 2 * i) μ q.2) (things m) ?_ ?_ ⟨rfl, w⟩
  · rintro i ⟨y, m2⟩ hi ⟨rfl, w⟩
    dsimp only at w ⊢
    have ei : iI (i : Int) + (1 : Int32) = iI ((i + 1 : Nat) : Int) := by rw [iI_lit, iI_add]; rfl
    have gi : gz_ix (iI (i : Int)) = i := by rw [gix (by omega)]; omega
    obtain ⟨s1, s2, s3⟩ := q6.2.2.2.2 i (by omega)
    obtain ⟨o1, o2⟩ := q5.2.1 i (by omega)
    unfold mb_X0_image_82
    rw [c_things (hh w)]
    simp only [Option.bind_some, gz_let, gi, ei, eT]
    refine pw_f (by rw [iI_le (by omega) (by omega)]; omega) (pw_gu ((gin_iI (by omega)).2 (by omega)) (pw_bind (pw_mono (c_writes w (by omega) ?_) ?_)))
    · obtain ⟨A, hA⟩ : ∃ A : Nat, mi m 1051 (14 + 2 * i) = A := ⟨(mi m 1051 (14 + 2 * i)).toNat, by omega⟩
      rw [w.2.1 _ _ (by omega), show gI μ 1028 i = m.1 1051 (14 + 2 * i) from s1, mi_of m, hA, an8 A (by omega), F1 _ (by omega)]
      unfold imV
      rw [if_neg (by omega), if_neg (by omega), if_neg (by omega), if_neg (by omega), show 14 + (3 + ties m + 2 * i - 3 - ties m) = 14 + 2 * i by omega, hA]
    rintro ⟨⟨⟩, m''⟩ w'
    dsimp only at w' ⊢
    refine pw_gu ((gin_iI (by omega)).2 (by omega)) (pw_bind (pw_mono (c_writes w' (by omega) ?_) ?_))
    · obtain ⟨A, hA⟩ : ∃ A : Nat, mi m 1051 (15 + 2 * i) = A := ⟨(mi m 1051 (15 + 2 * i)).toNat, by omega⟩
      rw [w'.2.1 _ _ (by omega), show gI μ 1030 i = m.1 1051 (15 + 2 * i) from s2, mi_of m, hA, an8 A (by omega), F1 _ (by omega)]
      unfold imV
      rw [if_neg (by omega), if_neg (by omega), if_neg (by omega), if_neg (by omega), show 14 + (3 + ties m + 2 * i + 1 - 3 - ties m) = 15 + 2 * i by omega, hA]
    rintro ⟨⟨⟩, m''⟩ w'
    dsimp only at w' ⊢
    exact pw_some ⟨rfl, by rw [show 3 + ties m + 2 * (i + 1) = 3 + ties m + 2 * i + 1 + 1 by omega]; exact w'⟩
  rintro ⟨y, m2⟩ ⟨rfl, w⟩
  dsimp only at w ⊢
  unfold mb_X0_image_82
  rw [c_things (hh w)]
  simp only [Option.bind_some, eT]
  refine pw_t (by rw [iI_le (by omega) (by omega)]; omega) ?_
  have lay := w.1.lay q1
  obtain ⟨L1, L2, -⟩ := lay 2368 (by decide)
  rw [w.2.2.2.1, c_check (c0 := 2368) (n := 3 + ties m + 2 * things m) (f := imV m) (by rw [show gK m2 2368 = ks 2368 from L1]; decide) (by rw [show gN m2 2368 = ns 2368 from L2, show ns 2368 = 32 by decide]; omega) (by omega) (fun j hj => ⟨by rw [w.2.2.2.2 j hj, F1 j hj], imV_b hR ht hj⟩)]
  simp only [Option.bind_some]
  have hb := chkS_b (f := imV m) (3 + ties m + 2 * things m)
  obtain ⟨A, hA⟩ : ∃ A : Nat, chkS (imV m) (3 + ties m + 2 * things m) = A := ⟨(chkS (imV m) (3 + ties m + 2 * things m)).toNat, by omega⟩
  refine pw_bind (pw_mono (c_writes w (by omega) (by rw [F2, hA, an8 A (by omega)])) ?_)
  rintro ⟨⟨⟩, m''⟩ w'
  dsimp only at w' ⊢
  exact pw_some ⟨w'.2.2.2.1, w'⟩
theorem e_image {n : Nat} {m : MM} {μ : gM} (hW : rWd m μ) (hD : rDk n m μ) : eA n (mf_image m) (cf_X0_image μ) μ := by
  obtain ⟨l, h1, h2, h3, -⟩ := id hW
  have b7 := h1.2.1.1.2.1
  have b9 := h1.2.1.1.2.2.2.1
  have hT : things m ≤ 8 := by unfold things; omega
  have hK : ties m ≤ 12 := by unfold ties; omega
  obtain ⟨⟨r, m'⟩, e1, f1, f2⟩ := p_image h1 h3
  obtain ⟨⟨r', μ'⟩, e2, g1, g2⟩ := c_image h1 h3
  dsimp only at f1 f2 g1 g2
  subst f1 g1
  have hmD : mD m m' := ⟨fun c j k => f2.1 c j (by unfold dkM at k; omega), fun c j _ => by rw [f2.2.1]⟩
  obtain ⟨⟨a1, a2, a3, a4⟩, ⟨b1, b2⟩, r, ⟨d1, d2, d3⟩, ⟨e1', e2', e3', e4'⟩⟩ := hD
  have oM := f2.1
  have oC := g2.2.1
  refine ⟨_, m', μ', e1, e2, hW.dk hmD g2.1, ⟨⟨fun k hk => ?_, ?_, ?_, ?_⟩, ⟨?_, ?_⟩, fun k hk => ?_, ⟨?_, ?_, ?_⟩, ⟨?_, ?_, ?_, fun k hk => ?_⟩⟩, g2.1.2.2.1, g2.1.1, g2.1.2.1⟩
  · unfold mi; rw [oC _ _ (by omega), oM _ _ (by omega)]; exact a1 k hk
  · unfold ci mi; rw [oC _ _ (by omega), oM _ _ (by omega)]; exact a2
  · unfold mi; rw [oM _ _ (by omega)]; exact a3
  · unfold mi; rw [oM _ _ (by omega)]; exact a4
  · rw [oC _ _ (by omega), oM _ _ (by omega)]; exact b1
  · rw [oC _ _ (by omega), oM _ _ (by omega)]; exact b2
  · rw [oC _ _ (by omega), oM _ _ (by omega)]; exact r k hk
  · rw [g2.2.2.1, f2.2.1]; exact d1
  · unfold ml; rw [f2.2.1]; exact d2
  · unfold ml; rw [f2.2.1]; exact d3
  · rw [g2.2.2.2.1, f2.2.2.1]
  · unfold mi; rw [f2.2.2.1, toInt_iI (by omega) (by omega)]; omega
  · unfold mi; rw [f2.2.2.1, toInt_iI (by omega) (by omega)]; omega
  · unfold mi at hk
    rw [f2.2.2.1, toInt_iI (by omega) (by omega)] at hk
    rw [g2.2.2.2.2 k (by omega), f2.2.2.2 k (by omega)]
