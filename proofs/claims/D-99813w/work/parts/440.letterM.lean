/-! ===== the letters of a name ===== -/
def nv (f : Nat → Int) : Nat → Int
  | 0 => 0
  | k + 1 => 27 * nv f k + (f k - 96)
theorem nv_s (f : Nat → Int) : ∀ k : Nat, nv f (k + 1) = nv (fun i => f (i + 1)) k + (f 0 - 96) * 27 ^ k
  | 0 => by
    show 27 * 0 + (f 0 - 96) = 0 + (f 0 - 96) * 1
    omega
  | k + 1 => by
    have ih := nv_s f k
    have e : (f 0 - 96) * 27 ^ (k + 1) = ((f 0 - 96) * 27 ^ k) * 27 := by rw [Int.pow_succ, ← Int.mul_assoc]
    rw [e]
    show 27 * nv f (k + 1) + (f (k + 1) - 96) = (27 * nv (fun i => f (i + 1)) k + (f (k + 1) - 96)) + _
    rw [ih]
    omega
theorem nmV_nv : ∀ w : List Int, nmV w = nv (fun i => w.getD i 0) w.length
  | [] => rfl
  | c :: w => by
    show nmV w + (c - 96) * 27 ^ w.length = nv (fun i => (c :: w).getD i 0) (w.length + 1)
    rw [nv_s, nmV_nv w]
    rfl
theorem nv_b {f : Nat → Int} : ∀ k : Nat, (∀ i : Nat, i < k → 97 ≤ f i ∧ f i ≤ 122) → 0 ≤ nv f k ∧ (0 < k → 1 ≤ nv f k) ∧ nv f k < 27 ^ k
  | 0, _ => ⟨Int.le_refl _, fun h => absurd h (Nat.lt_irrefl _), show (0 : Int) < 1 by decide⟩
  | k + 1, h => by
    obtain ⟨h1, h2, h3⟩ := nv_b k (fun i hi => h i (by omega))
    have hk := h k (by omega)
    have e : (27 : Int) ^ (k + 1) = 27 ^ k * 27 := Int.pow_succ _ _
    show 0 ≤ 27 * nv f k + (f k - 96) ∧ (0 < k + 1 → 1 ≤ 27 * nv f k + (f k - 96)) ∧ 27 * nv f k + (f k - 96) < _
    rw [e]
    omega
theorem nv_div {f : Nat → Int} {k : Nat} (h : 97 ≤ f k ∧ f k ≤ 122) : nv f (k + 1) / 27 = nv f k ∧ nv f (k + 1) % 27 = f k - 96 := by
  show (27 * nv f k + (f k - 96)) / 27 = nv f k ∧ (27 * nv f k + (f k - 96)) % 27 = f k - 96
  omega
theorem pow27 : ∀ k : Nat, k ≤ 6 → (27 : Int) ^ k ≤ 387420489 := by decide +kernel
/-- the second loop: down to the letter asked for -/
theorem p_let103 {f : Nat → Int} {L x : Nat} (hf : ∀ i : Nat, i < L → 97 ≤ f i ∧ f i ≤ 122) (hL : L ≤ 6) (hx : x < L) (m : MM) : ml_X6_letter_103 (iI x) (lL (nv f L)) (iI ((L - 1 : Nat) : Int)) m = some (iI (f x - 96), m) := by
  have key : pw (ml_X6_letter_103 (iI x) (lL (nv f L)) (iI ((L - 1 : Nat) : Int)) m) (fun q => q = (iI (f x - 96), m)) := by
    unfold ml_X6_letter_103
    refine pw_for (fun (i : Nat) (q : Int32 × Int64 × Int32 × MM) => q.1 = iI x ∧ q.2.1 = lL (nv f (L - i)) ∧ q.2.2.1 = iI ((L - 1 - i : Nat) : Int) ∧ q.2.2.2 = m) (L - 1 - x) ?_ ?_ ⟨rfl, rfl, rfl, rfl⟩
    · rintro i ⟨q1, q2, q3, m'⟩ hi hq0
      dsimp only at hq0
      obtain ⟨rfl, rfl, rfl, rfl⟩ := hq0
      obtain ⟨k, hk⟩ : ∃ k : Nat, L - i = k + 1 := ⟨L - i - 1, by omega⟩
      have hb := nv_b (f := f) (L - i) (fun j hj => hf j (by omega))
      have hp := pow27 (L - i) (by omega)
      have hd := nv_div (f := f) (k := k) (hf k (by omega))
      dsimp only
      unfold mb_X6_letter_103
      refine pw_f (by rw [iI_le (by omega) (by omega)]; omega) (pw_let (pw_let (pw_some ⟨rfl, ?_, ?_, rfl⟩)))
      · show lL (nv f (L - i)) / (27 : Int64) = lL (nv f (L - (i + 1)))
        rw [show (27 : Int64) = lL 27 from rfl, lL_divn (by omega) (by omega), hk, hd.1]
        exact congrArg (fun z => lL (nv f z)) (by omega)
      · show iI ((L - 1 - i : Nat) : Int) + (-1 : Int32) = _
        rw [show (-1 : Int32) = iI (-1) by decide, iI_add]
        exact congrArg iI (by omega)
    · rintro ⟨q1, q2, q3, m'⟩ hq0
      dsimp only at hq0
      obtain ⟨rfl, rfl, rfl, rfl⟩ := hq0
      have e1 : L - (L - 1 - x) = x + 1 := by omega
      have hb := nv_b (f := f) (x + 1) (fun j hj => hf j (by omega))
      have hp := pow27 (x + 1) (by omega)
      have hd := nv_div (f := f) (k := x) (hf x hx)
      have hfx := hf x hx
      dsimp only
      unfold mb_X6_letter_103
      rw [e1]
      refine pw_t (by rw [iI_le (by omega) (by omega)]; omega) (pw_some ?_)
      show ((lL (nv f (x + 1)) - lL (nv f (x + 1)) / (27 : Int64) * (27 : Int64)).toInt32, m') = _
      rw [show (27 : Int64) = lL 27 from rfl, lL_remn (by omega) (by omega), hd.2, l2i_lL (by omega)]
  obtain ⟨q, e, rfl⟩ := key
  exact e
/-- the letter at place x of the name with L letters -/
theorem p_let68 {f : Nat → Int} {L x : Nat} (hf : ∀ i : Nat, i < L → 97 ≤ f i ∧ f i ≤ 122) (hL : L ≤ 6) (hx : x ≤ 5) (m : MM) : ml_X6_letter_68 (iI x) (lL (nv f L)) (0 : Int32) (lL (nv f L)) m = some (iI (if x < L then f x - 96 else 0), m) := by
  have key : pw (ml_X6_letter_68 (iI x) (lL (nv f L)) (0 : Int32) (lL (nv f L)) m) (fun q => q = (iI (if x < L then f x - 96 else 0), m)) := by
    unfold ml_X6_letter_68
    refine pw_for (fun (i : Nat) (q : Int32 × Int64 × Int32 × Int64 × MM) => q.1 = iI x ∧ q.2.1 = lL (nv f L) ∧ q.2.2.1 = iI (i : Int) ∧ q.2.2.2.1 = lL (nv f (L - i)) ∧ q.2.2.2.2 = m) L ?_ ?_ ⟨rfl, rfl, rfl, rfl, rfl⟩
    · rintro i ⟨q1, q2, q3, q4, m'⟩ hi hq0
      dsimp only at hq0
      obtain ⟨rfl, rfl, rfl, rfl, rfl⟩ := hq0
      obtain ⟨k, hk⟩ : ∃ k : Nat, L - i = k + 1 := ⟨L - i - 1, by omega⟩
      have hb := nv_b (f := f) (L - i) (fun j hj => hf j (by omega))
      have hb1 := hb.2.1 (by omega)
      have hp := pow27 (L - i) (by omega)
      have hd := nv_div (f := f) (k := k) (hf k (by omega))
      dsimp only
      unfold mb_X6_letter_68
      refine pw_f (by rw [show (0 : Int64) = lL 0 from rfl, lL_le (by omega) (by omega)]; omega) (pw_let (pw_let (pw_some ⟨rfl, rfl, ?_, ?_, rfl⟩)))
      · show iI (i : Int) + (1 : Int32) = _
        rw [iI_lit, iI_add]
        rfl
      · show lL (nv f (L - i)) / (27 : Int64) = lL (nv f (L - (i + 1)))
        rw [show (27 : Int64) = lL 27 from rfl, lL_divn (by omega) (by omega), hk, hd.1]
        exact congrArg (fun z => lL (nv f z)) (by omega)
    · rintro ⟨q1, q2, q3, q4, m'⟩ hq0
      dsimp only at hq0
      obtain ⟨rfl, rfl, rfl, rfl, rfl⟩ := hq0
      dsimp only
      unfold mb_X6_letter_68
      rw [show L - L = 0 by omega]
      refine pw_t (show lL 0 ≤ (0 : Int64) by decide) ?_
      by_cases h : x < L
      · refine pw_t (by rw [iI_lt (by omega) (by omega)]; omega) (pw_let (pw_map ?_))
        rw [show iI (L : Int) - (1 : Int32) = iI ((L - 1 : Nat) : Int) by rw [iI_lit, iI_sub]; exact congrArg iI (by omega), p_let103 hf hL h, if_pos h]
        exact pw_some rfl
      · refine pw_f (by rw [iI_lt (by omega) (by omega)]; omega) (pw_some ?_)
        rw [if_neg h]
        rfl
  obtain ⟨q, e, rfl⟩ := key
  exact e
