/-! ===== the component keeps what went out ===== -/
theorem cSt_rows : (List.range 2400).all (fun x => !cSt x || (List.range 40).all (fun i => ks (x + 6 + i) == 101 && ns (x + 6 + i) == 3)) = true := by decide +kernel
theorem st_row {x r : Nat} (h : cSt x = true) (h1 : x + 6 ≤ r) (h2 : r < x + 46) : (ks r = 101 ∧ ns r = 3) ∧ 1000 ≤ r := by
  have a := List.all_eq_true.mp cSt_rows x (List.mem_range.mpr (cSt_lt h))
  rw [h] at a
  simp only [Bool.not_true, Bool.false_or] at a
  have b := List.all_eq_true.mp a (r - (x + 6)) (List.mem_range.mpr (by omega))
  simp only [Bool.and_eq_true, beq_iff_eq] at b
  rw [show x + 6 + (r - (x + 6)) = r by omega] at b
  exact ⟨b, by have := st_w h; omega⟩
theorem st_ks {x c : Nat} (h : cSt x = true) (h1 : x ≤ c) (h2 : c < x + 46) : ks c ≠ 0 := by
  by_cases q : x + 6 ≤ c
  · rw [(st_row h q h2).1.1]; decide
  · have h3 : c = x ∨ c = x + 1 ∨ c = x + 2 ∨ c = x + 3 ∨ c = x + 4 ∨ c = x + 5 := by omega
    rcases h3 with z | z | z | z | z | z <;> subst z
    · exact st_0 h
    · rw [(st_a1 h).1]; decide
    · rw [(st_a2 h).1]; decide
    · rw [(st_a3 h).1]; decide
    · rw [(st_a4 h).1]; decide
    · rw [(st_a5 h).1]; decide
def rowOK (μ : gM) (x : Nat) : Prop := ∀ i : Nat, i < 40 → (x + 6 ≤ gP μ (x + 5) i ∧ gP μ (x + 5) i < x + 46) ∧ ∀ j : Nat, j < 40 → gP μ (x + 5) i = gP μ (x + 5) j → i = j
def kC (l : List (Int × Int × Int)) (μ : gM) (x : Nat) : Prop := l.length ≤ 40 ∧ ci μ x 1 = l.length ∧ rowOK μ x ∧ ∀ i j : Nat, i < l.length → j < 3 → ci μ (gP μ (x + 5) i) j = e3 (l.getD i (0, 0, 0)) j
/-- but for what is kept in x all is as it was -/
def kF (x : Nat) (μ μ' : gM) : Prop := μ'.1 = μ.1 ∧ μ'.2.1 = μ.2.1 ∧ μ'.2.2.2.2.2 = μ.2.2.2.2.2 ∧ (∀ c j : Nat, gL μ' c j = gL μ c j) ∧ (∀ c j : Nat, ¬ ((c = x ∧ j = 1) ∨ (x + 6 ≤ c ∧ c < x + 46)) → gI μ' c j = gI μ c j) ∧ ∀ c j : Nat, c ≠ x + 5 → gP μ' c j = gP μ c j
theorem c_kept66 {μ : gM} {x : Nat} (hx : cSt x = true) {n : Nat} (hn : n < 40) (h1 : ci μ x 1 = n) (hr : rowOK μ x) (t how : Int32) : pw (mj_X5_tellsOf_66 x t how μ) (fun q => ci q.2 x 1 = n + 1 ∧ μ.1 = q.2.1 ∧ q.2 = gz_sI (gz_sI (gz_sI (gz_sI μ (gP μ (x + 5) n) 0 (gI μ x 0)) (gP μ (x + 5) n) 1 t) (gP μ (x + 5) n) 2 how) x 1 (iI (n + 1))) := by
  obtain ⟨⟨r1, r2⟩, -⟩ := hr n hn
  have hk := st_row hx r1 r2
  have e1 : gI μ x 1 = iI n := by rw [ci_of, h1]
  have g0 : gz_ix (0 : Int32) = 0 := by decide
  have g1 : gz_ix (1 : Int32) = 1 := by decide
  have g2 : gz_ix (2 : Int32) = 2 := by decide
  have gn : gz_ix (iI (n : Int)) = n := by rw [gix (by omega)]; omega
  have hne : ∀ c : Nat, gP μ (x + 5) n ≠ c → ¬ (x = c) ∨ True := fun _ _ => Or.inr trivial
  have f1 : ∀ (μ' : gM) (v : Int32) (k : Nat), gI (gz_sI μ' (gP μ (x + 5) n) k v) x 1 = gI μ' x 1 := fun μ' v k => by rw [sI_i, if_neg (by omega)]
  unfold mj_X5_tellsOf_66
  simp only [gz_let, g0, g1, g2, f1, e1, gn, sI_p]
  refine pw_gu ((gin_iI (by omega)).2 (by omega)) (pw_gu (by omega) (pw_gu hk (pw_gu (by decide) ?_)))
  refine pw_gu ((gin_iI (by omega)).2 (by omega)) (pw_gu (by omega) (pw_gu hk (pw_gu (by decide) ?_)))
  refine pw_gu ((gin_iI (by omega)).2 (by omega)) (pw_gu (by omega) (pw_gu hk (pw_gu (by decide) (pw_some ?_))))
  have e2 : iI (n : Int) + (1 : Int32) = iI (n + 1) := by rw [iI_lit, iI_add]
  rw [e2]
  refine ⟨?_, rfl, rfl⟩
  rw [ci_sI _ _ _ _ _ (by omega), if_pos ⟨rfl, rfl⟩]
theorem c_rot {μ : gM} {x : Nat} (hx : cSt x = true) (hr : rowOK μ x) {x1 x2 : Int32} {Q : (Unit × gM) → Prop} (hQ : ∀ μ' : gM, μ'.1 = μ.1 → μ'.2.1 = μ.2.1 → μ'.2.2.2.2.2 = μ.2.2.2.2.2 → (∀ c j : Nat, gL μ' c j = gL μ c j) → (∀ c j : Nat, gI μ' c j = gI μ c j) → (∀ c j : Nat, c ≠ x + 5 → gP μ' c j = gP μ c j) → (∀ i : Nat, i < 39 → gP μ' (x + 5) i = gP μ (x + 5) (i + 1)) → gP μ' (x + 5) 39 = gP μ (x + 5) 0 → pw (mj_X5_tellsOf_66 x x1 x2 (gz_sI μ' x 1 (gI μ x 1 - (1 : Int32)))) Q) : pw (ml_X5_tellsOf_19 x x1 x2 (gP μ (x + 5) 0) (1 : Int32) μ) Q := by
  have g39 : gz_ix (39 : Int32) = 39 := by decide
  unfold ml_X5_tellsOf_19
  refine pw_for (fun i q => q.1 = x1 ∧ q.2.1 = x2 ∧ q.2.2.1 = iI (1 + (i : Int)) ∧ q.2.2.2.1 = μ.1 ∧ q.2.2.2.2.1 = μ.2.1 ∧ q.2.2.2.2.2.2.2.2 = μ.2.2.2.2.2 ∧ (∀ c j : Nat, gL q.2.2.2 c j = gL μ c j) ∧ (∀ c j : Nat, gI q.2.2.2 c j = gI μ c j) ∧ (∀ c j : Nat, c ≠ x + 5 → gP q.2.2.2 c j = gP μ c j) ∧ ∀ k : Nat, gP q.2.2.2 (x + 5) k = if k < i then gP μ (x + 5) (k + 1) else gP μ (x + 5) k) 39 ?_ ?_ ⟨rfl, rfl, rfl, rfl, rfl, rfl, fun _ _ => rfl, fun _ _ => rfl, fun _ _ _ => rfl, fun k => by rw [if_neg (by omega)]⟩
  · rintro i ⟨y1, y2, y3, μ'⟩ hi ⟨rfl, rfl, rfl, h1, h2, h3, h4, h5, h6, h7⟩
    dsimp only at h1 h2 h3 h4 h5 h6 h7 ⊢
    have e1 : iI (1 + (i : Int)) + (1 : Int32) = iI (1 + ((i + 1 : Nat) : Int)) := by
      simp only [iI_lit, iI_add]
      exact congrArg iI (by omega)
    have e2 : iI (1 + (i : Int)) - (1 : Int32) = iI (i : Int) := by
      simp only [iI_lit, iI_sub]
      exact congrArg iI (by omega)
    have gi : gz_ix (iI (1 + (i : Int))) = 1 + i := by rw [gix (by omega)]; omega
    have gj : gz_ix (iI (i : Int)) = i := by rw [gix (by omega)]; omega
    obtain ⟨⟨r1, r2⟩, -⟩ := hr (1 + i) (by omega)
    have er : gP μ' (x + 5) (1 + i) = gP μ (x + 5) (1 + i) := by rw [h7, if_neg (by omega)]
    unfold mb_X5_tellsOf_19
    refine pw_f (by rw [iI_lit, iI_le (by omega) (by omega)]; omega) ?_
    simp only [gz_let, e1, e2, gi, gj, er]
    refine pw_gu ((gin_iI (by omega)).2 (by omega)) (pw_gu (by omega) (pw_gu ((gin_iI (by omega)).2 (by omega)) (pw_gu ⟨by omega, (st_row hx r1 r2).1.1⟩ (pw_some ?_))))
    refine ⟨rfl, rfl, rfl, h1, h2, h3, h4, h5, fun c j hc => ?_, fun k => ?_⟩
    · show gP (gz_sP μ' (x + 5) i (gP μ (x + 5) (1 + i))) c j = _
      rw [sP_p, if_neg (fun q => hc q.1)]
      exact h6 c j hc
    · show gP (gz_sP μ' (x + 5) i (gP μ (x + 5) (1 + i))) (x + 5) k = _
      rw [sP_p]
      by_cases q : k = i
      · rw [if_pos ⟨rfl, q⟩, if_pos (by omega), q, Nat.add_comm 1 i]
      · rw [if_neg (fun z => q z.2), h7]
        by_cases q2 : k < i
        · rw [if_pos q2, if_pos (by omega)]
        · rw [if_neg q2, if_neg (by omega)]
  · rintro ⟨y1, y2, y3, μ'⟩ ⟨rfl, rfl, rfl, h1, h2, h3, h4, h5, h6, h7⟩
    dsimp only at h1 h2 h3 h4 h5 h6 h7 ⊢
    obtain ⟨⟨r1, r2⟩, -⟩ := hr 0 (by omega)
    unfold mb_X5_tellsOf_19
    refine pw_t (by rw [iI_lit, iI_le (by omega) (by omega)]; omega) ?_
    simp only [gz_let, g39]
    refine pw_gu (by decide) (pw_gu ⟨by omega, (st_row hx r1 r2).1.1⟩ (pw_map ?_))
    have e : gI (gz_sP μ' (x + 5) 39 (gP μ (x + 5) 0)) x 1 = gI μ x 1 := h5 x 1
    rw [e]
    refine pw_mono (hQ (gz_sP μ' (x + 5) 39 (gP μ (x + 5) 0)) h1 h2 h3 h4 h5 (fun c j hc => ?_) (fun i hi => ?_) ?_) (fun _ h => h)
    · rw [sP_p, if_neg (fun q => hc q.1)]
      exact h6 c j hc
    · rw [sP_p, if_neg (fun q => by omega), h7, if_pos hi]
    · rw [sP_p, if_pos ⟨rfl, rfl⟩]
theorem c_tellsOf {μ : gM} {x : Nat} (hx : cSt x = true) {l : List (Int × Int × Int)} (hk : kC l μ x) {t how : Int} (ht : -2147483648 ≤ t ∧ t < 2147483648) (hh : -2147483648 ≤ how ∧ how < 2147483648) : pw (cf_X5_tellsOf x (iI t) (iI how) μ) (fun q => kC (keepS l (ci μ x 0, t, how)) q.2 x ∧ kF x μ q.2) := by
  obtain ⟨k1, k2, k3, k4⟩ := hk
  have hl := keepS_len k1 (ci μ x 0, t, how)
  have g0 : gz_ix (0 : Int32) = 0 := by decide
  have h0r := ci_r μ x 0
  unfold cf_X5_tellsOf
  by_cases q : l.length = 40
  · refine pw_t (by rw [ci_of, k2, q]; rfl) ?_
    obtain ⟨⟨r1, r2⟩, -⟩ := k3 0 (by omega)
    simp only [gz_let, g0]
    refine pw_gu (by decide) (pw_gu (by omega) ?_)
    refine c_rot hx k3 fun μ' h1 h2 h3 h4 h5 h6 h7 h8 => ?_
    have hR' : ∀ i : Nat, i < 40 → gP μ' (x + 5) i = gP μ (x + 5) (if i = 39 then 0 else i + 1) := by
      intro i hi
      by_cases z : i = 39
      · rw [if_pos z, z]; exact h8
      · rw [if_neg z]; exact h7 i (by omega)
    have hrow : rowOK μ' x := by
      intro i hi
      rw [hR' i hi]
      refine ⟨(k3 _ (by split <;> omega)).1, fun j hj e => ?_⟩
      rw [hR' j hj] at e
      have := (k3 _ (by split <;> omega)).2 _ (by split <;> omega) e
      split at this <;> split at this <;> omega
    have e40 : gI μ x 1 - (1 : Int32) = iI 39 := by rw [ci_of, k2, q, iI_lit, iI_sub]; rfl
    rw [e40]
    have hrow2 : rowOK (gz_sI μ' x 1 (iI 39)) x := hrow
    refine pw_mono (c_kept66 hx (n := 39) (by omega) (by rw [ci_sI _ _ _ _ _ (by omega), if_pos ⟨rfl, rfl⟩]; rfl) hrow2 (iI t) (iI how)) ?_
    rintro ⟨u, μ9⟩ ⟨a1, a2, a3⟩
    dsimp only at a1 a2 a3 ⊢
    have hR : gP (gz_sI μ' x 1 (iI 39)) (x + 5) 39 = gP μ' (x + 5) 39 := rfl
    rw [hR] at a3
    obtain ⟨⟨s1, s2⟩, s3⟩ := hrow 39 (by omega)
    generalize hw : gP μ' (x + 5) 39 = w at a3 s1 s2 s3
    have hP : ∀ c j : Nat, gP μ9 c j = gP μ' c j := by rw [a3]; exact fun _ _ => rfl
    have hI : ∀ c j : Nat, gI μ9 c j = if c = x ∧ j = 1 then iI (39 + 1) else if c = w ∧ j = 2 then iI how else if c = w ∧ j = 1 then iI t else if c = w ∧ j = 0 then gI μ x 0 else if c = x ∧ j = 1 then iI 39 else gI μ c j := by
      intro c j
      have : gI (gz_sI μ' x 1 (iI 39)) x 0 = gI μ x 0 := by rw [sI_i, if_neg (by omega), h5]
      rw [a3, this, ← h5 c j]
      rfl
    refine ⟨⟨hl.1, ?_, fun i hi => ?_, fun i j hi hj => ?_⟩, by rw [a3]; exact h1, by rw [a3]; exact h2, by rw [a3]; exact h3, by rw [a3]; exact h4, fun c j hc => ?_, fun c j hc => ?_⟩
    · rw [a1, hl.2, if_pos q]
      rfl
    · rw [hP]
      refine ⟨(hrow i hi).1, fun j hj e => (hrow i hi).2 j hj ?_⟩
      rw [hP] at e
      exact e
    · rw [hl.2, if_pos q] at hi
      rw [keepS_40 q hi, hP]
      unfold ci
      rw [hI]
      by_cases q9 : i = 39
      · rw [if_pos q9, q9, hw]
        have hj3 : j = 0 ∨ j = 1 ∨ j = 2 := by omega
        rcases hj3 with z | z | z <;> subst z
        · rw [if_neg (by omega), if_neg (by omega), if_neg (by omega), if_pos ⟨rfl, rfl⟩]
          rfl
        · rw [if_neg (by omega), if_neg (by omega), if_pos ⟨rfl, rfl⟩]
          exact toInt_iI (by omega) (by omega)
        · rw [if_neg (by omega), if_pos ⟨rfl, rfl⟩]
          exact toInt_iI (by omega) (by omega)
      · have hne : gP μ' (x + 5) i ≠ w := fun e => q9 (s3 i hi e.symm).symm
        have hb := (hrow i hi).1
        rw [if_neg q9, if_neg (by omega), if_neg (fun z => hne z.1), if_neg (fun z => hne z.1), if_neg (fun z => hne z.1), if_neg (by omega), h7 i (by omega)]
        exact k4 (i + 1) j (by omega) hj
    · rw [hI, if_neg (by omega), if_neg (by omega), if_neg (by omega), if_neg (by omega), if_neg (by omega)]
    · rw [hP]
      exact h6 c j hc
  · refine pw_f (by rw [ci_of, k2, iI_lit, iI_eq (by omega) (by omega)]; omega) ?_
    refine pw_mono (c_kept66 hx (n := l.length) (by omega) k2 k3 (iI t) (iI how)) ?_
    rintro ⟨u, μ9⟩ ⟨a1, a2, a3⟩
    dsimp only at a1 a2 a3 ⊢
    obtain ⟨⟨s1, s2⟩, s3⟩ := k3 l.length (by omega)
    generalize hw : gP μ (x + 5) l.length = w at a3 s1 s2 s3
    have hP : ∀ c j : Nat, gP μ9 c j = gP μ c j := by rw [a3]; exact fun _ _ => rfl
    have hI : ∀ c j : Nat, gI μ9 c j = if c = x ∧ j = 1 then iI (l.length + 1) else if c = w ∧ j = 2 then iI how else if c = w ∧ j = 1 then iI t else if c = w ∧ j = 0 then gI μ x 0 else gI μ c j := by
      intro c j
      rw [a3]
      rfl
    refine ⟨⟨hl.1, ?_, fun i hi => ?_, fun i j hi hj => ?_⟩, by rw [a3]; rfl, by rw [a3]; rfl, by rw [a3]; rfl, by rw [a3]; exact fun _ _ => rfl, fun c j hc => ?_, fun c j hc => ?_⟩
    · rw [a1, hl.2, if_neg q]
      rfl
    · rw [hP]
      refine ⟨(k3 i hi).1, fun j hj e => (k3 i hi).2 j hj ?_⟩
      rw [hP] at e
      exact e
    · rw [hl.2, if_neg q] at hi
      rw [keepS_lt (by omega) (by omega), hP]
      unfold ci
      rw [hI]
      by_cases q9 : i = l.length
      · rw [if_pos q9, q9, hw]
        have hj3 : j = 0 ∨ j = 1 ∨ j = 2 := by omega
        rcases hj3 with z | z | z <;> subst z
        · rw [if_neg (by omega), if_neg (by omega), if_neg (by omega), if_pos ⟨rfl, rfl⟩]
          rfl
        · rw [if_neg (by omega), if_neg (by omega), if_pos ⟨rfl, rfl⟩]
          exact toInt_iI (by omega) (by omega)
        · rw [if_neg (by omega), if_pos ⟨rfl, rfl⟩]
          exact toInt_iI (by omega) (by omega)
      · have hne : gP μ (x + 5) i ≠ w := fun e => q9 (s3 i (by omega) e.symm).symm
        have hb := (k3 i (by omega)).1
        rw [if_neg q9, if_neg (by omega), if_neg (fun z => hne z.1), if_neg (fun z => hne z.1), if_neg (fun z => hne z.1)]
        exact k4 i j (by omega) hj
    · rw [hI, if_neg (by omega), if_neg (by omega), if_neg (by omega), if_neg (by omega)]
    · rw [hP]
