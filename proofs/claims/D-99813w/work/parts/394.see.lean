/-! ===== the tape is taken; rows that are seen ===== -/
theorem pw_for2e {S T R R' : Type} {f : S → Option (S ⊕ R)} {g : T → Option (T ⊕ R')} {Q : R → R' → Prop} (I : Nat → S → T → Prop) (n : Nat) (hstep : ∀ (i : Nat) (s : S) (t : T), i < n → I i s t → (∃ (s' : S) (t' : T), f s = some (Sum.inl s') ∧ g t = some (Sum.inl t') ∧ I (i + 1) s' t') ∨ ∃ (r : R) (r' : R'), f s = some (Sum.inr r) ∧ g t = some (Sum.inr r') ∧ Q r r') (hend : ∀ (s : S) (t : T), I n s t → ∃ (r : R) (r' : R'), f s = some (Sum.inr r) ∧ g t = some (Sum.inr r') ∧ Q r r') {s : S} {t : T} (h0 : I 0 s t) : ∃ (r : R) (r' : R'), gz_loop f s = some r ∧ gz_loop g t = some r' ∧ Q r r' := by
  have key : ∀ (k i : Nat) (s : S) (t : T), i + k = n → I i s t → ∃ (r : R) (r' : R'), gz_loop f s = some r ∧ gz_loop g t = some r' ∧ Q r r' := by
    intro k
    induction k with
    | zero =>
      intro i s t hi h
      have hi : i = n := hi
      subst hi
      obtain ⟨r, r', e1, e2, q⟩ := hend s t h
      exact ⟨r, r', gz_loop_out e1, gz_loop_out e2, q⟩
    | succ k ih =>
      intro i s t hi h
      rcases hstep i s t (by omega) h with ⟨s', t', e1, e2, q⟩ | ⟨r, r', e1, e2, q⟩
      · rw [gz_loop_in e1, gz_loop_in e2]
        exact ih (i + 1) s' t' (by omega) q
      · exact ⟨r, r', gz_loop_out e1, gz_loop_out e2, q⟩
  exact key n 0 s t (by omega) h0
theorem rDk.take {n : Nat} {m : MM} {μ : gM} (h : rDk n m μ) : rDk n (msI m 2000 1 (0 : Int32)) (gz_sI μ 1000 2 (0 : Int32)) := by
  obtain ⟨⟨a1, a2, a3, a4⟩, ⟨b1, b2⟩, c, ⟨d1, d2, d3⟩, ⟨e1, e2, e3, e4⟩⟩ := h
  have z0 : (0 : Int32) = iI 0 := rfl
  refine ⟨⟨fun k hk => ?_, ?_, ?_, ?_⟩, ⟨?_, ?_⟩, fun k hk => ?_, ⟨d1, d2, d3⟩, ⟨?_, ?_, ?_, fun k hk => ?_⟩⟩
  · unfold mi; rw [sI_i, if_neg (by omega), msI_i, if_neg (by omega)]; exact a1 k hk
  · rw [z0, ci_sI _ _ _ _ _ (by omega), if_pos ⟨rfl, rfl⟩, mi_sI _ _ _ _ _ (by omega), if_pos ⟨rfl, rfl⟩]
  · rw [z0, mi_sI _ _ _ _ _ (by omega), if_pos ⟨rfl, rfl⟩]; omega
  · rw [z0, mi_sI _ _ _ _ _ (by omega), if_pos ⟨rfl, rfl⟩]; omega
  · rw [sI_i, if_neg (by omega), msI_i, if_neg (by omega)]; exact b1
  · rw [sI_i, if_neg (by omega), msI_i, if_neg (by omega)]; exact b2
  · rw [sI_i, if_neg (by omega), msI_i, if_neg (by omega)]; exact c k hk
  · rw [sI_i, if_neg (by omega), msI_i, if_neg (by omega)]; exact e1
  · rw [z0, mi_sI _ _ _ _ _ (by omega), if_neg (by omega)]; exact e2
  · rw [z0, mi_sI _ _ _ _ _ (by omega), if_neg (by omega)]; exact e3
  · rw [z0, mi_sI _ _ _ _ _ (by omega), if_neg (by omega)] at hk
    rw [sI_i, if_neg (by omega), msI_i, if_neg (by omega)]
    exact e4 k hk
theorem rWd.gen {m m' : MM} {μ μ' : gM} (h : rWd m μ) (hs : sE m m') (hM : ∀ c j : Nat, (c = 1051 ∨ c = 1068 ∨ (c = 2000 ∧ (j = 56 ∨ j = 68 ∨ j = 69))) → m'.1 c j = m.1 c j) (hw : wdE m m') (hd : dyS μ μ') (hC : ∀ c j : Nat, (1018 ≤ c ∧ c < 1073) ∨ (1448 ≤ c ∧ c < 2368) ∨ (c = 1000 ∧ j = 23) → gI μ' c j = gI μ c j) (hP : ∀ c j : Nat, gP μ' c j = gP μ c j) (hR : rRows m' μ') : rWd m' μ' := by
  obtain ⟨l, h1, h2, h3, h4, h5⟩ := h
  obtain ⟨q1, q2, q3, q4, q5, q6, q7, q8, q9, q10, q11, q12, q13⟩ := h1
  have hh := hhE.of hs
  have e52 : m'.1 2000 52 = m.1 2000 52 := hs _ _ (by unfold kyC; omega)
  have e53 : m'.1 2000 53 = m.1 2000 53 := hs _ _ (by unfold kyC; omega)
  have e56 : m'.1 2000 56 = m.1 2000 56 := hM _ _ (by omega)
  have hP0 : gP μ' 1000 0 = gP μ 1000 0 := hP _ _
  have hb := q2.1.2.2.2.1
  have lay : cLay μ' := by
    have hPP : μ'.2.2.2.2.1 = μ.2.2.2.2.1 := funext fun c => funext fun j => hP c j
    unfold cLay
    rw [hd.1, hd.2.1, hPP]
    exact q1
  refine ⟨l, ⟨lay, q2.mv hh hd hP0, q3.mv q2 hh hd hP0, hh.cO q4, hs.oN q5, ?_, q7.sc (fun j _ => hM _ _ (by omega)), ?_, q9.o (fun j => hP _ _), by rw [hs.n (by omega)]; exact q10, by rw [hs.n (by omega)]; exact q11, e52.trans q12, e56.trans q13⟩, fun a b ha hb => ?_, fun k hk => ?_, hR, ?_, h5.2.mv hh hw hd hP0⟩
  · exact q6.sc q2.1 (fun j => hh _ _ (by omega)) (fun j _ => hM _ _ (by omega)) (fun t => hs.heat t) (fun c j a b => hC c j (by omega))
  · exact q8.sc (hC _ _ (by omega)) (fun j => hP _ _) (fun c j a b => hC c j (by omega))
  · unfold ci
    rw [hh.at (by omega), hC _ _ (by omega)]
    exact h2 a b ha hb
  · rw [hh.at (by omega)] at hk
    rw [hs.n (by omega)]
    exact h3 k hk
  · exact h5.1.mv q2.1 hh (fun j => hM _ _ (by omega)) (hM _ _ (by omega)) (hM _ _ (by omega)) q12 (e52.trans q12) (by unfold mi; rw [e53]; exact q5.2.2.1) (hC _ _ (by omega)) (fun c j a b => hC _ _ (by omega)) (fun c j _ => hP _ _)
theorem c_byte {n : Nat} {m : MM} {μ : gM} (h : rTape n m μ) {k : Nat} (hk : k < 1600) : cf_X0_byteAt (iI k) μ = some (m.1 1001 k, μ) := by
  have gk : gz_ix (iI (k : Int)) = k := by rw [gix (by omega)]; omega
  unfold cf_X0_byteAt
  rw [if_pos ((gin_iI (by omega)).2 (by omega)), gk, (h.1 k hk).1.1]
/-- what a row of the tape must be -/
def rwOK (m : MM) (i : Nat) : Prop := mi m 1001 (3 * i) ≤ 30 ∧ mi m 1001 (3 * i + 1) < mi m 1038 7 ∧ mi m 1001 (3 * i + 2) ≤ 99
theorem p_rows {m : MM} {N : Nat} (hN : N ≤ 16) : pw (ml_X6_see_109 (iI ((3 * N : Nat) : Int)) (0 : Int32) m) (fun q => q.1 = iI N ∧ (∀ c j : Nat, q.2.1 c j = if c = 2000 ∧ j = 64 then iI N else if c = 1066 ∧ j < 3 * N then m.1 1001 j else m.1 c j) ∧ q.2.2 = m.2) := by
  unfold ml_X6_see_109
  refine pw_for (fun (i : Nat) (q : Int32 × Int32 × MM) => q.1 = iI ((3 * N : Nat) : Int) ∧ q.2.1 = iI i ∧ (∀ c j : Nat, q.2.2.1 c j = if c = 1066 ∧ j < i then m.1 1001 j else m.1 c j) ∧ q.2.2.2 = m.2) (3 * N) ?_ ?_ ⟨rfl, rfl, fun c j => by dsimp only; rw [if_neg (by omega)], rfl⟩
  · rintro i ⟨q1, q2, m'⟩ hi ⟨rfl, rfl, k1, k2⟩
    dsimp only at k1 k2 ⊢
    have gi : gz_ix (iI (i : Int)) = i := by rw [gix (by omega)]; omega
    have ei : iI (i : Int) + (1 : Int32) = iI ((i + 1 : Nat) : Int) := by rw [iI_lit, iI_add]; rfl
    unfold mb_X6_see_109
    rw [gi, ei]
    simp only [gz_let]
    refine pw_f (by rw [iI_le (by omega) (by omega)]; omega) (pw_gu ((gin_iI (by omega)).2 (by omega)) (pw_gu ((gin_iI (by omega)).2 (by omega)) (pw_some ⟨rfl, rfl, fun c j => ?_, k2⟩)))
    show (msI m' 1066 i (m'.1 1001 i)).1 c j = _
    rw [msI_i]
    by_cases q : c = 1066 ∧ j = i
    · rw [if_pos q, if_pos (by omega), k1, if_neg (by omega), q.2]
    · rw [if_neg q, k1]
      by_cases q2 : c = 1066 ∧ j < i
      · rw [if_pos q2, if_pos (by omega)]
      · rw [if_neg q2, if_neg (show ¬ (c = 1066 ∧ j < i + 1) by omega)]
  · rintro ⟨q1, q2, m'⟩ ⟨rfl, rfl, k1, k2⟩
    dsimp only at k1 k2 ⊢
    have e3 : iI ((3 * N : Nat) : Int) / (3 : Int32) = iI N := by
      rw [iI_lit, iI_divn (by omega) (by omega)]
      exact congrArg iI (by omega)
    unfold mb_X6_see_109
    rw [e3]
    simp only [gz_let]
    refine pw_t (by rw [iI_le (by omega) (by omega)]; omega) (pw_some ⟨?_, fun c j => ?_, k2⟩)
    · show (msI m' 2000 64 (iI N)).1 2000 64 = _
      rw [msI_i, if_pos ⟨rfl, rfl⟩]
    · show (msI m' 2000 64 (iI N)).1 c j = _
      rw [msI_i, k1]
theorem c_rows {n : Nat} {m : MM} {μ : gM} (hT : rTape n m μ) {N : Nat} (hN : N ≤ 16) (h20 : gI μ 1000 20 = iI N) : pw (ml_X0_see_105 (0 : Int32) μ) (fun q => q.1 = iI N ∧ (∀ c j : Nat, ¬ (1123 ≤ c ∧ c < 1126) → gI q.2 c j = gI μ c j) ∧ (∀ k : Nat, k < N → gI q.2 1123 k = m.1 1001 (3 * k) ∧ gI q.2 1124 k = m.1 1001 (3 * k + 1) ∧ gI q.2 1125 k = m.1 1001 (3 * k + 2)) ∧ q.2.1 = μ.1 ∧ q.2.2.1 = μ.2.1 ∧ q.2.2.2.2.2.2 = μ.2.2.2.2.2 ∧ (∀ c j : Nat, gL q.2 c j = gL μ c j) ∧ ∀ c j : Nat, gP q.2 c j = gP μ c j) := by
  unfold ml_X0_see_105
  refine pw_for (fun (i : Nat) (q : Int32 × gM) => q.1 = iI i ∧ (∀ c j : Nat, ¬ (1123 ≤ c ∧ c < 1126) → gI q.2 c j = gI μ c j) ∧ (∀ k : Nat, k < i → gI q.2 1123 k = m.1 1001 (3 * k) ∧ gI q.2 1124 k = m.1 1001 (3 * k + 1) ∧ gI q.2 1125 k = m.1 1001 (3 * k + 2)) ∧ q.2.1 = μ.1 ∧ q.2.2.1 = μ.2.1 ∧ q.2.2.2.2.2.2 = μ.2.2.2.2.2 ∧ (∀ c j : Nat, gL q.2 c j = gL μ c j) ∧ ∀ c j : Nat, gP q.2 c j = gP μ c j) N ?_ ?_ ⟨rfl, fun _ _ _ => rfl, fun k hk => absurd hk (Nat.not_lt_zero _), rfl, rfl, rfl, fun _ _ => rfl, fun _ _ => rfl⟩
  · rintro i ⟨q1, μ'⟩ hi ⟨rfl, k1, k2, k3, k4, k5, k6, k7⟩
    dsimp only at k1 k2 k3 k4 k5 k6 k7 ⊢
    have gi : gz_ix (iI (i : Int)) = i := by rw [gix (by omega)]; omega
    have ei : iI (i : Int) + (1 : Int32) = iI ((i + 1 : Nat) : Int) := by rw [iI_lit, iI_add]; rfl
    have a0 : (3 : Int32) * iI (i : Int) = iI ((3 * i : Nat) : Int) := by rw [iI_lit, iI_mul]; exact congrArg iI (by omega)
    have a1 : iI ((3 * i : Nat) : Int) + (1 : Int32) = iI ((3 * i + 1 : Nat) : Int) := by rw [iI_lit, iI_add]; exact congrArg iI (by omega)
    have a2 : iI ((3 * i : Nat) : Int) + (2 : Int32) = iI ((3 * i + 2 : Nat) : Int) := by rw [iI_lit, iI_add]; exact congrArg iI (by omega)
    have tp : ∀ μ'' : gM, (∀ j : Nat, gI μ'' 1010 j = gI μ 1010 j) → ∀ k : Nat, k < 1600 → cf_X0_byteAt (iI k) μ'' = some (m.1 1001 k, μ'') := by
      intro μ'' h k hk
      have gk : gz_ix (iI (k : Int)) = k := by rw [gix (by omega)]; omega
      unfold cf_X0_byteAt
      rw [if_pos ((gin_iI (by omega)).2 (by omega)), gk, h, (hT.1 k hk).1.1]
    unfold mb_X0_see_105
    rw [k1 1000 20 (by omega), h20, a0, a1, a2, gi, ei, tp μ' (fun j => k1 _ _ (by omega)) _ (by omega)]
    simp only [Option.bind_some, gz_let]
    rw [tp _ (fun j => by rw [sI_i, if_neg (by omega)]; exact k1 _ _ (by omega)) _ (by omega)]
    simp only [Option.bind_some, gz_let]
    rw [tp _ (fun j => by rw [sI_i, if_neg (by omega), sI_i, if_neg (by omega)]; exact k1 _ _ (by omega)) _ (by omega)]
    simp only [Option.bind_some, gz_let]
    have hin : gz_in (iI (i : Int)) 16 := (gin_iI (by omega)).2 (by omega)
    refine pw_f (by rw [iI_le (by omega) (by omega)]; omega) (pw_gu hin (pw_gu hin (pw_gu hin (pw_some ⟨rfl, fun c j hc => ?_, fun k hk => ?_, k3, k4, k5, k6, k7⟩))))
    · dsimp only
      rw [sI_i, if_neg (by omega), sI_i, if_neg (by omega), sI_i, if_neg (by omega)]
      exact k1 c j hc
    · dsimp only
      simp only [sI_i]
      by_cases z : k = i
      · subst z
        refine ⟨?_, ?_, ?_⟩
        · rw [if_neg (by omega), if_neg (by omega), if_pos (by simp)]
        · rw [if_neg (by omega), if_pos (by simp)]
        · rw [if_pos (by simp)]
      · rw [if_neg (by omega), if_neg (by omega), if_neg (by omega), if_neg (by omega), if_neg (by omega), if_neg (by omega), if_neg (by omega), if_neg (by omega), if_neg (by omega)]
        exact k2 k (by omega)
  · rintro ⟨q1, μ'⟩ ⟨rfl, k1, k2, k3⟩
    dsimp only at k1 k2 k3 ⊢
    unfold mb_X0_see_105
    rw [k1 1000 20 (by omega), h20]
    exact pw_t (by rw [iI_le (by omega) (by omega)]; omega) (pw_some ⟨rfl, k1, k2, k3⟩)
theorem e_see {n : Nat} (hn : n < 1000) {m : MM} {μ : gM} (hW : rWd m μ) (hD : rDk n m μ) : eA n (mf_see m) (cf_X0_see μ) μ := by
  have hW1 : rWd (msI m 2000 1 (0 : Int32)) (gz_sI μ 1000 2 (0 : Int32)) := hW.dk (mD.sI (by unfold dkM; omega)) (cD.sI (by unfold dkC; omega))
  have hD1 := hD.take
  have g1 : gS μ (gz_sI μ 1000 2 (0 : Int32)) := ⟨rfl, rfl, rfl⟩
  obtain ⟨z, hz⟩ : ∃ z : Nat, mi m 2000 1 = z := ⟨(mi m 2000 1).toNat, by have := hD.1.2.2.1; omega⟩
  have hz2 := hD.1.2.2.2
  have em : m.1 2000 1 = iI z := by rw [mi_of, hz]
  have et : gI μ 1000 2 = iI z := by rw [ci_of, hD.1.2.1, hz]
  unfold mf_see cf_X0_see cf_X0_tapeTaken
  rw [em, et]
  simp only [gz_let, Option.bind_some]
  generalize msI m 2000 1 (0 : Int32) = m1 at hW1 hD1
  generalize gz_sI μ 1000 2 (0 : Int32) = μ1 at hW1 hD1 g1
  have Qr : ∃ (r : Int32 × MM) (r' : Int32 × gM), mj_X6_see_97 (iI z) (0 : Int32) m1 = some r ∧ mj_X0_see_86 (iI z) (0 : Int32) μ1 = some r' ∧ r.1 = r'.1 ∧ rWd r.2 r'.2 ∧ rDk n r.2 r'.2 ∧ gS μ r'.2 := by
    have e1 : (1 : Int32) = iI ((1 : Nat) : Int) := rfl
    obtain ⟨a1, a2⟩ := eA.no hW1 hD1 (k := 1) (by omega)
    refine ⟨(-1, _), (-1, _), ?_, ?_, rfl, a1, a2, g1.trans ⟨rfl, rfl, rfl⟩⟩
    · unfold mj_X6_see_97
      rw [if_pos rfl, e1, p_refuses m1 (by omega)]
      rfl
    · unfold mj_X0_see_86
      rw [if_pos rfl, e1, c_refuses μ1 (by omega)]
      rfl
  obtain ⟨ra, rb, qa, qb, qc⟩ := Qr
  have no : eA n (mj_X6_see_32 (iI z) m1) (mj_X0_see_25 (iI z) μ1) μ := by
    have o1 : mj_X6_see_32 (iI z) m1 = some ra := by
      unfold mj_X6_see_32 mj_X6_see_33 ml_X6_see_36
      refine gz_loop_out ?_
      unfold mb_X6_see_36
      dsimp only
      rw [qa]
      by_cases w : iI (z : Int) ≤ (0 : Int32)
      · rw [if_pos w]; rfl
      · rw [if_neg w, if_pos rfl]; rfl
    have o2 : mj_X0_see_25 (iI z) μ1 = some rb := by
      unfold mj_X0_see_25 mj_X0_see_26 ml_X0_see_29
      refine gz_loop_out ?_
      unfold mb_X0_see_29
      dsimp only
      rw [qb]
      by_cases w : iI (z : Int) ≤ (0 : Int32)
      · rw [if_pos w]; rfl
      · rw [if_neg w, if_pos rfl]; rfl
    exact ⟨ra.1, ra.2, rb.2, o1, by rw [o2, qc.1], qc.2.1, qc.2.2.1, qc.2.2.2.1, qc.2.2.2.2.1, qc.2.2.2.2.2⟩
  by_cases c1 : z = 0
  · have : iI (z : Int) ≤ (0 : Int32) := by rw [iI_lit, iI_le (by omega) (by omega)]; omega
    rw [if_pos this, if_pos this]
    exact no
  have c1' : ¬ iI (z : Int) ≤ (0 : Int32) := by rw [iI_lit, iI_le (by omega) (by omega)]; omega
  rw [if_neg c1', if_neg c1']
  have e3 : iI (z : Int) - iI (z : Int) / (3 : Int32) * (3 : Int32) = iI ((z % 3 : Nat) : Int) := by
    rw [iI_lit, iI_remn (by omega) (by omega)]
    exact congrArg iI (by omega)
  have e3' : iI (z : Int) / (3 : Int32) = iI ((z / 3 : Nat) : Int) := by
    rw [iI_lit, iI_divn (by omega) (by omega)]
    exact congrArg iI (by omega)
  rw [e3, e3']
  by_cases c2 : z % 3 = 0
  rotate_left
  · have : ¬ iI ((z % 3 : Nat) : Int) = (0 : Int32) := by rw [iI_lit, iI_eq (by omega) (by omega)]; omega
    rw [if_neg this, if_neg this]
    exact no
  rw [if_pos (show iI ((z % 3 : Nat) : Int) = (0 : Int32) by rw [c2]; rfl), if_pos (show iI ((z % 3 : Nat) : Int) = (0 : Int32) by rw [c2]; rfl)]
  by_cases c3 : 48 < z
  · have u1 : (16 : Int32) < iI ((z / 3 : Nat) : Int) := by rw [iI_lit, iI_lt (by omega) (by omega)]; omega
    have u2 : (48 : Int32) < iI (z : Int) := by rw [iI_lit, iI_lt (by omega) (by omega)]; omega
    rw [if_pos u1, if_pos u2]
    exact no
  have u1 : ¬ (16 : Int32) < iI ((z / 3 : Nat) : Int) := by rw [iI_lit, iI_lt (by omega) (by omega)]; omega
  have u2 : ¬ (48 : Int32) < iI (z : Int) := by rw [iI_lit, iI_lt (by omega) (by omega)]; omega
  rw [if_neg u1, if_neg u2]
  obtain ⟨N, hN⟩ : ∃ N : Nat, z = 3 * N := ⟨z / 3, by omega⟩
  subst hN
  obtain ⟨l, h1, h2, h3, h4, h5⟩ := id hW1
  have hm := h1.2.1.1
  have b7 := hm.2.1
  unfold mj_X6_see_33 mj_X0_see_26 ml_X6_see_36 ml_X0_see_29
  obtain ⟨⟨r, m'⟩, ⟨r', μ'⟩, a1, a2, a3, a4, a5, a6⟩ := pw_for2e (f := fun q : (Int32 × Int32 × Int32 × MM) => mb_X6_see_36 q.1 q.2.1 q.2.2.1 q.2.2.2) (g := fun q : (Int32 × Int32 × Int32 × gM) => mb_X0_see_29 q.1 q.2.1 q.2.2.1 q.2.2.2) (Q := fun r r' => r.1 = r'.1 ∧ rWd r.2 r'.2 ∧ rDk n r.2 r'.2 ∧ gS μ r'.2)
    (fun (i : Nat) (s : Int32 × Int32 × Int32 × MM) (s' : Int32 × Int32 × Int32 × gM) => s.1 = iI ((3 * N : Nat) : Int) ∧ s'.1 = iI ((3 * N : Nat) : Int) ∧ s.2.2.1 = iI ((3 * i : Nat) : Int) ∧ s'.2.2.1 = iI ((3 * i : Nat) : Int) ∧ s.2.2.2 = m1 ∧ s'.2.2.2 = μ1 ∧ ((s.2.1 = 0 ∧ s'.2.1 = 0) ∨ (s.2.1 = 1 ∧ s'.2.1 = 1 ∧ ∀ k : Nat, k < i → rwOK m1 k))) N
    (by
      rintro i ⟨s1, s2, s3, a⟩ ⟨t1, t2, t3, b⟩ hi ⟨rfl, rfl, rfl, rfl, rfl, rfl, w⟩
      dsimp only at w ⊢
      have cg : ¬ iI ((3 * N : Nat) : Int) ≤ iI ((3 * i : Nat) : Int) := by rw [iI_le (by omega) (by omega)]; omega
      have f1 : iI ((3 * i : Nat) : Int) + (1 : Int32) = iI ((3 * i + 1 : Nat) : Int) := by rw [iI_lit, iI_add]; exact congrArg iI (by omega)
      have f2 : iI ((3 * i : Nat) : Int) + (2 : Int32) = iI ((3 * i + 2 : Nat) : Int) := by rw [iI_lit, iI_add]; exact congrArg iI (by omega)
      have f3 : iI ((3 * i : Nat) : Int) + (3 : Int32) = iI ((3 * (i + 1) : Nat) : Int) := by rw [iI_lit, iI_add]; exact congrArg iI (by omega)
      have i0 : gz_ix (iI ((3 * i : Nat) : Int)) = 3 * i := by rw [gix (by omega)]; omega
      have i1 : gz_ix (iI ((3 * i + 1 : Nat) : Int)) = 3 * i + 1 := by rw [gix (by omega)]; omega
      have i2 : gz_ix (iI ((3 * i + 2 : Nat) : Int)) = 3 * i + 2 := by rw [gix (by omega)]; omega
      unfold mb_X6_see_36 mb_X0_see_29
      rw [if_neg cg, if_neg cg]
      rcases w with ⟨rfl, rfl⟩ | ⟨rfl, rfl, w⟩
      · right
        rw [if_pos rfl, if_pos rfl, qa, qb]
        exact ⟨ra, rb, rfl, rfl, qc⟩
      · left
        rw [if_neg n10, if_neg n10, f1, f2, i0, i1, i2]
        rw [if_pos ((gin_iI (by omega)).2 (by omega)), if_pos ((gin_iI (by omega)).2 (by omega))]
        have r0 : 0 ≤ mi a 1001 (3 * i) ∧ mi a 1001 (3 * i) < 256 := (hD1.1.1 (3 * i) (by omega)).2
        have r1 : 0 ≤ mi a 1001 (3 * i + 1) ∧ mi a 1001 (3 * i + 1) < 256 := (hD1.1.1 (3 * i + 1) (by omega)).2
        have r2 : 0 ≤ mi a 1001 (3 * i + 2) ∧ mi a 1001 (3 * i + 2) < 256 := (hD1.1.1 (3 * i + 2) (by omega)).2
        rw [c_byte hD1.1 (k := 3 * i) (by omega)]
        simp only [Option.bind_some]
        have bad : ∃ (s' : Int32 × Int32 × Int32 × MM) (t' : Int32 × Int32 × Int32 × gM), mj_X6_see_89 (iI ((3 * N : Nat) : Int)) (iI ((3 * i : Nat) : Int)) a = some (Sum.inl s') ∧ mj_X0_see_78 (iI ((3 * N : Nat) : Int)) (iI ((3 * i : Nat) : Int)) b = some (Sum.inl t') ∧ s'.1 = iI ((3 * N : Nat) : Int) ∧ t'.1 = iI ((3 * N : Nat) : Int) ∧ s'.2.2.1 = iI ((3 * (i + 1) : Nat) : Int) ∧ t'.2.2.1 = iI ((3 * (i + 1) : Nat) : Int) ∧ s'.2.2.2 = a ∧ t'.2.2.2 = b ∧ ((s'.2.1 = 0 ∧ t'.2.1 = 0) ∨ (s'.2.1 = 1 ∧ t'.2.1 = 1 ∧ ∀ k : Nat, k < i + 1 → rwOK a k)) := by
          unfold mj_X6_see_89 mj_X6_see_90 mj_X0_see_78 mj_X0_see_79
          rw [f3]
          exact ⟨_, _, rfl, rfl, rfl, rfl, rfl, rfl, rfl, rfl, Or.inl ⟨rfl, rfl⟩⟩
        by_cases v0 : 30 < mi a 1001 (3 * i)
        · have : (30 : Int32) < a.1 1001 (3 * i) := by rw [mi_of a, iI_lit, iI_lt (by omega) (by omega)]; exact v0
          rw [if_pos this, if_pos this]
          exact bad
        · have : ¬ (30 : Int32) < a.1 1001 (3 * i) := by rw [mi_of a, iI_lit, iI_lt (by omega) (by omega)]; exact v0
          rw [if_neg this, if_neg this, c_byte hD1.1 (k := 3 * i + 1) (by omega), mi_of a 1001 (3 * i + 1)]
          simp only [Option.bind_some]
          rw [i2l_iI (by omega), p_isThing hm (by omega), c_isThing h1.2.1 (by omega)]
          simp only [Option.bind_some]
          by_cases v1 : 0 ≤ mi a 1001 (3 * i + 1) ∧ mi a 1001 (3 * i + 1) < mi a 1038 7
          · rw [if_pos v1, if_neg n10, if_neg n10, if_pos ((gin_iI (by omega)).2 (by omega)), c_byte hD1.1 (k := 3 * i + 2) (by omega)]
            simp only [Option.bind_some]
            by_cases v2 : 99 < mi a 1001 (3 * i + 2)
            · have : (99 : Int32) < a.1 1001 (3 * i + 2) := by rw [mi_of a, iI_lit, iI_lt (by omega) (by omega)]; exact v2
              rw [if_pos this, if_pos this]
              exact bad
            · have : ¬ (99 : Int32) < a.1 1001 (3 * i + 2) := by rw [mi_of a, iI_lit, iI_lt (by omega) (by omega)]; exact v2
              rw [if_neg this, if_neg this]
              unfold mj_X6_see_90 mj_X0_see_79
              rw [f3]
              refine ⟨_, _, rfl, rfl, rfl, rfl, rfl, rfl, rfl, rfl, Or.inr ⟨rfl, rfl, fun k hk => ?_⟩⟩
              by_cases y : k = i
              · subst y
                exact ⟨by omega, v1.2, by omega⟩
              · exact w k (by omega)
          · rw [if_neg v1, if_pos rfl, if_pos rfl]
            exact bad)
    (by
      rintro ⟨s1, s2, s3, a⟩ ⟨t1, t2, t3, b⟩ ⟨rfl, rfl, rfl, rfl, rfl, rfl, w⟩
      dsimp only at w ⊢
      have cg : iI ((3 * N : Nat) : Int) ≤ iI ((3 * N : Nat) : Int) := by rw [iI_le (by omega) (by omega)]; omega
      unfold mb_X6_see_36 mb_X0_see_29
      rw [if_pos cg, if_pos cg]
      rcases w with ⟨rfl, rfl⟩ | ⟨rfl, rfl, w⟩
      · rw [qa, qb]
        exact ⟨ra, rb, rfl, rfl, qc⟩
      · obtain ⟨⟨r, m'⟩, o1, x1, x2, x3⟩ := p_rows (m := a) (N := N) (by omega)
        dsimp only at x1 x2 x3
        have e20 : iI ((3 * N : Nat) : Int) / (3 : Int32) = iI N := by rw [e3']; exact congrArg iI (by omega)
        have hT2 : rTape n a (gz_sI b 1000 20 (iI N)) := by
          obtain ⟨y1, y2, y3⟩ := hD1.1
          refine ⟨fun k hk => by rw [sI_i, if_neg (by omega)]; exact y1 k hk, by unfold ci; rw [sI_i, if_neg (by omega)]; exact y2, y3⟩
        obtain ⟨⟨r', μ'⟩, o2, z1, z2, z3, z4, z5, z6, z7, z8⟩ := c_rows hT2 (N := N) (by omega) (by rw [sI_i, if_pos ⟨rfl, rfl⟩])
        dsimp only at z1 z2 z3 z4 z5 z6 z7 z8
        have zI : ∀ c j : Nat, ¬ (1123 ≤ c ∧ c < 1126) → ¬ (c = 1000 ∧ j = 20) → gI μ' c j = gI b c j := fun c j k1 k2 => by rw [z2 c j k1, sI_i, if_neg k2]
        have xI : ∀ c j : Nat, c ≠ 1066 → ¬ (c = 2000 ∧ j = 64) → m'.1 c j = a.1 c j := fun c j k1 k2 => by rw [x2, if_neg k2, if_neg (fun y => k1 y.1)]
        have rr : rRows m' μ' := by
          have e64 : mi m' 2000 64 = N := by unfold mi; rw [x2, if_pos ⟨rfl, rfl⟩, toInt_iI (by omega) (by omega)]
          refine ⟨by rw [z2 _ _ (by omega), sI_i, if_pos ⟨rfl, rfl⟩, x2, if_pos ⟨rfl, rfl⟩], by omega, fun k hk => ?_⟩
          have hk' : k < N := by omega
          obtain ⟨y1, y2, y3⟩ := z3 k hk'
          obtain ⟨v1, v2, v3⟩ := w k hk'
          have r0 := (hD1.1.1 (3 * k) (by omega)).2
          have r1 := (hD1.1.1 (3 * k + 1) (by omega)).2
          have r2 := (hD1.1.1 (3 * k + 2) (by omega)).2
          have s0 : m'.1 1066 (3 * k) = a.1 1001 (3 * k) := by rw [x2, if_neg (by omega), if_pos (by omega)]
          have s1 : m'.1 1066 (3 * k + 1) = a.1 1001 (3 * k + 1) := by rw [x2, if_neg (by omega), if_pos (by omega)]
          have s2 : m'.1 1066 (3 * k + 2) = a.1 1001 (3 * k + 2) := by rw [x2, if_neg (by omega), if_pos (by omega)]
          unfold mi
          rw [y1, y2, y3, s0, s1, s2, xI 1038 7 (by omega) (by omega)]
          exact ⟨⟨rfl, rfl, rfl⟩, ⟨r0.1, v1⟩, ⟨r1.1, v2⟩, r2.1, v3⟩
        have hd : dyS b μ' := ⟨z4, z5, z6, fun c hc j => ⟨zI c j (fun y => by
            have : c = 1123 ∨ c = 1124 ∨ c = 1125 := by omega
            rcases this with y | y | y <;> (subst y; revert hc; decide)) (fun y => by
            rw [y.1] at hc
            revert hc; decide), z7 c j, z8 c j⟩⟩
        have hW2 : rWd m' μ' := hW1.gen (fun c j k => xI c j (by unfold kyC at k; omega) (by unfold kyC at k; omega)) (fun c j k => xI c j (by omega) (by omega)) ⟨fun c j a b k => xI c j (by omega) (by omega), fun j => by rw [x3]⟩ hd (fun c j k => zI c j (by omega) (by omega)) z8 rr
        have hD2 : rDk n m' μ' := hD1.mv (fun c j k => xI c j (by unfold dkM at k; omega) (by unfold dkM at k; omega)) (by rw [x3]) (fun c j k => zI c j (by unfold dkC at k; omega) (by unfold dkC at k; omega)) (z7 _ _)
        refine ⟨(r, m'), (r', μ'), ?_, ?_, x1.trans z1.symm, hW2, hD2, g1.trans ⟨z6, z4, z5⟩⟩
        · unfold mj_X6_see_97
          rw [if_neg n10, o1]
          rfl
        · unfold mj_X0_see_86
          rw [if_neg n10, e20]
          simp only [gz_let]
          rw [o2]
          rfl)
    (s := (iI ((3 * N : Nat) : Int), (1 : Int32), (0 : Int32), m1)) (t := (iI ((3 * N : Nat) : Int), (1 : Int32), (0 : Int32), μ1)) ⟨rfl, rfl, rfl, rfl, rfl, rfl, Or.inr ⟨rfl, rfl, fun k hk => absurd hk (Nat.not_lt_zero _)⟩⟩
  dsimp only at a3 a4 a5 a6
  subst a3
  exact ⟨r, m', μ', a1, a2, a4, a5, a6⟩
