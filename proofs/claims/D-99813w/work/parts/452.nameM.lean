/-! ===== the model: a name ===== -/
theorem nv_inj : ∀ (k l : Nat) (f g : Nat → Int), (∀ i : Nat, i < k → 97 ≤ f i ∧ f i ≤ 122) → (∀ i : Nat, i < l → 97 ≤ g i ∧ g i ≤ 122) → nv f k = nv g l → k = l ∧ ∀ i : Nat, i < k → f i = g i
  | 0, l, f, g, hf, hg, h => by
    have hb := nv_b l hg
    have h : 0 = nv g l := h
    have : ¬ 0 < l := fun q => by have := hb.2.1 q; omega
    exact ⟨by omega, fun i hi => absurd hi (Nat.not_lt_zero _)⟩
  | k + 1, 0, f, g, hf, hg, h => by
    have hb := (nv_b (k + 1) hf).2.1 (by omega)
    have h : nv f (k + 1) = 0 := h
    omega
  | k + 1, l + 1, f, g, hf, hg, h => by
    have d1 := nv_div (f := f) (k := k) (hf k (by omega))
    have d2 := nv_div (f := g) (k := l) (hg l (by omega))
    rw [h, d2.1, d2.2] at d1
    obtain ⟨e1, e2⟩ := nv_inj k l f g (fun i hi => hf i (by omega)) (fun i hi => hg i (by omega)) d1.1.symm
    subst e1
    refine ⟨rfl, fun i hi => ?_⟩
    by_cases e : i = k
    · rw [e]; have := d1.2; omega
    · exact e2 i (by omega)
theorem nmV_inj {w w' : List Int} (h : nmOK w) (h' : nmOK w') (e : nmV w = nmV w') : w = w' := by
  rw [nmV_nv, nmV_nv] at e
  obtain ⟨e1, e2⟩ := nv_inj _ _ _ _ h.2.2 h'.2.2 e
  exact list_eq e1 e2
theorem nmV_b {w : List Int} (h : nmOK w) : 1 ≤ nmV w ∧ nmV w < 387420490 := by
  rw [nmV_nv]
  have a := nv_b w.length h.2.2
  have b := a.2.1 h.1
  have c := pow27 w.length h.2.1
  omega
theorem nv_wL {T : Nat → Int} {n p : Nat} : ∀ k : Nat, k ≤ wE T n p - p → nv (fun i => (wL T n p).getD i 0) k = nv (fun i => T (p + i)) k
  | 0, _ => rfl
  | k + 1, h => by
    show 27 * nv (fun i => (wL T n p).getD i 0) k + ((wL T n p).getD k 0 - 96) = 27 * nv (fun i => T (p + i)) k + (T (p + k) - 96)
    rw [nv_wL k (by omega), wL_get (by omega)]
theorem nmV_wL (T : Nat → Int) (n p : Nat) : nmV (wL T n p) = nv (fun i => T (p + i)) (wE T n p - p) := by
  rw [nmV_nv, wL_len]
  exact nv_wL _ (Nat.le_refl _)
section NameM
variable {T : Nat → Int} {n : Nat} {m : MM}
theorem p_name37 {p : Nat} (g : gs T n m p) : pw (mj_X6_name_37 m) (fun q => xF m q.2 ∧ bd q.2 1 p) := by
  unfold mj_X6_name_37
  rw [g.1.2.1]
  refine pw_bind (pw_mono (p_fail g.1.1 (k := 1) (by omega) p) ?_)
  rintro ⟨⟨⟩, m2⟩ ⟨b1, b2⟩
  exact pw_some ⟨b2, b1⟩
theorem p_name {p : Nat} (hL : lxM T n m) (g : gd T n m p) : pw (mf_name m) (fun q => xF m q.2 ∧ ((∃ (k : Int) (l : Nat), sName T n p = Sum.inl (k, l) ∧ bd q.2 k l) ∨ ∃ (p' : Nat) (w : List Int), sName T n p = Sum.inr (p', w) ∧ nmOK w ∧ q.1 = lL (nmV w) ∧ gd T n q.2 p' ∧ q.2.1 2000 36 = iI p)) := by
  obtain ⟨hT, hB, -⟩ := id hL
  have hn := hT.1
  unfold mf_name
  refine pw_t g.z (pw_bind (pw_mono (p_look hL g) ?_))
  rintro ⟨r, m1⟩ ⟨e, x1, g1⟩
  dsimp only at e x1 g1 ⊢
  subst e
  have hr := hT.r p
  rw [p_isL (by omega)]
  refine pw_bind (pw_some ?_)
  dsimp only
  have bad : (¬ isL (T p) ∨ alB T p ∨ isOwn T n p) → ∀ m2 : MM, xF m m2 → gs T n m2 p → pw (mj_X6_name_37 m2) (fun q => xF m q.2 ∧ ((∃ (k : Int) (l : Nat), sName T n p = Sum.inl (k, l) ∧ bd q.2 k l) ∨ ∃ (p' : Nat) (w : List Int), sName T n p = Sum.inr (p', w) ∧ nmOK w ∧ q.1 = lL (nmV w) ∧ gd T n q.2 p' ∧ q.2.1 2000 36 = iI p)) := fun hc m2 x2 g2 => by
    refine pw_mono (p_name37 g2) ?_
    rintro ⟨q1, m3⟩ ⟨a1, a2⟩
    exact ⟨x2.trans a1, Or.inl ⟨1, p, by unfold sName; rw [if_pos hc], a2⟩⟩
  refine own_if (fun c1 => ?_) (fun c1 => bad (Or.inl c1) m1 x1 g1)
  refine pw_if (fun c2 => bad (Or.inr (Or.inl ((g1.1.end hn).mp c2))) m1 x1 g1) (fun c2 => ?_)
  have c2' : ¬ alB T p := fun q => c2 ((g1.1.end hn).mpr q)
  refine pw_bind (pw_mono (p_own (hL.x x1) g1.gd) ?_)
  rintro ⟨r, m2⟩ ⟨e, x2, g2⟩
  dsimp only at e x2 g2 ⊢
  subst e
  by_cases c3 : isOwn T n p
  · rw [if_pos c3]
    exact pw_f n10 (bad (Or.inr (Or.inr c3)) m2 (x1.trans x2) g2)
  rw [if_neg c3]
  refine pw_t rfl (pw_let ?_)
  have hp : p < n := isL_lt hT c1
  have hle := wE_le hT (Nat.le_of_lt hp)
  have hge := wE_ge T n p
  have hout := wE_out hT p
  have x3 : xF m (msI m2 2000 36 (m2.1 2000 2)) := (x1.trans x2).trans (xF.sI (by omega))
  generalize hm3 : msI m2 2000 36 (m2.1 2000 2) = m3 at x3
  have e36 : m3.1 2000 36 = iI p := by rw [← hm3, msI_i, if_pos ⟨rfl, rfl⟩]; exact g2.1.2.1
  have e2 : m3.1 2000 2 = iI p := by rw [← hm3, msI_i, if_neg (by omega)]; exact g2.1.2.1
  have e5 : m3.1 2000 5 = 0 := by rw [← hm3, msI_i, if_neg (by omega)]; exact g2.1.1
  have spN : ¬ (¬ isL (T p) ∨ alB T p ∨ isOwn T n p) := fun q => by
    rcases q with q | q | q
    · exact q c1
    · exact c2' q
    · exact c3 q
  clear hm3 g1 g2 x1 x2 bad
  unfold ml_X6_name_58
  refine pw_for (fun (i : Nat) (q : Int64 × MM) => q.1 = lL (nv (fun i => T (p + i)) i) ∧ xF m q.2 ∧ q.2.1 2000 36 = iI p ∧ q.2.1 2000 2 = iI ((p + i : Nat) : Int) ∧ q.2.1 2000 5 = 0) (if wE T n p - p ≤ 6 then wE T n p - p else 6) ?_ ?_ ⟨rfl, x3, e36, e2, e5⟩
  · rintro i ⟨v, m4⟩ hi ⟨i1, i2, i3, i4, i5⟩
    dsimp only at i1 i2 i3 i4 i5 ⊢
    subst i1
    have hi6 : i < 6 ∧ i < wE T n p - p := by
      by_cases q : wE T n p - p ≤ 6
      · rw [if_pos q] at hi; omega
      · rw [if_neg q] at hi; omega
    have hLi := wE_in (T := T) (n := n) (p := p) (q := p + i) (by omega) (by omega)
    have hbi := hB (p + i) (by omega)
    have gi : gz_ix (iI ((p + i : Nat) : Int)) = p + i := by rw [gix (by omega)]; omega
    have ii : gz_in (iI ((p + i : Nat) : Int)) 1600 := (gin_iI (by omega)).2 (by omega)
    have e3 : m4.1 2000 3 = iI n := (hL.x i2).2.2.1
    have e1 : m4.1 1001 (p + i) = iI (T (p + i)) := (hL.x i2).2.1 _ (by omega)
    have hb := nv_b (f := fun i => T (p + i)) i (fun j hj => wE_in (T := T) (n := n) (p := p) (q := p + j) (by omega) (by omega))
    have hpw := pow27 i (by omega)
    unfold mb_X6_name_58
    rw [e3, i4]
    refine pw_f (by rw [iI_le (by omega) (by omega)]; omega) (pw_gu ii ?_)
    rw [gi, e1, p_isL (by omega)]
    refine pw_bind (pw_some ?_)
    dsimp only
    rw [if_pos hLi]
    refine pw_f n10 ?_
    rw [i4, i3, gi, e1, iI_sub]
    refine pw_f (by rw [show (6 : Int32) = iI 6 from rfl, iI_eq (by omega) (by omega)]; omega) (pw_gu ii (pw_let (pw_let (pw_some ⟨?_, i2.trans (xF.sI (by omega)), ?_, ?_, ?_⟩))))
    · show (27 : Int64) * lL (nv (fun i => T (p + i)) i) + (iI (T (p + i))).toInt64 - 97 + 1 = lL (nv (fun i => T (p + i)) (i + 1))
      rw [i2l_iI (by omega), show (27 : Int64) = lL 27 from rfl, show (97 : Int64) = lL 97 from rfl, show (1 : Int64) = lL 1 from rfl, lL_mul, lL_add, lL_sub, lL_add]
      refine congrArg lL ?_
      show 27 * nv (fun i => T (p + i)) i + T (p + i) - 97 + 1 = 27 * nv (fun i => T (p + i)) i + (T (p + i) - 96)
      omega
    · show (msI m4 2000 2 _).1 2000 36 = _
      rw [msI_i, if_neg (by omega)]; exact i3
    · show (msI m4 2000 2 _).1 2000 2 = _
      rw [msI_i, if_pos ⟨rfl, rfl⟩, show (1 : Int32) = iI 1 from rfl, iI_add]
      rfl
    · show (msI m4 2000 2 _).1 2000 5 = _
      rw [msI_i, if_neg (by omega)]; exact i5
  · rintro ⟨v, m4⟩ ⟨i1, i2, i3, i4, i5⟩
    dsimp only at i1 i2 i3 i4 i5 ⊢
    subst i1
    have e3 : m4.1 2000 3 = iI n := (hL.x i2).2.2.1
    unfold mb_X6_name_58
    by_cases q : wE T n p - p ≤ 6
    · rw [if_pos q] at i4 ⊢
      have ew : p + (wE T n p - p) = wE T n p := by omega
      rw [ew] at i4
      have fin : pw (Option.map Sum.inr (mj_X6_name_145 (lL (nv (fun i => T (p + i)) (wE T n p - p))) m4)) (Sum.elim (fun _ : Int64 × MM => False) (fun q => xF m q.2 ∧ ((∃ (k : Int) (l : Nat), sName T n p = Sum.inl (k, l) ∧ bd q.2 k l) ∨ ∃ (p' : Nat) (w : List Int), sName T n p = Sum.inr (p', w) ∧ nmOK w ∧ q.1 = lL (nmV w) ∧ gd T n q.2 p' ∧ q.2.1 2000 36 = iI p))) := by
        unfold mj_X6_name_145
        have sp : sName T n p = Sum.inr (skp T n (wE T n p), wL T n p) := by
          unfold sName
          rw [if_neg spN, if_neg (by omega)]
        have hal : alB T (wE T n p) := by
          have hlt : p < wE T n p := by
            have := wE_ge T n (p + 1)
            rw [wE_s hT c1]
            omega
          exact ⟨by omega, Or.inl (wE_in (p := p) (n := n) (by omega) (by omega))⟩
        refine pw_map (pw_let (pw_some ⟨i2.trans (xF.sI (by omega)), Or.inr ⟨_, _, sp, (sName_ok hT sp).2.2.1, ?_, ⟨wE T n p, ⟨?_, ?_, hle, (wE T n p : Int), ?_, by omega, Or.inl ⟨rfl, hal⟩⟩, rfl⟩, ?_⟩⟩))
        · rw [nmV_wL]
        · show (msI m4 2000 4 _).1 2000 5 = _
          rw [msI_i, if_neg (by omega)]; exact i5
        · show (msI m4 2000 4 _).1 2000 2 = _
          rw [msI_i, if_neg (by omega)]; exact i4
        · show (msI m4 2000 4 _).1 2000 4 = _
          rw [msI_i, if_pos ⟨rfl, rfl⟩]; exact i4
        · show (msI m4 2000 4 _).1 2000 36 = _
          rw [msI_i, if_neg (by omega)]; exact i3
      rw [e3, i4]
      by_cases q2 : n ≤ wE T n p
      · exact pw_t (by rw [iI_le (by omega) (by omega)]; omega) fin
      · have gi : gz_ix (iI ((wE T n p : Nat) : Int)) = wE T n p := by rw [gix (by omega)]; omega
        have e1 : m4.1 1001 (wE T n p) = iI (T (wE T n p)) := (hL.x i2).2.1 _ (by omega)
        have hr2 := hT.r (wE T n p)
        refine pw_f (by rw [iI_le (by omega) (by omega)]; omega) (pw_gu ((gin_iI (by omega)).2 (by omega)) ?_)
        rw [gi, e1, p_isL (by omega)]
        refine pw_bind (pw_some ?_)
        dsimp only
        rw [if_neg hout]
        exact pw_t rfl fin
    · rw [if_neg q] at i4 ⊢
      have hLi := wE_in (T := T) (n := n) (p := p) (q := p + 6) (by omega) (by omega)
      have gi : gz_ix (iI ((p + 6 : Nat) : Int)) = p + 6 := by rw [gix (by omega)]; omega
      have e1 : m4.1 1001 (p + 6) = iI (T (p + 6)) := (hL.x i2).2.1 _ (by omega)
      rw [e3, i4]
      refine pw_f (by rw [iI_le (by omega) (by omega)]; omega) (pw_gu ((gin_iI (by omega)).2 (by omega)) ?_)
      rw [gi, e1, p_isL (by omega)]
      refine pw_bind (pw_some ?_)
      dsimp only
      rw [if_pos hLi]
      refine pw_f n10 ?_
      rw [i4, i3, iI_sub]
      refine pw_t (by rw [show (6 : Int32) = iI 6 from rfl, iI_eq (by omega) (by omega)]; omega) (pw_bind (pw_mono (p_fail i5 (k := 1) (by omega) (p + 6)) ?_))
      rintro ⟨⟨⟩, m5⟩ ⟨b1, b2⟩
      exact pw_some ⟨i2.trans b2, Or.inl ⟨1, p + 6, by unfold sName; rw [if_neg spN, if_pos (by omega)], b1⟩⟩
theorem p_name_bad (h : ¬ m.1 2000 5 = 0) : mf_name m = some (0, m) := by
  unfold mf_name
  rw [if_neg h]
end NameM
