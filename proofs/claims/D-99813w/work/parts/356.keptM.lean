/-! ===== the model keeps what went out ===== -/
theorem keepS_40 {l : List (Int × Int × Int)} {e : Int × Int × Int} (h : l.length = 40) {i : Nat} (hi : i < 40) : (keepS l e).getD i (0, 0, 0) = if i = 39 then e else l.getD (i + 1) (0, 0, 0) := by
  unfold keepS
  rw [if_pos h, List.getD_eq_getElem?_getD, List.getD_eq_getElem?_getD]
  by_cases q : i = 39
  · rw [if_pos q, List.getElem?_append_right (by rw [List.length_tail]; omega), List.length_tail, h, q]
    rfl
  · rw [if_neg q, List.getElem?_append_left (by rw [List.length_tail]; omega), List.getElem?_tail]
theorem keepS_lt {l : List (Int × Int × Int)} {e : Int × Int × Int} (h : l.length < 40) {i : Nat} (hi : i ≤ l.length) : (keepS l e).getD i (0, 0, 0) = if i = l.length then e else l.getD i (0, 0, 0) := by
  unfold keepS
  rw [if_neg (by omega), List.getD_eq_getElem?_getD, List.getD_eq_getElem?_getD]
  by_cases q : i = l.length
  · rw [if_pos q, q, List.getElem?_append_right (Nat.le_refl _), Nat.sub_self]
    rfl
  · rw [if_neg q, List.getElem?_append_left (by omega)]
theorem p_kept64 {m : MM} {n t how : Int} (hn : 1 ≤ n ∧ n ≤ 40) (h30 : mi m 1051 30 = n) : mj_X6_isKept_64 (iI t) (iI how) m = some ((), msI (msI (msI m 1051 (28 + 3 * n).toNat (m.1 1051 0)) 1051 (29 + 3 * n).toNat (iI t)) 1051 (30 + 3 * n).toNat (iI how)) := by
  have g30 : gz_ix (30 : Int32) = 30 := by decide
  have g0 : gz_ix (0 : Int32) = 0 := by decide
  have ey : (((31 : Int32) + ((3 : Int32) * (m.1 1051 30))) - (3 : Int32)) = iI (28 + 3 * n) := by
    rw [mi_of m 1051 30, h30]
    simp only [iI_lit, iI_mul, iI_add, iI_sub]
    exact congrArg iI (by omega)
  have e1 : iI (28 + 3 * n) + (1 : Int32) = iI (29 + 3 * n) := by
    simp only [iI_lit, iI_add]
    exact congrArg iI (by omega)
  have e2 : iI (28 + 3 * n) + (2 : Int32) = iI (30 + 3 * n) := by
    simp only [iI_lit, iI_add]
    exact congrArg iI (by omega)
  unfold mj_X6_isKept_64
  simp only [gz_let, g30, g0, ey, e1, e2, gix (show -2147483648 ≤ 28 + 3 * n ∧ 28 + 3 * n < 2147483648 by omega), gix (show -2147483648 ≤ 29 + 3 * n ∧ 29 + 3 * n < 2147483648 by omega), gix (show -2147483648 ≤ 30 + 3 * n ∧ 30 + 3 * n < 2147483648 by omega)]
  rw [if_pos (by decide), if_pos (by decide), if_pos ((gin_iI (by omega)).2 (by omega)), if_pos ((gin_iI (by omega)).2 (by omega)), if_pos ((gin_iI (by omega)).2 (by omega))]
theorem p_kshift {m : MM} {x1 x2 : Int32} {Q : (Unit × MM) → Prop} (hQ : ∀ m' : MM, (∀ j : Nat, m'.1 1051 j = if 31 ≤ j ∧ j < 148 then m.1 1051 (j + 3) else m.1 1051 j) → (∀ c j : Nat, c ≠ 1051 → m'.1 c j = m.1 c j) → m'.2 = m.2 → pw (mj_X6_isKept_64 x1 x2 m') Q) : pw (ml_X6_isKept_23 x1 x2 (31 : Int32) m) Q := by
  unfold ml_X6_isKept_23
  refine pw_for (fun i q => q.1 = x1 ∧ q.2.1 = x2 ∧ q.2.2.1 = iI (31 + (i : Int)) ∧ (∀ j : Nat, q.2.2.2.1 1051 j = if 31 ≤ j ∧ j < 31 + i then m.1 1051 (j + 3) else m.1 1051 j) ∧ (∀ c j : Nat, c ≠ 1051 → q.2.2.2.1 c j = m.1 c j) ∧ q.2.2.2.2 = m.2) 117 ?_ ?_ ⟨rfl, rfl, rfl, fun j => by rw [if_neg (by omega)], fun _ _ _ => rfl, rfl⟩
  · rintro i ⟨y1, y2, y3, m'⟩ hi ⟨rfl, rfl, rfl, h1, h2, h3⟩
    dsimp only at h1 h2 h3 ⊢
    unfold mb_X6_isKept_23
    have e1 : iI (31 + (i : Int)) + (3 : Int32) = iI (34 + (i : Int)) := by
      simp only [iI_lit, iI_add]
      exact congrArg iI (by omega)
    have e2 : iI (31 + (i : Int)) + (1 : Int32) = iI (31 + ((i + 1 : Nat) : Int)) := by
      simp only [iI_lit, iI_add]
      exact congrArg iI (by omega)
    refine pw_f (by rw [iI_lit, iI_le (by omega) (by omega)]; omega) ?_
    simp only [e1, e2, gz_let, gix (show -2147483648 ≤ 31 + (i : Int) ∧ 31 + (i : Int) < 2147483648 by omega), gix (show -2147483648 ≤ 34 + (i : Int) ∧ 34 + (i : Int) < 2147483648 by omega)]
    refine pw_gu ((gin_iI (by omega)).2 (by omega)) (pw_gu ((gin_iI (by omega)).2 (by omega)) (pw_some ?_))
    refine ⟨rfl, rfl, rfl, fun j => ?_, fun c j hc => ?_, h3⟩
    · show (msI m' 1051 (31 + (i : Int)).toNat (m'.1 1051 (34 + (i : Int)).toNat)).1 1051 j = _
      rw [msI_i]
      by_cases q : j = 31 + i
      · rw [if_pos ⟨rfl, by omega⟩, if_pos (by omega), h1, if_neg (by omega)]
        exact congrArg (m.1 1051) (by omega)
      · rw [if_neg (by omega), h1]
        by_cases q2 : 31 ≤ j ∧ j < 31 + i
        · rw [if_pos q2, if_pos (by omega)]
        · rw [if_neg q2, if_neg (by omega)]
    · show (msI m' 1051 (31 + (i : Int)).toNat (m'.1 1051 (34 + (i : Int)).toNat)).1 c j = _
      rw [msI_i, if_neg (fun q => hc q.1), h2 c j hc]
  · rintro ⟨y1, y2, y3, m'⟩ ⟨rfl, rfl, rfl, h1, h2, h3⟩
    dsimp only at h1 h2 h3 ⊢
    unfold mb_X6_isKept_23
    refine pw_t (by rw [iI_lit, iI_le (by omega) (by omega)]; omega) ?_
    refine pw_map ?_
    exact pw_mono (hQ m' h1 h2 h3) (fun _ h => h)
theorem p_isKept {m : MM} {l : List (Int × Int × Int)} (hk : kpM l m) (h56 : m.1 2000 56 = 0) {t how : Int} (ht : -2147483648 ≤ t ∧ t < 2147483648) (hh : -2147483648 ≤ how ∧ how < 2147483648) : pw (mf_isKept (iI t) (iI how) m) (fun q => kpM (keepS l (mi m 1051 0, t, how)) q.2 ∧ (∀ c j : Nat, ¬ (c = 1051 ∧ 30 ≤ j) → q.2.1 c j = m.1 c j) ∧ q.2.2 = m.2) := by
  obtain ⟨k1, k2, k3⟩ := hk
  have hl := keepS_len k1 (mi m 1051 0, t, how)
  have g30 : gz_ix (30 : Int32) = 30 := by decide
  unfold mf_isKept
  rw [if_pos h56, g30]
  refine pw_gu (by decide) ?_
  by_cases q : l.length = 40
  · refine pw_t (by rw [mi_of, k2, q]; rfl) ?_
    refine p_kshift fun m' h1 h2 h3 => ?_
    have h30 : mi m' 1051 30 = 40 := by
      unfold mi
      rw [h1, if_neg (by omega)]
      show mi m 1051 30 = 40
      omega
    refine pw_eq (p_kept64 (n := 40) (by omega) h30) ?_
    dsimp only
    have hz : ∀ c j : Nat, (msI (msI (msI m' 1051 (28 + 3 * (40 : Int)).toNat (m'.1 1051 0)) 1051 (29 + 3 * (40 : Int)).toNat (iI t)) 1051 (30 + 3 * (40 : Int)).toNat (iI how)).1 c j = if c = 1051 ∧ j = 150 then iI how else if c = 1051 ∧ j = 149 then iI t else if c = 1051 ∧ j = 148 then m'.1 1051 0 else m'.1 c j := fun c j => rfl
    refine ⟨⟨hl.1, ?_, fun i j hi hj => ?_⟩, fun c j hc => ?_, h3⟩
    · rw [hl.2, if_pos q]
      unfold mi
      rw [hz, if_neg (by omega), if_neg (by omega), if_neg (by omega)]
      exact h30
    · rw [hl.2, if_pos q] at hi
      rw [keepS_40 q hi]
      by_cases q9 : i = 39
      · rw [if_pos q9]
        unfold mi
        rw [hz]
        have hj3 : j = 0 ∨ j = 1 ∨ j = 2 := by omega
        rcases hj3 with z | z | z
        · rw [if_neg (by omega), if_neg (by omega), if_pos (by omega), z, h1, if_neg (by omega)]
          rfl
        · rw [if_neg (by omega), if_pos (by omega), z]
          exact toInt_iI (by omega) (by omega)
        · rw [if_pos (by omega), z]
          exact toInt_iI (by omega) (by omega)
      · rw [if_neg q9, ← k3 (i + 1) j (by omega) hj]
        unfold mi
        rw [hz, if_neg (by omega), if_neg (by omega), if_neg (by omega), h1, if_pos (by omega)]
        exact congrArg (fun z => (m.1 1051 z).toInt) (by omega)
    · rw [hz, if_neg (by omega), if_neg (by omega), if_neg (by omega)]
      by_cases hc5 : c = 1051
      · subst hc5
        rw [h1, if_neg (by omega)]
      · exact h2 c j hc5
  · refine pw_f (by rw [mi_of, k2, iI_lit, iI_eq (by omega) (by omega)]; omega) ?_
    refine pw_gu (by decide) (pw_gu (by decide) (pw_let ?_))
    have e1 : m.1 1051 30 + (1 : Int32) = iI (l.length + 1) := by rw [mi_of, k2, iI_lit, iI_add]
    rw [e1]
    have h30 : mi (msI m 1051 30 (iI (l.length + 1))) 1051 30 = l.length + 1 := by rw [mi_sI _ _ _ _ _ (by omega), if_pos ⟨rfl, rfl⟩]
    refine pw_eq (p_kept64 (n := l.length + 1) (by omega) h30) ?_
    dsimp only
    have w1 : (28 + 3 * ((l.length : Int) + 1)).toNat = 31 + 3 * l.length := by omega
    have w2 : (29 + 3 * ((l.length : Int) + 1)).toNat = 32 + 3 * l.length := by omega
    have w3 : (30 + 3 * ((l.length : Int) + 1)).toNat = 33 + 3 * l.length := by omega
    rw [w1, w2, w3]
    have hz : ∀ c j : Nat, (msI (msI (msI (msI m 1051 30 (iI (l.length + 1))) 1051 (31 + 3 * l.length) (m.1 1051 0)) 1051 (32 + 3 * l.length) (iI t)) 1051 (33 + 3 * l.length) (iI how)).1 c j = if c = 1051 ∧ j = 33 + 3 * l.length then iI how else if c = 1051 ∧ j = 32 + 3 * l.length then iI t else if c = 1051 ∧ j = 31 + 3 * l.length then m.1 1051 0 else if c = 1051 ∧ j = 30 then iI (l.length + 1) else m.1 c j := fun c j => rfl
    refine ⟨⟨hl.1, ?_, fun i j hi hj => ?_⟩, fun c j hc => ?_, rfl⟩
    · rw [hl.2, if_neg q]
      show Int32.toInt ((msI (msI (msI (msI m 1051 30 (iI (l.length + 1))) 1051 (31 + 3 * l.length) (m.1 1051 0)) 1051 (32 + 3 * l.length) (iI t)) 1051 (33 + 3 * l.length) (iI how)).1 1051 30) = _
      rw [hz, if_neg (by omega), if_neg (by omega), if_neg (by omega), if_pos (by omega)]
      rw [toInt_iI (by omega) (by omega)]
      rfl
    · rw [hl.2, if_neg q] at hi
      rw [keepS_lt (by omega) (by omega)]
      unfold mi
      show Int32.toInt ((msI (msI (msI (msI m 1051 30 (iI (l.length + 1))) 1051 (31 + 3 * l.length) (m.1 1051 0)) 1051 (32 + 3 * l.length) (iI t)) 1051 (33 + 3 * l.length) (iI how)).1 1051 (31 + 3 * i + j)) = _
      rw [hz]
      by_cases q9 : i = l.length
      · rw [if_pos q9]
        have hj3 : j = 0 ∨ j = 1 ∨ j = 2 := by omega
        rcases hj3 with z | z | z
        · rw [if_neg (by omega), if_neg (by omega), if_pos (by omega), z]
          rfl
        · rw [if_neg (by omega), if_pos (by omega), z]
          exact toInt_iI (by omega) (by omega)
        · rw [if_pos (by omega), z]
          exact toInt_iI (by omega) (by omega)
      · rw [if_neg q9, ← k3 i j (by omega) hj, if_neg (by omega), if_neg (by omega), if_neg (by omega), if_neg (by omega)]
        rfl
    · show (msI (msI (msI (msI m 1051 30 (iI (l.length + 1))) 1051 (31 + 3 * l.length) (m.1 1051 0)) 1051 (32 + 3 * l.length) (iI t)) 1051 (33 + 3 * l.length) (iI how)).1 c j = _
      rw [hz, if_neg (by omega), if_neg (by omega), if_neg (by omega), if_neg (by omega)]
/-- if nothing is thought -/
def thM (m : MM) (l l' : List (Int × Int × Int)) : List (Int × Int × Int) := if m.1 2000 56 = 0 then l' else l
theorem p_goesOut {m : MM} {l : List (Int × Int × Int)} (hk : kpM l m) {t how : Int} (ht : 0 ≤ t ∧ t < 8) (hh : 0 ≤ how ∧ how < 4) : pw (mf_goesOut (iI t) (iI how) m) (fun q => kpM (thM m l (keepS l (mi m 1051 0, t, how))) q.2 ∧ (∀ c j : Nat, ¬ (c = 1051 ∧ 14 ≤ j) → q.2.1 c j = m.1 c j) ∧ q.2.2 = m.2 ∧ (∀ j : Nat, j < 30 → q.2.1 1051 j = if j = (14 + 2 * t).toNat ∨ j = (15 + 2 * t).toNat then 0 else m.1 1051 j) ∧ (m.1 2000 56 ≠ 0 → ∀ j : Nat, 30 ≤ j → q.2.1 1051 j = m.1 1051 j)) := by
  have e1 : (14 : Int32) + (2 : Int32) * iI t = iI (14 + 2 * t) := by simp only [iI_lit, iI_mul, iI_add]
  have e2 : (15 : Int32) + (2 : Int32) * iI t = iI (15 + 2 * t) := by simp only [iI_lit, iI_mul, iI_add]
  unfold mf_goesOut
  simp only [e1, e2, gz_let, gix (show -2147483648 ≤ 14 + 2 * t ∧ 14 + 2 * t < 2147483648 by omega), gix (show -2147483648 ≤ 15 + 2 * t ∧ 15 + 2 * t < 2147483648 by omega)]
  refine pw_gu ((gin_iI (by omega)).2 (by omega)) (pw_gu ((gin_iI (by omega)).2 (by omega)) ?_)
  have hz : ∀ c j : Nat, (msI (msI m 1051 (14 + 2 * t).toNat 0) 1051 (15 + 2 * t).toNat 0).1 c j = if c = 1051 ∧ j = (15 + 2 * t).toNat then 0 else if c = 1051 ∧ j = (14 + 2 * t).toNat then 0 else m.1 c j := fun c j => rfl
  have hz2 : (msI (msI m 1051 (14 + 2 * t).toNat 0) 1051 (15 + 2 * t).toNat 0).2 = m.2 := rfl
  revert hz hz2
  generalize msI (msI m 1051 (14 + 2 * t).toNat 0) 1051 (15 + 2 * t).toNat 0 = m2
  intro hz hz2
  have ho : ∀ j : Nat, 30 ≤ j → m2.1 1051 j = m.1 1051 j := fun j hj => by rw [hz, if_neg (by omega), if_neg (by omega)]
  have hk2 : kpM l m2 := by
    obtain ⟨k1, k2, k3⟩ := hk
    refine ⟨k1, ?_, fun i j hi hj => ?_⟩
    · unfold mi; rw [ho _ (by omega)]; exact k2
    · unfold mi; rw [ho _ (by omega)]; exact k3 i j hi hj
  have h0 : mi m2 1051 0 = mi m 1051 0 := by
    unfold mi; rw [hz, if_neg (by omega), if_neg (by omega)]
  have h56 : m2.1 2000 56 = m.1 2000 56 := by rw [hz, if_neg (by omega), if_neg (by omega)]
  have hj30 : ∀ j : Nat, j < 30 → m2.1 1051 j = if j = (14 + 2 * t).toNat ∨ j = (15 + 2 * t).toNat then 0 else m.1 1051 j := by
    intro j hj
    rw [hz]
    by_cases q1 : j = (15 + 2 * t).toNat
    · rw [if_pos ⟨rfl, q1⟩, if_pos (Or.inr q1)]
    · rw [if_neg (fun q => q1 q.2)]
      by_cases q2 : j = (14 + 2 * t).toNat
      · rw [if_pos ⟨rfl, q2⟩, if_pos (Or.inl q2)]
      · rw [if_neg (fun q => q2 q.2), if_neg (fun q => q.elim q2 q1)]
  by_cases th : m.1 2000 56 = 0
  · refine pw_bind (pw_mono (p_isKept hk2 (h56.trans th) (t := t) (how := how) (by omega) (by omega)) ?_)
    rintro ⟨u, m3⟩ ⟨a1, a2, a3⟩
    refine pw_some ⟨?_, fun c j hc => ?_, a3.trans hz2, fun j hj => ?_, fun q => absurd th q⟩
    · unfold thM
      rw [if_pos th, ← h0]
      exact a1
    · rw [a2 c j (by omega), hz, if_neg (by omega), if_neg (by omega)]
    · rw [a2 _ _ (by omega)]
      exact hj30 j hj
  · have en : mf_isKept (iI t) (iI how) m2 = some ((), m2) := by
      unfold mf_isKept
      rw [if_neg (by rw [h56]; exact th)]
    rw [en]
    refine pw_bind (pw_some (pw_some ⟨?_, fun c j hc => ?_, hz2, hj30, fun _ => ho⟩))
    · unfold thM
      rw [if_neg th]
      exact hk2
    · rw [hz, if_neg (by omega), if_neg (by omega)]
