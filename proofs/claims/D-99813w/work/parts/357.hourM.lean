/-! ===== the model's hour ===== -/
def hE (m m' : MM) : Prop := (∀ c j : Nat, ¬ (c = 1051 ∨ c = 1059 ∨ (c = 2000 ∧ (j = 48 ∨ j = 55 ∨ j = 57 ∨ j = 99))) → m'.1 c j = m.1 c j) ∧ ∀ c j : Nat, c ≠ 1099 → m'.2 c j = m.2 c j
theorem hE.refl (m : MM) : hE m m := ⟨fun _ _ _ => rfl, fun _ _ _ => rfl⟩
theorem hE.trans {a b c : MM} (h1 : hE a b) (h2 : hE b c) : hE a c := ⟨fun x y h => (h2.1 x y h).trans (h1.1 x y h), fun x y h => (h2.2 x y h).trans (h1.2 x y h)⟩
def aE (m m' : MM) : Prop := (∀ c j : Nat, ¬ (c = 1059 ∨ (c = 2000 ∧ (j = 48 ∨ j = 55 ∨ j = 99))) → m'.1 c j = m.1 c j) ∧ ∀ c j : Nat, c ≠ 1099 → m'.2 c j = m.2 c j
theorem aE.refl (m : MM) : aE m m := ⟨fun _ _ _ => rfl, fun _ _ _ => rfl⟩
theorem aE.trans {a b c : MM} (h1 : aE a b) (h2 : aE b c) : aE a c := ⟨fun x y h => (h2.1 x y h).trans (h1.1 x y h), fun x y h => (h2.2 x y h).trans (h1.2 x y h)⟩
theorem aE.of {a b : MM} (h : tE a b) : aE a b := ⟨fun c j hc => h.1 c j (by omega), h.2⟩
theorem aE.s {a b : MM} (h : aE a b) : sE a b := fun c j k => h.1 c j (by unfold kyC at k; omega)
theorem aE.h {a b : MM} (h : aE a b) : hE a b := ⟨fun c j hc => h.1 c j (by omega), h.2⟩
theorem p_isTold {m : MM} {w : Nat} (hw : w < 2) : mf_isTold (iI w) m = some (if mi m 1044 (2 + w) = -1 then 0 else 1, m) := by
  have e1 : (2 : Int32) + iI w = iI (2 + w) := by rw [iI_lit, iI_add]
  have r := mi_r m 1044 (2 + w)
  unfold mf_isTold
  rw [e1, if_pos ((gin_iI (by omega)).2 (by omega)), gix (by omega), show (2 + (w : Int)).toNat = 2 + w by omega, mi_of m 1044 (2 + w)]
  by_cases q : mi m 1044 (2 + w) = -1
  · rw [if_pos (by rw [q]; decide), if_pos q]
  · rw [if_neg (by rw [show (-1 : Int32) = iI (-1) by decide, iI_eq r (by omega)]; exact q), if_neg q]
theorem p_cut {m : MM} {v : Int} (hv : -9223372036854775808 ≤ v ∧ v < 9223372036854775808) : mf_cut (lL v) m = some (iI (cutS v), m) := by
  unfold mf_cut cutS
  by_cases q : v < 0
  · rw [if_neg (by rw [lL_lit, lL_le (by omega) (by omega)]; omega), if_pos q]
    rfl
  · rw [if_pos (by rw [lL_lit, lL_le (by omega) (by omega)]; omega), if_neg q]
    by_cases q2 : 99 < v
    · rw [if_neg (by rw [lL_lit, lL_le (by omega) (by omega)]; omega), if_pos q2]
      rfl
    · rw [if_pos (by rw [lL_lit, lL_le (by omega) (by omega)]; omega), if_neg q2, l2i_lL (by omega)]
theorem val_of {m : MM} {w t : Nat} {v : Int} (h : qR (envM m t) lk0 (csM m w) [] = [v]) : valM m w t = v := by
  unfold valM
  rw [h]
  rfl
/-- codes are told -/
theorem p_told {m : MM} (h : rMany m) (hN : okN m) {w : Nat} (hw : w < 2) {ty : Bool} (hc : cOK1 m w ty) (hf : mi m 1044 (2 + w) ≠ -1) {t : Nat} (ht : (t : Int) < mi m 1038 7) : vOK ty (valM m w t) ∧ pw (mf_codesTell (iI w) (iI t) m) (fun q => q.1 = lL (valM m w t) ∧ tE m q.2) := by
  obtain ⟨c1, c2, c3⟩ := hc hf
  obtain ⟨v, h1, h2, h3⟩ := p_codesTell h hN hw c1 c2 c3 ht lk0
  rw [val_of h1]
  exact ⟨h2, h3⟩
theorem stI_ne {m : MM} {i t : Nat} (h : t ≠ i) : stI m (i + 1) t = stI m i t := by
  unfold stI
  by_cases q : t < i ∧ nxM m t ≠ -1
  · rw [if_pos q, if_pos ⟨by omega, q.2⟩]
  · rw [if_neg q, if_neg (fun q2 => q ⟨by omega, q2.2⟩)]
theorem smI_ne {m : MM} {i t : Nat} (h : t ≠ i) : smI m (i + 1) t = smI m i t := by
  unfold smI
  by_cases q : t < i
  · rw [if_pos q, if_pos (by omega)]
  · rw [if_neg q, if_neg (by omega)]
theorem stI_i (m : MM) (i : Nat) : stI m i i = mi m 1051 (14 + 2 * i) := by unfold stI; rw [if_neg (by omega)]
theorem smI_i (m : MM) (i : Nat) : smI m i i = mi m 1051 (15 + 2 * i) := by unfold smI; rw [if_neg (by omega)]
theorem stI_n {m : MM} {i : Nat} (h : nxM m i = -1) : stI m (i + 1) i = mi m 1051 (14 + 2 * i) := by unfold stI; rw [if_neg (fun q => q.2 h)]
theorem stI_y {m : MM} {i : Nat} (h : nxM m i ≠ -1) : stI m (i + 1) i = nxM m i := by unfold stI; rw [if_pos ⟨by omega, h⟩]
theorem smI_n {m : MM} {i : Nat} (h : nxM m i = -1) : smI m (i + 1) i = if mi m 1051 (15 + 2 * i) < 99 then mi m 1051 (15 + 2 * i) + 1 else mi m 1051 (15 + 2 * i) := by unfold smI; rw [if_pos (by omega), if_pos h]
theorem smI_z {m : MM} {i : Nat} (h : nxM m i = 0) : smI m (i + 1) i = 0 := by unfold smI; rw [if_pos (by omega), if_neg (by omega), if_pos h]
theorem smI_y {m : MM} {i : Nat} (h : nxM m i ≠ -1) (h0 : nxM m i ≠ 0) : smI m (i + 1) i = mi m 1051 (15 + 2 * i) := by unfold smI; rw [if_pos (by omega), if_neg h, if_neg h0]
/-- the second turn of the hour: where it stands at thing i -/
def hI (m : MM) (l : List (Int × Int × Int)) (i : Nat) (m' : MM) : Prop := hE m m' ∧ (∀ j : Nat, j < 14 → m'.1 1051 j = m.1 1051 j) ∧ (∀ t : Nat, t < 8 → mi m' 1051 (14 + 2 * t) = stI m i t ∧ mi m' 1051 (15 + 2 * t) = smI m i t) ∧ (∀ t : Nat, t < things m → m'.1 1059 t = iI (nxM m t)) ∧ kpM (thM m l (hrK m l i)) m' ∧ m'.1 2000 57 = iI (mi m 2000 57 + hrN m i) ∧ (m.1 2000 56 ≠ 0 → ∀ j : Nat, 30 ≤ j → m'.1 1051 j = m.1 1051 j)
theorem hI_w {m : MM} {l : List (Int × Int × Int)} {i : Nat} {m' : MM} (h : hI m l i m') (hi : i < 8) (h0 : nxM m i ≠ 0) {j : Nat} (hj : j = 14 + 2 * i ∨ j = 15 + 2 * i) {v : Int} (hv : -2147483648 ≤ v ∧ v < 2147483648) (hst : (if j = 14 + 2 * i then v else stI m i i) = stI m (i + 1) i) (hsm : (if j = 15 + 2 * i then v else smI m i i) = smI m (i + 1) i) : hI m l (i + 1) (msI m' 1051 j (iI v)) := by
  obtain ⟨h1, h2, h3, h4, h5, h6, h7⟩ := h
  refine ⟨⟨fun c k hc => ?_, h1.2⟩, fun k hk => ?_, fun t ht => ?_, fun t ht => ?_, ?_, ?_, fun th k hk => ?_⟩
  · rw [msI_i, if_neg (by omega)]
    exact h1.1 c k hc
  · rw [msI_i, if_neg (by omega)]
    exact h2 k hk
  · rw [mi_sI _ _ _ _ _ hv, mi_sI _ _ _ _ _ hv]
    by_cases q : t = i
    · subst q
      rw [← hst, ← hsm, (h3 t ht).1, (h3 t ht).2]
      constructor
      · by_cases q1 : j = 14 + 2 * t
        · rw [if_pos ⟨rfl, q1.symm⟩, if_pos q1]
        · rw [if_neg (fun z => q1 z.2.symm), if_neg q1]
      · by_cases q1 : j = 15 + 2 * t
        · rw [if_pos ⟨rfl, q1.symm⟩, if_pos q1]
        · rw [if_neg (fun z => q1 z.2.symm), if_neg q1]
    · rw [if_neg (by omega), if_neg (by omega), stI_ne q, smI_ne q]
      exact h3 t ht
  · rw [msI_i, if_neg (by omega)]
    exact h4 t ht
  · rw [hrK_s, if_neg h0]
    obtain ⟨k1, k2, k3⟩ := h5
    refine ⟨k1, ?_, fun a b ha hb => ?_⟩
    · rw [mi_sI _ _ _ _ _ hv, if_neg (by omega)]; exact k2
    · rw [mi_sI _ _ _ _ _ hv, if_neg (by omega)]; exact k3 a b ha hb
  · rw [msI_i, if_neg (by omega), hrN_s, if_neg h0]
    exact h6
  · rw [msI_i, if_neg (by omega)]
    exact h7 th k hk
theorem hI_o {m : MM} {l : List (Int × Int × Int)} {i : Nat} {m' : MM} (h : hI m l i m') (hi : i < 8) (h0 : nxM m i = 0) : pw (mf_goesOut (iI i) (0 : Int32) m') (fun q => hI m l (i + 1) (msI q.2 2000 57 ((q.2.1 2000 57) + (1 : Int32)))) := by
  obtain ⟨h1, h2, h3, h4, h5, h6, h7⟩ := h
  have h56 : m'.1 2000 56 = m.1 2000 56 := h1.1 _ _ (by omega)
  have e0 : mi m' 1051 0 = mi m 1051 0 := congrArg Int32.toInt (h2 0 (by omega))
  refine pw_mono (p_goesOut h5 (t := i) (how := 0) (by omega) (by omega)) ?_
  rintro ⟨u, m3⟩ ⟨a1, a2, a3, a4, a5⟩
  dsimp only at a1 a2 a3 a4 a5 ⊢
  have hb := hrN_b m i
  refine ⟨⟨fun c k hc => ?_, fun c k hc => ?_⟩, fun k hk => ?_, fun t ht => ?_, fun t ht => ?_, ?_, ?_, fun th k hk => ?_⟩
  · rw [msI_i, if_neg (by omega), a2 c k (by omega)]
    exact h1.1 c k hc
  · show m3.2 c k = _
    rw [a3]
    exact h1.2 c k hc
  · rw [msI_i, if_neg (by omega), a4 k (by omega), if_neg (by omega)]
    exact h2 k hk
  · have q1 : ∀ k : Nat, mi (msI m3 2000 57 (m3.1 2000 57 + (1 : Int32))) 1051 k = mi m3 1051 k := fun k => by
      unfold mi
      rw [msI_i, if_neg (by omega)]
    rw [q1, q1]
    unfold mi
    rw [a4 _ (by omega), a4 _ (by omega)]
    by_cases q : t = i
    · rw [if_pos (by omega), if_pos (by omega), q, stI_y (by omega), smI_z h0, h0]
      exact ⟨rfl, rfl⟩
    · rw [if_neg (by omega), if_neg (by omega), stI_ne q, smI_ne q]
      exact h3 t ht
  · rw [msI_i, if_neg (by omega), a2 _ _ (by omega)]
    exact h4 t ht
  · have a1' : kpM (thM m l (hrK m l (i + 1))) m3 := by
      rw [hrK_s, if_pos h0]
      unfold thM at a1 ⊢
      rw [h56] at a1
      by_cases th : m.1 2000 56 = 0
      · rw [if_pos th, if_pos th, e0] at a1
        rw [if_pos th]
        exact a1
      · rw [if_neg th, if_neg th] at a1
        rw [if_neg th]
        exact a1
    obtain ⟨k1, k2, k3⟩ := a1'
    refine ⟨k1, ?_, fun a b ha hb => ?_⟩
    · unfold mi; rw [msI_i, if_neg (by omega)]; exact k2
    · unfold mi; rw [msI_i, if_neg (by omega)]; exact k3 a b ha hb
  · rw [msI_i, if_pos ⟨rfl, rfl⟩, a2 _ _ (by omega), h6, hrN_s, if_pos h0, iI_lit, iI_add]
    exact congrArg iI (by omega)
  · rw [msI_i, if_neg (by omega), a5 (by rw [h56]; exact th) k hk]
    exact h7 th k hk
def hQ (m : MM) (l : List (Int × Int × Int)) (m' : MM) : Prop := sE (hourM m) m' ∧ hE m m' ∧ kpM (thM m l (hrK m l (things m))) m' ∧ m'.1 2000 57 = iI (mi m 2000 57 + hrN m (things m)) ∧ (m.1 2000 56 ≠ 0 → ∀ j : Nat, 30 ≤ j → m'.1 1051 j = m.1 1051 j)
theorem p_hour2 {m m1 : MM} (h : rMany m) (hN : okN m) {l : List (Int × Int × Int)} (hk : kpM l m) (ha : aE m m1) (hx : ∀ t : Nat, t < things m → m1.1 1059 t = iI (nxM m t)) : pw (ml_X6_hourGoes_64 (0 : Int32) m1) (fun q => hQ m l q.2) := by
  have hb := h.2.1
  have h8 : things m ≤ 8 := by unfold things; omega
  unfold ml_X6_hourGoes_64
  refine pw_for (fun i q => q.1 = iI i ∧ hI m l i q.2) (things m) ?_ ?_ ⟨rfl, ?_⟩
  · rintro i ⟨y, m'⟩ hi ⟨rfl, hI'⟩
    dsimp only at hI' ⊢
    have hw := hI'
    obtain ⟨h1, h2, h3, h4, h5, h6, h7⟩ := hI'
    have ew : mi m' 1038 7 = mi m 1038 7 := congrArg Int32.toInt (h1.1 _ _ (by omega))
    have hi' : (i : Int) < mi m 1038 7 := by unfold things at hi; omega
    have hn := nxM_b m i
    have e1 : iI (i : Int) + (1 : Int32) = iI ((i + 1 : Nat) : Int) := by rw [iI_lit, iI_add]; rfl
    have g15 : (15 : Int32) + (2 : Int32) * iI i = iI (15 + 2 * i) := by simp only [iI_lit, iI_mul, iI_add]
    have g14 : (14 : Int32) + (2 : Int32) * iI i = iI (14 + 2 * i) := by simp only [iI_lit, iI_mul, iI_add]
    have gi15 : gz_ix (iI (15 + 2 * (i : Int))) = 15 + 2 * i := by rw [gix (by omega)]; omega
    have gi14 : gz_ix (iI (14 + 2 * (i : Int))) = 14 + 2 * i := by rw [gix (by omega)]; omega
    have gi : gz_ix (iI (i : Int)) = i := by rw [gix (by omega)]; omega
    unfold mb_X6_hourGoes_64 mj_X6_hourGoes_155
    rw [p_thingMany]
    refine pw_bind (pw_some ?_)
    dsimp only
    refine pw_f (by rw [ew, iI_le (by omega) (by omega)]; omega) ?_
    refine pw_gu ((gin_iI (by omega)).2 (by omega)) ?_
    simp only [gi, h4 i hi, g14, g15, gi14, gi15, gz_let, e1]
    by_cases q : nxM m i = -1
    · refine pw_t (by rw [q]; decide) ?_
      rw [p_smellOf (by omega), (h3 i (by omega)).2, smI_i]
      refine pw_bind (pw_some ?_)
      dsimp only
      have hs := (hN.2.1 i (by omega)).2
      by_cases q2 : mi m 1051 (15 + 2 * i) < 99
      · refine pw_f (by rw [iI_lit, iI_le (by omega) (by omega)]; omega) ?_
        refine pw_gu ((gin_iI (by omega)).2 (by omega)) (pw_gu ((gin_iI (by omega)).2 (by omega)) (pw_some ⟨rfl, ?_⟩))
        have ev : m'.1 1051 (15 + 2 * i) + (1 : Int32) = iI (mi m 1051 (15 + 2 * i) + 1) := by rw [mi_of m', (h3 i (by omega)).2, smI_i, iI_lit, iI_add]
        rw [ev]
        exact hI_w hw (by omega) (by omega) (Or.inr rfl) (by omega) (by rw [if_neg (by omega), stI_i, stI_n q]) (by rw [if_pos rfl, smI_n q, if_pos q2])
      · refine pw_t (by rw [iI_lit, iI_le (by omega) (by omega)]; omega) (pw_some ⟨rfl, ?_⟩)
        have := hI_w hw (by omega) (by omega) (Or.inr rfl) (v := mi m 1051 (15 + 2 * i)) (by omega) (by rw [if_neg (by omega), stI_i, stI_n q]) (by rw [if_pos rfl, smI_n q, if_neg q2])
        have e9 : msI m' 1051 (15 + 2 * i) (iI (mi m 1051 (15 + 2 * i))) = m' := by
          have ev : iI (mi m 1051 (15 + 2 * i)) = m'.1 1051 (15 + 2 * i) := by rw [mi_of m', (h3 i (by omega)).2, smI_i]
          rw [ev]
          refine Prod.ext (funext fun c => funext fun j => ?_) rfl
          rw [msI_i]
          by_cases z : c = 1051 ∧ j = 15 + 2 * i
          · rw [if_pos z, z.1, z.2]
          · rw [if_neg z]
        rw [e9] at this
        exact this
    · refine pw_f (by rw [show (-1 : Int32) = iI (-1) by decide, iI_eq (by omega) (by omega)]; exact q) ?_
      refine pw_gu ((gin_iI (by omega)).2 (by omega)) ?_
      by_cases q0 : nxM m i = 0
      · refine pw_t (by rw [q0]; rfl) ?_
        refine pw_bind (pw_mono (hI_o hw (by omega) q0) ?_)
        rintro ⟨u, m3⟩ h9
        exact pw_some ⟨rfl, h9⟩
      · refine pw_f (by rw [iI_lit, iI_eq (by omega) (by omega)]; exact q0) ?_
        refine pw_gu ((gin_iI (by omega)).2 (by omega)) (pw_gu ((gin_iI (by omega)).2 (by omega)) (pw_some ⟨rfl, ?_⟩))
        exact hI_w hw (by omega) q0 (Or.inl rfl) (by omega) (by rw [if_pos rfl, stI_y q]) (by rw [if_neg (by omega), smI_i, smI_y q q0])
  · rintro ⟨y, m'⟩ ⟨rfl, h1, h2, h3, h4, h5, h6, h7⟩
    dsimp only at h1 h2 h3 h4 h5 h6 h7 ⊢
    have ew : mi m' 1038 7 = mi m 1038 7 := congrArg Int32.toInt (h1.1 _ _ (by omega))
    unfold mb_X6_hourGoes_64
    rw [p_thingMany]
    refine pw_bind (pw_some ?_)
    dsimp only
    refine pw_t (by rw [ew, iI_le (by omega) (by omega)]; unfold things; omega) ?_
    have g0 : gz_ix (0 : Int32) = 0 := by decide
    simp only [g0, gz_let]
    refine pw_gu (by decide) (pw_gu (by decide) (pw_some ?_))
    have h0 := hN.1
    have ev : m'.1 1051 0 + (1 : Int32) = iI (mi m 1051 0 + 1) := by rw [h2 0 (by omega), mi_of m, iI_lit, iI_add]
    rw [ev]
    refine ⟨fun c j hc => ?_, ⟨fun c j hc => ?_, h1.2⟩, ?_, ?_, fun th j hj => ?_⟩
    · rw [msI_i]
      by_cases z : c = 1051 ∧ j < 30
      · obtain ⟨z1, z2⟩ := z
        subst z1
        by_cases z0 : j = 0
        · rw [if_pos ⟨rfl, z0⟩, z0]
          rfl
        · rw [if_neg (fun q => z0 q.2)]
          by_cases z14 : j < 14
          · rw [h2 j z14]
            unfold hourM
            dsimp only
            rw [if_pos (by omega), if_neg z0, if_pos z14]
          · obtain ⟨a1, a2⟩ := h3 ((j - 14) / 2) (by omega)
            rw [mi_of m' 1051 j]
            unfold hourM
            dsimp only
            rw [if_pos (by omega), if_neg z0, if_neg z14]
            by_cases z2 : j % 2 = 0
            · rw [if_pos z2, ← a1]
              exact congrArg (fun z => iI (mi m' 1051 z)) (by omega)
            · rw [if_neg z2, ← a2]
              exact congrArg (fun z => iI (mi m' 1051 z)) (by omega)
      · rw [if_neg (by omega), hourM_o m z]
        exact h1.1 c j (by unfold kyC at hc; omega)
    · rw [msI_i, if_neg (by omega)]
      exact h1.1 c j hc
    · obtain ⟨k1, k2, k3⟩ := h5
      refine ⟨k1, ?_, fun a b ha hb => ?_⟩
      · unfold mi; rw [msI_i, if_neg (by omega)]; exact k2
      · unfold mi; rw [msI_i, if_neg (by omega)]; exact k3 a b ha hb
    · rw [msI_i, if_neg (by omega)]
      exact h6
    · rw [msI_i, if_neg (by omega)]
      exact h7 th j hj
  · refine ⟨ha.h, fun j hj => ha.1 _ _ (by omega), fun t ht => ?_, hx, ?_, ?_, fun th j hj => ha.1 _ _ (by omega)⟩
    · constructor
      · unfold stI
        rw [if_neg (by omega)]
        exact congrArg Int32.toInt (ha.1 _ _ (by omega))
      · unfold smI
        rw [if_neg (by omega)]
        exact congrArg Int32.toInt (ha.1 _ _ (by omega))
    · have e : thM m l (hrK m l 0) = l := by
        unfold thM hrK
        split <;> rfl
      rw [e]
      obtain ⟨k1, k2, k3⟩ := hk
      refine ⟨k1, ?_, fun a b ha' hb => ?_⟩
      · unfold mi; rw [ha.1 _ _ (by omega)]; exact k2
      · unfold mi; rw [ha.1 _ _ (by omega)]; exact k3 a b ha' hb
    · rw [ha.1 _ _ (by omega), mi_of m]
      exact congrArg iI (by show _ = _ + 0; omega)
theorem p_hour {m : MM} (h : rMany m) (hN : okN m) (hc : cOK m) {l : List (Int × Int × Int)} (hk : kpM l m) : pw (mf_hourGoes m) (fun q => hQ m l q.2) := by
  have hb := h.2.1
  have h8 : things m ≤ 8 := by unfold things; omega
  unfold mf_hourGoes ml_X6_hourGoes_2
  refine pw_for (fun i q => q.1 = iI i ∧ aE m q.2 ∧ ∀ t : Nat, t < i → q.2.1 1059 t = iI (nxM m t)) (things m) ?_ ?_ ⟨rfl, aE.refl m, fun t ht => absurd ht (Nat.not_lt_zero _)⟩
  · rintro i ⟨y, m'⟩ hi ⟨rfl, h1, h2⟩
    dsimp only at h1 h2 ⊢
    have hs := h1.s
    have hi' : (i : Int) < mi m 1038 7 := by unfold things at hi; omega
    have e1 : iI (i : Int) + (1 : Int32) = iI ((i + 1 : Nat) : Int) := by rw [iI_lit, iI_add]; rfl
    have gi : gz_ix (iI (i : Int)) = i := by rw [gix (by omega)]; omega
    have fin : ∀ (m2 : MM) (v : Int32), tE m' m2 → v = iI (nxM m i) → pw (mj_X6_hourGoes_55 (iI i) v (iI i) m2) (Sum.elim (fun q => q.1 = iI ((i + 1 : Nat) : Int) ∧ aE m q.2 ∧ ∀ t : Nat, t < i + 1 → q.2.1 1059 t = iI (nxM m t)) (fun q => hQ m l q.2)) := by
      intro m2 v h3 hv
      have h4 := h1.trans (aE.of h3)
      unfold mj_X6_hourGoes_55
      simp only [gi, gz_let, e1]
      refine pw_gu ((gin_iI (by omega)).2 (by omega)) (pw_some ⟨rfl, ⟨fun c j hcj => ?_, h4.2⟩, fun t ht => ?_⟩)
      · show (msI m2 1059 i v).1 c j = _
        rw [msI_i, if_neg (by omega)]
        exact h4.1 c j hcj
      · show (msI m2 1059 i v).1 1059 t = _
        rw [msI_i]
        by_cases q : t = i
        · rw [if_pos ⟨rfl, q⟩, hv, q]
        · rw [if_neg (fun z => q z.2)]
          rw [h3.1 _ _ (by omega)]
          exact h2 t (by omega)
    unfold mb_X6_hourGoes_2
    rw [p_thingMany]
    refine pw_bind (pw_some ?_)
    dsimp only
    refine pw_f (by rw [hs.w, iI_le (by omega) (by omega)]; omega) ?_
    rw [p_doesBurn (by omega), hs.n (by omega)]
    refine pw_bind (pw_some ?_)
    dsimp only
    by_cases q : 0 < mi m 1051 (14 + 2 * i)
    · rw [if_pos q]
      refine pw_f (by decide) ?_
      have e0 : (0 : Int32) = iI ((0 : Nat) : Int) := rfl
      rw [e0, p_isTold (by omega), hs.f]
      refine pw_bind (pw_some ?_)
      dsimp only
      by_cases q2 : mi m 1044 (2 + 0) = -1
      · rw [if_pos q2]
        refine pw_t rfl ?_
        rw [p_strengthOf (by omega), hs.n (by omega)]
        refine pw_bind (pw_some ?_)
        dsimp only
        have hst := (hN.2.1 i (by omega)).1
        rw [iI_lit, iI_sub, i2l_iI (by omega)]
        unfold mj_X6_hourGoes_52
        rw [p_cut (by omega)]
        refine pw_bind (pw_some ?_)
        exact fin m' _ (tE.refl _) (by unfold nxM; rw [if_neg (by omega), if_pos q2])
      · rw [if_neg q2]
        refine pw_f (by decide) ?_
        obtain ⟨v1, v2⟩ := p_told (hs.many h) (hs.oN hN) (w := 0) (by omega) (hs.cO1 hc.1) (by rw [hs.f]; exact q2) (t := i) (by rw [hs.w]; exact hi')
        have vb := v1.b
        refine pw_bind (pw_mono v2 ?_)
        rintro ⟨r, m2⟩ ⟨rfl, h3⟩
        dsimp only at h3 ⊢
        unfold mj_X6_hourGoes_52
        rw [p_cut (by omega)]
        refine pw_bind (pw_some ?_)
        exact fin m2 _ h3 (by unfold nxM; rw [if_neg (by omega), if_neg q2, hs.val h (by omega)])
    · rw [if_neg q]
      refine pw_t rfl ?_
      exact fin m' _ (tE.refl _) (by unfold nxM; rw [if_pos (by omega)]; rfl)
  · rintro ⟨y, m'⟩ ⟨rfl, h1, h2⟩
    dsimp only at h1 h2 ⊢
    unfold mb_X6_hourGoes_2
    rw [p_thingMany]
    refine pw_bind (pw_some ?_)
    dsimp only
    refine pw_t (by rw [h1.s.w, iI_le (by omega) (by omega)]; unfold things; omega) ?_
    refine pw_map ?_
    exact pw_mono (p_hour2 h hN hk h1 h2) (fun _ h => h)
