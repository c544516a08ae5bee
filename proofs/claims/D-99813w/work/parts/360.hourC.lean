/-! ===== the component's hour ===== -/
theorem cSt_5 : (List.range 2400).all (fun x => !cSt x || (!(x + 5 == 1000) && !(x + 5 == 1011) && !(x + 5 == 1013) && !(x + 5 == 1015) && !(x + 5 == 1018) && !cSt (x + 5) && !(x + 5 == 1126) && !(Nat.ble 1127 (x + 5) && Nat.blt (x + 5) 1447))) = true := by decide +kernel
theorem sr_5 {x : Nat} (h : cSt x = true) (k : Nat) : sr (x + 5) k = 0 := by
  have a := List.all_eq_true.mp cSt_5 x (List.mem_range.mpr (cSt_lt h))
  rw [h] at a
  simp only [Bool.not_true, Bool.false_or, Bool.and_eq_true, Bool.not_eq_true', beq_eq_false_iff_ne, Bool.and_eq_false_iff] at a
  obtain ⟨⟨⟨⟨⟨⟨⟨a1, a2⟩, a3⟩, a4⟩, a5⟩, a6⟩, a7⟩, a8⟩ := a
  have a9 : ¬ (1127 ≤ x + 5 ∧ x + 5 < 1447 ∧ (x + 5 - 1127) % 32 = 0) := by
    intro q
    rcases a8 with z | z
    · have := Nat.ble_eq_true_of_le q.1
      rw [z] at this
      cases this
    · have := Nat.ble_eq_true_of_le (show x + 5 + 1 ≤ 1447 from q.2.1)
      rw [show Nat.ble (x + 5 + 1) 1447 = Nat.blt (x + 5) 1447 from rfl, z] at this
      cases this
  unfold sr
  rw [if_neg a1, if_neg a2, if_neg (fun q => q.elim a3 a4), if_neg a5, if_neg (by rw [a6]; decide), if_neg a7, if_neg a9]
theorem st_c {x : Nat} (h : cSt x = true) : x = 1027 ∨ x = 1073 ∨ 1448 ≤ x := by
  simp [cSt] at h
  omega
/-- an hour in x: what may change -/
def cF (x : Nat) (μ μ' : gM) : Prop := μ'.1 = μ.1 ∧ μ'.2.1 = μ.2.1 ∧ μ'.2.2.2.2.2 = μ.2.2.2.2.2 ∧ (∀ c j : Nat, c ≠ 1014 → gL μ' c j = gL μ c j) ∧ (∀ c j : Nat, ¬ ((c = x ∧ j < 2) ∨ c = x + 1 ∨ c = x + 2 ∨ c = x + 3 ∨ (x + 6 ≤ c ∧ c < x + 46)) → gI μ' c j = gI μ c j) ∧ ∀ c j : Nat, c ≠ x + 5 → gP μ' c j = gP μ c j
theorem cF.refl (x : Nat) (μ : gM) : cF x μ μ := ⟨rfl, rfl, rfl, fun _ _ _ => rfl, fun _ _ _ => rfl, fun _ _ _ => rfl⟩
theorem cF.trans {x : Nat} {a b c : gM} (h1 : cF x a b) (h2 : cF x b c) : cF x a c := ⟨h2.1.trans h1.1, h2.2.1.trans h1.2.1, h2.2.2.1.trans h1.2.2.1, fun u v k => (h2.2.2.2.1 u v k).trans (h1.2.2.2.1 u v k), fun u v k => (h2.2.2.2.2.1 u v k).trans (h1.2.2.2.2.1 u v k), fun u v k => (h2.2.2.2.2.2 u v k).trans (h1.2.2.2.2.2 u v k)⟩
theorem cF.dy {x : Nat} (hx : cSt x = true) {μ μ' : gM} (h : cF x μ μ') : dyS μ μ' := ⟨h.1, h.2.1, h.2.2.1, fun c hc j => by
  have h1 : ¬ (x ≤ c ∧ c < x + 46) := fun q => st_ks hx q.1 q.2 hc
  refine ⟨h.2.2.2.2.1 c j (by omega), h.2.2.2.1 c j (fun q => by subst q; revert hc; decide), h.2.2.2.2.2 c j (by omega)⟩⟩
theorem cF.hh {x : Nat} (hx : cSt x = true) {μ μ' : gM} (h : cF x μ μ') : gP μ' 1000 0 = gP μ 1000 0 := h.2.2.2.2.2 _ _ (by have := st_c hx; omega)
theorem cF.lay {x : Nat} (hx : cSt x = true) {μ μ' : gM} (h : cF x μ μ') (hl : cLay μ) : cLay μ' := by
  intro c hc
  obtain ⟨a1, a2, a3⟩ := hl c hc
  refine ⟨by rw [h.1]; exact a1, by rw [h.2.1]; exact a2, fun k hk => ?_⟩
  have hne : c ≠ x + 5 := fun q => hk (by rw [q]; exact sr_5 hx k)
  exact (h.2.2.2.2.2 c k hne).trans (a3 k hk)
theorem cF.of {x : Nat} {μ μ' : gM} (h : oF μ μ') : cF x μ μ' := ⟨h.1, h.2.1, h.2.2.1, h.2.2.2.2.1, fun c j _ => h.2.2.2.1 c j, fun c j _ => h.2.2.2.2.2 c j⟩
theorem cF.kept {x : Nat} {μ μ' : gM} (h : kF x μ μ') : cF x μ μ' := ⟨h.1, h.2.1, h.2.2.1, fun c j _ => h.2.2.2.1 c j, fun c j hc => h.2.2.2.2.1 c j (by omega), h.2.2.2.2.2⟩
theorem cF.sI {x c j : Nat} {μ : gM} {v : Int32} (hc : (c = x ∧ j < 2) ∨ c = x + 1 ∨ c = x + 2 ∨ c = x + 3) : cF x μ (gz_sI μ c j v) := ⟨rfl, rfl, rfl, fun _ _ _ => rfl, fun c' j' h' => by rw [sI_i, if_neg (by omega)], fun _ _ _ => rfl⟩
theorem kC.sI {x c j : Nat} {μ : gM} {v : Int32} {l : List (Int × Int × Int)} (h : kC l μ x) (hc : ¬ ((c = x ∧ j = 1) ∨ (x + 6 ≤ c ∧ c < x + 46))) : kC l (gz_sI μ c j v) x := by
  obtain ⟨k1, k2, k3, k4⟩ := h
  refine ⟨k1, ?_, k3, fun a b ha hb => ?_⟩
  · unfold ci
    rw [sI_i, if_neg (by omega)]
    exact k2
  · have := (k3 a (by omega)).1
    unfold ci
    rw [sI_p, sI_i, if_neg (by omega)]
    exact k4 a b ha hb
theorem kC.oF {x : Nat} {μ μ' : gM} {l : List (Int × Int × Int)} (h : kC l μ x) (ho : oF μ μ') : kC l μ' x := by
  obtain ⟨k1, k2, k3, k4⟩ := h
  obtain ⟨o1, o2, o3, o4, o5, o6⟩ := ho
  refine ⟨k1, ?_, fun i hi => ?_, fun a b ha hb => ?_⟩
  · unfold ci; rw [o4]; exact k2
  · rw [o6]
    refine ⟨(k3 i hi).1, fun j hj e => (k3 i hi).2 j hj ?_⟩
    rw [o6] at e
    exact e
  · unfold ci; rw [o6, o4]; exact k4 a b ha hb
theorem c_goesOut {μ : gM} {x : Nat} (hx : cSt x = true) {l : List (Int × Int × Int)} (hk : kC l μ x) {t : Nat} {how : Int} (ht : t < 8) (hh : 0 ≤ how ∧ how < 4) : pw (cf_X5_goesOut x (iI t) (iI how) μ) (fun q => kC (keepS l (ci μ x 0, t, how)) q.2 x ∧ cF x μ q.2 ∧ gI q.2 x 0 = gI μ x 0 ∧ (∀ c j : Nat, (c = x + 1 ∨ c = x + 3) → gI q.2 c j = if j = t then 0 else gI μ c j) ∧ ∀ j : Nat, gI q.2 (x + 2) j = gI μ (x + 2) j) := by
  have gt : gz_ix (iI (t : Int)) = t := by rw [gix (by omega)]; omega
  have hi8 : gz_in (iI (t : Int)) 8 := (gin_iI (by omega)).2 (by omega)
  unfold cf_X5_goesOut
  simp only [gz_let, gt]
  refine pw_gu hi8 (pw_gu hi8 ?_)
  have k2 : kC l (gz_sI (gz_sI μ (x + 1) t 0) (x + 3) t 0) x := (hk.sI (by omega)).sI (by omega)
  refine pw_bind (pw_mono (c_tellsOf hx k2 (t := (t : Int)) (how := how) (by omega) (by omega)) ?_)
  rintro ⟨u, μ9⟩ ⟨a1, a2⟩
  dsimp only at a1 a2 ⊢
  have e0 : ci (gz_sI (gz_sI μ (x + 1) t 0) (x + 3) t 0) x 0 = ci μ x 0 := by
    unfold ci
    rw [sI_i, if_neg (by omega), sI_i, if_neg (by omega)]
  rw [e0] at a1
  refine pw_some ⟨a1, ((cF.sI (by omega)).trans (cF.sI (by omega))).trans (cF.kept a2), ?_, fun c j hc => ?_, fun j => ?_⟩
  · rw [a2.2.2.2.2.1 _ _ (by omega), sI_i, if_neg (by omega), sI_i, if_neg (by omega)]
  · rw [a2.2.2.2.2.1 _ _ (by omega), sI_i, sI_i]
    by_cases q : j = t
    · rw [if_pos q]
      rcases hc with z | z
      · rw [if_neg (by omega), if_pos ⟨z, q⟩]
      · rw [if_pos ⟨z, q⟩]
    · rw [if_neg (fun z => q z.2), if_neg (fun z => q z.2), if_neg q]
  · rw [a2.2.2.2.2.1 _ _ (by omega), sI_i, if_neg (by omega), sI_i, if_neg (by omega)]
def cI (m : MM) (l : List (Int × Int × Int)) (x : Nat) (μ : gM) (i : Nat) (μ' : gM) : Prop := cF x μ μ' ∧ gI μ' x 0 = gI μ x 0 ∧ (∀ t : Nat, (t : Int) < mi m 1038 7 → ci μ' (x + 1) t = stI m i t ∧ ci μ' (x + 3) t = smI m i t) ∧ (∀ t : Nat, (t : Int) < mi m 1038 7 → gI μ' (x + 2) t = iI (nxM m t)) ∧ kC (hrK m l i) μ' x
def cQ (m : MM) (l : List (Int × Int × Int)) (x : Nat) (μ : gM) (q : Int32 × gM) : Prop := q.1 = iI (hrN m (things m)) ∧ rSt (hourM m) q.2 x ∧ kC (hrK m l (things m)) q.2 x ∧ cF x μ q.2
theorem c_goes2 {m : MM} {μ μ1 : gM} {x : Nat} (hx : cSt x = true) (hN : okN m) (h : rHH m μ) (hS : rSt m μ x) {l : List (Int × Int × Int)} (h1 : cI m l x μ 0 μ1) : pw (ml_X5_goes_46 x (0 : Int32) (0 : Int32) μ1) (cQ m l x μ) := by
  have hb := h.1.2.1
  have h8 : things m ≤ 8 := by unfold things; omega
  unfold ml_X5_goes_46
  refine pw_for (fun i q => q.1 = iI (hrN m i) ∧ q.2.1 = iI i ∧ cI m l x μ i q.2.2) (things m) ?_ ?_ ⟨rfl, rfl, h1⟩
  · rintro i ⟨y1, y2, μ'⟩ hi ⟨rfl, rfl, hc⟩
    dsimp only at hc ⊢
    obtain ⟨a1, a2, a3, a4, a5⟩ := hc
    have hi' : (i : Int) < mi m 1038 7 := by unfold things at hi; omega
    have hn := nxM_b m i
    have hnb := hrN_b m i
    have e1 : iI (i : Int) + (1 : Int32) = iI ((i + 1 : Nat) : Int) := by rw [iI_lit, iI_add]; rfl
    have gi : gz_ix (iI (i : Int)) = i := by rw [gix (by omega)]; omega
    have hi8 : gz_in (iI (i : Int)) 8 := (gin_iI (by omega)).2 (by omega)
    have hh : rHH m μ' := h.mv (hhE.refl m) (a1.dy hx) (a1.hh hx)
    unfold mb_X5_goes_46 mj_X5_goes_122
    rw [c_things hh]
    refine pw_bind (pw_some ?_)
    dsimp only
    refine pw_f (by rw [iI_le (by omega) (by omega)]; omega) (pw_gu hi8 ?_)
    simp only [gi, a4 i hi', gz_let, e1]
    have wr : ∀ (c : Nat) (v : Int), (c = x + 1 ∨ c = x + 3) → (-2147483648 ≤ v ∧ v < 2147483648) → nxM m i ≠ 0 → (if c = x + 1 then v else stI m i i) = stI m (i + 1) i → (if c = x + 3 then v else smI m i i) = smI m (i + 1) i → cI m l x μ (i + 1) (gz_sI μ' c i (iI v)) := by
      intro c v hc hv h0 hst hsm
      refine ⟨a1.trans (cF.sI (by omega)), ?_, fun t ht => ?_, fun t ht => ?_, ?_⟩
      · rw [sI_i, if_neg (by omega)]; exact a2
      · rw [ci_sI _ _ _ _ _ hv, ci_sI _ _ _ _ _ hv]
        by_cases q : t = i
        · subst q
          rw [← hst, ← hsm, (a3 t ht).1, (a3 t ht).2]
          rcases hc with z | z
          · rw [if_pos ⟨z.symm, rfl⟩, if_pos z, if_neg (by omega), if_neg (by omega)]
            exact ⟨rfl, rfl⟩
          · rw [if_neg (by omega), if_neg (by omega), if_pos ⟨z.symm, rfl⟩, if_pos z]
            exact ⟨rfl, rfl⟩
        · rw [if_neg (fun z => q z.2), if_neg (fun z => q z.2), stI_ne q, smI_ne q]
          exact a3 t ht
      · rw [sI_i, if_neg (by omega)]; exact a4 t ht
      · rw [hrK_s, if_neg h0]
        exact a5.sI (by omega)
    by_cases q : nxM m i = -1
    · refine pw_t (by rw [q]; decide) (pw_gu hi8 ?_)
      have hs := (hN.2.1 i (by omega)).2
      have ev : gI μ' (x + 3) i + (1 : Int32) = iI (mi m 1051 (15 + 2 * i) + 1) := by rw [ci_of, (a3 i hi').2, smI_i, iI_lit, iI_add]
      have em : cf_J8_min (99 : Int32) (iI (mi m 1051 (15 + 2 * i) + 1)) μ' = some (iI (smI m (i + 1) i), μ') := by
        unfold cf_J8_min
        rw [smI_n q]
        by_cases q2 : mi m 1051 (15 + 2 * i) < 98
        · rw [if_pos (by rw [iI_lit, iI_lt (by omega) (by omega)]; omega), if_pos (by omega)]
        · rw [if_neg (by rw [iI_lit, iI_lt (by omega) (by omega)]; omega)]
          by_cases q3 : mi m 1051 (15 + 2 * i) < 99
          · rw [if_pos q3, show mi m 1051 (15 + 2 * i) + 1 = 99 by omega]; rfl
          · rw [if_neg q3, show mi m 1051 (15 + 2 * i) = 99 by omega]; rfl
      rw [ev, em]
      refine pw_bind (pw_some (pw_gu hi8 (pw_some ⟨?_, rfl, ?_⟩)))
      · dsimp only; rw [hrN_s, if_neg (by omega)]
      · have hsb := smI_b hN (i + 1) (t := i) (by omega)
        exact wr (x + 3) _ (Or.inr rfl) (by omega) (by omega) (by rw [if_neg (by omega), stI_i, stI_n q]) (by rw [if_pos rfl])
    · refine pw_f (by rw [show (-1 : Int32) = iI (-1) by decide, iI_eq (by omega) (by omega)]; exact q) (pw_gu hi8 ?_)
      by_cases q0 : nxM m i = 0
      · refine pw_t (by rw [q0]; rfl) ?_
        refine pw_bind (pw_mono (c_goesOut hx a5 (t := i) (how := 0) (by omega) (by omega)) ?_)
        rintro ⟨u, μ3⟩ ⟨b1, b2, b3, b4, b5⟩
        dsimp only at b1 b2 b3 b4 b5 ⊢
        refine pw_some ⟨?_, rfl, a1.trans b2, b3.trans a2, fun t ht => ?_, fun t ht => ?_, ?_⟩
        · dsimp only; rw [hrN_s, if_pos q0, iI_lit, iI_add]
        · dsimp only
          unfold ci
          rw [b4 _ _ (Or.inl rfl), b4 _ _ (Or.inr rfl)]
          by_cases z : t = i
          · rw [if_pos z, if_pos z, z, stI_y (by omega), smI_z q0, q0]
            exact ⟨rfl, rfl⟩
          · rw [if_neg z, if_neg z, stI_ne z, smI_ne z]
            exact a3 t ht
        · dsimp only; rw [b5]; exact a4 t ht
        · dsimp only
          rw [hrK_s, if_pos q0]
          have e0 : ci μ' x 0 = mi m 1051 0 := by unfold ci; rw [a2, hS.1]; rfl
          rw [e0] at b1
          exact b1
      · refine pw_f (by rw [iI_lit, iI_eq (by omega) (by omega)]; exact q0) (pw_gu hi8 (pw_gu hi8 (pw_some ⟨?_, rfl, ?_⟩)))
        · dsimp only; rw [hrN_s, if_neg q0]
        · exact wr (x + 1) _ (Or.inl rfl) (by omega) q0 (by rw [if_pos rfl, stI_y q]) (by rw [if_neg (by omega), smI_i, smI_y q q0])
  · rintro ⟨y1, y2, μ'⟩ ⟨rfl, rfl, a1, a2, a3, a4, a5⟩
    dsimp only at a1 a2 a3 a4 a5 ⊢
    have hh : rHH m μ' := h.mv (hhE.refl m) (a1.dy hx) (a1.hh hx)
    unfold mb_X5_goes_46
    rw [c_things hh]
    refine pw_bind (pw_some ?_)
    dsimp only
    refine pw_t (by rw [iI_le (by omega) (by omega)]; unfold things; omega) (pw_let (pw_some ?_))
    have h0 := hN.1
    obtain ⟨s1, s2, s3, s4, s5⟩ := hS
    have ev : gI μ' x 0 + (1 : Int32) = iI (mi m 1051 0 + 1) := by rw [a2, s1, mi_of m, iI_lit, iI_add]
    rw [ev]
    have w9 : mi (hourM m) 1038 9 = mi m 1038 9 := hourM_mo m (by omega)
    have w7 : mi (hourM m) 1038 7 = mi m 1038 7 := hourM_mo m (by omega)
    have c3 : gI (gz_sI μ' x 0 (iI (mi m 1051 0 + 1))) x 3 = gI μ x 3 := by rw [sI_i, if_neg (by omega)]; exact a1.2.2.2.2.1 _ _ (by omega)
    refine ⟨rfl, ⟨?_, ?_, fun k hk => ?_, fun k hk hk2 => ?_, fun t ht => ⟨?_, ?_, ?_⟩⟩, a5.sI (by omega), a1.trans (cF.sI (by omega))⟩
    · rw [sI_i, if_pos ⟨rfl, rfl⟩]
      rfl
    · rw [sI_i, if_neg (by omega), a1.2.2.2.2.1 _ _ (by omega), s2]
      rfl
    · rw [c3, hourM_w (by omega) (by rw [w9] at hk; have := h.1.2.2.2.1; omega)]
      exact s3 k (by rw [w9] at hk; exact hk)
    · rw [c3]
      exact s4 k hk (by rw [w9] at hk2; exact hk2)
    · rw [w7] at ht
      rw [mi_of (hourM m), hourM_st (by omega), ← (a3 t ht).1, sI_i, if_neg (by omega)]
      exact ci_of _ _ _
    · rw [w7] at ht
      rw [mi_of (hourM m), hourM_sm (by omega), ← (a3 t ht).2, sI_i, if_neg (by omega)]
      exact ci_of _ _ _
    · rw [w7] at ht
      unfold heatS ci
      rw [sI_i, if_neg (by omega), a1.2.2.2.2.1 _ _ (by omega), hourM_mo m (by omega), hourM_mo m (by omega), hourM_mo m (by omega)]
      exact (s5 t ht).2.2
theorem c_goes {m : MM} {μ : gM} {x : Nat} (hx : cSt x = true) (hl : cLay μ) (hN : okN m) (h : rHH m μ) (hT : rTree m μ) (hS : rSt m μ x) {l : List (Int × Int × Int)} (hk : kC l μ x) : pw (cf_X5_goes x μ) (cQ m l x μ) := by
  have hb := h.1.2.1
  have h8 : things m ≤ 8 := by unfold things; omega
  unfold cf_X5_goes ml_X5_goes_2
  refine pw_for (fun i q => q.1 = iI i ∧ cF x μ q.2 ∧ (∀ c j : Nat, c ≠ x + 2 → gI q.2 c j = gI μ c j) ∧ (∀ c j : Nat, gP q.2 c j = gP μ c j) ∧ ∀ t : Nat, t < i → gI q.2 (x + 2) t = iI (nxM m t)) (things m) ?_ ?_ ⟨rfl, cF.refl _ _, fun _ _ _ => rfl, fun _ _ => rfl, fun t ht => absurd ht (Nat.not_lt_zero _)⟩
  · rintro i ⟨y, μ'⟩ hi ⟨rfl, a1, a2, a3, a4⟩
    dsimp only at a1 a2 a3 a4 ⊢
    have hi' : (i : Int) < mi m 1038 7 := by unfold things at hi; omega
    have e1 : iI (i : Int) + (1 : Int32) = iI ((i + 1 : Nat) : Int) := by rw [iI_lit, iI_add]; rfl
    have gi : gz_ix (iI (i : Int)) = i := by rw [gix (by omega)]; omega
    have hi8 : gz_in (iI (i : Int)) 8 := (gin_iI (by omega)).2 (by omega)
    have hh : rHH m μ' := h.mv (hhE.refl m) (a1.dy hx) (a1.hh hx)
    have hT' : rTree m μ' := hT.mv h (hhE.refl m) (a1.dy hx) (a1.hh hx)
    have hS' : rSt m μ' x := by
      obtain ⟨s1, s2, s3, s4, s5⟩ := hS
      refine ⟨by rw [a2 _ _ (by omega)]; exact s1, by rw [a2 _ _ (by omega)]; exact s2, fun k hk => by rw [a2 _ _ (by omega)]; exact s3 k hk, fun k hk hk2 => by rw [a2 _ _ (by omega)]; exact s4 k hk hk2, fun t ht => ?_⟩
      unfold ci
      rw [a2 _ _ (by omega), a2 _ _ (by omega), a2 _ _ (by omega)]
      exact s5 t ht
    have fin : ∀ (μ2 : gM) (v : Int32), oF μ' μ2 → v = iI (nxM m i) → pw (mj_X5_goes_35 x (iI i) v (iI i) μ2) (Sum.elim (fun q => q.1 = iI ((i + 1 : Nat) : Int) ∧ cF x μ q.2 ∧ (∀ c j : Nat, c ≠ x + 2 → gI q.2 c j = gI μ c j) ∧ (∀ c j : Nat, gP q.2 c j = gP μ c j) ∧ ∀ t : Nat, t < i + 1 → gI q.2 (x + 2) t = iI (nxM m t)) (cQ m l x μ)) := by
      intro μ2 v h3 hv
      unfold mj_X5_goes_35
      simp only [gi, gz_let, e1]
      refine pw_gu hi8 (pw_some ⟨rfl, (a1.trans (cF.of h3)).trans (cF.sI (by omega)), fun c j hc => ?_, fun c j => ?_, fun t ht => ?_⟩)
      · show gI (gz_sI μ2 (x + 2) i v) c j = _
        rw [sI_i, if_neg (fun z => hc z.1), h3.2.2.2.1]
        exact a2 c j hc
      · show gP μ2 c j = _
        rw [h3.2.2.2.2.2]
        exact a3 c j
      · show gI (gz_sI μ2 (x + 2) i v) (x + 2) t = _
        rw [sI_i]
        by_cases q : t = i
        · rw [if_pos ⟨rfl, q⟩, hv, q]
        · rw [if_neg (fun z => q z.2), h3.2.2.2.1]
          exact a4 t (by omega)
    unfold mb_X5_goes_2
    rw [c_things hh]
    refine pw_bind (pw_some ?_)
    dsimp only
    refine pw_f (by rw [iI_le (by omega) (by omega)]; omega) ?_
    rw [c_isLit (by omega) (hS'.2.2.2.2 i hi').1]
    refine pw_bind (pw_some ?_)
    dsimp only
    by_cases q : 0 < mi m 1051 (14 + 2 * i)
    · rw [if_pos q]
      refine pw_f (by decide) ?_
      refine pw_bind (pw_mono (c_onward (a1.lay hx hl) hh hT' hS' hN hi' q) ?_)
      rintro ⟨r, μ2⟩ ⟨b1, b2⟩
      exact fin μ2 r b2 b1
    · rw [if_neg q]
      refine pw_t rfl ?_
      exact fin μ' _ (oF.refl _) (by unfold nxM; rw [if_pos (by omega)]; rfl)
  · rintro ⟨y, μ'⟩ ⟨rfl, a1, a2, a3, a4⟩
    dsimp only at a1 a2 a3 a4 ⊢
    have hh : rHH m μ' := h.mv (hhE.refl m) (a1.dy hx) (a1.hh hx)
    unfold mb_X5_goes_2
    rw [c_things hh]
    refine pw_bind (pw_some ?_)
    dsimp only
    refine pw_t (by rw [iI_le (by omega) (by omega)]; unfold things; omega) ?_
    refine pw_map ?_
    refine pw_mono (c_goes2 hx hN h hS (l := l) ⟨a1, a2 _ _ (by omega), fun t ht => ?_, fun t ht => a4 t (by unfold things; omega), ?_⟩) (fun _ h => h)
    · unfold ci stI smI
      rw [if_neg (by omega), if_neg (by omega), a2 _ _ (by omega), a2 _ _ (by omega), (hS.2.2.2.2 t ht).1, (hS.2.2.2.2 t ht).2.1]
      exact ⟨rfl, rfl⟩
    · obtain ⟨k1, k2, k3, k4⟩ := hk
      refine ⟨k1, ?_, fun i hi => ?_, fun a b ha hb => ?_⟩
      · unfold ci; rw [a2 _ _ (by omega)]; exact k2
      · rw [a3]
        refine ⟨(k3 i hi).1, fun j hj e => (k3 i hi).2 j hj ?_⟩
        rw [a3] at e
        exact e
      · have := (k3 a (by have : (hrK m l 0) = l := rfl; rw [this] at ha; omega)).1
        unfold ci
        rw [a3, a2 _ _ (by omega)]
        exact k4 a b ha hb
