/-! ===== the component remembers ===== -/
/-- what a remembering in y may change -/
def rF (y : Nat) (μ μ' : gM) : Prop := μ'.1 = μ.1 ∧ μ'.2.1 = μ.2.1 ∧ μ'.2.2.2.2.2 = μ.2.2.2.2.2 ∧ (∀ c j : Nat, gL μ' c j = gL μ c j) ∧ (∀ c j : Nat, ¬ ((c = 1000 ∧ j = 23) ∨ (y ≤ c ∧ c < y + 46)) → gI μ' c j = gI μ c j) ∧ ∀ c j : Nat, c ≠ 1447 → gP μ' c j = gP μ c j
/-- y is as x was -/
def asWas (μ : gM) (x : Nat) (μ' : gM) (y : Nat) : Prop := (∀ j : Nat, j < 4 → gI μ' y j = gI μ x j) ∧ ∀ t : Nat, t < 8 → gI μ' (y + 1) t = gI μ (x + 1) t ∧ gI μ' (y + 3) t = gI μ (x + 3) t ∧ gI μ' (y + 4) t = gI μ (x + 4) t
theorem rSt.as {m : MM} {μ μ' : gM} {x y : Nat} (h : rSt m μ x) (hm : rMany m) (ha : asWas μ x μ' y) : rSt m μ' y := by
  have b1 := hm.2.1
  obtain ⟨s1, s2, s3, s4, s5⟩ := h
  obtain ⟨a3, a4⟩ := ha
  refine ⟨by rw [a3 _ (by omega)]; exact s1, by rw [a3 _ (by omega)]; exact s2, fun k hk => by rw [a3 _ (by omega)]; exact s3 k hk, fun k hk hk2 => by rw [a3 _ (by omega)]; exact s4 k hk hk2, fun t ht => ?_⟩
  obtain ⟨c1, c2, c3⟩ := a4 t (by omega)
  unfold ci
  rw [c1, c2, c3]
  exact s5 t ht
theorem c_rem62 {μ : gM} {n : Nat} (hn : n < 20) (h23 : gI μ 1000 23 = iI n) (hy : cSt (gP μ 1447 n) = true) (hy2 : 1448 ≤ gP μ 1447 n) (hro : rowOK μ (gP μ 1447 n)) {l : List (Int × Int × Int)} (hk : kC l μ 1027) : pw (mj_X0_remembers_62 μ) (fun q => gI q.2 1000 23 = iI (n + 1) ∧ rF (gP μ 1447 n) μ q.2 ∧ (∀ j : Nat, gP q.2 1447 j = gP μ 1447 j) ∧ asWas μ 1027 q.2 (gP μ 1447 n) ∧ kC l q.2 (gP μ 1447 n)) := by
  have gn : gz_ix (iI (n : Int)) = n := by rw [gix (by omega)]; omega
  unfold mj_X0_remembers_62
  rw [h23, gn]
  refine pw_gu ((gin_iI (by omega)).2 (by omega)) (pw_let (pw_gu ⟨by omega, hy⟩ ?_))
  refine pw_bind (pw_mono (c_copy hy (y := 1027) (by decide) (by omega) hro hk) ?_)
  rintro ⟨r, μ1⟩ ⟨a1, a2, a3, a4, a5⟩
  dsimp only at a1 a2 a3 a4 a5 ⊢
  have e23 : gI μ1 1000 23 = iI n := by rw [a2.2.2.2.2.1 _ _ (by omega)]; exact h23
  refine pw_gu (by rw [a1]; exact hy) (pw_let (pw_some ?_))
  dsimp only
  have ev : gI μ1 1000 23 + (1 : Int32) = iI (n + 1) := by rw [e23, iI_lit, iI_add]
  rw [ev]
  refine ⟨?_, ⟨a2.1, a2.2.1, a2.2.2.1, a2.2.2.2.1, fun c j hc => ?_, fun c j _ => a2.2.2.2.2.2 c j⟩, fun j => a2.2.2.2.2.2 _ _, ⟨fun j hj => ?_, fun t ht => ?_⟩, a5.sI (by omega)⟩
  · rw [sI_i, if_pos ⟨rfl, rfl⟩]
  · rw [sI_i, if_neg (by omega)]
    exact a2.2.2.2.2.1 c j (by omega)
  · rw [sI_i, if_neg (by omega)]
    exact a3 j hj
  · rw [sI_i, if_neg (by omega), sI_i, if_neg (by omega), sI_i, if_neg (by omega)]
    exact a4 t ht
def rotP (μ : gM) (n i : Nat) : Nat := if n = 20 then (if i = 19 then gP μ 1447 0 else gP μ 1447 (i + 1)) else gP μ 1447 i
theorem c_remembers {μ : gM} {n : Nat} (hn : n ≤ 20) (h23 : gI μ 1000 23 = iI n) (hR : ∀ i : Nat, i < 20 → cSt (gP μ 1447 i) = true ∧ 1448 ≤ gP μ 1447 i ∧ rowOK μ (gP μ 1447 i)) {l : List (Int × Int × Int)} (hk : kC l μ 1027) : pw (cf_X0_remembers μ) (fun q => gI q.2 1000 23 = iI ((if n = 20 then 20 else n + 1 : Nat) : Int) ∧ rF (rotP μ n (if n = 20 then 19 else n)) μ q.2 ∧ (∀ i : Nat, i < 20 → gP q.2 1447 i = rotP μ n i) ∧ asWas μ 1027 q.2 (rotP μ n (if n = 20 then 19 else n)) ∧ kC l q.2 (rotP μ n (if n = 20 then 19 else n))) := by
  have g0 : gz_ix (0 : Int32) = 0 := by decide
  have g19 : gz_ix (19 : Int32) = 19 := by decide
  unfold cf_X0_remembers
  rw [h23]
  by_cases q : n = 20
  · refine pw_t (by rw [q]; decide) (pw_gu (by decide) (pw_let ?_))
    rw [g0]
    obtain ⟨r1, r2, r3⟩ := hR 0 (by omega)
    refine pw_gu ⟨by omega, r1⟩ ?_
    unfold ml_X0_remembers_18
    refine pw_for (fun (i : Nat) (s : Int32 × gM) => s.1 = iI (1 + (i : Int)) ∧ s.2.1 = μ.1 ∧ s.2.2.1 = μ.2.1 ∧ s.2.2.2.2.2.2 = μ.2.2.2.2.2 ∧ (∀ c j : Nat, gL s.2 c j = gL μ c j) ∧ (∀ c j : Nat, gI s.2 c j = gI μ c j) ∧ (∀ c j : Nat, c ≠ 1447 → gP s.2 c j = gP μ c j) ∧ ∀ k : Nat, gP s.2 1447 k = if k < i then gP μ 1447 (k + 1) else gP μ 1447 k) 19 ?_ ?_ ⟨rfl, rfl, rfl, rfl, fun _ _ => rfl, fun _ _ => rfl, fun _ _ _ => rfl, fun k => by rw [if_neg (by omega)]⟩
    · rintro i ⟨y, μ'⟩ hi ⟨rfl, h1, h2, h3, h4, h5, h6, h7⟩
      dsimp only at h1 h2 h3 h4 h5 h6 h7 ⊢
      have e1 : iI (1 + (i : Int)) + (1 : Int32) = iI (1 + ((i + 1 : Nat) : Int)) := by
        simp only [iI_lit, iI_add]
        exact congrArg iI (by omega)
      have e2 : iI (1 + (i : Int)) - (1 : Int32) = iI (i : Int) := by
        simp only [iI_lit, iI_sub]
        exact congrArg iI (by omega)
      have gi : gz_ix (iI (1 + (i : Int))) = 1 + i := by rw [gix (by omega)]; omega
      have gj : gz_ix (iI (i : Int)) = i := by rw [gix (by omega)]; omega
      have er : gP μ' 1447 (1 + i) = gP μ 1447 (1 + i) := by rw [h7, if_neg (by omega)]
      obtain ⟨k1, k2, k3⟩ := hR (1 + i) (by omega)
      unfold mb_X0_remembers_18
      refine pw_f (by rw [iI_lit, iI_le (by omega) (by omega)]; omega) ?_
      simp only [gz_let, e1, e2, gi, gj, er]
      refine pw_gu ((gin_iI (by omega)).2 (by omega)) (pw_gu ⟨by omega, k1⟩ (pw_gu ((gin_iI (by omega)).2 (by omega)) (pw_gu (by omega) (pw_some ?_))))
      refine ⟨rfl, h1, h2, h3, h4, h5, fun c j hc => ?_, fun k => ?_⟩
      · show gP (gz_sP μ' 1447 i (gP μ 1447 (1 + i))) c j = _
        rw [sP_p, if_neg (fun z => hc z.1)]
        exact h6 c j hc
      · show gP (gz_sP μ' 1447 i (gP μ 1447 (1 + i))) 1447 k = _
        rw [sP_p]
        by_cases w : k = i
        · rw [if_pos ⟨rfl, w⟩, if_pos (by omega), w, Nat.add_comm 1 i]
        · rw [if_neg (fun z => w z.2), h7]
          by_cases w2 : k < i
          · rw [if_pos w2, if_pos (by omega)]
          · rw [if_neg w2, if_neg (by omega)]
    · rintro ⟨y, μ'⟩ ⟨rfl, h1, h2, h3, h4, h5, h6, h7⟩
      dsimp only at h1 h2 h3 h4 h5 h6 h7 ⊢
      unfold mb_X0_remembers_18
      refine pw_t (by rw [iI_lit, iI_le (by omega) (by omega)]; omega) ?_
      simp only [gz_let, g19]
      refine pw_gu (by decide) (pw_gu (by omega) (pw_map ?_))
      have e9 : gI (gz_sP μ' 1447 19 (gP μ 1447 0)) 1000 23 - (1 : Int32) = iI 19 := by
        show gI μ' 1000 23 - (1 : Int32) = iI 19
        rw [h5, h23, q]
        decide
      rw [e9]
      have hrot : ∀ i : Nat, i < 20 → gP (gz_sI (gz_sP μ' 1447 19 (gP μ 1447 0)) 1000 23 (iI 19)) 1447 i = rotP μ n i := by
        intro i hi
        unfold rotP
        rw [if_pos q, sI_p, sP_p]
        by_cases w : i = 19
        · rw [if_pos ⟨rfl, w⟩, if_pos w]
        · rw [if_neg (fun z => w z.2), if_neg w, h7, if_pos (by omega)]
      have hP : ∀ c j : Nat, c ≠ 1447 → gP (gz_sI (gz_sP μ' 1447 19 (gP μ 1447 0)) 1000 23 (iI 19)) c j = gP μ c j := by
        intro c j hc
        rw [sI_p, sP_p, if_neg (fun z => hc z.1)]
        exact h6 c j hc
      have hI : ∀ c j : Nat, ¬ (c = 1000 ∧ j = 23) → gI (gz_sI (gz_sP μ' 1447 19 (gP μ 1447 0)) 1000 23 (iI 19)) c j = gI μ c j := by
        intro c j hc
        rw [sI_i, if_neg hc]
        exact h5 c j
      have hL : ∀ c j : Nat, gL (gz_sI (gz_sP μ' 1447 19 (gP μ 1447 0)) 1000 23 (iI 19)) c j = gL μ c j := h4
      have hK : (gz_sI (gz_sP μ' 1447 19 (gP μ 1447 0)) 1000 23 (iI 19)).1 = μ.1 := h1
      have hNn : (gz_sI (gz_sP μ' 1447 19 (gP μ 1447 0)) 1000 23 (iI 19)).2.1 = μ.2.1 := h2
      have hZ : (gz_sI (gz_sP μ' 1447 19 (gP μ 1447 0)) 1000 23 (iI 19)).2.2.2.2.2 = μ.2.2.2.2.2 := h3
      have h19 : gI (gz_sI (gz_sP μ' 1447 19 (gP μ 1447 0)) 1000 23 (iI 19)) 1000 23 = iI ((19 : Nat) : Int) := by rw [sI_i, if_pos ⟨rfl, rfl⟩]; rfl
      revert hrot hP hI hL hK hNn hZ h19
      generalize gz_sI (gz_sP μ' 1447 19 (gP μ 1447 0)) 1000 23 (iI 19) = ν
      intro hrot hP hI hL hK hNn hZ h19
      have hr19 : gP ν 1447 19 = gP μ 1447 0 := by
        rw [hrot 19 (by omega)]
        unfold rotP
        rw [if_pos q, if_pos rfl]
      have hk' : kC l ν 1027 := hk.sc (hI _ _ (by omega)) (fun j => hP _ _ (by omega)) (fun c j a b => hI _ _ (by omega))
      refine pw_mono (c_rem62 (n := 19) (by omega) h19 (by rw [hr19]; exact r1) (by rw [hr19]; exact r2) (by rw [hr19]; exact r3.o (fun j => hP _ _ (by omega))) hk') ?_
      rintro ⟨u, μ9⟩ ⟨b1, b2, b3, b4, b5⟩
      dsimp only at b1 b2 b3 b4 b5 ⊢
      rw [if_pos q, if_pos q, ← hrot 19 (by omega)]
      refine ⟨b1, ⟨b2.1.trans hK, b2.2.1.trans hNn, b2.2.2.1.trans hZ, fun c j => (b2.2.2.2.1 c j).trans (hL c j), fun c j hc => ?_, fun c j hc => (b2.2.2.2.2.2 c j hc).trans (hP c j hc)⟩, fun i hi => (b3 i).trans (hrot i hi), ⟨fun j hj => ?_, fun t ht => ?_⟩, b5⟩
      · rw [b2.2.2.2.2.1 c j hc]
        exact hI c j (by omega)
      · rw [b4.1 j hj]
        exact hI _ _ (by omega)
      · obtain ⟨c1, c2, c3⟩ := b4.2 t ht
        rw [c1, c2, c3]
        exact ⟨hI _ _ (by omega), hI _ _ (by omega), hI _ _ (by omega)⟩
  · refine pw_f (by rw [iI_lit, iI_eq (by omega) (by omega)]; omega) ?_
    obtain ⟨r1, r2, r3⟩ := hR n (by omega)
    refine pw_mono (c_rem62 (by omega) h23 r1 r2 r3 hk) ?_
    rintro ⟨u, μ9⟩ ⟨b1, b2, b3, b4, b5⟩
    dsimp only at b1 b2 b3 b4 b5 ⊢
    have er : ∀ i : Nat, rotP μ n i = gP μ 1447 i := fun i => by unfold rotP; rw [if_neg q]
    rw [if_neg q, if_neg q, er]
    exact ⟨b1, b2, fun i hi => by rw [er]; exact b3 i, b4, b5⟩
