/-! ===== one goes out; one is put out with all that go along ===== -/
def offM (m : MM) (t : Nat) : MM := (fun c j => if c = 1051 ∧ (j = 14 + 2 * t ∨ j = 15 + 2 * t) then 0 else m.1 c j, m.2)
theorem offM_at (m : MM) (t c j : Nat) : (offM m t).1 c j = if c = 1051 ∧ (j = 14 + 2 * t ∨ j = 15 + 2 * t) then 0 else m.1 c j := rfl
theorem offM_o (m : MM) {t c j : Nat} (h : ¬ (c = 1051 ∧ (j = 14 + 2 * t ∨ j = 15 + 2 * t))) : mi (offM m t) c j = mi m c j := congrArg Int32.toInt (if_neg h)
theorem offM_z (m : MM) {t j : Nat} (h : j = 14 + 2 * t ∨ j = 15 + 2 * t) : mi (offM m t) 1051 j = 0 := congrArg Int32.toInt (if_pos ⟨rfl, h⟩)
theorem offM_hh (m : MM) (t : Nat) : hhE m (offM m t) := fun c j k => if_neg (by omega)
theorem okN.off {m : MM} (h : okN m) (t : Nat) : okN (offM m t) := by
  obtain ⟨h1, h2, h3, h4⟩ := h
  refine ⟨by rw [offM_o m (by omega)]; exact h1, fun s hs => ?_, by rw [offM_o m (by omega)]; exact h3, fun s hs => ?_⟩
  · by_cases q : s = t
    · rw [offM_z m (by omega), offM_z m (by omega)]
      exact ⟨⟨by omega, by omega⟩, by omega, by omega⟩
    · rw [offM_o m (by omega), offM_o m (by omega)]
      exact h2 s hs
  · rw [offM_o m (by omega)] at hs
    rw [offM_o m (by omega), offM_o m (by omega)]
    exact h4 s hs
theorem sE.off {a b : MM} (h : sE a b) (t : Nat) : sE (offM a t) (offM b t) := fun c j k => by
  rw [offM_at, offM_at]
  by_cases q : c = 1051 ∧ (j = 14 + 2 * t ∨ j = 15 + 2 * t)
  · rw [if_pos q, if_pos q]
  · rw [if_neg q, if_neg q]
    exact h c j k
theorem p_out {m a : MM} (hs : sE m a) {l : List (Int × Int × Int)} (hk : kpM l a) {t : Nat} {how : Int} (ht : t < 8) (hh : 0 ≤ how ∧ how < 4) : pw (mf_goesOut (iI t) (iI how) a) (fun q => sE (offM m t) q.2 ∧ hE a q.2 ∧ kpM (thM a l (keepS l (mi m 1051 0, t, how))) q.2 ∧ (a.1 2000 56 ≠ 0 → ∀ j : Nat, 30 ≤ j → q.2.1 1051 j = a.1 1051 j)) := by
  refine pw_mono (p_goesOut hk (t := (t : Int)) (how := how) (by omega) hh) ?_
  rintro ⟨u, b⟩ ⟨a1, a2, a3, a4, a5⟩
  dsimp only at a1 a2 a3 a4 a5 ⊢
  rw [hs.n (by omega)] at a1
  refine ⟨fun c j k => ?_, ⟨fun c j k => a2 c j (by omega), fun c j _ => by rw [a3]⟩, a1, a5⟩
  rw [offM_at]
  by_cases q : c = 1051 ∧ j < 30
  · obtain ⟨rfl, q⟩ := q
    rw [a4 j q]
    by_cases q2 : j = 14 + 2 * t ∨ j = 15 + 2 * t
    · rw [if_pos (by omega), if_pos ⟨rfl, q2⟩]
    · rw [if_neg (by omega), if_neg (fun z => q2 z.2)]
      exact hs _ _ k
  · rw [if_neg (by omega), a2 c j (by unfold kyC at k; omega)]
    exact hs _ _ k
theorem c_out {m : MM} {μ : gM} {x : Nat} (hx : cSt x = true) (hm : rMany m) (h6 : rSt m μ x) {l : List (Int × Int × Int)} (hk : kC l μ x) {t : Nat} {how : Int} (ht : t < 8) (hh : 0 ≤ how ∧ how < 4) : pw (cf_X5_goesOut x (iI t) (iI how) μ) (fun q => rSt (offM m t) q.2 x ∧ kC (keepS l (mi m 1051 0, t, how)) q.2 x ∧ cF x μ q.2) := by
  refine pw_mono (c_goesOut hx hk ht hh) ?_
  rintro ⟨u, μ'⟩ ⟨a1, a2, a3, a4, a5⟩
  dsimp only at a1 a2 a3 a4 a5 ⊢
  obtain ⟨s1, s2, s3, s4, s5⟩ := h6
  have hb1 := hm.2.1
  have hb2 := hm.2.2.2.1
  have e0 : ci μ x 0 = mi m 1051 0 := congrArg Int32.toInt s1
  rw [e0] at a1
  refine ⟨⟨?_, ?_, fun k hk => ?_, fun k hk hk2 => ?_, fun s hs => ⟨?_, ?_, ?_⟩⟩, a1, a2⟩
  · rw [a3, s1, offM_at, if_neg (by omega)]
  · rw [a2.2.2.2.2.1 _ _ (by omega), s2, offM_at, if_neg (by omega)]
  · rw [offM_o m (by omega)] at hk
    rw [a2.2.2.2.2.1 _ _ (by omega), offM_o m (by omega)]
    exact s3 k hk
  · rw [offM_o m (by omega)] at hk2
    rw [a2.2.2.2.2.1 _ _ (by omega)]
    exact s4 k hk hk2
  · rw [offM_o m (by omega)] at hs
    rw [a4 _ _ (Or.inl rfl), offM_at]
    by_cases q : s = t
    · rw [if_pos q, if_pos (by omega)]
    · rw [if_neg q, if_neg (by omega)]
      exact (s5 s hs).1
  · rw [offM_o m (by omega)] at hs
    rw [a4 _ _ (Or.inr rfl), offM_at]
    by_cases q : s = t
    · rw [if_pos q, if_pos (by omega)]
    · rw [if_neg q, if_neg (by omega)]
      exact (s5 s hs).2.1
  · rw [offM_o m (by omega)] at hs
    unfold heatS ci
    rw [a2.2.2.2.2.1 _ _ (by omega), offM_o m (by omega), offM_o m (by omega), offM_o m (by omega)]
    exact (s5 s hs).2.2
/-! all that go along -/
def poM (m : MM) (e : Int32) (t : Nat) : Nat → MM
  | 0 => offM m t
  | i + 1 => if bt e i = true ∧ 0 < mi (poM m e t i) 1051 (14 + 2 * i) then offM (poM m e t i) i else poM m e t i
theorem poM_s (m : MM) (e : Int32) (t i : Nat) : poM m e t (i + 1) = if bt e i = true ∧ 0 < mi (poM m e t i) 1051 (14 + 2 * i) then offM (poM m e t i) i else poM m e t i := rfl
def poK (m : MM) (e : Int32) (t : Nat) (l : List (Int × Int × Int)) : Nat → List (Int × Int × Int)
  | 0 => keepS l (mi m 1051 0, t, 1)
  | i + 1 => if bt e i = true ∧ 0 < mi (poM m e t i) 1051 (14 + 2 * i) then keepS (poK m e t l i) (mi m 1051 0, i, 2) else poK m e t l i
theorem poK_s (m : MM) (e : Int32) (t : Nat) (l : List (Int × Int × Int)) (i : Nat) : poK m e t l (i + 1) = if bt e i = true ∧ 0 < mi (poM m e t i) 1051 (14 + 2 * i) then keepS (poK m e t l i) (mi m 1051 0, i, 2) else poK m e t l i := rfl
def poN (m : MM) (e : Int32) (t : Nat) : Nat → Nat
  | 0 => 1
  | i + 1 => if bt e i = true ∧ 0 < mi (poM m e t i) 1051 (14 + 2 * i) then poN m e t i + 1 else poN m e t i
theorem poN_s (m : MM) (e : Int32) (t i : Nat) : poN m e t (i + 1) = if bt e i = true ∧ 0 < mi (poM m e t i) 1051 (14 + 2 * i) then poN m e t i + 1 else poN m e t i := rfl
theorem poN_b (m : MM) (e : Int32) (t : Nat) : ∀ i : Nat, poN m e t i ≤ i + 1
  | 0 => Nat.le_refl _
  | i + 1 => by
    have := poN_b m e t i
    rw [poN_s]
    split <;> omega
theorem poM_hh (m : MM) (e : Int32) (t : Nat) : ∀ i : Nat, hhE m (poM m e t i)
  | 0 => offM_hh m t
  | i + 1 => by
    rw [poM_s]
    split
    · exact (poM_hh m e t i).trans (offM_hh _ _)
    · exact poM_hh m e t i
theorem poM_lo (m : MM) (e : Int32) (t : Nat) {j : Nat} (hj : j < 14) : ∀ i : Nat, mi (poM m e t i) 1051 j = mi m 1051 j
  | 0 => offM_o m (by omega)
  | i + 1 => by
    rw [poM_s]
    split
    · rw [offM_o _ (by omega)]
      exact poM_lo m e t hj i
    · exact poM_lo m e t hj i
theorem poM_ok {m : MM} (h : okN m) (e : Int32) (t : Nat) : ∀ i : Nat, okN (poM m e t i)
  | 0 => h.off t
  | i + 1 => by
    rw [poM_s]
    split
    · exact (poM_ok h e t i).off i
    · exact poM_ok h e t i
def putM (m : MM) (t : Nat) : MM := poM m (endsS m t) t (things m)
def putK (m : MM) (l : List (Int × Int × Int)) (t : Nat) : List (Int × Int × Int) := poK m (endsS m t) t l (things m)
def putN (m : MM) (t : Nat) : Nat := poN m (endsS m t) t (things m)
theorem hE.n56 {a b : MM} (h : hE a b) : b.1 2000 56 = a.1 2000 56 := h.1 _ _ (by omega)
theorem thM_thM {a b : MM} (h : b.1 2000 56 = a.1 2000 56) (l k : List (Int × Int × Int)) (f : List (Int × Int × Int) → List (Int × Int × Int)) : thM b (thM a l k) (f (thM a l k)) = thM a l (f k) := by
  unfold thM
  rw [h]
  by_cases q : a.1 2000 56 = 0
  · simp only [if_pos q]
  · simp only [if_neg q]
theorem tieOK.s {a b : MM} (h : sE a b) (ht : tieOK a) : tieOK b := ⟨h.many ht.1, fun k hk => by rw [h.w] at hk; rw [h.k, h.k]; exact ht.2 k hk⟩
theorem p_putsOut {m a : MM} (hs : sE m a) (hT : tieOK m) {l : List (Int × Int × Int)} (hk : kpM l a) {t : Nat} (ht : t < 8) : pw (mf_putsOut (iI t) a) (fun q => sE (putM m t) q.2 ∧ hE a q.2 ∧ kpM (thM a l (putK m l t)) q.2 ∧ (a.1 2000 56 ≠ 0 → ∀ j : Nat, 30 ≤ j → q.2.1 1051 j = a.1 1051 j)) := by
  have hb := hT.1.2.1
  have h8 : things m ≤ 8 := by unfold things; omega
  unfold mf_putsOut
  rw [p_endsOf (hT.s hs) ht, hs.ends hT.1]
  refine pw_bind (pw_some ?_)
  dsimp only
  have p1 : pw (mf_goesOut (iI t) (1 : Int32) a) _ := p_out hs hk (t := t) (how := 1) ht (by omega)
  refine pw_bind (pw_mono p1 ?_)
  rintro ⟨u, b⟩ ⟨a1, a2, a3, a4⟩
  dsimp only at a1 a2 a3 a4 ⊢
  unfold ml_X6_putsOut_14
  refine pw_for (fun (i : Nat) (q : Int32 × Int32 × MM) => q.1 = endsS m t ∧ q.2.1 = iI i ∧ sE (poM m (endsS m t) t i) q.2.2 ∧ hE a q.2.2 ∧ kpM (thM a l (poK m (endsS m t) t l i)) q.2.2 ∧ (a.1 2000 56 ≠ 0 → ∀ j : Nat, 30 ≤ j → q.2.2.1 1051 j = a.1 1051 j)) (things m) ?_ ?_ ⟨rfl, rfl, a1, a2, a3, a4⟩
  · rintro i ⟨y1, y2, b'⟩ hi ⟨rfl, rfl, b1, b2, b3, b4⟩
    dsimp only at b1 b2 b3 b4 ⊢
    have hw : mi b' 1038 7 = mi m 1038 7 := by rw [b1.w, (poM_hh m _ t i).at (by omega)]
    have hi' : (i : Int) < mi m 1038 7 := by unfold things at hi; omega
    have e1 : iI (i : Int) + (1 : Int32) = iI ((i + 1 : Nat) : Int) := by rw [iI_lit, iI_add]; rfl
    have no : ¬ (bt (endsS m t) i = true ∧ 0 < mi (poM m (endsS m t) t i) 1051 (14 + 2 * i)) → pw (mj_X6_putsOut_45 (endsS m t) (iI i) b') (Sum.elim (fun q => q.1 = endsS m t ∧ q.2.1 = iI ((i + 1 : Nat) : Int) ∧ sE (poM m (endsS m t) t (i + 1)) q.2.2 ∧ hE a q.2.2 ∧ kpM (thM a l (poK m (endsS m t) t l (i + 1))) q.2.2 ∧ (a.1 2000 56 ≠ 0 → ∀ j : Nat, 30 ≤ j → q.2.2.1 1051 j = a.1 1051 j)) (fun q => sE (putM m t) q.2 ∧ hE a q.2 ∧ kpM (thM a l (putK m l t)) q.2 ∧ (a.1 2000 56 ≠ 0 → ∀ j : Nat, 30 ≤ j → q.2.1 1051 j = a.1 1051 j))) := by
      intro q
      unfold mj_X6_putsOut_45
      refine pw_let (pw_some ⟨rfl, e1, ?_, b2, ?_, b4⟩)
      · rw [poM_s, if_neg q]; exact b1
      · rw [poK_s, if_neg q]; exact b3
    unfold mb_X6_putsOut_14
    rw [p_thingMany]
    refine pw_bind (pw_some ?_)
    dsimp only
    refine pw_f (by rw [hw, iI_le (by omega) (by omega)]; omega) ?_
    by_cases q1 : bt (endsS m t) i = true
    · refine pw_t ((has_bt _ (by omega)).2 q1) ?_
      rw [p_burn b1 (by omega)]
      refine pw_bind (pw_some ?_)
      dsimp only
      by_cases q2 : 0 < mi (poM m (endsS m t) t i) 1051 (14 + 2 * i)
      · rw [if_pos q2]
        refine pw_f n10 ?_
        have p2 : pw (mf_goesOut (iI i) (2 : Int32) b') _ := p_out b1 b3 (t := i) (how := 2) (by omega) (by omega)
        refine pw_bind (pw_mono p2 ?_)
        rintro ⟨u2, d⟩ ⟨d1, d2, d3, d4⟩
        dsimp only at d1 d2 d3 d4 ⊢
        unfold mj_X6_putsOut_45
        refine pw_let (pw_some ⟨rfl, e1, ?_, b2.trans d2, ?_, fun th j hj => ?_⟩)
        · rw [poM_s, if_pos ⟨q1, q2⟩]; exact d1
        · rw [poK_s, if_pos ⟨q1, q2⟩]
          rw [poM_lo m _ t (by omega), thM_thM b2.n56 l _ (fun k => keepS k (mi m 1051 0, i, 2))] at d3
          exact d3
        · dsimp only
          rw [d4 (by rw [b2.n56]; exact th) j hj]
          exact b4 th j hj
      · rw [if_neg q2]
        exact pw_t rfl (no (fun z => q2 z.2))
    · exact pw_f (fun z => q1 ((has_bt _ (by omega)).1 z)) (no (fun z => q1 z.1))
  · rintro ⟨y1, y2, b'⟩ ⟨rfl, rfl, b1, b2, b3, b4⟩
    dsimp only at b1 b2 b3 b4 ⊢
    have hw : mi b' 1038 7 = mi m 1038 7 := by rw [b1.w, (poM_hh m _ t _).at (by omega)]
    unfold mb_X6_putsOut_14
    rw [p_thingMany]
    refine pw_bind (pw_some ?_)
    dsimp only
    exact pw_t (by rw [hw, iI_le (by omega) (by omega)]; unfold things; omega) (pw_some ⟨b1, b2, b3, b4⟩)
theorem c_putsOut {m : MM} {μ : gM} {x : Nat} (hx : cSt x = true) (h : rHH m μ) (h6 : rSt m μ x) {l : List (Int × Int × Int)} (hk : kC l μ x) {t : Nat} (ht : t < 8) : pw (cf_X5_putsOut x (iI t) μ) (fun q => q.1 = nI (putN m t) ∧ rSt (putM m t) q.2 x ∧ kC (putK m l t) q.2 x ∧ cF x μ q.2) := by
  have hb := h.1.2.1
  have h8 : things m ≤ 8 := by unfold things; omega
  unfold cf_X5_putsOut
  rw [c_along h h6.2.2.1 ht]
  refine pw_bind (pw_some ?_)
  dsimp only
  have p1 : pw (cf_X5_goesOut x (iI t) (1 : Int32) μ) _ := c_out hx h.1 h6 hk (t := t) (how := 1) ht (by omega)
  refine pw_bind (pw_mono p1 ?_)
  rintro ⟨u, b⟩ ⟨a1, a2, a3⟩
  dsimp only at a1 a2 a3 ⊢
  unfold ml_X5_putsOut_17
  refine pw_for (fun (i : Nat) (q : Int32 × Int32 × Int32 × gM) => q.1 = endsS m t ∧ q.2.1 = nI (poN m (endsS m t) t i) ∧ q.2.2.1 = iI i ∧ rSt (poM m (endsS m t) t i) q.2.2.2 x ∧ kC (poK m (endsS m t) t l i) q.2.2.2 x ∧ cF x μ q.2.2.2) (things m) ?_ ?_ ⟨rfl, rfl, rfl, a1, a2, a3⟩
  · rintro i ⟨y1, y2, y3, b'⟩ hi ⟨rfl, rfl, rfl, b1, b2, b3⟩
    dsimp only at b1 b2 b3 ⊢
    have hh := poM_hh m (endsS m t) t i
    have hi' : (i : Int) < mi m 1038 7 := by unfold things at hi; omega
    have e1 : iI (i : Int) + (1 : Int32) = iI ((i + 1 : Nat) : Int) := by rw [iI_lit, iI_add]; rfl
    have hR : rHH m b' := h.mv (hhE.refl m) (b3.dy hx) (b3.hh hx)
    have no : ¬ (bt (endsS m t) i = true ∧ 0 < mi (poM m (endsS m t) t i) 1051 (14 + 2 * i)) → pw (mj_X5_putsOut_60 x (endsS m t) (nI (poN m (endsS m t) t i)) (iI i) b') (Sum.elim (fun q => q.1 = endsS m t ∧ q.2.1 = nI (poN m (endsS m t) t (i + 1)) ∧ q.2.2.1 = iI ((i + 1 : Nat) : Int) ∧ rSt (poM m (endsS m t) t (i + 1)) q.2.2.2 x ∧ kC (poK m (endsS m t) t l (i + 1)) q.2.2.2 x ∧ cF x μ q.2.2.2) (fun q => q.1 = nI (putN m t) ∧ rSt (putM m t) q.2 x ∧ kC (putK m l t) q.2 x ∧ cF x μ q.2)) := by
      intro q
      unfold mj_X5_putsOut_60
      refine pw_let (pw_some ⟨rfl, ?_, e1, ?_, ?_, b3⟩)
      · rw [poN_s, if_neg q]
      · rw [poM_s, if_neg q]; exact b1
      · rw [poK_s, if_neg q]; exact b2
    unfold mb_X5_putsOut_17
    rw [c_things hR]
    refine pw_bind (pw_some ?_)
    dsimp only
    refine pw_f (by rw [iI_le (by omega) (by omega)]; omega) ?_
    rw [c_has _ _ (by omega)]
    refine pw_bind (pw_some ?_)
    dsimp only
    by_cases q1 : bt (endsS m t) i = true
    · rw [if_pos q1]
      refine pw_f n10 ?_
      rw [c_isLit (m := poM m (endsS m t) t i) (by omega) (b1.2.2.2.2 i (by rw [hh.at (by omega)]; exact hi')).1]
      refine pw_bind (pw_some ?_)
      dsimp only
      by_cases q2 : 0 < mi (poM m (endsS m t) t i) 1051 (14 + 2 * i)
      · rw [if_pos q2]
        refine pw_f n10 ?_
        have p2 : pw (cf_X5_goesOut x (iI i) (2 : Int32) b') _ := c_out hx (hh.many h.1) b1 b2 (t := i) (how := 2) (by omega) (by omega)
        refine pw_bind (pw_mono p2 ?_)
        rintro ⟨u2, d⟩ ⟨d1, d2, d3⟩
        dsimp only at d1 d2 d3 ⊢
        rw [poM_lo m _ t (by omega)] at d2
        unfold mj_X5_putsOut_60
        refine pw_let (pw_let (pw_some ⟨rfl, ?_, e1, ?_, ?_, b3.trans d3⟩))
        · dsimp only
          rw [poN_s, if_pos ⟨q1, q2⟩, ← iI_nI, ← iI_nI, iI_lit, iI_add]
          rfl
        · rw [poM_s, if_pos ⟨q1, q2⟩]; exact d1
        · rw [poK_s, if_pos ⟨q1, q2⟩]; exact d2
      · rw [if_neg q2]
        exact pw_t rfl (no (fun z => q2 z.2))
    · rw [if_neg q1]
      exact pw_t rfl (no (fun z => q1 z.1))
  · rintro ⟨y1, y2, y3, b'⟩ ⟨rfl, rfl, rfl, b1, b2, b3⟩
    dsimp only at b1 b2 b3 ⊢
    have hR : rHH m b' := h.mv (hhE.refl m) (b3.dy hx) (b3.hh hx)
    unfold mb_X5_putsOut_17
    rw [c_things hR]
    refine pw_bind (pw_some ?_)
    dsimp only
    exact pw_t (by rw [iI_le (by omega) (by omega)]; unfold things; omega) (pw_some ⟨rfl, b1, b2, b3⟩)
