/-! ===== the model reads signs and words ===== -/
/-- what reading may change in the model -/
def xK (c j : Nat) : Prop := c = 2000 ∧ (j = 2 ∨ j = 4 ∨ j = 5 ∨ j = 6 ∨ j = 10 ∨ j = 36)
def xF (m m' : MM) : Prop := (∀ c j : Nat, (¬ xK c j ∨ (c = 2000 ∧ (j = 5 ∨ j = 6) ∧ m'.1 2000 5 = 0)) → m'.1 c j = m.1 c j) ∧ m'.2 = m.2
theorem xF.refl (m : MM) : xF m m := ⟨fun _ _ _ => rfl, rfl⟩
theorem xF.trans {a b c : MM} (h1 : xF a b) (h2 : xF b c) : xF a c := ⟨fun x y k => (h2.1 x y k).trans (h1.1 x y (k.imp id (fun ⟨e1, e2, e3⟩ => ⟨e1, e2, (h2.1 2000 5 (Or.inr ⟨rfl, Or.inl rfl, e3⟩)).symm.trans e3⟩))), h2.2.trans h1.2⟩
theorem xF.sI {m : MM} {j : Nat} {v : Int32} (h : j = 2 ∨ j = 4 ∨ j = 10 ∨ j = 36) : xF m (msI m 2000 j v) := ⟨fun c' j' k => by
  rw [msI_i, if_neg (fun e => ?_)]
  rcases k with k | ⟨-, k, -⟩
  · unfold xK at k; omega
  · omega, rfl⟩
/-- the text in the model's memory, with its own words -/
def lxM (T : Nat → Int) (n : Nat) (m : MM) : Prop := tOK T n ∧ (∀ k : Nat, k < n → m.1 1001 k = iI (T k)) ∧ m.1 2000 3 = iI n ∧ wdOK m
theorem lxM.x {T : Nat → Int} {n : Nat} {m m' : MM} (h : lxM T n m) (hx : xF m m') : lxM T n m' := ⟨h.1, fun k hk => by rw [hx.1 _ _ (by unfold xK; omega)]; exact h.2.1 k hk, by rw [hx.1 _ _ (by unfold xK; omega)]; exact h.2.2.1, h.2.2.2.mv (fun c j a b _ => hx.1 _ _ (by unfold xK; omega))⟩
/-- reading stands at a; nothing was wrong so far -/
def gA (T : Nat → Int) (n : Nat) (m : MM) (a : Nat) : Prop := m.1 2000 5 = 0 ∧ m.1 2000 2 = iI a ∧ a ≤ n ∧ ∃ e : Int, m.1 2000 4 = iI e ∧ -1 ≤ e ∧ ((e = a ∧ alB T a) ∨ (e < a ∧ ¬ alB T a))
/-- what stands next stands at p -/
def gd (T : Nat → Int) (n : Nat) (m : MM) (p : Nat) : Prop := ∃ a : Nat, gA T n m a ∧ skp T n a = p
def gs (T : Nat → Int) (n : Nat) (m : MM) (p : Nat) : Prop := gA T n m p ∧ skp T n p = p
theorem gs.gd {T : Nat → Int} {n : Nat} {m : MM} {p : Nat} (h : gs T n m p) : gd T n m p := ⟨p, h⟩
theorem gs.le {T : Nat → Int} {n : Nat} {m : MM} {p : Nat} (h : gs T n m p) : p ≤ n := h.1.2.2.1
theorem gA.end {T : Nat → Int} {n : Nat} {m : MM} {a : Nat} (h : gA T n m a) (hn : n ≤ 1600) : m.1 2000 2 = m.1 2000 4 ↔ alB T a := by
  obtain ⟨h1, h2, h3, e, h4, h5, h6⟩ := h
  rw [h2, h4, iI_eq (by omega) (by omega)]
  constructor
  · intro q
    rcases h6 with ⟨-, w⟩ | ⟨w, -⟩
    · exact w
    · omega
  · intro q
    rcases h6 with ⟨w, -⟩ | ⟨-, w⟩
    · exact w.symm
    · exact absurd q w
/-- something was wrong -/
def bd (m : MM) (k : Int) (p : Nat) : Prop := (1 ≤ k ∧ k ≤ 5) ∧ m.1 2000 5 = iI k ∧ m.1 2000 6 = iI p
theorem bd.ne {m : MM} {k : Int} {p : Nat} (h : bd m k p) : ¬ m.1 2000 5 = 0 := by
  rw [h.2.1, iI_lit, iI_eq (by have := h.1; omega) (by omega)]
  have := h.1
  omega
theorem p_fail {m : MM} (h : m.1 2000 5 = 0) {k : Int} (hk : 1 ≤ k ∧ k ≤ 5) (p : Nat) : pw (mf_fail (iI k) (iI p) m) (fun q => bd q.2 k p ∧ xF m q.2) := by
  unfold mf_fail
  rw [if_pos h]
  refine pw_let (pw_let (pw_some ⟨⟨hk, ?_, ?_⟩, ⟨fun c j q => ?_, rfl⟩⟩))
  · show (msI (msI m 2000 5 (iI k)) 2000 6 (iI p)).1 2000 5 = _
    rw [msI_i, if_neg (by omega), msI_i, if_pos ⟨rfl, rfl⟩]
  · show (msI (msI m 2000 5 (iI k)) 2000 6 (iI p)).1 2000 6 = _
    rw [msI_i, if_pos ⟨rfl, rfl⟩]
  · show (msI (msI m 2000 5 (iI k)) 2000 6 (iI p)).1 c j = _
    rcases q with q | ⟨-, -, q⟩
    · rw [msI_i, if_neg (fun e => ?_), msI_i, if_neg (fun e => ?_)]
      · unfold xK at q; omega
      · unfold xK at q; omega
    · exfalso
      have q : (msI (msI m 2000 5 (iI k)) 2000 6 (iI p)).1 2000 5 = 0 := q
      rw [msI_i, if_neg (by omega), msI_i, if_pos ⟨rfl, rfl⟩, iI_lit, iI_eq (by omega) (by omega)] at q
      omega
theorem p_isL {z : Int} (hz : -2147483648 ≤ z ∧ z < 2147483648) (m : MM) : mf_isLetter (iI z) m = some (if isL z then 1 else 0, m) := by
  unfold mf_isLetter mj_X6_isLetter_16
  simp (disch := omega) only [show (97 : Int32) = iI 97 from rfl, show (122 : Int32) = iI 122 from rfl, iI_lt]
  by_cases h : isL z
  · rw [if_neg (by omega), if_neg (by omega), if_pos h]
  · rw [if_neg h]
    split
    · rfl
    · rw [if_pos (by omega)]
theorem p_isD {z : Int} (hz : -2147483648 ≤ z ∧ z < 2147483648) (m : MM) : mf_isDigit (iI z) m = some (if isD z then 1 else 0, m) := by
  unfold mf_isDigit mj_X6_isDigit_16
  simp (disch := omega) only [show (48 : Int32) = iI 48 from rfl, show (57 : Int32) = iI 57 from rfl, iI_lt]
  by_cases h : isD z
  · rw [if_neg (by omega), if_neg (by omega), if_pos h]
  · rw [if_neg h]
    split
    · rfl
    · rw [if_pos (by omega)]
theorem tOK.r {T : Nat → Int} {n : Nat} (h : tOK T n) (k : Nat) : -1 ≤ T k ∧ T k < 256 := by
  rcases Nat.lt_or_ge k n with q | q
  · have := h.2.1 k q; omega
  · rw [h.2.2 k q]; omega
theorem gA.step {T : Nat → Int} {n : Nat} {m : MM} {a : Nat} (h : gA T n m a) (hT : tOK T n) (ha : a < n) (hb : ¬ isL (T a) ∧ ¬ isD (T a)) : gA T n (msI m 2000 2 (iI ((a + 1 : Nat) : Int))) (a + 1) := by
  obtain ⟨h1, h2, h3, e, h4, h5, h6⟩ := h
  refine ⟨by rw [msI_i, if_neg (by omega)]; exact h1, by rw [msI_i, if_pos ⟨rfl, rfl⟩], by omega, e, by rw [msI_i, if_neg (by omega)]; exact h4, h5, Or.inr ⟨?_, fun w => ?_⟩⟩
  · rcases h6 with ⟨w, -⟩ | ⟨w, -⟩ <;> omega
  · obtain ⟨-, w⟩ := w
    rw [show a + 1 - 1 = a by omega] at w
    rcases w with w | w
    · exact hb.1 w
    · exact hb.2 w
theorem p_look {T : Nat → Int} {n : Nat} {m : MM} (hL : lxM T n m) {p : Nat} (h : gd T n m p) : pw (mf_look m) (fun q => q.1 = iI (T p) ∧ xF m q.2 ∧ gs T n q.2 p) := by
  obtain ⟨a, h1, h2⟩ := h
  obtain ⟨hT, hM, hN, -⟩ := id hL
  have hn := hT.1
  unfold mf_look ml_X6_look_0
  refine pw_loop (fun m' : MM => xF m m' ∧ ∃ a : Nat, gA T n m' a ∧ skp T n a = p) (fun m' => n - (mi m' 2000 2).toNat) ?_ ⟨xF.refl m, a, h1, h2⟩
  rintro m' ⟨x, a, g, s⟩
  have hL' := hL.x x
  obtain ⟨-, hM, hN, -⟩ := hL'
  have ga := g.2.1
  have gan := g.2.2.1
  have gi : gz_ix (iI (a : Int)) = a := by rw [gix (by omega)]; omega
  have ea : mi m' 2000 2 = a := by unfold mi; rw [ga, toInt_iI (by omega) (by omega)]
  have out : ¬ isB (T a) → pw (mj_X6_look_52 m') (fun q => q.1 = iI (T p) ∧ xF m q.2 ∧ gs T n q.2 p) := by
    intro hb
    have ep : p = a := by rw [← s]; exact skp_id hb
    subst ep
    unfold mj_X6_look_52
    rw [hN, ga, gi]
    rcases Nat.lt_or_ge p n with q | q
    · rw [hM p q]
      exact pw_f (by rw [iI_le (by omega) (by omega)]; omega) (pw_gu ((gin_iI (by omega)).2 (by omega)) (pw_some ⟨rfl, x, g, s⟩))
    · exact pw_t (by rw [iI_le (by omega) (by omega)]; omega) (pw_some ⟨by rw [hT.2.2 p q]; rfl, x, g, s⟩)
  unfold mb_X6_look_0
  rw [hN, ga, gi]
  rcases Nat.lt_or_ge a n with q | q
  · rw [hM a q]
    have tr := hT.2.1 a q
    refine pw_f (by rw [iI_le (by omega) (by omega)]; omega) (pw_gu ((gin_iI (by omega)).2 (by omega)) ?_)
    have go : isB (T a) → pw (mj_X6_look_39 m') (Sum.elim (fun s' : MM => (xF m s' ∧ ∃ a : Nat, gA T n s' a ∧ skp T n a = p) ∧ n - (mi s' 2000 2).toNat < n - (mi m' 2000 2).toNat) (fun q => q.1 = iI (T p) ∧ xF m q.2 ∧ gs T n q.2 p)) := by
      intro hb
      have e1 : iI (a : Int) + (1 : Int32) = iI ((a + 1 : Nat) : Int) := by rw [iI_lit, iI_add]; rfl
      unfold mj_X6_look_39
      rw [ga, e1]
      simp only [gz_let]
      refine pw_some ⟨⟨x.trans (xF.sI (by omega)), a + 1, g.step hT q (by have : isB (T a) := hb; omega), by rw [← skp_b hT hb]; exact s⟩, ?_⟩
      rw [ea, mi_sI _ _ _ _ _ (by omega), if_pos ⟨rfl, rfl⟩]
      omega
    by_cases c1 : T a = 10
    · exact pw_t (by rw [c1]; rfl) (go (Or.inr c1))
    · refine pw_f (by rw [iI_lit, iI_eq (by omega) (by omega)]; exact c1) (pw_gu ((gin_iI (by omega)).2 (by omega)) ?_)
      by_cases c2 : T a = 32
      · exact pw_t (by rw [c2]; rfl) (go (Or.inl c2))
      · exact pw_f (by rw [iI_lit, iI_eq (by omega) (by omega)]; exact c2) (pw_map (pw_mono (out (fun w => by rcases w with w | w; exact c2 w; exact c1 w)) (fun q hq => hq)))
  · refine pw_t (by rw [iI_le (by omega) (by omega)]; omega) (pw_map (pw_mono (out ?_) (fun q hq => hq)))
    rw [hT.2.2 a q]
    decide
theorem p_isHere {T : Nat → Int} {n : Nat} {m : MM} (hL : lxM T n m) {p : Nat} (h : gd T n m p) {c : Nat} {w : List Int} (hw : (c, w) ∈ wds) : pw (mf_isHere c m) (fun q => q.1 = (if isW T n p w then 1 else 0) ∧ xF m q.2 ∧ gs T n q.2 p) := by
  obtain ⟨hT, -⟩ := id hL
  have hn := hT.1
  obtain ⟨w1, w2, w3, w4⟩ := wds_of hw
  dsimp only at w1 w2 w3 w4
  obtain ⟨b, b1, b2⟩ := id h
  unfold mf_isHere
  refine pw_t b1.1 (pw_bind (pw_mono (p_look hL h) ?_))
  rintro ⟨r, m1⟩ ⟨rfl, x1, g1⟩
  dsimp only at x1 g1 ⊢
  have hL1 := hL.x x1
  obtain ⟨-, hM, hN, hW⟩ := id hL1
  have hr := hT.r p
  rw [p_isL (by omega)]
  simp only [Option.bind_some]
  unfold mj_X6_isHere_28
  by_cases c1 : isL (T p)
  rotate_left
  · rw [if_neg c1]
    exact pw_t rfl (pw_some ⟨by rw [if_neg (fun z => c1 z.1)], x1, g1⟩)
  rw [if_pos c1]
  refine pw_f n10 ?_
  have hend := g1.1.end hn
  by_cases c2 : alB T p
  · exact pw_t (hend.2 c2) (pw_some ⟨by rw [if_neg (fun z => z.2.1 c2)], x1, g1⟩)
  refine pw_f (fun z => c2 (hend.1 z)) ?_
  have ga := g1.1.2.1
  have hpn := isL_lt hT c1
  have hwe := wE_le hT (Nat.le_of_lt hpn)
  have hwg := wE_ge T n p
  rw [ga]
  -- first the end of the word
  have fin : pw (mj_X6_isHere_61 c (iI (wE T n p : Int)) m1) (fun q => q.1 = (if isW T n p w then 1 else 0) ∧ xF m q.2 ∧ gs T n q.2 p) := by
    unfold mj_X6_isHere_61
    rw [ga, iI_sub, ← iI_nI, w1]
    by_cases c3 : wE T n p = p + w.length
    rotate_left
    · exact pw_f (by rw [iI_eq (by omega) (by omega)]; omega) (pw_some ⟨by rw [if_neg (fun z => c3 z.2.2.1)], x1, g1⟩)
    refine pw_t (by rw [iI_eq (by omega) (by omega)]; omega) ?_
    unfold ml_X6_isHere_76
    refine pw_for (fun (i : Nat) (q : Int32 × MM) => q.1 = iI i ∧ q.2 = m1 ∧ ∀ j : Nat, j < i → T (p + j) = w.getD j 0) w.length ?_ ?_ ⟨rfl, rfl, fun j hj => absurd hj (Nat.not_lt_zero _)⟩
    · rintro i ⟨y, m'⟩ hi hq0
      dsimp only at hq0
      obtain ⟨rfl, rfl, k⟩ := hq0
      dsimp only at k ⊢
      have ei : iI (i : Int) + (1 : Int32) = iI ((i + 1 : Nat) : Int) := by rw [iI_lit, iI_add]; rfl
      have ep : iI (p : Int) + iI (i : Int) = iI ((p + i : Nat) : Int) := by rw [iI_add]; rfl
      have gp : gz_ix (iI ((p + i : Nat) : Int)) = p + i := by rw [gix (by omega)]; omega
      have gi : gz_ix (iI (i : Int)) = i := by rw [gix (by omega)]; omega
      have hlet := w4 i hi
      have hr2 := hT.r (p + i)
      unfold mb_X6_isHere_76
      rw [ga, ep, gp, gi, ei, w1, ← iI_nI, hM (p + i) (by omega), hW _ hw i hi]
      simp only [gz_let]
      refine pw_f (by rw [iI_le (by omega) (by omega)]; omega) (pw_gu ((gin_iI (by omega)).2 (by omega)) (pw_gu ((gin_iI (by omega)).2 (by omega)) ?_))
      by_cases c4 : T (p + i) = w.getD i 0
      · refine pw_t (by rw [c4]) (pw_some ⟨rfl, rfl, fun j hj => ?_⟩)
        by_cases z : j = i
        · rw [z]; exact c4
        · exact k j (by omega)
      · exact pw_f (by rw [iI_eq (by omega) (by omega)]; exact c4) (pw_some ⟨by rw [if_neg (fun z => c4 (z.2.2.2 i hi))], x1, g1⟩)
    · rintro ⟨y, m'⟩ hq0
      dsimp only at hq0
      obtain ⟨rfl, rfl, k⟩ := hq0
      dsimp only at k ⊢
      unfold mb_X6_isHere_76
      rw [w1, ← iI_nI]
      exact pw_t (by rw [iI_le (by omega) (by omega)]; omega) (pw_some ⟨by rw [if_pos ⟨c1, c2, c3, k⟩], x1, g1⟩)
  unfold ml_X6_isHere_35
  refine pw_for (fun (i : Nat) (q : Int32 × MM) => q.1 = iI ((p + i : Nat) : Int) ∧ q.2 = m1) (wE T n p - p) ?_ ?_ ⟨rfl, rfl⟩
  · rintro i ⟨y, m'⟩ hi hq0
    dsimp only at hq0
    obtain ⟨rfl, rfl⟩ := hq0
    dsimp only
    have ei : iI ((p + i : Nat) : Int) + (1 : Int32) = iI ((p + (i + 1) : Nat) : Int) := by rw [iI_lit, iI_add]; exact congrArg iI (by omega)
    have gi : gz_ix (iI ((p + i : Nat) : Int)) = p + i := by rw [gix (by omega)]; omega
    have hl : isL (T (p + i)) := wE_in (n := n) (p := p) (by omega) (by omega)
    unfold mb_X6_isHere_35
    rw [hN, gi, hM (p + i) (by omega), p_isL (by omega), if_pos hl, ei]
    simp only [Option.bind_some, gz_let]
    exact pw_f (by rw [iI_le (by omega) (by omega)]; omega) (pw_gu ((gin_iI (by omega)).2 (by omega)) (pw_f n10 (pw_some ⟨rfl, rfl⟩)))
  · rintro ⟨y, m'⟩ hq0
    dsimp only at hq0
    obtain ⟨rfl, rfl⟩ := hq0
    dsimp only
    have gi : gz_ix (iI ((p + (wE T n p - p) : Nat) : Int)) = wE T n p := by rw [gix (by omega)]; omega
    have ee : p + (wE T n p - p) = wE T n p := by omega
    have ho := wE_out hT p
    have hr2 := hT.r (wE T n p)
    unfold mb_X6_isHere_35
    rw [hN, gi, ee]
    rcases Nat.lt_or_ge (wE T n p) n with q | q
    · rw [hM _ q, p_isL (by omega), if_neg ho]
      simp only [Option.bind_some]
      exact pw_f (by rw [iI_le (by omega) (by omega)]; omega) (pw_gu ((gin_iI (by omega)).2 (by omega)) (pw_t (by first | trivial | rfl) (pw_map (pw_mono fin (fun q hq => hq)))))
    · exact pw_t (by rw [iI_le (by omega) (by omega)]; omega) (pw_map (pw_mono fin (fun q hq => hq)))
theorem p_isHere_bad {m : MM} (h : ¬ m.1 2000 5 = 0) (c : Nat) : mf_isHere c m = some (0, m) := by
  unfold mf_isHere
  rw [if_neg h]
  rfl
theorem isW_al {T : Nat → Int} {n p : Nat} {w : List Int} (h : isW T n p w) (hw : 0 < w.length) : alB T (p + w.length) := by
  refine ⟨by omega, Or.inl ?_⟩
  exact wE_in (n := n) (p := p) (by omega) (by rw [h.2.2.1]; omega)
theorem p_takes {T : Nat → Int} {n : Nat} {m : MM} (hL : lxM T n m) {p : Nat} (h : gd T n m p) {c : Nat} {w : List Int} (hw : (c, w) ∈ wds) : pw (mf_takes c m) (fun q => xF m q.2 ∧ ((isW T n p w ∧ q.1 = 1 ∧ gd T n q.2 (skp T n (p + w.length))) ∨ (¬ isW T n p w ∧ q.1 = 0 ∧ gs T n q.2 p))) := by
  obtain ⟨hT, -⟩ := id hL
  have hn := hT.1
  obtain ⟨w1, w2, w3, w4⟩ := wds_of hw
  dsimp only at w1 w2 w3 w4
  unfold mf_takes
  refine pw_bind (pw_mono (p_isHere hL h hw) ?_)
  rintro ⟨r, m1⟩ ⟨rfl, x1, g1⟩
  dsimp only at x1 g1 ⊢
  by_cases c1 : isW T n p w
  · rw [if_pos c1]
    have hle := wE_le hT (Nat.le_of_lt (isL_lt hT c1.1))
    rw [c1.2.2.1] at hle
    obtain ⟨k1, k2, k3, e, k4, k5, k6⟩ := g1.1
    have ea : iI (p : Int) + nI (nM c) = iI ((p + w.length : Nat) : Int) := by rw [w1, ← iI_nI, iI_add]; rfl
    simp only [gz_let]
    rw [k2, ea]
    refine pw_f n10 (pw_some ⟨x1.trans ((xF.sI (by omega)).trans (xF.sI (by omega))), Or.inl ⟨c1, rfl, p + w.length, ⟨?_, ?_, hle, ((p + w.length : Nat) : Int), ?_, by omega, Or.inl ⟨rfl, isW_al c1 (by omega)⟩⟩, rfl⟩⟩)
    · rw [msI_i, if_neg (by omega), msI_i, if_neg (by omega)]; exact k1
    · rw [msI_i, if_neg (by omega), msI_i, if_pos ⟨rfl, rfl⟩]
    · rw [msI_i, if_pos ⟨rfl, rfl⟩, msI_i, if_pos ⟨rfl, rfl⟩]
  · rw [if_neg c1]
    exact pw_t rfl (pw_some ⟨x1, Or.inr ⟨c1, rfl, g1⟩⟩)
theorem p_takes_bad {m : MM} (h : ¬ m.1 2000 5 = 0) (c : Nat) : mf_takes c m = some (0, m) := by
  unfold mf_takes
  rw [p_isHere_bad h]
  rfl
theorem p_asks {T : Nat → Int} {n : Nat} {m : MM} (hL : lxM T n m) {p : Nat} (h : gd T n m p) {c : Nat} {w : List Int} (hw : (c, w) ∈ wds) : pw (mf_asks c m) (fun q => xF m q.2 ∧ ((isW T n p w ∧ gd T n q.2 (skp T n (p + w.length))) ∨ (¬ isW T n p w ∧ bd q.2 1 p))) := by
  obtain ⟨a, g, -⟩ := id h
  unfold mf_asks
  refine pw_t g.1 (pw_bind (pw_mono (p_takes hL h hw) ?_))
  rintro ⟨r, m1⟩ ⟨x1, ⟨c1, rfl, g1⟩ | ⟨c1, rfl, g1⟩⟩
  · exact pw_f n10 (pw_some ⟨x1, Or.inl ⟨c1, g1⟩⟩)
  · dsimp only at x1 g1 ⊢
    refine pw_t rfl (pw_bind ?_)
    rw [g1.1.2.1]
    refine pw_mono (p_fail g1.1.1 (k := 1) (by omega) p) ?_
    rintro ⟨⟨⟩, m2⟩ ⟨b1, b2⟩
    exact pw_some ⟨x1.trans b2, Or.inr ⟨c1, b1⟩⟩
theorem p_asks_bad {m : MM} (h : ¬ m.1 2000 5 = 0) (c : Nat) : mf_asks c m = some ((), m) := by
  unfold mf_asks
  rw [if_neg h]
theorem p_takesSign {T : Nat → Int} {n : Nat} {m : MM} (hL : lxM T n m) {p : Nat} (h : gd T n m p) {c : Int} (hc : 0 ≤ c ∧ c < 256) (hc2 : ¬ isL c ∧ ¬ isD c) : pw (mf_takesSign (iI c) m) (fun q => xF m q.2 ∧ ((T p = c ∧ q.1 = 1 ∧ gA T n q.2 (p + 1)) ∨ (T p ≠ c ∧ q.1 = 0 ∧ gs T n q.2 p))) := by
  obtain ⟨a, g, -⟩ := id h
  obtain ⟨hT, -⟩ := id hL
  have hn := hT.1
  unfold mf_takesSign mj_X6_takesSign_15
  refine pw_t g.1 (pw_bind (pw_mono (p_look hL h) ?_))
  rintro ⟨r, m1⟩ ⟨rfl, x1, g1⟩
  dsimp only at x1 g1 ⊢
  have hr := hT.r p
  by_cases c1 : T p = c
  · have hp : p < n := by
      rcases Nat.lt_or_ge p n with q | q
      · exact q
      · rw [hT.2.2 p q] at c1; omega
    have e1 : iI (p : Int) + (1 : Int32) = iI ((p + 1 : Nat) : Int) := by rw [iI_lit, iI_add]; rfl
    rw [g1.1.2.1, e1]
    exact pw_t (by rw [c1]) (pw_let (pw_some ⟨x1.trans (xF.sI (by omega)), Or.inl ⟨c1, rfl, g1.1.step hT hp (by rw [c1]; exact hc2)⟩⟩))
  · exact pw_f (by rw [iI_eq (by omega) (by omega)]; exact c1) (pw_some ⟨x1, Or.inr ⟨c1, rfl, g1⟩⟩)
theorem p_takesSign_bad {m : MM} (h : ¬ m.1 2000 5 = 0) (x : Int32) : mf_takesSign x m = some (0, m) := by
  unfold mf_takesSign
  rw [if_neg h]
  rfl
theorem p_asksSign {T : Nat → Int} {n : Nat} {m : MM} (hL : lxM T n m) {p : Nat} (h : gd T n m p) {c : Int} (hc : 0 ≤ c ∧ c < 256) (hc2 : ¬ isL c ∧ ¬ isD c) : pw (mf_asksSign (iI c) m) (fun q => xF m q.2 ∧ ((T p = c ∧ gA T n q.2 (p + 1)) ∨ (T p ≠ c ∧ bd q.2 1 p))) := by
  obtain ⟨a, g, -⟩ := id h
  unfold mf_asksSign
  refine pw_t g.1 (pw_bind (pw_mono (p_takesSign hL h hc hc2) ?_))
  rintro ⟨r, m1⟩ ⟨x1, ⟨c1, rfl, g1⟩ | ⟨c1, rfl, g1⟩⟩
  · exact pw_f n10 (pw_some ⟨x1, Or.inl ⟨c1, g1⟩⟩)
  · dsimp only at x1 g1 ⊢
    refine pw_t rfl (pw_bind ?_)
    rw [g1.1.2.1]
    refine pw_mono (p_fail g1.1.1 (k := 1) (by omega) p) ?_
    rintro ⟨⟨⟩, m2⟩ ⟨b1, b2⟩
    exact pw_some ⟨x1.trans b2, Or.inr ⟨c1, b1⟩⟩
theorem p_asksSign_bad {m : MM} (h : ¬ m.1 2000 5 = 0) (x : Int32) : mf_asksSign x m = some ((), m) := by
  unfold mf_asksSign
  rw [if_neg h]
theorem dE_le {T : Nat → Int} {n : Nat} (hT : tOK T n) {p : Nat} (h : p ≤ n) : dE T n p ≤ n := by
  rcases Nat.lt_or_ge n (dE T n p) with q | q
  · have := dE_in h q
    rw [hT.2.2 n (Nat.le_refl _)] at this
    exact absurd this (by decide)
  · exact q
theorem p_number {T : Nat → Int} {n : Nat} {m : MM} (hL : lxM T n m) {p : Nat} (h : gd T n m p) {lo hi : Int} (hlo : -10000 ≤ lo ∧ lo ≤ 10000) (hhi : -10000 ≤ hi ∧ hi ≤ 10000) : pw (mf_number (iI lo) (iI hi) m) (fun q => xF m q.2 ∧ ((∃ k l, sNum T n p lo hi = Sum.inl (k, l) ∧ bd q.2 k l) ∨ ∃ p' v, sNum T n p lo hi = Sum.inr (p', v) ∧ q.1 = iI v ∧ (0 ≤ v ∧ v ≤ 9999) ∧ (lo ≤ v ∧ v ≤ hi) ∧ gd T n q.2 p')) := by
  obtain ⟨a, g, -⟩ := id h
  obtain ⟨hT, -⟩ := id hL
  have hn := hT.1
  unfold mf_number
  refine pw_t g.1 (pw_bind (pw_mono (p_look hL h) ?_))
  rintro ⟨r, m1⟩ ⟨rfl, x1, g1⟩
  dsimp only at x1 g1 ⊢
  have hL1 := hL.x x1
  have hr := hT.r p
  have hend := g1.1.end hn
  have ga := g1.1.2.1
  have bad1 : (¬ isD (T p) ∨ alB T p) → pw (mj_X6_number_30 m1) (fun q => xF m q.2 ∧ ((∃ k l, sNum T n p lo hi = Sum.inl (k, l) ∧ bd q.2 k l) ∨ ∃ p' v, sNum T n p lo hi = Sum.inr (p', v) ∧ q.1 = iI v ∧ (0 ≤ v ∧ v ≤ 9999) ∧ (lo ≤ v ∧ v ≤ hi) ∧ gd T n q.2 p')) := by
    intro w
    unfold mj_X6_number_30
    rw [ga]
    refine pw_bind (pw_mono (p_fail g1.1.1 (k := 1) (by omega) p) ?_)
    rintro ⟨⟨⟩, m2⟩ ⟨b1, b2⟩
    exact pw_some ⟨x1.trans b2, Or.inl ⟨1, p, by unfold sNum; rw [if_pos w], b1⟩⟩
  rw [p_isD (by omega)]
  simp only [Option.bind_some]
  by_cases c1 : isD (T p)
  rotate_left
  · rw [if_neg c1]
    exact pw_t rfl (bad1 (Or.inl c1))
  rw [if_pos c1]
  refine pw_f n10 ?_
  by_cases c2 : alB T p
  · exact pw_t (hend.2 c2) (bad1 (Or.inr c2))
  refine pw_f (fun z => c2 (hend.1 z)) ?_
  have hpn := isD_lt hT c1
  have hde := dE_le hT (Nat.le_of_lt hpn)
  have hdg := dE_ge T n p
  have hdp : p < dE T n p := by
    rcases Nat.lt_or_ge p (dE T n p) with q | q
    · exact q
    · have := dE_out hT p
      rw [show dE T n p = p by omega] at this
      exact absurd c1 this
  have n1 : ¬ (¬ isD (T p) ∨ alB T p) := fun z => z.elim (fun y => y c1) c2
  rw [ga]
  unfold ml_X6_number_49
  refine pw_for (fun (i : Nat) (q : Int32 × Int32 × Int32 × Int32 × MM) => q.1 = iI lo ∧ q.2.1 = iI hi ∧ q.2.2.1 = iI p ∧ q.2.2.2.1 = iI (dV T p i) ∧ xF m1 q.2.2.2.2 ∧ q.2.2.2.2.1 2000 2 = iI ((p + i : Nat) : Int) ∧ q.2.2.2.2.1 2000 5 = 0) (min 4 (dE T n p - p)) ?_ ?_ ⟨rfl, rfl, rfl, rfl, xF.refl _, ga, g1.1.1⟩
  · rintro i ⟨y1, y2, y3, y4, m'⟩ hi ⟨rfl, rfl, rfl, rfl, x, ea, e5⟩
    dsimp only at x ea e5 ⊢
    have hi4 : i < 4 := by omega
    have hid : p + i < dE T n p := by omega
    obtain ⟨-, hM, hN, -⟩ := hL1.x x
    have hd := dE_in (T := T) (n := n) (p := p) (q := p + i) (by omega) hid
    have gi : gz_ix (iI ((p + i : Nat) : Int)) = p + i := by rw [gix (by omega)]; omega
    have ei : iI ((p + i : Nat) : Int) + (1 : Int32) = iI ((p + (i + 1) : Nat) : Int) := by rw [iI_lit, iI_add]; exact congrArg iI (by omega)
    have hv := dV_b (T := T) (p := p) i (by omega) (fun q a b => dE_in (n := n) (p := p) a (by omega))
    have h4 : (10 : Int) ^ i ≤ 1000 := by
      have : i = 0 ∨ i = 1 ∨ i = 2 ∨ i = 3 := by omega
      rcases this with z | z | z | z <;> subst z <;> decide
    unfold mb_X6_number_49
    rw [hN, ea, gi, hM (p + i) (by omega), p_isD (by omega), if_pos hd]
    simp only [Option.bind_some, gz_let]
    rw [ea, gi, hM (p + i) (by omega), ei, iI_sub]
    refine pw_f (by rw [iI_le (by omega) (by omega)]; omega) (pw_gu ((gin_iI (by omega)).2 (by omega)) (pw_f n10 (pw_f (by rw [iI_lit, iI_eq (by omega) (by omega)]; omega) (pw_gu ((gin_iI (by omega)).2 (by omega)) (pw_some ⟨rfl, rfl, rfl, ?_, x.trans (xF.sI (by omega)), ?_, ?_⟩)))))
    · dsimp only
      rw [iI_lit, iI_lit, iI_mul, iI_add, iI_sub]
      rfl
    · dsimp only
      rw [msI_i, if_pos ⟨rfl, rfl⟩]
    · dsimp only
      rw [msI_i, if_neg (by omega)]
      exact e5
  · rintro ⟨y1, y2, y3, y4, m'⟩ ⟨rfl, rfl, rfl, rfl, x, ea, e5⟩
    dsimp only at x ea e5 ⊢
    obtain ⟨-, hM, hN, -⟩ := hL1.x x
    have x2 := x1.trans x
    by_cases c3 : p + 4 < dE T n p
    · rw [show min 4 (dE T n p - p) = 4 by omega] at ea ⊢
      have hd := dE_in (T := T) (n := n) (p := p) (q := p + 4) (by omega) (by omega)
      have gi : gz_ix (iI ((p + 4 : Nat) : Int)) = p + 4 := by rw [gix (by omega)]; omega
      unfold mb_X6_number_49
      rw [hN, ea, gi, hM (p + 4) (by omega), p_isD (by omega), if_pos hd]
      simp only [Option.bind_some]
      rw [ea, iI_sub]
      refine pw_f (by rw [iI_le (by omega) (by omega)]; omega) (pw_gu ((gin_iI (by omega)).2 (by omega)) (pw_f n10 (pw_t (by rw [iI_lit, iI_eq (by omega) (by omega)]; omega) ?_)))
      refine pw_bind (pw_mono (p_fail e5 (k := 1) (by omega) (p + 4)) ?_)
      rintro ⟨⟨⟩, m2⟩ ⟨b1, b2⟩
      exact pw_some ⟨x2.trans b2, Or.inl ⟨1, p + 4, by unfold sNum; rw [if_neg n1, if_pos c3], b1⟩⟩
    · rw [show min 4 (dE T n p - p) = dE T n p - p by omega] at ea ⊢
      have ee : p + (dE T n p - p) = dE T n p := by omega
      rw [ee] at ea
      have gi : gz_ix (iI (dE T n p : Int)) = dE T n p := by rw [gix (by omega)]; omega
      have ho := dE_out hT p
      have hv := dV_b (T := T) (p := p) (dE T n p - p) (by omega) (fun q a b => dE_in (n := n) (p := p) a (by omega))
      have h4 : (10 : Int) ^ (dE T n p - p) ≤ 10000 := by
        have : dE T n p - p = 0 ∨ dE T n p - p = 1 ∨ dE T n p - p = 2 ∨ dE T n p - p = 3 ∨ dE T n p - p = 4 := by omega
        rcases this with z | z | z | z | z <;> rw [z] <;> decide
      have fin : pw (mj_X6_number_129 (iI lo) (iI hi) (iI p) (iI (dV T p (dE T n p - p))) m') (fun q => xF m q.2 ∧ ((∃ k l, sNum T n p lo hi = Sum.inl (k, l) ∧ bd q.2 k l) ∨ ∃ p' v, sNum T n p lo hi = Sum.inr (p', v) ∧ q.1 = iI v ∧ (0 ≤ v ∧ v ≤ 9999) ∧ (lo ≤ v ∧ v ≤ hi) ∧ gd T n q.2 p')) := by
        unfold mj_X6_number_129 mj_X6_number_164
        simp only [gz_let]
        rw [ea]
        have x3 : xF m (msI (msI m' 2000 4 (iI (dE T n p : Int))) 2000 10 (iI p)) := x2.trans ((xF.sI (by omega)).trans (xF.sI (by omega)))
        have f5 : (msI (msI m' 2000 4 (iI (dE T n p : Int))) 2000 10 (iI p)).1 2000 5 = 0 := by rw [msI_i, if_neg (by omega), msI_i, if_neg (by omega)]; exact e5
        have f10 : (msI (msI m' 2000 4 (iI (dE T n p : Int))) 2000 10 (iI p)).1 2000 10 = iI p := by rw [msI_i, if_pos ⟨rfl, rfl⟩]
        have f2 : (msI (msI m' 2000 4 (iI (dE T n p : Int))) 2000 10 (iI p)).1 2000 2 = iI (dE T n p : Int) := by rw [msI_i, if_neg (by omega), msI_i, if_neg (by omega)]; exact ea
        have f4 : (msI (msI m' 2000 4 (iI (dE T n p : Int))) 2000 10 (iI p)).1 2000 4 = iI (dE T n p : Int) := by rw [msI_i, if_neg (by omega), msI_i, if_pos ⟨rfl, rfl⟩]
        generalize msI (msI m' 2000 4 (iI (dE T n p : Int))) 2000 10 (iI p) = m2 at x3 f5 f10 f2 f4
        rw [i2l_iI (by omega), i2l_iI (by omega), i2l_iI (by omega), p_isIn m2 (by omega) (by omega) (by omega)]
        simp only [Option.bind_some]
        by_cases c4 : lo ≤ dV T p (dE T n p - p) ∧ dV T p (dE T n p - p) ≤ hi
        · rw [if_pos c4]
          refine pw_f n10 (pw_some ⟨x3, Or.inr ⟨_, _, by unfold sNum; rw [if_neg n1, if_neg c3, if_pos c4], rfl, ⟨hv.1, by omega⟩, c4, dE T n p, ⟨f5, f2, hde, (dE T n p : Int), f4, by omega, Or.inl ⟨rfl, by omega, Or.inr ?_⟩⟩, rfl⟩⟩)
          exact dE_in (n := n) (p := p) (by omega) (by omega)
        · rw [if_neg c4, f10]
          refine pw_t rfl (pw_bind (pw_mono (p_fail f5 (k := 2) (by omega) p) ?_))
          rintro ⟨⟨⟩, m3⟩ ⟨b1, b2⟩
          exact pw_some ⟨x3.trans b2, Or.inl ⟨2, p, by unfold sNum; rw [if_neg n1, if_neg c3, if_neg c4], b1⟩⟩
      unfold mb_X6_number_49
      rw [hN, ea, gi]
      rcases Nat.lt_or_ge (dE T n p) n with q | q
      · have hr2 := hT.r (dE T n p)
        rw [hM _ q, p_isD (by omega), if_neg ho]
        simp only [Option.bind_some]
        exact pw_f (by rw [iI_le (by omega) (by omega)]; omega) (pw_gu ((gin_iI (by omega)).2 (by omega)) (pw_t (by first | trivial | rfl) (pw_map (pw_mono fin (fun q hq => hq)))))
      · exact pw_t (by rw [iI_le (by omega) (by omega)]; omega) (pw_map (pw_mono fin (fun q hq => hq)))
theorem p_number_bad {m : MM} (h : ¬ m.1 2000 5 = 0) (x y : Int32) : mf_number x y m = some (0, m) := by
  unfold mf_number
  rw [if_neg h]
