theorem pw_gxs {α β : Type} {a : α} {f : α → Option β} {b : Option β} {Q : β → Prop} (h : pw (f a) Q) : pw (gx_o (some a) f b) Q := h
theorem pw_gxn {α β : Type} {f : α → Option β} {b : Option β} {Q : β → Prop} (h : pw b Q) : pw (gx_o (none : Option α) f b) Q := h
section LexC
variable {T : Nat → Int} {n : Nat} {μ : gM}
theorem zle {a b : gM} (h : b.2.2.2.2.2 = a.2.2.2.2.2) : gZ a ≤ gZ b ∧ gW a ≤ gW b := ⟨by show a.2.2.2.2.2.1 ≤ b.2.2.2.2.2.1; rw [h]; exact Nat.le_refl _, by show a.2.2.2.2.2.2 ≤ b.2.2.2.2.2.2; rw [h]; exact Nat.le_refl _⟩
theorem zgC {a b : gM} (h : b.2.2.2.2.2 = a.2.2.2.2.2) : gC b = gC a := by
  show 8 * b.2.2.2.2.2.1 + b.2.2.2.2.2.2 = 8 * a.2.2.2.2.2.1 + a.2.2.2.2.2.2
  rw [h]
theorem cAt.of {a : Nat} (h : gI μ 1011 2 = iI a) (ha : a ≤ n) : cAt T n μ (skp T n a) := ⟨a, h, ha, rfl⟩
theorem cAt.le (hT : tOK T n) {p : Nat} (h : cAt T n μ p) : p ≤ n ∧ skp T n p = p := by
  obtain ⟨a, -, h2, rfl⟩ := h
  exact ⟨skp_le hT h2, skp_skp hT _⟩
theorem c_takes (hL : cLx T n μ) {p : Nat} (h : cAt T n μ p) {c : Int} (hc : 0 ≤ c ∧ c < 256) : pw (cf_X2_takes (iI c) μ) (fun q => rX μ q.2 ∧ ((T p = c ∧ q.1 = 1 ∧ p < n ∧ gI q.2 1011 2 = iI ((p + 1 : Nat) : Int)) ∨ (T p ≠ c ∧ q.1 = 0 ∧ gI q.2 1011 2 = iI p))) := by
  obtain ⟨hT, -⟩ := id hL
  have hn := hT.1
  unfold cf_X2_takes mj_X2_takes_13 mj_X2_takes_28
  refine pw_bind (pw_mono (c_here1 hL h) ?_)
  rintro ⟨r, m1⟩ ⟨rfl, x1, a1, hpn, hsk⟩
  dsimp only at x1 a1 ⊢
  have hr := hT.r p
  by_cases d : T p = c
  · have hp := T_lt hT d hc.1
    refine pw_t (by rw [d]) (pw_f n10 (pw_let (pw_gu (Or.inr rfl) (pw_some ⟨x1.trans (rX.sI (by omega)), Or.inl ⟨d, rfl, hp, ?_⟩⟩))))
    rw [sI_i, if_pos ⟨rfl, rfl⟩, a1, iI_lit, iI_add]
    rfl
  · refine pw_f (by rw [iI_eq (by omega) (by omega)]; exact d) (pw_t (by first | rfl | exact True.intro) (pw_let (pw_gu (Or.inl rfl) (pw_some ⟨x1.trans (rX.sI (by omega)), Or.inr ⟨d, rfl, ?_⟩⟩))))
    rw [sI_i, if_pos ⟨rfl, rfl⟩, a1, show (0 : Int32) = iI 0 from rfl, iI_add]
    exact congrArg iI (by omega)
theorem c_must (hL : cLx T n μ) {p : Nat} (h : cAt T n μ p) {c : Int} (hc : 0 ≤ c ∧ c < 256) : pw (cf_X2_must (iI c) μ) (fun q => pF (gZ μ) μ q.2 ∧ q.2.2.2.2.2.2 = μ.2.2.2.2.2 ∧ ((T p = c ∧ q.1 = some () ∧ p < n ∧ rX μ q.2 ∧ gI q.2 1011 2 = iI ((p + 1 : Nat) : Int)) ∨ (T p ≠ c ∧ q.1 = none ∧ cErr q.2 1 p))) := by
  obtain ⟨hT, -⟩ := id hL
  have hn := hT.1
  unfold cf_X2_must
  refine pw_bind (pw_mono (c_here1 hL h) ?_)
  rintro ⟨r, m1⟩ ⟨rfl, x1, a1, hpn, hsk⟩
  dsimp only at x1 a1 ⊢
  have hr := hT.r p
  refine pw_gu x1.z ?_
  by_cases d : T p = c
  · have hp := T_lt hT d hc.1
    refine pw_t (by rw [d]) (pw_let (pw_some ⟨(x1.trans (rX.sI (by omega))).p _, x1.z, Or.inl ⟨d, rfl, hp, x1.trans (rX.sI (by omega)), ?_⟩⟩))
    rw [sI_i, if_pos ⟨rfl, rfl⟩, a1, iI_lit, iI_add]
    rfl
  · refine pw_f (by rw [iI_eq (by omega) (by omega)]; exact d) ?_
    rw [a1]
    exact c_thr (α := Nat) (k := 1) (e := fun m2 => some (none, m2)) (fun μ' e1 e2 e3 => pw_some ⟨(x1.p _).trans (e3 _), e2.trans x1.z, Or.inr ⟨d, rfl, e1⟩⟩)
theorem c_opens {o : Nat} (h4 : gI μ 1011 4 = iI o) (ho : o ≤ 6) (l : Nat) : pw (cf_X2_opens (iI l) μ) (fun q => pF (gZ μ) μ q.2 ∧ q.2.2.2.2.2.2 = μ.2.2.2.2.2 ∧ ((o = 6 ∧ q.1 = none ∧ cErr q.2 4 l) ∨ (o ≠ 6 ∧ q.1 = some () ∧ q.2 = gz_sI μ 1011 4 (iI ((o + 1 : Nat) : Int))))) := by
  unfold cf_X2_opens
  rw [h4]
  by_cases d : o = 6
  · refine pw_t (by rw [d]; rfl) ?_
    exact c_thr (α := Nat) (k := 4) (e := fun m2 => some (none, m2)) (fun μ' e1 e2 e3 => pw_some ⟨e3 _, e2, Or.inl ⟨d, rfl, e1⟩⟩)
  · refine pw_f (by rw [iI_lit, iI_eq (by omega) (by omega)]; omega) (pw_let (pw_some ⟨pF.sI (Or.inl (by unfold pX; omega)), rfl, Or.inr ⟨d, rfl, ?_⟩⟩))
    rw [iI_lit, iI_add]
    rfl
theorem c_number (hL : cLx T n μ) {p : Nat} (h : cAt T n μ p) {lo hi : Int} (hlo : -10000 ≤ lo ∧ lo ≤ 10000) (hhi : -10000 ≤ hi ∧ hi ≤ 10000) : pw (cf_X2_number_2 (iI lo) (iI hi) μ) (fun q => pF (gZ μ) μ q.2 ∧ q.2.2.2.2.2.2 = μ.2.2.2.2.2 ∧ ((∃ k l, sNum T n p lo hi = Sum.inl (k, l) ∧ q.1 = none ∧ cErr q.2 k l) ∨ ∃ p' v, sNum T n p lo hi = Sum.inr (p', v) ∧ q.1 = some (iI v) ∧ (0 ≤ v ∧ v ≤ 9999) ∧ rX μ q.2 ∧ cAt T n q.2 p')) := by
  obtain ⟨hT, -⟩ := id hL
  have hn := hT.1
  unfold cf_X2_number_2
  refine pw_bind (pw_mono (c_here1 hL h) ?_)
  rintro ⟨r, m1⟩ ⟨rfl, x1, a1, hpn, hsk⟩
  dsimp only at x1 a1 ⊢
  have hr := hT.r p
  refine pw_gu x1.z ?_
  rw [c_isD (by omega)]
  refine pw_bind (pw_some (pw_gu rfl ?_))
  by_cases c1 : isD (T p)
  rotate_left
  · rw [if_neg c1]
    refine pw_t (by first | rfl | exact True.intro) ?_
    rw [a1]
    exact c_thr (α := Nat) (k := 1) (e := fun m2 => some (none, m2)) (fun μ' e1 e2 e3 => pw_some ⟨(x1.p _).trans (e3 _), e2.trans x1.z, Or.inl ⟨1, p, by unfold sNum; rw [if_pos (Or.inl c1)], rfl, e1⟩⟩)
  rw [if_pos c1]
  have hL1 := hL.p (x1.p _)
  refine pw_f n10 (pw_bind (pw_mono (c_parted hL1 a1 hpn) ?_))
  rintro ⟨o, m2⟩ (⟨w, rfl, e1, e2, e3⟩ | ⟨w, rfl, rfl⟩)
  · dsimp only at e1 e2 e3 ⊢
    exact pw_gu (zle e2) (pw_gxn (pw_some ⟨(x1.p _).trans (e3 _), e2.trans x1.z, Or.inl ⟨1, p, by unfold sNum; rw [if_pos (Or.inr w)], rfl, e1⟩⟩))
  dsimp only
  refine pw_gu ⟨Nat.le_refl _, Nat.le_refl _⟩ (pw_gxs ?_)
  rw [a1]
  refine pw_let ?_
  have n1 : ¬ (¬ isD (T p) ∨ alB T p) := fun z => z.elim (fun y => y c1) w
  have hpd := isD_lt hT c1
  have hde := dE_le hT hpn
  have hdg := dE_ge T n p
  have hdp : p < dE T n p := by
    rcases Nat.lt_or_ge p (dE T n p) with q | q
    · exact q
    · have := dE_out hT p
      rw [show dE T n p = p by omega] at this
      exact absurd c1 this
  unfold ml_X2_number_2_34
  refine pw_for (fun (i : Nat) (q : Int32 × Int32 × Int32 × gM) => q.1 = iI lo ∧ q.2.1 = iI hi ∧ q.2.2.1 = iI (dV T p i) ∧ rX m2 q.2.2.2 ∧ gI q.2.2.2 1011 2 = iI ((p + i : Nat) : Int) ∧ gI q.2.2.2 1011 3 = iI p) (min 4 (dE T n p - p)) ?_ ?_ ⟨rfl, rfl, rfl, rX.sI (by omega), by rw [sI_i, if_neg (by omega)]; exact a1, by rw [sI_i, if_pos ⟨rfl, rfl⟩]⟩
  · rintro i ⟨y1, y2, y3, m⟩ hi' ⟨rfl, rfl, rfl, x, b1, b2⟩
    dsimp only at x b1 b2 ⊢
    have hid : p + i < dE T n p := by omega
    have hd := dE_in (T := T) (n := n) (p := p) (q := p + i) (by omega) hid
    have ei : iI ((p + i : Nat) : Int) + (1 : Int32) = iI ((p + (i + 1) : Nat) : Int) := by rw [iI_lit, iI_add]; exact congrArg iI (by omega)
    have hv := dV_b (T := T) (p := p) i (by omega) (fun q a b => dE_in (n := n) (p := p) a (by omega))
    have h4 : (10 : Int) ^ i ≤ 1000 := by
      have : i = 0 ∨ i = 1 ∨ i = 2 ∨ i = 3 := by omega
      rcases this with z | z | z | z <;> subst z <;> decide
    have hbt := c_bAt (hL1.p (x.p _)) (a := p + i) (by omega)
    unfold mb_X2_number_2_34
    rw [b1, hbt]
    refine pw_bind (pw_some (pw_gu rfl ?_))
    rw [c_isD (by omega), if_pos hd]
    refine pw_bind (pw_some (pw_gu rfl (pw_f n10 ?_)))
    rw [b1, b2, iI_sub]
    refine pw_f (by rw [iI_lit, iI_eq (by omega) (by omega)]; omega) ?_
    rw [hbt]
    refine pw_bind (pw_some (pw_gu rfl (pw_let ?_)))
    rw [b1, ei]
    refine pw_let (pw_some ⟨rfl, rfl, ?_, x.trans (rX.sI (by omega)), by rw [sI_i, if_pos ⟨rfl, rfl⟩], by rw [sI_i, if_neg (by omega)]; exact b2⟩)
    dsimp only
    rw [iI_lit, iI_lit, iI_mul, iI_add, iI_sub]
    rfl
  · rintro ⟨y1, y2, y3, m⟩ ⟨rfl, rfl, rfl, x, b1, b2⟩
    dsimp only at x b1 b2 ⊢
    have Lm := hL1.p (x.p _)
    by_cases c3 : p + 4 < dE T n p
    · rw [show min 4 (dE T n p - p) = 4 by omega] at b1 ⊢
      have hd := dE_in (T := T) (n := n) (p := p) (q := p + 4) (by omega) (by omega)
      unfold mb_X2_number_2_34
      rw [b1, c_bAt Lm (by omega)]
      refine pw_bind (pw_some (pw_gu rfl ?_))
      rw [c_isD (by omega), if_pos hd]
      refine pw_bind (pw_some (pw_gu rfl (pw_f n10 ?_)))
      rw [b1, b2, iI_sub]
      refine pw_t (by rw [iI_lit, iI_eq (by omega) (by omega)]; omega) ?_
      exact c_thr (α := Nat) (k := 1) (e := fun m2 => some (Sum.inr (none, m2))) (fun μ' e1 e2 e3 => pw_some ⟨((x1.p _).trans (x.p _)).trans (e3 _), (e2.trans x.z).trans x1.z, Or.inl ⟨1, p + 4, by unfold sNum; rw [if_neg n1, if_pos c3], rfl, e1⟩⟩)
    · rw [show min 4 (dE T n p - p) = dE T n p - p by omega] at b1 ⊢
      rw [show p + (dE T n p - p) = dE T n p by omega] at b1
      have ho := dE_out hT p
      have hr2 := hT.r (dE T n p)
      have hv := dV_b (T := T) (p := p) (dE T n p - p) (by omega) (fun q a b => dE_in (n := n) (p := p) a (by omega))
      have h4 : (10 : Int) ^ (dE T n p - p) ≤ 10000 := by
        have : dE T n p - p = 0 ∨ dE T n p - p = 1 ∨ dE T n p - p = 2 ∨ dE T n p - p = 3 ∨ dE T n p - p = 4 := by omega
        rcases this with z | z | z | z | z <;> rw [z] <;> decide
      unfold mb_X2_number_2_34
      rw [b1, c_bAt Lm (by omega)]
      refine pw_bind (pw_some (pw_gu rfl ?_))
      rw [c_isD (by omega), if_neg ho]
      refine pw_bind (pw_some (pw_gu rfl (pw_t (by first | rfl | exact True.intro) ?_)))
      rw [p_is m (by omega) (by omega) (by omega)]
      refine pw_bind (pw_some (pw_gu rfl ?_))
      by_cases c4 : lo ≤ dV T p (dE T n p - p) ∧ dV T p (dE T n p - p) ≤ hi
      · rw [if_pos c4]
        exact pw_f n10 (pw_some ⟨(x1.p _).trans (x.p _), x.z.trans x1.z, Or.inr ⟨_, _, by unfold sNum; rw [if_neg n1, if_neg c3, if_pos c4], rfl, ⟨hv.1, by omega⟩, x1.trans x, cAt.of b1 hde⟩⟩)
      · rw [if_neg c4, b2]
        refine pw_t (by first | rfl | exact True.intro) ?_
        exact c_thr (α := Nat) (k := 2) (e := fun m2 => some (Sum.inr (none, m2))) (fun μ' e1 e2 e3 => pw_some ⟨((x1.p _).trans (x.p _)).trans (e3 _), (e2.trans x.z).trans x1.z, Or.inl ⟨2, p, by unfold sNum; rw [if_neg n1, if_neg c3, if_neg c4], rfl, e1⟩⟩)
/-- one of the component's own words -/
def litC (μ : gM) (c : Nat) (w : List Int) : Prop := strR μ c w ∧ c < 1000 ∧ gP μ c 0 < 1000
theorem litC.p {μ' : gM} {c : Nat} {w : List Int} (h : litC μ c w) {z : Nat} (hp : pF z μ μ') (hz : 1000 ≤ z) : litC μ' c w := by
  refine ⟨h.1.lo hp.lo (by have := h.2.1; omega) (by have := h.2.2; omega), h.2.1, ?_⟩
  rw [((hp.2.2 c (by have := h.2.1; omega)).2.2 0).2.2]
  exact h.2.2
theorem c_passes (hL : cLx T n μ) {p : Nat} (h : cAt T n μ p) {lc : Nat} {w : List Int} (hw : litC μ lc w) : pw (cf_X2_passes lc μ) (fun q => pF (gZ μ) μ q.2 ∧ ((isL (T p) ∧ alB T p ∧ q.1 = none ∧ cErr q.2 1 p ∧ gC q.2 = gC μ) ∨ (isW T n p w ∧ q.1 = some 1 ∧ gI q.2 1011 2 = iI (wE T n p : Int) ∧ gI q.2 1011 3 = iI p ∧ gI q.2 1011 4 = gI μ 1011 4 ∧ gC q.2 = gC μ + (2 * w.length + 28)) ∨ (¬ isW T n p w ∧ ¬ (isL (T p) ∧ alB T p) ∧ q.1 = some 0 ∧ cAt T n q.2 p ∧ gI q.2 1011 4 = gI μ 1011 4 ∧ gC q.2 ≤ gC μ + (if isL (T p) then 2 * (wE T n p - p) + 28 else 0)))) := by
  obtain ⟨hT, -⟩ := id hL
  have hn := hT.1
  have hz := hL.2.2.2.2
  obtain ⟨a, ha1, ha2, ha3⟩ := id h
  unfold cf_X2_passes
  refine pw_let ?_
  rw [ha1]
  refine pw_bind (pw_mono (c_here1 hL h) ?_)
  rintro ⟨r, m1⟩ ⟨rfl, x1, a1, hpn, hsk⟩
  dsimp only at x1 a1 ⊢
  have hr := hT.r p
  refine pw_gu x1.z ?_
  rw [c_isL (by omega)]
  refine pw_bind (pw_some (pw_gu rfl ?_))
  have zz1 : gZ m1 = gZ μ := congrArg Prod.fst x1.z
  by_cases c1 : isL (T p)
  rotate_left
  · rw [if_neg c1]
    refine pw_t (by first | rfl | exact True.intro) (pw_some ⟨x1.p _, Or.inr (Or.inr ⟨fun z => c1 z.1, fun z => c1 z.1, rfl, ⟨p, a1, hpn, hsk⟩, x1.2.2.2 _ _ (by omega), ?_⟩)⟩)
    rw [if_neg c1, zgC x1.z]
    exact Nat.le_refl _
  rw [if_pos c1]
  have hL1 := hL.p (x1.p _)
  refine pw_f n10 (pw_bind (pw_mono (c_word hL1 ⟨p, a1, hpn, hsk⟩) ?_))
  rintro ⟨o, m2⟩ ⟨f2, ⟨s, ⟨-, w2⟩, rfl, hs, hs2, hs3, hs4, b1, b2, b3, b4⟩ | ⟨w2, rfl, e1, e2⟩⟩
  · dsimp only at f2 hs hs2 hs3 hs4 b1 b2 b3 b4 ⊢
    rw [zz1] at f2
    have F2 := (x1.p (gZ μ)).trans f2
    have hw2 := hw.p F2 (by omega)
    refine pw_gu ⟨by rw [zz1]; exact F2.1, by have := F2.2.1; have e : gW m1 = gW μ := congrArg Prod.snd x1.z; omega⟩ (pw_gxs (pw_gu hs2.1.2.2.1 ?_))
    rw [c_equals hs2 hw2.1]
    refine pw_bind (pw_some (pw_gu rfl ?_))
    have hiff := isW_iff (n := n) (w := w) c1 w2
    have hgc : gC m2 = gC μ + (2 * (wE T n p - p) + 28) := by rw [b4, zgC x1.z]
    by_cases d : wL T n p = w
    · rw [if_pos d]
      refine pw_f n10 (pw_some ⟨F2, Or.inr (Or.inl ⟨hiff.2 d, rfl, b1, b2, b3.trans (x1.2.2.2 _ _ (by omega)), ?_⟩)⟩)
      rw [hgc, ← d, wL_len]
    · rw [if_neg d]
      refine pw_t (by first | rfl | exact True.intro) (pw_let (pw_some ⟨F2.trans (pF.sI (Or.inl (by unfold pX; omega))), Or.inr (Or.inr ⟨fun z => d (hiff.1 z), fun z => w2 z.2, rfl, ⟨a, by rw [sI_i, if_pos ⟨rfl, rfl⟩], ha2, ha3⟩, ?_, ?_⟩)⟩))
      · rw [sI_i, if_neg (by omega)]
        exact b3.trans (x1.2.2.2 _ _ (by omega))
      · rw [if_pos c1]
        show gC m2 ≤ _
        rw [hgc]
        exact Nat.le_refl _
  · dsimp only at f2 e1 e2 ⊢
    rw [zz1] at f2
    have hal : alB T p := Classical.byContradiction (fun z => w2 ⟨c1, z⟩)
    refine pw_gu (zle e2) (pw_gxn (pw_some ⟨(x1.p _).trans f2, Or.inl ⟨c1, hal, rfl, e1, ?_⟩⟩))
    rw [zgC e2, zgC x1.z]
theorem c_word2 (hL : cLx T n μ) {p : Nat} (h : cAt T n μ p) {lc : Nat} {w : List Int} (hw : litC μ lc w) : pw (cf_X2_word_2 lc μ) (fun q => pF (gZ μ) μ q.2 ∧ gC q.2 ≤ gC μ + (2 * n + 28) ∧ ((isW T n p w ∧ q.1 = some () ∧ cAt T n q.2 (skp T n (p + w.length)) ∧ gC q.2 = gC μ + (2 * w.length + 28)) ∨ (¬ isW T n p w ∧ q.1 = none ∧ cErr q.2 1 p))) := by
  obtain ⟨hT, -⟩ := id hL
  have hn := hT.1
  have hz := hL.2.2.2.2
  obtain ⟨hpn, hsk⟩ := h.le hT
  unfold cf_X2_word_2
  refine pw_bind (pw_mono (c_word hL h) ?_)
  rintro ⟨o, m2⟩ ⟨f2, ⟨s, ⟨c1, w2⟩, rfl, hs, hs2, hs3, hs4, b1, b2, b3, b4⟩ | ⟨w2, rfl, e1, e2⟩⟩
  · dsimp only at f2 hs hs2 hs3 hs4 b1 b2 b3 b4 ⊢
    have hw2 := hw.p f2 (by omega)
    have hwe := wE_le hT hpn
    refine pw_gu ⟨f2.1, f2.2.1⟩ (pw_gxs (pw_gu hs2.1.2.2.1 ?_))
    rw [c_equals hs2 hw2.1]
    refine pw_bind (pw_some (pw_gu rfl ?_))
    have hiff := isW_iff (n := n) (w := w) c1 w2
    by_cases d : wL T n p = w
    · rw [if_pos d]
      have hW := hiff.2 d
      refine pw_f n10 (pw_some ⟨f2, by rw [b4]; omega, Or.inl ⟨hW, rfl, ?_, ?_⟩⟩)
      · rw [← hW.2.2.1]
        exact cAt.of b1 hwe
      · rw [b4, ← d, wL_len]
    · rw [if_neg d, b2]
      refine pw_t (by first | rfl | exact True.intro) ?_
      exact c_thr (α := Nat) (k := 1) (e := fun m2 => some (none, m2)) (fun μ' e1 e2 e3 => pw_some ⟨f2.trans (e3 _), by rw [zgC e2, b4]; omega, Or.inr ⟨fun z => d (hiff.1 z), rfl, e1⟩⟩)
  · dsimp only at f2 e1 e2 ⊢
    exact pw_gu (zle e2) (pw_gxn (pw_some ⟨f2, by rw [zgC e2]; omega, Or.inr ⟨fun z => w2 ⟨z.1, z.2.1⟩, rfl, e1⟩⟩))
end LexC
