/-! ===== round: one thing is visited ===== -/
def mdB (w : MM) (t : Nat) : Bool := decide (0 < mi w 1051 (14 + 2 * t) ∧ mi w 1044 3 ≠ -1 ∧ valM w 1 t = 1)
theorem mdB_iff (w : MM) (t : Nat) : mdB w t = true ↔ mdM w t := by unfold mdB mdM; exact decide_eq_true_iff
def outM (w : MM) (t : Nat) : MM := if 0 < mi w 1051 (14 + 2 * t) then putM w t else w
def wtS (t : Nat) : Nat → MM → Option MM
  | 0, w => if mdB w t = true then none else some (outM w t)
  | n + 1, w => if mdB w t = true then (if mi w 1051 0 = 999 then none else wtS t n (hourM w)) else some (outM w t)
theorem wtS_no {t : Nat} {w : MM} (h : ¬ mdB w t = true) : ∀ n : Nat, wtS t n w = some (outM w t)
  | 0 => if_neg h
  | _ + 1 => if_neg h
def hlM (w : MM) (t : Nat) : Int := mi w 1041 (16 + 2 * t)
def wyM (w : MM) (t : Nat) : Int := mi w 1050 (8 * (mi w 1051 1).toNat + (hlM w t).toNat)
def viS (t : Nat) (w : MM) : Option MM := if 0 < mi w 1051 (14 + 2 * t) then (if wyM w t = -1 then none else if mi w 1051 0 + wyM w t ≤ 999 then wtS t 20 (atM (hoursS (wyM w t).toNat w) (hlM w t)) else none) else some w
/-- a world that may be tried -/
def wlO (m w : MM) : Prop := hhE m w ∧ okN w ∧ mi w 1051 0 ≤ 999 ∧ (0 ≤ mi w 1051 1 ∧ mi w 1051 1 < 8)
theorem outM_ok {m w : MM} {t : Nat} (h : wlO m w) : wlO m (outM w t) := by
  unfold outM
  split
  · obtain ⟨h1, h2, h3, h4⟩ := h
    refine ⟨h1.trans (putM_hh w t), poM_ok h2 _ _ _, ?_, ?_⟩
    · rw [show mi (putM w t) 1051 0 = mi w 1051 0 from poM_lo w _ t (by omega) _]; exact h3
    · rw [show mi (putM w t) 1051 1 = mi w 1051 1 from poM_lo w _ t (by omega) _]; exact h4
  · exact h
theorem hour_wlO {m w : MM} (hm : rMany m) (h : wlO m w) (h9 : ¬ mi w 1051 0 = 999) : wlO m (hourM w) := by
  obtain ⟨h1, h2, h3, h4⟩ := h
  refine ⟨h1.trans (hhE.hour w), h2.hour (h1.many hm) (by omega), by rw [hourM_0 h2]; omega, ?_⟩
  rw [hourM_w (by omega) (by omega)]; exact h4
theorem wtS_ok {m : MM} (hm : rMany m) {t : Nat} : ∀ (n : Nat) {w w' : MM}, wlO m w → wtS t n w = some w' → wlO m w'
  | 0, w, w', h, e => by
    unfold wtS at e
    split at e
    · cases e
    · injection e with e
      rw [← e]; exact outM_ok h
  | n + 1, w, w', h, e => by
    unfold wtS at e
    split at e
    · split at e
      · cases e
      · rename_i q
        exact wtS_ok hm n (hour_wlO hm h q) e
    · injection e with e
      rw [← e]; exact outM_ok h
section Visit
variable {m : MM} {t : Nat}
theorem at_wlO {w : MM} (hm : rMany m) (h : wlO m w) (ht : (t : Int) < mi m 1038 7) {n : Nat} (hn : mi w 1051 0 + n ≤ 999) : wlO m (atM (hoursS n w) (hlM w t)) := by
  obtain ⟨h1, h2, h3, h4⟩ := h
  have b := h2.1
  obtain ⟨o1, o2⟩ := hoursS_ok h2 (h1.many hm) n (by omega)
  have hl := (h2.2.2.2 t (by rw [h1.at (by omega)]; exact ht)).1
  refine ⟨(h1.trans (hoursS_hh w n)).trans (atM_hh _ _), o1.at_ _, ?_, ?_⟩
  · rw [atM_o _ _ (by omega), o2]; exact hn
  · rw [atM_1 _ (by unfold hlM; exact hl)]; unfold hlM; exact hl
theorem viS_ok {w w' : MM} (hm : rMany m) (hw : wyR m) (h : wlO m w) (ht : (t : Int) < mi m 1038 7) (e : viS t w = some w') : wlO m w' := by
  have hl := (h.2.1.2.2.2 t (by rw [h.1.at (by omega)]; exact ht)).1
  have wy : -1 ≤ wyM w t ∧ wyM w t ≤ 900 := by
    unfold wyM hlM
    rw [h.1.at (by omega)]
    exact hw _ _ (by have := h.2.2.2; omega) (by omega)
  unfold viS at e
  split at e
  · split at e
    · cases e
    · split at e
      · exact wtS_ok hm 20 (at_wlO hm h ht (by omega)) e
      · cases e
  · injection e with e
    rw [← e]; exact h
/-- what visiting may change in the model -/
def viF (a b : MM) : Prop := hE a b ∧ ∀ j : Nat, 30 ≤ j → b.1 1051 j = a.1 1051 j
theorem viF.refl (a : MM) : viF a a := ⟨⟨fun _ _ _ => rfl, fun _ _ _ => rfl⟩, fun _ _ => rfl⟩
theorem viF.trans {a b c : MM} (h1 : viF a b) (h2 : viF b c) : viF a c := ⟨h1.1.trans h2.1, fun j hj => (h2.2 j hj).trans (h1.2 j hj)⟩
theorem viF.te {a b : MM} (h : tE a b) : viF a b := ⟨⟨fun c j k => h.1 c j (by omega), h.2⟩, fun j _ => h.1 _ _ (by omega)⟩
theorem viF.th {a b : MM} (h : viF a b) (h56 : a.1 2000 56 ≠ 0) : b.1 2000 56 ≠ 0 := by rw [h.1.1 _ _ (by omega)]; exact h56
theorem wlO.tie {w : MM} (h : wlO m w) (ht : tieOK m) : tieOK w := by
  refine ⟨h.1.many ht.1, fun k hk => ?_⟩
  rw [h.1.at (by omega)] at hk
  rw [h.1.at (by omega), h.1.at (by omega)]
  exact ht.2 k hk
theorem p_mind {a w : MM} (hM : rMany m) (hc : cOK m) (hw : wlO m w) (hs : sE w a) (ht : (t : Int) < mi m 1038 7) : pw (mf_doesMind (iI t) a) (fun q => (q.1 = if mdB w t = true then 1 else 0) ∧ viF a q.2 ∧ sE w q.2) := by
  have hb := hM.2.1
  have t7 : (t : Int) < mi a 1038 7 := by rw [hs.w, hw.1.at (by omega)]; exact ht
  refine pw_mono (p_doesMind (hs.many (hw.1.many hM)) (hs.oN hw.2.1) (hs.cO (hw.1.cO hc)) t7) ?_
  rintro ⟨r, b⟩ ⟨h1, h2⟩
  dsimp only at h1 h2 ⊢
  refine ⟨?_, viF.te h2, hs.trans (sE.of h2)⟩
  rcases h1 with ⟨e, h⟩ | ⟨e, h⟩
  · rw [e, if_pos ((mdB_iff w t).mpr ((hs.md (hw.1.many hM) (by omega)).mp h))]
  · rw [e, if_neg (fun q => h ((hs.md (hw.1.many hM) (by omega)).mpr ((mdB_iff w t).mp q)))]
/-- the visit's end in the model -/
def viQ (m a : MM) (o : Option MM) (q : Int32 × MM) : Prop := viF a q.2 ∧ ((∃ w', o = some w' ∧ q.1 = 1 ∧ sE w' q.2) ∨ (o = none ∧ q.1 = 0))
theorem p_vis108 {a w : MM} {l : List (Int × Int × Int)} (hM : rMany m) (hc : cOK m) (hT : tieOK m) (hw : wlO m w) (hs : sE w a) (hk : kpM l a) (h56 : a.1 2000 56 ≠ 0) (ht : (t : Int) < mi m 1038 7) : pw (mj_X6_isVisited_108 (iI t) a) (viQ m a (wtS t 0 w)) := by
  have hb := hM.2.1
  unfold mj_X6_isVisited_108
  refine pw_bind (pw_mono (p_mind hM hc hw hs ht) ?_)
  rintro ⟨r, b⟩ ⟨e, f, hs2⟩
  dsimp only at e f hs2 ⊢
  subst e
  by_cases q : mdB w t = true
  · rw [if_pos q]
    refine pw_f n10 (pw_some ⟨f, Or.inr ⟨?_, rfl⟩⟩)
    unfold wtS; rw [if_pos q]
  · rw [if_neg q]
    refine pw_t rfl ?_
    rw [p_burn hs2 (by omega)]
    refine pw_bind (pw_some ?_)
    dsimp only
    unfold mj_X6_isVisited_131
    have ew := wtS_no q 0
    unfold outM at ew
    by_cases p : 0 < mi w 1051 (14 + 2 * t)
    · rw [if_pos p]
      rw [if_pos p] at ew
      refine pw_f n10 ?_
      refine pw_bind (pw_mono (p_putsOut hs2 (hw.tie hT) (hk.sc f.2) (by omega)) ?_)
      rintro ⟨⟨⟩, d⟩ ⟨g1, g2, g3, g4⟩
      exact pw_some ⟨f.trans ⟨g2, g4 (f.th h56)⟩, Or.inl ⟨_, ew, rfl, g1⟩⟩
    · rw [if_neg p]
      rw [if_neg p] at ew
      exact pw_t rfl (pw_some ⟨f, Or.inl ⟨_, ew, rfl, hs2⟩⟩)
theorem p_vis70 {a w : MM} {l : List (Int × Int × Int)} (hM : rMany m) (hc : cOK m) (hT : tieOK m) (hw : wlO m w) (hs : sE w a) (hk : kpM l a) (h56 : a.1 2000 56 ≠ 0) (ht : (t : Int) < mi m 1038 7) : pw (ml_X6_isVisited_70 (iI t) 0 a) (viQ m a (wtS t 20 w)) := by
  have hb := hM.2.1
  have g0 : gz_ix (0 : Int32) = 0 := by decide
  unfold ml_X6_isVisited_70
  refine pw_for (fun i q => q.1 = iI t ∧ q.2.1 = iI (i : Int) ∧ viF a q.2.2 ∧ ∃ w1, sE w1 q.2.2 ∧ wlO m w1 ∧ wtS t (20 - i) w1 = wtS t 20 w) 20 ?_ ?_ ⟨rfl, rfl, viF.refl a, w, hs, hw, rfl⟩
  · rintro i ⟨y1, y2, b⟩ hi ⟨e1, e2, f, w1, hs1, hw1, ew⟩
    dsimp only at e1 e2 f hs1 ⊢
    subst e1; subst e2
    unfold mb_X6_isVisited_70
    refine pw_f (by rw [show (20 : Int32) = iI 20 from rfl, iI_le (by omega) (by omega)]; omega) ?_
    refine pw_bind (pw_mono (p_mind hM hc hw1 hs1 ht) ?_)
    rintro ⟨r, d⟩ ⟨e, f2, hs2⟩
    dsimp only at e f2 hs2 ⊢
    subst e
    have fd := f.trans f2
    by_cases q : mdB w1 t = true
    · rw [if_pos q]
      refine pw_f n10 (pw_gu (by decide) ?_)
      rw [g0, mi_of d, hs2.n (by omega)]
      have h0 := hw1.2.1.1
      have en : wtS t (20 - i) w1 = (if mi w1 1051 0 = 999 then none else wtS t (20 - (i + 1)) (hourM w1)) := by
        rw [show 20 - i = (20 - (i + 1)) + 1 by omega]
        exact if_pos q
      refine pw_if (fun p => ?_) (fun p => ?_)
      · rw [show (999 : Int32) = iI 999 from rfl, iI_eq (by omega) (by omega)] at p
        refine pw_some ⟨fd, Or.inr ⟨?_, rfl⟩⟩
        rw [← ew, en, if_pos p]
      · rw [show (999 : Int32) = iI 999 from rfl, iI_eq (by omega) (by omega)] at p
        rw [if_neg p] at en
        refine pw_bind (pw_mono (p_hour (hs2.many (hw1.1.many hM)) (hs2.oN hw1.2.1) (hs2.cO (hw1.1.cO hc)) (hk.sc fd.2)) ?_)
        rintro ⟨⟨⟩, c⟩ ⟨c1, c2, c3, c4, c5⟩
        dsimp only at c1 c2 c3 c4 c5 ⊢
        refine pw_let (pw_some ⟨rfl, ?_, fd.trans ⟨c2, c5 (fd.th h56)⟩, hourM w1, (hs2.hour (hw1.1.many hM)).trans c1, hour_wlO hM hw1 p, by rw [← en]; exact ew⟩)
        show iI (i : Int) + (1 : Int32) = _
        rw [iI_lit, iI_add]; rfl
    · rw [if_neg q]
      refine pw_t rfl (pw_map (pw_mono (p_vis108 hM hc hT hw1 hs2 (hk.sc fd.2) (fd.th h56) ht) ?_))
      rintro ⟨r, c⟩ ⟨c1, c2⟩
      rw [wtS_no q 0, ← wtS_no q (20 - i), ew] at c2
      exact ⟨fd.trans c1, c2⟩
  · rintro ⟨y1, y2, b⟩ ⟨e1, e2, f, w1, hs1, hw1, ew⟩
    dsimp only at e1 e2 f hs1 ⊢
    subst e1; subst e2
    unfold mb_X6_isVisited_70
    refine pw_t (by decide) (pw_map (pw_mono (p_vis108 hM hc hT hw1 hs1 (hk.sc f.2) (f.th h56) ht) ?_))
    rintro ⟨r, c⟩ ⟨c1, c2⟩
    rw [show wtS t 0 w1 = wtS t 20 w from ew] at c2
    exact ⟨f.trans c1, c2⟩
theorem p_visited {a w : MM} {l : List (Int × Int × Int)} (hM : rMany m) (hc : cOK m) (hT : tieOK m) (hwy : wyR m) (hw : wlO m w) (hs : sE w a) (hk : kpM l a) (h56 : a.1 2000 56 ≠ 0) (ht : (t : Int) < mi m 1038 7) : pw (mf_isVisited (iI t) a) (viQ m a (viS t w)) := by
  have hb := hM.2.1
  have g0 : gz_ix (0 : Int32) = 0 := by decide
  have g1 : gz_ix (1 : Int32) = 1 := by decide
  have h0 := hw.2.1.1
  have hl := (hw.2.1.2.2.2 t (by rw [hw.1.at (by omega)]; exact ht)).1
  have at8 := hw.2.2.2
  have wy : -1 ≤ wyM w t ∧ wyM w t ≤ 900 := by
    unfold wyM hlM
    rw [hw.1.at (by omega)]
    exact hwy _ _ (by omega) (by omega)
  unfold mf_isVisited
  rw [p_burn hs (by omega)]
  refine pw_bind (pw_some ?_)
  dsimp only
  by_cases p : 0 < mi w 1051 (14 + 2 * t)
  · have ev : viS t w = (if wyM w t = -1 then none else if mi w 1051 0 + wyM w t ≤ 999 then wtS t 20 (atM (hoursS (wyM w t).toNat w) (hlM w t)) else none) := if_pos p
    rw [if_pos p]
    refine pw_f n10 (pw_gu (by decide) ?_)
    rw [p_hallOf (by omega), hs.g]
    refine pw_bind (pw_some ?_)
    dsimp only
    obtain ⟨xa, hxa⟩ : ∃ n : Nat, mi w 1051 1 = n := ⟨(mi w 1051 1).toNat, by omega⟩
    obtain ⟨xh, hxh⟩ : ∃ n : Nat, mi w 1041 (16 + 2 * t) = n := ⟨(mi w 1041 (16 + 2 * t)).toNat, by omega⟩
    have ewy : mi a 1050 (8 * xa + xh) = wyM w t := by
      rw [hs.y]
      unfold wyM hlM
      rw [hxa, hxh, Int.toNat_natCast, Int.toNat_natCast]
    obtain ⟨z1, z2⟩ := p_ways (m := a) (a := xa) (b := xh) (by omega) (by omega)
    rw [g1, mi_of a 1051 1, hs.n (by omega), hxa, hxh, z2, ewy]
    refine pw_gu z1 (pw_let ?_)
    unfold mj_X6_isVisited_50
    refine pw_if (fun q => ?_) (fun q => ?_)
    · rw [show (-1 : Int32) = iI (-1) by decide, iI_eq (by omega) (by omega)] at q
      exact pw_some ⟨viF.refl a, Or.inr ⟨by rw [ev, if_pos q], rfl⟩⟩
    · rw [show (-1 : Int32) = iI (-1) by decide, iI_eq (by omega) (by omega)] at q
      refine pw_gu (by decide) ?_
      rw [g0, mi_of a 1051 0, hs.n (by omega), iI_add]
      refine pw_if (fun r => ?_) (fun r => ?_)
      · rw [show (999 : Int32) = iI 999 from rfl, iI_le (by omega) (by omega)] at r
        obtain ⟨n, hn⟩ : ∃ n : Nat, wyM w t = n := ⟨(wyM w t).toNat, by omega⟩
        rw [if_neg q, if_pos r, hn, Int.toNat_natCast] at ev
        rw [hn]
        refine pw_bind (pw_mono (p_hours (hs.many (hw.1.many hM)) (hs.oN hw.2.1) (hs.cO (hw.1.cO hc)) hk (n := n) (by rw [hs.n (by omega)]; omega)) ?_)
        rintro ⟨⟨⟩, b⟩ ⟨c1, c2, c3, c4, c5⟩
        dsimp only at c1 c2 c3 c4 c5 ⊢
        have hs2 := (hs.hours (hw.1.many hM) n).trans c1
        have hhn := hoursS_hh w n
        rw [p_hallOf (by omega), hs2.g, hhn.at (by omega)]
        refine pw_bind (pw_some (pw_gu (by decide) (pw_let ?_)))
        dsimp only
        have f2 : viF a (msI b 1051 1 (iI (mi w 1041 (16 + 2 * t)))) := ⟨⟨fun c j k => by rw [msI_i, if_neg (by omega)]; exact c2.1 c j k, c2.2⟩, fun j hj => by rw [msI_i, if_neg (by omega)]; exact c5 h56 j hj⟩
        have s2 : sE (atM (hoursS n w) (hlM w t)) (msI b 1051 1 (iI (mi w 1041 (16 + 2 * t)))) := fun c j k => by
          rw [msI_i, atM_at]
          by_cases z : c = 1051 ∧ j = 1
          · rw [if_pos z, if_pos z]; rfl
          · rw [if_neg z, if_neg z]; exact hs2 c j k
        refine pw_mono (p_vis70 hM hc hT (at_wlO hM hw ht (by omega)) s2 (hk.sc f2.2) (f2.th h56) ht) ?_
        rintro ⟨r1, d⟩ ⟨d1, d2⟩
        rw [← ev] at d2
        exact ⟨f2.trans d1, d2⟩
      · rw [show (999 : Int32) = iI 999 from rfl, iI_le (by omega) (by omega)] at r
        exact pw_some ⟨viF.refl a, Or.inr ⟨by rw [ev, if_neg q, if_neg r], rfl⟩⟩
  · rw [if_neg p]
    exact pw_t rfl (pw_some ⟨viF.refl a, Or.inl ⟨w, if_neg p, rfl, hs⟩⟩)
end Visit
