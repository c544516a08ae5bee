/-! ===== the component: what is told ===== -/
/-- all below z is as it was, but for the reader and the fault -/
def hpF (z : Nat) (μ μ' : gM) : Prop := gZ μ ≤ gZ μ' ∧ gW μ ≤ gW μ' ∧ ∀ c : Nat, c < z → gK μ' c = gK μ c ∧ gN μ' c = gN μ c ∧ ∀ j : Nat, (c ≠ 1011 → c ≠ 1012 → gI μ' c j = gI μ c j) ∧ gL μ' c j = gL μ c j ∧ (¬ (c = 1011 ∧ j = 6) → gP μ' c j = gP μ c j)
theorem hpF.refl (z : Nat) (μ : gM) : hpF z μ μ := ⟨Nat.le_refl _, Nat.le_refl _, fun _ _ => ⟨rfl, rfl, fun _ => ⟨fun _ _ => rfl, rfl, fun _ => rfl⟩⟩⟩
theorem hpF.trans {z : Nat} {a b c : gM} (h1 : hpF z a b) (h2 : hpF z b c) : hpF z a c := ⟨Nat.le_trans h1.1 h2.1, Nat.le_trans h1.2.1 h2.2.1, fun d hd => by
  obtain ⟨a1, a2, a3⟩ := h1.2.2 d hd
  obtain ⟨b1, b2, b3⟩ := h2.2.2 d hd
  exact ⟨b1.trans a1, b2.trans a2, fun j => ⟨fun k k' => ((b3 j).1 k k').trans ((a3 j).1 k k'), (b3 j).2.1.trans (a3 j).2.1, fun k => ((b3 j).2.2 k).trans ((a3 j).2.2 k)⟩⟩⟩
theorem pF.hp {z y : Nat} {μ μ' : gM} (h : pF z μ μ') (hy : y ≤ z) : hpF y μ μ' := ⟨h.1, h.2.1, fun c hc => by
  obtain ⟨a1, a2, a3⟩ := h.2.2 c (by omega)
  exact ⟨a1, a2, fun j => ⟨fun k k' => (a3 j).1 (by unfold pX; omega), (a3 j).2.1, fun _ => (a3 j).2.2⟩⟩⟩
theorem hpF.lo {z : Nat} {μ μ' : gM} (h : hpF z μ μ') : loA z μ μ' := fun c k l => by
  obtain ⟨a1, a2, a3⟩ := h.2.2 c l
  have n1 : c ≠ 1011 := fun e => by rw [e, ks_1011] at k; cases k
  have n2 : c ≠ 1012 := fun e => by rw [e, ks_1012] at k; cases k
  exact ⟨a1, a2, fun j => ⟨(a3 j).1 n1 n2, (a3 j).2.1, (a3 j).2.2 (fun q => n1 q.1)⟩⟩
section ToldC
variable {T : Nat → Int} {n S z0 c : Nat} {μ : gM} {h : HS}
theorem cLx.hp {μ' : gM} {z : Nat} (hL : cLx T n μ) (hz : 2369 ≤ z) (x : hpF z μ μ') (h1 : gI μ' 1011 1 = gI μ 1011 1) : cLx T n μ' := by
  obtain ⟨a1, a2, a3, a4, a5⟩ := hL
  refine ⟨a1, fun k hk => ?_, h1.trans a3, a4.lo x.lo (by omega), by have := x.1; omega⟩
  rw [((x.2.2 1010 (by omega)).2.2 k).1 (by omega) (by omega)]
  exact a2 k hk
/-- the lists lie above z0 -/
def hcZ (z0 : Nat) (μ : gM) (c : Nat) : Prop := (2369 ≤ z0 ∧ z0 ≤ c) ∧ ∀ i : Nat, i < 4 → z0 ≤ lcC μ c i ∧ z0 ≤ acC μ c i
def stC (z0 c : Nat) (μ : gM) (h : HS) : Prop := hcR μ c h ∧ hcZ z0 μ c ∧ gP μ 1011 6 = c ∧ gI μ 1011 4 = iI 0
theorem pF.at1 {μ' : gM} {z : Nat} (x : pF z μ μ') (hz : 2369 ≤ z) : gI μ' 1011 1 = gI μ 1011 1 ∧ gP μ' 1011 6 = gP μ 1011 6 := ⟨((x.2.2 1011 (by omega)).2.2 1).1 (by unfold pX; omega), ((x.2.2 1011 (by omega)).2.2 6).2.2⟩
theorem hcR.pl {μ' : gM} (hR : hcR μ c h) (x : pF (gZ μ) μ μ') : ∀ i : Nat, i < 4 → lcC μ' c i = lcC μ c i ∧ acC μ' c i = acC μ c i := (hR.1.p (fun d d1 d2 => x.sm d1 d2) x.1).2
theorem stC.p {μ' : gM} (st : stC z0 c μ h) (x : pF (gZ μ) μ μ') (h4 : gI μ' 1011 4 = gI μ 1011 4) : stC z0 c μ' h := by
  obtain ⟨s1, s2, s3, s4⟩ := st
  have cz := s1.1.1.2
  exact ⟨s1.p x, ⟨s2.1, fun i hi => by rw [(s1.pl x i hi).1, (s1.pl x i hi).2]; exact s2.2 i hi⟩, (x.at1 (by omega)).2.trans s3, h4.trans s4⟩
theorem c_word3 (hL : cLx T n μ) {p : Nat} (h : cAt T n μ p) {lc : Nat} {w : List Int} (hw : litC μ lc w) : pw (cf_X2_word_2 lc μ) (fun q => pF (gZ μ) μ q.2 ∧ ((sWrd T n p w = Sum.inr (skp T n (p + w.length), ()) ∧ q.1 = some () ∧ cAt T n q.2 (skp T n (p + w.length)) ∧ gI q.2 1011 4 = gI μ 1011 4 ∧ gC q.2 ≤ gC μ + (2 * w.length + 28)) ∨ (sWrd T n p w = Sum.inl (1, p) ∧ q.1 = none ∧ cErr q.2 1 p ∧ gC q.2 ≤ gC μ + (2 * n + 28)))) := by
  obtain ⟨hT, -⟩ := id hL
  have hn := hT.1
  have hz := hL.2.2.2.2
  obtain ⟨hpn, hsk⟩ := h.le hT
  unfold cf_X2_word_2
  refine pw_bind (pw_mono (c_word hL h) ?_)
  rintro ⟨o, m2⟩ ⟨f2, hh⟩
  dsimp only at f2 hh ⊢
  refine pw_gu ⟨f2.1, f2.2.1⟩ ?_
  rcases hh with ⟨s, ⟨c1, w2⟩, e, hs, hs2, hs3, hs4, b1, b2, b3, b4⟩ | ⟨w2, e, e1, e2⟩
  · subst e
    have hw2 := hw.p f2 (by omega)
    have hwe := wE_le hT hpn
    refine pw_gxs (pw_gu hs2.1.2.2.1 ?_)
    rw [c_equals hs2 hw2.1]
    refine pw_bind (pw_some (pw_gu rfl ?_))
    have hiff := isW_iff (n := n) (w := w) c1 w2
    by_cases d : wL T n p = w
    · rw [if_pos d]
      have hW := hiff.2 d
      refine pw_f n10 (pw_some ⟨f2, Or.inl ⟨sWrd_y hW, rfl, ?_, b3, ?_⟩⟩)
      · rw [← hW.2.2.1]
        exact cAt.of b1 hwe
      · rw [b4, ← d, wL_len]; exact Nat.le_refl _
    · rw [if_neg d, b2]
      refine pw_t (by first | rfl | exact True.intro) ?_
      exact c_thr (α := Nat) (k := 1) (e := fun m2 => some (none, m2)) (fun μ' e1 e2 e3 => pw_some ⟨f2.trans (e3 _), Or.inr ⟨sWrd_n (fun z => d (hiff.1 z)), rfl, e1, by rw [zgC e2, b4]; omega⟩⟩)
  · subst e
    exact pw_gxn (pw_some ⟨f2, Or.inr ⟨sWrd_n (fun z => w2 ⟨z.1, z.2.1⟩), rfl, e1, by rw [zgC e2]; omega⟩⟩)
theorem c_numW (hL : cLx T n μ) {p : Nat} (ha : cAt T n μ p) {lc : Nat} {w : List Int} (hw : litC μ lc w) {lo hi : Int} (hlo : -10000 ≤ lo ∧ lo ≤ 10000) (hhi : -10000 ≤ hi ∧ hi ≤ 10000) : pw (cf_X2_number lc (iI lo) (iI hi) μ) (fun q => pF (gZ μ) μ q.2 ∧ ((∃ (p1 p' : Nat) (v : Int), sWrd T n p w = Sum.inr (p1, ()) ∧ sNum T n p1 lo hi = Sum.inr (p', v) ∧ q.1 = some (iI v) ∧ cAt T n q.2 p' ∧ gI q.2 1011 4 = gI μ 1011 4 ∧ gC q.2 ≤ gC μ + (2 * w.length + 28)) ∨ ∃ (k : Int) (l : Nat), (sWrd T n p w = Sum.inl (k, l) ∨ ∃ p1 : Nat, sWrd T n p w = Sum.inr (p1, ()) ∧ sNum T n p1 lo hi = Sum.inl (k, l)) ∧ q.1 = none ∧ cErr q.2 k l ∧ gC q.2 ≤ gC μ + (2 * w.length + 28 + 2 * n))) := by
  unfold cf_X2_number
  refine pw_bind (pw_mono (c_word3 hL ha hw) ?_)
  rintro ⟨o, m2⟩ ⟨f2, h2⟩
  dsimp only at f2 h2 ⊢
  refine pw_gu ⟨f2.1, f2.2.1⟩ ?_
  rcases h2 with ⟨s1, e, a2, b2, b3⟩ | ⟨s1, e, e1, b3⟩
  · subst e
    refine pw_gxs (pw_bind (pw_mono (c_number (hL.p f2) a2 hlo hhi) ?_))
    rintro ⟨o3, m3⟩ ⟨f3, z3, h3⟩
    dsimp only at f3 z3 h3 ⊢
    refine pw_gu ⟨f3.1, f3.2.1⟩ ?_
    have f23 : pF (gZ μ) μ m3 := f2.trans (f3.dn f2.1)
    rcases h3 with ⟨k, l, s3, e, e3⟩ | ⟨p', v, s3, e, -, x3, a3⟩
    · subst e
      exact pw_gxn (pw_some ⟨f23, Or.inr ⟨k, l, Or.inr ⟨_, s1, s3⟩, rfl, e3, by rw [zgC z3]; omega⟩⟩)
    · subst e
      exact pw_gxs (pw_some ⟨f23, Or.inl ⟨_, p', v, s1, s3, rfl, a3, (x3.at (by omega)).trans b2, by rw [zgC z3]; exact b3⟩⟩)
  · subst e
    exact pw_gxn (pw_some ⟨f2, Or.inr ⟨1, p, Or.inl s1, rfl, e1, by show gC m2 ≤ _; omega⟩⟩)
theorem c_most {s l : Nat} (hs : s ≤ 1) : pw (cf_X2_most (iI s) (iI l) μ) (fun q => (s = 0 ∧ q.1 = some () ∧ q.2 = μ) ∨ (s = 1 ∧ q.1 = none ∧ cErr q.2 5 l ∧ q.2.2.2.2.2.2 = μ.2.2.2.2.2 ∧ ∀ z : Nat, pF z μ q.2)) := by
  unfold cf_X2_most
  obtain e | e : s = 0 ∨ s = 1 := by omega
  · subst e
    exact pw_t (by decide) (pw_some (Or.inl ⟨rfl, rfl, rfl⟩))
  · subst e
    refine pw_f (by decide) ?_
    exact c_thr (α := Nat) (k := 5) (e := fun m2 => some (none, m2)) (fun μ' e1 e2 e3 => pw_some (Or.inr ⟨rfl, rfl, e1, e2, e3⟩))
/-- what telling gives -/
def tC (T : Nat → Int) (n S z0 c : Nat) (μ : gM) (s : Rs HS) (p : Nat) {β : Type} (b : β) (q : Option β × gM) : Prop := hpF z0 μ q.2 ∧ gI q.2 1011 1 = gI μ 1011 1 ∧ ((∃ (p' : Nat) (h' : HS), s = Sum.inr (p', h') ∧ q.1 = some b ∧ stC z0 c q.2 h' ∧ cAt T n q.2 p' ∧ gI q.2 c 0 = gI μ c 0 ∧ gC q.2 + S * p ≤ gC μ + S * p') ∨ ∃ (k : Int) (l : Nat), s = Sum.inl (k, l) ∧ q.1 = none ∧ cErr q.2 k l ∧ gC q.2 + S * p ≤ gC μ + S * (n + 2) + (4 * n + 2000))
theorem tC.bad {s : Rs HS} {p : Nat} {β : Type} {b : β} {m1 : gM} {k : Int} {l : Nat} (hz : z0 ≤ gZ μ) (hz2 : 2369 ≤ z0) (hp : p ≤ n) (x : pF (gZ μ) μ m1) (e : s = Sum.inl (k, l)) (hE : cErr m1 k l) (hg : gC m1 ≤ gC μ + (4 * n + 2000)) : tC T n S z0 c μ s p b (none, m1) := by
  refine ⟨x.hp hz, (x.at1 (by omega)).1, Or.inr ⟨k, l, e, rfl, hE, ?_⟩⟩
  have := Nat.mul_le_mul_left S (show p ≤ n + 2 by omega)
  show gC m1 + S * p ≤ _
  omega
/-- a thing is put into a list of the household -/
theorem stC.add {i e : Nat} {h' : HS} (st : stC z0 c μ h) (ho : hsOK h) (hi : i < 4) (he : 2369 ≤ e ∧ e < gZ μ) (hcb : cOb μ e = true) (hNN : hN h' = hupd (hN h) i (hN h i + 1)) (hold : ∀ j k : Nat, j < 4 → k < hN h j → ∀ (μ' : gM) (r : Nat), hP h j k μ' r → hP h' j k μ' r) (hnew : okS μ (Mu μ c) (fun μ' => hP h' i (hN h i) μ' e)) (hst : h'.st = h.st ∧ h'.dg = h.dg ∧ h'.bu = h.bu ∧ h'.mn = h.mn) : ∃ μ' : gM, cf_J2_add (lcC μ c i) e μ = some (1, μ') ∧ stC z0 c μ' h' ∧ sFr z0 μ μ' ∧ gI μ' 1011 2 = gI μ 1011 2 ∧ gI μ' c 0 = gI μ c 0 ∧ gC μ' ≤ gC μ + 27 := by
  obtain ⟨⟨r1, r2, r3, r4⟩, s2, s3, s4⟩ := st
  have h12 := hN_le ho i
  have cz := r1.1.2
  obtain ⟨μ', a1, a2, a3, a4, a5, a6⟩ := r1.add (pc' := hP h') hi (by omega) he hcb hold hnew
  have lz := s2.2 i hi
  have s21 := s2.1
  have fr : sFr z0 μ μ' := a3.s lz.1 lz.2 (by omega)
  have smc : smC μ μ' c := a3.sm cz.2 (r1.2.1.1 i hi).1 (r1.2.1.1 i hi).2
  have sm0 : ∀ d : Nat, 2369 ≤ d → d < gZ μ → ¬ Mu μ c d → smC μ μ' d := fun d _ d2 d3 => a3.sm d2 (fun q => d3 (Or.inr ⟨i, hi, Or.inl q⟩)) (fun q => d3 (Or.inr ⟨i, hi, Or.inr q⟩))
  have f1011 := (fr.2.2 1011 (by omega)).2.2
  refine ⟨μ', a1, ⟨⟨by rw [hNN]; exact a2, ?_, ?_, ?_⟩, ⟨s2.1, fun j hj => ⟨by rw [a5 j hj]; exact (s2.2 j hj).1, ?_⟩⟩, ((f1011 6).2.2).trans s3, ((f1011 4).1).trans s4⟩, fr, (f1011 2).1, (smc.2.2 0).1, by omega⟩
  · rw [hst.1, hst.2.1]; exact ⟨(smc.2.2 1).1.trans r2.1, (smc.2.2 2).1.trans r2.2⟩
  · rw [hst.2.2.1]; exact r3.mv (smc.2.2 7).2.2 sm0 a3.1 a4
  · rw [hst.2.2.2]; exact r4.mv (smc.2.2 8).2.2 sm0 a3.1 a4
  · rcases Nat.lt_or_ge (acC μ' c j) (gZ μ) with q | q
    · have := a4 _ q (Or.inr ⟨j, hj, Or.inr rfl⟩)
      rcases this with w | ⟨k, hk, w | w⟩
      · rw [w]; exact s2.1.2
      · rw [w]; exact (s2.2 k hk).1
      · rw [w]; exact (s2.2 k hk).2
    · omega
/-- a field of the household is set -/
theorem stC.sI {j : Nat} {v : Int32} {h' : HS} (st : stC z0 c μ h) (hNN : hN h' = hN h) (hold : hP h' = hP h) (h1 : (gz_sI μ c j v).2.2.1 c 1 = iI h'.st) (h2 : (gz_sI μ c j v).2.2.1 c 2 = iI h'.dg) (hst : h'.bu = h.bu ∧ h'.mn = h.mn) : stC z0 c (gz_sI μ c j v) h' := by
  obtain ⟨⟨r1, r2, r3, r4⟩, s2, s3, s4⟩ := st
  have cz := r1.1.2
  have hs : ∀ d : Nat, 2369 ≤ d → d < gZ μ → d ≠ c → smC μ (gz_sI μ c j v) d := fun d _ _ hd => ⟨rfl, rfl, fun j' => ⟨by rw [sI_i, if_neg (fun q => hd q.1)], rfl, rfl⟩⟩
  obtain ⟨b1, b2⟩ := r1.fld hs rfl (fun _ _ => rfl) (Nat.le_refl _)
  refine ⟨⟨by rw [hNN, hold]; exact b1, ⟨h1, h2⟩, ?_, ?_⟩, s2, s3, ?_⟩
  · rw [hst.1]; exact r3.mv rfl (fun d d1 d2 d3 => hs d d1 d2 (fun q => d3 (Or.inl q))) (Nat.le_refl _) (fun d _ q => b2 d q)
  · rw [hst.2]; exact r4.mv rfl (fun d d1 d2 d3 => hs d d1 d2 (fun q => d3 (Or.inl q))) (Nat.le_refl _) (fun d _ q => b2 d q)
  · rw [sI_i, if_neg (by omega)]; exact s4
theorem litW (hL : cLx T n μ) {lc : Nat} {w : List Int} (hm : (lc, w) ∈ sTab) (hl : lc < 1000) : litC μ lc w := ⟨(hL.2.2.2.1.1 _ hm).1, hl, (hL.2.2.2.1.1 _ hm).2⟩
theorem stC.z (st : stC z0 c μ h) : z0 ≤ gZ μ ∧ 2369 ≤ z0 ∧ c ≠ 0 ∧ gK μ c = 2 ∧ c < gZ μ ∧ 2369 ≤ c := ⟨by have := st.1.1.1.2; have := st.2.1.1; omega, st.2.1.1.1, by have := st.1.1.1.2; omega, st.1.1.1.1, st.1.1.1.2.2, st.1.1.1.2.1⟩
theorem stC.ls (st : stC z0 c μ h) {i : Nat} (hi : i < 4) : lst μ (lcC μ c i) (hN h i : Int) := by
  obtain ⟨L, l1, -⟩ := st.1.1.2.2 i hi
  exact l1.1
/-- the household's own cells are none that are new -/
theorem Mu_lt (hB : hcB μ c (hN h) (hP h)) {d : Nat} (q : Mu μ c d) : d < gZ μ := by
  rcases q with q | ⟨j, hj, q⟩
  · rw [q]; exact hB.1.2.2
  · obtain ⟨L, l1, -⟩ := hB.2.2 j hj
    rcases q with q | q
    · rw [q]; exact l1.2.1.2
    · rw [q]; exact l1.2.2.1.2
end ToldC
