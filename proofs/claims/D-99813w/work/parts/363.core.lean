/-! ===== the core of what holds between the two; what may change unseen ===== -/
def rCo (l : List (Int × Int × Int)) (m : MM) (μ : gM) : Prop := cLay μ ∧ rHH m μ ∧ rTree m μ ∧ cOK m ∧ okN m ∧ rSt m μ 1027 ∧ kpM l m ∧ kC l μ 1027 ∧ rowOK μ 1073 ∧ mi m 1051 0 ≤ 999 ∧ (0 ≤ mi m 1051 1 ∧ mi m 1051 1 < 8) ∧ m.1 2000 52 = -1 ∧ m.1 2000 56 = 0
def scM (c j : Nat) : Prop := c = 1052 ∨ c = 1055 ∨ (1059 ≤ c ∧ c ≤ 1064) ∨ c = 1067 ∨ (c = 2000 ∧ (j = 48 ∨ j = 53 ∨ j = 55 ∨ j = 57 ∨ j = 99))
def mSc (m m' : MM) : Prop := (∀ c j : Nat, ¬ scM c j → m'.1 c j = m.1 c j) ∧ (∀ c j : Nat, c ≠ 1099 → m'.2 c j = m.2 c j) ∧ 0 ≤ mi m' 2000 53 ∧ mi m' 2000 53 ≤ 9
def scC (c j : Nat) : Prop := (1073 ≤ c ∧ c ≤ 1122) ∨ (1127 ≤ c ∧ c < 1447) ∨ (c = 1000 ∧ (j = 14 ∨ j = 25))
def cSc (μ μ' : gM) : Prop := μ'.1 = μ.1 ∧ μ'.2.1 = μ.2.1 ∧ μ'.2.2.2.2.2 = μ.2.2.2.2.2 ∧ (∀ c j : Nat, ¬ scC c j → gI μ' c j = gI μ c j) ∧ (∀ c j : Nat, c ≠ 1014 → c ≠ 1016 → gL μ' c j = gL μ c j) ∧ ∀ c j : Nat, c ≠ 1078 → gP μ' c j = gP μ c j
theorem cSc.refl (μ : gM) : cSc μ μ := ⟨rfl, rfl, rfl, fun _ _ _ => rfl, fun _ _ _ _ => rfl, fun _ _ _ => rfl⟩
theorem cSc.trans {a b c : gM} (h1 : cSc a b) (h2 : cSc b c) : cSc a c := ⟨h2.1.trans h1.1, h2.2.1.trans h1.2.1, h2.2.2.1.trans h1.2.2.1, fun u v k => (h2.2.2.2.1 u v k).trans (h1.2.2.2.1 u v k), fun u v k k' => (h2.2.2.2.2.1 u v k k').trans (h1.2.2.2.2.1 u v k k'), fun u v k => (h2.2.2.2.2.2 u v k).trans (h1.2.2.2.2.2 u v k)⟩
theorem cSc.c {a b : gM} (h : cF 1073 a b) : cSc a b := ⟨h.1, h.2.1, h.2.2.1, fun c j k => h.2.2.2.2.1 c j (by unfold scC at k; omega), fun c j k _ => h.2.2.2.1 c j k, h.2.2.2.2.2⟩
theorem cSc.y {a b : gM} (h : yF 1073 a b) : cSc a b := ⟨h.1, h.2.1, h.2.2.1, fun c j k => h.2.2.2.2.1 c j (by unfold scC at k; omega), fun c j _ _ => h.2.2.2.1 c j, fun c j _ => h.2.2.2.2.2 c j⟩
theorem ks_sc : (List.range 2400).all (fun c => !(ks c == 0) || (!(Nat.ble 1073 c && Nat.ble c 1122) && !(Nat.ble 1127 c && Nat.blt c 1447))) = true := by decide +kernel
theorem ks_1000 : ks 1000 = 1 := by decide
theorem ks_scC {c j : Nat} (hc : ks c = 0) : ¬ scC c j := by
  intro h
  have hlt : c < 2400 := by unfold scC at h; omega
  have a := List.all_eq_true.mp ks_sc c (List.mem_range.mpr hlt)
  rw [hc] at a
  simp only [beq_self_eq_true, Bool.not_true, Bool.false_or, Bool.and_eq_true, Bool.not_eq_true', Bool.and_eq_false_iff] at a
  rcases h with h | h | h
  · rcases a.1 with z | z
    · rw [Nat.ble_eq_true_of_le h.1] at z; cases z
    · rw [Nat.ble_eq_true_of_le h.2] at z; cases z
  · rcases a.2 with z | z
    · rw [Nat.ble_eq_true_of_le h.1] at z; cases z
    · rw [show Nat.blt c 1447 = true from Nat.ble_eq_true_of_le h.2] at z; cases z
  · rw [h.1, ks_1000] at hc
    cases hc
theorem cSc.dy {μ μ' : gM} (h : cSc μ μ') : dyS μ μ' := ⟨h.1, h.2.1, h.2.2.1, fun c hc j => ⟨h.2.2.2.1 c j (ks_scC hc), h.2.2.2.2.1 c j (fun q => by subst q; revert hc; decide) (fun q => by subst q; revert hc; decide), h.2.2.2.2.2 c j (fun q => by subst q; revert hc; decide)⟩⟩
theorem cSc.lay {μ μ' : gM} (h : cSc μ μ') (hl : cLay μ) : cLay μ' := by
  intro c hc
  obtain ⟨a1, a2, a3⟩ := hl c hc
  refine ⟨by rw [h.1]; exact a1, by rw [h.2.1]; exact a2, fun k hk => ?_⟩
  have hne : c ≠ 1078 := fun q => hk (by rw [q]; exact sr_5 (x := 1073) (by decide) k)
  exact (h.2.2.2.2.2 c k hne).trans (a3 k hk)
theorem mSc.s {m m' : MM} (h : mSc m m') (h52 : m'.1 2000 53 = m.1 2000 53) : sE m m' := fun c j k => by
  by_cases q : c = 2000 ∧ j = 53
  · rw [q.1, q.2]; exact h52
  · exact h.1 c j (by unfold kyC at k; unfold scM; omega)
theorem mSc.hh {m m' : MM} (h : mSc m m') : hhE m m' := fun c j k => h.1 c j (by unfold scM; omega)
theorem mSc.n {m m' : MM} (h : mSc m m') (j : Nat) : m'.1 1051 j = m.1 1051 j := h.1 _ _ (by unfold scM; omega)
theorem kpM.sc {l : List (Int × Int × Int)} {m m' : MM} (h : kpM l m) (hs : ∀ j : Nat, 30 ≤ j → m'.1 1051 j = m.1 1051 j) : kpM l m' := by
  obtain ⟨k1, k2, k3⟩ := h
  refine ⟨k1, ?_, fun a b ha hb => ?_⟩
  · unfold mi; rw [hs _ (by omega)]; exact k2
  · unfold mi; rw [hs _ (by omega)]; exact k3 a b ha hb
theorem kC.sc {l : List (Int × Int × Int)} {μ μ' : gM} {x : Nat} (h : kC l μ x) (h1 : gI μ' x 1 = gI μ x 1) (h2 : ∀ j : Nat, gP μ' (x + 5) j = gP μ (x + 5) j) (h3 : ∀ c j : Nat, x + 6 ≤ c → c < x + 46 → gI μ' c j = gI μ c j) : kC l μ' x := by
  obtain ⟨k1, k2, k3, k4⟩ := h
  refine ⟨k1, ?_, fun i hi => ?_, fun a b ha hb => ?_⟩
  · unfold ci; rw [h1]; exact k2
  · rw [h2]
    refine ⟨(k3 i hi).1, fun j hj e => (k3 i hi).2 j hj ?_⟩
    rw [h2] at e
    exact e
  · have := (k3 a (by omega)).1
    unfold ci
    rw [h2, h3 _ _ this.1 this.2]
    exact k4 a b ha hb
theorem rSt.sc {m m' : MM} {μ μ' : gM} {x : Nat} (h : rSt m μ x) (hm : rMany m) (hw : ∀ j : Nat, m'.1 1038 j = m.1 1038 j) (hn : ∀ j : Nat, j < 30 → m'.1 1051 j = m.1 1051 j) (ht : ∀ t : Nat, heatS m' t = heatS m t) (hi : ∀ c j : Nat, x ≤ c → c < x + 5 → gI μ' c j = gI μ c j) : rSt m' μ' x := by
  obtain ⟨s1, s2, s3, s4, s5⟩ := h
  have b1 := hm.2.1
  have b2 := hm.2.2.2.1
  have w : ∀ j, mi m' 1038 j = mi m 1038 j := fun j => congrArg Int32.toInt (hw j)
  refine ⟨by rw [hi _ _ (by omega) (by omega), hn _ (by omega)]; exact s1, by rw [hi _ _ (by omega) (by omega), hn _ (by omega)]; exact s2, fun k hk => ?_, fun k hk hk2 => ?_, fun t hT => ?_⟩
  · rw [w] at hk
    unfold mi
    rw [hi _ _ (by omega) (by omega), hn _ (by omega)]
    exact s3 k hk
  · rw [w] at hk2
    rw [hi _ _ (by omega) (by omega)]
    exact s4 k hk hk2
  · rw [w] at hT
    unfold ci
    rw [hi _ _ (by omega) (by omega), hi _ _ (by omega) (by omega), hi _ _ (by omega) (by omega), hn _ (by omega), hn _ (by omega), ht]
    exact s5 t hT
theorem heat_no {m : MM} (h : m.1 2000 52 = -1) (t : Nat) : heatS m t = mi m 1041 (17 + 2 * t) := by
  unfold heatS
  rw [if_neg]
  unfold mi
  rw [h]
  show ¬ (t : Int) = -1
  omega
theorem rCo.sc {l : List (Int × Int × Int)} {m m' : MM} {μ μ' : gM} (h : rCo l m μ) (hm : mSc m m') (hc : cSc μ μ') (hr : rowOK μ' 1073) : rCo l m' μ' := by
  obtain ⟨h1, h2, h3, h4, h5, h6, h7, h8, h9, h10, h11, h12, h13⟩ := h
  have hh := hm.hh
  have n0 : ∀ j, mi m' 1051 j = mi m 1051 j := fun j => congrArg Int32.toInt (hm.n j)
  have hP : gP μ' 1000 0 = gP μ 1000 0 := hc.2.2.2.2.2 _ _ (by omega)
  have e52 : m'.1 2000 52 = m.1 2000 52 := hm.1 _ _ (by unfold scM; omega)
  have e56 : m'.1 2000 56 = m.1 2000 56 := hm.1 _ _ (by unfold scM; omega)
  refine ⟨hc.lay h1, h2.mv hh hc.dy hP, h3.mv h2 hh hc.dy hP, hh.cO h4, ⟨?_, fun t ht => ?_, hm.2.2, fun t ht => ?_⟩, ?_, h7.sc (fun j _ => hm.n j), ?_, hr, by rw [n0]; exact h10, by rw [n0]; exact h11, e52.trans h12, e56.trans h13⟩
  · rw [n0]; exact h5.1
  · rw [n0, n0]; exact h5.2.1 t ht
  · rw [hh.at (by omega)] at ht
    rw [hh.at (by omega), hh.at (by omega)]
    exact h5.2.2.2 t ht
  · refine h6.sc h2.1 (fun j => hh _ _ (by omega)) (fun j _ => hm.n j) (fun t => ?_) (fun c j a b => hc.2.2.2.1 c j (by unfold scC; omega))
    rw [heat_no (e52.trans h12), heat_no h12, hh.at (by omega)]
  · exact h8.sc (hc.2.2.2.1 _ _ (by unfold scC; omega)) (fun j => hc.2.2.2.2.2 _ _ (by omega)) (fun c j a b => hc.2.2.2.1 c j (by unfold scC; omega))
/-! thinking -/
def tk (m m' : MM) : Prop := (∀ c j : Nat, ¬ (scM c j ∨ (c = 1051 ∧ j < 30) ∨ (c = 2000 ∧ (j = 52 ∨ j = 56))) → m'.1 c j = m.1 c j) ∧ (∀ c j : Nat, c ≠ 1099 → m'.2 c j = m.2 c j) ∧ (∀ j : Nat, j < 30 → m'.1 1052 j = m.1 1051 j) ∧ m'.1 2000 56 ≠ 0 ∧ 0 ≤ mi m' 2000 53 ∧ mi m' 2000 53 ≤ 9
theorem tk.hh {m a : MM} (h : tk m a) : hhE m a := fun c j k => h.1 c j (by unfold scM; omega)
theorem tk.kp {l : List (Int × Int × Int)} {m a : MM} (h : tk m a) (hk : kpM l m) : kpM l a := hk.sc (fun j hj => h.1 _ _ (by unfold scM; omega))
theorem tk.aside {m : MM} (hN : okN m) : pw (mf_putsAside m) (fun q => tk m q.2 ∧ sE m q.2) := by
  refine pw_mono (p_putsAside m) ?_
  rintro ⟨u, a⟩ ⟨h1, h2⟩
  dsimp only at h1 h2 ⊢
  have e53 : a.1 2000 53 = m.1 2000 53 := by rw [h1, if_neg (by omega), if_neg (by omega)]
  refine ⟨⟨fun c j k => ?_, fun c j _ => by rw [h2], fun j hj => ?_, ?_, ?_⟩, fun c j k => ?_⟩
  · rw [h1, if_neg (by unfold scM at k; omega), if_neg (by omega)]
  · rw [h1, if_pos ⟨rfl, hj⟩]
  · rw [h1, if_neg (by omega), if_pos ⟨rfl, rfl⟩]
    decide
  · unfold mi; rw [e53]; exact hN.2.2.1
  · rw [h1, if_neg (by unfold kyC at k; omega), if_neg (by unfold kyC at k; omega)]
theorem tk.hE {m a b : MM} (h : tk m a) (h1 : hE a b) (h2 : ∀ j : Nat, 30 ≤ j → b.1 1051 j = a.1 1051 j) : tk m b := by
  obtain ⟨t1, t2, t3, t4, t5⟩ := h
  refine ⟨fun c j k => ?_, fun c j k => (h1.2 c j k).trans (t2 c j k), fun j hj => ?_, ?_, ?_⟩
  · by_cases q : c = 1051
    · subst q
      rw [h2 j (by unfold scM at k; omega)]
      exact t1 _ _ k
    · rw [h1.1 c j (by unfold scM at k; omega)]
      exact t1 c j k
  · rw [h1.1 _ _ (by omega)]
    exact t3 j hj
  · rw [h1.1 _ _ (by omega)]
    exact t4
  · unfold mi
    rw [h1.1 _ _ (by omega)]
    exact t5
theorem tk.back {m a : MM} (h : tk m a) (h52 : m.1 2000 52 = -1) (h56 : m.1 2000 56 = 0) : pw (mf_takesBack a) (fun q => mSc m q.2) := by
  refine pw_mono (p_takesBack a) ?_
  rintro ⟨u, b⟩ ⟨h1, h2⟩
  dsimp only at h1 h2 ⊢
  obtain ⟨t1, t2, t3, t4, t5⟩ := h
  refine ⟨fun c j k => ?_, fun c j k => by rw [h2]; exact t2 c j k, ?_⟩
  · rw [h1]
    by_cases q : c = 2000 ∧ j = 56
    · rw [if_pos q, q.1, q.2, h56]
    · rw [if_neg q]
      by_cases q2 : c = 2000 ∧ j = 52
      · rw [if_pos q2, q2.1, q2.2, h52]
      · rw [if_neg q2]
        by_cases q3 : c = 1051 ∧ j < 30
        · rw [if_pos q3, q3.1]
          exact t3 j q3.2
        · rw [if_neg q3]
          refine t1 c j (fun w => ?_)
          rcases w with w | w | w
          · exact k w
          · exact q3 w
          · omega
  · unfold mi
    rw [h1, if_neg (by omega), if_neg (by omega), if_neg (by omega)]
    exact t5
theorem tk.anew {m a : MM} (h : tk m a) : pw (mf_triesAnew a) (fun q => tk m q.2 ∧ (∀ j : Nat, j < 30 → q.2.1 1051 j = m.1 1051 j) ∧ q.2.1 2000 52 = a.1 2000 52 ∧ q.2.1 2000 53 = a.1 2000 53) := by
  refine pw_mono (p_triesAnew a) ?_
  rintro ⟨u, b⟩ ⟨h1, h2⟩
  dsimp only at h1 h2 ⊢
  obtain ⟨t1, t2, t3, t4, t5⟩ := h
  refine ⟨⟨fun c j k => ?_, fun c j k => by rw [h2]; exact t2 c j k, fun j hj => ?_, ?_, ?_⟩, fun j hj => ?_, ?_, ?_⟩
  · rw [h1, if_neg (by omega)]
    exact t1 c j k
  · rw [h1, if_neg (by omega)]
    exact t3 j hj
  · rw [h1, if_neg (by omega)]
    exact t4
  · unfold mi
    rw [h1, if_neg (by omega)]
    exact t5
  · rw [h1, if_pos ⟨rfl, hj⟩]
    exact t3 j hj
  · rw [h1, if_neg (by omega)]
  · rw [h1, if_neg (by omega)]
/-- a query: both answer alike, and nothing that is seen has changed -/
def eO {α : Type} (o1 : Option (α × MM)) (o2 : Option (α × gM)) (m : MM) (μ : gM) : Prop := ∃ (r : α) (m' : MM) (μ' : gM), o1 = some (r, m') ∧ o2 = some (r, μ') ∧ mSc m m' ∧ cSc μ μ' ∧ rowOK μ' 1073
theorem eO.of {α : Type} {o1 : Option (α × MM)} {o2 : Option (α × gM)} {m : MM} {μ : gM} (r : α) (h1 : pw o1 (fun q => q.1 = r ∧ mSc m q.2)) (h2 : pw o2 (fun q => q.1 = r ∧ cSc μ q.2 ∧ rowOK q.2 1073)) : eO o1 o2 m μ := by
  obtain ⟨⟨a, m'⟩, e1, rfl, b1⟩ := h1
  obtain ⟨⟨a', μ'⟩, e2, b2, b3, b4⟩ := h2
  dsimp only at b2
  subst b2
  exact ⟨_, m', μ', e1, e2, b1, b3, b4⟩
theorem mSc.refl {m : MM} (hN : okN m) : mSc m m := ⟨fun _ _ _ => rfl, fun _ _ _ => rfl, hN.2.2.1⟩
theorem p_isAhead {m : MM} (hN : okN m) {z a b : Int} (hz : -2147483648 ≤ z ∧ z < 2147483648) (ha : -1000 ≤ a ∧ a ≤ 1000) (hb : -1000 ≤ b ∧ b ≤ 1000) : mf_isAhead (iI z) (iI a) (iI b) m = some (if (a ≤ z ∧ z ≤ b) ∧ mi m 1051 0 + z ≤ 999 then 1 else 0, m) := by
  have h0 := hN.1
  have g0 : gz_ix (0 : Int32) = 0 := by decide
  unfold mf_isAhead mj_X6_isAhead_30
  rw [i2l_iI (by omega), i2l_iI (by omega), i2l_iI (by omega), p_isIn m (by omega) (by omega) (by omega)]
  simp only [Option.bind_some, g0]
  by_cases q : a ≤ z ∧ z ≤ b
  · rw [if_pos q, if_neg (by decide), if_pos (by decide), mi_of m, iI_add]
    by_cases q2 : mi m 1051 0 + z ≤ 999
    · rw [if_neg (by rw [iI_lit, iI_lt (by omega) (by omega)]; omega), if_pos ⟨q, q2⟩]
    · rw [if_pos (by rw [iI_lit, iI_lt (by omega) (by omega)]; omega), if_neg (fun w => q2 w.2)]
  · rw [if_neg q, if_pos rfl, if_neg (fun w => q w.1)]
theorem c_isAhead {m : MM} {μ : gM} (hN : okN m) (h27 : gI μ 1027 0 = m.1 1051 0) {z a b : Int} (hz : -2147483648 ≤ z ∧ z < 2147483648) (ha : -1000 ≤ a ∧ a ≤ 1000) (hb : -1000 ≤ b ∧ b ≤ 1000) : cf_X0_isAhead (iI z) (iI a) (iI b) μ = some (if (a ≤ z ∧ z ≤ b) ∧ mi m 1051 0 + z ≤ 999 then 1 else 0, μ) := by
  have h0 := hN.1
  unfold cf_X0_isAhead mj_X0_isAhead_28
  rw [p_is μ (by omega) (by omega) (by omega)]
  simp only [Option.bind_some]
  by_cases q : a ≤ z ∧ z ≤ b
  · rw [if_pos q, if_neg (by decide), h27, mi_of m, iI_add]
    by_cases q2 : mi m 1051 0 + z ≤ 999
    · rw [if_neg (by rw [iI_lit, iI_lt (by omega) (by omega)]; omega), if_pos ⟨q, q2⟩]
    · rw [if_pos (by rw [iI_lit, iI_lt (by omega) (by omega)]; omega), if_neg (fun w => q2 w.2)]
  · rw [if_neg q, if_pos rfl, if_neg (fun w => q w.1)]
/-- what is tried starts as what is -/
theorem c_tries {l : List (Int × Int × Int)} {m : MM} {μ : gM} (h : rCo l m μ) : pw (cf_X5_copy 1073 1027 μ) (fun r => r.1 = 1073 ∧ cSc μ r.2 ∧ rSt m r.2 1073 ∧ kC l r.2 1073) := by
  obtain ⟨h1, h2, h3, h4, h5, h6, h7, h8, h9, h10, h11, h12, h13⟩ := h
  have b1 := h2.1.2.1
  refine pw_mono (c_copy (x := 1073) (y := 1027) (by decide) (by decide) (by decide) h9 h8) ?_
  rintro ⟨r, μ'⟩ ⟨a1, a2, a3, a4, a5⟩
  dsimp only at a1 a2 a3 a4 a5 ⊢
  refine ⟨a1, cSc.y a2, ?_, a5⟩
  obtain ⟨s1, s2, s3, s4, s5⟩ := h6
  refine ⟨by rw [a3 _ (by omega)]; exact s1, by rw [a3 _ (by omega)]; exact s2, fun k hk => by rw [a3 _ (by omega)]; exact s3 k hk, fun k hk hk2 => by rw [a3 _ (by omega)]; exact s4 k hk hk2, fun t ht => ?_⟩
  obtain ⟨c1, c2, c3⟩ := a4 t (by omega)
  unfold ci
  rw [c1, c2, c3]
  exact s5 t ht
