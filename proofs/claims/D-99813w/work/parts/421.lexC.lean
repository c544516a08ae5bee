/-! ===== the component reads signs and words ===== -/
/-- the text in the component's memory -/
def cLx (T : Nat → Int) (n : Nat) (μ : gM) : Prop := tOK T n ∧ (∀ k : Nat, k < n → gI μ 1010 k &&& (255 : Int32) = iI (T k) ∧ bB (gI μ 1010 k)) ∧ gI μ 1011 1 = iI n ∧ srOK μ ∧ 2369 ≤ gZ μ
def cAt (T : Nat → Int) (n : Nat) (μ : gM) (p : Nat) : Prop := ∃ a : Nat, gI μ 1011 2 = iI a ∧ a ≤ n ∧ skp T n a = p
def cErr (μ : gM) (k : Int) (l : Nat) : Prop := gI μ 1012 6 = iI k ∧ gI μ 1012 7 = iI l
/-- what reading may change: nothing below z but the reader's places and the fault -/
def pX (c j : Nat) : Prop := (c = 1011 ∧ (j = 2 ∨ j = 3 ∨ j = 4)) ∨ (c = 1012 ∧ (j = 6 ∨ j = 7))
def pF (z : Nat) (μ μ' : gM) : Prop := gZ μ ≤ gZ μ' ∧ gW μ ≤ gW μ' ∧ ∀ c : Nat, c < z → gK μ' c = gK μ c ∧ gN μ' c = gN μ c ∧ ∀ j : Nat, (¬ pX c j → gI μ' c j = gI μ c j) ∧ gL μ' c j = gL μ c j ∧ gP μ' c j = gP μ c j
theorem pF.refl (z : Nat) (μ : gM) : pF z μ μ := ⟨Nat.le_refl _, Nat.le_refl _, fun _ _ => ⟨rfl, rfl, fun _ => ⟨fun _ => rfl, rfl, rfl⟩⟩⟩
theorem pF.trans {z : Nat} {a b c : gM} (h1 : pF z a b) (h2 : pF z b c) : pF z a c := ⟨Nat.le_trans h1.1 h2.1, Nat.le_trans h1.2.1 h2.2.1, fun d hd => by
  obtain ⟨a1, a2, a3⟩ := h1.2.2 d hd
  obtain ⟨b1, b2, b3⟩ := h2.2.2 d hd
  exact ⟨b1.trans a1, b2.trans a2, fun j => ⟨fun k => ((b3 j).1 k).trans ((a3 j).1 k), (b3 j).2.1.trans (a3 j).2.1, (b3 j).2.2.trans (a3 j).2.2⟩⟩⟩
theorem pF.dn {z y : Nat} {a b : gM} (h : pF z a b) (hy : y ≤ z) : pF y a b := ⟨h.1, h.2.1, fun c hc => h.2.2 c (by omega)⟩
theorem pF.sI {z : Nat} {μ : gM} {c j : Nat} {v : Int32} (h : pX c j ∨ z ≤ c) : pF z μ (gz_sI μ c j v) := ⟨Nat.le_refl _, Nat.le_refl _, fun d hd => ⟨rfl, rfl, fun i => ⟨fun k => by
  rw [sI_i, if_neg]
  rintro ⟨rfl, rfl⟩
  rcases h with h | h
  · exact k h
  · omega, rfl, rfl⟩⟩⟩
theorem pF.sL {z : Nat} {μ : gM} {c j : Nat} {v : Int64} (h : z ≤ c) : pF z μ (gz_sL μ c j v) := ⟨Nat.le_refl _, Nat.le_refl _, fun d hd => ⟨rfl, rfl, fun i => ⟨fun _ => rfl, by rw [sL_l, if_neg (by omega)], rfl⟩⟩⟩
theorem pF.sP {z : Nat} {μ : gM} {c j v : Nat} (h : z ≤ c) : pF z μ (gz_sP μ c j v) := ⟨Nat.le_refl _, Nat.le_refl _, fun d hd => ⟨rfl, rfl, fun i => ⟨fun _ => rfl, rfl, by rw [sP_p, if_neg (by omega)]⟩⟩⟩
/-- nothing at all below z has changed -/
def sFr (z : Nat) (μ μ' : gM) : Prop := gZ μ ≤ gZ μ' ∧ gW μ ≤ gW μ' ∧ ∀ c : Nat, c < z → gK μ' c = gK μ c ∧ gN μ' c = gN μ c ∧ ∀ j : Nat, gI μ' c j = gI μ c j ∧ gL μ' c j = gL μ c j ∧ gP μ' c j = gP μ c j
theorem sFr.refl (z : Nat) (μ : gM) : sFr z μ μ := ⟨Nat.le_refl _, Nat.le_refl _, fun _ _ => ⟨rfl, rfl, fun _ => ⟨rfl, rfl, rfl⟩⟩⟩
theorem sFr.trans {z : Nat} {a b c : gM} (h1 : sFr z a b) (h2 : sFr z b c) : sFr z a c := ⟨Nat.le_trans h1.1 h2.1, Nat.le_trans h1.2.1 h2.2.1, fun d hd => by
  obtain ⟨a1, a2, a3⟩ := h1.2.2 d hd
  obtain ⟨b1, b2, b3⟩ := h2.2.2 d hd
  exact ⟨b1.trans a1, b2.trans a2, fun j => ⟨(b3 j).1.trans (a3 j).1, (b3 j).2.1.trans (a3 j).2.1, (b3 j).2.2.trans (a3 j).2.2⟩⟩⟩
theorem sFr.dn {z y : Nat} {a b : gM} (h : sFr z a b) (hy : y ≤ z) : sFr y a b := ⟨h.1, h.2.1, fun c hc => h.2.2 c (by omega)⟩
theorem sFr.p {z : Nat} {a b : gM} (h : sFr z a b) : pF z a b := ⟨h.1, h.2.1, fun c hc => ⟨(h.2.2 c hc).1, (h.2.2 c hc).2.1, fun j => ⟨fun _ => ((h.2.2 c hc).2.2 j).1, ((h.2.2 c hc).2.2 j).2⟩⟩⟩
theorem sFr.sI {z : Nat} {μ : gM} {c j : Nat} {v : Int32} (h : z ≤ c) : sFr z μ (gz_sI μ c j v) := ⟨Nat.le_refl _, Nat.le_refl _, fun d hd => ⟨rfl, rfl, fun i => ⟨by rw [sI_i, if_neg (by omega)], rfl, rfl⟩⟩⟩
theorem sFr.sL {z : Nat} {μ : gM} {c j : Nat} {v : Int64} (h : z ≤ c) : sFr z μ (gz_sL μ c j v) := ⟨Nat.le_refl _, Nat.le_refl _, fun d hd => ⟨rfl, rfl, fun i => ⟨rfl, by rw [sL_l, if_neg (by omega)], rfl⟩⟩⟩
theorem sFr.sP {z : Nat} {μ : gM} {c j v : Nat} (h : z ≤ c) : sFr z μ (gz_sP μ c j v) := ⟨Nat.le_refl _, Nat.le_refl _, fun d hd => ⟨rfl, rfl, fun i => ⟨rfl, rfl, by rw [sP_p, if_neg (by omega)]⟩⟩⟩
theorem al_k (μ : gM) (kd ln sl c : Nat) : gK (gz_al μ kd ln sl) c = if c = gZ μ then kd else gK μ c := rfl
theorem al_n (μ : gM) (kd ln sl c : Nat) : gN (gz_al μ kd ln sl) c = if c = gZ μ then ln else gN μ c := rfl
theorem al_i (μ : gM) (kd ln sl c j : Nat) : gI (gz_al μ kd ln sl) c j = if c = gZ μ then 0 else gI μ c j := rfl
theorem al_l (μ : gM) (kd ln sl c j : Nat) : gL (gz_al μ kd ln sl) c j = if c = gZ μ then 0 else gL μ c j := rfl
theorem al_p (μ : gM) (kd ln sl c j : Nat) : gP (gz_al μ kd ln sl) c j = if c = gZ μ then 0 else gP μ c j := rfl
theorem pF.al {z : Nat} {μ : gM} {kd ln sl : Nat} (h : z ≤ gZ μ) : pF z μ (gz_al μ kd ln sl) := ⟨Nat.le_succ _, Nat.le_add_right _ _, fun d hd => by
  have hne : ¬ d = gZ μ := by omega
  exact ⟨by rw [al_k, if_neg hne], by rw [al_n, if_neg hne], fun j => ⟨fun _ => by rw [al_i, if_neg hne], by rw [al_l, if_neg hne], by rw [al_p, if_neg hne]⟩⟩⟩
theorem sFr.al {z : Nat} {μ : gM} {kd ln sl : Nat} (h : z ≤ gZ μ) : sFr z μ (gz_al μ kd ln sl) := ⟨Nat.le_succ _, Nat.le_add_right _ _, fun d hd => by
  have hne : ¬ d = gZ μ := by omega
  exact ⟨by rw [al_k, if_neg hne], by rw [al_n, if_neg hne], fun j => ⟨by rw [al_i, if_neg hne], by rw [al_l, if_neg hne], by rw [al_p, if_neg hne]⟩⟩⟩
theorem ks_1011 : ks 1011 = 3 := by decide
theorem ks_1012 : ks 1012 = 4 := by decide
theorem pF.lo {z : Nat} {μ μ' : gM} (h : pF z μ μ') : loA z μ μ' := fun c k l => by
  obtain ⟨a1, a2, a3⟩ := h.2.2 c l
  refine ⟨a1, a2, fun j => ⟨(a3 j).1 (fun w => ?_), (a3 j).2.1, (a3 j).2.2⟩⟩
  rcases w with ⟨w, -⟩ | ⟨w, -⟩
  · rw [w, ks_1011] at k; cases k
  · rw [w, ks_1012] at k; cases k
theorem cLx.p {T : Nat → Int} {n : Nat} {μ μ' : gM} (h : cLx T n μ) (hp : pF (gZ μ) μ μ') : cLx T n μ' := by
  obtain ⟨h1, h2, h3, h4, h5⟩ := h
  refine ⟨h1, fun k hk => ?_, ?_, h4.lo hp.lo (by omega), Nat.le_trans h5 hp.1⟩
  · rw [((hp.2.2 1010 (by omega)).2.2 k).1 (by unfold pX; omega)]
    exact h2 k hk
  · rw [((hp.2.2 1011 (by omega)).2.2 1).1 (by unfold pX; omega)]
    exact h3
theorem c_isL {z : Int} (hz : -2147483648 ≤ z ∧ z < 2147483648) (m : gM) : cf_X0_isLetter (iI z) m = some (if isL z then 1 else 0, m) := by
  unfold cf_X0_isLetter mj_X0_isLetter_16
  simp (disch := omega) only [show (97 : Int32) = iI 97 from rfl, show (122 : Int32) = iI 122 from rfl, iI_lt]
  by_cases h : isL z
  · rw [if_neg (by omega), if_neg (by omega), if_pos h]
  · rw [if_neg h]
    split
    · rfl
    · rw [if_pos (by omega)]
theorem c_isD {z : Int} (hz : -2147483648 ≤ z ∧ z < 2147483648) (m : gM) : cf_X0_isDigit (iI z) m = some (if isD z then 1 else 0, m) := by
  unfold cf_X0_isDigit mj_X0_isDigit_16
  simp (disch := omega) only [show (48 : Int32) = iI 48 from rfl, show (57 : Int32) = iI 57 from rfl, iI_lt]
  by_cases h : isD z
  · rw [if_neg (by omega), if_neg (by omega), if_pos h]
  · rw [if_neg h]
    split
    · rfl
    · rw [if_pos (by omega)]
theorem c_bAt {T : Nat → Int} {n : Nat} {μ : gM} (h : cLx T n μ) {a : Nat} (ha : a ≤ 1700) : cf_X2_byteAt (iI a) μ = some (iI (T a), μ) := by
  obtain ⟨h1, h2, h3, -⟩ := h
  have hn := h1.1
  have ga : gz_ix (iI (a : Int)) = a := by rw [gix (by omega)]; omega
  unfold cf_X2_byteAt mj_X2_byteAt_28
  rw [h3, if_neg (by rw [iI_lit, iI_lt (by omega) (by omega)]; omega)]
  rcases Nat.lt_or_ge a n with q | q
  · rw [if_neg (by rw [iI_le (by omega) (by omega)]; omega), if_pos ((gin_iI (by omega)).2 (by omega)), ga, (h2 a q).1]
  · rw [if_pos (by rw [iI_le (by omega) (by omega)]; omega), h1.2.2 a q]
    rfl
theorem c_bAt0 {T : Nat → Int} {n : Nat} {μ : gM} : cf_X2_byteAt (iI (-1)) μ = some (iI (-1), μ) := by
  unfold cf_X2_byteAt mj_X2_byteAt_28
  rw [if_pos (by decide)]
  rfl
/-- the reader's places alone changed -/
def rX (μ μ' : gM) : Prop := μ'.1 = μ.1 ∧ μ'.2.1 = μ.2.1 ∧ μ'.2.2.2 = μ.2.2.2 ∧ ∀ c j : Nat, ¬ (c = 1011 ∧ (j = 2 ∨ j = 3)) → gI μ' c j = gI μ c j
theorem rX.refl (μ : gM) : rX μ μ := ⟨rfl, rfl, rfl, fun _ _ _ => rfl⟩
theorem rX.trans {a b c : gM} (h1 : rX a b) (h2 : rX b c) : rX a c := ⟨h2.1.trans h1.1, h2.2.1.trans h1.2.1, h2.2.2.1.trans h1.2.2.1, fun x y k => (h2.2.2.2 x y k).trans (h1.2.2.2 x y k)⟩
theorem rX.sI {μ : gM} {j : Nat} {v : Int32} (h : j = 2 ∨ j = 3) : rX μ (gz_sI μ 1011 j v) := ⟨rfl, rfl, rfl, fun c' j' k => by rw [sI_i, if_neg (by omega)]⟩
theorem rX.z {μ μ' : gM} (h : rX μ μ') : μ'.2.2.2.2.2 = μ.2.2.2.2.2 := by rw [h.2.2.1]
theorem rX.p {μ μ' : gM} (h : rX μ μ') (z : Nat) : pF z μ μ' := by
  have hz := h.z
  refine ⟨by show μ.2.2.2.2.2.1 ≤ μ'.2.2.2.2.2.1; rw [hz]; exact Nat.le_refl _, by show μ.2.2.2.2.2.2 ≤ μ'.2.2.2.2.2.2; rw [hz]; exact Nat.le_refl _, fun c _ => ⟨congrFun h.1 c, congrFun h.2.1 c, fun j => ⟨fun k => h.2.2.2 c j (by unfold pX at k; omega), ?_, ?_⟩⟩⟩
  · show μ'.2.2.2.1 c j = μ.2.2.2.1 c j
    rw [h.2.2.1]
  · show μ'.2.2.2.2.1 c j = μ.2.2.2.2.1 c j
    rw [h.2.2.1]
theorem c_here1 {T : Nat → Int} {n : Nat} {μ : gM} (hL : cLx T n μ) {p : Nat} (h : cAt T n μ p) : pw (cf_X2_here μ) (fun q => q.1 = iI (T p) ∧ rX μ q.2 ∧ gI q.2 1011 2 = iI p ∧ p ≤ n ∧ skp T n p = p) := by
  obtain ⟨a, h1, h2, h3⟩ := h
  obtain ⟨hT, -⟩ := id hL
  have hn := hT.1
  unfold cf_X2_here ml_X2_here_0
  refine pw_loop (fun μ' : gM => rX μ μ' ∧ ∃ a : Nat, gI μ' 1011 2 = iI a ∧ a ≤ n ∧ skp T n a = p) (fun μ' => n - (ci μ' 1011 2).toNat) ?_ ⟨rX.refl μ, a, h1, h2, h3⟩
  rintro μ' ⟨x, a, g1, g2, g3⟩
  have hL' := hL.p (x.p _)
  have hr := hT.r a
  have ea : ci μ' 1011 2 = a := by unfold ci; rw [g1, toInt_iI (by omega) (by omega)]
  have hb := c_bAt hL' (a := a) (by omega)
  have go : isB (T a) → pw (mj_X2_here_26 μ') (Sum.elim (fun s' : gM => (rX μ s' ∧ ∃ a : Nat, gI s' 1011 2 = iI a ∧ a ≤ n ∧ skp T n a = p) ∧ n - (ci s' 1011 2).toNat < n - (ci μ' 1011 2).toNat) (fun q => q.1 = iI (T p) ∧ rX μ q.2 ∧ gI q.2 1011 2 = iI p ∧ p ≤ n ∧ skp T n p = p)) := by
    intro hbl
    have han : a < n := by
      rcases Nat.lt_or_ge a n with q | q
      · exact q
      · rw [hT.2.2 a q] at hbl
        exact absurd hbl (by decide)
    have e1 : iI (a : Int) + (1 : Int32) = iI ((a + 1 : Nat) : Int) := by rw [iI_lit, iI_add]; rfl
    unfold mj_X2_here_26
    rw [g1, e1]
    refine pw_let (pw_some ⟨⟨x.trans (rX.sI (by omega)), a + 1, by rw [sI_i, if_pos ⟨rfl, rfl⟩], by omega, by rw [← skp_b hT hbl]; exact g3⟩, ?_⟩)
    rw [ea, ci_sI _ _ _ _ _ (by omega), if_pos ⟨rfl, rfl⟩]
    omega
  unfold mb_X2_here_0
  rw [g1, hb]
  simp only [Option.bind_some]
  by_cases c1 : T a = 32
  · exact pw_t (by rw [c1]; rfl) (go (Or.inl c1))
  refine pw_f (by rw [iI_lit, iI_eq (by omega) (by omega)]; exact c1) ?_
  rw [g1, hb]
  simp only [Option.bind_some]
  by_cases c2 : T a = 10
  · exact pw_t (by rw [c2]; rfl) (go (Or.inr c2))
  refine pw_f (by rw [iI_lit, iI_eq (by omega) (by omega)]; exact c2) ?_
  rw [g1, hb]
  simp only [Option.bind_some]
  have ep : p = a := by rw [← g3]; exact skp_id (fun w => by rcases w with w | w; exact c1 w; exact c2 w)
  subst ep
  exact pw_some ⟨rfl, x, g1, g2, g3⟩
/-- a fault is told -/
theorem c_wrong {μ : gM} (k : Int) (l : Nat) : ∃ μ' : gM, cf_X2_wrong (iI k) (iI l) μ = some (1012, μ') ∧ cErr μ' k l ∧ μ'.2.2.2.2.2 = μ.2.2.2.2.2 ∧ ∀ z : Nat, pF z μ μ' := by
  refine ⟨gz_sI (gz_sI μ 1012 6 (iI k)) 1012 7 (iI l), rfl, ⟨?_, ?_⟩, rfl, fun z => (pF.sI (Or.inl (by unfold pX; omega))).trans (pF.sI (Or.inl (by unfold pX; omega)))⟩
  · rw [sI_i, if_neg (by omega), sI_i, if_pos ⟨rfl, rfl⟩]
  · rw [sI_i, if_pos ⟨rfl, rfl⟩]
/-- the usual tail: a fault is thrown -/
theorem c_thr {α β : Type} {μ : gM} {k : Int} {l : Nat} {e : gM → Option β} {Q : β → Prop} (hQ : ∀ μ' : gM, cErr μ' k l → μ'.2.2.2.2.2 = μ.2.2.2.2.2 → (∀ z : Nat, pF z μ μ') → pw (e μ') Q) : pw ((cf_X2_wrong (iI k) (iI l) μ).bind fun (x : Nat × gM) => (if x.2.2.2.2.2.2 = μ.2.2.2.2.2 then (if x.1 = 1012 then e x.2 else none) else none)) Q := by
  obtain ⟨μ', e1, e2, e3, e4⟩ := c_wrong (μ := μ) k l
  rw [e1]
  exact pw_bind (pw_some (pw_gu e3 (pw_gu rfl (hQ μ' e2 e3 e4))))
theorem c_parted {T : Nat → Int} {n : Nat} {μ : gM} (hL : cLx T n μ) {p : Nat} (h : gI μ 1011 2 = iI p) (hp : p ≤ n) : pw (cf_X2_parted μ) (fun q => (alB T p ∧ q.1 = none ∧ cErr q.2 1 p ∧ q.2.2.2.2.2.2 = μ.2.2.2.2.2 ∧ ∀ z : Nat, pF z μ q.2) ∨ (¬ alB T p ∧ q.1 = some () ∧ q.2 = μ)) := by
  obtain ⟨hT, -⟩ := id hL
  have hn := hT.1
  have bad : alB T p → pw (mj_X2_parted_32 μ) (fun q => (alB T p ∧ q.1 = none ∧ cErr q.2 1 p ∧ q.2.2.2.2.2.2 = μ.2.2.2.2.2 ∧ ∀ z : Nat, pF z μ q.2) ∨ (¬ alB T p ∧ q.1 = some () ∧ q.2 = μ)) := by
    intro w
    unfold mj_X2_parted_32
    rw [h]
    exact c_thr (α := Unit) (k := 1) (e := fun m2 => some (none, m2)) (fun μ' e1 e2 e3 => pw_some (Or.inl ⟨w, rfl, e1, e2, e3⟩))
  have val : ∃ v : Int, (-1 ≤ v ∧ v < 256) ∧ cf_X2_byteAt (gI μ 1011 2 - (1 : Int32)) μ = some (iI v, μ) ∧ (alB T p ↔ isL v ∨ isD v) := by
    rw [h, iI_lit, iI_sub]
    by_cases c : p = 0
    · subst c
      exact ⟨-1, by omega, c_bAt0 (T := T) (n := n), ⟨fun w => absurd w.1 (by omega), fun w => by omega⟩⟩
    · have hr := hT.r (p - 1)
      refine ⟨T (p - 1), hr, ?_, ⟨fun w => w.2, fun w => ⟨by omega, w⟩⟩⟩
      rw [show ((p : Int) - 1) = ((p - 1 : Nat) : Int) by omega]
      exact c_bAt hL (by omega)
  obtain ⟨v, v1, v2, v3⟩ := val
  unfold cf_X2_parted
  rw [v2]
  refine pw_bind (pw_some (pw_gu rfl ?_))
  rw [c_isL (by omega)]
  refine pw_bind (pw_some (pw_gu rfl ?_))
  by_cases c1 : isL v
  · rw [if_pos c1]
    exact pw_f n10 (bad (v3.2 (Or.inl c1)))
  · rw [if_neg c1]
    refine pw_t (by first | rfl | exact True.intro) ?_
    rw [v2]
    refine pw_bind (pw_some (pw_gu rfl ?_))
    rw [c_isD (by omega)]
    refine pw_bind (pw_some (pw_gu rfl ?_))
    by_cases c2 : isD v
    · rw [if_pos c2]
      exact pw_f n10 (bad (v3.2 (Or.inr c2)))
    · rw [if_neg c2]
      exact pw_t (by first | rfl | exact True.intro) (pw_some (Or.inr ⟨fun w => by rcases v3.1 w with w | w; exact c1 w; exact c2 w, rfl, rfl⟩))
/-- the word at p -/
def wL (T : Nat → Int) (n p : Nat) : List Int := (List.range (wE T n p - p)).map (fun i => T (p + i))
theorem wL_len (T : Nat → Int) (n p : Nat) : (wL T n p).length = wE T n p - p := by
  unfold wL
  rw [List.length_map, List.length_range]
theorem wL_get {T : Nat → Int} {n p i : Nat} (h : i < wE T n p - p) : (wL T n p).getD i 0 = T (p + i) := by
  have hl : i < ((List.range (wE T n p - p)).map (fun i => T (p + i))).length := by rw [List.length_map, List.length_range]; exact h
  show ((List.range (wE T n p - p)).map (fun i => T (p + i))).getD i 0 = _
  rw [getD_get hl, List.getElem_map, List.getElem_range]
theorem isW_iff {T : Nat → Int} {n p : Nat} {w : List Int} (h1 : isL (T p)) (h2 : ¬ alB T p) : isW T n p w ↔ wL T n p = w := by
  have hg := wE_ge T n p
  constructor
  · rintro ⟨⟨⟩, -, a, b⟩
    refine list_eq (by rw [wL_len, a]; omega) (fun i hi => ?_)
    rw [wL_len] at hi
    rw [wL_get hi, b i (by omega)]
  · intro e
    have hl : wE T n p - p = w.length := by rw [← e, wL_len]
    refine ⟨h1, h2, by omega, fun j hj => ?_⟩
    rw [← e, wL_get (by omega)]
theorem chr8 {x : Int32} {c : Int} (hb : bB x) (h : x &&& (255 : Int32) = iI c) (hc : 0 ≤ c ∧ c < 128) : x = iI c := by
  obtain ⟨C, hC⟩ : ∃ C : Nat, c = C := ⟨c.toNat, by omega⟩
  subst hC
  have key : ∀ b : Fin 256, ((Int8.ofBitVec (BitVec.ofFin b)).toInt32 &&& (255 : Int32)) = iI (C : Int) → (Int8.ofBitVec (BitVec.ofFin b)).toInt32 = iI (C : Int) := by
    intro b hbb
    have t : ∀ b : Fin 256, b.val < 128 ∨ ∀ C : Fin 128, ¬ ((Int8.ofBitVec (BitVec.ofFin b)).toInt32 &&& (255 : Int32)) = iI (C.val : Int) := by decide +kernel
    have t2 : ∀ b : Fin 256, b.val < 128 → ((Int8.ofBitVec (BitVec.ofFin b)).toInt32 &&& (255 : Int32)) = (Int8.ofBitVec (BitVec.ofFin b)).toInt32 := by decide +kernel
    rcases t b with w | w
    · rw [← t2 b w]; exact hbb
    · exact absurd hbb (w ⟨C, by omega⟩)
  unfold bB at hb
  rw [← hb] at h ⊢
  exact key x.toInt8.toBitVec.toFin h
theorem chr16 : ∀ c : Nat, c < 128 → (((iI (c : Int)).toUInt32 % 65536).toInt32).toUInt32.toUInt16.toUInt32.toInt32 = iI (c : Int) := by decide +kernel
theorem byt8 : ∀ c : Nat, c < 128 → ((iI (c : Int)).toInt8.toInt32).toInt8.toInt32 = iI (c : Int) := by decide +kernel
