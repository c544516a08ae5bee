/-! ===== hours in a row, on both sides ===== -/
theorem hourM_at {m : MM} (c j : Nat) : (hourM m).1 c j = if c = 1051 ∧ j < 30 then (if j = 0 then iI (mi m 1051 0 + 1) else if j < 14 then m.1 1051 j else if j % 2 = 0 then iI (stI m (things m) ((j - 14) / 2)) else iI (smI m (things m) ((j - 14) / 2))) else m.1 c j := rfl
theorem sE.hour {a b : MM} (h : sE a b) (hm : rMany a) : sE (hourM a) (hourM b) := by
  intro c j hc
  by_cases q : c = 1051 ∧ j < 30
  · rw [hourM_at, hourM_at, if_pos q, if_pos q]
    by_cases q0 : j = 0
    · rw [if_pos q0, if_pos q0, h.n (by omega)]
    · rw [if_neg q0, if_neg q0]
      by_cases q1 : j < 14
      · rw [if_pos q1, if_pos q1]
        exact h _ _ (by unfold kyC; omega)
      · rw [if_neg q1, if_neg q1]
        unfold stI smI
        rw [h.nTh, h.nx hm (by omega), h.n (by omega), h.n (by omega)]
  · rw [hourM_o _ q, hourM_o _ q]
    exact h c j hc
theorem sE.hrK {a b : MM} (h : sE a b) (hm : rMany a) (l : List (Int × Int × Int)) : ∀ i : Nat, i ≤ 8 → hrK b l i = hrK a l i
  | 0, _ => rfl
  | i + 1, hi => by rw [hrK_s, hrK_s, h.hrK hm l i (by omega), h.nx hm (by omega), h.n (by omega)]
theorem sE.hrN {a b : MM} (h : sE a b) (hm : rMany a) : ∀ i : Nat, i ≤ 8 → hrN b i = hrN a i
  | 0, _ => rfl
  | i + 1, hi => by rw [hrN_s, hrN_s, h.hrN hm i (by omega), h.nx hm (by omega)]
def hoursS : Nat → MM → MM
  | 0, m => m
  | n + 1, m => hourM (hoursS n m)
theorem hoursS_hh (m : MM) : ∀ n : Nat, hhE m (hoursS n m)
  | 0 => hhE.refl m
  | n + 1 => (hoursS_hh m n).trans (hhE.hour _)
theorem hhE.many {a b : MM} (h : hhE a b) (hm : rMany a) : rMany b := by
  unfold rMany
  rw [h.at (by omega), h.at (c := 1038) (by omega), h.at (c := 1038) (by omega), h.at (c := 1038) (by omega), h.at (c := 1038) (by omega)]
  exact hm
theorem hhE.cAt {a b : MM} (h : hhE a b) {w : Nat} {cs : List Int} (hc : codesAt a w cs) : codesAt b w cs := by
  unfold codesAt
  rw [h.at (c := 1044) (by omega), h.at (c := 1045) (by omega)]
  obtain ⟨h1, h2, h3, h4⟩ := hc
  exact ⟨h1, h2, h3, fun i hi => by rw [h.at (by omega)]; exact h4 i hi⟩
theorem hhE.cO1 {a b : MM} (h : hhE a b) {w : Nat} {ty : Bool} (hc : cOK1 a w ty) : cOK1 b w ty := by
  intro q
  rw [h.at (by omega)] at q
  obtain ⟨h1, h2, h3⟩ := hc q
  rw [h.cs]
  exact ⟨h.cAt h1, h2, h3⟩
theorem hhE.cO {a b : MM} (h : hhE a b) (hc : cOK a) : cOK b := ⟨h.cO1 hc.1, h.cO1 hc.2⟩
theorem hhE.nTh {a b : MM} (h : hhE a b) : things b = things a := by unfold things; rw [h.at (by omega)]
theorem okN.hour {m : MM} (h : okN m) (hm : rMany m) (hb : mi m 1051 0 < 2000) : okN (hourM m) := by
  obtain ⟨h1, h2, h3, h4⟩ := id h
  refine ⟨by rw [hourM_0 h]; omega, fun t ht => ?_, by rw [hourM_mo m (by omega)]; exact h3, fun t ht => ?_⟩
  · rw [hourM_st ht, hourM_sm ht]
    exact ⟨stI_b h _ ht, smI_b h _ ht⟩
  · rw [hourM_mo m (by omega)] at ht
    rw [hourM_mo m (by omega), hourM_mo m (by omega)]
    exact h4 t ht
theorem hoursS_ok {m : MM} (h : okN m) (hm : rMany m) : ∀ n : Nat, mi m 1051 0 + n ≤ 2000 → okN (hoursS n m) ∧ mi (hoursS n m) 1051 0 = mi m 1051 0 + n
  | 0, _ => ⟨h, (Int.add_zero _).symm⟩
  | n + 1, hn => by
    obtain ⟨h1, h2⟩ := hoursS_ok h hm n (by omega)
    refine ⟨h1.hour ((hoursS_hh m n).many hm) (by omega), ?_⟩
    show mi (hourM (hoursS n m)) 1051 0 = _
    rw [hourM_0 h1, h2]
    omega
theorem hoursS_lo {m : MM} {j : Nat} (h0 : 0 < j) (h : j < 14) : ∀ n : Nat, mi (hoursS n m) 1051 j = mi m 1051 j
  | 0 => rfl
  | n + 1 => (hourM_w h0 h).trans (hoursS_lo h0 h n)
def kN (m : MM) (l : List (Int × Int × Int)) : Nat → List (Int × Int × Int)
  | 0 => l
  | n + 1 => hrK (hoursS n m) (kN m l n) (things m)
def dN (m : MM) : Nat → Int
  | 0 => 0
  | n + 1 => dN m n + hrN (hoursS n m) (things m)
theorem dN_b {m : MM} (hm : rMany m) : ∀ n : Nat, 0 ≤ dN m n ∧ dN m n ≤ 8 * n
  | 0 => ⟨Int.le_refl _, Int.le_refl _⟩
  | n + 1 => by
    have h1 := dN_b hm n
    have h2 := hrN_b (hoursS n m) (things m)
    have h3 := hm.2.1
    have h4 : (things m : Int) ≤ 8 := by unfold things; omega
    show 0 ≤ dN m n + hrN (hoursS n m) (things m) ∧ dN m n + hrN (hoursS n m) (things m) ≤ 8 * ((n + 1 : Nat) : Int)
    omega
/-- the model's hours -/
theorem p_hours {m : MM} (h : rMany m) (hN : okN m) (hc : cOK m) {l : List (Int × Int × Int)} (hk : kpM l m) {n : Nat} (hn : mi m 1051 0 + n ≤ 2000) : pw (mf_hoursGo (iI n) m) (fun q => sE (hoursS n m) q.2 ∧ hE m q.2 ∧ kpM (thM m l (kN m l n)) q.2 ∧ q.2.1 2000 57 = iI (dN m n) ∧ (m.1 2000 56 ≠ 0 → ∀ j : Nat, 30 ≤ j → q.2.1 1051 j = m.1 1051 j)) := by
  have hb := h.2.1
  have h0 := hN.1
  have h8 : things m ≤ 8 := by unfold things; omega
  have e0 : ∀ l' : List (Int × Int × Int), thM m l l = l := fun _ => by unfold thM; split <;> rfl
  unfold mf_hoursGo ml_X6_hoursGo_7
  refine pw_let ?_
  refine pw_for (fun i q => q.1 = iI n ∧ q.2.1 = iI i ∧ sE (hoursS i m) q.2.2 ∧ hE m q.2.2 ∧ kpM (thM m l (kN m l i)) q.2.2 ∧ q.2.2.1 2000 57 = iI (dN m i) ∧ (m.1 2000 56 ≠ 0 → ∀ j : Nat, 30 ≤ j → q.2.2.1 1051 j = m.1 1051 j)) n ?_ ?_ ⟨rfl, rfl, fun c j k => ?_, ⟨fun c j k => ?_, fun _ _ _ => rfl⟩, ?_, ?_, fun _ j hj => ?_⟩
  · rintro i ⟨y1, y2, m'⟩ hi ⟨rfl, rfl, a1, a2, a3, a4, a5⟩
    dsimp only at a1 a2 a3 a4 a5 ⊢
    have hh := hoursS_hh m i
    obtain ⟨o1, o2⟩ := hoursS_ok hN h i (by omega)
    have hm' := a1.many (hh.many h)
    have hdb := dN_b h i
    unfold mb_X6_hoursGo_7
    refine pw_f (by rw [iI_le (by omega) (by omega)]; omega) ?_
    refine pw_bind (pw_mono (p_hour hm' (a1.oN o1) (a1.cO (hh.cO hc)) a3) ?_)
    rintro ⟨u, m3⟩ ⟨b1, b2, b3, b4, b5⟩
    dsimp only at b1 b2 b3 b4 b5 ⊢
    have et : things m' = things m := by rw [a1.nTh, hh.nTh]
    have e56 : m'.1 2000 56 = m.1 2000 56 := a2.1 _ _ (by omega)
    refine pw_let (pw_some ⟨rfl, ?_, (a1.hour (hh.many h)).trans b1, a2.trans b2, ?_, ?_, fun th j hj => ?_⟩)
    · dsimp only
      rw [iI_lit, iI_add]
      rfl
    · dsimp only
      have e9 : hrK m' (thM m l (kN m l i)) (things m') = hrK (hoursS i m) (thM m l (kN m l i)) (things m) := by rw [et, a1.hrK (hh.many h) _ _ h8]
      rw [e9] at b3
      unfold thM at b3 ⊢
      rw [e56] at b3
      by_cases th : m.1 2000 56 = 0
      · rw [if_pos th, if_pos th] at b3
        rw [if_pos th]
        exact b3
      · rw [if_neg th, if_neg th] at b3
        rw [if_neg th]
        exact b3
    · dsimp only
      rw [b4, et, a1.hrN (hh.many h) _ h8]
      have e7 : mi m' 2000 57 = dN m i := by
        unfold mi
        rw [a4]
        exact toInt_iI (by omega) (by omega)
      rw [e7]
      rfl
    · dsimp only
      rw [b5 (by rw [e56]; exact th) j hj]
      exact a5 th j hj
  · rintro ⟨y1, y2, m'⟩ ⟨rfl, rfl, a1, a2, a3, a4, a5⟩
    dsimp only at a1 a2 a3 a4 a5 ⊢
    unfold mb_X6_hoursGo_7
    exact pw_t (by rw [iI_le (by omega) (by omega)]; omega) (pw_some ⟨a1, a2, a3, a4, a5⟩)
  · show (msI m 2000 57 0).1 c j = m.1 c j
    rw [msI_i, if_neg (by unfold kyC at k; omega)]
  · show (msI m 2000 57 0).1 c j = m.1 c j
    rw [msI_i, if_neg (by omega)]
  · show kpM (thM m l l) (msI m 2000 57 0)
    rw [e0 l]
    obtain ⟨k1, k2, k3⟩ := hk
    refine ⟨k1, ?_, fun a b ha hb => ?_⟩
    · unfold mi; rw [msI_i, if_neg (by omega)]; exact k2
    · unfold mi; rw [msI_i, if_neg (by omega)]; exact k3 a b ha hb
  · rfl
  · show (msI m 2000 57 0).1 1051 j = m.1 1051 j
    rw [msI_i, if_neg (by omega)]
/-- the component's hours -/
theorem c_goesBy {m : MM} {μ : gM} {x : Nat} (hx : cSt x = true) (hl : cLay μ) (hN : okN m) (h : rHH m μ) (hT : rTree m μ) (hS : rSt m μ x) {l : List (Int × Int × Int)} (hk : kC l μ x) {n : Nat} (hn : mi m 1051 0 + n ≤ 2000) : pw (cf_X5_goesBy x (iI n) μ) (fun q => q.1 = iI (dN m n) ∧ rSt (hoursS n m) q.2 x ∧ kC (kN m l n) q.2 x ∧ cF x μ q.2) := by
  have h0 := hN.1
  unfold cf_X5_goesBy ml_X5_goesBy_4
  refine pw_for (fun (i : Nat) (q : Int32 × Int32 × Int32 × gM) => q.1 = iI n ∧ q.2.1 = iI (dN m i) ∧ q.2.2.1 = iI i ∧ rSt (hoursS i m) q.2.2.2 x ∧ kC (kN m l i) q.2.2.2 x ∧ cF x μ q.2.2.2) n ?_ ?_ ⟨rfl, rfl, rfl, hS, hk, cF.refl _ _⟩
  · rintro i ⟨y1, y2, y3, μ'⟩ hi ⟨rfl, rfl, rfl, a1, a2, a3⟩
    dsimp only at a1 a2 a3 ⊢
    have hh := hoursS_hh m i
    obtain ⟨o1, o2⟩ := hoursS_ok hN h.1 i (by omega)
    unfold mb_X5_goesBy_4
    refine pw_f (by rw [iI_le (by omega) (by omega)]; omega) ?_
    refine pw_bind (pw_mono (c_goes hx (a3.lay hx hl) o1 (h.mv hh (a3.dy hx) (a3.hh hx)) (hT.mv h hh (a3.dy hx) (a3.hh hx)) a1 a2) ?_)
    rintro ⟨r, μ3⟩ ⟨b1, b2, b3, b4⟩
    dsimp only at b1 b2 b3 b4 ⊢
    rw [hh.nTh] at b1 b3
    refine pw_let (pw_let (pw_some ⟨rfl, ?_, ?_, b2, b3, a3.trans b4⟩))
    · dsimp only
      rw [b1, iI_add]
      rfl
    · dsimp only
      rw [iI_lit, iI_add]
      rfl
  · rintro ⟨y1, y2, y3, μ'⟩ ⟨rfl, rfl, rfl, a1, a2, a3⟩
    dsimp only at a1 a2 a3 ⊢
    unfold mb_X5_goesBy_4
    exact pw_t (by rw [iI_le (by omega) (by omega)]; omega) (pw_some ⟨rfl, a1, a2, a3⟩)
