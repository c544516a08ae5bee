/-! ===== the desk: tape, faults, refusals, seeds, what is written out ===== -/
def dkM (c j : Nat) : Prop := c = 1001 ∨ c = 1010 ∨ c = 1103 ∨ (c = 2000 ∧ (j = 1 ∨ j = 7 ∨ j = 8 ∨ j = 103))
def mD (m m' : MM) : Prop := (∀ c j : Nat, ¬ dkM c j → m'.1 c j = m.1 c j) ∧ ∀ c j : Nat, ¬ (c = 2000 ∧ j = 70) → m'.2 c j = m.2 c j
def dkC (c j : Nat) : Prop := c = 1010 ∨ c = 1017 ∨ c = 2368 ∨ (c = 1000 ∧ (j = 2 ∨ j = 3 ∨ j = 4 ∨ j = 27))
def cD (μ μ' : gM) : Prop := μ'.1 = μ.1 ∧ μ'.2.1 = μ.2.1 ∧ μ'.2.2.2.2.2 = μ.2.2.2.2.2 ∧ (∀ c j : Nat, ¬ dkC c j → gI μ' c j = gI μ c j) ∧ (∀ c j : Nat, ¬ (c = 1000 ∧ j = 24) → gL μ' c j = gL μ c j) ∧ ∀ c j : Nat, gP μ' c j = gP μ c j
theorem mD.refl (m : MM) : mD m m := ⟨fun _ _ _ => rfl, fun _ _ _ => rfl⟩
theorem mD.trans {a b c : MM} (h1 : mD a b) (h2 : mD b c) : mD a c := ⟨fun x y k => (h2.1 x y k).trans (h1.1 x y k), fun x y k => (h2.2 x y k).trans (h1.2 x y k)⟩
theorem cD.refl (μ : gM) : cD μ μ := ⟨rfl, rfl, rfl, fun _ _ _ => rfl, fun _ _ _ => rfl, fun _ _ => rfl⟩
theorem cD.trans {a b c : gM} (h1 : cD a b) (h2 : cD b c) : cD a c := ⟨h2.1.trans h1.1, h2.2.1.trans h1.2.1, h2.2.2.1.trans h1.2.2.1, fun u v k => (h2.2.2.2.1 u v k).trans (h1.2.2.2.1 u v k), fun u v k => (h2.2.2.2.2.1 u v k).trans (h1.2.2.2.2.1 u v k), fun u v => (h2.2.2.2.2.2 u v).trans (h1.2.2.2.2.2 u v)⟩
theorem mD.sI {m : MM} {c j : Nat} {v : Int32} (h : dkM c j) : mD m (msI m c j v) := ⟨fun c' j' k => by
  rw [msI_i, if_neg]
  rintro ⟨rfl, rfl⟩
  exact k h, fun _ _ _ => rfl⟩
theorem cD.sI {μ : gM} {c j : Nat} {v : Int32} (h : dkC c j) : cD μ (gz_sI μ c j v) := ⟨rfl, rfl, rfl, fun c' j' k => by
  rw [sI_i, if_neg]
  rintro ⟨rfl, rfl⟩
  exact k h, fun _ _ _ => rfl, fun _ _ => rfl⟩
theorem mD.s {m m' : MM} (h : mD m m') : sE m m' := fun c j k => h.1 c j (by unfold kyC at k; unfold dkM; omega)
theorem cD.dy {μ μ' : gM} (h : cD μ μ') : dyS μ μ' := ⟨h.1, h.2.1, h.2.2.1, fun c hc j => by
  have n1 : c ≠ 1010 := fun q => by subst q; revert hc; decide
  have n2 : c ≠ 1017 := fun q => by subst q; revert hc; decide
  have n3 : c ≠ 2368 := fun q => by subst q; revert hc; decide
  have n4 : c ≠ 1000 := fun q => by subst q; revert hc; decide
  exact ⟨h.2.2.2.1 c j (by unfold dkC; omega), h.2.2.2.2.1 c j (by omega), h.2.2.2.2.2 c j⟩⟩
theorem cD.lay {μ μ' : gM} (h : cD μ μ') (hl : cLay μ) : cLay μ' := by
  have hP : μ'.2.2.2.2.1 = μ.2.2.2.2.1 := funext fun c => funext fun j => h.2.2.2.2.2 c j
  unfold cLay
  rw [h.1, h.2.1, hP]
  exact hl
theorem rCo.dk {l : List (Int × Int × Int)} {m m' : MM} {μ μ' : gM} (h : rCo l m μ) (hm : mD m m') (hc : cD μ μ') : rCo l m' μ' := by
  obtain ⟨h1, h2, h3, h4, h5, h6, h7, h8, h9, h10, h11, h12, h13⟩ := h
  have hs := hm.s
  have hh := hhE.of hs
  have hP : gP μ' 1000 0 = gP μ 1000 0 := hc.2.2.2.2.2 _ _
  have e52 : m'.1 2000 52 = m.1 2000 52 := hm.1 _ _ (by unfold dkM; omega)
  have e56 : m'.1 2000 56 = m.1 2000 56 := hm.1 _ _ (by unfold dkM; omega)
  refine ⟨hc.lay h1, h2.mv hh hc.dy hP, h3.mv h2 hh hc.dy hP, hh.cO h4, hs.oN h5, ?_, h7.sc (fun j _ => hm.1 _ _ (by unfold dkM; omega)), ?_, h9.o (fun j => hc.2.2.2.2.2 _ _), by rw [hs.n (by omega)]; exact h10, by rw [hs.n (by omega)]; exact h11, e52.trans h12, e56.trans h13⟩
  · exact h6.sc h2.1 (fun j => hh _ _ (by omega)) (fun j _ => hm.1 _ _ (by unfold dkM; omega)) (fun t => hs.heat t) (fun c j a b => hc.2.2.2.1 c j (by unfold dkC; omega))
  · exact h8.sc (hc.2.2.2.1 _ _ (by unfold dkC; omega)) (fun j => hc.2.2.2.2.2 _ _) (fun c j a b => hc.2.2.2.1 c j (by unfold dkC; omega))
def rDk (n : Nat) (m : MM) (μ : gM) : Prop := rTape n m μ ∧ rFault m μ ∧ rRef m μ ∧ rSeed m μ ∧ rOut m μ
/-- what both do on the desk -/
def eD {α : Type} (n : Nat) (o1 : Option (α × MM)) (o2 : Option (α × gM)) (m : MM) (μ : gM) : Prop := ∃ (r : α) (m' : MM) (μ' : gM), o1 = some (r, m') ∧ o2 = some (r, μ') ∧ mD m m' ∧ cD μ μ' ∧ rDk n m' μ'
theorem rDk.up {n : Nat} {m : MM} {μ : gM} (h : rDk n m μ) : rDk (n + 1) m μ := ⟨⟨h.1.1, h.1.2.1, h.1.2.2.1, by have := h.1.2.2.2; omega⟩, h.2⟩
theorem rDk.sc {n : Nat} {m m' : MM} {μ μ' : gM} (h : rDk n m μ) (hm : mSc m m') (hc : cSc μ μ') : rDk n m' μ' := by
  obtain ⟨⟨a1, a2, a3, a4⟩, ⟨b1, b2⟩, c, ⟨d1, d2, d3⟩, ⟨e1, e2, e3, e4⟩⟩ := h
  have mm : ∀ c j, ¬ scM c j → m'.1 c j = m.1 c j := hm.1
  have cc : ∀ c j, ¬ scC c j → gI μ' c j = gI μ c j := hc.2.2.2.1
  have m1 : ∀ j, m'.1 1001 j = m.1 1001 j := fun j => mm _ _ (by unfold scM; omega)
  have t1 : m'.1 2000 1 = m.1 2000 1 := mm _ _ (by unfold scM; omega)
  have o1 : m'.1 2000 103 = m.1 2000 103 := mm _ _ (by unfold scM; omega)
  have s1 : m'.2 2000 70 = m.2 2000 70 := hm.2.1 _ _ (by omega)
  refine ⟨⟨fun k hk => ?_, ?_, ?_, ?_⟩, ⟨?_, ?_⟩, fun k hk => ?_, ⟨?_, ?_, ?_⟩, ⟨?_, ?_, ?_, fun k hk => ?_⟩⟩
  · unfold mi
    rw [cc _ _ (by unfold scC; omega), m1]
    exact a1 k hk
  · unfold ci mi
    rw [cc _ _ (by unfold scC; omega), t1]
    exact a2
  · unfold mi; rw [t1]; exact a3
  · unfold mi; rw [t1]; exact a4
  · rw [cc _ _ (by unfold scC; omega), mm _ _ (by unfold scM; omega)]; exact b1
  · rw [cc _ _ (by unfold scC; omega), mm _ _ (by unfold scM; omega)]; exact b2
  · rw [cc _ _ (by unfold scC; omega), mm _ _ (by unfold scM; omega)]; exact c k hk
  · rw [hc.2.2.2.2.1 _ _ (by omega) (by omega), s1]; exact d1
  · unfold ml; rw [s1]; exact d2
  · unfold ml; rw [s1]; exact d3
  · rw [cc _ _ (by unfold scC; omega), o1]; exact e1
  · unfold mi; rw [o1]; exact e2
  · unfold mi; rw [o1]; exact e3
  · unfold mi at hk
    rw [o1] at hk
    rw [cc _ _ (by unfold scC; omega), mm _ _ (by unfold scM; omega)]
    exact e4 k hk
/-- a refusal is counted -/
theorem rDk.ref {n : Nat} {m : MM} {μ : gM} (h : rDk n m μ) {k : Nat} (hk : k < 6) : rDk n (msI m 1010 k (m.1 1010 k + 1)) (gz_sI μ 1017 k (gI μ 1017 k + 1)) := by
  obtain ⟨⟨a1, a2, a3, a4⟩, ⟨b1, b2⟩, c, ⟨d1, d2, d3⟩, ⟨e1, e2, e3, e4⟩⟩ := h
  have mm : ∀ c j, c ≠ 1010 → (msI m 1010 k (m.1 1010 k + 1)).1 c j = m.1 c j := fun c j hc => by rw [msI_i, if_neg (fun z => hc z.1)]
  have cc : ∀ c j, c ≠ 1017 → gI (gz_sI μ 1017 k (gI μ 1017 k + 1)) c j = gI μ c j := fun c j hc => by rw [sI_i, if_neg (fun z => hc z.1)]
  refine ⟨⟨fun i hi => ?_, ?_, ?_, ?_⟩, ⟨?_, ?_⟩, fun i hi => ?_, ⟨d1, d2, d3⟩, ⟨?_, ?_, ?_, fun i hi => ?_⟩⟩
  · unfold mi; rw [cc _ _ (by omega), mm _ _ (by omega)]; exact a1 i hi
  · unfold ci mi; rw [cc _ _ (by omega), mm _ _ (by omega)]; exact a2
  · unfold mi; rw [mm _ _ (by omega)]; exact a3
  · unfold mi; rw [mm _ _ (by omega)]; exact a4
  · rw [cc _ _ (by omega), mm _ _ (by omega)]; exact b1
  · rw [cc _ _ (by omega), mm _ _ (by omega)]; exact b2
  · rw [sI_i, msI_i]
    by_cases q : i = k
    · rw [if_pos ⟨rfl, q⟩, if_pos ⟨rfl, q⟩, c k hk]
    · rw [if_neg (fun z => q z.2), if_neg (fun z => q z.2)]
      exact c i hi
  · rw [cc _ _ (by omega), mm _ _ (by omega)]; exact e1
  · unfold mi; rw [mm _ _ (by omega)]; exact e2
  · unfold mi; rw [mm _ _ (by omega)]; exact e3
  · unfold mi at hi
    rw [mm _ _ (by omega)] at hi
    rw [cc _ _ (by omega), mm _ _ (by omega)]
    exact e4 i hi
theorem c_refuses (μ : gM) {k : Nat} (hk : k < 6) : cf_X0_refuses (iI k) μ = some (-1, gz_sI μ 1017 k (gI μ 1017 k + 1)) := by
  have gk : gz_ix (iI (k : Int)) = k := by rw [gix (by omega)]; omega
  have ik : gz_in (iI (k : Int)) 6 := (gin_iI (by omega)).2 (by omega)
  unfold cf_X0_refuses
  rw [gk, if_pos ik, if_pos ik]
  rfl
theorem p_refuses (m : MM) {k : Nat} (hk : k < 6) : mf_refuses (iI k) m = some (-1, msI m 1010 k (m.1 1010 k + 1)) := by
  have gk : gz_ix (iI (k : Int)) = k := by rw [gix (by omega)]; omega
  have ik : gz_in (iI (k : Int)) 6 := (gin_iI (by omega)).2 (by omega)
  unfold mf_refuses
  rw [gk, if_pos ik, if_pos ik]
  rfl
theorem e_end {n : Nat} {m : MM} {μ : gM} (h : rDk n m μ) (x : Int32) : eD n (mf_end x m) (cf_X0_end x μ) m μ := by
  obtain ⟨z, hz, rfl⟩ := iI_ex x
  have hR := h
  obtain ⟨⟨a1, a2, a3, a4⟩, ⟨b1, b2⟩, c, ⟨d1, d2, d3⟩, ⟨e1, e2, e3, e4⟩⟩ := h
  have et : gI μ 1000 2 = m.1 2000 1 := by rw [ci_of, a2, mi_of m]
  have r1 := mi_r m 2000 1
  have no : eD n (mj_X6_end_12 m) (mj_X0_end_12 μ) m μ := by
    have g0 : gz_ix (0 : Int32) = 0 := by decide
    refine ⟨0, msI m 1010 0 (m.1 1010 0 + 1), gz_sI μ 1017 0 (gI μ 1017 0 + 1), ?_, ?_, mD.sI (by unfold dkM; omega), cD.sI (by unfold dkC; omega), hR.ref (by omega)⟩
    · unfold mj_X6_end_12
      rw [if_pos (by decide), if_pos (by decide), g0]
      rfl
    · have := c_refuses μ (k := 0) (by omega)
      unfold mj_X0_end_12
      rw [show cf_X0_refuses (0 : Int32) μ = _ from this]
      rfl
  have cz : (iI z < (0 : Int32)) = (z < 0) := by rw [iI_lit, iI_lt hz (by omega)]
  have ct : (iI z ≤ m.1 2000 1) = (z ≤ mi m 2000 1) := by rw [mi_of m, iI_le hz r1]
  unfold mf_end cf_X0_end
  rw [et]
  by_cases q : z < 0
  · rw [if_pos (show iI z < (0 : Int32) by rw [cz]; exact q), if_pos (show iI z < (0 : Int32) by rw [cz]; exact q)]
    exact no
  · rw [if_neg (show ¬ iI z < (0 : Int32) by rw [cz]; exact q), if_neg (show ¬ iI z < (0 : Int32) by rw [cz]; exact q)]
    by_cases q2 : z ≤ mi m 2000 1
    · rw [if_pos (show iI z ≤ m.1 2000 1 by rw [ct]; exact q2), if_pos (show iI z ≤ m.1 2000 1 by rw [ct]; exact q2)]
      refine ⟨1, msI m 2000 1 (iI z), gz_sI μ 1000 2 (iI z), rfl, rfl, mD.sI (by unfold dkM; omega), cD.sI (by unfold dkC; omega), ⟨fun k hk => ?_, ?_, ?_, ?_⟩, ⟨?_, ?_⟩, fun k hk => ?_, ⟨d1, d2, d3⟩, ⟨?_, ?_, ?_, fun k hk => ?_⟩⟩
      · unfold mi; rw [sI_i, if_neg (by omega), msI_i, if_neg (by omega)]; exact a1 k hk
      · rw [ci_sI _ _ _ _ _ hz, if_pos ⟨rfl, rfl⟩, mi_sI _ _ _ _ _ hz, if_pos ⟨rfl, rfl⟩]
      · rw [mi_sI _ _ _ _ _ hz, if_pos ⟨rfl, rfl⟩]; omega
      · rw [mi_sI _ _ _ _ _ hz, if_pos ⟨rfl, rfl⟩]; omega
      · rw [sI_i, if_neg (by omega), msI_i, if_neg (by omega)]; exact b1
      · rw [sI_i, if_neg (by omega), msI_i, if_neg (by omega)]; exact b2
      · rw [sI_i, if_neg (by omega), msI_i, if_neg (by omega)]; exact c k hk
      · rw [sI_i, if_neg (by omega), msI_i, if_neg (by omega)]; exact e1
      · rw [mi_sI _ _ _ _ _ hz, if_neg (by omega)]; exact e2
      · rw [mi_sI _ _ _ _ _ hz, if_neg (by omega)]; exact e3
      · rw [mi_sI _ _ _ _ _ hz, if_neg (by omega)] at hk
        rw [sI_i, if_neg (by omega), msI_i, if_neg (by omega)]
        exact e4 k hk
    · rw [if_neg (show ¬ iI z ≤ m.1 2000 1 by rw [ct]; exact q2), if_neg (show ¬ iI z ≤ m.1 2000 1 by rw [ct]; exact q2)]
      exact no
theorem e_seed {n : Nat} {m : MM} {μ : gM} (h : rDk n m μ) (x : Int32) : eD n (mf_seed x m) (cf_X0_seed x μ) m μ := by
  obtain ⟨z, hz, rfl⟩ := iI_ex x
  have hR := h
  obtain ⟨a, b, c, ⟨d1, d2, d3⟩, e⟩ := h
  have cz : ((0 : Int32) ≤ iI z) = (0 ≤ z) := by rw [iI_lit, iI_le (by omega) hz]
  unfold mf_seed cf_X0_seed
  by_cases q : 0 ≤ z
  · rw [if_pos (show (0 : Int32) ≤ iI z by rw [cz]; exact q), if_pos (show (0 : Int32) ≤ iI z by rw [cz]; exact q), i2l_iI hz]
    refine ⟨1, msL m 2000 70 (lL z), gz_sL μ 1000 24 (lL z), rfl, rfl, ⟨fun _ _ _ => rfl, fun c' j' k => by rw [msL_l, if_neg k]⟩, ⟨rfl, rfl, rfl, fun _ _ _ => rfl, fun c' j' k => by rw [sL_l, if_neg k], fun _ _ => rfl⟩, a, b, c, ⟨?_, ?_, ?_⟩, e⟩
    · rw [sL_l, msL_l, if_pos ⟨rfl, rfl⟩, if_pos ⟨rfl, rfl⟩]
    · rw [ml_sL _ _ _ _ _ (by omega), if_pos ⟨rfl, rfl⟩]; exact q
    · rw [ml_sL _ _ _ _ _ (by omega), if_pos ⟨rfl, rfl⟩]; omega
  · rw [if_neg (show ¬ (0 : Int32) ≤ iI z by rw [cz]; exact q), if_neg (show ¬ (0 : Int32) ≤ iI z by rw [cz]; exact q)]
    have g5 : gz_ix (5 : Int32) = 5 := by decide
    refine ⟨0, msI m 1010 5 (m.1 1010 5 + 1), gz_sI μ 1017 5 (gI μ 1017 5 + 1), ?_, ?_, mD.sI (by unfold dkM; omega), cD.sI (by unfold dkC; omega), hR.ref (by omega)⟩
    · rw [if_pos (by decide), if_pos (by decide), g5]
      rfl
    · have := c_refuses μ (k := 5) (by omega)
      rw [show cf_X0_refuses (5 : Int32) μ = _ from this]
      rfl
