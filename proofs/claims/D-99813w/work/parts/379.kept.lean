/-! ===== both remember ===== -/
theorem kpM.sc2 {l : List (Int × Int × Int)} {m m' : MM} (h : kpM l m) (hs : ∀ j : Nat, 30 ≤ j → j < 151 → m'.1 1051 j = m.1 1051 j) : kpM l m' := by
  obtain ⟨k1, k2, k3⟩ := h
  refine ⟨k1, ?_, fun a b ha hb => ?_⟩
  · unfold mi; rw [hs _ (by omega) (by omega)]; exact k2
  · unfold mi; rw [hs _ (by omega) (by omega)]; exact k3 a b ha hb
theorem kpE.mv2 {m m' : MM} {μ μ' : gM} {y y' : Nat} {l : List (Int × Int × Int)} (h : kpE m μ y l) (hm : rMany m) (hh : hhE m m') (hn : ∀ j : Nat, j < 151 → m'.1 1051 j = m.1 1051 j) (h53 : 0 ≤ mi m' 2000 53 ∧ mi m' 2000 53 ≤ 9) (hs : rSt m μ y → rSt m' μ' y') (hk : kC l μ y → kC l μ' y') : kpE m' μ' y' l := by
  obtain ⟨a1, a2, a3, a4, a5, a6, a7⟩ := h
  have n0 : ∀ j, j < 151 → mi m' 1051 j = mi m 1051 j := fun j hj => congrArg Int32.toInt (hn j hj)
  have b9 := hm.2.2.2.1
  refine ⟨hs a1, a2.sc2 (fun j _ hj => hn j hj), hk a3, ⟨?_, fun t ht => ?_, h53, fun t ht => ?_⟩, by rw [n0 _ (by omega)]; exact a5, by rw [n0 _ (by omega)]; exact a6, fun k hk => ?_⟩
  · rw [n0 _ (by omega)]; exact a4.1
  · rw [n0 _ (by omega), n0 _ (by omega)]; exact a4.2.1 t ht
  · rw [hh.at (by omega)] at ht
    rw [hh.at (by omega), hh.at (by omega)]
    exact a4.2.2.2 t ht
  · rw [hh.at (by omega)] at hk
    rw [n0 _ (by omega)]
    exact a7 k hk
def mK (m m' : MM) : Prop := (∀ c j : Nat, ¬ (c = 1068 ∨ (c = 2000 ∧ (j = 68 ∨ j = 69))) → m'.1 c j = m.1 c j) ∧ m'.2 = m.2
def cK (μ μ' : gM) : Prop := μ'.1 = μ.1 ∧ μ'.2.1 = μ.2.1 ∧ μ'.2.2.2.2.2 = μ.2.2.2.2.2 ∧ (∀ c j : Nat, gL μ' c j = gL μ c j) ∧ (∀ c j : Nat, ¬ ((c = 1000 ∧ j = 23) ∨ (1448 ≤ c ∧ c < 2368)) → gI μ' c j = gI μ c j) ∧ ∀ c j : Nat, c ≠ 1447 → gP μ' c j = gP μ c j
theorem mK.s {m m' : MM} (h : mK m m') : sE m m' := fun c j k => h.1 c j (by unfold kyC at k; omega)
theorem ks_kept : (List.range 2400).all (fun c => !(ks c == 0) || !(Nat.ble 1447 c && Nat.blt c 2368)) = true := by decide +kernel
theorem ks_k0 {c : Nat} (hc : ks c = 0) : ¬ (1447 ≤ c ∧ c < 2368) := by
  intro h
  have a := List.all_eq_true.mp ks_kept c (List.mem_range.mpr (by omega))
  rw [hc, Nat.ble_eq_true_of_le h.1, show Nat.blt c 2368 = true from Nat.ble_eq_true_of_le h.2] at a
  simp at a
theorem cK.dy {μ μ' : gM} (h : cK μ μ') : dyS μ μ' := ⟨h.1, h.2.1, h.2.2.1, fun c hc j => by
  have n1 := ks_k0 hc
  have n4 : c ≠ 1000 := fun q => by subst q; revert hc; decide
  exact ⟨h.2.2.2.2.1 c j (by omega), h.2.2.2.1 c j, h.2.2.2.2.2 c j (by omega)⟩⟩
theorem cK.lay {μ μ' : gM} (h : cK μ μ') (hl : cLay μ) : cLay μ' := by
  intro c hc
  obtain ⟨a1, a2, a3⟩ := hl c hc
  refine ⟨by rw [h.1]; exact a1, by rw [h.2.1]; exact a2, fun k hk => ?_⟩
  have hne : c ≠ 1447 := fun q => hk (by rw [q]; rfl)
  exact (h.2.2.2.2.2 c k hne).trans (a3 k hk)
theorem rCo.k {l : List (Int × Int × Int)} {m m' : MM} {μ μ' : gM} (h : rCo l m μ) (hm : mK m m') (hc : cK μ μ') : rCo l m' μ' := by
  obtain ⟨h1, h2, h3, h4, h5, h6, h7, h8, h9, h10, h11, h12, h13⟩ := h
  have hs := hm.s
  have hh := hhE.of hs
  have hP : gP μ' 1000 0 = gP μ 1000 0 := hc.2.2.2.2.2 _ _ (by omega)
  have e52 : m'.1 2000 52 = m.1 2000 52 := hm.1 _ _ (by omega)
  have e56 : m'.1 2000 56 = m.1 2000 56 := hm.1 _ _ (by omega)
  refine ⟨hc.lay h1, h2.mv hh hc.dy hP, h3.mv h2 hh hc.dy hP, hh.cO h4, hs.oN h5, ?_, h7.sc (fun j _ => hm.1 _ _ (by omega)), ?_, h9.o (fun j => hc.2.2.2.2.2 _ _ (by omega)), by rw [hs.n (by omega)]; exact h10, by rw [hs.n (by omega)]; exact h11, e52.trans h12, e56.trans h13⟩
  · exact h6.sc h2.1 (fun j => hh _ _ (by omega)) (fun j _ => hm.1 _ _ (by omega)) (fun t => hs.heat t) (fun c j a b => hc.2.2.2.2.1 c j (by omega))
  · exact h8.sc (hc.2.2.2.2.1 _ _ (by omega)) (fun j => hc.2.2.2.2.2 _ _ (by omega)) (fun c j a b => hc.2.2.2.2.1 c j (by omega))
