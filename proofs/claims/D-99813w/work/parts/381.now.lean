/-! ===== what is has changed ===== -/
def mN (m m' : MM) : Prop := (∀ c j : Nat, ¬ (c = 1051 ∨ scM c j) → m'.1 c j = m.1 c j) ∧ (∀ c j : Nat, c ≠ 1099 → m'.2 c j = m.2 c j) ∧ 0 ≤ mi m' 2000 53 ∧ mi m' 2000 53 ≤ 9
theorem mN.h {m m' : MM} (hN : okN m) (h : hE m m') : mN m m' := ⟨fun c j k => h.1 c j (by unfold scM at k; omega), h.2, by unfold mi; rw [h.1 _ _ (by omega)]; exact hN.2.2.1⟩
def cN (μ μ' : gM) : Prop := μ'.1 = μ.1 ∧ μ'.2.1 = μ.2.1 ∧ μ'.2.2.2.2.2 = μ.2.2.2.2.2 ∧ (∀ c j : Nat, c ≠ 1014 → gL μ' c j = gL μ c j) ∧ (∀ c j : Nat, ¬ (1027 ≤ c ∧ c < 1073) → gI μ' c j = gI μ c j) ∧ ∀ c j : Nat, c ≠ 1032 → gP μ' c j = gP μ c j
theorem cN.c {μ μ' : gM} (h : cF 1027 μ μ') : cN μ μ' := ⟨h.1, h.2.1, h.2.2.1, h.2.2.2.1, fun c j k => h.2.2.2.2.1 c j (by omega), h.2.2.2.2.2⟩
theorem cN.refl (μ : gM) : cN μ μ := ⟨rfl, rfl, rfl, fun _ _ _ => rfl, fun _ _ _ => rfl, fun _ _ _ => rfl⟩
theorem cN.trans {a b c : gM} (h1 : cN a b) (h2 : cN b c) : cN a c := ⟨h2.1.trans h1.1, h2.2.1.trans h1.2.1, h2.2.2.1.trans h1.2.2.1, fun u v k => (h2.2.2.2.1 u v k).trans (h1.2.2.2.1 u v k), fun u v k => (h2.2.2.2.2.1 u v k).trans (h1.2.2.2.2.1 u v k), fun u v k => (h2.2.2.2.2.2 u v k).trans (h1.2.2.2.2.2 u v k)⟩
theorem cN.dy {μ μ' : gM} (h : cN μ μ') : dyS μ μ' := ⟨h.1, h.2.1, h.2.2.1, fun c hc j => by
  have h1 : ¬ (1027 ≤ c ∧ c < 1073) := fun q => st_ks (x := 1027) (by decide) q.1 q.2 hc
  refine ⟨h.2.2.2.2.1 c j h1, h.2.2.2.1 c j (fun q => by subst q; revert hc; decide), h.2.2.2.2.2 c j (by omega)⟩⟩
theorem cN.lay {μ μ' : gM} (h : cN μ μ') (hl : cLay μ) : cLay μ' := by
  intro c hc
  obtain ⟨a1, a2, a3⟩ := hl c hc
  refine ⟨by rw [h.1]; exact a1, by rw [h.2.1]; exact a2, fun k hk => ?_⟩
  have hne : c ≠ 1032 := fun q => hk (by rw [q]; exact sr_5 (x := 1027) (by decide) k)
  exact (h.2.2.2.2.2 c k hne).trans (a3 k hk)
theorem rWd.now {m m' mS : MM} {μ μ' : gM} {l : List (Int × Int × Int)} (h : rWd m μ) (hm : mN m m') (hc : cN μ μ') (hs : sE mS m') (o1 : okN mS) (o2 : mi mS 1051 0 ≤ 999) (o3 : 0 ≤ mi mS 1051 1 ∧ mi mS 1051 1 < 8) (o4 : t01 mS) (hk : kpM l m') (h6 : rSt mS μ' 1027) (h8 : kC l μ' 1027) : rWd m' μ' := by
  obtain ⟨l0, h1, h2, h3, h4, h5⟩ := h
  obtain ⟨q1, q2, q3, q4, q5, q6, q7, q8, q9, q10, q11, q12, q13⟩ := h1
  have hh : hhE m m' := fun c j k => hm.1 c j (by unfold scM; omega)
  have hhS : hhE mS m' := hhE.of hs
  have hmS : rMany m' := hh.many q2.1
  have hP : gP μ' 1000 0 = gP μ 1000 0 := hc.2.2.2.2.2 _ _ (by omega)
  have e52 : m'.1 2000 52 = -1 := (hm.1 _ _ (by unfold scM; omega)).trans q12
  have e56 : m'.1 2000 56 = 0 := (hm.1 _ _ (by unfold scM; omega)).trans q13
  have hm0 : rMany mS := hs.symm.many hmS
  have b9 := hmS.2.2.2.1
  refine ⟨l, ⟨hc.lay q1, q2.mv hh hc.dy hP, q3.mv q2 hh hc.dy hP, hh.cO q4, hs.oN o1, ?_, hk, h8, q9.o (fun j => hc.2.2.2.2.2 _ _ (by omega)), by rw [hs.n (by omega)]; exact o2, by rw [hs.n (by omega)]; exact o3, e52, e56⟩, fun a b ha hb => ?_, fun k hk' => ?_, ?_, ?_, h5.2.mv hh ⟨fun c j a b k => hm.1 _ _ (by unfold scM; omega), fun j => hm.2.1 _ _ (by omega)⟩ hc.dy hP⟩
  · exact h6.sc hm0 (fun j => hhS _ _ (by omega)) (fun j hj => hs _ _ (by unfold kyC; omega)) (fun t => hs.heat t) (fun _ _ _ _ => rfl)
  · unfold ci
    rw [hh.at (by omega), hc.2.2.2.2.1 _ _ (by omega)]
    exact h2 a b ha hb
  · rw [hs.n (by omega)]
    exact o4 k (by rw [hhS.at (by omega)] at hk'; exact hk')
  · obtain ⟨w1, w2, w3⟩ := h4
    have e64 : m'.1 2000 64 = m.1 2000 64 := hm.1 _ _ (by unfold scM; omega)
    have e66 : ∀ j, m'.1 1066 j = m.1 1066 j := fun j => hm.1 _ _ (by unfold scM; omega)
    refine ⟨by rw [hc.2.2.2.2.1 _ _ (by omega), e64]; exact w1, by unfold mi; rw [e64]; exact w2, fun k hk => ?_⟩
    unfold mi at hk ⊢
    rw [e64] at hk
    rw [hc.2.2.2.2.1 _ _ (by omega), hc.2.2.2.2.1 _ _ (by omega), hc.2.2.2.2.1 _ _ (by omega), e66, e66, e66, hh _ _ (by omega)]
    exact w3 k hk
  · exact h5.1.mv q2.1 hh (fun j => hm.1 _ _ (by unfold scM; omega)) (hm.1 _ _ (by unfold scM; omega)) (hm.1 _ _ (by unfold scM; omega)) q12 e52 hm.2.2 (hc.2.2.2.2.1 _ _ (by omega)) (fun c j a b => hc.2.2.2.2.1 _ _ (by omega)) (fun c j a => hc.2.2.2.2.2 _ _ (by omega))
