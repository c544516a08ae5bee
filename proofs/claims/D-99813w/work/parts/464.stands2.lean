/-! ===== the model's household that stands ===== -/
def cdS (m : MM) (x : Nat) (o : Option (List Int)) : Prop := match o with
  | none => m.1 1044 (2 + x) = -1
  | some cs => ∃ f : Nat, m.1 1044 (2 + x) = iI f ∧ m.1 1045 (2 + x) = iI ((f + cs.length : Nat) : Int) ∧ f + cs.length ≤ 1600 ∧ ∀ j : Nat, j < cs.length → m.1 1046 (1600 + (f + j)) = iI (cs.getD j 0)
def hsS (m : MM) (h : HS) : Prop := (m.1 1038 6 = iI h.nh ∧ m.1 1038 7 = iI h.nt ∧ m.1 1038 8 = iI h.nd ∧ m.1 1038 9 = iI h.ni ∧ m.1 1038 11 = iI h.dg) ∧ ((∀ k : Nat, k < h.nh → m.2 1039 (16 + k) = lL (nmV (h.hn k))) ∧ ∀ k : Nat, k < h.nt → m.2 1039 (24 + k) = lL (nmV (h.tn k))) ∧ (∀ k : Nat, k < h.nt → m.1 1041 (16 + 2 * k) = iI (h.tv k).1 ∧ m.1 1041 (17 + 2 * k) = iI (h.tv k).2.2) ∧ (∀ k : Nat, k < h.ni → m.1 1043 (24 + 2 * k) = iI (h.iv k).1 ∧ m.1 1043 (25 + 2 * k) = iI (h.iv k).2) ∧ cdS m 0 h.bu ∧ cdS m 1 h.mn
def nwS (m : MM) (h : HS) : Prop := m.1 1051 0 = 0 ∧ m.1 1051 1 = iI h.st ∧ (∀ k : Nat, k < h.ni → m.1 1051 (2 + k) = 1) ∧ (∀ k : Nat, k < h.nt → m.1 1051 (14 + 2 * k) = iI (h.tv k).2.1) ∧ (∀ k : Nat, h.nt ≤ k → k < 8 → m.1 1051 (14 + 2 * k) = 0) ∧ (∀ k : Nat, k < 8 → m.1 1051 (15 + 2 * k) = 0) ∧ m.1 1051 30 = 0 ∧ m.1 2000 68 = 0 ∧ m.1 2000 64 = 0 ∧ ∀ a : Nat, a < 8 → rowG h a (wayM m a)
def stX (c j : Nat) : Prop := (c = 1038 ∧ 6 ≤ j) ∨ (c = 1041 ∧ 16 ≤ j) ∨ (c = 1043 ∧ 24 ≤ j) ∨ ((c = 1044 ∨ c = 1045) ∧ 2 ≤ j) ∨ (c = 1046 ∧ 1600 ≤ j) ∨ c = 1051 ∨ c = 1050 ∨ (c = 2000 ∧ (j = 68 ∨ j = 64))
def stF (m m' : MM) : Prop := (∀ c j : Nat, ¬ stX c j → m'.1 c j = m.1 c j) ∧ ∀ c j : Nat, ¬ (c = 1039 ∧ 16 ≤ j) → m'.2 c j = m.2 c j
theorem p_stands {m : MM} {h : HS} {C : Nat} (ho : hsOK h) (hM : hsM m h C) (hC : C ≤ 1600) : pw (mf_stands m) (fun q => hsS q.2 h ∧ nwS q.2 h ∧ stF m q.2) := by
  have h8 := ho.nh8
  have h9 := ho.nt8
  have h12 := ho.ni12
  have hd12 := ho.nd12
  unfold mf_stands
  refine p_st2 (Q0 := ()) (fun m1 a1 a2 a3 => ?_)
  refine p_st31 (Q0 := ()) (fun m2 b1 b2 b3 b4 => ?_)
  refine p_st72 (Q0 := ()) (fun m3 c1 c2 c3 c4 => ?_)
  refine p_st116 (Q0 := ()) (fun m4 d1 d2 d3 => ?_)
  have e46 : m4.1 2000 46 = iI C := by rw [d1 _ _ (by omega), c1 _ _ (by omega), b1 _ _ (by omega), a1 _ _ (by omega)]; exact hM.cC
  refine p_st145 (C := C) e46 hC (fun m5 e1 e2 e3 => ?_)
  refine p_st177 (fun m6 f1 f2 f3 f4 => ?_)
  have low : ∀ c j : Nat, ¬ stX c j → m6.1 c j = m.1 c j := fun c j k => by
    unfold stX at k
    rw [f1 _ _ (by omega), e1 _ _ (by omega), d1 _ _ (by omega), c1 _ _ (by omega), b1 _ _ (by omega), a1 _ _ (by omega)]
  refine p_st211 (ni := h.ni) h12 ((low _ _ (by unfold stX; omega)).trans hM.c3) (fun m7 g1 g2 g3 => ?_)
  refine p_st238 (nt := h.nt) ho h9 (((g1 _ _ (by omega)).trans (low _ _ (by unfold stX; omega))).trans hM.c1) ⟨((g1 _ _ (by omega)).trans (low _ _ (by unfold stX; omega))).trans hM.c2, fun k hk => ⟨((g1 _ _ (by omega)).trans (low _ _ (by unfold stX; omega))).trans (hM.fD k hk).1, ((g1 _ _ (by omega)).trans (low _ _ (by unfold stX; omega))).trans (hM.fD k hk).2.1, ((g1 _ _ (by omega)).trans (low _ _ (by unfold stX; omega))).trans (hM.fD k hk).2.2⟩⟩ (fun m8 i1 i2 i3 i4 i5 i6 i7 => ?_)
  -- down to what each loop left
  have t1 : ∀ c j : Nat, c ≠ 1051 → c ≠ 1050 → ¬ (c = 2000 ∧ (j = 68 ∨ j = 64)) → m8.1 c j = m5.1 c j := fun c j k1 k2 k3 => by rw [i1 _ _ (by omega), g1 _ _ (by omega), f1 _ _ (by omega)]
  have L : m8.2 = m3.2 := by rw [i2, g2, f2, e2, d2]
  have m1038 : ∀ k : Nat, k < 6 → m8.1 1038 (6 + k) = m.1 1038 k := fun k hk => by
    rw [t1 _ _ (by omega) (by omega) (by omega), e1 _ _ (by omega), d1 _ _ (by omega), c1 _ _ (by omega), b1 _ _ (by omega)]
    exact a3 k hk
  have m1044 : ∀ k : Nat, k < 2 → m8.1 1044 (2 + k) = m.1 1044 k ∧ m8.1 1045 (2 + k) = m.1 1045 k := fun k hk => by
    refine ⟨?_, ?_⟩
    · rw [t1 _ _ (by omega) (by omega) (by omega), e1 _ _ (by omega), d1 _ _ (by omega), c1 _ _ (by omega), b3 k hk]
      exact a1 _ _ (by omega)
    · rw [t1 _ _ (by omega) (by omega) (by omega), e1 _ _ (by omega), d1 _ _ (by omega), c1 _ _ (by omega), b4 k hk]
      exact a1 _ _ (by omega)
  have m1041 : ∀ k : Nat, k < 16 → m8.1 1041 (16 + k) = m.1 1041 k := fun k hk => by
    rw [t1 _ _ (by omega) (by omega) (by omega), e1 _ _ (by omega), d1 _ _ (by omega), c4 k hk, b1 _ _ (by omega), a1 _ _ (by omega)]
  have m1039 : ∀ k : Nat, k < 16 → m8.2 1039 (16 + k) = m.2 1039 k := fun k hk => by
    rw [L, c3 k hk, b2, a2]
  have m1043 : ∀ k : Nat, k < 24 → m8.1 1043 (24 + k) = m.1 1043 k := fun k hk => by
    rw [t1 _ _ (by omega) (by omega) (by omega), e1 _ _ (by omega), d3 k hk, c1 _ _ (by omega), b1 _ _ (by omega), a1 _ _ (by omega)]
  have m1046 : ∀ k : Nat, k < C → m8.1 1046 (1600 + k) = m.1 1046 k := fun k hk => by
    rw [t1 _ _ (by omega) (by omega) (by omega), e3 k hk, d1 _ _ (by omega), c1 _ _ (by omega), b1 _ _ (by omega), a1 _ _ (by omega)]
  have cd : ∀ (x : Nat) (o : Option (List Int)), x < 2 → cdM m x o C → cdS m8 x o := fun x o hx ho => by
    cases o with
    | none => exact (m1044 x hx).1.trans ho
    | some cs =>
      obtain ⟨f, q1, q2, q3, q4⟩ := ho
      exact ⟨f, (m1044 x hx).1.trans q1, (m1044 x hx).2.trans q2, by omega, fun j hj => (m1046 (f + j) (by omega)).trans (q4 j hj)⟩
  have n1051 : ∀ k : Nat, k < 151 → k ≠ 1 → ¬ (2 ≤ k ∧ k < 2 + h.ni) → m7.1 1051 k = 0 := fun k hk h1 h2 => by
    rw [g1 _ _ (by omega)]
    exact f3 k hk h1
  refine ⟨⟨⟨(m1038 0 (by omega)).trans hM.c0, (m1038 1 (by omega)).trans hM.c1, (m1038 2 (by omega)).trans hM.c2, (m1038 3 (by omega)).trans hM.c3, (m1038 5 (by omega)).trans hM.c5⟩, ⟨fun k hk => (m1039 k (by omega)).trans (hM.nH k hk), fun k hk => ?_⟩, fun k hk => ⟨(m1041 (2 * k) (by omega)).trans (hM.fT k hk).1, ?_⟩, fun k hk => ⟨(m1043 (2 * k) (by omega)).trans (hM.fI k hk).1, ?_⟩, cd 0 _ (by omega) hM.b0, cd 1 _ (by omega) hM.b1⟩, ⟨?_, ?_, fun k hk => ?_, fun k hk => ?_, fun k k1 k2 => ?_, fun k hk => ?_, ?_, i5, i6, i7⟩, ⟨fun c j k => ?_, fun c j k => ?_⟩⟩
  · rw [show 24 + k = 16 + (8 + k) by omega]; exact (m1039 (8 + k) (by omega)).trans (hM.nT k hk)
  · rw [show 17 + 2 * k = 16 + (2 * k + 1) by omega]; exact (m1041 (2 * k + 1) (by omega)).trans (hM.fT k hk).2.1
  · rw [show 25 + 2 * k = 24 + (2 * k + 1) by omega]; exact (m1043 (2 * k + 1) (by omega)).trans (hM.fI k hk).2
  · rw [i1 _ _ (by omega)]; exact n1051 0 (by omega) (by omega) (by omega)
  · rw [i1 _ _ (by omega), g1 _ _ (by omega), f4, e1 _ _ (by omega), d1 _ _ (by omega), c1 _ _ (by omega), b1 _ _ (by omega), a1 _ _ (by omega)]; exact hM.c4
  · rw [i1 _ _ (by omega)]; exact g3 k hk
  · rw [i3 k hk, g1 _ _ (by omega), low _ _ (by unfold stX; omega)]; exact (hM.fT k hk).2.2
  · rw [i4 _ (by omega) (by omega) (fun k' hk' => by omega)]; exact n1051 _ (by omega) (by omega) (by omega)
  · rw [i4 _ (by omega) (by omega) (fun k' hk' => by omega)]; exact n1051 _ (by omega) (by omega) (by omega)
  · rw [i1 _ _ (by omega)]; exact n1051 30 (by omega) (by omega) (by omega)
  · unfold stX at k
    rw [i1 _ _ (by omega), g1 _ _ (by omega)]
    exact low c j (by unfold stX; omega)
  · rw [L, c2 _ _ (by omega), b2, a2]
