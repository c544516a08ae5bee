/-! ===== what is being read does not touch what stands ===== -/
def rdX (c j : Nat) : Prop := (c = 1038 ∧ j < 6) ∨ c = 1040 ∨ (c = 1041 ∧ j < 16) ∨ c = 1042 ∨ (c = 1043 ∧ j < 24) ∨ ((c = 1044 ∨ c = 1045) ∧ j < 2) ∨ (c = 1046 ∧ j < 1600) ∨ c = 1055 ∨ c = 1093 ∨ c = 1095 ∨ (c = 2000 ∧ (j = 2 ∨ j = 3 ∨ j = 4 ∨ j = 5 ∨ j = 6 ∨ j = 10 ∨ j = 36 ∨ j = 46 ∨ j = 47 ∨ j = 48 ∨ j = 55 ∨ j = 93 ∨ j = 95 ∨ j = 96 ∨ j = 97 ∨ j = 99 ∨ j = 101))
section Rd
variable {a b : MM} {μ : gM}
theorem rd_mi (E : ∀ c j : Nat, ¬ rdX c j → b.1 c j = a.1 c j) (c j : Nat) (h : ¬ rdX c j) : mi b c j = mi a c j := congrArg Int32.toInt (E c j h)
theorem rd_HH (E : ∀ c j : Nat, ¬ rdX c j → b.1 c j = a.1 c j) : rHH b μ = rHH a μ := by
  unfold rHH rMany rLists rThings rTies
  simp (disch := (unfold rdX; omega)) only [rd_mi E]
theorem rd_cs (E : ∀ c j : Nat, ¬ rdX c j → b.1 c j = a.1 c j) (w : Nat) : csM b w = csM a w := by
  unfold csM
  simp (disch := (unfold rdX; omega)) only [rd_mi E]
theorem rd_Tree (E : ∀ c j : Nat, ¬ rdX c j → b.1 c j = a.1 c j) : rTree b μ = rTree a μ := by
  unfold rTree
  simp (disch := (unfold rdX; omega)) only [rd_mi E, rd_cs E]
theorem rd_cOK (E : ∀ c j : Nat, ¬ rdX c j → b.1 c j = a.1 c j) : cOK b = cOK a := by
  unfold cOK cOK1 codesAt
  simp (disch := (unfold rdX; omega)) only [rd_mi E, rd_cs E]
theorem rd_okN (E : ∀ c j : Nat, ¬ rdX c j → b.1 c j = a.1 c j) : okN b = okN a := by
  unfold okN
  simp (disch := (unfold rdX; omega)) only [rd_mi E]
theorem rd_heat (E : ∀ c j : Nat, ¬ rdX c j → b.1 c j = a.1 c j) (t : Nat) : heatS b t = heatS a t := by
  unfold heatS
  simp (disch := (unfold rdX; omega)) only [rd_mi E]
theorem rd_St (E : ∀ c j : Nat, ¬ rdX c j → b.1 c j = a.1 c j) (x : Nat) : rSt b μ x = rSt a μ x := by
  unfold rSt rTied
  simp (disch := (unfold rdX; omega)) only [rd_mi E, rd_heat E, E]
theorem rd_kpM (E : ∀ c j : Nat, ¬ rdX c j → b.1 c j = a.1 c j) (l : List (Int × Int × Int)) : kpM l b = kpM l a := by
  unfold kpM
  simp (disch := (unfold rdX; omega)) only [rd_mi E]
theorem rd_Co (E : ∀ c j : Nat, ¬ rdX c j → b.1 c j = a.1 c j) (l : List (Int × Int × Int)) : rCo l b μ = rCo l a μ := by
  unfold rCo
  simp (disch := (unfold rdX; omega)) only [rd_mi E, rd_HH E, rd_Tree E, rd_cOK E, rd_okN E, rd_St E, rd_kpM E, E]
theorem rd_Way (E : ∀ c j : Nat, ¬ rdX c j → b.1 c j = a.1 c j) : rWay b μ = rWay a μ := by
  unfold rWay
  simp (disch := (unfold rdX; omega)) only [rd_mi E]
theorem rd_t01 (E : ∀ c j : Nat, ¬ rdX c j → b.1 c j = a.1 c j) : t01 b = t01 a := by
  unfold t01
  simp (disch := (unfold rdX; omega)) only [rd_mi E]
theorem rd_Rows (E : ∀ c j : Nat, ¬ rdX c j → b.1 c j = a.1 c j) : rRows b μ = rRows a μ := by
  unfold rRows
  simp (disch := (unfold rdX; omega)) only [rd_mi E, E]
theorem rd_rng (E : ∀ c j : Nat, ¬ rdX c j → b.1 c j = a.1 c j) (p : Nat) : ∀ c j : Nat, ¬ rdX c j → (rngM b p).1 c j = (rngM a p).1 c j := fun c j h => by
  by_cases e : c = 1051
  · subst e
    rw [rngM_n, rngM_n]
    exact E _ _ (by unfold rdX; omega)
  · rw [rngM_o _ _ _ e, rngM_o _ _ _ e]
    exact E c j h
theorem rd_kpE (E : ∀ c j : Nat, ¬ rdX c j → b.1 c j = a.1 c j) (y : Nat) (l : List (Int × Int × Int)) : kpE b μ y l = kpE a μ y l := by
  unfold kpE
  simp (disch := (unfold rdX; omega)) only [rd_mi E, rd_okN E, rd_St E, rd_kpM E, rd_t01 E]
theorem rd_Und (E : ∀ c j : Nat, ¬ rdX c j → b.1 c j = a.1 c j) : rUnd b μ = rUnd a μ := by
  have K : ∀ (p y : Nat) (l : List (Int × Int × Int)), kpE (rngM b p) μ y l = kpE (rngM a p) μ y l := fun p y l => rd_kpE (rd_rng E p) y l
  unfold rUnd
  simp (disch := (unfold rdX; omega)) only [E, K]
theorem rd_Nm (E : ∀ c j : Nat, ¬ rdX c j → b.1 c j = a.1 c j) (EL : ∀ j : Nat, 16 ≤ j → b.2 1039 j = a.2 1039 j) (h : rNm a μ) : rNm b μ := by
  obtain ⟨h1, h2, h3, h4⟩ := h
  refine ⟨h1, h2.mv (fun c j k1 k2 k3 => E c j ?_), h3, fun μ' x y => ?_⟩
  · unfold rdX
    omega
  · obtain ⟨g1, g2, g3⟩ := h4 μ' x y
    have m6 := rd_mi E 1038 6 (by unfold rdX; omega)
    have m7 := rd_mi E 1038 7 (by unfold rdX; omega)
    refine ⟨by rw [rd_HH E]; exact g1, by rw [rd_Tree E]; exact g2, fun k hk => ?_, fun k hk => ?_⟩
    · rw [m6] at hk
      unfold ml
      rw [EL _ (by omega)]
      exact g3.1 k hk
    · rw [m7] at hk
      unfold ml
      rw [EL _ (by omega)]
      exact g3.2 k hk
end Rd
