/-! ===== atoms ===== -/
def mkA (ask : Bool) : Int := if ask = true then 123 else 15
def alS (ask : Bool) (w : Int) : Prop := if ask = true then w ≠ 2 else w < 4
def prn (i : Nat) : Nat := if i = 4 then 6 else if i = 5 then 4 else if i = 6 then 5 else i
theorem prn_prt : ∀ i : Nat, i < 7 → prt (i : Int) = (prn i : Int) := by decide +kernel
theorem prn_b : ∀ i : Nat, i < 7 → prn i < 7 := by decide +kernel
theorem has15 : ∀ i : Nat, i < 7 → (((iI 15 >>> (iI (i : Int) &&& 31)) &&& (1 : Int32)) = (1 : Int32) ↔ prn i < 4) := by decide +kernel
theorem has123 : ∀ i : Nat, i < 7 → (((iI 123 >>> (iI (i : Int) &&& 31)) &&& (1 : Int32)) = (1 : Int32) ↔ prn i ≠ 2) := by decide +kernel
theorem prn4 : ∀ i : Nat, i < 7 → (prn i < 4 ↔ i < 4) := by decide +kernel
theorem prn2 : ∀ i : Nat, i < 7 → (prn i ≠ 2 ↔ i ≠ 2) := by decide +kernel
theorem c_hasA {ask : Bool} {i : Nat} (hi : i < 7) (m : gM) : cf_X0_has (iI (mkA ask)) (iI i) m = some (if qAl ask (prn i) then 1 else 0, m) := by
  unfold cf_X0_has mkA
  cases ask with
  | true =>
    have e : qAl true (prn i) ↔ prn i ≠ 2 := by unfold qAl; rw [if_pos rfl]
    rw [if_pos (show true = true from rfl)]
    by_cases d : prn i ≠ 2
    · rw [if_pos ((has123 i hi).2 d), if_pos (e.2 d)]
    · rw [if_neg (fun z => d ((has123 i hi).1 z)), if_neg (fun z => d (e.1 z))]
  | false =>
    have e : qAl false (prn i) ↔ prn i < 4 := by unfold qAl; rw [if_neg Bool.false_ne_true]
    rw [if_neg (show ¬ false = true from Bool.false_ne_true)]
    by_cases d : prn i < 4
    · rw [if_pos ((has15 i hi).2 d), if_pos (e.2 d)]
    · rw [if_neg (fun z => d ((has15 i hi).1 z)), if_neg (fun z => d (e.1 z))]
theorem qAl_alS {ask : Bool} {i : Nat} (hi : i < 7) (h : qAl ask (prn i)) : alS ask (i : Int) := by
  unfold alS
  cases ask with
  | true =>
    have e : qAl true (prn i) ↔ prn i ≠ 2 := by unfold qAl; rw [if_pos rfl]
    rw [if_pos rfl]
    have := (prn2 i hi).1 (e.1 h)
    omega
  | false =>
    have e : qAl false (prn i) ↔ prn i < 4 := by unfold qAl; rw [if_neg Bool.false_ne_true]
    rw [if_neg Bool.false_ne_true]
    have := (prn4 i hi).1 (e.1 h)
    omega
theorem sWd_asked : ∀ i : Nat, i < 7 → sWd (cASKED.getD i 0) = kW (prn i) := by decide +kernel
theorem sWd_looked : ∀ j : Nat, j < 2 → sWd (cLOOKED.getD j 0) = kW (7 + j) := by decide +kernel
theorem kW_asked : ∀ k : Nat, k < 7 → ∃ i, i < 7 ∧ sWd (cASKED.getD i 0) = kW k := by decide +kernel
theorem kW_inj : ∀ k : Nat, k < 9 → ∀ l : Nat, l < 9 → kW k = kW l → k = l := by decide +kernel
theorem kW_mm : ∀ k : Nat, k < 9 → kW k ≠ wMin ∧ kW k ≠ wMax := by decide +kernel
section QK
variable {T : Nat → Int} {n p : Nat}
theorem qK_no (h : qK T n p = 9) {k : Nat} (hk : k < 9) : ¬ isW T n p (kW k) := by
  intro w
  unfold qK at h
  by_cases c0 : isW T n p (kW 0)
  · rw [if_pos c0] at h; omega
  rw [if_neg c0] at h
  by_cases c1 : isW T n p (kW 1)
  · rw [if_pos c1] at h; omega
  rw [if_neg c1] at h
  by_cases c2 : isW T n p (kW 2)
  · rw [if_pos c2] at h; omega
  rw [if_neg c2] at h
  by_cases c3 : isW T n p (kW 3)
  · rw [if_pos c3] at h; omega
  rw [if_neg c3] at h
  by_cases c4 : isW T n p (kW 4)
  · rw [if_pos c4] at h; omega
  rw [if_neg c4] at h
  by_cases c5 : isW T n p (kW 5)
  · rw [if_pos c5] at h; omega
  rw [if_neg c5] at h
  by_cases c6 : isW T n p (kW 6)
  · rw [if_pos c6] at h; omega
  rw [if_neg c6] at h
  by_cases c7 : isW T n p (kW 7)
  · rw [if_pos c7] at h; omega
  rw [if_neg c7] at h
  by_cases c8 : isW T n p (kW 8)
  · rw [if_pos c8] at h; omega
  rw [if_neg c8] at h
  have : k = 0 ∨ k = 1 ∨ k = 2 ∨ k = 3 ∨ k = 4 ∨ k = 5 ∨ k = 6 ∨ k = 7 ∨ k = 8 := by omega
  rcases this with rfl | rfl | rfl | rfl | rfl | rfl | rfl | rfl | rfl
  · exact c0 w
  · exact c1 w
  · exact c2 w
  · exact c3 w
  · exact c4 w
  · exact c5 w
  · exact c6 w
  · exact c7 w
  · exact c8 w
theorem qK_eq (h1 : isL (T p)) (h2 : ¬ alB T p) {k : Nat} (hk : k < 9) (hw : wL T n p = kW k) : qK T n p = k := by
  have hW : isW T n p (kW k) := (isW_iff h1 h2).2 hw
  rcases Nat.lt_or_ge (qK T n p) 9 with q | q
  · have := (isW_iff h1 h2).1 (qK_W (T := T) (n := n) p q)
    exact kW_inj _ q _ hk (this.symm.trans hw)
  · have := qK_b T n p
    exact absurd hW (qK_no (by omega) hk)
theorem qK_9 (h1 : isL (T p)) (h2 : ¬ alB T p) (hw : ∀ k : Nat, k < 9 → wL T n p ≠ kW k) : qK T n p = 9 := by
  rcases Nat.lt_or_ge (qK T n p) 9 with q | q
  · exact absurd ((isW_iff h1 h2).1 (qK_W (T := T) (n := n) p q)) (hw _ q)
  · have := qK_b T n p
    omega
theorem qK_nl (h : ¬ (isL (T p) ∧ ¬ alB T p)) : qK T n p = 9 := by
  rcases Nat.lt_or_ge (qK T n p) 9 with q | q
  · have := qK_W (T := T) (n := n) p q
    exact absurd ⟨this.1, this.2.1⟩ h
  · have := qK_b T n p
    omega
end QK
