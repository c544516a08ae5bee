/-! ===== texts: signs, blanks, words, numbers ===== -/
abbrev isL (c : Int) : Prop := 97 ≤ c ∧ c ≤ 122
abbrev isD (c : Int) : Prop := 48 ≤ c ∧ c ≤ 57
abbrev isB (c : Int) : Prop := c = 32 ∨ c = 10
/-- a text of n bytes; -1 behind its end -/
def tOK (T : Nat → Int) (n : Nat) : Prop := n ≤ 1600 ∧ (∀ k : Nat, k < n → 0 ≤ T k ∧ T k < 256) ∧ ∀ k : Nat, n ≤ k → T k = -1
def skF (T : Nat → Int) : Nat → Nat → Nat
  | 0, p => p
  | k + 1, p => if isB (T p) then skF T k (p + 1) else p
def skp (T : Nat → Int) (n p : Nat) : Nat := skF T (n - p) p
theorem skF_ge (T : Nat → Int) : ∀ (k p : Nat), p ≤ skF T k p
  | 0, p => Nat.le_refl _
  | k + 1, p => by
    show p ≤ if isB (T p) then skF T k (p + 1) else p
    split
    · have := skF_ge T k (p + 1); omega
    · omega
theorem skp_ge (T : Nat → Int) (n p : Nat) : p ≤ skp T n p := skF_ge T _ _
theorem skF_nb {T : Nat → Int} {n : Nat} (hT : tOK T n) : ∀ (k p : Nat), n - p ≤ k → ¬ isB (T (skF T k p))
  | 0, p, h => by
    show ¬ isB (T p)
    rw [hT.2.2 p (by omega)]
    decide
  | k + 1, p, h => by
    show ¬ isB (T (if isB (T p) then skF T k (p + 1) else p))
    by_cases q : isB (T p)
    · rw [if_pos q]; exact skF_nb hT k (p + 1) (by omega)
    · rw [if_neg q]; exact q
theorem skp_nb {T : Nat → Int} {n : Nat} (hT : tOK T n) (p : Nat) : ¬ isB (T (skp T n p)) := skF_nb hT _ _ (Nat.le_refl _)
theorem skp_id {T : Nat → Int} {n p : Nat} (h : ¬ isB (T p)) : skp T n p = p := by
  unfold skp
  cases n - p with
  | zero => rfl
  | succ k => exact if_neg h
theorem skp_skp {T : Nat → Int} {n : Nat} (hT : tOK T n) (p : Nat) : skp T n (skp T n p) = skp T n p := skp_id (skp_nb hT p)
theorem skp_b {T : Nat → Int} {n : Nat} (hT : tOK T n) {p : Nat} (h : isB (T p)) : skp T n p = skp T n (p + 1) := by
  have hp : p < n := by
    rcases Nat.lt_or_ge p n with q | q
    · exact q
    · rw [hT.2.2 p q] at h
      exact absurd h (by decide)
  unfold skp
  rw [show n - p = (n - (p + 1)) + 1 by omega]
  exact if_pos h
theorem skF_bl (T : Nat → Int) : ∀ (k p q : Nat), p ≤ q → q < skF T k p → isB (T q)
  | 0, p, q, h1, h2 => absurd h2 (by show ¬ q < p; omega)
  | k + 1, p, q, h1, h2 => by
    have h2 : q < if isB (T p) then skF T k (p + 1) else p := h2
    by_cases z : isB (T p)
    · rw [if_pos z] at h2
      by_cases e : q = p
      · rw [e]; exact z
      · exact skF_bl T k (p + 1) q (by omega) h2
    · rw [if_neg z] at h2
      omega
theorem skp_bl {T : Nat → Int} {n p q : Nat} (h1 : p ≤ q) (h2 : q < skp T n p) : isB (T q) := skF_bl T _ p q h1 h2
theorem skp_le {T : Nat → Int} {n : Nat} (hT : tOK T n) {p : Nat} (h : p ≤ n) : skp T n p ≤ n := by
  rcases Nat.lt_or_ge n (skp T n p) with q | q
  · have := skp_bl h q
    rw [hT.2.2 n (Nat.le_refl _)] at this
    exact absurd this (by decide)
  · exact q
/-- the end of the letters, of the digits -/
def leF (T : Nat → Int) : Nat → Nat → Nat
  | 0, p => p
  | k + 1, p => if isL (T p) then leF T k (p + 1) else p
def wE (T : Nat → Int) (n p : Nat) : Nat := leF T (n - p) p
theorem leF_ge (T : Nat → Int) : ∀ (k p : Nat), p ≤ leF T k p
  | 0, p => Nat.le_refl _
  | k + 1, p => by
    show p ≤ if isL (T p) then leF T k (p + 1) else p
    split
    · have := leF_ge T k (p + 1); omega
    · omega
theorem wE_ge (T : Nat → Int) (n p : Nat) : p ≤ wE T n p := leF_ge T _ _
theorem wE_no {T : Nat → Int} {n p : Nat} (h : ¬ isL (T p)) : wE T n p = p := by
  unfold wE
  cases n - p with
  | zero => rfl
  | succ k => exact if_neg h
theorem isL_lt {T : Nat → Int} {n : Nat} (hT : tOK T n) {p : Nat} (h : isL (T p)) : p < n := by
  rcases Nat.lt_or_ge p n with q | q
  · exact q
  · rw [hT.2.2 p q] at h
    exact absurd h (by decide)
theorem isD_lt {T : Nat → Int} {n : Nat} (hT : tOK T n) {p : Nat} (h : isD (T p)) : p < n := by
  rcases Nat.lt_or_ge p n with q | q
  · exact q
  · rw [hT.2.2 p q] at h
    exact absurd h (by decide)
theorem wE_s {T : Nat → Int} {n : Nat} (hT : tOK T n) {p : Nat} (h : isL (T p)) : wE T n p = wE T n (p + 1) := by
  have hp := isL_lt hT h
  unfold wE
  rw [show n - p = (n - (p + 1)) + 1 by omega]
  exact if_pos h
theorem leF_in (T : Nat → Int) : ∀ (k p q : Nat), p ≤ q → q < leF T k p → isL (T q)
  | 0, p, q, h1, h2 => absurd h2 (by show ¬ q < p; omega)
  | k + 1, p, q, h1, h2 => by
    have h2 : q < if isL (T p) then leF T k (p + 1) else p := h2
    by_cases z : isL (T p)
    · rw [if_pos z] at h2
      by_cases e : q = p
      · rw [e]; exact z
      · exact leF_in T k (p + 1) q (by omega) h2
    · rw [if_neg z] at h2
      omega
theorem wE_in {T : Nat → Int} {n p q : Nat} (h1 : p ≤ q) (h2 : q < wE T n p) : isL (T q) := leF_in T _ p q h1 h2
theorem leF_out {T : Nat → Int} {n : Nat} (hT : tOK T n) : ∀ (k p : Nat), n - p ≤ k → ¬ isL (T (leF T k p))
  | 0, p, h => by
    show ¬ isL (T p)
    rw [hT.2.2 p (by omega)]
    decide
  | k + 1, p, h => by
    show ¬ isL (T (if isL (T p) then leF T k (p + 1) else p))
    by_cases q : isL (T p)
    · rw [if_pos q]; exact leF_out hT k (p + 1) (by omega)
    · rw [if_neg q]; exact q
theorem wE_out {T : Nat → Int} {n : Nat} (hT : tOK T n) (p : Nat) : ¬ isL (T (wE T n p)) := leF_out hT _ _ (Nat.le_refl _)
theorem wE_le {T : Nat → Int} {n : Nat} (hT : tOK T n) {p : Nat} (h : p ≤ n) : wE T n p ≤ n := by
  rcases Nat.lt_or_ge n (wE T n p) with q | q
  · have := wE_in h q
    rw [hT.2.2 n (Nat.le_refl _)] at this
    exact absurd this (by decide)
  · exact q
/-- it is the end, if letters lead there and none stands there -/
theorem wE_eq {T : Nat → Int} {n : Nat} (hT : tOK T n) {p : Nat} : ∀ (k : Nat), (∀ q : Nat, p ≤ q → q < p + k → isL (T q)) → ¬ isL (T (p + k)) → wE T n p = p + k := by
  intro k
  induction k generalizing p with
  | zero => intro _ h; exact wE_no h
  | succ k ih =>
    intro h1 h2
    rw [wE_s hT (h1 p (Nat.le_refl _) (by omega)), ih (p := p + 1) (fun q a b => h1 q (by omega) (by omega)) (by rw [show p + 1 + k = p + (k + 1) by omega]; exact h2)]
    omega
def deF (T : Nat → Int) : Nat → Nat → Nat
  | 0, p => p
  | k + 1, p => if isD (T p) then deF T k (p + 1) else p
def dE (T : Nat → Int) (n p : Nat) : Nat := deF T (n - p) p
theorem deF_ge (T : Nat → Int) : ∀ (k p : Nat), p ≤ deF T k p
  | 0, p => Nat.le_refl _
  | k + 1, p => by
    show p ≤ if isD (T p) then deF T k (p + 1) else p
    split
    · have := deF_ge T k (p + 1); omega
    · omega
theorem dE_ge (T : Nat → Int) (n p : Nat) : p ≤ dE T n p := deF_ge T _ _
theorem dE_no {T : Nat → Int} {n p : Nat} (h : ¬ isD (T p)) : dE T n p = p := by
  unfold dE
  cases n - p with
  | zero => rfl
  | succ k => exact if_neg h
theorem dE_s {T : Nat → Int} {n : Nat} (hT : tOK T n) {p : Nat} (h : isD (T p)) : dE T n p = dE T n (p + 1) := by
  have hp := isD_lt hT h
  unfold dE
  rw [show n - p = (n - (p + 1)) + 1 by omega]
  exact if_pos h
theorem deF_in (T : Nat → Int) : ∀ (k p q : Nat), p ≤ q → q < deF T k p → isD (T q)
  | 0, p, q, h1, h2 => absurd h2 (by show ¬ q < p; omega)
  | k + 1, p, q, h1, h2 => by
    have h2 : q < if isD (T p) then deF T k (p + 1) else p := h2
    by_cases z : isD (T p)
    · rw [if_pos z] at h2
      by_cases e : q = p
      · rw [e]; exact z
      · exact deF_in T k (p + 1) q (by omega) h2
    · rw [if_neg z] at h2
      omega
theorem dE_in {T : Nat → Int} {n p q : Nat} (h1 : p ≤ q) (h2 : q < dE T n p) : isD (T q) := deF_in T _ p q h1 h2
theorem deF_out {T : Nat → Int} {n : Nat} (hT : tOK T n) : ∀ (k p : Nat), n - p ≤ k → ¬ isD (T (deF T k p))
  | 0, p, h => by
    show ¬ isD (T p)
    rw [hT.2.2 p (by omega)]
    decide
  | k + 1, p, h => by
    show ¬ isD (T (if isD (T p) then deF T k (p + 1) else p))
    by_cases q : isD (T p)
    · rw [if_pos q]; exact deF_out hT k (p + 1) (by omega)
    · rw [if_neg q]; exact q
theorem dE_out {T : Nat → Int} {n : Nat} (hT : tOK T n) (p : Nat) : ¬ isD (T (dE T n p)) := deF_out hT _ _ (Nat.le_refl _)
/-- a letter or a digit stands just ahead -/
abbrev alB (T : Nat → Int) (p : Nat) : Prop := 0 < p ∧ (isL (T (p - 1)) ∨ isD (T (p - 1)))
/-- a word stands at p -/
abbrev isW (T : Nat → Int) (n p : Nat) (w : List Int) : Prop := isL (T p) ∧ ¬ alB T p ∧ wE T n p = p + w.length ∧ ∀ j : Nat, j < w.length → T (p + j) = w.getD j 0
/-- the digits' number -/
def dV (T : Nat → Int) (p : Nat) : Nat → Int
  | 0 => 0
  | k + 1 => 10 * dV T p k + T (p + k) - 48
theorem dV_b {T : Nat → Int} {p : Nat} : ∀ k : Nat, k ≤ 4 → (∀ q : Nat, p ≤ q → q < p + k → isD (T q)) → 0 ≤ dV T p k ∧ dV T p k < 10 ^ k
  | 0, _, _ => by unfold dV; decide
  | k + 1, hk, h => by
    have ih := dV_b k (by omega) (fun q a b => h q a (by omega))
    have hd := h (p + k) (by omega) (by omega)
    show 0 ≤ 10 * dV T p k + T (p + k) - 48 ∧ 10 * dV T p k + T (p + k) - 48 < 10 ^ (k + 1)
    have : (10 : Int) ^ (k + 1) = 10 * 10 ^ k := by rw [Int.pow_succ, Int.mul_comm]
    omega
/-- what reading gives: a fault (kind, place), or how far it came and what it read -/
abbrev Rs (α : Type) : Type := (Int × Nat) ⊕ (Nat × α)
def sNum (T : Nat → Int) (n p : Nat) (lo hi : Int) : Rs Int :=
  if ¬ isD (T p) ∨ alB T p then Sum.inl (1, p) else if p + 4 < dE T n p then Sum.inl (1, p + 4) else if lo ≤ dV T p (dE T n p - p) ∧ dV T p (dE T n p - p) ≤ hi then Sum.inr (skp T n (dE T n p), dV T p (dE T n p - p)) else Sum.inl (2, p)
