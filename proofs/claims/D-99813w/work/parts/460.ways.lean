/-! ===== ways: walks through doors ===== -/
def edg (h : HS) (x y : Nat) (s : Int) : Prop := ∃ i : Nat, i < h.nd ∧ (h.dv i = (x, y, s) ∨ h.dv i = (y, x, s))
theorem edg.sym {h : HS} {x y : Nat} {s : Int} (e : edg h x y s) : edg h y x s := by
  obtain ⟨i, hi, a⟩ := e
  exact ⟨i, hi, a.symm⟩
theorem edg.b {h : HS} (ho : hsOK h) {x y : Nat} {s : Int} (e : edg h x y s) : x < 8 ∧ y < 8 ∧ 1 ≤ s ∧ s ≤ 9 := by
  obtain ⟨i, hi, a⟩ := e
  have b := ho.dvO i hi
  have h8 := ho.nh8
  rcases a with a | a
  · rw [a] at b
    dsimp only at b
    omega
  · rw [a] at b
    dsimp only at b
    omega
def wk (h : HS) : Nat → Nat → Nat → Int → Prop
  | 0, a, b, c => a = b ∧ c = 0
  | k + 1, a, b, c => ∃ (x : Nat) (s c' : Int), edg h x b s ∧ wk h k a x c' ∧ c = c' + s
theorem wk_cat {h : HS} : ∀ (l : Nat) {k a b c : Nat} {c1 c2 : Int}, wk h k a b c1 → wk h l b c c2 → ∃ j : Nat, wk h j a c (c1 + c2)
  | 0, k, a, b, c, c1, c2, h1, h2 => by
    obtain ⟨e1, e2⟩ := h2
    subst e1 e2
    exact ⟨k, by rw [Int.add_zero]; exact h1⟩
  | l + 1, k, a, b, c, c1, c2, h1, h2 => by
    obtain ⟨x, s, c', e, w, q⟩ := h2
    obtain ⟨j, hj⟩ := wk_cat l h1 w
    exact ⟨j + 1, x, s, c1 + c', e, hj, by rw [q]; omega⟩
theorem wk_1 {h : HS} {x y : Nat} {s : Int} (e : edg h x y s) : wk h 1 x y s := ⟨x, s, 0, e, ⟨rfl, rfl⟩, by omega⟩
theorem row_le {h : HS} {w : Nat → Int} {a : Nat} (h0 : w a = 0) (hE : ∀ (x y : Nat) (s : Int), edg h x y s → w x ≠ -1 → w y ≠ -1 ∧ w y ≤ w x + s) : ∀ (k b : Nat) (c : Int), wk h k a b c → w b ≠ -1 ∧ w b ≤ c
  | 0, b, c, e => by
    obtain ⟨e1, e2⟩ := e
    subst e1 e2
    omega
  | k + 1, b, c, e => by
    obtain ⟨x, s, c', e, w1, q⟩ := e
    obtain ⟨i1, i2⟩ := row_le h0 hE k x c' w1
    obtain ⟨j1, j2⟩ := hE x b s e i1
    exact ⟨j1, by omega⟩
theorem mat_le {h : HS} {f : Nat → Nat → Int} {a : Nat} (h0 : f a a = 0) (hE : ∀ (x y : Nat) (s : Int), edg h x y s → f a y ≤ f a x + s) : ∀ (k b : Nat) (c : Int), wk h k a b c → f a b ≤ c
  | 0, b, c, e => by
    obtain ⟨e1, e2⟩ := e
    subst e1 e2
    omega
  | k + 1, b, c, e => by
    obtain ⟨x, s, c', e, w1, q⟩ := e
    have i1 := mat_le h0 hE k x c' w1
    have j1 := hE x b s e
    omega
/-- a row of ways, as the model lays them -/
def rowG (h : HS) (a : Nat) (w : Nat → Int) : Prop := (∀ x : Nat, x < 8 → w x = -1 ∨ (0 ≤ w x ∧ w x ≤ 63)) ∧ (∀ x : Nat, x < 8 → w x ≠ -1 → ∃ k : Nat, wk h k a x (w x)) ∧ w a = 0 ∧ ∀ (x y : Nat) (s : Int), edg h x y s → w x ≠ -1 → w y ≠ -1 ∧ w y ≤ w x + s
/-- all ways, as the component reckons them -/
def matG (h : HS) (f : Nat → Nat → Int) : Prop := (∀ a b : Nat, a < 8 → b < 8 → 0 ≤ f a b ∧ f a b ≤ 100000000) ∧ (∀ a : Nat, a < 8 → f a a = 0) ∧ (∀ a b : Nat, a < 8 → b < 8 → f a b < 100000000 → ∃ k : Nat, wk h k a b (f a b)) ∧ ∀ (a x y : Nat) (s : Int), a < 8 → edg h x y s → f a y ≤ f a x + s
theorem ways_eq {h : HS} {w : Nat → Int} {f : Nat → Nat → Int} {a b : Nat} (hw : rowG h a w) (hf : matG h f) (ha : a < 8) (hb : b < 8) : (w b = -1 ∧ 100000000 ≤ f a b) ∨ ((0 ≤ w b ∧ w b ≤ 900) ∧ f a b = w b) := by
  obtain ⟨w1, w2, w3, w4⟩ := hw
  obtain ⟨f1, f2, f3, f4⟩ := hf
  have hfb := f1 a b ha hb
  rcases w1 b hb with q | q
  · refine Or.inl ⟨q, ?_⟩
    rcases Int.lt_or_le (f a b) 100000000 with z | z
    · obtain ⟨k, hk⟩ := f3 a b ha hb z
      exact absurd q (row_le w3 w4 k b _ hk).1
    · exact z
  · refine Or.inr ⟨by omega, ?_⟩
    obtain ⟨k, hk⟩ := w2 b hb (by omega)
    have h1 := mat_le (f2 a ha) (fun x y s e => f4 a x y s ha e) k b _ hk
    obtain ⟨l, hl⟩ := f3 a b ha hb (by omega)
    have h2 := (row_le w3 w4 l b _ hl).2
    omega
/-! the model's row while it is laid -/
def cnt (w : Nat → Int) : Nat → Nat
  | 0 => 0
  | k + 1 => cnt w k + (if w k = -1 then 0 else 1)
def pot (w : Nat → Int) : Nat → Int
  | 0 => 0
  | k + 1 => pot w k + (if w k = -1 then 100 else w k)
theorem cnt_le (w : Nat → Int) : ∀ k : Nat, cnt w k ≤ k
  | 0 => Nat.le_refl _
  | k + 1 => by
    have := cnt_le w k
    unfold cnt
    split <;> omega
theorem cnt_pos {w : Nat → Int} {a : Nat} (h : w a ≠ -1) : ∀ k : Nat, a < k → 1 ≤ cnt w k
  | 0, hk => absurd hk (Nat.not_lt_zero _)
  | k + 1, hk => by
    unfold cnt
    by_cases e : a = k
    · rw [← e, if_neg h]; omega
    · have := cnt_pos h k (by omega)
      omega
theorem cnt_hupd {w : Nat → Int} {y : Nat} {v : Int} (hv : v ≠ -1) : ∀ k : Nat, cnt (hupd w y v) k = cnt w k + (if y < k ∧ w y = -1 then 1 else 0)
  | 0 => by rw [if_neg (fun q => absurd q.1 (Nat.not_lt_zero _))]; rfl
  | k + 1 => by
    show cnt (hupd w y v) k + (if hupd w y v k = -1 then 0 else 1) = cnt w k + (if w k = -1 then 0 else 1) + _
    rw [cnt_hupd hv k]
    by_cases e : k = y
    · subst e
      rw [hupd_at, if_neg hv, if_neg (fun q => absurd q.1 (Nat.lt_irrefl _))]
      by_cases q : w k = -1
      · rw [if_pos q, if_pos ⟨by omega, q⟩]
      · rw [if_neg q, if_neg (fun z => q z.2)]
    · rw [hupd_ne _ _ e]
      have e3 : (if y < k + 1 ∧ w y = -1 then (1 : Nat) else 0) = (if y < k ∧ w y = -1 then 1 else 0) := by
        by_cases q : y < k ∧ w y = -1
        · rw [if_pos q, if_pos (show y < k + 1 ∧ w y = -1 from ⟨by omega, q.2⟩)]
        · rw [if_neg q, if_neg (show ¬ (y < k + 1 ∧ w y = -1) from fun z => q ⟨by have := z.1; omega, z.2⟩)]
      rw [e3]; omega
theorem pot_upd {w : Nat → Int} {y : Nat} {v : Int} (hv : v ≠ -1) : ∀ k : Nat, pot (hupd w y v) k = pot w k + (if y < k then v - (if w y = -1 then 100 else w y) else 0)
  | 0 => by rw [if_neg (Nat.not_lt_zero _)]; rfl
  | k + 1 => by
    show pot (hupd w y v) k + (if hupd w y v k = -1 then 100 else hupd w y v k) = pot w k + (if w k = -1 then 100 else w k) + _
    rw [pot_upd hv k]
    by_cases e : k = y
    · subst e
      rw [hupd_at, if_neg hv, if_neg (Nat.lt_irrefl _), if_pos (Nat.lt_succ_self _)]
      omega
    · rw [hupd_ne _ _ e]
      have e3 : (if y < k + 1 then v - (if w y = -1 then 100 else w y) else 0) = (if y < k then v - (if w y = -1 then 100 else w y) else 0) := by
        by_cases q : y < k
        · rw [if_pos q, if_pos (show y < k + 1 by omega)]
        · rw [if_neg q, if_neg (show ¬ y < k + 1 by omega)]
      rw [e3]; omega
theorem pot_b {w : Nat → Int} (h : ∀ x : Nat, x < 8 → w x = -1 ∨ 0 ≤ w x) : ∀ k : Nat, k ≤ 8 → 0 ≤ pot w k
  | 0, _ => Int.le_refl _
  | k + 1, hk => by
    have ih := pot_b h k (by omega)
    have := h k (by omega)
    unfold pot
    split <;> omega
def bfI (h : HS) (a : Nat) (w : Nat → Int) : Prop := (∀ x : Nat, x < 8 → w x = -1 ∨ (0 ≤ w x ∧ w x ≤ 9 * ((cnt w 8 : Int) - 1))) ∧ (∀ x : Nat, x < 8 → w x ≠ -1 → ∃ k : Nat, wk h k a x (w x)) ∧ w a = 0
theorem bfI.b {h : HS} {a : Nat} {w : Nat → Int} (hI : bfI h a w) : ∀ x : Nat, x < 8 → w x = -1 ∨ (0 ≤ w x ∧ w x ≤ 63) := fun x hx => by
  have := cnt_le w 8
  rcases hI.1 x hx with q | q
  · exact Or.inl q
  · exact Or.inr (by omega)
theorem bfI.s {h : HS} {a x y : Nat} {w : Nat → Int} {s : Int} (hI : bfI h a w) (ho : hsOK h) (e : edg h x y s) (hx : w x ≠ -1) (hy : w y = -1 ∨ w x + s < w y) : bfI h a (hupd w y (w x + s)) ∧ pot (hupd w y (w x + s)) 8 < pot w 8 := by
  obtain ⟨b1, b2, b3, b4⟩ := e.b ho
  obtain ⟨i1, i2, i3⟩ := id hI
  have hb := hI.b
  have hwx : 0 ≤ w x ∧ w x ≤ 9 * ((cnt w 8 : Int) - 1) := by
    rcases i1 x b1 with q | q
    · exact absurd q hx
    · exact q
  have hwx2 : w x ≤ 63 := by
    rcases hb x b1 with q | q
    · exact absurd q hx
    · exact q.2
  have hv : w x + s ≠ -1 := by omega
  have hc := cnt_hupd (w := w) (y := y) hv 8
  have hp := pot_upd (w := w) (y := y) hv 8
  refine ⟨⟨fun z hz => ?_, fun z hz hn => ?_, ?_⟩, ?_⟩
  · by_cases q : z = y
    · rw [q, hupd_at]
      refine Or.inr ⟨by omega, ?_⟩
      rw [hc]
      by_cases q2 : w y = -1
      · rw [if_pos ⟨b2, q2⟩]; omega
      · rw [if_neg (fun z => q2 z.2)]
        rcases i1 y b2 with q3 | q3
        · exact absurd q3 q2
        · rcases hy with q4 | q4
          · exact absurd q4 q2
          · omega
    · rw [hupd_ne _ _ q, hc]
      rcases i1 z hz with q3 | q3
      · exact Or.inl q3
      · exact Or.inr (by split <;> omega)
  · by_cases q : z = y
    · rw [q, hupd_at]
      obtain ⟨k, hk⟩ := i2 x b1 hx
      exact ⟨k + 1, x, s, w x, e, hk, rfl⟩
    · rw [hupd_ne _ _ q] at hn ⊢
      exact i2 z hz hn
  · rw [hupd_ne _ _ (fun q => ?_)]
    · exact i3
    · rw [← q, i3] at hy
      rcases hy with q4 | q4 <;> omega
  · rw [hp, if_pos b2]
    by_cases q2 : w y = -1
    · rw [if_pos q2]; omega
    · rw [if_neg q2]
      rcases hy with q4 | q4
      · exact absurd q4 q2
      · omega
/-! the component's table while it is reckoned -/
def fwI (h : HS) (k : Nat) (f : Nat → Nat → Int) : Prop := (∀ a b : Nat, a < 8 → b < 8 → 0 ≤ f a b ∧ f a b ≤ 100000000) ∧ (∀ a : Nat, a < 8 → f a a = 0) ∧ (∀ a b : Nat, a < 8 → b < 8 → f a b < 100000000 → ∃ j : Nat, wk h j a b (f a b)) ∧ (∀ (x y : Nat) (s : Int), edg h x y s → f x y ≤ s) ∧ ∀ c : Nat, c < k → ∀ a b : Nat, a < 8 → b < 8 → f a b ≤ f a c + f c b
def nwF (f : Nat → Nat → Int) (c a b : Nat) : Int := if f a c + f c b < f a b then f a c + f c b else f a b
theorem fwI.s {h : HS} {k : Nat} {f : Nat → Nat → Int} (hk : k < 8) (hI : fwI h k f) : fwI h (k + 1) (nwF f k) := by
  obtain ⟨i1, i2, i3, i4, i5⟩ := hI
  have le1 : ∀ a b : Nat, nwF f k a b ≤ f a b ∧ nwF f k a b ≤ f a k + f k b := fun a b => by
    unfold nwF; split <;> omega
  have le2 : ∀ a b : Nat, nwF f k a b = f a b ∨ nwF f k a b = f a k + f k b := fun a b => by
    unfold nwF; split
    · exact Or.inr rfl
    · exact Or.inl rfl
  refine ⟨fun a b ha hb => ?_, fun a ha => ?_, fun a b ha hb hl => ?_, fun x y s e => ?_, fun c hc a b ha hb => ?_⟩
  · have a1 := i1 a b ha hb
    have a2 := i1 a k ha hk
    have a3 := i1 k b hk hb
    have := le1 a b
    rcases le2 a b with q | q <;> omega
  · have a2 := i1 a k ha hk
    have a3 := i1 k a hk ha
    have a4 := i2 a ha
    have := le1 a a
    rcases le2 a a with q | q <;> omega
  · rcases le2 a b with q | q
    · rw [q] at hl ⊢
      exact i3 a b ha hb hl
    · have a2 := i1 a k ha hk
      have a3 := i1 k b hk hb
      rw [q] at hl ⊢
      obtain ⟨j1, w1⟩ := i3 a k ha hk (by omega)
      obtain ⟨j2, w2⟩ := i3 k b hk hb (by omega)
      exact wk_cat j2 w1 w2
  · have := i4 x y s e
    have := (le1 x y).1
    omega
  · have m1 := le1 a b
    by_cases e : c = k
    · subst e
      have a2 := i2 c hk
      have n1 := i1 a c ha hk
      have n2 := i1 c b hk hb
      rcases le2 a c with q1 | q1 <;> rcases le2 c b with q2 | q2 <;> omega
    · have c8 : c < 8 := by omega
      have t := i5 c (by omega)
      have n1 := i1 a k ha hk
      have n2 := i1 k b hk hb
      have n3 := i1 k c hk c8
      have n4 := i1 c k c8 hk
      have t1 := t a b ha hb
      have t2 := t k b hk hb
      have t3 := t a k ha hk
      rcases le2 a c with q1 | q1 <;> rcases le2 c b with q2 | q2 <;> omega
theorem fwI.mat {h : HS} {f : Nat → Nat → Int} (ho : hsOK h) (hI : fwI h 8 f) : matG h f := by
  obtain ⟨i1, i2, i3, i4, i5⟩ := hI
  refine ⟨i1, i2, i3, fun a x y s ha e => ?_⟩
  obtain ⟨b1, b2, b3, b4⟩ := e.b ho
  have t := i5 x b1 a y ha b2
  have := i4 x y s e
  omega
