/-! ===== one is snuffed ===== -/
def burB (m : MM) (k : Nat) : Bool := decide (0 < mi m 1051 (14 + 2 * k))
theorem popB_upd {f g : Nat → Bool} {i : Nat} (hf : f i = true) (hg : g i = false) (hne : ∀ k, k ≠ i → g k = f k) : ∀ n : Nat, i < n → popB g n + 1 = popB f n
  | 0, h => absurd h (Nat.not_lt_zero _)
  | n + 1, h => by
    show popB g n + (if g n = true then 1 else 0) + 1 = popB f n + (if f n = true then 1 else 0)
    by_cases q : i = n
    · subst q
      rw [popB_eq (f := g) (g := f) i (fun k hk => hne k (by omega)), hf, hg]
      rfl
    · have ih := popB_upd hf hg hne n (by omega)
      rw [hne n (by omega)]
      omega
theorem pop_lit {m : MM} (hm : rMany m) : ∃ n : Nat, n < 4096 ∧ litS m = nI n ∧ popN n = popB (burB m) (things m) := by
  have hb := hm.2.1
  obtain ⟨n, hn, e, hk⟩ := s12_ex (s := litS m) (fun i a b => litS_8 hm i (by omega) b)
  refine ⟨n, hn, e, ?_⟩
  have ht : things m ≤ 8 := by unfold things; omega
  unfold popN
  rw [show (12 : Nat) = things m + (12 - things m) by omega, popB_add (i := things m) (12 - things m) (fun k h1 h2 => ?_)]
  · apply popB_eq
    intro k hk'
    rw [hk k (by omega), litS_bt hm (by omega)]
    unfold burB
    have : ((k : Int) < mi m 1038 7 ∧ 0 < mi m 1051 (14 + 2 * k)) ↔ 0 < mi m 1051 (14 + 2 * k) := by unfold things at hk'; omega
    simp [this]
  · rw [hk k (by omega), litS_bt hm (by omega), decide_eq_false (by unfold things at h1; omega)]
theorem off_pop {m : MM} {i n : Nat} (hi : i < n) (hb : 0 < mi m 1051 (14 + 2 * i)) : popB (burB (offM m i)) n + 1 = popB (burB m) n := by
  refine popB_upd (i := i) (decide_eq_true hb) ?_ (fun k hk => ?_) n hi
  · unfold burB
    rw [offM_z m (by omega)]
    rfl
  · unfold burB
    rw [offM_o m (by omega)]
theorem po_pop {m : MM} {e : Int32} {t n : Nat} (ht : t < n) (hb : 0 < mi m 1051 (14 + 2 * t)) : ∀ i : Nat, i ≤ n → popB (burB (poM m e t i)) n + poN m e t i = popB (burB m) n
  | 0, _ => off_pop ht hb
  | i + 1, hi => by
    have ih := po_pop (e := e) ht hb i (by omega)
    rw [poM_s, poN_s]
    by_cases q : bt e i = true ∧ 0 < mi (poM m e t i) 1051 (14 + 2 * i)
    · rw [if_pos q, if_pos q]
      have := off_pop (n := n) (by omega) q.2
      omega
    · rw [if_neg q, if_neg q]
      exact ih
