/-! ===== keep: flows and cuts, plainly ===== -/
theorem pw_dn {S R : Type} {f : S → Option (S ⊕ R)} {Q : R → Prop} (I : Nat → S → Prop) (hstep : ∀ (n : Nat) (s : S), I n s → pw (f s) (Sum.elim (fun s' => ∃ n', n' < n ∧ I n' s') Q)) : ∀ {n : Nat} {s : S}, I n s → pw (gz_loop f s) Q := by
  have key : ∀ (k n : Nat) (s : S), n ≤ k → I n s → pw (gz_loop f s) Q := by
    intro k
    induction k with
    | zero =>
      intro n s hn h
      refine pw_unroll (pw_mono (hstep n s h) ?_)
      rintro (q | q) hq
      · obtain ⟨n', h1, -⟩ := hq
        omega
      · exact hq
    | succ k ih =>
      intro n s hn h
      refine pw_unroll (pw_mono (hstep n s h) ?_)
      rintro (q | q) hq
      · obtain ⟨n', h1, h2⟩ := hq
        exact ih n' q (by omega) h2
      · exact hq
  intro n s h
  exact key n n s (Nat.le_refl _) h
/-! a graph: which edges hold, from where, to where -/
def ind (X : Nat → Bool) (v : Nat) : Int := if X v = true then 1 else 0
def trm (G : (Nat → Bool) × (Nat → Nat) × (Nat → Nat)) (φ X : Nat → Bool) (k : Nat) : Int := if (G.1 k && φ k) = true then ind X (G.2.1 k) - ind X (G.2.2 k) else 0
def net (G : (Nat → Bool) × (Nat → Nat) × (Nat → Nat)) (φ X : Nat → Bool) : Nat → Int
  | 0 => 0
  | k + 1 => net G φ X k + trm G φ X k
def hdE (G : (Nat → Bool) × (Nat → Nat) × (Nat → Nat)) (φ : Nat → Bool) (k : Nat) : Nat := if φ k = true then G.2.1 k else G.2.2 k
def tlE (G : (Nat → Bool) × (Nat → Nat) × (Nat → Nat)) (φ : Nat → Bool) (k : Nat) : Nat := if φ k = true then G.2.2 k else G.2.1 k
/-- φ carries c from S to D -/
def Fl (G : (Nat → Bool) × (Nat → Nat) × (Nat → Nat)) (E S D : Nat) (φ : Nat → Bool) (c : Int) : Prop := ∀ X : Nat → Bool, X S = true → X D = false → net G φ X E = c
section Flow
variable {G : (Nat → Bool) × (Nat → Nat) × (Nat → Nat)} {E S D : Nat}
theorem ind_b (X : Nat → Bool) (v : Nat) : 0 ≤ ind X v ∧ ind X v ≤ 1 := by unfold ind; split <;> omega
theorem net_ext {φ ψ X : Nat → Bool} : ∀ n : Nat, (∀ k : Nat, k < n → φ k = ψ k) → net G φ X n = net G ψ X n
  | 0, _ => rfl
  | n + 1, e => by
    show net G φ X n + trm G φ X n = net G ψ X n + trm G ψ X n
    rw [net_ext n (fun k hk => e k (by omega))]
    unfold trm
    rw [e n (by omega)]
theorem Fl.ext {φ ψ : Nat → Bool} {c : Int} (h : Fl G E S D φ c) (e : ∀ k : Nat, k < E → φ k = ψ k) : Fl G E S D ψ c := fun X h1 h2 => by rw [← net_ext E e]; exact h X h1 h2
theorem net_0 {φ X : Nat → Bool} : ∀ n : Nat, (∀ k : Nat, k < n → φ k = false) → net G φ X n = 0
  | 0, _ => rfl
  | n + 1, e => by
    show net G φ X n + trm G φ X n = 0
    rw [net_0 n (fun k hk => e k (by omega))]
    unfold trm
    rw [e n (by omega), Bool.and_false, if_neg (by decide)]
    rfl
theorem net_b {φ X : Nat → Bool} : ∀ n : Nat, net G φ X n ≤ n
  | 0 => Int.le_refl _
  | n + 1 => by
    have h1 := net_b (φ := φ) (X := X) n
    have h2 := ind_b X (G.2.1 n)
    have h3 := ind_b X (G.2.2 n)
    show net G φ X n + trm G φ X n ≤ ((n + 1 : Nat) : Int)
    unfold trm
    split <;> omega
theorem Fl.le {φ : Nat → Bool} {c : Int} (h : Fl G E S D φ c) (hne : S ≠ D) : c ≤ E := by
  have := h (fun v => v == S) (by simp) (by simpa using fun e => hne e.symm)
  have := net_b (G := G) (φ := φ) (X := fun v => v == S) E
  omega
/-- one edge is turned -/
theorem net_flip {φ ψ X : Nat → Bool} {k : Nat} (hG : G.1 k = true) (hk : ψ k = !φ k) : ∀ n : Nat, k < n → (∀ j : Nat, j < n → j ≠ k → ψ j = φ j) → net G ψ X n = net G φ X n + ind X (tlE G φ k) - ind X (hdE G φ k)
  | 0, h, _ => by omega
  | n + 1, h, e => by
    show net G ψ X n + trm G ψ X n = net G φ X n + trm G φ X n + ind X (tlE G φ k) - ind X (hdE G φ k)
    rcases Nat.lt_or_ge k n with q | q
    · rw [net_flip hG hk n q (fun j hj => e j (by omega))]
      have : trm G ψ X n = trm G φ X n := by unfold trm; rw [e n (by omega) (by omega)]
      rw [this]
      omega
    · have en : n = k := by omega
      subst en
      rw [net_ext (φ := ψ) (ψ := φ) n (fun j hj => e j (by omega) (by omega))]
      unfold trm tlE hdE
      rw [hG, hk]
      cases φ n with
      | true => simp; omega
      | false => simp; omega
/-- a set closed under what is left: a cut that is full -/
theorem cut {φ ψ R : Nat → Bool} {c c2 : Int} (h : Fl G E S D φ c) (h2 : Fl G E S D ψ c2) (hS : R S = true) (hD : R D = false) (hc : ∀ k : Nat, k < E → G.1 k = true → R (tlE G φ k) = true → R (hdE G φ k) = true) : c2 ≤ c := by
  rw [← h R hS hD, ← h2 R hS hD]
  have key : ∀ n : Nat, n ≤ E → net G ψ R n ≤ net G φ R n := by
    intro n
    induction n with
    | zero => intro _; exact Int.le_refl _
    | succ n ih =>
      intro hn
      have ih := ih (by omega)
      show net G ψ R n + trm G ψ R n ≤ net G φ R n + trm G φ R n
      have t : trm G ψ R n ≤ trm G φ R n := by
        have hk := hc n (by omega)
        unfold trm
        unfold tlE hdE at hk
        unfold ind
        cases hg : G.1 n with
        | false => simp
        | true =>
          have hk := hk hg
          cases hf : φ n with
          | true =>
            rw [hf, if_pos rfl, if_pos rfl] at hk
            cases hp : ψ n with
            | true => simp
            | false =>
              simp
              cases ha : R (G.2.1 n) with
              | true => simp; split <;> omega
              | false =>
                have : R (G.2.2 n) = false := by
                  cases hb : R (G.2.2 n) with
                  | false => rfl
                  | true => rw [hk hb] at ha; cases ha
                rw [this]; simp
          | false =>
            rw [hf, if_neg (by decide), if_neg (by decide)] at hk
            cases hp : ψ n with
            | false => simp
            | true =>
              simp
              cases ha : R (G.2.1 n) with
              | true => rw [hk ha]; simp
              | false => simp; split <;> omega
      omega
  exact key E (Nat.le_refl _)
/-- how much can be carried -/
def MxF (G : (Nat → Bool) × (Nat → Nat) × (Nat → Nat)) (E S D : Nat) (c : Int) : Prop := (∃ φ, Fl G E S D φ c) ∧ ∀ (ψ : Nat → Bool) (c2 : Int), Fl G E S D ψ c2 → c2 ≤ c
theorem MxF.one {c c2 : Int} (h : MxF G E S D c) (h2 : MxF G E S D c2) : c = c2 := by
  obtain ⟨⟨φ, a1⟩, a2⟩ := h
  obtain ⟨⟨ψ, b1⟩, b2⟩ := h2
  have := a2 ψ c2 b1
  have := b2 φ c a1
  omega
/-- by which edge a place was reached: a tree from S -/
def Rc (S : Nat) (par : Nat → Int) (v : Nat) : Prop := v = S ∨ par v ≠ -1
def Tr (G : (Nat → Bool) × (Nat → Nat) × (Nat → Nat)) (E S : Nat) (φ : Nat → Bool) (par : Nat → Int) (rk : Nat → Nat) (N : Nat) : Prop := ∀ v : Nat, v < 8 → v ≠ S → par v ≠ -1 → ∃ k : Nat, par v = k ∧ k < E ∧ G.1 k = true ∧ hdE G φ k = v ∧ tlE G φ k < 8 ∧ Rc S par (tlE G φ k) ∧ (tlE G φ k ≠ S → rk (tlE G φ k) < rk v) ∧ rk v < N
theorem Tr.new {φ : Nat → Bool} {par par' : Nat → Int} {rk : Nat → Nat} {N k w : Nat} (h : Tr G E S φ par rk N) (hk : k < E) (hG : G.1 k = true) (hh : hdE G φ k = w) (ht : tlE G φ k < 8) (hr : Rc S par (tlE G φ k)) (hw : w ≠ S) (hp : par w = -1) (e1 : par' w = k) (e2 : ∀ v : Nat, v < 8 → v ≠ w → par' v = par v) (htw : tlE G φ k ≠ w) : ∃ rk', Tr G E S φ par' rk' (N + 1) := by
  refine ⟨fun v => if v = w then N else rk v, fun v v8 vS vp => ?_⟩
  have rc : ∀ u : Nat, u < 8 → Rc S par u → Rc S par' u := fun u u8 q => by
    rcases q with q | q
    · exact Or.inl q
    · refine Or.inr ?_
      by_cases z : u = w
      · rw [z] at q; exact absurd hp q
      · rw [e2 u u8 z]; exact q
  have lt : ∀ u : Nat, u < 8 → u ≠ S → u ≠ w → Rc S par u → rk u < N := fun u u8 uS uw q => by
    rcases q with q | q
    · exact absurd q uS
    · obtain ⟨_, _, _, _, _, _, _, _, z⟩ := h u u8 uS q
      exact z
  by_cases z : v = w
  · subst z
    refine ⟨k, e1, hk, hG, hh, ht, rc _ ht hr, fun q => ?_, by show (if v = v then N else rk v) < N + 1; rw [if_pos rfl]; omega⟩
    show (if tlE G φ k = v then N else rk (tlE G φ k)) < (if v = v then N else rk v)
    rw [if_neg htw, if_pos rfl]
    exact lt _ ht q htw hr
  · rw [e2 v v8 z] at vp
    obtain ⟨k', a1, a2, a3, a4, a5, a6, a7, a8⟩ := h v v8 vS vp
    refine ⟨k', by rw [e2 v v8 z]; exact a1, a2, a3, a4, a5, rc _ a5 a6, fun q => ?_, by show (if v = w then N else rk v) < N + 1; rw [if_neg z]; omega⟩
    show (if tlE G φ k' = w then N else rk (tlE G φ k')) < (if v = w then N else rk v)
    rw [if_neg z]
    by_cases y : tlE G φ k' = w
    · exfalso
      rw [y] at a6 q
      rcases a6 with a6 | a6
      · exact q a6
      · exact a6 hp
    · rw [if_neg y]
      exact a7 q
/-- walking back along the tree: what is turned so far -/
def Wk (G : (Nat → Bool) × (Nat → Nat) × (Nat → Nat)) (E S D : Nat) (φ ψ : Nat → Bool) (par : Nat → Int) (rk : Nat → Nat) (c : Int) (v : Nat) : Prop := (∀ X : Nat → Bool, X S = true → X D = false → net G ψ X E = c + ind X v) ∧ ∀ u : Nat, u < 8 → u ≠ S → par u ≠ -1 → (u = v ∨ (v ≠ S ∧ rk u < rk v)) → ψ (par u).toNat = φ (par u).toNat
theorem Wk.start {φ ψ : Nat → Bool} {par : Nat → Int} {rk : Nat → Nat} {c : Int} (h : Fl G E S D φ c) (e : ∀ k : Nat, ψ k = φ k) : Wk G E S D φ ψ par rk c D := by
  refine ⟨fun X h1 h2 => ?_, fun u _ _ _ _ => e _⟩
  rw [net_ext E (fun k _ => e k), h X h1 h2]
  unfold ind
  rw [h2, if_neg (by decide)]
  omega
theorem Wk.fin {φ ψ : Nat → Bool} {par : Nat → Int} {rk : Nat → Nat} {c : Int} (h : Wk G E S D φ ψ par rk c S) : Fl G E S D ψ (c + 1) := fun X h1 h2 => by
  rw [h.1 X h1 h2]
  unfold ind
  rw [h1, if_pos rfl]
/-- one step back -/
theorem Wk.step {φ ψ ψ' : Nat → Bool} {par : Nat → Int} {rk : Nat → Nat} {N v k : Nat} {c : Int} (ht : Tr G E S φ par rk N) (h : Wk G E S D φ ψ par rk c v) (v8 : v < 8) (vS : v ≠ S) (vp : par v = k) (e1 : ψ' k = !ψ k) (e2 : ∀ j : Nat, j ≠ k → ψ' j = ψ j) : k < E ∧ G.1 k = true ∧ ψ k = φ k ∧ tlE G ψ k < 8 ∧ Rc S par (tlE G ψ k) ∧ Wk G E S D φ ψ' par rk c (tlE G ψ k) ∧ (tlE G ψ k ≠ S → rk (tlE G ψ k) < rk v) := by
  have vn : par v ≠ -1 := by rw [vp]; omega
  obtain ⟨k', a1, a2, a3, a4, a5, a6, a7, a8⟩ := ht v v8 vS vn
  have kk : k' = k := by omega
  subst kk
  have ek : ψ k' = φ k' := by
    have := h.2 v v8 vS vn (Or.inl rfl)
    rw [vp, Int.toNat_natCast] at this
    exact this
  have et : tlE G ψ k' = tlE G φ k' := by unfold tlE; rw [ek]
  have eh : hdE G ψ k' = v := by unfold hdE; rw [ek]; exact a4
  rw [et]
  refine ⟨a2, a3, ek, a5, a6, ⟨fun X h1 h2 => ?_, fun u u8 uS up q => ?_⟩, a7⟩
  · rw [net_flip (φ := ψ) a3 e1 E a2 (fun j _ hj => e2 j hj), h.1 X h1 h2, et, eh]
    omega
  · obtain ⟨ku, b1, b2, b3, b4, b5, b6, b7, b8⟩ := ht u u8 uS up
    have ru : rk u < rk v := by
      rcases q with q | q
      · rw [q]; exact a7 (by rw [← q]; exact uS)
      · exact Nat.lt_trans q.2 (a7 q.1)
    have uv : ku ≠ k' := fun z => by
      have : u = v := by rw [← b4, ← a4, z]
      rw [this] at ru
      omega
    have := h.2 u u8 uS up (Or.inr ⟨vS, ru⟩)
    rw [b1, Int.toNat_natCast] at this ⊢
    rw [e2 ku uv]; exact this
end Flow
