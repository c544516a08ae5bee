/-! ===== trees with their place; chains grow ===== -/
def inR (a b : Nat) (μ μ' : gM) : Prop := ∀ c : Nat, a ≤ c → c < b → gK μ' c = gK μ c ∧ gN μ' c = gN μ c ∧ ∀ j : Nat, gI μ' c j = gI μ c j ∧ gL μ' c j = gL μ c j ∧ gP μ' c j = gP μ c j
theorem inR.refl (a b : Nat) (μ : gM) : inR a b μ μ := fun _ _ _ => ⟨rfl, rfl, fun _ => ⟨rfl, rfl, rfl⟩⟩
theorem inR.trans {a b : Nat} {x y z : gM} (h1 : inR a b x y) (h2 : inR a b y z) : inR a b x z := fun c l r => ⟨(h2 c l r).1.trans (h1 c l r).1, (h2 c l r).2.1.trans (h1 c l r).2.1, fun j => ⟨((h2 c l r).2.2 j).1.trans ((h1 c l r).2.2 j).1, ((h2 c l r).2.2 j).2.1.trans ((h1 c l r).2.2 j).2.1, ((h2 c l r).2.2 j).2.2.trans ((h1 c l r).2.2 j).2.2⟩⟩
theorem inR.dn {a b a' b' : Nat} {x y : gM} (h : inR a b x y) (h1 : a ≤ a') (h2 : b' ≤ b) : inR a' b' x y := fun c l r => h c (by omega) (by omega)
theorem pF.i {z a b : Nat} {μ μ' : gM} (h : pF z μ μ') (ha : 2369 ≤ a) (hb : b ≤ z) : inR a b μ μ' := fun c l r => by
  obtain ⟨h1, h2, h3⟩ := h.2.2 c (by omega)
  exact ⟨h1, h2, fun j => ⟨(h3 j).1 (by unfold pX; omega), (h3 j).2⟩⟩
theorem uF.i {x y a b : Nat} {μ μ' : gM} (h : uF x y μ μ') (hb : b ≤ gZ μ) (hx : x < a ∨ b ≤ x) (hy : y < a ∨ b ≤ y) : inR a b μ μ' := fun c l r => h.2.2 c (by omega) (by omega) (by omega)
/-- a tree at r, whole within the cells from a up to b -/
def Tv (R : gM → Nat → List Int → Prop) (a b : Nat) (μ : gM) (r : Nat) (cs : List Int) : Prop := (a ≤ r ∧ r < b) ∧ (2369 ≤ a ∧ b ≤ gZ μ) ∧ ∀ μ' : gM, inR a b μ μ' → R μ' r cs
theorem Tv.mv {R : gM → Nat → List Int → Prop} {a b : Nat} {μ μ' : gM} {r : Nat} {cs : List Int} (h : Tv R a b μ r cs) (hi : inR a b μ μ') (hz : gZ μ ≤ gZ μ') : Tv R a b μ' r cs := ⟨h.1, ⟨h.2.1.1, Nat.le_trans h.2.1.2 hz⟩, fun μ2 h2 => h.2.2 μ2 (hi.trans h2)⟩
theorem Tv.wide {R : gM → Nat → List Int → Prop} {a b a' b' : Nat} {μ : gM} {r : Nat} {cs : List Int} (h : Tv R a b μ r cs) (h1 : a' ≤ a) (h2 : b ≤ b') (h3 : 2369 ≤ a') (h4 : b' ≤ gZ μ) : Tv R a' b' μ r cs := ⟨⟨by have := h.1; omega, by have := h.1; omega⟩, ⟨h3, h4⟩, fun μ2 i => h.2.2 μ2 (i.dn h1 h2)⟩
/-- what a tree's cell may be put into -/
def gR (R : gM → Nat → List Int → Prop) : Prop := ∀ (μ : gM) (r : Nat) (cs : List Int), R μ r cs → r ≠ 0 ∧ ks r = 0 ∧ cOb μ r = true
theorem cOb_of {μ : gM} {r k : Nat} (h : gK μ r = k) (h1 : 1 ≤ k) (h2 : k ≤ 23) : cOb μ r = true := by
  unfold cOb
  rw [show μ.1 r = k from h, Nat.ble_eq_true_of_le h1, Nat.ble_eq_true_of_le h2]
  rfl
theorem gR_v (al : Int → Prop) (lo : Bool) (d : Nat) : gR (vRep al lo d) := by
  intro μ r cs h
  cases d with
  | zero => exact h.elim
  | succ d =>
    obtain ⟨h1, h2, h3⟩ := h
    refine ⟨h1, h2, ?_⟩
    rcases h3 with ⟨k, _⟩ | ⟨k, _⟩ | ⟨k, _⟩ | ⟨k, _⟩ | ⟨k, _⟩ <;> exact cOb_of k (by omega) (by omega)
theorem gR_t (al : Int → Prop) (lo : Bool) (d : Nat) : gR (tRep al lo d) := by
  intro μ r cs h
  cases d with
  | zero => exact h.elim
  | succ d =>
    obtain ⟨h1, h2, h3⟩ := h
    refine ⟨h1, h2, ?_⟩
    rcases h3 with ⟨k, _⟩ | ⟨k, _⟩ | ⟨k, _⟩ | ⟨k, _⟩ <;> exact cOb_of k (by omega) (by omega)
theorem vRep_s {al : Int → Prop} {lo : Bool} : ∀ (d : Nat) {μ : gM} {r : Nat} {cs : List Int}, vRep al lo d μ r cs → vRep al lo (d + 1) μ r cs
  | 0, _, _, _, h => h.elim
  | d + 1, μ, r, cs, ⟨a, b, h⟩ => by
    refine ⟨a, b, ?_⟩
    rcases h with h | h | ⟨x, c1, c2, k, hk, y, h1, h2, e⟩ | ⟨x, y, c1, k, hk, u, v, h1, e⟩ | ⟨x, n, f, g, y, u, hf, v, hg, e⟩
    · exact Or.inl h
    · exact Or.inr (Or.inl h)
    · exact Or.inr (Or.inr (Or.inl ⟨x, c1, c2, k, hk, y, vRep_s d h1, vRep_s d h2, e⟩))
    · exact Or.inr (Or.inr (Or.inr (Or.inl ⟨x, y, c1, k, hk, u, v, vRep_s d h1, e⟩)))
    · exact Or.inr (Or.inr (Or.inr (Or.inr ⟨x, n, f, g, y, u, fun i hi => vRep_s d (hf i hi), v, hg, e⟩)))
theorem vRep_le {al : Int → Prop} {lo : Bool} {d d' : Nat} (hd : d ≤ d') {μ : gM} {r : Nat} {cs : List Int} (h : vRep al lo d μ r cs) : vRep al lo d' μ r cs := by
  obtain ⟨k, rfl⟩ : ∃ k, d' = d + k := ⟨d' - d, by omega⟩
  clear hd
  induction k with
  | zero => exact h
  | succ k ih => exact vRep_s _ ih
theorem tRep_s {al : Int → Prop} {lo : Bool} : ∀ (d : Nat) {μ : gM} {r : Nat} {cs : List Int}, tRep al lo d μ r cs → tRep al lo (d + 1) μ r cs
  | 0, _, _, _, h => h.elim
  | d + 1, μ, r, cs, ⟨a, b, h⟩ => by
    refine ⟨a, b, ?_⟩
    rcases h with h | ⟨x, c1, c2, k, hk, y, h1, h2, e⟩ | ⟨x, c1, h1, e⟩ | ⟨x, n, f, k, hk, y, u, v, hf, e⟩
    · exact Or.inl h
    · exact Or.inr (Or.inl ⟨x, c1, c2, k, hk, y, vRep_s d h1, vRep_s d h2, e⟩)
    · exact Or.inr (Or.inr (Or.inl ⟨x, c1, tRep_s d h1, e⟩))
    · exact Or.inr (Or.inr (Or.inr ⟨x, n, f, k, hk, y, u, v, fun i hi => tRep_s d (hf i hi), e⟩))
theorem tRep_le {al : Int → Prop} {lo : Bool} {d d' : Nat} (hd : d ≤ d') {μ : gM} {r : Nat} {cs : List Int} (h : tRep al lo d μ r cs) : tRep al lo d' μ r cs := by
  obtain ⟨k, rfl⟩ : ∃ k, d' = d + k := ⟨d' - d, by omega⟩
  clear hd
  induction k with
  | zero => exact h
  | succ k ih => exact tRep_s _ ih
/-- a list at r of n trees; all its own cells and those of its trees lie above c; the trees keep clear of x and y -/
def lsT (R : gM → Nat → List Int → Prop) (μ : gM) (c r x y n : Nat) (f : Nat → List Int) : Prop := ∃ L : Nat → Nat, lsR μ r n L ∧ (c < r ∧ c < gP μ r 1 ∧ r ≠ gP μ r 1) ∧ ∀ i : Nat, i < n → ∃ a b : Nat, ((c < a ∧ r < a ∧ (gP μ r 1 < a ∨ b ≤ gP μ r 1)) ∧ (x < a ∨ b ≤ x) ∧ (y < a ∨ b ≤ y)) ∧ Tv R a b μ (L i) (f i)
theorem lst.i {μ μ' : gM} {r : Nat} {n : Int} (h : lst μ r n) (h1 : inR r (r + 1) μ μ') (h2 : inR (gP μ r 1) (gP μ r 1 + 1) μ μ') : lst μ' r n ∧ gP μ' r 1 = gP μ r 1 ∧ ∀ i : Nat, el μ' r i = el μ r i := by
  obtain ⟨a1, a2, a3, a4, a5, a6, a7, a8, a9⟩ := h
  obtain ⟨e1, e2, e3⟩ := h1 r (Nat.le_refl _) (Nat.lt_succ_self _)
  obtain ⟨f1, f2, f3⟩ := h2 _ (Nat.le_refl _) (Nat.lt_succ_self _)
  have eP : gP μ' r 1 = gP μ r 1 := (e3 1).2.2
  have eE : ∀ i : Nat, el μ' r i = el μ r i := fun i => by unfold el; rw [eP]; exact (f3 i).2.2
  exact ⟨⟨a1, a2, e1.trans a3, (e3 2).1.trans a4, by rw [eP]; exact a5, by rw [eP]; exact a6, by rw [eP]; exact f1.trans a7, by rw [eP, f2]; exact a8, fun i hi' => by rw [eE]; exact a9 i hi'⟩, eP, eE⟩
theorem lsR.i {μ μ' : gM} {r n : Nat} {L : Nat → Nat} (h : lsR μ r n L) (h1 : inR r (r + 1) μ μ') (h2 : inR (gP μ r 1) (gP μ r 1 + 1) μ μ') (hz : gZ μ ≤ gZ μ') (hL : ∀ i : Nat, i < n → cOb μ' (L i) = true) : lsR μ' r n L := by
  obtain ⟨k1, ⟨b1, b2⟩, ⟨c1, c2⟩, d1, d0, d2⟩ := h
  obtain ⟨l1, l2, l3⟩ := k1.i h1 h2
  obtain ⟨f1, f2, f3⟩ := h2 _ (Nat.le_refl _) (Nat.lt_succ_self _)
  exact ⟨l1, ⟨b1, by omega⟩, ⟨by rw [l2]; exact c1, by rw [l2]; omega⟩, by rw [l2, f2]; exact d1, by rw [l2, f2]; exact d0, fun i hi' => ⟨by rw [l3]; exact (d2 i hi').1, hL i hi', by have := (d2 i hi').2.2; omega⟩⟩
theorem lsT.mv {R : gM → Nat → List Int → Prop} {μ μ' : gM} {c r x y y' n : Nat} {f : Nat → List Int} (hR : gR R) (h : lsT R μ c r x y n f) (hy : y' = y ∨ gZ μ ≤ y') (h1 : inR r (r + 1) μ μ') (h2 : inR (gP μ r 1) (gP μ r 1 + 1) μ μ') (h3 : ∀ a b : Nat, c < a → r < a → (x < a ∨ b ≤ x) → (y < a ∨ b ≤ y) → b ≤ gZ μ → inR a b μ μ') (hz : gZ μ ≤ gZ μ') : lsT R μ' c r x y' n f := by
  obtain ⟨L, l1, ⟨d1, d2, d3⟩, l2⟩ := h
  obtain ⟨e1, e2, e3⟩ := h1 r (Nat.le_refl _) (Nat.lt_succ_self _)
  have eP : gP μ' r 1 = gP μ r 1 := (e3 1).2.2
  have T : ∀ i : Nat, i < n → ∃ a b : Nat, ((c < a ∧ r < a ∧ (gP μ' r 1 < a ∨ b ≤ gP μ' r 1)) ∧ (x < a ∨ b ≤ x) ∧ (y' < a ∨ b ≤ y')) ∧ Tv R a b μ' (L i) (f i) := fun i hi' => by
    obtain ⟨a, b, q1, q2⟩ := l2 i hi'
    have qz := q2.2.1.2
    rw [eP]
    exact ⟨a, b, ⟨q1.1, q1.2.1, by have := q1.2.2; omega⟩, q2.mv (h3 a b q1.1.1 q1.1.2.1 q1.2.1 q1.2.2 q2.2.1.2) hz⟩
  refine ⟨L, l1.i h1 h2 hz (fun i hi' => ?_), ⟨d1, by rw [eP]; exact d2, by rw [eP]; exact d3⟩, T⟩
  obtain ⟨a, b, q1, q2⟩ := T i hi'
  exact (hR _ _ _ (q2.2.2 μ' (inR.refl _ _ _))).2.2
/-- a tree is put to a list -/
theorem c_addT {R : gM → Nat → List Int → Prop} (hR : gR R) {μ : gM} {c r x y n e a b : Nat} {f : Nat → List Int} {cs : List Int} (h : lsT R μ c r x y n f) (hn : n < 1200) (ht : Tv R a b μ e cs) (ha : (c < a ∧ r < a ∧ (gP μ r 1 < a ∨ b ≤ gP μ r 1)) ∧ (x < a ∨ b ≤ x) ∧ (y < a ∨ b ≤ y)) : ∃ μ' : gM, cf_J2_add r e μ = some (1, μ') ∧ lsT R μ' c r x y (n + 1) (fun i => if i = n then cs else f i) ∧ uF r (gP μ r 1) μ μ' ∧ (gP μ' r 1 = gP μ r 1 ∨ gP μ' r 1 = gZ μ) ∧ gC μ' ≤ gC μ + (n + n / 2 + 9) := by
  obtain ⟨L, l1, ⟨d1, d2, d3⟩, l2⟩ := h
  obtain ⟨g1, g2, g3⟩ := hR _ _ _ (ht.2.2 μ (inR.refl _ _ _))
  obtain ⟨μ', s1, s2, s3, s4, s5⟩ := c_add l1 hn g1 g2 (by have := ht.1; have := ht.2.1; omega) g3 d3
  have h2' : c < gP μ' r 1 := by
    rcases s4 with z | z
    · rw [z]; exact d2
    · rw [z]; have := l1.2.1; omega
  have h3' : r ≠ gP μ' r 1 := by
    rcases s4 with z | z
    · rw [z]; exact d3
    · rw [z]; have := l1.2.1; omega
  refine ⟨μ', s1, ⟨_, s2, ⟨d1, h2', h3'⟩, fun i hi => ?_⟩, s3, s4, s5⟩
  have keep : ∀ (x' : Nat) (w : List Int) (a b : Nat), ((c < a ∧ r < a ∧ (gP μ r 1 < a ∨ b ≤ gP μ r 1)) ∧ (x < a ∨ b ≤ x) ∧ (y < a ∨ b ≤ y)) → Tv R a b μ x' w → ∃ a b : Nat, ((c < a ∧ r < a ∧ (gP μ' r 1 < a ∨ b ≤ gP μ' r 1)) ∧ (x < a ∨ b ≤ x) ∧ (y < a ∨ b ≤ y)) ∧ Tv R a b μ' x' w := fun x' w a b q1 q2 => by
    refine ⟨a, b, ⟨⟨q1.1.1, q1.1.2.1, ?_⟩, q1.2⟩, q2.mv (s3.i q2.2.1.2 (Or.inl q1.1.2.1) q1.1.2.2) s3.1⟩
    rcases s4 with z | z
    · rw [z]; exact q1.1.2.2
    · rw [z]; exact Or.inr q2.2.1.2
  by_cases q : i = n
  · dsimp only
    rw [if_pos q, if_pos q]
    exact keep _ _ a b ha ht
  · dsimp only
    rw [if_neg q, if_neg q]
    obtain ⟨a', b', q1, q2⟩ := l2 i (by omega)
    exact keep _ _ a' b' q1 q2
theorem sbP.i {μ μ' : gM} {b n : Nat} {g : Nat → Int} (h : sbP μ b n g) (h1 : inR b (b + 1) μ μ') (h2 : inR (gP μ b 0) (gP μ b 0 + 1) μ μ') (hz : gZ μ ≤ gZ μ') : sbP μ' b n g ∧ gP μ' b 0 = gP μ b 0 := by
  obtain ⟨⟨a1, a2, a3, a4, a5, a6, a7, a8, a9, a10, a11⟩, ⟨b1, b2⟩, ⟨c1, c2⟩, d1, d2⟩ := h
  obtain ⟨e1, e2, e3⟩ := h1 b (Nat.le_refl _) (Nat.lt_succ_self _)
  obtain ⟨f1, f2, f3⟩ := h2 _ (Nat.le_refl _) (Nat.lt_succ_self _)
  have eP : gP μ' b 0 = gP μ b 0 := (e3 0).2.2
  refine ⟨⟨⟨a1, a2, e1.trans a3, (e3 1).1.trans a4, (e3 3).1.trans a5, by rw [eP]; exact a6, by rw [eP]; exact a7, by rw [eP]; exact f1.trans a8, by rw [eP, f2]; exact a9, by rw [eP, f2]; exact a10, fun i hi => by rw [eP, (f3 i).1]; exact a11 i hi⟩, ⟨b1, by omega⟩, ⟨by rw [eP]; exact c1, by rw [eP]; omega⟩, by rw [eP, f2]; exact d1, by rw [eP]; exact d2⟩, eP⟩
