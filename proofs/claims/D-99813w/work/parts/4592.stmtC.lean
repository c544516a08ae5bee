/-! ===== the component: a statement, all of them ===== -/
section StmtC
variable {T : Nat → Int} {n S z0 c : Nat} {μ : gM} {h : HS}
/-- what a statement's inner part gives -/
def tC2 (T : Nat → Int) (n S z0 c : Nat) (μ : gM) (s : Rs HS) (p : Nat) {β : Type} (b : β) (q : Option β × gM) : Prop := hpF z0 μ q.2 ∧ gI q.2 1011 1 = gI μ 1011 1 ∧ ((∃ (p' : Nat) (h' : HS), s = Sum.inr (p', h') ∧ q.1 = some b ∧ stC z0 c q.2 h' ∧ cAt T n q.2 p' ∧ gI q.2 c 0 = gI μ c 0 ∧ gC q.2 + S * p ≤ gC μ + S * p' + 2 * xE T n p') ∨ (∃ (k : Int) (l : Nat), s = Sum.inl (k, l) ∧ q.1 = none ∧ cErr q.2 k l ∧ gC q.2 + S * p ≤ gC μ + S * (n + 2) + (4 * n + 2100)) ∨ ∃ (p' : Nat) (h' : HS), s = Sum.inr (p', h') ∧ T p' ≠ 59 ∧ q.1 = none ∧ cErr q.2 1 p' ∧ gC q.2 + S * p ≤ gC μ + S * (n + 2) + (4 * n + 2100))
theorem tC.two {s : Rs HS} {p : Nat} {β : Type} {b : β} {q : Option β × gM} (ht : tC T n S z0 c μ s p b q) : tC2 T n S z0 c μ s p b q := by
  obtain ⟨a1, a2, a3⟩ := ht
  refine ⟨a1, a2, ?_⟩
  rcases a3 with ⟨p', h', e1, e2, e3, e4, e5, e6⟩ | ⟨k, l, e1, e2, e3, e4⟩
  · exact Or.inl ⟨p', h', e1, e2, e3, e4, e5, Nat.le_trans e6 (Nat.le_add_right _ _)⟩
  · exact Or.inr (Or.inl ⟨k, l, e1, e2, e3, Nat.le_trans e4 (Nat.add_le_add_left (by omega) _)⟩)
theorem cst_up {a b c d e x y z w : Nat} (h1 : a + x ≤ b + y + z) (h2 : w + e ≤ x) (h3 : b ≤ c + d) (h4 : d ≤ e) : a + w ≤ c + y + z := by omega
/-- from where a word was read -/
theorem tC2.up {μ0 : gM} {s : Rs HS} {p p0 : Nat} {β : Type} {b : β} {q : Option β × gM} (ht : tC2 T n S z0 c μ s p b q) (hS : 1000 ≤ S) (hp : p0 < p) (x : hpF z0 μ0 μ) (h1 : gI μ 1011 1 = gI μ0 1011 1) (h0 : gI μ c 0 = gI μ0 c 0) (hg : gC μ ≤ gC μ0 + (2 * (p - p0) + 28)) : tC2 T n S z0 c μ0 s p0 b q := by
  obtain ⟨a1, a2, a3⟩ := ht
  have m1 := Nat.mul_le_mul_left S (show p0 + (p - p0) ≤ p by omega)
  rw [Nat.mul_add] at m1
  have m2 : 1000 * (p - p0) ≤ S * (p - p0) := Nat.mul_le_mul_right _ hS
  have hd : 2 * (p - p0) + 28 ≤ S * (p - p0) := by omega
  refine ⟨x.trans a1, a2.trans h1, ?_⟩
  rcases a3 with ⟨p', h', e1, e2, e3, e4, e5, e6⟩ | ⟨k, l, e1, e2, e3, e4⟩ | ⟨p', h', e1, e0, e2, e3, e4⟩
  · exact Or.inl ⟨p', h', e1, e2, e3, e4, e5.trans h0, by omega⟩
  · exact Or.inr (Or.inl ⟨k, l, e1, e2, e3, cst_up e4 m1 hg hd⟩)
  · exact Or.inr (Or.inr ⟨p', h', e1, e0, e2, e3, cst_up e4 m1 hg hd⟩)
/-- a tree is hung into the household -/
theorem stC.tree {j r : Nat} {cs : List Int} {R : gM → Nat → List Int → Prop} {m : gM} {h' : HS} (st : stC z0 c μ h) (x : pF (gZ μ) μ m) (h4 : gI m 1011 4 = gI μ 1011 4) (hj : j = 7 ∨ j = 8) (ht : Tv R (gZ μ) (gZ m) m r cs) (hr : r ≠ 0) (hNN : hN h' = hN h) (hold : hP h' = hP h) (hst : h'.st = h.st ∧ h'.dg = h.dg) (hb : (j = 7 ∧ R = vRep (alS false) false 26 ∧ h'.bu = some cs ∧ h'.mn = h.mn) ∨ (j = 8 ∧ R = tRep (alS false) false 50 ∧ h'.bu = h.bu ∧ h'.mn = some cs)) : stC z0 c (gz_sP m c j r) h' ∧ hpF z0 μ (gz_sP m c j r) ∧ gI (gz_sP m c j r) 1011 1 = gI μ 1011 1 ∧ gI (gz_sP m c j r) c 0 = gI μ c 0 := by
  have sz := st.z
  have sm := st.p x h4
  have pl := st.1.pl x
  obtain ⟨⟨r1, r2, r3, r4⟩, s2, s3, s4⟩ := sm
  have cz := r1.1.2
  have hs : ∀ d : Nat, 2369 ≤ d → d < gZ m → d ≠ c → smC m (gz_sP m c j r) d := fun d _ _ hd => ⟨rfl, rfl, fun j' => ⟨rfl, rfl, by rw [sP_p, if_neg (fun q => hd q.1)]⟩⟩
  have hp : ∀ i : Nat, i < 4 → gP (gz_sP m c j r) c (3 + i) = gP m c (3 + i) := fun i hi => by rw [sP_p, if_neg (by omega)]
  obtain ⟨b1, b2⟩ := r1.fld hs rfl hp (Nat.le_refl _)
  have mu : ∀ d : Nat, Mu m c d → d < gZ μ := fun d q => by
    refine Mu_lt st.1.1 ?_
    rcases q with q | ⟨i, hi, q⟩
    · exact Or.inl q
    · rw [(pl i hi).1, (pl i hi).2] at q
      exact Or.inr ⟨i, hi, q⟩
  have eP : gP (gz_sP m c j r) c j = r := by rw [sP_p, if_pos ⟨rfl, rfl⟩]
  have new : gP (gz_sP m c j r) c j ≠ 0 ∧ okS (gz_sP m c j r) (Mu (gz_sP m c j r) c) (fun μ' => R μ' (gP (gz_sP m c j r) c j) cs) := by
    rw [eP]
    refine ⟨hr, ?_⟩
    have o := ht.okS (Mu := Mu m c) (fun d d1 d2 q => by have := mu d q; omega)
    exact o.mv (fun d d1 d2 d3 => hs d d1 d2 (fun q => d3 (Or.inl q))) (Nat.le_refl _) (fun d _ q => b2 d q)
  have old : ∀ (i : Nat) (R' : gM → Nat → List Int → Prop) (o : Option (List Int)), i ≠ j → trO m c i R' o → trO (gz_sP m c j r) c i R' o := fun i R' o hi ho => ho.mv (by rw [sP_p, if_neg (by omega)]) (fun d d1 d2 d3 => hs d d1 d2 (fun q => d3 (Or.inl q))) (Nat.le_refl _) (fun d _ q => b2 d q)
  have smc := x.sm sz.2.2.2.2.2 sz.2.2.2.2.1
  have fr : hpF z0 m (gz_sP m c j r) := (pF.sP (z := z0) s2.1.2).hp (Nat.le_refl _)
  exact ⟨⟨⟨by rw [hNN, hold]; exact b1, by rw [hst.1, hst.2]; exact r2, by
    rcases hb with ⟨e1, e2, e3, e4⟩ | ⟨e1, e2, e3, e4⟩
    · rw [e3]; subst e1 e2; exact new
    · rw [e3]; exact old 7 _ _ (by omega) r3, by
    rcases hb with ⟨e1, e2, e3, e4⟩ | ⟨e1, e2, e3, e4⟩
    · rw [e4]; exact old 8 _ _ (by omega) r4
    · rw [e4]; subst e1 e2; exact new⟩, ⟨s2.1, fun i hi => by
      have e2 : acC (gz_sP m c j r) c i = acC m c i := by
        show gP (gz_sP m c j r) (gP (gz_sP m c j r) c (3 + i)) 1 = _
        rw [hp i hi, sP_p, if_neg (fun q => (r1.2.1.1 i hi).1 q.1.symm)]
      show z0 ≤ gP (gz_sP m c j r) c (3 + i) ∧ z0 ≤ acC (gz_sP m c j r) c i
      rw [e2, hp i hi]; exact s2.2 i hi⟩, by rw [sP_p, if_neg (by omega)]; exact s3, s4⟩, (x.hp sz.1).trans fr, (x.at1 (by omega)).1, (smc.2.2 0).1⟩
end StmtC
