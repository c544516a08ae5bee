/-! ===== the component reckons ways ===== -/
abbrev farC (μ : gM) (a b : Nat) : Int := ci μ (1019 + a) b
def up2 (f : Nat → Nat → Int) (a b : Nat) (v : Int) : Nat → Nat → Int := fun x y => if x = a ∧ y = b then v else f x y
def fwF (μ μ' : gM) : Prop := μ'.1 = μ.1 ∧ μ'.2.1 = μ.2.1 ∧ μ'.2.2.2 = μ.2.2.2 ∧ ∀ c j : Nat, ¬ (1019 ≤ c ∧ c ≤ 1026) → gI μ' c j = gI μ c j
theorem fwF.refl (μ : gM) : fwF μ μ := ⟨rfl, rfl, rfl, fun _ _ _ => rfl⟩
theorem fwF.trans {a b c : gM} (h1 : fwF a b) (h2 : fwF b c) : fwF a c := ⟨h2.1.trans h1.1, h2.2.1.trans h1.2.1, h2.2.2.1.trans h1.2.2.1, fun x y k => (h2.2.2.2 x y k).trans (h1.2.2.2 x y k)⟩
theorem fwF.sI {μ : gM} {a j : Nat} {v : Int32} (h : a < 8) : fwF μ (gz_sI μ (1019 + a) j v) := ⟨rfl, rfl, rfl, fun c' j' k => by rw [sI_i, if_neg (by omega)]⟩
theorem ks_far : ∀ a : Nat, a < 8 → ks (1019 + a) = 101 ∧ ns (1019 + a) = 8 := by decide
theorem fwF.dy {μ μ' : gM} (h : fwF μ μ') : dyS μ μ' := by
  obtain ⟨h1, h2, h3, h4⟩ := h
  have hL : gL μ' = gL μ := congrArg Prod.fst h3
  have hP : gP μ' = gP μ := congrArg (fun z => z.2.1) h3
  refine ⟨h1, h2, congrArg (fun z => z.2.2) h3, fun c hc j => ⟨h4 c j (fun q => ?_), by rw [hL], by rw [hP]⟩⟩
  have := (ks_far (c - 1019) (by omega)).1
  rw [show 1019 + (c - 1019) = c by omega, hc] at this
  cases this
theorem fwF.P {μ μ' : gM} (h : fwF μ μ') (c j : Nat) : gP μ' c j = gP μ c j := congrFun (congrFun (congrArg (fun z => z.2.1) h.2.2.1) c) j
theorem farC_up {μ : gM} {a b : Nat} {v : Int} (hv : -10 ≤ v ∧ v ≤ 1000000000) : farC (gz_sI μ (1019 + a) b (iI v)) = up2 (farC μ) a b v := by
  funext x y
  show ci (gz_sI μ (1019 + a) b (iI v)) (1019 + x) y = up2 (farC μ) a b v x y
  unfold ci up2
  rw [sI_i]
  by_cases e : x = a ∧ y = b
  · rw [if_pos ⟨by omega, e.2⟩, if_pos e, toInt_iI (by omega) (by omega)]
  · rw [if_neg (fun q => e ⟨by omega, q.2⟩), if_neg e]; rfl
/-- the doors, as the component holds them -/
def drC (h : HS) (μ : gM) : Prop := (hC μ ≠ 0 ∧ gK μ (hC μ) = 2) ∧ lst μ (gP μ (hC μ) 4) h.nd ∧ ∀ k : Nat, k < h.nd → gK μ (el μ (gP μ (hC μ) 4) k) = 8 ∧ gI μ (el μ (gP μ (hC μ) 4) k) 0 = iI (h.dv k).1 ∧ gI μ (el μ (gP μ (hC μ) 4) k) 1 = iI (h.dv k).2.1 ∧ gI μ (el μ (gP μ (hC μ) 4) k) 2 = iI (h.dv k).2.2
theorem drC.f {h : HS} {μ μ' : gM} (hD : drC h μ) (x : fwF μ μ') : drC h μ' := by
  obtain ⟨⟨a1, a2⟩, a3, a4⟩ := hD
  have eh : hC μ' = hC μ := x.P 1000 0
  have e4 : gP μ' (hC μ') 4 = gP μ (hC μ) 4 := by rw [eh]; exact x.P _ _
  obtain ⟨l1, l2⟩ := a3.dy x.dy
  have hK : gK μ' = gK μ := x.1
  refine ⟨⟨by rw [eh]; exact a1, by rw [eh, hK]; exact a2⟩, by rw [e4]; exact l1, fun k hk => ?_⟩
  have hks := (a3.2.2.2.2.2.2.2.2 k (by omega)).2
  obtain ⟨b1, b2, b3, b4⟩ := a4 k hk
  rw [e4, l2 k, hK, (x.dy.2.2.2 _ hks 0).1, (x.dy.2.2.2 _ hks 1).1, (x.dy.2.2.2 _ hks 2).1]
  exact ⟨b1, b2, b3, b4⟩
section WaysC
variable {μ : gM} {h : HS}
/-- a phase: through hall c -/
theorem c_phase {c : Nat} {Q : (Int32 × gM) ⊕ (Unit × gM) → Prop} {f : Nat → Nat → Int} (hc : c < 8) (hf : ∀ a b : Nat, a < 8 → b < 8 → farC μ a b = f a b) (hb : ∀ a b : Nat, a < 8 → b < 8 → 0 ≤ f a b ∧ f a b ≤ 100000000) (h0 : f c c = 0) (hQ : ∀ μ' : gM, fwF μ μ' → (∀ a b : Nat, a < 8 → b < 8 → farC μ' a b = nwF f c a b) → Q (Sum.inl (iI ((c + 1 : Nat) : Int), μ'))) : pw (ml_X0_reckonsWays_161 (iI c) (0 : Int32) μ) Q := by
  have gc : gz_ix (iI (c : Int)) = c := by rw [gix (by omega)]; omega
  have nc : gz_in (iI (c : Int)) 8 := (gin_iI (by omega)).2 (by omega)
  have es : ∀ i : Nat, iI (i : Int) + 1 = iI ((i + 1 : Nat) : Int) := fun i => by rw [show (1 : Int32) = iI 1 from rfl, iI_add]; rfl
  unfold ml_X0_reckonsWays_161
  refine pw_for (fun (i : Nat) (q : Int32 × Int32 × gM) => q.1 = iI c ∧ q.2.1 = iI i ∧ fwF μ q.2.2 ∧ ∀ a b : Nat, a < 8 → b < 8 → farC q.2.2 a b = if a < i then nwF f c a b else f a b) 8 ?_ ?_ ⟨rfl, rfl, fwF.refl μ, fun a b ha hb => by rw [if_neg (Nat.not_lt_zero _)]; exact hf a b ha hb⟩
  · rintro a ⟨q1, q2, m1⟩ ha ⟨e1, e2, f1, g1⟩
    dsimp only at e1 e2 f1 g1 ⊢
    subst e1 e2
    have ga : gz_ix (iI (a : Int)) = a := by rw [gix (by omega)]; omega
    have na : gz_in (iI (a : Int)) 8 := (gin_iI (by omega)).2 (by omega)
    unfold mb_X0_reckonsWays_161
    refine pw_f (by rw [show (8 : Int32) = iI 8 from rfl, iI_le (by omega) (by omega)]; omega) ?_
    unfold ml_X0_reckonsWays_169
    refine pw_for (fun (i : Nat) (q : Int32 × Int32 × Int32 × gM) => q.1 = iI c ∧ q.2.1 = iI a ∧ q.2.2.1 = iI i ∧ fwF μ q.2.2.2 ∧ ∀ x b : Nat, x < 8 → b < 8 → farC q.2.2.2 x b = if x < a ∨ (x = a ∧ b < i) then nwF f c x b else f x b) 8 ?_ ?_ ⟨rfl, rfl, rfl, f1, fun x b hx hb => ?_⟩
    · rintro b ⟨q1, q2, q3, m2⟩ hb8 ⟨e1, e2, e3, f2, g2⟩
      dsimp only at e1 e2 e3 f2 g2 ⊢
      subst e1 e2 e3
      have gb : gz_ix (iI (b : Int)) = b := by rw [gix (by omega)]; omega
      have nb : gz_in (iI (b : Int)) 8 := (gin_iI (by omega)).2 (by omega)
      have r1 := hb a c ha hc
      have r2 := hb c b hc hb8
      have r3 := hb a b ha hb8
      have v1 : farC m2 a c = f a c := by
        rw [g2 a c ha hc]
        split
        · unfold nwF; rw [h0, if_neg (by omega)]
        · rfl
      have v2 : farC m2 c b = f c b := by
        rw [g2 c b hc hb8]
        split
        · unfold nwF; rw [h0, if_neg (by omega)]
        · rfl
      have v3 : farC m2 a b = f a b := by rw [g2 a b ha hb8, if_neg (by omega)]
      unfold mb_X0_reckonsWays_169
      rw [ga, gb, gc]
      refine pw_f (by rw [show (8 : Int32) = iI 8 from rfl, iI_le (by omega) (by omega)]; omega) (pw_gu na (pw_gu na (pw_gu nb (pw_gu na (pw_gu nc (pw_gu nc (pw_gu nb ?_)))))))
      rw [ci_of m2 (1019 + a) b, ci_of m2 (1019 + a) c, ci_of m2 (1019 + c) b, show ci m2 (1019 + a) b = f a b from v3, show ci m2 (1019 + a) c = f a c from v1, show ci m2 (1019 + c) b = f c b from v2, iI_add, c_J8min (by omega) (by omega)]
      refine pw_bind (pw_some (pw_gu nb (pw_let (pw_let (pw_some ⟨rfl, rfl, es b, f2.trans (fwF.sI ha), fun x y hx hy => ?_⟩)))))
      show farC (gz_sI m2 (1019 + a) b (iI (nwF f c a b))) x y = _
      have hn : -10 ≤ nwF f c a b ∧ nwF f c a b ≤ 1000000000 := by unfold nwF; split <;> omega
      rw [farC_up hn]
      unfold up2
      by_cases e : x = a ∧ y = b
      · rw [if_pos e, e.1, e.2, if_pos (by omega)]
      · rw [if_neg e, g2 x y hx hy]
        by_cases e2 : x < a ∨ (x = a ∧ y < b)
        · rw [if_pos e2, if_pos (by omega)]
        · rw [if_neg e2, if_neg (by omega)]
    · rintro ⟨q1, q2, q3, m2⟩ ⟨e1, e2, e3, f2, g2⟩
      dsimp only at e1 e2 e3 f2 g2 ⊢
      subst e1 e2 e3
      unfold mb_X0_reckonsWays_169
      refine pw_t (by decide) (pw_let (pw_some ⟨rfl, es a, f2, fun x y hx hy => ?_⟩))
      show farC m2 x y = _
      rw [g2 x y hx hy]
      by_cases e2 : x < a + 1
      · rw [if_pos e2, if_pos (by omega)]
      · rw [if_neg e2, if_neg (by omega)]
    · show farC m1 x b = _
      rw [g1 x b hx hb]
      by_cases e2 : x < a
      · rw [if_pos e2, if_pos (Or.inl e2)]
      · rw [if_neg e2, if_neg (by omega)]
  · rintro ⟨q1, q2, m1⟩ ⟨e1, e2, f1, g1⟩
    dsimp only at e1 e2 f1 g1 ⊢
    subst e1 e2
    unfold mb_X0_reckonsWays_161
    refine pw_t (by decide) (pw_let (pw_some ?_))
    show Q (Sum.inl (iI (c : Int) + 1, m1))
    rw [es]
    exact hQ m1 f1 (fun a b ha hb => by rw [g1 a b ha hb, if_pos ha])
theorem fwI.cg {k : Nat} {f g : Nat → Nat → Int} (ho : hsOK h) (hI : fwI h k f) (hk : k ≤ 8) (e : ∀ a b : Nat, a < 8 → b < 8 → g a b = f a b) : fwI h k g := by
  obtain ⟨i1, i2, i3, i4, i5⟩ := hI
  refine ⟨fun a b ha hb => by rw [e a b ha hb]; exact i1 a b ha hb, fun a ha => by rw [e a a ha ha]; exact i2 a ha, fun a b ha hb hl => by rw [e a b ha hb] at hl ⊢; exact i3 a b ha hb hl, fun x y s q => ?_, fun c hc a b ha hb => ?_⟩
  · obtain ⟨b1, b2, -⟩ := q.b ho
    rw [e x y b1 b2]
    exact i4 x y s q
  · rw [e a b ha hb, e a c ha (by omega), e c b (by omega) hb]
    exact i5 c hc a b ha hb
theorem c_phases {Q : Unit × gM → Prop} (ho : hsOK h) (hI : fwI h 0 (farC μ)) (hQ : ∀ μ' : gM, fwF μ μ' → matG h (farC μ') → Q ((), μ')) : pw (ml_X0_reckonsWays_153 (0 : Int32) μ) Q := by
  unfold ml_X0_reckonsWays_153
  refine pw_for (fun (i : Nat) (q : Int32 × gM) => q.1 = iI i ∧ fwF μ q.2 ∧ fwI h i (farC q.2)) 8 ?_ ?_ ⟨rfl, fwF.refl μ, hI⟩
  · rintro c ⟨q1, m1⟩ hc ⟨e1, f1, I1⟩
    dsimp only at e1 f1 I1 ⊢
    subst e1
    unfold mb_X0_reckonsWays_153
    refine pw_f (by rw [show (8 : Int32) = iI 8 from rfl, iI_le (by omega) (by omega)]; omega) (c_phase (f := farC m1) hc (fun _ _ _ _ => rfl) I1.1 (I1.2.1 c hc) (fun m2 f2 g2 => ?_))
    exact ⟨rfl, f1.trans f2, (I1.s hc).cg ho (by omega) g2⟩
  · rintro ⟨q1, m1⟩ ⟨e1, f1, I1⟩
    dsimp only at e1 f1 I1 ⊢
    subst e1
    unfold mb_X0_reckonsWays_153
    exact pw_t (by decide) (pw_some (hQ m1 f1 (I1.mat ho)))
/-- the table while doors are laid in -/
def dI (h : HS) (k : Nat) (f : Nat → Nat → Int) : Prop := (∀ a b : Nat, a < 8 → b < 8 → 0 ≤ f a b ∧ f a b ≤ 100000000) ∧ (∀ a : Nat, a < 8 → f a a = 0) ∧ (∀ a b : Nat, a < 8 → b < 8 → f a b = f b a) ∧ (∀ a b : Nat, a < 8 → b < 8 → f a b < 100000000 → ∃ j : Nat, wk h j a b (f a b)) ∧ ∀ i : Nat, i < k → f (h.dv i).1 (h.dv i).2.1 ≤ (h.dv i).2.2
theorem dI.s {k : Nat} {f : Nat → Nat → Int} (ho : hsOK h) (hk : k < h.nd) (hI : dI h k f) : dI h (k + 1) (up2 (up2 f (h.dv k).1 (h.dv k).2.1 (if (h.dv k).2.2 < f (h.dv k).1 (h.dv k).2.1 then (h.dv k).2.2 else f (h.dv k).1 (h.dv k).2.1)) (h.dv k).2.1 (h.dv k).1 (if (h.dv k).2.2 < f (h.dv k).1 (h.dv k).2.1 then (h.dv k).2.2 else f (h.dv k).1 (h.dv k).2.1)) := by
  obtain ⟨i1, i2, i3, i4, i5⟩ := hI
  have ed : edg h (h.dv k).1 (h.dv k).2.1 (h.dv k).2.2 := ⟨k, hk, Or.inl rfl⟩
  obtain ⟨b1, b2, b3, b4⟩ := ed.b ho
  generalize hx : (h.dv k).1 = x at *
  generalize hy : (h.dv k).2.1 = y at *
  generalize hs : (h.dv k).2.2 = s at *
  generalize hv : (if s < f x y then s else f x y) = v
  have v1 : v ≤ s ∧ v ≤ f x y := by rw [← hv]; split <;> omega
  have v2 : v = s ∨ v = f x y := by
    rw [← hv]; split
    · exact Or.inl rfl
    · exact Or.inr rfl
  have r := i1 x y b1 b2
  have val : ∀ a b : Nat, up2 (up2 f x y v) y x v a b = if (a = x ∧ b = y) ∨ (a = y ∧ b = x) then v else f a b := fun a b => by
    unfold up2
    by_cases e1 : a = y ∧ b = x
    · rw [if_pos e1, if_pos (Or.inr e1)]
    · rw [if_neg e1]
      by_cases e2 : a = x ∧ b = y
      · rw [if_pos e2, if_pos (Or.inl e2)]
      · rw [if_neg e2, if_neg (fun q => q.elim e2 e1)]
  refine ⟨fun a b ha hb => ?_, fun a ha => ?_, fun a b ha hb => ?_, fun a b ha hb hl => ?_, fun i hi => ?_⟩
  · rw [val]
    split
    · rcases v2 with q | q <;> omega
    · exact i1 a b ha hb
  · rw [val]
    split
    · rename_i q
      have e : x = y := by rcases q with q | q <;> omega
      have := i2 x b1
      rw [e] at this v1 v2 r
      rcases v2 with q | q <;> omega
    · exact i2 a ha
  · rw [val, val]
    by_cases e : (a = x ∧ b = y) ∨ (a = y ∧ b = x)
    · rw [if_pos e, if_pos (by omega)]
    · rw [if_neg e, if_neg (by omega)]
      exact i3 a b ha hb
  · rw [val] at hl ⊢
    by_cases e : (a = x ∧ b = y) ∨ (a = y ∧ b = x)
    · rw [if_pos e] at hl ⊢
      rcases v2 with q | q
      · rw [q]
        rcases e with e | e
        · rw [e.1, e.2]; exact ⟨1, wk_1 ed⟩
        · rw [e.1, e.2]; exact ⟨1, wk_1 ed.sym⟩
      · rw [q] at hl ⊢
        rcases e with e | e
        · rw [e.1, e.2]; exact i4 x y b1 b2 hl
        · rw [e.1, e.2, i3 x y b1 b2]; exact i4 y x b2 b1 (by rw [← i3 x y b1 b2]; exact hl)
    · rw [if_neg e] at hl ⊢
      exact i4 a b ha hb hl
  · rw [val]
    by_cases e : i = k
    · subst e
      rw [if_pos (Or.inl ⟨hx, hy⟩), hs]
      exact v1.1
    · have := i5 i (by omega)
      split
      · rename_i q
        rcases q with q | q
        · rw [q.1, q.2] at this; omega
        · rw [q.1, q.2, i3 y x b2 b1] at this; omega
      · exact this
theorem dI.fw {f : Nat → Nat → Int} (ho : hsOK h) (hI : dI h h.nd f) : fwI h 0 f := by
  obtain ⟨i1, i2, i3, i4, i5⟩ := hI
  refine ⟨i1, i2, i4, fun x y s e => ?_, fun c hc => absurd hc (Nat.not_lt_zero _)⟩
  obtain ⟨b1, b2, -⟩ := e.b ho
  obtain ⟨i, hi, d | d⟩ := e
  · have := i5 i hi
    rw [d] at this
    exact this
  · have := i5 i hi
    rw [d] at this
    rw [i3 x y b1 b2]
    exact this
theorem c_doors {Q : Unit × gM → Prop} (ho : hsOK h) (hD : drC h μ) (hI : dI h 0 (farC μ)) (hQ : ∀ μ' : gM, fwF μ μ' → matG h (farC μ') → Q ((), μ')) : pw (ml_X0_reckonsWays_49 (0 : Int32) μ) Q := by
  have h12 := ho.nd12
  have es : ∀ i : Nat, iI (i : Int) + 1 = iI ((i + 1 : Nat) : Int) := fun i => by rw [show (1 : Int32) = iI 1 from rfl, iI_add]; rfl
  unfold ml_X0_reckonsWays_49
  refine pw_for (fun (i : Nat) (q : Int32 × gM) => q.1 = iI i ∧ fwF μ q.2 ∧ dI h i (farC q.2)) h.nd ?_ ?_ ⟨rfl, fwF.refl μ, hI⟩
  · rintro k ⟨q1, m1⟩ hk ⟨e1, f1, I1⟩
    dsimp only at e1 f1 I1 ⊢
    subst e1
    obtain ⟨⟨a1, a2⟩, a3, a4⟩ := hD.f f1
    obtain ⟨d1, d2, d3, d4⟩ := a4 k hk
    have IS := I1.s ho hk
    have ed : edg h (h.dv k).1 (h.dv k).2.1 (h.dv k).2.2 := ⟨k, hk, Or.inl rfl⟩
    obtain ⟨b1, b2, b3, b4⟩ := ed.b ho
    have r := I1.1 _ _ b1 b2
    have rr : 0 ≤ ci m1 (1019 + (h.dv k).1) (h.dv k).2.1 ∧ ci m1 (1019 + (h.dv k).1) (h.dv k).2.1 ≤ 100000000 := r
    have gx : gz_ix (iI ((h.dv k).1 : Int)) = (h.dv k).1 := by rw [gix (by omega)]; omega
    have gy : gz_ix (iI ((h.dv k).2.1 : Int)) = (h.dv k).2.1 := by rw [gix (by omega)]; omega
    have nx : gz_in (iI ((h.dv k).1 : Int)) 8 := (gin_iI (by omega)).2 (by omega)
    have ny : gz_in (iI ((h.dv k).2.1 : Int)) 8 := (gin_iI (by omega)).2 (by omega)
    have hks := (a3.2.2.2.2.2.2.2.2 k (by omega)).2
    have hne : ∀ a : Nat, a < 8 → el m1 (gP m1 (hC m1) 4) k ≠ 1019 + a := fun a ha q => by
      rw [q, (ks_far a ha).1] at hks
      cases hks
    unfold mb_X0_reckonsWays_49
    refine pw_let (pw_gu a1 (pw_gu a2 (pw_let (pw_gu a3.1 (pw_gu a3.2.2.1 ?_)))))
    rw [c_size a3]
    refine pw_bind (pw_some (pw_f (by rw [iI_le (by omega) (by omega)]; omega) (pw_let (pw_gu a1 (pw_gu a2 (pw_let (pw_gu a3.1 (pw_gu a3.2.2.1 ?_))))))))
    rw [c_get a3 (by omega) (by omega)]
    refine pw_bind (pw_some ?_)
    dsimp only
    generalize hE : el m1 (gP m1 (hC m1) 4) k = E at *
    rw [d2, d3, d4, gx, gy, ci_of m1 (1019 + (h.dv k).1) (h.dv k).2.1, c_J8min (by omega) (by omega)]
    refine pw_gu d1 (pw_gu d1 (pw_gu nx (pw_gu d1 (pw_gu d1 (pw_gu nx (pw_gu d1 (pw_gu ny (pw_gu d1 (pw_bind (pw_some (pw_gu ny (pw_let ?_))))))))))))
    have v1 : -10 ≤ (if (h.dv k).2.2 < farC m1 (h.dv k).1 (h.dv k).2.1 then (h.dv k).2.2 else farC m1 (h.dv k).1 (h.dv k).2.1) ∧ (if (h.dv k).2.2 < farC m1 (h.dv k).1 (h.dv k).2.1 then (h.dv k).2.2 else farC m1 (h.dv k).1 (h.dv k).2.1) ≤ 1000000000 := by split <;> omega
    dsimp only
    rw [show gI (gz_sI m1 (1019 + (h.dv k).1) (h.dv k).2.1 (iI (if (h.dv k).2.2 < ci m1 (1019 + (h.dv k).1) (h.dv k).2.1 then (h.dv k).2.2 else ci m1 (1019 + (h.dv k).1) (h.dv k).2.1))) E 1 = iI (h.dv k).2.1 by rw [sI_i, if_neg (fun q => hne _ b1 q.1)]; exact d3]
    rw [show gI (gz_sI m1 (1019 + (h.dv k).1) (h.dv k).2.1 (iI (if (h.dv k).2.2 < ci m1 (1019 + (h.dv k).1) (h.dv k).2.1 then (h.dv k).2.2 else ci m1 (1019 + (h.dv k).1) (h.dv k).2.1))) E 0 = iI (h.dv k).1 by rw [sI_i, if_neg (fun q => hne _ b1 q.1)]; exact d2]
    rw [gx, gy, show gI (gz_sI m1 (1019 + (h.dv k).1) (h.dv k).2.1 (iI (if (h.dv k).2.2 < ci m1 (1019 + (h.dv k).1) (h.dv k).2.1 then (h.dv k).2.2 else ci m1 (1019 + (h.dv k).1) (h.dv k).2.1))) (1019 + (h.dv k).1) (h.dv k).2.1 = iI (if (h.dv k).2.2 < ci m1 (1019 + (h.dv k).1) (h.dv k).2.1 then (h.dv k).2.2 else ci m1 (1019 + (h.dv k).1) (h.dv k).2.1) by rw [sI_i, if_pos ⟨rfl, rfl⟩]]
    refine pw_gu d1 (pw_gu ny (pw_gu d1 (pw_gu d1 (pw_gu nx (pw_gu d1 (pw_gu ny (pw_gu nx (pw_let (pw_let (pw_some ⟨es k, (f1.trans (fwF.sI b1)).trans (fwF.sI b2), ?_⟩))))))))))
    show dI h (k + 1) (farC (gz_sI (gz_sI m1 (1019 + (h.dv k).1) (h.dv k).2.1 (iI (if (h.dv k).2.2 < farC m1 (h.dv k).1 (h.dv k).2.1 then (h.dv k).2.2 else farC m1 (h.dv k).1 (h.dv k).2.1))) (1019 + (h.dv k).2.1) (h.dv k).1 (iI (if (h.dv k).2.2 < farC m1 (h.dv k).1 (h.dv k).2.1 then (h.dv k).2.2 else farC m1 (h.dv k).1 (h.dv k).2.1))))
    rw [farC_up v1, farC_up v1]
    exact IS
  · rintro ⟨q1, m1⟩ ⟨e1, f1, I1⟩
    dsimp only at e1 f1 I1 ⊢
    subst e1
    obtain ⟨⟨a1, a2⟩, a3, a4⟩ := hD.f f1
    unfold mb_X0_reckonsWays_49
    refine pw_let (pw_gu a1 (pw_gu a2 (pw_let (pw_gu a3.1 (pw_gu a3.2.2.1 ?_)))))
    rw [c_size a3]
    exact pw_bind (pw_some (pw_t (by rw [iI_le (by omega) (by omega)]; omega) (pw_map (c_phases ho (I1.fw ho) (fun m2 f2 G2 => hQ m2 (f1.trans f2) G2)))))
theorem c_reckons (ho : hsOK h) (hD : drC h μ) : pw (cf_X0_reckonsWays μ) (fun q => fwF μ q.2 ∧ matG h (farC q.2)) := by
  have es : ∀ i : Nat, iI (i : Int) + 1 = iI ((i + 1 : Nat) : Int) := fun i => by rw [show (1 : Int32) = iI 1 from rfl, iI_add]; rfl
  unfold cf_X0_reckonsWays ml_X0_reckonsWays_2
  refine pw_for (fun (i : Nat) (q : Int32 × gM) => q.1 = iI i ∧ fwF μ q.2 ∧ ∀ a b : Nat, a < i → b < 8 → farC q.2 a b = if a = b then 0 else 100000000) 8 ?_ ?_ ⟨rfl, fwF.refl μ, fun a b ha => absurd ha (Nat.not_lt_zero _)⟩
  · rintro a ⟨q1, m1⟩ ha ⟨e1, f1, g1⟩
    dsimp only at e1 f1 g1 ⊢
    subst e1
    have ga : gz_ix (iI (a : Int)) = a := by rw [gix (by omega)]; omega
    have na : gz_in (iI (a : Int)) 8 := (gin_iI (by omega)).2 (by omega)
    unfold mb_X0_reckonsWays_2
    refine pw_f (by rw [show (8 : Int32) = iI 8 from rfl, iI_le (by omega) (by omega)]; omega) ?_
    unfold ml_X0_reckonsWays_10
    refine pw_for (fun (i : Nat) (q : Int32 × Int32 × gM) => q.1 = iI a ∧ q.2.1 = iI i ∧ fwF μ q.2.2 ∧ ∀ x b : Nat, x < 8 → b < 8 → x < a ∨ (x = a ∧ b < i) → farC q.2.2 x b = if x = b then 0 else 100000000) 8 ?_ ?_ ⟨rfl, rfl, f1, fun x b hx hb q => g1 x b (by omega) hb⟩
    · rintro b ⟨q1, q2, m2⟩ hb ⟨e1, e2, f2, g2⟩
      dsimp only at e1 e2 f2 g2 ⊢
      subst e1 e2
      have gb : gz_ix (iI (b : Int)) = b := by rw [gix (by omega)]; omega
      have nb : gz_in (iI (b : Int)) 8 := (gin_iI (by omega)).2 (by omega)
      have fin : ∀ v : Int, 0 ≤ v ∧ v ≤ 100000000 → (v = if a = b then 0 else 100000000) → pw (mj_X0_reckonsWays_34 (iI a) (iI b) (iI v) (iI b) (1019 + a) m2) (Sum.elim (fun q : Int32 × Int32 × gM => q.1 = iI a ∧ q.2.1 = iI ((b + 1 : Nat) : Int) ∧ fwF μ q.2.2 ∧ ∀ x y : Nat, x < 8 → y < 8 → x < a ∨ (x = a ∧ y < b + 1) → farC q.2.2 x y = if x = y then 0 else 100000000) (Sum.elim (fun q : Int32 × gM => q.1 = iI ((a + 1 : Nat) : Int) ∧ fwF μ q.2 ∧ ∀ x y : Nat, x < a + 1 → y < 8 → farC q.2 x y = if x = y then 0 else 100000000) (fun q => fwF μ q.2 ∧ matG h (farC q.2)))) := fun v hv hv2 => by
        unfold mj_X0_reckonsWays_34
        rw [gb]
        refine pw_gu ⟨ks_far a ha, by omega⟩ (pw_gu nb (pw_let (pw_let (pw_some ⟨rfl, es b, f2.trans (fwF.sI ha), fun x y hx hy q => ?_⟩))))
        show farC (gz_sI m2 (1019 + a) b (iI v)) x y = _
        rw [farC_up (by omega)]
        unfold up2
        by_cases e : x = a ∧ y = b
        · rw [if_pos e, e.1, e.2]; exact hv2
        · rw [if_neg e]; exact g2 x y hx hy (by omega)
      unfold mb_X0_reckonsWays_10
      rw [ga]
      refine pw_f (by rw [show (8 : Int32) = iI 8 from rfl, iI_le (by omega) (by omega)]; omega) (pw_gu na (pw_if (fun q => ?_) (fun q => ?_)))
      · rw [iI_eq (by omega) (by omega)] at q
        exact fin 0 (by omega) (by rw [if_pos (by omega)])
      · rw [iI_eq (by omega) (by omega)] at q
        exact fin 100000000 (by omega) (by rw [if_neg (by omega)])
    · rintro ⟨q1, q2, m2⟩ ⟨e1, e2, f2, g2⟩
      dsimp only at e1 e2 f2 g2 ⊢
      subst e1 e2
      unfold mb_X0_reckonsWays_10
      exact pw_t (by decide) (pw_let (pw_some ⟨es a, f2, fun x y hx hy => g2 x y (by omega) hy (by omega)⟩))
  · rintro ⟨q1, m1⟩ ⟨e1, f1, g1⟩
    dsimp only at e1 f1 g1 ⊢
    subst e1
    unfold mb_X0_reckonsWays_2
    refine pw_t (by decide) (pw_map (c_doors ho (hD.f f1) ?_ (fun m2 f2 G2 => ⟨f1.trans f2, G2⟩)))
    refine ⟨fun a b ha hb => ?_, fun a ha => ?_, fun a b ha hb => ?_, fun a b ha hb hl => ?_, fun i hi => absurd hi (Nat.not_lt_zero _)⟩
    · rw [g1 a b ha hb]; split <;> omega
    · rw [g1 a a ha ha, if_pos rfl]
    · rw [g1 a b ha hb, g1 b a hb ha]
      by_cases e : a = b
      · rw [if_pos e, if_pos e.symm]
      · rw [if_neg e, if_neg (fun q => e q.symm)]
    · rw [g1 a b ha hb] at hl ⊢
      by_cases e : a = b
      · rw [if_pos e]; exact ⟨0, e, rfl⟩
      · rw [if_neg e] at hl; omega
end WaysC
