/-! ===== the model: what is told of halls, doors, things, ties ===== -/
def cdM (m : MM) (x : Nat) (o : Option (List Int)) (C : Nat) : Prop := match o with
  | none => m.1 1044 x = -1
  | some cs => ∃ f : Nat, m.1 1044 x = iI f ∧ m.1 1045 x = iI ((f + cs.length : Nat) : Int) ∧ f + cs.length ≤ C ∧ ∀ j : Nat, j < cs.length → m.1 1046 (f + j) = iI (cs.getD j 0)
theorem cdM.mv {m m' : MM} {x C C' : Nat} {o : Option (List Int)} (h : cdM m x o C) (h1 : m'.1 1044 x = m.1 1044 x) (h2 : m'.1 1045 x = m.1 1045 x) (h3 : ∀ j : Nat, j < C → m'.1 1046 j = m.1 1046 j) (hC : C ≤ C') : cdM m' x o C' := by
  cases o with
  | none => exact h1.trans h
  | some cs =>
    obtain ⟨f, a1, a2, a3, a4⟩ := h
    exact ⟨f, h1.trans a1, h2.trans a2, by omega, fun j hj => (h3 _ (by omega)).trans (a4 j hj)⟩
def hsM (m : MM) (h : HS) (C : Nat) : Prop := (m.1 1038 0 = iI h.nh) ∧ (m.1 1038 1 = iI h.nt) ∧ (m.1 1038 2 = iI h.nd) ∧ (m.1 1038 3 = iI h.ni) ∧ (m.1 1038 4 = iI h.st) ∧ (m.1 1038 5 = iI h.dg) ∧ (∀ k : Nat, k < h.nh → m.2 1039 k = lL (nmV (h.hn k))) ∧ (∀ k : Nat, k < h.nt → m.2 1039 (8 + k) = lL (nmV (h.tn k))) ∧ (∀ k : Nat, k < h.nd → m.1 1040 (3 * k) = iI (h.dv k).1 ∧ m.1 1040 (3 * k + 1) = iI (h.dv k).2.1 ∧ m.1 1040 (3 * k + 2) = iI (h.dv k).2.2) ∧ (∀ k : Nat, k < h.nt → m.1 1041 (2 * k) = iI (h.tv k).1 ∧ m.1 1041 (2 * k + 1) = iI (h.tv k).2.2 ∧ m.1 1042 k = iI (h.tv k).2.1) ∧ (∀ k : Nat, k < h.ni → m.1 1043 (2 * k) = iI (h.iv k).1 ∧ m.1 1043 (2 * k + 1) = iI (h.iv k).2) ∧ (cdM m 0 h.bu C) ∧ (cdM m 1 h.mn C) ∧ (m.1 2000 46 = iI C) ∧ (m.1 2000 47 = iI h.sm)
section HSM
variable {m : MM} {h : HS} {C : Nat}
theorem hsM.mk (c0 : m.1 1038 0 = iI h.nh) (c1 : m.1 1038 1 = iI h.nt) (c2 : m.1 1038 2 = iI h.nd) (c3 : m.1 1038 3 = iI h.ni) (c4 : m.1 1038 4 = iI h.st) (c5 : m.1 1038 5 = iI h.dg) (nH : ∀ k : Nat, k < h.nh → m.2 1039 k = lL (nmV (h.hn k))) (nT : ∀ k : Nat, k < h.nt → m.2 1039 (8 + k) = lL (nmV (h.tn k))) (fD : ∀ k : Nat, k < h.nd → m.1 1040 (3 * k) = iI (h.dv k).1 ∧ m.1 1040 (3 * k + 1) = iI (h.dv k).2.1 ∧ m.1 1040 (3 * k + 2) = iI (h.dv k).2.2) (fT : ∀ k : Nat, k < h.nt → m.1 1041 (2 * k) = iI (h.tv k).1 ∧ m.1 1041 (2 * k + 1) = iI (h.tv k).2.2 ∧ m.1 1042 k = iI (h.tv k).2.1) (fI : ∀ k : Nat, k < h.ni → m.1 1043 (2 * k) = iI (h.iv k).1 ∧ m.1 1043 (2 * k + 1) = iI (h.iv k).2) (b0 : cdM m 0 h.bu C) (b1 : cdM m 1 h.mn C) (cC : m.1 2000 46 = iI C) (sM : m.1 2000 47 = iI h.sm) : hsM m h C := ⟨c0, c1, c2, c3, c4, c5, nH, nT, fD, fT, fI, b0, b1, cC, sM⟩
theorem hsM.c0 (o : hsM m h C) : m.1 1038 0 = iI h.nh := o.1
theorem hsM.c1 (o : hsM m h C) : m.1 1038 1 = iI h.nt := o.2.1
theorem hsM.c2 (o : hsM m h C) : m.1 1038 2 = iI h.nd := o.2.2.1
theorem hsM.c3 (o : hsM m h C) : m.1 1038 3 = iI h.ni := o.2.2.2.1
theorem hsM.c4 (o : hsM m h C) : m.1 1038 4 = iI h.st := o.2.2.2.2.1
theorem hsM.c5 (o : hsM m h C) : m.1 1038 5 = iI h.dg := o.2.2.2.2.2.1
theorem hsM.nH (o : hsM m h C) : ∀ k : Nat, k < h.nh → m.2 1039 k = lL (nmV (h.hn k)) := o.2.2.2.2.2.2.1
theorem hsM.nT (o : hsM m h C) : ∀ k : Nat, k < h.nt → m.2 1039 (8 + k) = lL (nmV (h.tn k)) := o.2.2.2.2.2.2.2.1
theorem hsM.fD (o : hsM m h C) : ∀ k : Nat, k < h.nd → m.1 1040 (3 * k) = iI (h.dv k).1 ∧ m.1 1040 (3 * k + 1) = iI (h.dv k).2.1 ∧ m.1 1040 (3 * k + 2) = iI (h.dv k).2.2 := o.2.2.2.2.2.2.2.2.1
theorem hsM.fT (o : hsM m h C) : ∀ k : Nat, k < h.nt → m.1 1041 (2 * k) = iI (h.tv k).1 ∧ m.1 1041 (2 * k + 1) = iI (h.tv k).2.2 ∧ m.1 1042 k = iI (h.tv k).2.1 := o.2.2.2.2.2.2.2.2.2.1
theorem hsM.fI (o : hsM m h C) : ∀ k : Nat, k < h.ni → m.1 1043 (2 * k) = iI (h.iv k).1 ∧ m.1 1043 (2 * k + 1) = iI (h.iv k).2 := o.2.2.2.2.2.2.2.2.2.2.1
theorem hsM.b0 (o : hsM m h C) : cdM m 0 h.bu C := o.2.2.2.2.2.2.2.2.2.2.2.1
theorem hsM.b1 (o : hsM m h C) : cdM m 1 h.mn C := o.2.2.2.2.2.2.2.2.2.2.2.2.1
theorem hsM.cC (o : hsM m h C) : m.1 2000 46 = iI C := o.2.2.2.2.2.2.2.2.2.2.2.2.2.1
theorem hsM.sM (o : hsM m h C) : m.1 2000 47 = iI h.sm := o.2.2.2.2.2.2.2.2.2.2.2.2.2.2
end HSM
def hX (c j : Nat) : Prop := qX c j ∨ (c = 1038 ∧ j < 6) ∨ c = 1040 ∨ (c = 1041 ∧ j < 16) ∨ c = 1042 ∨ (c = 1043 ∧ j < 24) ∨ ((c = 1044 ∨ c = 1045) ∧ j < 2) ∨ (c = 1046 ∧ j < 1600) ∨ (c = 2000 ∧ (j = 46 ∨ j = 47 ∨ j = 48))
def hF (m m' : MM) : Prop := (∀ c j : Nat, (¬ hX c j ∨ (c = 2000 ∧ (j = 5 ∨ j = 6) ∧ m'.1 2000 5 = 0)) → m'.1 c j = m.1 c j) ∧ ∀ c j : Nat, ¬ (c = 1039 ∧ j < 16) → m'.2 c j = m.2 c j
theorem hF.refl (m : MM) : hF m m := ⟨fun _ _ _ => rfl, fun _ _ _ => rfl⟩
theorem hF.trans {a b c : MM} (h1 : hF a b) (h2 : hF b c) : hF a c := ⟨fun x y k => (h2.1 x y k).trans (h1.1 x y (k.imp id (fun ⟨e1, e2, e3⟩ => ⟨e1, e2, (h2.1 2000 5 (Or.inr ⟨rfl, Or.inl rfl, e3⟩)).symm.trans e3⟩))), fun x y k => (h2.2 x y k).trans (h1.2 x y k)⟩
theorem qF.h {m m' : MM} (x : qF m m') : hF m m' := ⟨fun c j k => x.1 c j (k.imp (fun w z => w (Or.inl z)) id), fun c j _ => by rw [x.2]⟩
theorem xF.h {m m' : MM} (x : xF m m') : hF m m' := x.q.h
theorem hF.sI {m : MM} {c j : Nat} {v : Int32} (h : hX c j) (h2 : ¬ (c = 2000 ∧ (j = 5 ∨ j = 6)) := by omega) : hF m (msI m c j v) := ⟨fun c' j' k => by
  rw [msI_i, if_neg (fun e => ?_)]
  rcases k with k | ⟨k1, k2, -⟩
  · exact k (by rw [e.1, e.2]; exact h)
  · exact h2 ⟨by omega, by omega⟩, fun _ _ _ => rfl⟩
theorem hF.sL {m : MM} {j : Nat} {v : Int64} (h : j < 16) : hF m (msL m 1039 j v) := ⟨fun c' j' k => rfl, fun c' j' k => by rw [msL_l, if_neg (by omega)]⟩
theorem lxM.h {T : Nat → Int} {n : Nat} {m m' : MM} (h : lxM T n m) (hx : hF m m') : lxM T n m' := ⟨h.1, fun k hk => by rw [hx.1 _ _ (by unfold hX qX xK; omega)]; exact h.2.1 k hk, by rw [hx.1 _ _ (by unfold hX qX xK; omega)]; exact h.2.2.1, h.2.2.2.mv (fun c j a b w => hx.1 _ _ (by unfold hX qX xK; omega))⟩

section ToldM
variable {T : Nat → Int} {n : Nat} {m : MM} {h : HS} {C : Nat}
theorem hsM.mv {m' : MM} (hM : hsM m h C) (F : ∀ c j : Nat, (1038 ≤ c ∧ c ≤ 1046) ∨ (c = 2000 ∧ (j = 46 ∨ j = 47)) → m'.1 c j = m.1 c j) (L : ∀ j : Nat, m'.2 1039 j = m.2 1039 j) : hsM m' h C :=
  (hsM.mk (c0 := (F _ _ (by omega)).trans hM.c0) (c1 := (F _ _ (by omega)).trans hM.c1) (c2 := (F _ _ (by omega)).trans hM.c2) (c3 := (F _ _ (by omega)).trans hM.c3) (c4 := (F _ _ (by omega)).trans hM.c4) (c5 := (F _ _ (by omega)).trans hM.c5) (nH := fun k hk => (L _).trans (hM.nH k hk)) (nT := fun k hk => (L _).trans (hM.nT k hk)) (fD := fun k (hk : k < h.nd) => ⟨(F _ _ (by omega)).trans (hM.fD k hk).1, (F _ _ (by omega)).trans (hM.fD k hk).2.1, (F _ _ (by omega)).trans (hM.fD k hk).2.2⟩) (fT := fun k (hk : k < h.nt) => ⟨(F _ _ (by omega)).trans (hM.fT k hk).1, (F _ _ (by omega)).trans (hM.fT k hk).2.1, (F _ _ (by omega)).trans (hM.fT k hk).2.2⟩) (fI := fun k (hk : k < h.ni) => ⟨(F _ _ (by omega)).trans (hM.fI k hk).1, (F _ _ (by omega)).trans (hM.fI k hk).2⟩) (b0 := hM.b0.mv (F _ _ (by omega)) (F _ _ (by omega)) (fun j _ => F _ _ (by omega)) (Nat.le_refl _)) (b1 := hM.b1.mv (F _ _ (by omega)) (F _ _ (by omega)) (fun j _ => F _ _ (by omega)) (Nat.le_refl _)) (cC := (F _ _ (by omega)).trans hM.cC) (sM := (F _ _ (by omega)).trans hM.sM))
theorem hsM.q {m' : MM} (hM : hsM m h C) (x : qF m m') : hsM m' h C := hM.mv (fun c j k => x.1 c j (by unfold qX xK; omega)) (fun j => by rw [x.2])
theorem hsM.x {m' : MM} (hM : hsM m h C) (x : xF m m') : hsM m' h C := hM.q x.q
theorem p_isFull {kd N room p0 : Nat} (hkd : kd < 4) (hN : m.1 1038 kd = iI N) (hN8 : N ≤ 100) (hr : room ≤ 100) (hz : m.1 2000 5 = 0) : pw (mf_isFull (iI kd) (iI room) (iI p0) m) (fun q => (N = room ∧ q.1 = 1 ∧ bd q.2 5 p0 ∧ xF m q.2) ∨ (N ≠ room ∧ q.1 = 0 ∧ q.2 = m)) := by
  have gk : gz_ix (iI (kd : Int)) = kd := by rw [gix (by omega)]; omega
  unfold mf_isFull mj_X6_isFull_23
  rw [gk, hN]
  refine pw_t hz (pw_gu ((gin_iI (by omega)).2 (by omega)) (pw_if (fun q => ?_) (fun q => ?_)))
  · rw [iI_eq (by omega) (by omega)] at q
    refine pw_bind (pw_mono (p_fail hz (k := 5) (by omega) p0) ?_)
    rintro ⟨⟨⟩, m2⟩ ⟨b1, b2⟩
    exact pw_f b1.ne (pw_some (Or.inl ⟨by omega, rfl, b1, b2⟩))
  · rw [iI_eq (by omega) (by omega)] at q
    exact pw_t hz (pw_some (Or.inr ⟨by omega, rfl, rfl⟩))
/-- what telling gives -/
def tQ (T : Nat → Int) (n : Nat) (m : MM) (s : Rs HS) (C : Nat) (q : Unit × MM) : Prop := hF m q.2 ∧ ((∃ (k : Int) (l : Nat), s = Sum.inl (k, l) ∧ bd q.2 k l) ∨ ∃ (p' : Nat) (h' : HS) (C' : Nat), s = Sum.inr (p', h') ∧ gd T n q.2 p' ∧ hsM q.2 h' C' ∧ C' ≤ C)
theorem tQ.bad {s : Rs HS} {m1 : MM} {k : Int} {l : Nat} (x : hF m m1) (e : s = Sum.inl (k, l)) (b : bd m1 k l) : tQ T n m s C ((), m1) := ⟨x, Or.inl ⟨k, l, e, b⟩⟩

theorem p_hallTold {p p0 : Nat} (hL : lxM T n m) (g : gd T n m p) (ho : hsOK h) (hM : hsM m h C) : pw (mf_hallTold (iI p0) m) (tQ T n m (sHall T n h p0 p) C) := by
  have h8 := ho.nh8
  unfold mf_hallTold
  refine pw_bind (pw_mono (p_isFull (kd := 0) (room := 8) (p0 := p0) (by omega) hM.c0 (by omega) (by omega) g.z) ?_)
  rintro ⟨r, m1⟩ h1
  dsimp only at h1 ⊢
  rcases h1 with ⟨q, e, b, x⟩ | ⟨q, e, e2⟩
  · subst e
    exact pw_f n10 (pw_some (tQ.bad x.h (by unfold sHall; rw [if_pos q]) b))
  subst e e2
  refine pw_t rfl (pw_bind (pw_mono (p_newName ho hM.c0 hM.c1 hM.nH hM.nT hL g) ?_))
  rintro ⟨v, m2⟩ ⟨x2, h2⟩
  dsimp only at x2 h2 ⊢
  rcases h2 with ⟨k, l, s, b⟩ | ⟨p', w, s, o, e, g2⟩
  · exact pw_f b.ne (pw_some (tQ.bad x2.h (by unfold sHall; rw [if_neg q, rB_l s]) b))
  subst e
  have hM2 := hM.x x2
  have g0 : gz_ix (0 : Int32) = 0 := by decide
  have gh : gz_ix (iI (h.nh : Int)) = h.nh := by rw [gix (by omega)]; omega
  refine pw_t g2.z (pw_gu (by decide) ?_)
  rw [g0, hM2.c0, gh]
  refine pw_gu ((gin_iI (by omega)).2 (by omega)) (pw_let (pw_gu (by decide) (pw_gu (by decide) (pw_let (pw_some ?_)))))
  rw [show (msL m2 1039 h.nh (lL (nmV w))).1 1038 0 = iI h.nh from hM2.c0, show iI (h.nh : Int) + 1 = iI ((h.nh + 1 : Nat) : Int) by rw [show (1 : Int32) = iI 1 from rfl, iI_add]; rfl]
  have F : ∀ c j : Nat, ¬ (c = 1038 ∧ j = 0) → (msI (msL m2 1039 h.nh (lL (nmV w))) 1038 0 (iI ((h.nh + 1 : Nat) : Int))).1 c j = m2.1 c j := fun c j k => by rw [msI_i, if_neg k]; rfl
  have L : ∀ j : Nat, ¬ j = h.nh → (msI (msL m2 1039 h.nh (lL (nmV w))) 1038 0 (iI ((h.nh + 1 : Nat) : Int))).2 1039 j = m2.2 1039 j := fun j k => by rw [msI_l, msL_l, if_neg (by omega)]
  refine ⟨x2.h.trans ((hF.sL (by omega)).trans (hF.sI (by unfold hX; omega))), Or.inr ⟨p', (HS.mk (h.nh + 1) (hupd h.hn h.nh w) h.nt h.tn h.tv h.nd h.dv h.ni h.iv h.st h.dg h.bu h.mn h.sm), C, by unfold sHall; rw [if_neg q, rB_r s], g2.mv (F _ _ (by omega)) (F _ _ (by omega)) (F _ _ (by omega)), ?_, Nat.le_refl _⟩⟩
  exact (hsM.mk (c0 := by rw [msI_i, if_pos ⟨rfl, rfl⟩]; rfl) (c1 := (F _ _ (by omega)).trans hM2.c1) (c2 := (F _ _ (by omega)).trans hM2.c2) (c3 := (F _ _ (by omega)).trans hM2.c3) (c4 := (F _ _ (by omega)).trans hM2.c4) (c5 := (F _ _ (by omega)).trans hM2.c5) (nH := fun k (hk : k < h.nh + 1) => by
    by_cases e : k = h.nh
    · rw [e, msI_l, msL_l, if_pos ⟨rfl, rfl⟩]; exact congrArg (fun z => lL (nmV z)) (hupd_at _ _ _).symm
    · rw [L k e]; exact (hM2.nH k (by omega)).trans (congrArg (fun z => lL (nmV z)) (hupd_ne _ _ e).symm)) (nT := fun k (hk : k < h.nt) => (L _ (by omega)).trans (hM2.nT k hk)) (fD := fun k (hk : k < h.nd) => ⟨(F _ _ (by omega)).trans (hM2.fD k hk).1, (F _ _ (by omega)).trans (hM2.fD k hk).2.1, (F _ _ (by omega)).trans (hM2.fD k hk).2.2⟩) (fT := fun k (hk : k < h.nt) => ⟨(F _ _ (by omega)).trans (hM2.fT k hk).1, (F _ _ (by omega)).trans (hM2.fT k hk).2.1, (F _ _ (by omega)).trans (hM2.fT k hk).2.2⟩) (fI := fun k (hk : k < h.ni) => ⟨(F _ _ (by omega)).trans (hM2.fI k hk).1, (F _ _ (by omega)).trans (hM2.fI k hk).2⟩) (b0 := hM2.b0.mv (F _ _ (by omega)) (F _ _ (by omega)) (fun j _ => F _ _ (by omega)) (Nat.le_refl _)) (b1 := hM2.b1.mv (F _ _ (by omega)) (F _ _ (by omega)) (fun j _ => F _ _ (by omega)) (Nat.le_refl _)) (cC := (F _ _ (by omega)).trans hM2.cC) (sM := (F _ _ (by omega)).trans hM2.sM))
theorem p_startsTold {p : Nat} (hL : lxM T n m) (g : gd T n m p) (ho : hsOK h) (hM : hsM m h C) : pw ((mf_named (0 : Int32) (-1 : Int32) m).bind fun (x : Int32 × MM) => (if gz_in (4 : Int32) (12) then gz_let (msI x.2 1038 (gz_ix (4 : Int32)) x.1) fun m48 => some ((), m48) else none)) (tQ T n m (sStarts T n h p) C) := by
  have h8 := ho.nh8
  have g4 : gz_ix (4 : Int32) = 4 := by decide
  rw [g4]
  refine pw_bind (pw_mono (p_named1 (kd := 0) (N := h.nh) (f := h.hn) (by omega) hM.c0 (by omega) ho.hnO (fun k hk => by rw [show 8 * 0 + k = k by omega]; exact hM.nH k hk) (by omega) hL g) ?_)
  rintro ⟨r, m2⟩ ⟨x2, h2⟩
  dsimp only at x2 h2 ⊢
  have hM2 := hM.x x2
  refine pw_gu (by decide) (pw_let (pw_some ?_))
  have F : ∀ c j : Nat, ¬ (c = 1038 ∧ j = 4) → (msI m2 1038 4 r).1 c j = m2.1 c j := fun c j k => by rw [msI_i, if_neg k]
  have L : ∀ j : Nat, True → (msI m2 1038 4 r).2 1039 j = m2.2 1039 j := fun j _ => rfl
  refine ⟨x2.h.trans (hF.sI (by unfold hX; omega)), ?_⟩
  rcases h2 with ⟨k, l, s, b⟩ | ⟨p', w, s, e, g2, -⟩
  · exact Or.inl ⟨k, l, rB_l s, ⟨b.1, (F _ _ (by omega)).trans b.2.1, (F _ _ (by omega)).trans b.2.2⟩⟩
  subst e
  refine Or.inr ⟨p', (HS.mk h.nh h.hn h.nt h.tn h.tv h.nd h.dv h.ni h.iv (w) h.dg h.bu h.mn h.sm), C, rB_r s, g2.mv (F _ _ (by omega)) (F _ _ (by omega)) (F _ _ (by omega)), ?_, Nat.le_refl _⟩
  exact (hsM.mk (c0 := (F _ _ (by omega)).trans hM2.c0) (c1 := (F _ _ (by omega)).trans hM2.c1) (c2 := (F _ _ (by omega)).trans hM2.c2) (c3 := (F _ _ (by omega)).trans hM2.c3) (c4 := by rw [msI_i, if_pos ⟨rfl, rfl⟩]; rfl) (c5 := (F _ _ (by omega)).trans hM2.c5) (nH := fun k (hk : k < h.nh) => hM2.nH k hk) (nT := fun k (hk : k < h.nt) => hM2.nT k hk) (fD := fun k (hk : k < h.nd) => ⟨(F _ _ (by omega)).trans (hM2.fD k hk).1, (F _ _ (by omega)).trans (hM2.fD k hk).2.1, (F _ _ (by omega)).trans (hM2.fD k hk).2.2⟩) (fT := fun k (hk : k < h.nt) => ⟨(F _ _ (by omega)).trans (hM2.fT k hk).1, (F _ _ (by omega)).trans (hM2.fT k hk).2.1, (F _ _ (by omega)).trans (hM2.fT k hk).2.2⟩) (fI := fun k (hk : k < h.ni) => ⟨(F _ _ (by omega)).trans (hM2.fI k hk).1, (F _ _ (by omega)).trans (hM2.fI k hk).2⟩) (b0 := hM2.b0.mv (F _ _ (by omega)) (F _ _ (by omega)) (fun j _ => F _ _ (by omega)) (Nat.le_refl _)) (b1 := hM2.b1.mv (F _ _ (by omega)) (F _ _ (by omega)) (fun j _ => F _ _ (by omega)) (Nat.le_refl _)) (cC := (F _ _ (by omega)).trans hM2.cC) (sM := (F _ _ (by omega)).trans hM2.sM))
theorem p_draughtTold {p : Nat} (hL : lxM T n m) (g : gd T n m p) (hM : hsM m h C) : pw ((mf_asks 1023 m).bind fun (y : Unit × MM) => (mf_number (0 : Int32) (100 : Int32) y.2).bind fun (x : Int32 × MM) => (if gz_in (5 : Int32) (12) then gz_let (msI x.2 1038 (gz_ix (5 : Int32)) x.1) fun m48 => some ((), m48) else none)) (tQ T n m (sDraught T n h p) C) := by
  have g4 : gz_ix (5 : Int32) = 5 := by decide
  rw [g4]
  refine pw_bind (pw_mono (p_asks hL g (show (1023, wDraught) ∈ wds by decide +kernel)) ?_)
  rintro ⟨u, m1⟩ ⟨x1, h1⟩
  dsimp only at x1 h1 ⊢
  have fin : ∀ (m2 : MM) (r : Int32), xF m m2 → pw (if gz_in (5 : Int32) (12) then gz_let (msI m2 1038 5 r) fun m48 => some ((), m48) else none) (fun q => q = ((), msI m2 1038 5 r)) := fun m2 r _ => pw_gu (by decide) (pw_let (pw_some rfl))
  rcases h1 with ⟨w1, g1⟩ | ⟨w1, b1⟩
  · refine pw_bind (pw_mono (p_number (hL.x x1) g1 (lo := 0) (hi := 100) (by omega) (by omega)) ?_)
    rintro ⟨r, m2⟩ ⟨x2, h2⟩
    dsimp only at x2 h2 ⊢
    have hM2 := hM.x (x1.trans x2)
    refine pw_gu (by decide) (pw_let (pw_some ?_))
    have F : ∀ c j : Nat, ¬ (c = 1038 ∧ j = 5) → (msI m2 1038 5 r).1 c j = m2.1 c j := fun c j k => by rw [msI_i, if_neg k]
    have L : ∀ j : Nat, True → (msI m2 1038 5 r).2 1039 j = m2.2 1039 j := fun j _ => rfl
    have sw : sWrd T n p wDraught = Sum.inr (skp T n (p + wDraught.length), ()) := by unfold sWrd; rw [if_pos w1]
    refine ⟨(x1.trans x2).h.trans (hF.sI (by unfold hX; omega)), ?_⟩
    rcases h2 with ⟨k, l, s, b⟩ | ⟨p', v, s, e, -, -, g2⟩
    · exact Or.inl ⟨k, l, by unfold sDraught; rw [rB_r sw, rB_l s], ⟨b.1, (F _ _ (by omega)).trans b.2.1, (F _ _ (by omega)).trans b.2.2⟩⟩
    subst e
    refine Or.inr ⟨p', (HS.mk h.nh h.hn h.nt h.tn h.tv h.nd h.dv h.ni h.iv h.st (v) h.bu h.mn h.sm), C, by unfold sDraught; rw [rB_r sw, rB_r s], g2.mv (F _ _ (by omega)) (F _ _ (by omega)) (F _ _ (by omega)), ?_, Nat.le_refl _⟩
    exact (hsM.mk (c0 := (F _ _ (by omega)).trans hM2.c0) (c1 := (F _ _ (by omega)).trans hM2.c1) (c2 := (F _ _ (by omega)).trans hM2.c2) (c3 := (F _ _ (by omega)).trans hM2.c3) (c4 := (F _ _ (by omega)).trans hM2.c4) (c5 := by rw [msI_i, if_pos ⟨rfl, rfl⟩]; rfl) (nH := fun k (hk : k < h.nh) => hM2.nH k hk) (nT := fun k (hk : k < h.nt) => hM2.nT k hk) (fD := fun k (hk : k < h.nd) => ⟨(F _ _ (by omega)).trans (hM2.fD k hk).1, (F _ _ (by omega)).trans (hM2.fD k hk).2.1, (F _ _ (by omega)).trans (hM2.fD k hk).2.2⟩) (fT := fun k (hk : k < h.nt) => ⟨(F _ _ (by omega)).trans (hM2.fT k hk).1, (F _ _ (by omega)).trans (hM2.fT k hk).2.1, (F _ _ (by omega)).trans (hM2.fT k hk).2.2⟩) (fI := fun k (hk : k < h.ni) => ⟨(F _ _ (by omega)).trans (hM2.fI k hk).1, (F _ _ (by omega)).trans (hM2.fI k hk).2⟩) (b0 := hM2.b0.mv (F _ _ (by omega)) (F _ _ (by omega)) (fun j _ => F _ _ (by omega)) (Nat.le_refl _)) (b1 := hM2.b1.mv (F _ _ (by omega)) (F _ _ (by omega)) (fun j _ => F _ _ (by omega)) (Nat.le_refl _)) (cC := (F _ _ (by omega)).trans hM2.cC) (sM := (F _ _ (by omega)).trans hM2.sM))
  · rw [p_number_bad b1.ne]
    refine pw_bind (pw_some ?_)
    dsimp only
    refine pw_gu (by decide) (pw_let (pw_some ?_))
    have F : ∀ c j : Nat, ¬ (c = 1038 ∧ j = 5) → (msI m1 1038 5 0).1 c j = m1.1 c j := fun c j k => by rw [msI_i, if_neg k]
    exact ⟨x1.h.trans (hF.sI (by unfold hX; omega)), Or.inl ⟨1, p, by unfold sDraught; rw [rB_l (show sWrd T n p wDraught = Sum.inl (1, p) by unfold sWrd; rw [if_neg w1])], ⟨b1.1, (F _ _ (by omega)).trans b1.2.1, (F _ _ (by omega)).trans b1.2.2⟩⟩⟩
theorem sWrd_y {p : Nat} {w : List Int} (hw : isW T n p w) : sWrd T n p w = Sum.inr (skp T n (p + w.length), ()) := by unfold sWrd; rw [if_pos hw]
theorem sWrd_n {p : Nat} {w : List Int} (hw : ¬ isW T n p w) : sWrd T n p w = Sum.inl (1, p) := by unfold sWrd; rw [if_neg hw]
theorem p_doorTold {p p0 : Nat} (hL : lxM T n m) (g : gd T n m p) (ho : hsOK h) (hM : hsM m h C) : pw (mf_doorTold (iI p0) m) (tQ T n m (sDoor T n h p0 p) C) := by
  have h8 := ho.nh8
  have h12 := ho.nd12
  obtain ⟨hT, -⟩ := id hL
  unfold mf_doorTold
  refine pw_bind (pw_mono (p_isFull (kd := 2) (room := 12) (p0 := p0) (by omega) hM.c2 (by omega) (by omega) g.z) ?_)
  rintro ⟨r, m1⟩ h1
  dsimp only at h1 ⊢
  rcases h1 with ⟨q, e, b, x⟩ | ⟨q, e, e2⟩
  · subst e
    exact pw_f n10 (pw_some (tQ.bad x.h (by unfold sDoor; rw [if_pos q]) b))
  subst e e2
  refine pw_t rfl (pw_bind (pw_mono (p_named1 (kd := 0) (N := h.nh) (f := h.hn) (by omega) hM.c0 (by omega) ho.hnO (fun k hk => by rw [show 8 * 0 + k = k by omega]; exact hM.nH k hk) (by omega) hL g) ?_))
  rintro ⟨ra, m2⟩ ⟨x2, h2⟩
  dsimp only at x2 h2 ⊢
  have n2 := (hM.x x2).c0
  rcases h2 with ⟨k, l, s, b⟩ | ⟨p1, a, s, e, g2, -⟩
  · rw [p_asks_bad b.ne]
    refine pw_bind (pw_some ?_)
    dsimp only
    obtain ⟨r2, e2⟩ := p_named_bad (kd := 0) (by omega) n2 (by omega) b.ne ra
    rw [show mf_named (0 : Int32) ra m2 = some (r2, m2) from e2]
    refine pw_bind (pw_some ?_)
    dsimp only
    rw [p_asks_bad b.ne]
    refine pw_bind (pw_some ?_)
    dsimp only
    rw [p_number_bad b.ne]
    refine pw_bind (pw_some ?_)
    dsimp only
    exact pw_f b.ne (pw_some (tQ.bad x2.h (by unfold sDoor; rw [if_neg q, rB_l s]) b))
  subst e
  have sa := sKnown_ok hT s
  refine pw_bind (pw_mono (p_asks (hL.x x2) g2 (show (1014, wTo) ∈ wds by decide +kernel)) ?_)
  rintro ⟨u3, m3⟩ ⟨x3, h3⟩
  dsimp only at x3 h3 ⊢
  have n3 := (hM.x (x2.trans x3)).c0
  rcases h3 with ⟨w3, g3⟩ | ⟨w3, b⟩
  rotate_left
  · obtain ⟨r2, e2⟩ := p_named_bad (kd := 0) (by omega) n3 (by omega) b.ne (iI a)
    rw [show mf_named (0 : Int32) (iI a) m3 = some (r2, m3) from e2]
    refine pw_bind (pw_some ?_)
    dsimp only
    rw [p_asks_bad b.ne]
    refine pw_bind (pw_some ?_)
    dsimp only
    rw [p_number_bad b.ne]
    refine pw_bind (pw_some ?_)
    dsimp only
    exact pw_f b.ne (pw_some (tQ.bad (x2.trans x3).h (by unfold sDoor; rw [if_neg q, rB_r s, rB_l (sWrd_n w3)]) b))
  refine pw_bind (pw_mono (p_named (kd := 0) (N := h.nh) (f := h.hn) (but := a) (by omega) n3 (by omega) ho.hnO (fun k hk => by rw [show 8 * 0 + k = k by omega]; exact (hM.x (x2.trans x3)).nH k hk) (by omega) ((hL.x x2).x x3) g3) ?_)
  rintro ⟨rb, m4⟩ ⟨x4, h4⟩
  dsimp only at x4 h4 ⊢
  rcases h4 with ⟨k, l, s4, b⟩ | ⟨p3, b4, s4, e, g4, -⟩
  · rw [p_asks_bad b.ne]
    refine pw_bind (pw_some ?_)
    dsimp only
    rw [p_number_bad b.ne]
    refine pw_bind (pw_some ?_)
    dsimp only
    exact pw_f b.ne (pw_some (tQ.bad ((x2.trans x3).trans x4).h (by unfold sDoor; rw [if_neg q, rB_r s, rB_r (sWrd_y w3), rB_l s4]) b))
  subst e
  have sb := sKnown_ok hT s4
  refine pw_bind (pw_mono (p_asks (((hL.x x2).x x3).x x4) g4 (show (1015, wSteps) ∈ wds by decide +kernel)) ?_)
  rintro ⟨u5, m5⟩ ⟨x5, h5⟩
  dsimp only at x5 h5 ⊢
  rcases h5 with ⟨w5, g5⟩ | ⟨w5, b⟩
  rotate_left
  · rw [p_number_bad b.ne]
    refine pw_bind (pw_some ?_)
    dsimp only
    exact pw_f b.ne (pw_some (tQ.bad (((x2.trans x3).trans x4).trans x5).h (by unfold sDoor; rw [if_neg q, rB_r s, rB_r (sWrd_y w3), rB_r s4, rB_l (sWrd_n w5)]) b))
  refine pw_bind (pw_mono (p_number ((((hL.x x2).x x3).x x4).x x5) g5 (lo := 1) (hi := 9) (by omega) (by omega)) ?_)
  rintro ⟨r6, m6⟩ ⟨x6, h6⟩
  dsimp only at x6 h6 ⊢
  have X := (((x2.trans x3).trans x4).trans x5).trans x6
  rcases h6 with ⟨k, l, s6, b⟩ | ⟨p6, v, s6, e, -, v2, g6⟩
  · exact pw_f b.ne (pw_some (tQ.bad X.h (by unfold sDoor; rw [if_neg q, rB_r s, rB_r (sWrd_y w3), rB_r s4, rB_r (sWrd_y w5), rB_l s6]) b))
  subst e
  have hM2 := hM.x X
  have gi2 : gz_ix (2 : Int32) = 2 := by decide
  have e0 : (3 : Int32) * iI (h.nd : Int) = iI ((3 * h.nd : Nat) : Int) := by rw [show (3 : Int32) = iI 3 from rfl, iI_mul]; exact congrArg iI (by omega)
  have e1 : iI ((3 * h.nd : Nat) : Int) + 1 = iI ((3 * h.nd + 1 : Nat) : Int) := by rw [show (1 : Int32) = iI 1 from rfl, iI_add]; rfl
  have e2 : iI ((3 * h.nd : Nat) : Int) + 2 = iI ((3 * h.nd + 2 : Nat) : Int) := by rw [show (2 : Int32) = iI 2 from rfl, iI_add]; rfl
  have k0 : gz_ix (iI ((3 * h.nd : Nat) : Int)) = 3 * h.nd := by rw [gix (by omega)]; omega
  have k1 : gz_ix (iI ((3 * h.nd + 1 : Nat) : Int)) = 3 * h.nd + 1 := by rw [gix (by omega)]; omega
  have k2 : gz_ix (iI ((3 * h.nd + 2 : Nat) : Int)) = 3 * h.nd + 2 := by rw [gix (by omega)]; omega
  refine pw_t g6.z (pw_gu (by decide) ?_)
  rw [gi2, hM2.c2, e0]
  refine pw_let ?_
  rw [e1, e2, k0, k1, k2]
  refine pw_gu ((gin_iI (by omega)).2 (by omega)) (pw_let (pw_gu ((gin_iI (by omega)).2 (by omega)) (pw_let (pw_gu ((gin_iI (by omega)).2 (by omega)) (pw_let (pw_gu (by decide) (pw_gu (by decide) (pw_let (pw_some ?_)))))))))
  rw [show (msI (msI (msI m6 1040 (3 * h.nd) (iI a)) 1040 (3 * h.nd + 1) (iI b4)) 1040 (3 * h.nd + 2) (iI v)).1 1038 2 = iI h.nd from hM2.c2, show iI (h.nd : Int) + 1 = iI ((h.nd + 1 : Nat) : Int) by rw [show (1 : Int32) = iI 1 from rfl, iI_add]; rfl]
  generalize hm9 : msI (msI (msI (msI m6 1040 (3 * h.nd) (iI a)) 1040 (3 * h.nd + 1) (iI b4)) 1040 (3 * h.nd + 2) (iI v)) 1038 2 (iI ((h.nd + 1 : Nat) : Int)) = m9
  have F : ∀ c j : Nat, ¬ ((c = 1038 ∧ j = 2) ∨ (c = 1040 ∧ 3 * h.nd ≤ j ∧ j ≤ 3 * h.nd + 2)) → m9.1 c j = m6.1 c j := fun c j k => by rw [← hm9, msI_i, if_neg (by omega), msI_i, if_neg (by omega), msI_i, if_neg (by omega), msI_i, if_neg (by omega)]
  have L : ∀ j : Nat, True → m9.2 1039 j = m6.2 1039 j := fun j _ => by rw [← hm9]; rfl
  have y0 : m9.1 1038 2 = iI ((h.nd + 1 : Nat) : Int) := by rw [← hm9, msI_i, if_pos ⟨rfl, rfl⟩]
  have y1 : m9.1 1040 (3 * h.nd) = iI a := by rw [← hm9, msI_i, if_neg (by omega), msI_i, if_neg (by omega), msI_i, if_neg (by omega), msI_i, if_pos ⟨rfl, rfl⟩]
  have y2 : m9.1 1040 (3 * h.nd + 1) = iI b4 := by rw [← hm9, msI_i, if_neg (by omega), msI_i, if_neg (by omega), msI_i, if_pos ⟨rfl, rfl⟩]
  have y3 : m9.1 1040 (3 * h.nd + 2) = iI v := by rw [← hm9, msI_i, if_neg (by omega), msI_i, if_pos ⟨rfl, rfl⟩]
  have fr : hF m1 m9 := X.h.trans ⟨fun c j k => F c j (by unfold hX at k; omega), fun c j _ => by rw [← hm9]; rfl⟩
  refine ⟨fr, Or.inr ⟨p6, (HS.mk h.nh h.hn h.nt h.tn h.tv (h.nd + 1) (hupd h.dv h.nd (a, b4, v)) h.ni h.iv h.st h.dg h.bu h.mn h.sm), C, by unfold sDoor; rw [if_neg q, rB_r s, rB_r (sWrd_y w3), rB_r s4, rB_r (sWrd_y w5), rB_r s6], g6.mv (F _ _ (by omega)) (F _ _ (by omega)) (F _ _ (by omega)), ?_, Nat.le_refl _⟩⟩
  exact (hsM.mk (c0 := (F _ _ (by omega)).trans hM2.c0) (c1 := (F _ _ (by omega)).trans hM2.c1) (c2 := y0) (c3 := (F _ _ (by omega)).trans hM2.c3) (c4 := (F _ _ (by omega)).trans hM2.c4) (c5 := (F _ _ (by omega)).trans hM2.c5) (nH := fun k (hk : k < h.nh) => (L _ True.intro).trans (hM2.nH k hk)) (nT := fun k (hk : k < h.nt) => (L _ True.intro).trans (hM2.nT k hk)) (fD := fun k (hk : k < h.nd + 1) => by
    by_cases e : k = h.nd
    · subst e
      show _ = iI (hupd h.dv h.nd (a, b4, v) h.nd).1 ∧ _ = iI (hupd h.dv h.nd (a, b4, v) h.nd).2.1 ∧ _ = iI (hupd h.dv h.nd (a, b4, v) h.nd).2.2
      rw [hupd_at]
      exact ⟨y1, y2, y3⟩
    · show _ = iI (hupd h.dv h.nd (a, b4, v) k).1 ∧ _ = iI (hupd h.dv h.nd (a, b4, v) k).2.1 ∧ _ = iI (hupd h.dv h.nd (a, b4, v) k).2.2
      rw [hupd_ne _ _ e]
      have hk2 : k < h.nd := by omega
      exact ⟨(F _ _ (by omega)).trans (hM2.fD k hk2).1, (F _ _ (by omega)).trans (hM2.fD k hk2).2.1, (F _ _ (by omega)).trans (hM2.fD k hk2).2.2⟩) (fT := fun k (hk : k < h.nt) => ⟨(F _ _ (by omega)).trans (hM2.fT k hk).1, (F _ _ (by omega)).trans (hM2.fT k hk).2.1, (F _ _ (by omega)).trans (hM2.fT k hk).2.2⟩) (fI := fun k (hk : k < h.ni) => ⟨(F _ _ (by omega)).trans (hM2.fI k hk).1, (F _ _ (by omega)).trans (hM2.fI k hk).2⟩) (b0 := hM2.b0.mv (F _ _ (by omega)) (F _ _ (by omega)) (fun j _ => F _ _ (by omega)) (Nat.le_refl _)) (b1 := hM2.b1.mv (F _ _ (by omega)) (F _ _ (by omega)) (fun j _ => F _ _ (by omega)) (Nat.le_refl _)) (cC := (F _ _ (by omega)).trans hM2.cC) (sM := (F _ _ (by omega)).trans hM2.sM))
theorem p_thingTold {p p0 : Nat} (hL : lxM T n m) (g : gd T n m p) (ho : hsOK h) (hM : hsM m h C) : pw (mf_thingTold (iI p0) m) (tQ T n m (sThing T n h p0 p) C) := by
  have h8 := ho.nh8
  have h9 := ho.nt8
  obtain ⟨hT, -⟩ := id hL
  unfold mf_thingTold
  refine pw_bind (pw_mono (p_isFull (kd := 1) (room := 8) (p0 := p0) (by omega) hM.c1 (by omega) (by omega) g.z) ?_)
  rintro ⟨r, m1⟩ h1
  dsimp only at h1 ⊢
  rcases h1 with ⟨q, e, b, x⟩ | ⟨q, e, e2⟩
  · subst e
    exact pw_f n10 (pw_some (tQ.bad x.h (by unfold sThing; rw [if_pos q]) b))
  subst e e2
  refine pw_t rfl ?_
  have X := xF.refl m1
  refine pw_bind (pw_mono (p_newName ho hM.c0 hM.c1 hM.nH hM.nT hL g) ?_)
  rintro ⟨v1, m2⟩ ⟨x2, h2⟩
  dsimp only at x2 h2 ⊢
  replace X := X.trans x2
  have n2 := (hM.x X).c0
  rcases h2 with ⟨k, l, s2, b⟩ | ⟨p2, w, s2, ow, ev, g2⟩
  · rw [p_asks_bad b.ne]
    refine pw_bind (pw_some ?_)
    dsimp only
    obtain ⟨rr, ee⟩ := p_named_bad (kd := 0) (by omega) (hM.x X).c0 (by omega) b.ne (-1)
    rw [show mf_named (0 : Int32) (-1 : Int32) m2 = some (rr, m2) from ee]
    refine pw_bind (pw_some ?_)
    dsimp only
    rw [p_asks_bad b.ne]
    refine pw_bind (pw_some ?_)
    dsimp only
    rw [p_number_bad b.ne]
    refine pw_bind (pw_some ?_)
    dsimp only
    rw [p_asks_bad b.ne]
    refine pw_bind (pw_some ?_)
    dsimp only
    rw [p_number_bad b.ne]
    refine pw_bind (pw_some ?_)
    dsimp only
    exact pw_f b.ne (pw_some (tQ.bad X.h (by unfold sThing; rw [if_neg q, rB_l s2]) b))
  subst ev
  refine pw_bind (pw_mono (p_asks (hL.x X) g2 (show (1017, wIn) ∈ wds by decide +kernel)) ?_)
  rintro ⟨u3, m3⟩ ⟨x3, h3⟩
  dsimp only at x3 h3 ⊢
  replace X := X.trans x3
  rcases h3 with ⟨w3, g3⟩ | ⟨w3, b⟩
  rotate_left
  · obtain ⟨rr, ee⟩ := p_named_bad (kd := 0) (by omega) (hM.x X).c0 (by omega) b.ne (-1)
    rw [show mf_named (0 : Int32) (-1 : Int32) m3 = some (rr, m3) from ee]
    refine pw_bind (pw_some ?_)
    dsimp only
    rw [p_asks_bad b.ne]
    refine pw_bind (pw_some ?_)
    dsimp only
    rw [p_number_bad b.ne]
    refine pw_bind (pw_some ?_)
    dsimp only
    rw [p_asks_bad b.ne]
    refine pw_bind (pw_some ?_)
    dsimp only
    rw [p_number_bad b.ne]
    refine pw_bind (pw_some ?_)
    dsimp only
    exact pw_f b.ne (pw_some (tQ.bad X.h (by unfold sThing; rw [if_neg q, rB_r s2, rB_l (sWrd_n w3)]) b))
  refine pw_bind (pw_mono (p_named1 (kd := 0) (N := h.nh) (f := h.hn) (by omega) (hM.x X).c0 (by omega) ho.hnO (fun k hk => by rw [show 8 * 0 + k = k by omega]; exact (hM.x X).nH k hk) (by omega) (hL.x X) g3) ?_)
  rintro ⟨r4, m4⟩ ⟨x4, h4⟩
  dsimp only at x4 h4 ⊢
  replace X := X.trans x4
  rcases h4 with ⟨k, l, s4, b⟩ | ⟨p4, a, s4, e, g4, -⟩
  · rw [p_asks_bad b.ne]
    refine pw_bind (pw_some ?_)
    dsimp only
    rw [p_number_bad b.ne]
    refine pw_bind (pw_some ?_)
    dsimp only
    rw [p_asks_bad b.ne]
    refine pw_bind (pw_some ?_)
    dsimp only
    rw [p_number_bad b.ne]
    refine pw_bind (pw_some ?_)
    dsimp only
    exact pw_f b.ne (pw_some (tQ.bad X.h (by unfold sThing; rw [if_neg q, rB_r s2, rB_r (sWrd_y w3), rB_l s4]) b))
  subst e
  refine pw_bind (pw_mono (p_asks (hL.x X) g4 (show (1018, wBurns) ∈ wds by decide +kernel)) ?_)
  rintro ⟨u5, m5⟩ ⟨x5, h5⟩
  dsimp only at x5 h5 ⊢
  replace X := X.trans x5
  rcases h5 with ⟨w5, g5⟩ | ⟨w5, b⟩
  rotate_left
  · rw [p_number_bad b.ne]
    refine pw_bind (pw_some ?_)
    dsimp only
    rw [p_asks_bad b.ne]
    refine pw_bind (pw_some ?_)
    dsimp only
    rw [p_number_bad b.ne]
    refine pw_bind (pw_some ?_)
    dsimp only
    exact pw_f b.ne (pw_some (tQ.bad X.h (by unfold sThing; rw [if_neg q, rB_r s2, rB_r (sWrd_y w3), rB_r s4, rB_l (sWrd_n w5)]) b))
  refine pw_bind (pw_mono (p_number (hL.x X) g5 (lo := 1) (hi := 99) (by omega) (by omega)) ?_)
  rintro ⟨r6, m6⟩ ⟨x6, h6⟩
  dsimp only at x6 h6 ⊢
  replace X := X.trans x6
  rcases h6 with ⟨k, l, s6, b⟩ | ⟨p6, v6, s6, e, -, -, g6⟩
  · rw [p_asks_bad b.ne]
    refine pw_bind (pw_some ?_)
    dsimp only
    rw [p_number_bad b.ne]
    refine pw_bind (pw_some ?_)
    dsimp only
    exact pw_f b.ne (pw_some (tQ.bad X.h (by unfold sThing; rw [if_neg q, rB_r s2, rB_r (sWrd_y w3), rB_r s4, rB_r (sWrd_y w5), rB_l s6]) b))
  subst e
  refine pw_bind (pw_mono (p_asks (hL.x X) g6 (show (1019, wHeat) ∈ wds by decide +kernel)) ?_)
  rintro ⟨u7, m7⟩ ⟨x7, h7⟩
  dsimp only at x7 h7 ⊢
  replace X := X.trans x7
  rcases h7 with ⟨w7, g7⟩ | ⟨w7, b⟩
  rotate_left
  · rw [p_number_bad b.ne]
    refine pw_bind (pw_some ?_)
    dsimp only
    exact pw_f b.ne (pw_some (tQ.bad X.h (by unfold sThing; rw [if_neg q, rB_r s2, rB_r (sWrd_y w3), rB_r s4, rB_r (sWrd_y w5), rB_r s6, rB_l (sWrd_n w7)]) b))
  refine pw_bind (pw_mono (p_number (hL.x X) g7 (lo := 0) (hi := 9) (by omega) (by omega)) ?_)
  rintro ⟨r8, m8⟩ ⟨x8, h8⟩
  dsimp only at x8 h8 ⊢
  replace X := X.trans x8
  rcases h8 with ⟨k, l, s8, b⟩ | ⟨p8, v8, s8, e, -, -, g8⟩
  · exact pw_f b.ne (pw_some (tQ.bad X.h (by unfold sThing; rw [if_neg q, rB_r s2, rB_r (sWrd_y w3), rB_r s4, rB_r (sWrd_y w5), rB_r s6, rB_r (sWrd_y w7), rB_l s8]) b))
  subst e
  have hM2 := hM.x X
  have sa := sKnown_ok hT s4
  have gi1 : gz_ix (1 : Int32) = 1 := by decide
  have e8 : (8 : Int32) + iI (h.nt : Int) = iI ((8 + h.nt : Nat) : Int) := by rw [show (8 : Int32) = iI 8 from rfl, iI_add]; rfl
  have e0 : (2 : Int32) * iI (h.nt : Int) = iI ((2 * h.nt : Nat) : Int) := by rw [show (2 : Int32) = iI 2 from rfl, iI_mul]; exact congrArg iI (by omega)
  have e1 : iI ((2 * h.nt : Nat) : Int) + 1 = iI ((2 * h.nt + 1 : Nat) : Int) := by rw [show (1 : Int32) = iI 1 from rfl, iI_add]; rfl
  have k8 : gz_ix (iI ((8 + h.nt : Nat) : Int)) = 8 + h.nt := by rw [gix (by omega)]; omega
  have k0 : gz_ix (iI ((2 * h.nt : Nat) : Int)) = 2 * h.nt := by rw [gix (by omega)]; omega
  have k1 : gz_ix (iI ((2 * h.nt + 1 : Nat) : Int)) = 2 * h.nt + 1 := by rw [gix (by omega)]; omega
  have kt : gz_ix (iI (h.nt : Int)) = h.nt := by rw [gix (by omega)]; omega
  refine pw_t g8.z (pw_gu (by decide) ?_)
  rw [gi1, hM2.c1]
  refine pw_let ?_
  rw [e8, e0, e1, k8, k0, k1, kt]
  refine pw_gu ((gin_iI (by omega)).2 (by omega)) (pw_let (pw_gu ((gin_iI (by omega)).2 (by omega)) (pw_let (pw_gu ((gin_iI (by omega)).2 (by omega)) (pw_let (pw_gu ((gin_iI (by omega)).2 (by omega)) (pw_let (pw_gu (by decide) (pw_gu (by decide) (pw_let (pw_some ?_)))))))))))
  rw [show (msI (msI (msI (msL m8 1039 (8 + h.nt) (lL (nmV w))) 1041 (2 * h.nt) (iI a)) 1041 (2 * h.nt + 1) (iI v8)) 1042 h.nt (iI v6)).1 1038 1 = iI h.nt from hM2.c1, show iI (h.nt : Int) + 1 = iI ((h.nt + 1 : Nat) : Int) by rw [show (1 : Int32) = iI 1 from rfl, iI_add]; rfl]
  generalize hm9 : msI (msI (msI (msI (msL m8 1039 (8 + h.nt) (lL (nmV w))) 1041 (2 * h.nt) (iI a)) 1041 (2 * h.nt + 1) (iI v8)) 1042 h.nt (iI v6)) 1038 1 (iI ((h.nt + 1 : Nat) : Int)) = m9
  have F : ∀ c j : Nat, ¬ ((c = 1038 ∧ j = 1) ∨ (c = 1041 ∧ 2 * h.nt ≤ j ∧ j ≤ 2 * h.nt + 1) ∨ (c = 1042 ∧ j = h.nt)) → m9.1 c j = m8.1 c j := fun c j k => by rw [← hm9, msI_i, if_neg (by omega), msI_i, if_neg (by omega), msI_i, if_neg (by omega), msI_i, if_neg (by omega), msL_i]
  have L : ∀ j : Nat, ¬ j = 8 + h.nt → m9.2 1039 j = m8.2 1039 j := fun j k => by rw [← hm9, msI_l, msI_l, msI_l, msI_l, msL_l, if_neg (by omega)]
  have y0 : m9.1 1038 1 = iI ((h.nt + 1 : Nat) : Int) := by rw [← hm9, msI_i, if_pos ⟨rfl, rfl⟩]
  have y1 : m9.1 1041 (2 * h.nt) = iI a := by rw [← hm9, msI_i, if_neg (by omega), msI_i, if_neg (by omega), msI_i, if_neg (by omega), msI_i, if_pos ⟨rfl, rfl⟩]
  have y2 : m9.1 1041 (2 * h.nt + 1) = iI v8 := by rw [← hm9, msI_i, if_neg (by omega), msI_i, if_neg (by omega), msI_i, if_pos ⟨rfl, rfl⟩]
  have y3 : m9.1 1042 h.nt = iI v6 := by rw [← hm9, msI_i, if_neg (by omega), msI_i, if_pos ⟨rfl, rfl⟩]
  have y4 : m9.2 1039 (8 + h.nt) = lL (nmV w) := by rw [← hm9, msI_l, msI_l, msI_l, msI_l, msL_l, if_pos ⟨rfl, rfl⟩]
  have fr : hF m1 m9 := X.h.trans ⟨fun c j k => F c j (by unfold hX at k; omega), fun c j k => by rw [← hm9, msI_l, msI_l, msI_l, msI_l, msL_l, if_neg (by omega)]⟩
  refine ⟨fr, Or.inr ⟨p8, (HS.mk h.nh h.hn (h.nt + 1) (hupd h.tn h.nt w) (hupd h.tv h.nt (a, v6, v8)) h.nd h.dv h.ni h.iv h.st h.dg h.bu h.mn h.sm), C, by unfold sThing; rw [if_neg q, rB_r s2, rB_r (sWrd_y w3), rB_r s4, rB_r (sWrd_y w5), rB_r s6, rB_r (sWrd_y w7), rB_r s8], g8.mv (F _ _ (by omega)) (F _ _ (by omega)) (F _ _ (by omega)), ?_, Nat.le_refl _⟩⟩
  exact (hsM.mk (c0 := (F _ _ (by omega)).trans hM2.c0) (c1 := y0) (c2 := (F _ _ (by omega)).trans hM2.c2) (c3 := (F _ _ (by omega)).trans hM2.c3) (c4 := (F _ _ (by omega)).trans hM2.c4) (c5 := (F _ _ (by omega)).trans hM2.c5) (nH := fun k (hk : k < h.nh) => (L _ (by omega)).trans (hM2.nH k hk)) (nT := fun k (hk : k < h.nt + 1) => by
    show _ = lL (nmV (hupd h.tn h.nt w k))
    by_cases e : k = h.nt
    · subst e; rw [hupd_at]; exact y4
    · rw [hupd_ne _ _ e, L _ (by omega)]; exact hM2.nT k (by omega)) (fD := fun k (hk : k < h.nd) => ⟨(F _ _ (by omega)).trans (hM2.fD k hk).1, (F _ _ (by omega)).trans (hM2.fD k hk).2.1, (F _ _ (by omega)).trans (hM2.fD k hk).2.2⟩) (fT := fun k (hk : k < h.nt + 1) => by
    show _ = iI (hupd h.tv h.nt (a, v6, v8) k).1 ∧ _ = iI (hupd h.tv h.nt (a, v6, v8) k).2.2 ∧ _ = iI (hupd h.tv h.nt (a, v6, v8) k).2.1
    by_cases e : k = h.nt
    · subst e
      rw [hupd_at]
      exact ⟨y1, y2, y3⟩
    · rw [hupd_ne _ _ e]
      have hk2 : k < h.nt := by omega
      exact ⟨(F _ _ (by omega)).trans (hM2.fT k hk2).1, (F _ _ (by omega)).trans (hM2.fT k hk2).2.1, (F _ _ (by omega)).trans (hM2.fT k hk2).2.2⟩) (fI := fun k (hk : k < h.ni) => ⟨(F _ _ (by omega)).trans (hM2.fI k hk).1, (F _ _ (by omega)).trans (hM2.fI k hk).2⟩) (b0 := hM2.b0.mv (F _ _ (by omega)) (F _ _ (by omega)) (fun j _ => F _ _ (by omega)) (Nat.le_refl _)) (b1 := hM2.b1.mv (F _ _ (by omega)) (F _ _ (by omega)) (fun j _ => F _ _ (by omega)) (Nat.le_refl _)) (cC := (F _ _ (by omega)).trans hM2.cC) (sM := (F _ _ (by omega)).trans hM2.sM))
theorem p_isTied (ho : hsOK h) (hM : hsM m h C) {a b : Nat} (ha : a < 8) (hb : b < 8) : mf_isTied (iI a) (iI b) m = some (if fp h.iv a b h.ni = true then 1 else 0, m) := by
  have h12 := ho.ni12
  have gi3 : gz_ix (3 : Int32) = 3 := by decide
  have key : pw (mf_isTied (iI a) (iI b) m) (fun q => q = (if fp h.iv a b h.ni = true then 1 else 0, m)) := by
    unfold mf_isTied ml_X6_isTied_2
    refine pw_for (fun (i : Nat) (q : Int32 × Int32 × Int32 × MM) => q = (iI a, iI b, iI i, m) ∧ ∀ k : Nat, k < i → h.iv k ≠ (a, b)) h.ni ?_ ?_ ⟨rfl, fun k hk => absurd hk (Nat.not_lt_zero _)⟩
    · rintro i q hi ⟨rfl, hno⟩
      dsimp only
      have e0 : (2 : Int32) * iI (i : Int) = iI ((2 * i : Nat) : Int) := by rw [show (2 : Int32) = iI 2 from rfl, iI_mul]; exact congrArg iI (by omega)
      have e1 : iI ((2 * i : Nat) : Int) + 1 = iI ((2 * i + 1 : Nat) : Int) := by rw [show (1 : Int32) = iI 1 from rfl, iI_add]; rfl
      have k0 : gz_ix (iI ((2 * i : Nat) : Int)) = 2 * i := by rw [gix (by omega)]; omega
      have k1 : gz_ix (iI ((2 * i + 1 : Nat) : Int)) = 2 * i + 1 := by rw [gix (by omega)]; omega
      obtain ⟨f1, f2⟩ := hM.fI i hi
      obtain ⟨o1, o2⟩ := ho.ivO i hi
      have h9 := ho.nt8
      have go : (h.iv i ≠ (a, b)) → pw (mj_X6_isTied_40 (iI a) (iI b) (iI i) m) (Sum.elim (fun q : Int32 × Int32 × Int32 × MM => q = (iI a, iI b, iI ((i + 1 : Nat) : Int), m) ∧ ∀ k : Nat, k < i + 1 → h.iv k ≠ (a, b)) (fun q => q = (if fp h.iv a b h.ni = true then 1 else 0, m))) := fun hne => by
        unfold mj_X6_isTied_40
        refine pw_let (pw_some ⟨?_, fun k hk => ?_⟩)
        · rw [show iI (i : Int) + 1 = iI ((i + 1 : Nat) : Int) by rw [show (1 : Int32) = iI 1 from rfl, iI_add]; rfl]
        · by_cases e : k = i
          · rw [e]; exact hne
          · exact hno k (by omega)
      unfold mb_X6_isTied_2
      rw [gi3, hM.c3, e0, e1, k0, k1, f1, f2]
      refine pw_gu (by decide) (pw_f (by rw [iI_le (by omega) (by omega)]; omega) (pw_gu ((gin_iI (by omega)).2 (by omega)) (pw_if (fun q => ?_) (fun q => go (fun e => q (by rw [e]))))))
      rw [iI_eq (by omega) (by omega)] at q
      refine pw_gu ((gin_iI (by omega)).2 (by omega)) (pw_if (fun q2 => ?_) (fun q2 => go (fun e => q2 (by rw [e]))))
      rw [iI_eq (by omega) (by omega)] at q2
      refine pw_some ?_
      show ((1 : Int32), m) = _
      rw [if_pos ((fp_iff _).mpr ⟨i, hi, Prod.ext (by show (h.iv i).1 = a; omega) (by show (h.iv i).2 = b; omega)⟩)]
    · rintro q ⟨rfl, hno⟩
      dsimp only
      unfold mb_X6_isTied_2
      rw [gi3, hM.c3]
      refine pw_gu (by decide) (pw_t (by rw [iI_le (by omega) (by omega)]; omega) (pw_some ?_))
      show ((0 : Int32), m) = _
      rw [if_neg (fun e => ?_)]
      obtain ⟨k, k1, k2⟩ := (fp_iff _).mp e
      exact hno k k1 k2
  obtain ⟨q, e, rfl⟩ := key
  exact e
theorem p_tie59_bad (b : ¬ m.1 2000 5 = 0) (x y : Int32) : mj_X6_tieTold_59 x y m = some ((), m) := by
  unfold mj_X6_tieTold_59
  rw [if_neg b]
theorem p_tieTold {p p0 : Nat} (hL : lxM T n m) (g : gd T n m p) (ho : hsOK h) (hM : hsM m h C) : pw (mf_tieTold (iI p0) m) (tQ T n m (sTie T n h p0 p) C) := by
  have h9 := ho.nt8
  have h12 := ho.ni12
  obtain ⟨hT, -⟩ := id hL
  unfold mf_tieTold
  refine pw_bind (pw_mono (p_isFull (kd := 3) (room := 12) (p0 := p0) (by omega) hM.c3 (by omega) (by omega) g.z) ?_)
  rintro ⟨r, m1⟩ h1
  dsimp only at h1 ⊢
  rcases h1 with ⟨q, e, b, x⟩ | ⟨q, e, e2⟩
  · subst e
    exact pw_f n10 (pw_some (tQ.bad x.h (by unfold sTie; rw [if_pos q]) b))
  subst e e2
  refine pw_t rfl (pw_bind (pw_mono (p_named1 (kd := 1) (N := h.nt) (f := h.tn) (by omega) hM.c1 (by omega) ho.tnO (fun k hk => by rw [show 8 * 1 + k = 8 + k by omega]; exact hM.nT k hk) (by omega) hL g) ?_))
  rintro ⟨ra, m2⟩ ⟨x2, h2⟩
  dsimp only at x2 h2 ⊢
  have n2 := (hM.x x2).c1
  rcases h2 with ⟨k, l, s, b⟩ | ⟨p1, a, s, e, g2, -⟩
  · rw [p_asks_bad b.ne]
    refine pw_bind (pw_some ?_)
    dsimp only
    obtain ⟨r2, e2⟩ := p_named_bad (kd := 1) (by omega) n2 (by omega) b.ne ra
    rw [show mf_named (1 : Int32) ra m2 = some (r2, m2) from e2]
    refine pw_bind (pw_some ?_)
    dsimp only
    rw [p_tie59_bad b.ne]
    exact pw_f b.ne (pw_some (tQ.bad x2.h (by unfold sTie; rw [if_neg q, rB_l s]) b))
  subst e
  have sa := sKnown_ok hT s
  refine pw_bind (pw_mono (p_asks (hL.x x2) g2 (show (1014, wTo) ∈ wds by decide +kernel)) ?_)
  rintro ⟨u3, m3⟩ ⟨x3, h3⟩
  dsimp only at x3 h3 ⊢
  have n3 := (hM.x (x2.trans x3)).c1
  rcases h3 with ⟨w3, g3⟩ | ⟨w3, b⟩
  rotate_left
  · obtain ⟨r2, e2⟩ := p_named_bad (kd := 1) (by omega) n3 (by omega) b.ne (iI a)
    rw [show mf_named (1 : Int32) (iI a) m3 = some (r2, m3) from e2]
    refine pw_bind (pw_some ?_)
    dsimp only
    rw [p_tie59_bad b.ne]
    exact pw_f b.ne (pw_some (tQ.bad (x2.trans x3).h (by unfold sTie; rw [if_neg q, rB_r s, rB_l (sWrd_n w3)]) b))
  refine pw_bind (pw_mono (p_named (kd := 1) (N := h.nt) (f := h.tn) (but := a) (by omega) n3 (by omega) ho.tnO (fun k hk => by rw [show 8 * 1 + k = 8 + k by omega]; exact (hM.x (x2.trans x3)).nT k hk) (by omega) ((hL.x x2).x x3) g3) ?_)
  rintro ⟨rb, m4⟩ ⟨x4, h4⟩
  dsimp only at x4 h4 ⊢
  have X := (x2.trans x3).trans x4
  rcases h4 with ⟨k, l, s4, b⟩ | ⟨p3, b4, s4, e, g4, e36⟩
  · refine pw_f b.ne ?_
    rw [p_tie59_bad b.ne]
    exact pw_some (tQ.bad X.h (by unfold sTie; rw [if_neg q, rB_r s, rB_r (sWrd_y w3), rB_l s4]) b)
  subst e
  have sb := sKnown_ok hT s4
  have hM2 := hM.x X
  refine pw_t g4.z ?_
  rw [p_isTied ho hM2 (by omega) (by omega)]
  refine pw_bind (pw_some ?_)
  dsimp only
  by_cases qt : fp h.iv a b4 h.ni = true
  · rw [if_pos qt, e36]
    refine pw_f n10 (pw_bind (pw_mono (p_fail g4.z (k := 3) (by omega) (skp T n (p1 + wTo.length))) ?_))
    rintro ⟨⟨⟩, m5⟩ ⟨b1, b2⟩
    dsimp only at b1 b2 ⊢
    rw [p_tie59_bad b1.ne]
    exact pw_some (tQ.bad (X.trans b2).h (by unfold sTie; rw [if_neg q, rB_r s, rB_r (sWrd_y w3), rB_r s4, if_pos qt]) b1)
  rw [if_neg qt]
  have gi3 : gz_ix (3 : Int32) = 3 := by decide
  have e0 : (2 : Int32) * iI (h.ni : Int) = iI ((2 * h.ni : Nat) : Int) := by rw [show (2 : Int32) = iI 2 from rfl, iI_mul]; exact congrArg iI (by omega)
  have e1 : iI ((2 * h.ni : Nat) : Int) + 1 = iI ((2 * h.ni + 1 : Nat) : Int) := by rw [show (1 : Int32) = iI 1 from rfl, iI_add]; rfl
  have k0 : gz_ix (iI ((2 * h.ni : Nat) : Int)) = 2 * h.ni := by rw [gix (by omega)]; omega
  have k1 : gz_ix (iI ((2 * h.ni + 1 : Nat) : Int)) = 2 * h.ni + 1 := by rw [gix (by omega)]; omega
  unfold mj_X6_tieTold_59
  refine pw_t rfl (pw_t g4.z (pw_gu (by decide) ?_))
  rw [gi3, hM2.c3, e0]
  refine pw_let ?_
  rw [e1, k0, k1]
  refine pw_gu ((gin_iI (by omega)).2 (by omega)) (pw_let (pw_gu ((gin_iI (by omega)).2 (by omega)) (pw_let (pw_gu (by decide) (pw_gu (by decide) (pw_let (pw_some ?_)))))))
  rw [show (msI (msI m4 1043 (2 * h.ni) (iI a)) 1043 (2 * h.ni + 1) (iI b4)).1 1038 3 = iI h.ni from hM2.c3, show iI (h.ni : Int) + 1 = iI ((h.ni + 1 : Nat) : Int) by rw [show (1 : Int32) = iI 1 from rfl, iI_add]; rfl]
  generalize hm9 : msI (msI (msI m4 1043 (2 * h.ni) (iI a)) 1043 (2 * h.ni + 1) (iI b4)) 1038 3 (iI ((h.ni + 1 : Nat) : Int)) = m9
  have F : ∀ c j : Nat, ¬ ((c = 1038 ∧ j = 3) ∨ (c = 1043 ∧ 2 * h.ni ≤ j ∧ j ≤ 2 * h.ni + 1)) → m9.1 c j = m4.1 c j := fun c j k => by rw [← hm9, msI_i, if_neg (by omega), msI_i, if_neg (by omega), msI_i, if_neg (by omega)]
  have L : ∀ j : Nat, True → m9.2 1039 j = m4.2 1039 j := fun j _ => by rw [← hm9]; rfl
  have y0 : m9.1 1038 3 = iI ((h.ni + 1 : Nat) : Int) := by rw [← hm9, msI_i, if_pos ⟨rfl, rfl⟩]
  have y1 : m9.1 1043 (2 * h.ni) = iI a := by rw [← hm9, msI_i, if_neg (by omega), msI_i, if_neg (by omega), msI_i, if_pos ⟨rfl, rfl⟩]
  have y2 : m9.1 1043 (2 * h.ni + 1) = iI b4 := by rw [← hm9, msI_i, if_neg (by omega), msI_i, if_pos ⟨rfl, rfl⟩]
  have fr : hF m1 m9 := X.h.trans ⟨fun c j k => F c j (by unfold hX at k; omega), fun c j _ => by rw [← hm9]; rfl⟩
  refine ⟨fr, Or.inr ⟨p3, (HS.mk h.nh h.hn h.nt h.tn h.tv h.nd h.dv (h.ni + 1) (hupd h.iv h.ni (a, b4)) h.st h.dg h.bu h.mn h.sm), C, by unfold sTie; rw [if_neg q, rB_r s, rB_r (sWrd_y w3), rB_r s4, if_neg qt], g4.mv (F _ _ (by omega)) (F _ _ (by omega)) (F _ _ (by omega)), ?_, Nat.le_refl _⟩⟩
  exact (hsM.mk (c0 := (F _ _ (by omega)).trans hM2.c0) (c1 := (F _ _ (by omega)).trans hM2.c1) (c2 := (F _ _ (by omega)).trans hM2.c2) (c3 := y0) (c4 := (F _ _ (by omega)).trans hM2.c4) (c5 := (F _ _ (by omega)).trans hM2.c5) (nH := fun k (hk : k < h.nh) => (L _ True.intro).trans (hM2.nH k hk)) (nT := fun k (hk : k < h.nt) => (L _ True.intro).trans (hM2.nT k hk)) (fD := fun k (hk : k < h.nd) => ⟨(F _ _ (by omega)).trans (hM2.fD k hk).1, (F _ _ (by omega)).trans (hM2.fD k hk).2.1, (F _ _ (by omega)).trans (hM2.fD k hk).2.2⟩) (fT := fun k (hk : k < h.nt) => ⟨(F _ _ (by omega)).trans (hM2.fT k hk).1, (F _ _ (by omega)).trans (hM2.fT k hk).2.1, (F _ _ (by omega)).trans (hM2.fT k hk).2.2⟩) (fI := fun k (hk : k < h.ni + 1) => by
    show _ = iI (hupd h.iv h.ni (a, b4) k).1 ∧ _ = iI (hupd h.iv h.ni (a, b4) k).2
    by_cases e : k = h.ni
    · subst e
      rw [hupd_at]
      exact ⟨y1, y2⟩
    · rw [hupd_ne _ _ e]
      have hk2 : k < h.ni := by omega
      exact ⟨(F _ _ (by omega)).trans (hM2.fI k hk2).1, (F _ _ (by omega)).trans (hM2.fI k hk2).2⟩) (b0 := hM2.b0.mv (F _ _ (by omega)) (F _ _ (by omega)) (fun j _ => F _ _ (by omega)) (Nat.le_refl _)) (b1 := hM2.b1.mv (F _ _ (by omega)) (F _ _ (by omega)) (fun j _ => F _ _ (by omega)) (Nat.le_refl _)) (cC := (F _ _ (by omega)).trans hM2.cC) (sM := (F _ _ (by omega)).trans hM2.sM))
end ToldM
