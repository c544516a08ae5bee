/-! ===== the model lays ways ===== -/
abbrev wayM (m : MM) (a x : Nat) : Int := mi m 1050 (8 * a + x)
section WaysM
variable {m : MM} {h : HS}
theorem w64 : ∀ k : Nat, k < 64 → (iI (k : Int) / (8 : Int32) = iI ((k / 8 : Nat) : Int)) ∧ iI (k : Int) - iI (k : Int) / (8 : Int32) * (8 : Int32) = iI ((k % 8 : Nat) : Int) := by decide +kernel
theorem way_i {a x : Nat} (ha : a < 8) (hx : x < 8) : (8 : Int32) * iI (a : Int) + iI (x : Int) = iI ((8 * a + x : Nat) : Int) ∧ gz_ix (iI ((8 * a + x : Nat) : Int)) = 8 * a + x ∧ gz_in (iI ((8 * a + x : Nat) : Int)) 64 := by
  refine ⟨?_, ?_, (gin_iI (by omega)).2 (by omega)⟩
  · rw [show (8 : Int32) = iI 8 from rfl, iI_mul, iI_add]; exact congrArg iI (by omega)
  · rw [gix (by omega)]; omega
theorem p_shorter {a x y : Nat} {s : Int} (ha : a < 8) (hx : x < 8) (hy : y < 8) (hs : 0 ≤ s ∧ s ≤ 100) (hbx : wayM m a x = -1 ∨ (0 ≤ wayM m a x ∧ wayM m a x ≤ 63)) (hby : wayM m a y = -1 ∨ (0 ≤ wayM m a y ∧ wayM m a y ≤ 63)) : mf_isShorter (iI a) (iI x) (iI y) (iI s) m = if wayM m a x ≠ -1 ∧ (wayM m a y = -1 ∨ wayM m a x + s < wayM m a y) then some (1, msI m 1050 (8 * a + y) (iI (wayM m a x + s))) else some (0, m) := by
  obtain ⟨e1, g1, n1⟩ := way_i ha hx
  obtain ⟨e2, g2, n2⟩ := way_i ha hy
  have ex : m.1 1050 (8 * a + x) = iI (wayM m a x) := mi_of m _ _
  have ey : m.1 1050 (8 * a + y) = iI (wayM m a y) := mi_of m _ _
  unfold mf_isShorter mj_X6_isShorter_48 mj_X6_isShorter_50
  simp only [gz_let]
  rw [e1, e2, g1, g2, if_pos n1, if_pos n2, ex, ey, show (-1 : Int32) = iI (-1) by decide]
  generalize wayM m a x = X at *
  generalize wayM m a y = Y at *
  by_cases q1 : X = -1
  · rw [if_pos (show iI X = iI (-1) by rw [q1]), if_neg (fun z => z.1 q1)]
  · rw [if_neg (show ¬ iI X = iI (-1) by rw [iI_eq (by omega) (by omega)]; exact q1), iI_add]
    by_cases q2 : Y = -1
    · rw [if_pos (show iI Y = iI (-1) by rw [q2]), if_pos n2, if_pos (show X ≠ -1 ∧ (Y = -1 ∨ X + s < Y) from ⟨q1, Or.inl q2⟩)]
    · rw [if_neg (show ¬ iI Y = iI (-1) by rw [iI_eq (by omega) (by omega)]; exact q2)]
      by_cases q3 : X + s < Y
      · rw [if_pos (show iI (X + s) < iI Y by rw [iI_lt (by omega) (by omega)]; exact q3), if_pos n2, if_pos (show X ≠ -1 ∧ (Y = -1 ∨ X + s < Y) from ⟨q1, Or.inr q3⟩)]
      · rw [if_neg (show ¬ iI (X + s) < iI Y by rw [iI_lt (by omega) (by omega)]; exact q3), if_neg (fun z => z.2.elim q2 q3)]
theorem wayM_upd {a y : Nat} {v : Int} (hv : -100 ≤ v ∧ v ≤ 1000) : wayM (msI m 1050 (8 * a + y) (iI v)) a = hupd (wayM m a) y v := by
  funext x
  show mi (msI m 1050 (8 * a + y) (iI v)) 1050 (8 * a + x) = hupd (wayM m a) y v x
  unfold mi
  rw [msI_i]
  by_cases e : x = y
  · rw [e, if_pos ⟨rfl, rfl⟩, hupd_at]
    exact toInt_iI (by omega) (by omega)
  · rw [if_neg (by omega), hupd_ne _ _ e]; rfl
/-- only the row of a changes -/
def rwF (a : Nat) (m m' : MM) : Prop := (∀ c j : Nat, ¬ (c = 1050 ∧ 8 * a ≤ j ∧ j < 8 * a + 8) → m'.1 c j = m.1 c j) ∧ m'.2 = m.2
theorem rwF.refl (a : Nat) (m : MM) : rwF a m m := ⟨fun _ _ _ => rfl, rfl⟩
theorem rwF.trans {a : Nat} {x y z : MM} (h1 : rwF a x y) (h2 : rwF a y z) : rwF a x z := ⟨fun c j k => (h2.1 c j k).trans (h1.1 c j k), h2.2.trans h1.2⟩
def drM (m : MM) (h : HS) : Prop := m.1 1038 2 = iI h.nd ∧ ∀ k : Nat, k < h.nd → m.1 1040 (3 * k) = iI (h.dv k).1 ∧ m.1 1040 (3 * k + 1) = iI (h.dv k).2.1 ∧ m.1 1040 (3 * k + 2) = iI (h.dv k).2.2
theorem drM.mv {m' : MM} (hD : drM m h) (h1 : m'.1 1038 2 = m.1 1038 2) (h2 : ∀ j : Nat, m'.1 1040 j = m.1 1040 j) : drM m' h := ⟨h1.trans hD.1, fun k hk => by rw [h2, h2, h2]; exact hD.2 k hk⟩
/-- one try: nothing, or a shorter way -/
theorem p_try {a x y : Nat} {s : Int} (ho : hsOK h) (ha : a < 8) (e : edg h x y s) (hI : bfI h a (wayM m a)) : pw (mf_isShorter (iI a) (iI x) (iI y) (iI s) m) (fun q => rwF a m q.2 ∧ bfI h a (wayM q.2 a) ∧ ((q.1 = 0 ∧ q.2 = m ∧ (wayM m a x ≠ -1 → wayM m a y ≠ -1 ∧ wayM m a y ≤ wayM m a x + s)) ∨ (q.1 = 1 ∧ pot (wayM q.2 a) 8 < pot (wayM m a) 8))) := by
  obtain ⟨b1, b2, b3, b4⟩ := e.b ho
  have hb := hI.b
  rw [p_shorter ha b1 b2 (by omega) (hb x b1) (hb y b2)]
  by_cases c : wayM m a x ≠ -1 ∧ (wayM m a y = -1 ∨ wayM m a x + s < wayM m a y)
  · rw [if_pos c]
    have hbx := hb x b1
    have hv : -100 ≤ wayM m a x + s ∧ wayM m a x + s ≤ 1000 := by omega
    obtain ⟨s1, s2⟩ := hI.s ho e c.1 c.2
    refine pw_some ⟨⟨fun c' j k => by rw [msI_i, if_neg (by omega)], rfl⟩, ?_, Or.inr ⟨rfl, ?_⟩⟩
    · show bfI h a (wayM (msI m 1050 (8 * a + y) (iI (wayM m a x + s))) a)
      rw [wayM_upd hv]; exact s1
    · show pot (wayM (msI m 1050 (8 * a + y) (iI (wayM m a x + s))) a) 8 < _
      rw [wayM_upd hv]; exact s2
  · rw [if_neg c]
    refine pw_some ⟨rwF.refl a m, hI, Or.inl ⟨rfl, rfl, fun hx => ?_⟩⟩
    by_cases q : wayM m a y = -1
    · exact absurd ⟨hx, Or.inl q⟩ c
    · refine ⟨q, ?_⟩
      rcases Int.lt_or_le (wayM m a x + s) (wayM m a y) with z | z
      · exact absurd ⟨hx, Or.inr z⟩ c
      · exact z
/-- one pass through all doors -/
def psI (h : HS) (a : Nat) (m0 : MM) (i : Nat) (x2 : Int32) (m : MM) : Prop := rwF a m0 m ∧ bfI h a (wayM m a) ∧ ((x2 = 0 ∧ m = m0 ∧ ∀ k : Nat, k < i → (wayM m a (h.dv k).1 ≠ -1 → wayM m a (h.dv k).2.1 ≠ -1 ∧ wayM m a (h.dv k).2.1 ≤ wayM m a (h.dv k).1 + (h.dv k).2.2) ∧ (wayM m a (h.dv k).2.1 ≠ -1 → wayM m a (h.dv k).1 ≠ -1 ∧ wayM m a (h.dv k).1 ≤ wayM m a (h.dv k).2.1 + (h.dv k).2.2)) ∨ (x2 = 1 ∧ pot (wayM m a) 8 < pot (wayM m0 a) 8))
theorem p_pass {a : Nat} {Q : (Int32 × Int32 × MM) ⊕ ((Int32 × MM) ⊕ (Unit × MM)) → Prop} (ho : hsOK h) (ha : a < 8) (hD : drM m h) (hI : bfI h a (wayM m a)) (hQ : ∀ (x2 : Int32) (m' : MM), psI h a m h.nd x2 m' → Q (Sum.inl (iI a, x2, m'))) : pw (ml_X6_laysWays_54 (iI a) (0 : Int32) (0 : Int32) m) Q := by
  have h12 := ho.nd12
  have gi2 : gz_ix (2 : Int32) = 2 := by decide
  unfold ml_X6_laysWays_54
  refine pw_for (fun (i : Nat) (q : Int32 × Int32 × Int32 × MM) => q.1 = iI a ∧ q.2.2.1 = iI i ∧ psI h a m i q.2.1 q.2.2.2) h.nd ?_ ?_ ⟨rfl, rfl, rwF.refl a m, hI, Or.inl ⟨rfl, rfl, fun k hk => absurd hk (Nat.not_lt_zero _)⟩⟩
  · rintro i ⟨q1, x2, q3, m1⟩ hi ⟨e1, e2, P1⟩
    dsimp only at e1 e2 P1 ⊢
    subst e1 e2
    have hD1 : drM m1 h := hD.mv (P1.1.1 _ _ (by omega)) (fun j => P1.1.1 _ _ (by omega))
    obtain ⟨d1, d2, d3⟩ := hD1.2 i hi
    have e0 : (3 : Int32) * iI (i : Int) = iI ((3 * i : Nat) : Int) := by rw [show (3 : Int32) = iI 3 from rfl, iI_mul]; exact congrArg iI (by omega)
    have e1 : iI ((3 * i : Nat) : Int) + 1 = iI ((3 * i + 1 : Nat) : Int) := by rw [show (1 : Int32) = iI 1 from rfl, iI_add]; rfl
    have e2 : iI ((3 * i : Nat) : Int) + 2 = iI ((3 * i + 2 : Nat) : Int) := by rw [show (2 : Int32) = iI 2 from rfl, iI_add]; rfl
    have k0 : gz_ix (iI ((3 * i : Nat) : Int)) = 3 * i := by rw [gix (by omega)]; omega
    have k1 : gz_ix (iI ((3 * i + 1 : Nat) : Int)) = 3 * i + 1 := by rw [gix (by omega)]; omega
    have k2 : gz_ix (iI ((3 * i + 2 : Nat) : Int)) = 3 * i + 2 := by rw [gix (by omega)]; omega
    have n0 : gz_in (iI ((3 * i : Nat) : Int)) 36 := (gin_iI (by omega)).2 (by omega)
    have n1 : gz_in (iI ((3 * i + 1 : Nat) : Int)) 36 := (gin_iI (by omega)).2 (by omega)
    have n2 : gz_in (iI ((3 * i + 2 : Nat) : Int)) 36 := (gin_iI (by omega)).2 (by omega)
    have ed : edg h (h.dv i).1 (h.dv i).2.1 (h.dv i).2.2 := ⟨i, hi, Or.inl rfl⟩
    -- the second half
    have half : ∀ (x : Int32) (m2 : MM), rwF a m m2 → bfI h a (wayM m2 a) → ((x = 0 ∧ m2 = m ∧ psI h a m i 0 m ∧ (wayM m a (h.dv i).1 ≠ -1 → wayM m a (h.dv i).2.1 ≠ -1 ∧ wayM m a (h.dv i).2.1 ≤ wayM m a (h.dv i).1 + (h.dv i).2.2)) ∨ (x = 1 ∧ pot (wayM m2 a) 8 < pot (wayM m a) 8)) → pw (mj_X6_laysWays_106 (iI a) x (iI i) (iI (h.dv i).2.2) m2) (Sum.elim (fun q : Int32 × Int32 × Int32 × MM => q.1 = iI a ∧ q.2.2.1 = iI ((i + 1 : Nat) : Int) ∧ psI h a m (i + 1) q.2.1 q.2.2.2) Q) := fun x m2 f2 I2 hx => by
      have hD2 : drM m2 h := hD.mv (f2.1 _ _ (by omega)) (fun j => f2.1 _ _ (by omega))
      obtain ⟨d1, d2, d3⟩ := hD2.2 i hi
      unfold mj_X6_laysWays_106 mj_X6_laysWays_136
      rw [e0, e1, k0, k1, d1, d2]
      refine pw_gu n1 (pw_gu n0 (pw_bind (pw_mono (p_try ho ha ed.sym I2) ?_)))
      rintro ⟨r, m3⟩ ⟨f3, I3, h3⟩
      dsimp only at f3 I3 h3 ⊢
      have es : iI (i : Int) + 1 = iI ((i + 1 : Nat) : Int) := by rw [show (1 : Int32) = iI 1 from rfl, iI_add]; rfl
      rcases h3 with ⟨r0, m30, h3⟩ | ⟨r1, h3⟩
      · subst r0 m30
        refine pw_t rfl (pw_let (pw_some ⟨rfl, es, f2, I3, ?_⟩))
        rcases hx with ⟨x0, m20, P0, h0⟩ | ⟨x1, h1⟩
        · subst x0 m20
          refine Or.inl ⟨rfl, rfl, fun k hk => ?_⟩
          by_cases e : k = i
          · subst e; exact ⟨h0, h3⟩
          · rcases P0.2.2 with ⟨-, -, P⟩ | ⟨z, -⟩
            · exact P k (by omega)
            · exact absurd z.symm n10
        · exact Or.inr ⟨x1, h1⟩
      · subst r1
        refine pw_f n10 (pw_let (pw_some ⟨rfl, es, f2.trans f3, I3, Or.inr ⟨rfl, ?_⟩⟩))
        show pot (wayM m3 a) 8 < _
        rcases hx with ⟨-, m20, -, -⟩ | ⟨-, h1⟩
        · subst m20; exact h3
        · omega
    unfold mb_X6_laysWays_54
    rw [gi2, hD1.1, e0, e1, e2, k0, k1, k2, d1, d2, d3]
    refine pw_gu (by decide) (pw_f (by rw [iI_le (by omega) (by omega)]; omega) (pw_gu n2 (pw_let (pw_gu n0 (pw_gu n1 (pw_bind (pw_mono (p_try ho ha ed P1.2.1) ?_)))))))
    rintro ⟨r, m2⟩ ⟨f2, I2, h2⟩
    dsimp only at f2 I2 h2 ⊢
    rcases h2 with ⟨r0, m20, h2⟩ | ⟨r1, h2⟩
    · subst r0 m20
      refine pw_t rfl (half x2 _ P1.1 I2 ?_)
      rcases P1.2.2 with ⟨x0, m10, P⟩ | ⟨x1, P⟩
      · subst x0 m10
        exact Or.inl ⟨rfl, rfl, P1, h2⟩
      · exact Or.inr ⟨x1, P⟩
    · subst r1
      refine pw_f n10 (half 1 m2 (P1.1.trans f2) I2 (Or.inr ⟨rfl, ?_⟩))
      rcases P1.2.2 with ⟨-, m10, -⟩ | ⟨-, P⟩
      · subst m10; exact h2
      · omega
  · rintro ⟨q1, x2, q3, m1⟩ ⟨e1, e2, P1⟩
    dsimp only at e1 e2 P1 ⊢
    subst e1 e2
    unfold mb_X6_laysWays_54
    rw [gi2, show m1.1 1038 2 = iI h.nd from (P1.1.1 _ _ (by omega)).trans hD.1]
    exact pw_gu (by decide) (pw_t (by rw [iI_le (by omega) (by omega)]; omega) (pw_some (hQ x2 m1 P1)))
/-- all passes from one hall -/
theorem p_passes {a : Nat} {Q : (Int32 × MM) ⊕ (Unit × MM) → Prop} (ho : hsOK h) (ha : a < 8) (hD : drM m h) (hI : bfI h a (wayM m a)) (hQ : ∀ m' : MM, rwF a m m' → rowG h a (wayM m' a) → Q (Sum.inl (iI ((a + 1 : Nat) : Int), m'))) : pw (ml_X6_laysWays_46 (iI a) (1 : Int32) m) Q := by
  unfold ml_X6_laysWays_46
  refine pw_loop (fun (q : Int32 × Int32 × MM) => q.1 = iI a ∧ rwF a m q.2.2 ∧ bfI h a (wayM q.2.2 a) ∧ ((q.2.1 = 0 ∧ ∀ (x y : Nat) (s : Int), edg h x y s → wayM q.2.2 a x ≠ -1 → wayM q.2.2 a y ≠ -1 ∧ wayM q.2.2 a y ≤ wayM q.2.2 a x + s) ∨ q.2.1 = 1)) (fun q => 2 * (pot (wayM q.2.2 a) 8).toNat + (if q.2.1 = 1 then 1 else 0)) ?_ ⟨rfl, rwF.refl a m, hI, Or.inr rfl⟩
  rintro ⟨q1, x2, m1⟩ ⟨e1, f1, I1, h1⟩
  dsimp only at e1 f1 I1 h1 ⊢
  subst e1
  unfold mb_X6_laysWays_46
  rcases h1 with ⟨x0, h1⟩ | x1
  · subst x0
    refine pw_t rfl (pw_let (pw_some ?_))
    show Q (Sum.inl (iI (a : Int) + 1, m1))
    rw [show iI (a : Int) + 1 = iI ((a + 1 : Nat) : Int) by rw [show (1 : Int32) = iI 1 from rfl, iI_add]; rfl]
    exact hQ m1 f1 ⟨I1.b, I1.2.1, I1.2.2, h1⟩
  · subst x1
    refine pw_f n10 (p_pass ho ha (hD.mv (f1.1 _ _ (by omega)) (fun j => f1.1 _ _ (by omega))) I1 (fun x3 m3 P3 => ?_))
    have hp0 : 0 ≤ pot (wayM m3 a) 8 := pot_b (fun x hx => (P3.2.1.b x hx).imp id (fun q => q.1)) 8 (by omega)
    rcases P3.2.2 with ⟨x0, m30, P⟩ | ⟨x1, P⟩
    · subst x0 m30
      refine ⟨⟨rfl, f1, I1, Or.inl ⟨rfl, fun x y s e hx => ?_⟩⟩, ?_⟩
      · obtain ⟨i, hi, d⟩ := e
        obtain ⟨P1, P2⟩ := P i hi
        rcases d with d | d
        · rw [d] at P1; exact P1 hx
        · rw [d] at P2; exact P2 hx
      · show 2 * (pot (wayM m3 a) 8).toNat + (if (0 : Int32) = 1 then 1 else 0) < 2 * (pot (wayM m3 a) 8).toNat + (if (1 : Int32) = 1 then 1 else 0)
        rw [if_neg (by decide), if_pos rfl]
        omega
    · subst x1
      refine ⟨⟨rfl, f1.trans P3.1, P3.2.1, Or.inr rfl⟩, ?_⟩
      show 2 * (pot (wayM m3 a) 8).toNat + (if (1 : Int32) = 1 then 1 else 0) < 2 * (pot (wayM m1 a) 8).toNat + (if (1 : Int32) = 1 then 1 else 0)
      rw [if_pos rfl]
      omega
def wyF (m m' : MM) : Prop := (∀ c j : Nat, ¬ (c = 1050 ∧ j < 64) → m'.1 c j = m.1 c j) ∧ m'.2 = m.2
theorem rwF.w {a : Nat} {m m' : MM} (x : rwF a m m') (ha : a < 8) : wyF m m' := ⟨fun c j k => x.1 c j (by omega), x.2⟩
theorem wyF.trans {x y z : MM} (h1 : wyF x y) (h2 : wyF y z) : wyF x z := ⟨fun c j k => (h2.1 c j k).trans (h1.1 c j k), h2.2.trans h1.2⟩
theorem p_laysWays (ho : hsOK h) (hD : drM m h) : pw (mf_laysWays m) (fun q => wyF m q.2 ∧ ∀ a : Nat, a < 8 → rowG h a (wayM q.2 a)) := by
  unfold mf_laysWays ml_X6_laysWays_2
  refine pw_for (fun (i : Nat) (q : Int32 × MM) => q.1 = iI i ∧ wyF m q.2 ∧ ∀ k : Nat, k < i → mi q.2 1050 k = if k / 8 = k % 8 then 0 else -1) 64 ?_ ?_ ⟨rfl, ⟨fun _ _ _ => rfl, rfl⟩, fun k hk => absurd hk (Nat.not_lt_zero _)⟩
  · rintro i ⟨q1, m1⟩ hi ⟨e1, f1, h1⟩
    dsimp only at e1 f1 h1 ⊢
    subst e1
    have gi : gz_ix (iI (i : Int)) = i := by rw [gix (by omega)]; omega
    have fin : ∀ v : Int, -1 ≤ v ∧ v ≤ 0 → (v = if i / 8 = i % 8 then 0 else -1) → pw (mj_X6_laysWays_29 (iI i) (iI v) (iI i) m1) (Sum.elim (fun q : Int32 × MM => q.1 = iI ((i + 1 : Nat) : Int) ∧ wyF m q.2 ∧ ∀ k : Nat, k < i + 1 → mi q.2 1050 k = if k / 8 = k % 8 then 0 else -1) (fun q => wyF m q.2 ∧ ∀ a : Nat, a < 8 → rowG h a (wayM q.2 a))) := fun v hv hv2 => by
      unfold mj_X6_laysWays_29
      rw [gi]
      refine pw_gu ((gin_iI (by omega)).2 (by omega)) (pw_let (pw_let (pw_some ⟨?_, f1.trans ⟨fun c j k => by rw [msI_i, if_neg (by omega)], rfl⟩, fun k hk => ?_⟩)))
      · show iI (i : Int) + 1 = _
        rw [show (1 : Int32) = iI 1 from rfl, iI_add]; rfl
      · show mi (msI m1 1050 i (iI v)) 1050 k = _
        unfold mi
        rw [msI_i]
        by_cases e : k = i
        · rw [e, if_pos ⟨rfl, rfl⟩, toInt_iI (by omega) (by omega)]; exact hv2
        · rw [if_neg (by omega)]; exact h1 k (by omega)
    unfold mb_X6_laysWays_2
    rw [(w64 i hi).2, (w64 i hi).1]
    refine pw_f (by rw [show (64 : Int32) = iI 64 from rfl, iI_le (by omega) (by omega)]; omega) (pw_if (fun q => ?_) (fun q => ?_))
    · rw [iI_eq (by omega) (by omega)] at q
      exact fin 0 (by omega) (by rw [if_pos (by omega)])
    · rw [iI_eq (by omega) (by omega)] at q
      exact fin (-1) (by omega) (by rw [if_neg (by omega)])
  · rintro ⟨q1, m1⟩ ⟨e1, f1, h1⟩
    dsimp only at e1 f1 h1 ⊢
    subst e1
    unfold mb_X6_laysWays_2
    refine pw_t (by decide) (pw_map ?_)
    unfold ml_X6_laysWays_38
    refine pw_for (fun (i : Nat) (q : Int32 × MM) => q.1 = iI i ∧ wyF m q.2 ∧ (∀ a : Nat, a < i → rowG h a (wayM q.2 a)) ∧ ∀ k : Nat, 8 * i ≤ k → k < 64 → mi q.2 1050 k = if k / 8 = k % 8 then 0 else -1) 8 ?_ ?_ ⟨rfl, f1, fun k hk => absurd hk (Nat.not_lt_zero _), fun k _ hk => h1 k hk⟩
    · rintro a ⟨q1, m2⟩ ha ⟨e1, f2, R2, h2⟩
      dsimp only at e1 f2 R2 h2 ⊢
      subst e1
      unfold mb_X6_laysWays_38
      have hw : ∀ x : Nat, x < 8 → wayM m2 a x = if x = a then 0 else -1 := fun x hx => by
        show mi m2 1050 (8 * a + x) = _
        rw [h2 (8 * a + x) (by omega) (by omega)]
        by_cases e : x = a
        · rw [if_pos e, if_pos (by omega)]
        · rw [if_neg e, if_neg (by omega)]
      have hwa : wayM m2 a a = 0 := by rw [hw a ha, if_pos rfl]
      have c1 := cnt_pos (w := wayM m2 a) (a := a) (by omega) 8 ha
      have hI : bfI h a (wayM m2 a) := by
        refine ⟨fun x hx => ?_, fun x hx hn => ?_, hwa⟩
        · rw [hw x hx]
          by_cases e : x = a
          · rw [if_pos e]; exact Or.inr (by omega)
          · rw [if_neg e]; exact Or.inl rfl
        · rw [hw x hx] at hn ⊢
          by_cases e : x = a
          · rw [if_pos e]; exact ⟨0, e.symm, rfl⟩
          · rw [if_neg e] at hn; exact absurd rfl hn
      refine pw_f (by rw [show (8 : Int32) = iI 8 from rfl, iI_le (by omega) (by omega)]; omega) (p_passes ho ha (hD.mv (f2.1 _ _ (by omega)) (fun j => f2.1 _ _ (by omega))) hI (fun m3 f3 R3 => ?_))
      refine ⟨rfl, f2.trans (f3.w ha), fun b hb => ?_, fun k k1 k2 => ?_⟩
      · by_cases e : b = a
        · subst e; exact R3
        · have same : ∀ x : Nat, x < 8 → wayM m3 b x = wayM m2 b x := fun x hx => by
            show mi m3 1050 (8 * b + x) = mi m2 1050 (8 * b + x)
            unfold mi
            rw [f3.1 _ _ (by omega)]
          have R := R2 b (by omega)
          have h8 : b < 8 := by omega
          refine ⟨fun x hx => by rw [same x hx]; exact R.1 x hx, fun x hx hn => by rw [same x hx] at hn ⊢; exact R.2.1 x hx hn, by rw [same b h8]; exact R.2.2.1, fun x y s e hx => ?_⟩
          obtain ⟨b1, b2, -⟩ := e.b ho
          rw [same x b1] at hx
          rw [same x b1, same y b2]
          exact R.2.2.2 x y s e hx
      · show mi m3 1050 k = _
        unfold mi
        rw [f3.1 _ _ (by omega)]
        exact h2 k (by omega) k2
    · rintro ⟨q1, m2⟩ ⟨e1, f2, R2, -⟩
      dsimp only at e1 f2 R2 ⊢
      subst e1
      unfold mb_X6_laysWays_38
      exact pw_t (by decide) (pw_some ⟨f2, R2⟩)
end WaysM
