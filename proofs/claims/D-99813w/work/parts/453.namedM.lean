/-! ===== the model: a new name, a known one ===== -/
theorem nm_iff {w w' : List Int} (h : nmOK w) (h' : nmOK w') : lL (nmV w) = lL (nmV w') ↔ w = w' := by
  have a := nmV_b h
  have b := nmV_b h'
  rw [lL_eq (by omega) (by omega)]
  exact ⟨fun e => nmV_inj h h' e, fun e => by rw [e]⟩
theorem fi_iff {f : Nat → List Int} {w : List Int} {N : Nat} : fi f w N < N ↔ ∃ k : Nat, k < N ∧ f k = w := by
  constructor
  · intro h; exact ⟨_, h, fi_yes N h⟩
  · rintro ⟨k, h1, h2⟩
    rcases Nat.lt_or_ge (fi f w N) N with q | q
    · exact q
    · exact absurd h2 (fi_no N k (by omega))
theorem rB_inr {α β : Type} {x : Rs α} {f : Nat → α → Rs β} {p : Nat} {b : β} (h : rB x f = Sum.inr (p, b)) : ∃ (p1 : Nat) (a : α), x = Sum.inr (p1, a) ∧ f p1 a = Sum.inr (p, b) := by
  cases x with
  | inl e => cases h
  | inr q => obtain ⟨p1, a⟩ := q; exact ⟨p1, a, rfl, h⟩
theorem rB_l {α β : Type} {x : Rs α} {f : Nat → α → Rs β} {e : Int × Nat} (h : x = Sum.inl e) : rB x f = Sum.inl e := by rw [h]; rfl
theorem rB_r {α β : Type} {x : Rs α} {f : Nat → α → Rs β} {p : Nat} {a : α} (h : x = Sum.inr (p, a)) : rB x f = f p a := by rw [h]; rfl
def nnA (m : MM) (l : Nat) (P : Prop) (m' : MM) : Prop := (m' = m ∧ (m.1 2000 5 = 0 → ¬ P)) ∨ (m.1 2000 5 = 0 ∧ P ∧ bd m' 3 l ∧ xF m m')
theorem nnA.imp {m m' : MM} {l : Nat} {P P' : Prop} (h : nnA m l P m') (hp : P ↔ P') : nnA m l P' m' := by
  rcases h with ⟨a, b⟩ | ⟨a, b, c, d⟩
  · exact Or.inl ⟨a, fun z q => b z (hp.mpr q)⟩
  · exact Or.inr ⟨a, hp.mp b, c, d⟩
theorem nnA.x {m m' : MM} {l : Nat} {P : Prop} (h : nnA m l P m') : xF m m' := by
  rcases h with ⟨a, b⟩ | ⟨a, b, c, d⟩
  · rw [a]; exact xF.refl m
  · exact d
section NamedM
variable {T : Nat → Int} {n : Nat} {m : MM}
theorem p_nn15 {kd N l : Nat} {v : Int64} {P0 : Prop} (hkd : kd < 2) (hN : m.1 1038 kd = iI N) (hN8 : N ≤ 8) (h36 : m.1 2000 5 = 0 → m.1 2000 36 = iI l) {Q : (Int64 × Int32 × MM) ⊕ (Int64 × MM) → Prop} {m1 : MM} (h0 : nnA m l P0 m1) (hQ : ∀ m2 : MM, nnA m l (P0 ∨ ∃ k : Nat, k < N ∧ m.2 1039 (8 * kd + k) = v) m2 → Q (Sum.inl (v, iI ((kd + 1 : Nat) : Int), m2))) : pw (ml_X6_newName_15 v (iI kd) (0 : Int32) m1) Q := by
  have gk : gz_ix (iI (kd : Int)) = kd := by rw [gix (by omega)]; omega
  have ik : gz_in (iI (kd : Int)) 12 := (gin_iI (by omega)).2 (by omega)
  unfold ml_X6_newName_15
  refine pw_for (fun (i : Nat) (q : Int64 × Int32 × Int32 × MM) => q.1 = v ∧ q.2.1 = iI kd ∧ q.2.2.1 = iI i ∧ nnA m l (P0 ∨ ∃ k : Nat, k < i ∧ m.2 1039 (8 * kd + k) = v) q.2.2.2) N ?_ ?_ ⟨rfl, rfl, rfl, h0.imp ⟨Or.inl, fun q => q.elim id (fun ⟨k, a, _⟩ => absurd a (Nat.not_lt_zero _))⟩⟩
  · rintro i ⟨a1, a2, a3, m'⟩ hi ⟨h1, h2, h3, h4⟩
    dsimp only at h1 h2 h3 h4 ⊢
    subst h1 h2 h3
    have hx := h4.x
    have hN' : m'.1 1038 kd = iI N := (hx.1 _ _ (by unfold xK; omega)).trans hN
    have go : ∀ m2 : MM, nnA m l (P0 ∨ ∃ k : Nat, k < i + 1 ∧ m.2 1039 (8 * kd + k) = a1) m2 → pw (mj_X6_newName_59 a1 (iI kd) (iI i) m2) (Sum.elim (fun q : Int64 × Int32 × Int32 × MM => q.1 = a1 ∧ q.2.1 = iI kd ∧ q.2.2.1 = iI ((i + 1 : Nat) : Int) ∧ nnA m l (P0 ∨ ∃ k : Nat, k < i + 1 ∧ m.2 1039 (8 * kd + k) = a1) q.2.2.2) Q) := fun m2 h => by
      unfold mj_X6_newName_59
      refine pw_let (pw_some ⟨rfl, rfl, ?_, h⟩)
      show iI (i : Int) + 1 = _
      rw [show (1 : Int32) = iI 1 from rfl, iI_add]
      rfl
    unfold mb_X6_newName_15
    rw [gk, hN']
    refine pw_gu ik (pw_f (by rw [iI_le (by omega) (by omega)]; omega) (pw_if (fun hz => ?_) (fun hz => ?_)))
    · rcases h4 with ⟨e, h5⟩ | ⟨-, -, h5, -⟩
      · subst e
        have e8 : (8 : Int32) * iI (kd : Int) + iI (i : Int) = iI ((8 * kd + i : Nat) : Int) := by rw [show (8 : Int32) = iI 8 from rfl, iI_mul, iI_add]; exact congrArg iI (by omega)
        have g8 : gz_ix (iI ((8 * kd + i : Nat) : Int)) = 8 * kd + i := by rw [gix (by omega)]; omega
        rw [e8, g8]
        refine pw_gu ((gin_iI (by omega)).2 (by omega)) (pw_if (fun q => ?_) (fun q => ?_))
        · rw [h36 hz]
          refine pw_bind (pw_mono (p_fail hz (k := 3) (by omega) l) ?_)
          rintro ⟨⟨⟩, m2⟩ ⟨b1, b2⟩
          exact go m2 (Or.inr ⟨hz, Or.inr ⟨i, by omega, q⟩, b1, b2⟩)
        · refine go _ (Or.inl ⟨rfl, fun z w => ?_⟩)
          rcases w with w | ⟨k, w1, w2⟩
          · exact h5 z (Or.inl w)
          · by_cases e : k = i
            · rw [e] at w2; exact q w2
            · exact h5 z (Or.inr ⟨k, by omega, w2⟩)
      · exact absurd hz h5.ne
    · rcases h4 with ⟨e, h5⟩ | ⟨h5, h6, h7, h8⟩
      · subst e
        exact go _ (Or.inl ⟨rfl, fun z => absurd z hz⟩)
      · exact go _ (Or.inr ⟨h5, h6.imp id (fun ⟨k, w1, w2⟩ => ⟨k, by omega, w2⟩), h7, h8⟩)
  · rintro ⟨a1, a2, a3, m'⟩ ⟨h1, h2, h3, h4⟩
    dsimp only at h1 h2 h3 h4 ⊢
    subst h1 h2 h3
    have hN' : m'.1 1038 kd = iI N := (h4.x.1 _ _ (by unfold xK; omega)).trans hN
    unfold mb_X6_newName_15
    rw [gk, hN']
    refine pw_gu ik (pw_t (by rw [iI_le (by omega) (by omega)]; omega) (pw_let (pw_some ?_)))
    have := hQ m' h4
    show Q (Sum.inl (a1, iI (kd : Int) + 1, m'))
    rw [show iI (kd : Int) + 1 = iI ((kd + 1 : Nat) : Int) by rw [show (1 : Int32) = iI 1 from rfl, iI_add]; rfl]
    exact this
theorem p_newName {h : HS} (ho : hsOK h) (hN0 : m.1 1038 0 = iI h.nh) (hN1 : m.1 1038 1 = iI h.nt) (hm0 : ∀ k : Nat, k < h.nh → m.2 1039 k = lL (nmV (h.hn k))) (hm1 : ∀ k : Nat, k < h.nt → m.2 1039 (8 + k) = lL (nmV (h.tn k))) {p : Nat} (hL : lxM T n m) (g : gd T n m p) : pw (mf_newName m) (fun q => xF m q.2 ∧ ((∃ (k : Int) (l : Nat), sFresh T n h p = Sum.inl (k, l) ∧ bd q.2 k l) ∨ ∃ (p' : Nat) (w : List Int), sFresh T n h p = Sum.inr (p', w) ∧ nmOK w ∧ q.1 = lL (nmV w) ∧ gd T n q.2 p')) := by
  have h8 := ho.nh8
  have h9 := ho.nt8
  unfold mf_newName
  refine pw_bind (pw_mono (p_name hL g) ?_)
  rintro ⟨v, m1⟩ ⟨x1, h1⟩
  dsimp only at x1 h1 ⊢
  have a0 : m1.1 1038 0 = iI h.nh := (x1.1 _ _ (by unfold xK; omega)).trans hN0
  have a1 : m1.1 1038 1 = iI h.nt := (x1.1 _ _ (by unfold xK; omega)).trans hN1
  have run : ∀ l : Nat, (m1.1 2000 5 = 0 → m1.1 2000 36 = iI l) → pw (ml_X6_newName_7 v (0 : Int32) m1) (fun q => q.1 = v ∧ nnA m1 l ((False ∨ ∃ k : Nat, k < h.nh ∧ m1.2 1039 (8 * 0 + k) = v) ∨ ∃ k : Nat, k < h.nt ∧ m1.2 1039 (8 * 1 + k) = v) q.2) := fun l hl => by
    unfold ml_X6_newName_7
    refine pw_unroll ?_
    dsimp only
    unfold mb_X6_newName_7
    refine pw_f (by decide) (p_nn15 (kd := 0) (N := h.nh) (l := l) (P0 := False) (by omega) a0 (by omega) hl (Or.inl ⟨rfl, fun _ q => q⟩) (fun m2 n2 => ?_))
    refine pw_unroll ?_
    dsimp only
    refine pw_f (by decide) (p_nn15 (kd := 1) (N := h.nt) (l := l) (by omega) a1 (by omega) hl n2 (fun m3 n3 => ?_))
    refine pw_unroll ?_
    dsimp only
    exact pw_t (by decide) (pw_some ⟨rfl, n3⟩)
  rcases h1 with ⟨k, l, s1, b1⟩ | ⟨p', w, s1, o1, v1, g1, e36⟩
  · refine pw_mono (run 0 (fun z => absurd z b1.ne)) ?_
    rintro ⟨q1, m2⟩ ⟨-, hA⟩
    dsimp only at hA ⊢
    rcases hA with ⟨e, -⟩ | ⟨z, -⟩
    · subst e
      exact ⟨x1, Or.inl ⟨k, l, rB_l s1, b1⟩⟩
    · exact absurd z b1.ne
  · subst v1
    have hP : ((False ∨ ∃ k : Nat, k < h.nh ∧ m1.2 1039 (8 * 0 + k) = lL (nmV w)) ∨ ∃ k : Nat, k < h.nt ∧ m1.2 1039 (8 * 1 + k) = lL (nmV w)) ↔ (fi h.hn w h.nh < h.nh ∨ fi h.tn w h.nt < h.nt) := by
      have i0 : ∀ k : Nat, k < h.nh → (m1.2 1039 (8 * 0 + k) = lL (nmV w) ↔ h.hn k = w) := fun k hk => by
        rw [x1.2, show 8 * 0 + k = k by omega, hm0 k hk]
        exact nm_iff (ho.hnO.1 k hk) o1
      have i1 : ∀ k : Nat, k < h.nt → (m1.2 1039 (8 * 1 + k) = lL (nmV w) ↔ h.tn k = w) := fun k hk => by
        rw [x1.2, show 8 * 1 + k = 8 + k by omega, hm1 k hk]
        exact nm_iff (ho.tnO.1 k hk) o1
      rw [fi_iff, fi_iff]
      constructor
      · rintro ((q | ⟨k, k1, k2⟩) | ⟨k, k1, k2⟩)
        · exact q.elim
        · exact Or.inl ⟨k, k1, (i0 k k1).mp k2⟩
        · exact Or.inr ⟨k, k1, (i1 k k1).mp k2⟩
      · rintro (⟨k, k1, k2⟩ | ⟨k, k1, k2⟩)
        · exact Or.inl (Or.inr ⟨k, k1, (i0 k k1).mpr k2⟩)
        · exact Or.inr ⟨k, k1, (i1 k k1).mpr k2⟩
    refine pw_mono (run p (fun _ => e36)) ?_
    rintro ⟨q1, m2⟩ ⟨e, hA⟩
    dsimp only at e hA ⊢
    subst e
    rcases hA.imp hP with ⟨e, hn⟩ | ⟨z, hy, b1, x2⟩
    · subst e
      refine ⟨x1, Or.inr ⟨p', w, ?_, o1, rfl, g1⟩⟩
      unfold sFresh
      rw [rB_r s1, if_neg (hn g1.z)]
    · refine ⟨x1.trans x2, Or.inl ⟨3, p, ?_, b1⟩⟩
      unfold sFresh
      rw [rB_r s1, if_pos hy]
theorem p_newName_bad {N0 N1 : Nat} (hN0 : m.1 1038 0 = iI N0) (hN1 : m.1 1038 1 = iI N1) (h0 : N0 ≤ 8) (h1 : N1 ≤ 8) (h : ¬ m.1 2000 5 = 0) : ∃ v : Int64, mf_newName m = some (v, m) := by
  have key : pw (mf_newName m) (fun q => q.2 = m) := by
    unfold mf_newName
    rw [p_name_bad h]
    refine pw_bind (pw_some ?_)
    dsimp only
    unfold ml_X6_newName_7
    refine pw_unroll ?_
    dsimp only
    unfold mb_X6_newName_7
    have fin : ∀ {P : Prop} {m2 : MM}, nnA m 0 P m2 → m2 = m := fun hA => by
      rcases hA with ⟨e, -⟩ | ⟨z, -⟩
      · exact e
      · exact absurd z h
    refine pw_f (by decide) (p_nn15 (kd := 0) (N := N0) (l := 0) (P0 := False) (by omega) hN0 h0 (fun z => absurd z h) (Or.inl ⟨rfl, fun _ q => q⟩) (fun m2 n2 => ?_))
    refine pw_unroll ?_
    dsimp only
    refine pw_f (by decide) (p_nn15 (kd := 1) (N := N1) (l := 0) (by omega) hN1 h1 (fun z => absurd z h) n2 (fun m3 n3 => ?_))
    refine pw_unroll ?_
    dsimp only
    exact pw_t (by decide) (pw_some (fin n3))
  obtain ⟨⟨v, m2⟩, e, e2⟩ := key
  exact ⟨v, by rw [e]; exact congrArg (fun z => some (v, z)) e2⟩
theorem p_named45 {x1 x2 : Int32} {x3 : Int64} {i : Nat} : mj_X6_named_45 x1 x2 x3 (iI i) m = some (Sum.inl (x1, x2, x3, iI ((i + 1 : Nat) : Int), m)) := by
  unfold mj_X6_named_45
  simp only [gz_let]
  rw [show iI (i : Int) + 1 = iI ((i + 1 : Nat) : Int) by rw [show (1 : Int32) = iI 1 from rfl, iI_add]; rfl]
theorem p_named8_bad {kd N : Nat} (hkd : kd < 2) (hN : m.1 1038 kd = iI N) (hN8 : N ≤ 8) (h : ¬ m.1 2000 5 = 0) (but : Int32) (v : Int64) : pw (ml_X6_named_8 (iI kd) but v (0 : Int32) m) (fun q => q.2 = m) := by
  have gk : gz_ix (iI (kd : Int)) = kd := by rw [gix (by omega)]; omega
  have ik : gz_in (iI (kd : Int)) 12 := (gin_iI (by omega)).2 (by omega)
  unfold ml_X6_named_8
  refine pw_for (fun (i : Nat) (q : Int32 × Int32 × Int64 × Int32 × MM) => q = (iI kd, but, v, iI i, m)) N ?_ ?_ rfl
  · rintro i q hi rfl
    dsimp only
    have e8 : (8 : Int32) * iI (kd : Int) + iI (i : Int) = iI ((8 * kd + i : Nat) : Int) := by rw [show (8 : Int32) = iI 8 from rfl, iI_mul, iI_add]; exact congrArg iI (by omega)
    unfold mb_X6_named_8
    rw [gk, hN, p_named45]
    refine pw_gu ik (pw_f (by rw [iI_le (by omega) (by omega)]; omega) (pw_if (fun _ => pw_some rfl) (fun _ => ?_)))
    rw [e8]
    exact pw_gu ((gin_iI (by omega)).2 (by omega)) (pw_if (fun _ => pw_some rfl) (fun _ => pw_some rfl))
  · rintro q rfl
    dsimp only
    unfold mb_X6_named_8 mj_X6_named_67
    rw [gk, hN]
    exact pw_gu ik (pw_t (by rw [iI_le (by omega) (by omega)]; omega) (pw_f h (pw_some rfl)))
theorem p_named_bad {kd N : Nat} (hkd : kd < 2) (hN : m.1 1038 kd = iI N) (hN8 : N ≤ 8) (h : ¬ m.1 2000 5 = 0) (but : Int32) : ∃ r : Int32, mf_named (iI kd) but m = some (r, m) := by
  have key : pw (mf_named (iI kd) but m) (fun q => q.2 = m) := by
    unfold mf_named
    rw [p_name_bad h]
    exact pw_bind (pw_some (p_named8_bad hkd hN hN8 h but 0))
  obtain ⟨⟨v, m2⟩, e, e2⟩ := key
  exact ⟨v, by rw [e]; exact congrArg (fun z => some (v, z)) e2⟩
theorem p_named {kd N : Nat} {f : Nat → List Int} (hkd : kd < 2) (hN : m.1 1038 kd = iI N) (hN8 : N ≤ 8) (hf : nmsOK f N) (hm : ∀ k : Nat, k < N → m.2 1039 (8 * kd + k) = lL (nmV (f k))) {but : Int} (hbut : -1 ≤ but ∧ but < 100) {p : Nat} (hL : lxM T n m) (g : gd T n m p) : pw (mf_named (iI kd) (iI but) m) (fun q => xF m q.2 ∧ ((∃ (k : Int) (l : Nat), sKnown T n f N but p = Sum.inl (k, l) ∧ bd q.2 k l) ∨ ∃ (p' k : Nat), sKnown T n f N but p = Sum.inr (p', k) ∧ q.1 = iI k ∧ gd T n q.2 p' ∧ q.2.1 2000 36 = iI p)) := by
  have gk : gz_ix (iI (kd : Int)) = kd := by rw [gix (by omega)]; omega
  have ik : gz_in (iI (kd : Int)) 12 := (gin_iI (by omega)).2 (by omega)
  unfold mf_named
  refine pw_bind (pw_mono (p_name hL g) ?_)
  rintro ⟨v, m1⟩ ⟨x1, h1⟩
  dsimp only at x1 h1 ⊢
  have a0 : m1.1 1038 kd = iI N := (x1.1 _ _ (by unfold xK; omega)).trans hN
  rcases h1 with ⟨k, l, s1, b1⟩ | ⟨p', w, s1, o1, v1, g1, e36⟩
  · refine pw_mono (p_named8_bad hkd a0 hN8 b1.ne _ v) ?_
    rintro ⟨q1, m2⟩ e
    dsimp only at e ⊢
    subst e
    exact ⟨x1, Or.inl ⟨k, l, rB_l s1, b1⟩⟩
  subst v1
  have nme : ∀ k : Nat, k < N → (m1.2 1039 (8 * kd + k) = lL (nmV w) ↔ f k = w) := fun k hk => by
    rw [x1.2, hm k hk]
    exact nm_iff (hf.1 k hk) o1
  have fle := fi_le f w N
  unfold ml_X6_named_8
  have e8 : ∀ i : Nat, (8 : Int32) * iI (kd : Int) + iI (i : Int) = iI ((8 * kd + i : Nat) : Int) := fun i => by rw [show (8 : Int32) = iI 8 from rfl, iI_mul, iI_add]; exact congrArg iI (by omega)
  have g8 : ∀ i : Nat, i ≤ 8 → gz_ix (iI ((8 * kd + i : Nat) : Int)) = 8 * kd + i := fun i hi => by rw [gix (by omega)]; omega
  refine pw_for (fun (i : Nat) (q : Int32 × Int32 × Int64 × Int32 × MM) => q = (iI kd, iI but, lL (nmV w), iI i, m1)) (if fi f w N < N ∧ (fi f w N : Int) ≠ but then fi f w N else N) ?_ ?_ rfl
  · rintro i q hi rfl
    dsimp only
    have hiN : i < N ∧ ((i : Int) ≠ but → f i ≠ w) := by
      by_cases c : fi f w N < N ∧ (fi f w N : Int) ≠ but
      · rw [if_pos c] at hi
        exact ⟨by omega, fun _ => fi_no N i hi⟩
      · rw [if_neg c] at hi
        refine ⟨hi, fun hne e => ?_⟩
        have hlt : fi f w N < N := fi_iff.mpr ⟨i, hi, e⟩
        have e2 := hf.2 _ _ hlt hi ((fi_yes N hlt).trans e.symm)
        exact c ⟨hlt, by rw [e2]; exact hne⟩
    unfold mb_X6_named_8
    rw [gk, a0, p_named45]
    refine pw_gu ik (pw_f (by rw [iI_le (by omega) (by omega)]; omega) (pw_if (fun _ => pw_some rfl) (fun hne => ?_)))
    rw [iI_eq (by omega) (by omega)] at hne
    rw [e8, g8 i (by omega)]
    exact pw_gu ((gin_iI (by omega)).2 (by omega)) (pw_f (fun q => hiN.2 hne ((nme i hiN.1).mp q)) (pw_some rfl))
  · rintro q rfl
    dsimp only
    unfold mb_X6_named_8 mj_X6_named_67
    by_cases c : fi f w N < N ∧ (fi f w N : Int) ≠ but
    · rw [if_pos c, gk, a0, e8, g8 _ (by omega)]
      refine pw_gu ik (pw_f (by rw [iI_le (by omega) (by omega)]; omega) (pw_f (by rw [iI_eq (by omega) (by omega)]; exact c.2) (pw_gu ((gin_iI (by omega)).2 (by omega)) (pw_t ((nme _ c.1).mpr (fi_yes N c.1)) (pw_some ?_)))))
      refine ⟨x1, Or.inr ⟨p', fi f w N, ?_, rfl, g1, e36⟩⟩
      unfold sKnown
      rw [rB_r s1, if_pos c]
    · rw [if_neg c, gk, a0]
      refine pw_gu ik (pw_t (by rw [iI_le (by omega) (by omega)]; omega) (pw_t g1.z ?_))
      rw [e36]
      refine pw_bind (pw_mono (p_fail g1.z (k := 3) (by omega) p) ?_)
      rintro ⟨⟨⟩, m2⟩ ⟨b1, b2⟩
      refine pw_some ⟨x1.trans b2, Or.inl ⟨3, p, ?_, b1⟩⟩
      unfold sKnown
      rw [rB_r s1, if_neg c]
theorem p_named1 {kd N : Nat} {f : Nat → List Int} (hkd : kd < 2) (hN : m.1 1038 kd = iI N) (hN8 : N ≤ 8) (hf : nmsOK f N) (hm : ∀ k : Nat, k < N → m.2 1039 (8 * kd + k) = lL (nmV (f k))) (hbut : (-1 : Int) ≤ -1 ∧ (-1 : Int) < 100) {p : Nat} (hL : lxM T n m) (g : gd T n m p) : pw (mf_named (iI kd) (-1 : Int32) m) (fun q => xF m q.2 ∧ ((∃ (k : Int) (l : Nat), sKnown T n f N (-1) p = Sum.inl (k, l) ∧ bd q.2 k l) ∨ ∃ (p' k : Nat), sKnown T n f N (-1) p = Sum.inr (p', k) ∧ q.1 = iI k ∧ gd T n q.2 p' ∧ q.2.1 2000 36 = iI p)) := by
  rw [show (-1 : Int32) = iI (-1) by decide]
  exact p_named hkd hN hN8 hf hm hbut hL g
end NamedM
