/-! ===== keep: the model, whole ===== -/
section KeepM2
variable {m : MM} {S D : Nat}
/-- one more -/
def omQ (m : MM) (S D : Nat) (c : Int) (q : Int32 × MM) : Prop := kpF m q.2 ∧ ((q.1 = 1 ∧ Fl (tiG m) (ties m) S D (fiM q.2) (c + 1)) ∨ (q.1 = 0 ∧ MxF (tiG m) (ties m) S D c))
theorem p_end138 {a0 a : MM} {c : Int} {qu : Nat → Nat} {qe : Nat} (hT : tieOK m) (hS : S < 8) (hD : D < 8) (hne : S ≠ D) (hFl : Fl (tiG m) (ties m) S D (fiM a0) c) (hq : sqM m S a0 a qu qe) (hd : paM a D = -1 → dnM m a0 a qu qe 0) : pw (mj_X6_isOneMore_138 (iI S) (iI D) a) (omQ m S D c) := by
  obtain ⟨f1, f2, f3, ⟨rk, N, f4⟩, f5, f6, f7⟩ := hq
  have gD : gz_ix (iI (D : Int)) = D := by rw [gix (by omega)]; omega
  have efi : fiM a = fiM a0 := by funext j; unfold fiM; rw [f2]
  unfold mj_X6_isOneMore_138
  rw [gD]
  refine pw_gu ((gin_iI (by omega)).2 (by omega)) (pw_if (fun q => ?_) (fun q => ?_))
  · have pD : paM a D = -1 := by unfold paM mi; rw [q]; decide
    refine pw_some ⟨f1, Or.inr ⟨rfl, ⟨fiM a0, hFl⟩, fun ψ c2 h2 => ?_⟩⟩
    refine cut (R := fun v => decide (paM a v ≠ -1)) hFl h2 (decide_eq_true (by rw [f3]; omega)) (decide_eq_false (fun z => z pD)) (fun k hk hG hr => ?_)
    have hr := of_decide_eq_true hr
    obtain ⟨i, i1, i2⟩ := f6 _ (tl8 (φ := fiM a0) hT hk).1 hr
    exact decide_eq_true (hd pD i k hk hG i2.symm (Or.inl i1))
  · have pD : paM a D ≠ -1 := fun z => q (by rw [mi_of a]; exact (congrArg iI z).trans (by decide))
    refine pw_mono (p_walk (c := c) hT hS hD f1 (by rw [efi]; exact f4) (by rw [efi]; exact hFl) pD) ?_
    rintro ⟨r, b⟩ ⟨b1, b2, b3⟩
    exact ⟨b2, Or.inl ⟨b1, b3⟩⟩
theorem p_look43 {a0 a : MM} {c : Int} {qu : Nat → Nat} {qe : Nat} (hT : tieOK m) (hS : S < 8) (hD : D < 8) (hne : S ≠ D) (hFl : Fl (tiG m) (ties m) S D (fiM a0) c) (hq : sqM m S a0 a qu qe) : pw (ml_X6_isOneMore_43 (iI S) (iI D) (iI qe) 0 a) (omQ m S D c) := by
  unfold ml_X6_isOneMore_43
  refine pw_dn (fun n q => ∃ (qu : Nat → Nat) (qe qh : Nat), q.1 = iI S ∧ q.2.1 = iI D ∧ q.2.2.1 = iI (qe : Int) ∧ q.2.2.2.1 = iI (qh : Int) ∧ sqM m S a0 q.2.2.2.2 qu qe ∧ dnM m a0 q.2.2.2.2 qu qh 0 ∧ qh ≤ qe ∧ qe ≤ 8 ∧ n + qh = 9) ?_ (n := 9) ⟨qu, qe, 0, rfl, rfl, rfl, rfl, hq, fun i k _ _ _ z => by omega, by omega, by rw [← hq.2.2.2.2.2.2]; exact cn_le _ 8, rfl⟩
  rintro n ⟨y1, y2, y3, y4, b⟩ ⟨qu, qe, qh, e1, e2, e3, e4, hq, hd, h1, h2, h3⟩
  dsimp only at e1 e2 e3 e4 hq hd ⊢
  subst e1; subst e2; subst e3; subst e4
  have gD : gz_ix (iI (D : Int)) = D := by rw [gix (by omega)]; omega
  unfold mb_X6_isOneMore_43
  by_cases q : qe ≤ qh
  · have : qe = qh := by omega
    subst this
    exact pw_t (by rw [iI_le (by omega) (by omega)]; omega) (pw_map (pw_mono (p_end138 hT hS hD hne hFl hq (fun _ => hd)) (fun z hz => hz)))
  · rw [gD]
    refine pw_f (by rw [iI_le (by omega) (by omega)]; omega) (pw_gu ((gin_iI (by omega)).2 (by omega)) (pw_if (fun p => ?_) (fun p => ?_)))
    · refine p_look62 hT hS hq (by omega) hd (fun d qu' qe' g1 g2 g3 g4 => ?_)
      exact ⟨n - 1, by omega, qu', qe', qh + 1, rfl, rfl, rfl, rfl, g1, g4, by omega, g3, by omega⟩
    · have pD : paM b D ≠ -1 := fun z => p (by rw [mi_of b]; exact (congrArg iI z).trans (by decide))
      exact pw_map (pw_mono (p_end138 hT hS hD hne hFl hq (fun z => absurd z pD)) (fun z hz => hz))
theorem p_isOneMore {a : MM} {c : Int} (hT : tieOK m) (hS : S < 8) (hD : D < 8) (hne : S ≠ D) (hf : kpF m a) (hFl : Fl (tiG m) (ties m) S D (fiM a) c) : pw (mf_isOneMore (iI S) (iI D) a) (omQ m S D c) := by
  unfold mf_isOneMore ml_X6_isOneMore_2
  refine pw_for (fun i q => q.1 = iI S ∧ q.2.1 = iI D ∧ q.2.2.1 = iI (i : Int) ∧ kpF m q.2.2.2 ∧ (∀ k : Nat, q.2.2.2.1 1062 k = a.1 1062 k) ∧ ∀ v : Nat, v < i → q.2.2.2.1 1063 v = (if v = S then 12 else -1)) 8 ?_ ?_ ⟨rfl, rfl, rfl, hf, fun _ => rfl, fun v hv => absurd hv (Nat.not_lt_zero _)⟩
  · rintro i ⟨y1, y2, y3, b⟩ hi ⟨e1, e2, e3, f1, f2, f3⟩
    dsimp only at e1 e2 e3 f1 f2 f3 ⊢
    subst e1; subst e2; subst e3
    have gi : gz_ix (iI (i : Int)) = i := by rw [gix (by omega)]; omega
    have go : ∀ x : Int32, x = (if i = S then 12 else -1) → pw (mj_X6_isOneMore_24 (iI S) (iI D) (iI i) x (iI i) b) (Sum.elim (fun q : Int32 × Int32 × Int32 × MM => q.1 = iI S ∧ q.2.1 = iI D ∧ q.2.2.1 = iI ((i + 1 : Nat) : Int) ∧ kpF m q.2.2.2 ∧ (∀ k : Nat, q.2.2.2.1 1062 k = a.1 1062 k) ∧ ∀ v : Nat, v < i + 1 → q.2.2.2.1 1063 v = (if v = S then 12 else -1)) (omQ m S D c)) := fun x hx => by
      unfold mj_X6_isOneMore_24
      rw [gi]
      refine pw_gu ((gin_iI (by omega)).2 (by omega)) (pw_let (pw_let (pw_some ⟨rfl, rfl, ?_, ⟨fun c j q1 q2 q3 => ?_, f1.2⟩, fun k => ?_, fun v hv => ?_⟩)))
      · show iI (i : Int) + (1 : Int32) = _
        rw [iI_lit, iI_add]; rfl
      · show (msI b 1063 i x).1 c j = _
        rw [msI_i, if_neg (fun w => q2 w.1)]; exact f1.1 c j q1 q2 q3
      · show (msI b 1063 i x).1 1062 k = _
        rw [msI_i, if_neg (by omega)]; exact f2 k
      · show (msI b 1063 i x).1 1063 v = _
        rw [msI_i]
        by_cases z : v = i
        · rw [if_pos ⟨rfl, z⟩, z]; exact hx
        · rw [if_neg (fun w => z w.2)]; exact f3 v (by omega)
    unfold mb_X6_isOneMore_2
    refine pw_f (by rw [show (8 : Int32) = iI 8 from rfl, iI_le (by omega) (by omega)]; omega) (pw_if (fun q => ?_) (fun q => ?_))
    · rw [iI_eq (by omega) (by omega)] at q
      exact go 12 (by rw [if_pos (by omega)])
    · rw [iI_eq (by omega) (by omega)] at q
      exact go (-1) (by rw [if_neg (by omega)])
  · rintro ⟨y1, y2, y3, b⟩ ⟨e1, e2, e3, f1, f2, f3⟩
    dsimp only at e1 e2 e3 f1 f2 f3 ⊢
    subst e1; subst e2; subst e3
    have g0 : gz_ix (0 : Int32) = 0 := by decide
    unfold mb_X6_isOneMore_2
    rw [g0]
    refine pw_t (by decide) (pw_gu (by decide) (pw_let (pw_map ?_)))
    have I1 : ∀ c j : Nat, ¬ (c = 1064 ∧ j = 0) → (msI b 1064 0 (iI S)).1 c j = b.1 c j := fun c j h => by rw [msI_i, if_neg h]
    have V1 : (msI b 1064 0 (iI S)).1 1064 0 = iI (S : Int) := by rw [msI_i, if_pos ⟨rfl, rfl⟩]
    have L1 : (msI b 1064 0 (iI S)).2 = b.2 := rfl
    generalize msI b 1064 0 (iI S) = d at I1 V1 L1 ⊢
    have pd : ∀ v : Nat, v < 8 → paM d v = (if v = S then 12 else -1) := fun v hv => by
      unfold paM mi
      rw [I1 _ _ (by omega), f3 v hv]
      split <;> decide
    refine pw_mono (p_look43 (a0 := a) (qu := fun _ => S) (qe := 1) hT hS hD hne hFl ⟨⟨fun c j q1 q2 q3 => (I1 _ _ (by omega)).trans (f1.1 c j q1 q2 q3), L1.trans f1.2⟩, fun k => (I1 _ _ (by omega)).trans (f2 k), by rw [pd S hS, if_pos rfl], ⟨fun _ => 0, 0, fun v v8 vS vp => ?_⟩, fun i hi => ?_, fun v v8 vp => ?_, ?_⟩) (fun z hz => hz)
    · rw [pd v v8, if_neg vS] at vp
      exact absurd rfl vp
    · refine ⟨hS, ?_, by rw [pd S hS, if_pos rfl]; omega⟩
      rw [show i = 0 by omega]; exact V1
    · refine ⟨0, by omega, ?_⟩
      rw [pd v v8] at vp
      by_cases z : v = S
      · exact z.symm
      · rw [if_neg z] at vp
        exact absurd rfl vp
    · have e0 : ∀ n : Nat, cn (fun _ => false) n = 0 := fun n => by
        induction n with
        | zero => rfl
        | succ n ih => show cn (fun _ => false) n + _ = 0; rw [ih]; rfl
      rw [cn_set (f := fun _ => false) (w := S) rfl (decide_eq_true (by rw [pd S hS, if_pos rfl]; omega)) 8 (fun v v8 hv => decide_eq_false (fun z => z (by rw [pd v v8, if_neg hv]))), e0, if_pos hS]
theorem p_keep48 (hT : tieOK m) (hS : S < 8) (hD : D < 8) (hne : S ≠ D) {a : MM} (hf : kpF m a) (h0 : ∀ k : Nat, k < 12 → a.1 1062 k = 0) : pw (ml_X6_keep_48 (iI D) (iI S) 0 a) (fun q => kpF m q.2 ∧ ∃ c : Int, q.1 = iI c ∧ MxF (tiG m) (ties m) S D c) := by
  have b9 := hT.1.2.2.2.1
  have E12 : ties m ≤ 12 := by unfold ties; omega
  unfold ml_X6_keep_48
  refine pw_dn (fun n q => ∃ c : Int, q.1 = iI D ∧ q.2.1 = iI S ∧ q.2.2.1 = iI c ∧ kpF m q.2.2.2 ∧ Fl (tiG m) (ties m) S D (fiM q.2.2.2) c ∧ 0 ≤ c ∧ (n : Int) + c = 13) ?_ (n := 13) ⟨0, rfl, rfl, rfl, hf, fun X _ _ => net_0 (ties m) (fun k hk => decide_eq_false (fun z => z (h0 k (by omega)))), by omega, rfl⟩
  rintro n ⟨y1, y2, y3, b⟩ ⟨c, e1, e2, e3, f1, f2, f3, f4⟩
  dsimp only at e1 e2 e3 f1 f2 ⊢
  subst e1; subst e2; subst e3
  unfold mb_X6_keep_48
  refine pw_bind (pw_mono (p_isOneMore hT hS hD hne f1 f2) ?_)
  rintro ⟨r, d⟩ ⟨g1, g2⟩
  dsimp only at g1 g2 ⊢
  rcases g2 with ⟨e, g2⟩ | ⟨e, g2⟩
  · subst e
    have cb := g2.le hne
    refine pw_f n10 (pw_let (pw_some ⟨n - 1, by omega, c + 1, rfl, rfl, ?_, g1, g2, by omega, by omega⟩))
    show iI c + (1 : Int32) = _
    rw [iI_lit, iI_add]
  · subst e
    exact pw_t rfl (pw_some ⟨g1, c, rfl, g2⟩)
theorem p_keepM (hT : tieOK m) (hS : S < 8) (hD : D < 8) (hne : S ≠ D) : pw (ml_X6_keep_27 (iI D) (iI S) 0 m) (fun q => kpF m q.2 ∧ ∃ c : Int, q.1 = iI c ∧ MxF (tiG m) (ties m) S D c) := by
  unfold ml_X6_keep_27
  refine pw_for (fun i q => q.1 = iI D ∧ q.2.1 = iI S ∧ q.2.2.1 = iI (i : Int) ∧ kpF m q.2.2.2 ∧ ∀ k : Nat, k < i → q.2.2.2.1 1062 k = 0) 12 ?_ ?_ ⟨rfl, rfl, rfl, kpF.refl m, fun v hv => absurd hv (Nat.not_lt_zero _)⟩
  · rintro i ⟨y1, y2, y3, b⟩ hi ⟨e1, e2, e3, f1, f2⟩
    dsimp only at e1 e2 e3 f1 f2 ⊢
    subst e1; subst e2; subst e3
    have gi : gz_ix (iI (i : Int)) = i := by rw [gix (by omega)]; omega
    unfold mb_X6_keep_27
    rw [gi]
    refine pw_f (by rw [show (12 : Int32) = iI 12 from rfl, iI_le (by omega) (by omega)]; omega) (pw_gu ((gin_iI (by omega)).2 (by omega)) (pw_let (pw_let (pw_some ⟨rfl, rfl, ?_, ⟨fun c j q1 q2 q3 => ?_, f1.2⟩, fun v hv => ?_⟩))))
    · show iI (i : Int) + (1 : Int32) = _
      rw [iI_lit, iI_add]; rfl
    · show (msI b 1062 i _).1 c j = _
      rw [msI_i, if_neg (fun w => q1 w.1)]; exact f1.1 c j q1 q2 q3
    · show (msI b 1062 i _).1 1062 v = _
      rw [msI_i]
      by_cases z : v = i
      · rw [if_pos ⟨rfl, z⟩]; decide
      · rw [if_neg (fun w => z w.2)]; exact f2 v (by omega)
  · rintro ⟨y1, y2, y3, b⟩ ⟨e1, e2, e3, f1, f2⟩
    dsimp only at e1 e2 e3 f1 f2 ⊢
    subst e1; subst e2; subst e3
    unfold mb_X6_keep_27
    exact pw_t (by decide) (pw_map (pw_mono (p_keep48 hT hS hD hne f1 f2) (fun z hz => hz)))
end KeepM2
