/-! ===== keep: the model ===== -/
def tiG (m : MM) : (Nat → Bool) × (Nat → Nat) × (Nat → Nat) := (fun k => decide (mi m 1051 (2 + k) = 1), fun k => (mi m 1043 (24 + 2 * k)).toNat, fun k => (mi m 1043 (25 + 2 * k)).toNat)
def fiM (a : MM) (k : Nat) : Bool := decide (¬ a.1 1062 k = 0)
def paM (a : MM) (v : Nat) : Int := mi a 1063 v
def kpF (m a : MM) : Prop := (∀ c j : Nat, c ≠ 1062 → c ≠ 1063 → c ≠ 1064 → a.1 c j = m.1 c j) ∧ a.2 = m.2
theorem kpF.refl (m : MM) : kpF m m := ⟨fun _ _ _ _ _ => rfl, rfl⟩
theorem kpF.at {m a : MM} (h : kpF m a) {c j : Nat} (h1 : c ≠ 1062) (h2 : c ≠ 1063) (h3 : c ≠ 1064) : mi a c j = mi m c j := congrArg Int32.toInt (h.1 c j h1 h2 h3)
theorem cn_set {f g : Nat → Bool} {w : Nat} (h1 : f w = false) (h2 : g w = true) : ∀ n : Nat, (∀ v : Nat, v < n → v ≠ w → g v = f v) → cn g n = cn f n + (if w < n then 1 else 0)
  | 0, _ => by rw [if_neg (Nat.not_lt_zero _)]; rfl
  | n + 1, e => by
    have ih := cn_set h1 h2 n (fun v hv => e v (by omega))
    show cn g n + (if g n = true then 1 else 0) = cn f n + (if f n = true then 1 else 0) + (if w < n + 1 then 1 else 0)
    rw [ih]
    by_cases q : n = w
    · subst q
      rw [h1, h2, if_neg (Nat.lt_irrefl _), if_pos rfl, if_neg (by decide), if_pos (by omega)]
    · rw [e n (by omega) q]
      by_cases z : w < n
      · rw [if_pos z, if_pos (show w < n + 1 by omega)]; omega
      · rw [if_neg z, if_neg (show ¬ w < n + 1 by omega)]; omega
section KeepM
variable {m : MM} {S D : Nat}
theorem p_goesBy {a : MM} (hf : kpF m a) {k u : Nat} (hT : tieOK m) (hk : (k : Int) < mi m 1038 9) (hu : u < 8) : mf_goesBy (iI k) (iI u) a = some (if (tiG m).1 k = true ∧ tlE (tiG m) (fiM a) k = u then iI (hdE (tiG m) (fiM a) k : Int) else -1, a) := by
  have b9 := hT.1.2.2.2.1
  obtain ⟨t1, t2⟩ := hT.2 k hk
  have gk : gz_ix (iI (k : Int)) = k := by rw [gix (by omega)]; omega
  have ik : gz_in (iI (k : Int)) 12 := (gin_iI (by omega)).2 (by omega)
  have ef : mi m 1043 (24 + 2 * k) = (((mi m 1043 (24 + 2 * k)).toNat : Nat) : Int) := by omega
  have et : mi m 1043 (25 + 2 * k) = (((mi m 1043 (25 + 2 * k)).toNat : Nat) : Int) := by omega
  unfold mf_goesBy mj_X6_goesBy_34 mj_X6_goesBy_60
  have F1 : mf_fromOf (iI k) a = some (iI (mi m 1043 (24 + 2 * k)), a) := by rw [p_fromOf (by omega), hf.at (by omega) (by omega) (by omega)]
  have F2 : mf_toOf (iI k) a = some (iI (mi m 1043 (25 + 2 * k)), a) := by rw [p_toOf (by omega), hf.at (by omega) (by omega) (by omega)]
  rw [p_doesHold (by omega), hf.at (by omega) (by omega) (by omega)]
  simp only [Option.bind_some, F1, F2]
  unfold tlE hdE fiM tiG
  rw [gk]
  by_cases q : mi m 1051 (2 + k) = 1
  · rw [if_pos q, if_neg n10, if_pos ik]
    by_cases p : a.1 1062 k = 0
    · rw [if_pos p, if_pos ik, if_pos p]
      simp only [p, not_true_eq_false, decide_false, Bool.false_eq_true, if_false, q, decide_true, true_and]
      by_cases w : (mi m 1043 (24 + 2 * k)).toNat = u
      · rw [if_pos (show iI (mi m 1043 (24 + 2 * k)) = iI (u : Int) by congr 1; omega), if_pos w, ← et]
      · rw [if_neg (show ¬ iI (mi m 1043 (24 + 2 * k)) = iI (u : Int) by rw [iI_eq (by omega) (by omega)]; omega), if_neg w]
    · rw [if_neg p, if_pos ik, if_neg p]
      simp only [p, not_false_eq_true, decide_true, if_true, q, true_and]
      by_cases w : (mi m 1043 (25 + 2 * k)).toNat = u
      · rw [if_pos (show iI (mi m 1043 (25 + 2 * k)) = iI (u : Int) by congr 1; omega), if_pos w, ← ef]
      · rw [if_neg (show ¬ iI (mi m 1043 (25 + 2 * k)) = iI (u : Int) by rw [iI_eq (by omega) (by omega)]; omega), if_neg w]
  · rw [if_neg q, if_pos rfl]
    rw [if_neg (fun w => q (of_decide_eq_true w.1))]
/-- the search, so far -/
def sqM (m : MM) (S : Nat) (a0 a : MM) (qu : Nat → Nat) (qe : Nat) : Prop := kpF m a ∧ (∀ k : Nat, a.1 1062 k = a0.1 1062 k) ∧ paM a S = 12 ∧ (∃ rk N, Tr (tiG m) (ties m) S (fiM a0) (paM a) rk N) ∧ (∀ i : Nat, i < qe → qu i < 8 ∧ a.1 1064 i = iI (qu i : Int) ∧ paM a (qu i) ≠ -1) ∧ (∀ v : Nat, v < 8 → paM a v ≠ -1 → ∃ i, i < qe ∧ qu i = v) ∧ cn (fun v => decide (paM a v ≠ -1)) 8 = qe
/-- what was looked at is done -/
def dnM (m : MM) (a0 a : MM) (qu : Nat → Nat) (n K : Nat) : Prop := ∀ i k : Nat, k < ties m → (tiG m).1 k = true → tlE (tiG m) (fiM a0) k = qu i → (i < n ∨ (i = n ∧ k < K)) → paM a (hdE (tiG m) (fiM a0) k) ≠ -1
theorem tl8 (hT : tieOK m) {φ : Nat → Bool} {k : Nat} (hk : k < ties m) : tlE (tiG m) φ k < 8 ∧ hdE (tiG m) φ k < 8 := by
  obtain ⟨t1, t2⟩ := hT.2 k (by unfold ties at hk; omega)
  unfold tlE hdE tiG
  split <;> exact ⟨by dsimp only; omega, by dsimp only; omega⟩
/-- the walk back -/
theorem p_walk {a0 : MM} {c : Int} (hT : tieOK m) (hS : S < 8) (hD : D < 8) {rk : Nat → Nat} {N : Nat} (hf0 : kpF m a0) (hTr : Tr (tiG m) (ties m) S (fiM a0) (paM a0) rk N) (hFl : Fl (tiG m) (ties m) S D (fiM a0) c) (hRD : paM a0 D ≠ -1) : pw (ml_X6_isOneMore_153 (iI S) (iI D) a0) (fun q => q.1 = 1 ∧ kpF m q.2 ∧ Fl (tiG m) (ties m) S D (fiM q.2) (c + 1)) := by
  have b9 := hT.1.2.2.2.1
  unfold ml_X6_isOneMore_153
  refine pw_dn (fun n q => ∃ v : Nat, q.1 = iI S ∧ q.2.1 = iI (v : Int) ∧ v < 8 ∧ (v ≠ S → rk v < n) ∧ kpF m q.2.2 ∧ (∀ u : Nat, q.2.2.1 1063 u = a0.1 1063 u) ∧ Rc S (paM a0) v ∧ Wk (tiG m) (ties m) S D (fiM a0) (fiM q.2.2) (paM a0) rk c v) ?_ (n := rk D + 1) ⟨D, rfl, rfl, hD, fun _ => by omega, hf0, fun _ => rfl, Or.inr hRD, Wk.start hFl (fun _ => rfl)⟩
  rintro n ⟨y1, y2, a⟩ ⟨v, e1, e2, v8, hn, hf, hp, hR, hW⟩
  dsimp only at e1 e2 hf hp hW ⊢
  subst e1; subst e2
  unfold mb_X6_isOneMore_153
  by_cases vS : v = S
  · subst vS
    exact pw_t rfl (pw_some ⟨rfl, hf, hW.fin⟩)
  · have gv : gz_ix (iI (v : Int)) = v := by rw [gix (by omega)]; omega
    have vp : paM a0 v ≠ -1 := hR.resolve_left vS
    obtain ⟨k, k1, k2, -⟩ := hTr v v8 vS vp
    have k12 : k < 12 := by unfold ties at k2; omega
    have gk : gz_ix (iI (k : Int)) = k := by rw [gix (by omega)]; omega
    have ik : gz_in (iI (k : Int)) 12 := (gin_iI (by omega)).2 (by omega)
    have e63 : a.1 1063 v = iI (k : Int) := by
      rw [hp v, mi_of a0]
      exact congrArg iI k1
    obtain ⟨t1, t2⟩ := hT.2 k (by unfold ties at k2; omega)
    refine pw_f (by rw [iI_eq (by omega) (by omega)]; omega) (pw_gu ((gin_iI (by omega)).2 (by omega)) (pw_let ?_))
    rw [gv, e63, gk]
    refine pw_gu ik ?_
    -- the turn
    have turn : ∀ (u : Int32) (x : Int32), u = iI (tlE (tiG m) (fiM a) k : Int) → (¬ x = 0 ↔ a.1 1062 k = 0) → ((x &&& 1) = x) → pw (mj_X6_isOneMore_216 (iI S) u x (iI k) a) (Sum.elim (fun s' : Int32 × Int32 × MM => ∃ n', n' < n ∧ ∃ v : Nat, s'.1 = iI S ∧ s'.2.1 = iI (v : Int) ∧ v < 8 ∧ (v ≠ S → rk v < n') ∧ kpF m s'.2.2 ∧ (∀ u : Nat, s'.2.2.1 1063 u = a0.1 1063 u) ∧ Rc S (paM a0) v ∧ Wk (tiG m) (ties m) S D (fiM a0) (fiM s'.2.2) (paM a0) rk c v) (fun q : Int32 × MM => q.1 = 1 ∧ kpF m q.2 ∧ Fl (tiG m) (ties m) S D (fiM q.2) (c + 1))) := fun u x hu hx hx1 => by
      unfold mj_X6_isOneMore_216
      refine pw_gu ik (pw_let (pw_some ?_))
      rw [gk, hx1]
      have E1 : fiM (msI a 1062 k x) k = !fiM a k := by
        unfold fiM
        rw [msI_i, if_pos ⟨rfl, rfl⟩]
        by_cases z : a.1 1062 k = 0
        · rw [decide_eq_true (hx.mpr z), decide_eq_false (fun w => w z)]; rfl
        · rw [decide_eq_false (fun w => z (hx.mp w)), decide_eq_true z]; rfl
      have E2 : ∀ j : Nat, j ≠ k → fiM (msI a 1062 k x) j = fiM a j := fun j hj => by
        unfold fiM
        rw [msI_i, if_neg (fun w => hj w.2)]
      obtain ⟨-, -, -, b4, b5, b6, b7⟩ := hW.step hTr v8 vS k1 E1 E2
      refine ⟨rk v, hn vS, tlE (tiG m) (fiM a) k, rfl, hu, b4, b7, ⟨fun c j q1 q2 q3 => ?_, hf.2⟩, fun w => ?_, b5, b6⟩
      · show (msI a 1062 k x).1 c j = _
        rw [msI_i, if_neg (fun w => q1 w.1)]; exact hf.1 c j q1 q2 q3
      · show (msI a 1062 k x).1 1063 w = _
        rw [msI_i, if_neg (by omega)]; exact hp w
    have ef : iI (mi m 1043 (24 + 2 * k)) = iI (((mi m 1043 (24 + 2 * k)).toNat : Nat) : Int) := by congr 1; omega
    have et : iI (mi m 1043 (25 + 2 * k)) = iI (((mi m 1043 (25 + 2 * k)).toNat : Nat) : Int) := by congr 1; omega
    unfold mj_X6_isOneMore_193
    refine pw_if (fun p => ?_) (fun p => ?_)
    · rw [p_fromOf (by omega), hf.at (by omega) (by omega) (by omega)]
      refine pw_bind (pw_some (pw_gu ik ?_))
      try dsimp only
      rw [gk]
      refine pw_t p (turn _ 1 ?_ ⟨fun _ => p, fun _ => n10⟩ (by decide))
      rw [ef]
      unfold tlE fiM tiG
      rw [if_neg (by rw [decide_eq_false (fun w => w p)]; decide)]
    · rw [p_toOf (by omega), hf.at (by omega) (by omega) (by omega)]
      refine pw_bind (pw_some (pw_gu ik ?_))
      try dsimp only
      rw [gk]
      refine pw_f p (turn _ 0 ?_ ⟨fun w => absurd rfl w, fun w => absurd w p⟩ (by decide))
      rw [et]
      unfold tlE fiM tiG
      rw [if_pos (decide_eq_true p)]
/-- the search goes on by all ties of one place -/
theorem p_look62 {a0 a : MM} {Q : ((Int32 × Int32 × Int32 × Int32 × MM) ⊕ (Int32 × MM)) → Prop} {qu : Nat → Nat} {qe qh : Nat} (hT : tieOK m) (hS : S < 8) (hq : sqM m S a0 a qu qe) (hh : qh < qe) (hd : dnM m a0 a qu qh 0) (hQ : ∀ (b : MM) (qu' : Nat → Nat) (qe' : Nat), sqM m S a0 b qu' qe' → qe ≤ qe' → qe' ≤ 8 → dnM m a0 b qu' (qh + 1) 0 → Q (Sum.inl (iI S, iI D, iI (qe' : Int), iI ((qh + 1 : Nat) : Int), b))) : pw (ml_X6_isOneMore_62 (iI S) (iI D) (iI qe) (iI qh) 0 a) Q := by
  have b9 := hT.1.2.2.2.1
  have q8 : qe ≤ 8 := by rw [← hq.2.2.2.2.2.2]; exact cn_le _ 8
  unfold ml_X6_isOneMore_62
  refine pw_for (fun k q => ∃ (qu' : Nat → Nat) (qe' : Nat), q.1 = iI S ∧ q.2.1 = iI D ∧ q.2.2.1 = iI (qe' : Int) ∧ q.2.2.2.1 = iI qh ∧ q.2.2.2.2.1 = iI (k : Int) ∧ sqM m S a0 q.2.2.2.2.2 qu' qe' ∧ qe ≤ qe' ∧ dnM m a0 q.2.2.2.2.2 qu' qh k) (ties m) ?_ ?_ ⟨qu, qe, rfl, rfl, rfl, rfl, rfl, hq, Nat.le_refl _, hd⟩
  · rintro k ⟨y1, y2, y3, y4, y5, b⟩ hk ⟨qu', qe', e1, e2, e3, e4, e5, hq', hle, hd'⟩
    dsimp only at e1 e2 e3 e4 e5 hq' hd' ⊢
    subst e1; subst e2; subst e3; subst e4; subst e5
    obtain ⟨f1, f2, f3, ⟨rk, N, f4⟩, f5, f6, f7⟩ := id hq'
    have q8' : qe' ≤ 8 := by rw [← f7]; exact cn_le _ 8
    have k9 : (k : Int) < mi m 1038 9 := by unfold ties at hk; omega
    have gh : gz_ix (iI (qh : Int)) = qh := by rw [gix (by omega)]; omega
    obtain ⟨g1, g2, g3⟩ := f5 qh (by omega)
    have efi : fiM b = fiM a0 := by funext j; unfold fiM; rw [f2]
    obtain ⟨w1, w2⟩ := tl8 (φ := fiM a0) hT hk
    have jj : iI (k : Int) + (1 : Int32) = iI ((k + 1 : Nat) : Int) := by rw [iI_lit, iI_add]; rfl
    unfold mb_X6_isOneMore_62
    rw [p_tieMany, f1.at (by omega) (by omega) (by omega)]
    refine pw_bind (pw_some (pw_f (by rw [iI_le (by omega) (by omega)]; omega) (pw_gu ((gin_iI (by omega)).2 (by omega)) ?_)))
    dsimp only
    rw [gh, g2, p_goesBy f1 hT k9 g1, efi]
    refine pw_bind (pw_some ?_)
    dsimp only
    have stay : (∀ (i : Nat), (tiG m).1 k = true → tlE (tiG m) (fiM a0) k = qu' i → i = qh → paM b (hdE (tiG m) (fiM a0) k) ≠ -1) → pw (mj_X6_isOneMore_126 (iI S) (iI D) (iI qe') (iI qh) (iI k) b) (Sum.elim (fun q : Int32 × Int32 × Int32 × Int32 × Int32 × MM => ∃ (qu' : Nat → Nat) (qe' : Nat), q.1 = iI S ∧ q.2.1 = iI D ∧ q.2.2.1 = iI (qe' : Int) ∧ q.2.2.2.1 = iI qh ∧ q.2.2.2.2.1 = iI ((k + 1 : Nat) : Int) ∧ sqM m S a0 q.2.2.2.2.2 qu' qe' ∧ qe ≤ qe' ∧ dnM m a0 q.2.2.2.2.2 qu' qh (k + 1)) Q) := fun hx => by
      unfold mj_X6_isOneMore_126
      refine pw_let (pw_some ⟨qu', qe', rfl, rfl, rfl, rfl, jj, hq', hle, fun i k' h1 h2 h3 h4 => ?_⟩)
      by_cases z : i = qh ∧ k' = k
      · obtain ⟨z1, z2⟩ := z
        subst z2
        exact hx i h2 h3 z1
      · exact hd' i k' h1 h2 h3 (by omega)
    by_cases q : (tiG m).1 k = true ∧ tlE (tiG m) (fiM a0) k = qu' qh
    · rw [if_pos q]
      have gw : gz_ix (iI (hdE (tiG m) (fiM a0) k : Int)) = hdE (tiG m) (fiM a0) k := by rw [gix (by omega)]; omega
      have iw : gz_in (iI (hdE (tiG m) (fiM a0) k : Int)) 8 := (gin_iI (by omega)).2 (by omega)
      rw [gw]
      refine pw_f (by rw [show (-1 : Int32) = iI (-1) by decide, iI_eq (by omega) (by omega)]; omega) (pw_gu iw (pw_if (fun p => ?_) (fun p => ?_)))
      · have pw1 : paM b (hdE (tiG m) (fiM a0) k) = -1 := by
          unfold paM mi
          rw [p]; decide
        have wS : hdE (tiG m) (fiM a0) k ≠ S := fun z => by
          rw [z, f3] at pw1
          omega
        have qlt : qe' < 8 := by
          rcases Nat.lt_or_ge qe' 8 with z | z
          · exact z
          · exfalso
            have e8 : cn (fun v => decide (paM b v ≠ -1)) 8 = 8 := by omega
            have := (cn_all _ 8).mp e8 _ w2
            exact (of_decide_eq_true this) pw1
        have ge : gz_ix (iI (qe' : Int)) = qe' := by rw [gix (by omega)]; omega
        rw [ge]
        refine pw_gu iw (pw_let (pw_gu ((gin_iI (by omega)).2 (by omega)) (pw_let (pw_let ?_))))
        unfold mj_X6_isOneMore_126
        have I1 : ∀ c j : Nat, ¬ (c = 1063 ∧ j = hdE (tiG m) (fiM a0) k) → ¬ (c = 1064 ∧ j = qe') → (msI (msI b 1063 (hdE (tiG m) (fiM a0) k) (iI k)) 1064 qe' (iI (hdE (tiG m) (fiM a0) k : Int))).1 c j = b.1 c j := fun c j h1 h2 => by rw [msI_i, if_neg h2, msI_i, if_neg h1]
        have V1 : (msI (msI b 1063 (hdE (tiG m) (fiM a0) k) (iI k)) 1064 qe' (iI (hdE (tiG m) (fiM a0) k : Int))).1 1063 (hdE (tiG m) (fiM a0) k) = iI (k : Int) := by rw [msI_i, if_neg (by omega), msI_i, if_pos ⟨rfl, rfl⟩]
        have V2 : (msI (msI b 1063 (hdE (tiG m) (fiM a0) k) (iI k)) 1064 qe' (iI (hdE (tiG m) (fiM a0) k : Int))).1 1064 qe' = iI (hdE (tiG m) (fiM a0) k : Int) := by rw [msI_i, if_pos ⟨rfl, rfl⟩]
        have L1 : (msI (msI b 1063 (hdE (tiG m) (fiM a0) k) (iI k)) 1064 qe' (iI (hdE (tiG m) (fiM a0) k : Int))).2 = b.2 := rfl
        generalize msI (msI b 1063 (hdE (tiG m) (fiM a0) k) (iI k)) 1064 qe' (iI (hdE (tiG m) (fiM a0) k : Int)) = d at I1 V1 V2 L1 ⊢
        generalize hdw : hdE (tiG m) (fiM a0) k = w at *
        have pd : ∀ v : Nat, v ≠ w → paM d v = paM b v := fun v hv => congrArg Int32.toInt (I1 1063 v (by omega) (by omega))
        have pdw : paM d w = k := by
          unfold paM mi
          rw [V1]
          exact toInt_iI (by omega) (by omega)
        have nn : ∀ v : Nat, paM b v ≠ -1 → paM d v ≠ -1 := fun v hv => by
          by_cases z : v = w
          · rw [z, pdw]; omega
          · rw [pd v z]; exact hv
        refine pw_let (pw_some ⟨fun i => if i = qe' then w else qu' i, qe' + 1, rfl, rfl, ?_, rfl, jj, ⟨⟨fun c j q1 q2 q3 => ?_, L1.trans f1.2⟩, fun j => (I1 _ _ (by omega) (by omega)).trans (f2 j), (pd S (fun z => wS z.symm)).trans f3, ?_, fun i hi => ?_, fun v v8 vp => ?_, ?_⟩, by omega, fun i k' h1 h2 h3 h4 => ?_⟩)
        · show iI (qe' : Int) + (1 : Int32) = _
          rw [iI_lit, iI_add]; rfl
        · show d.1 c j = _
          rw [I1 _ _ (by omega) (by omega)]; exact f1.1 c j q1 q2 q3
        · obtain ⟨rk', h'⟩ := f4.new (w := w) (par' := paM d) hk q.1 hdw w1 (by rw [q.2]; exact Or.inr g3) wS pw1 pdw (fun v _ hv => pd v hv) (fun z => by rw [q.2] at z; rw [z] at g3; exact g3 pw1)
          exact ⟨rk', N + 1, h'⟩
        · show (if i = qe' then w else qu' i) < 8 ∧ d.1 1064 i = iI ((if i = qe' then w else qu' i : Nat) : Int) ∧ paM d (if i = qe' then w else qu' i) ≠ -1
          by_cases z : i = qe'
          · rw [if_pos z, z]
            exact ⟨w2, V2, by rw [pdw]; omega⟩
          · rw [if_neg z]
            obtain ⟨u1, u2, u3⟩ := f5 i (by omega)
            exact ⟨u1, (I1 _ _ (by omega) (by omega)).trans u2, nn _ u3⟩
        · by_cases z : v = w
          · exact ⟨qe', by omega, by show (if qe' = qe' then w else _) = v; rw [if_pos rfl, z]⟩
          · have vp : paM d v ≠ -1 := vp
            rw [pd v z] at vp
            obtain ⟨i, i1, i2⟩ := f6 v v8 vp
            exact ⟨i, by omega, by show (if i = qe' then w else qu' i) = v; rw [if_neg (by omega)]; exact i2⟩
        · rw [cn_set (f := fun v => decide (paM b v ≠ -1)) (w := w) (decide_eq_false (fun z => z pw1)) (decide_eq_true (by rw [pdw]; omega)) 8 (fun v _ hv => by show decide (paM d v ≠ -1) = decide (paM b v ≠ -1); rw [pd v hv]), f7, if_pos w2]
        · have h3 : tlE (tiG m) (fiM a0) k' = (if i = qe' then w else qu' i) := h3
          rw [if_neg (by omega)] at h3
          by_cases z : i = qh ∧ k' = k
          · rw [z.2, hdw, pdw]; omega
          · exact nn _ (hd' i k' h1 h2 h3 (by omega))
      · refine stay (fun i _ _ _ z => p ?_)
        rw [mi_of b]
        exact (congrArg iI z).trans (by decide)
    · rw [if_neg q]
      refine pw_t rfl (stay (fun i h1 h2 h3 => absurd ⟨h1, by rw [h2, h3]⟩ q))
  · rintro ⟨y1, y2, y3, y4, y5, b⟩ ⟨qu', qe', e1, e2, e3, e4, e5, hq', hle, hd'⟩
    dsimp only at e1 e2 e3 e4 e5 hq' hd' ⊢
    subst e1; subst e2; subst e3; subst e4; subst e5
    have q8' : qe' ≤ 8 := by rw [← hq'.2.2.2.2.2.2]; exact cn_le _ 8
    unfold mb_X6_isOneMore_62
    rw [p_tieMany, hq'.1.at (by omega) (by omega) (by omega)]
    refine pw_bind (pw_some (pw_t (by unfold ties; rw [iI_le (by omega) (by omega)]; omega) (pw_let (pw_some ?_))))
    show Q (Sum.inl (_, _, _, iI (qh : Int) + 1, b))
    rw [show iI (qh : Int) + (1 : Int32) = iI ((qh + 1 : Nat) : Int) by rw [iI_lit, iI_add]; rfl]
    exact hQ b qu' qe' hq' hle q8' (fun i k h1 h2 h3 h4 => hd' i k h1 h2 h3 (by omega))
end KeepM
