/-! ===== keep: the component ===== -/
def kcF (μ ν : gM) : Prop := ν.1 = μ.1 ∧ ν.2.1 = μ.2.1 ∧ ν.2.2.2 = μ.2.2.2 ∧ ∀ c j : Nat, c ≠ 1121 → c ≠ 1122 → gI ν c j = gI μ c j
theorem kcF.refl (μ : gM) : kcF μ μ := ⟨rfl, rfl, rfl, fun _ _ _ _ => rfl⟩
theorem kcF.trans {a b c : gM} (h1 : kcF a b) (h2 : kcF b c) : kcF a c := ⟨h2.1.trans h1.1, h2.2.1.trans h1.2.1, h2.2.2.1.trans h1.2.2.1, fun x y k l => (h2.2.2.2 x y k l).trans (h1.2.2.2 x y k l)⟩
theorem kcF.sI {a : gM} {c j : Nat} (v : Int32) (hc : c = 1121 ∨ c = 1122) : kcF a (gz_sI a c j v) := ⟨rfl, rfl, rfl, fun c' j' k l => by rw [sI_i, if_neg (by omega)]⟩
theorem kcF.P {a b : gM} (h : kcF a b) (c j : Nat) : gP b c j = gP a c j := congrFun (congrFun (congrArg (fun z => z.2.1) h.2.2.1) c) j
theorem kcF.sc {a b : gM} (h : kcF a b) : cSc a b := ⟨h.1, h.2.1, congrArg (fun z => z.2.2) h.2.2.1, fun c j k => h.2.2.2 c j (by unfold scC at k; omega) (by unfold scC at k; omega), fun c j _ _ => congrFun (congrFun (congrArg Prod.fst h.2.2.1) c) j, fun c j _ => h.P c j⟩
def fiC (μ : gM) (k : Nat) : Bool := decide (¬ gI μ 1121 k = 0)
def paC (μ : gM) (v : Nat) : Int := ci μ 1122 v
section KeepC
variable {m : MM} {μ : gM} {S D : Nat} {l : List (Int × Int × Int)}
/-- what holds all the while -/
def kcW (l : List (Int × Int × Int)) (m : MM) (μ ν : gM) : Prop := rCo l m μ ∧ kcF μ ν
theorem kcW.co {ν : gM} (h : kcW l m μ ν) : rCo l m ν := h.1.sc (mSc.refl h.1.2.2.2.2.1) h.2.sc (h.1.2.2.2.2.2.2.2.2.1.o (fun j => h.2.P _ _))
theorem kcW.mv {ν ξ : gM} (h : kcW l m μ ν) (f : kcF ν ξ) : kcW l m μ ξ := ⟨h.1, h.2.trans f⟩
theorem c_tie {ν : gM} (h : kcW l m μ ν) {k : Nat} (hk : (k : Int) < mi m 1038 9) : cf_X0_tieOf (iI k) ν = some (tiC ν k, ν) ∧ gK ν (tiC ν k) = 10 ∧ gI ν (tiC ν k) 0 = iI (((tiG m).2.1 k : Nat) : Int) ∧ gI ν (tiC ν k) 1 = iI (((tiG m).2.2 k : Nat) : Int) := by
  have hH := h.co.2.1
  obtain ⟨a1, a2, a3, a4, a5⟩ := hH.2.2.2 k hk
  refine ⟨c_tieOf hH hk, a1, ?_, ?_⟩
  · rw [ci_of ν, a2]
    show iI (mi m 1043 (24 + 2 * k)) = iI (((mi m 1043 (24 + 2 * k)).toNat : Nat) : Int)
    congr 1; omega
  · rw [ci_of ν, a3]
    show iI (mi m 1043 (25 + 2 * k)) = iI (((mi m 1043 (25 + 2 * k)).toNat : Nat) : Int)
    congr 1; omega
/-- the walk back -/
theorem c_walk {a0 : gM} {c : Int} (hT : tieOK m) (hS : S < 8) (hD : D < 8) {rk : Nat → Nat} {N : Nat} (hf0 : kcW l m μ a0) (hTr : Tr (tiG m) (ties m) S (fiC a0) (paC a0) rk N) (hFl : Fl (tiG m) (ties m) S D (fiC a0) c) (hRD : paC a0 D ≠ -1) : pw (cf_X0_uses (iI S) (iI D) a0) (fun q => kcF a0 q.2 ∧ Fl (tiG m) (ties m) S D (fiC q.2) (c + 1)) := by
  have b9 := hT.1.2.2.2.1
  unfold cf_X0_uses ml_X0_uses_2
  refine pw_dn (fun n q => ∃ v : Nat, q.1 = iI S ∧ q.2.1 = iI (v : Int) ∧ v < 8 ∧ (v ≠ S → rk v < n) ∧ kcF a0 q.2.2 ∧ (∀ u : Nat, gI q.2.2 1122 u = gI a0 1122 u) ∧ Rc S (paC a0) v ∧ Wk (tiG m) (ties m) S D (fiC a0) (fiC q.2.2) (paC a0) rk c v) ?_ (n := rk D + 1) ⟨D, rfl, rfl, hD, fun _ => by omega, kcF.refl a0, fun _ => rfl, Or.inr hRD, Wk.start hFl (fun _ => rfl)⟩
  rintro n ⟨y1, y2, a⟩ ⟨v, e1, e2, v8, hn, hf, hp, hR, hW⟩
  dsimp only at e1 e2 hf hp hW ⊢
  subst e1; subst e2
  unfold mb_X0_uses_2
  by_cases vS : v = S
  · subst vS
    exact pw_t rfl (pw_some ⟨hf, hW.fin⟩)
  · have gv : gz_ix (iI (v : Int)) = v := by rw [gix (by omega)]; omega
    have vp : paC a0 v ≠ -1 := hR.resolve_left vS
    obtain ⟨k, k1, k2, -⟩ := hTr v v8 vS vp
    have k12 : k < 12 := by unfold ties at k2; omega
    have gk : gz_ix (iI (k : Int)) = k := by rw [gix (by omega)]; omega
    have ik : gz_in (iI (k : Int)) 12 := (gin_iI (by omega)).2 (by omega)
    have e63 : gI a 1122 v = iI (k : Int) := by
      rw [hp v, ci_of a0]
      exact congrArg iI k1
    obtain ⟨T1, T2, T3, T4⟩ := c_tie (hf0.mv hf) (k := k) (by unfold ties at k2; omega)
    refine pw_f (by rw [iI_eq (by omega) (by omega)]; omega) (pw_gu ((gin_iI (by omega)).2 (by omega)) (pw_let ?_))
    rw [gv, e63, gk]
    refine pw_gu ik ?_
    have turn : ∀ (u : Int32) (x : Int32), u = iI (tlE (tiG m) (fiC a) k : Int) → (¬ x = 0 ↔ gI a 1121 k = 0) → ((x &&& 1) = x) → pw (mj_X0_uses_68 (iI S) u x (iI k) a) (Sum.elim (fun s' : Int32 × Int32 × gM => ∃ n', n' < n ∧ ∃ v : Nat, s'.1 = iI S ∧ s'.2.1 = iI (v : Int) ∧ v < 8 ∧ (v ≠ S → rk v < n') ∧ kcF a0 s'.2.2 ∧ (∀ u : Nat, gI s'.2.2 1122 u = gI a0 1122 u) ∧ Rc S (paC a0) v ∧ Wk (tiG m) (ties m) S D (fiC a0) (fiC s'.2.2) (paC a0) rk c v) (fun q : Unit × gM => kcF a0 q.2 ∧ Fl (tiG m) (ties m) S D (fiC q.2) (c + 1))) := fun u x hu hx hx1 => by
      unfold mj_X0_uses_68
      refine pw_gu ik (pw_let (pw_some ?_))
      rw [gk, hx1]
      have E1 : fiC (gz_sI a 1121 k x) k = !fiC a k := by
        unfold fiC
        rw [sI_i, if_pos ⟨rfl, rfl⟩]
        by_cases z : gI a 1121 k = 0
        · rw [decide_eq_true (hx.mpr z), decide_eq_false (fun w => w z)]; rfl
        · rw [decide_eq_false (fun w => z (hx.mp w)), decide_eq_true z]; rfl
      have E2 : ∀ j : Nat, j ≠ k → fiC (gz_sI a 1121 k x) j = fiC a j := fun j hj => by
        unfold fiC
        rw [sI_i, if_neg (fun w => hj w.2)]
      obtain ⟨-, -, -, b4, b5, b6, b7⟩ := hW.step hTr v8 vS k1 E1 E2
      refine ⟨rk v, hn vS, tlE (tiG m) (fiC a) k, rfl, hu, b4, b7, hf.trans (kcF.sI x (Or.inl rfl)), fun w => ?_, b5, b6⟩
      show gI (gz_sI a 1121 k x) 1122 w = _
      rw [sI_i, if_neg (by omega)]; exact hp w
    unfold mj_X0_uses_46
    refine pw_if (fun p => ?_) (fun p => ?_)
    · rw [T1]
      refine pw_bind (pw_some (pw_gu T2 (pw_gu ik ?_)))
      try dsimp only
      rw [gk]
      refine pw_t p (turn _ 1 ?_ ⟨fun _ => p, fun _ => n10⟩ (by decide))
      rw [T3]
      unfold tlE fiC
      rw [if_neg (by rw [decide_eq_false (fun w => w p)]; decide)]
    · rw [T1]
      refine pw_bind (pw_some (pw_gu T2 (pw_gu ik ?_)))
      try dsimp only
      rw [gk]
      refine pw_f p (turn _ 0 ?_ ⟨fun w => absurd rfl w, fun w => absurd w p⟩ (by decide))
      rw [T4]
      unfold tlE fiC
      rw [if_pos (decide_eq_true p)]
def mkN (ν : gM) : Nat := cn (fun v => decide (paC ν v ≠ -1)) 8
/-- the search, so far -/
def sqC (l : List (Int × Int × Int)) (m : MM) (μ : gM) (S : Nat) (a0 a : gM) : Prop := kcW l m μ a ∧ (∀ k : Nat, gI a 1121 k = gI a0 1121 k) ∧ ∃ rk N, Tr (tiG m) (ties m) S (fiC a0) (paC a) rk N
def cloC (m : MM) (S : Nat) (a0 a : gM) (K : Nat) : Prop := ∀ k : Nat, k < K → (tiG m).1 k = true → Rc S (paC a) (tlE (tiG m) (fiC a0) k) → Rc S (paC a) (hdE (tiG m) (fiC a0) k)
/-- one round over all ties -/
theorem c_pass {a0 a : gM} {Q : ((Int32 × Int32 × Int32 × gM) ⊕ (Int32 × gM)) → Prop} (hT : tieOK m) (hS : S < 8) (hq : sqC l m μ S a0 a) (hQ : ∀ (b : gM) (x : Int32), sqC l m μ S a0 b → ((x = 0 ∧ mkN b = mkN a ∧ cloC m S a0 b (ties m)) ∨ (x = 1 ∧ mkN a < mkN b)) → Q (Sum.inl (iI S, iI D, x, b))) : pw (ml_X0_leadsOn_42 (iI S) (iI D) 0 0 a) Q := by
  have b9 := hT.1.2.2.2.1
  unfold ml_X0_leadsOn_42
  refine pw_for (fun k q => q.1 = iI S ∧ q.2.1 = iI D ∧ q.2.2.2.1 = iI (k : Int) ∧ sqC l m μ S a0 q.2.2.2.2 ∧ ((q.2.2.1 = 0 ∧ mkN q.2.2.2.2 = mkN a ∧ cloC m S a0 q.2.2.2.2 k) ∨ (q.2.2.1 = 1 ∧ mkN a < mkN q.2.2.2.2))) (ties m) ?_ ?_ ?_
  rotate_left 2
  · have c0 : cloC m S a0 a 0 := fun k hk => absurd hk (Nat.not_lt_zero _)
    show iI S = iI S ∧ iI D = iI D ∧ (0 : Int32) = iI ((0 : Nat) : Int) ∧ sqC l m μ S a0 a ∧ (((0 : Int32) = 0 ∧ mkN a = mkN a ∧ cloC m S a0 a 0) ∨ ((0 : Int32) = 1 ∧ mkN a < mkN a))
    exact And.intro rfl (And.intro rfl (And.intro rfl (And.intro hq (Or.inl (And.intro rfl (And.intro rfl c0))))))
  · rintro k ⟨y1, y2, y3, y4, b⟩ hk ⟨e1, e2, e3, hq', hx⟩
    dsimp only at e1 e2 e3 hq' hx ⊢
    subst e1; subst e2; subst e3
    obtain ⟨f1, f2, rk, N, f4⟩ := id hq'
    have hco := f1.co
    have hH := hco.2.1
    have k9 : (k : Int) < mi m 1038 9 := by unfold ties at hk; omega
    have gk : gz_ix (iI (k : Int)) = k := by rw [gix (by omega)]; omega
    have ik : gz_in (iI (k : Int)) 12 := (gin_iI (by omega)).2 (by omega)
    obtain ⟨T1, T2, T3, T4⟩ := c_tie f1 k9
    have efi : fiC b = fiC a0 := by funext j; unfold fiC; rw [f2]
    obtain ⟨w1, w2⟩ := tl8 (φ := fiC a0) hT hk
    have jj : iI (k : Int) + (1 : Int32) = iI ((k + 1 : Nat) : Int) := by rw [iI_lit, iI_add]; rfl
    have stay : ((tiG m).1 k = true → Rc S (paC b) (tlE (tiG m) (fiC a0) k) → Rc S (paC b) (hdE (tiG m) (fiC a0) k)) → pw (mj_X0_leadsOn_180 (iI S) (iI D) y3 (iI k) b) (Sum.elim (fun q : Int32 × Int32 × Int32 × Int32 × gM => q.1 = iI S ∧ q.2.1 = iI D ∧ q.2.2.2.1 = iI ((k + 1 : Nat) : Int) ∧ sqC l m μ S a0 q.2.2.2.2 ∧ ((q.2.2.1 = 0 ∧ mkN q.2.2.2.2 = mkN a ∧ cloC m S a0 q.2.2.2.2 (k + 1)) ∨ (q.2.2.1 = 1 ∧ mkN a < mkN q.2.2.2.2))) Q) := fun h => by
      unfold mj_X0_leadsOn_180
      refine pw_let (pw_some ⟨rfl, rfl, jj, hq', ?_⟩)
      rcases hx with ⟨x1, x2, x3⟩ | x
      · refine Or.inl ⟨x1, x2, fun k' hk' => ?_⟩
        rcases Nat.lt_or_ge k' k with z | z
        · exact x3 k' z
        · rw [show k' = k by omega]; exact h
      · exact Or.inr x
    have main : pw (mj_X0_leadsOn_115 (iI S) (iI D) y3 (iI k) (iI (tlE (tiG m) (fiC a0) k : Int)) (iI (hdE (tiG m) (fiC a0) k : Int)) b) (Sum.elim (fun q : Int32 × Int32 × Int32 × Int32 × gM => q.1 = iI S ∧ q.2.1 = iI D ∧ q.2.2.2.1 = iI ((k + 1 : Nat) : Int) ∧ sqC l m μ S a0 q.2.2.2.2 ∧ ((q.2.2.1 = 0 ∧ mkN q.2.2.2.2 = mkN a ∧ cloC m S a0 q.2.2.2.2 (k + 1)) ∨ (q.2.2.1 = 1 ∧ mkN a < mkN q.2.2.2.2))) Q) := by
      unfold mj_X0_leadsOn_115
      rw [c_has b _ (by omega), hco.2.2.2.2.2.1.2.2.1 k k9]
      refine pw_bind (pw_some ?_)
      try dsimp only
      by_cases q : mi m 1051 (2 + k) = 1
      · rw [if_pos (decide_eq_true q)]
        have hG : (tiG m).1 k = true := decide_eq_true q
        refine pw_f n10 (pw_if (fun p => ?_) (fun p => ?_))
        · rw [iI_eq (by omega) (by omega)] at p
          exact stay (fun _ _ => Or.inl (by omega))
        · rw [iI_eq (by omega) (by omega)] at p
          have gh : gz_ix (iI (hdE (tiG m) (fiC a0) k : Int)) = hdE (tiG m) (fiC a0) k := by rw [gix (by omega)]; omega
          have ih : gz_in (iI (hdE (tiG m) (fiC a0) k : Int)) 8 := (gin_iI (by omega)).2 (by omega)
          have gt : gz_ix (iI (tlE (tiG m) (fiC a0) k : Int)) = tlE (tiG m) (fiC a0) k := by rw [gix (by omega)]; omega
          rw [gh, gt]
          refine pw_gu ih (pw_if (fun r => ?_) (fun r => ?_))
          · have pw1 : paC b (hdE (tiG m) (fiC a0) k) = -1 := by unfold paC ci; rw [r]; decide
            have mark : Rc S (paC b) (tlE (tiG m) (fiC a0) k) → pw (mj_X0_leadsOn_169 (iI S) (iI D) (iI k) (iI (hdE (tiG m) (fiC a0) k : Int)) b) (Sum.elim (fun q : Int32 × Int32 × Int32 × Int32 × gM => q.1 = iI S ∧ q.2.1 = iI D ∧ q.2.2.2.1 = iI ((k + 1 : Nat) : Int) ∧ sqC l m μ S a0 q.2.2.2.2 ∧ ((q.2.2.1 = 0 ∧ mkN q.2.2.2.2 = mkN a ∧ cloC m S a0 q.2.2.2.2 (k + 1)) ∨ (q.2.2.1 = 1 ∧ mkN a < mkN q.2.2.2.2))) Q) := fun hrc => by
              unfold mj_X0_leadsOn_169 mj_X0_leadsOn_180
              rw [gh]
              refine pw_gu ih (pw_let (pw_let (pw_some ?_)))
              have I1 : ∀ c j : Nat, ¬ (c = 1122 ∧ j = hdE (tiG m) (fiC a0) k) → gI (gz_sI b 1122 (hdE (tiG m) (fiC a0) k) (iI k)) c j = gI b c j := fun c j h => by rw [sI_i, if_neg h]
              have V1 : gI (gz_sI b 1122 (hdE (tiG m) (fiC a0) k) (iI k)) 1122 (hdE (tiG m) (fiC a0) k) = iI (k : Int) := by rw [sI_i, if_pos ⟨rfl, rfl⟩]
              have F1 : kcF b (gz_sI b 1122 (hdE (tiG m) (fiC a0) k) (iI k)) := kcF.sI _ (Or.inr rfl)
              generalize gz_sI b 1122 (hdE (tiG m) (fiC a0) k) (iI k) = d at I1 V1 F1 ⊢
              have pd : ∀ v : Nat, v ≠ hdE (tiG m) (fiC a0) k → paC d v = paC b v := fun v hv => congrArg Int32.toInt (I1 1122 v (by omega))
              have pdw : paC d (hdE (tiG m) (fiC a0) k) = k := by
                unfold paC ci
                rw [V1]
                exact toInt_iI (by omega) (by omega)
              obtain ⟨rk', h'⟩ := f4.new (w := hdE (tiG m) (fiC a0) k) (par' := paC d) hk hG rfl w1 hrc (by omega) pw1 pdw (fun v _ hv => pd v hv) (fun z => by
                rw [z] at hrc
                rcases hrc with hrc | hrc
                · omega
                · exact hrc pw1)
              have em : mkN d = mkN b + 1 := by
                unfold mkN
                rw [cn_set (f := fun v => decide (paC b v ≠ -1)) (w := hdE (tiG m) (fiC a0) k) (decide_eq_false (fun z => z pw1)) (decide_eq_true (by rw [pdw]; omega)) 8 (fun v _ hv => by show decide (paC d v ≠ -1) = decide (paC b v ≠ -1); rw [pd v hv]), if_pos w2]
              refine ⟨rfl, rfl, jj, ⟨f1.mv F1, fun j => (I1 _ _ (by omega)).trans (f2 j), rk', N + 1, h'⟩, Or.inr ⟨rfl, ?_⟩⟩
              show mkN a < mkN d
              rw [em]
              rcases hx with ⟨_, x2, _⟩ | ⟨_, x2⟩ <;> omega
            refine pw_if (fun z => ?_) (fun z => ?_)
            · rw [iI_eq (by omega) (by omega)] at z
              exact mark (Or.inl (by omega))
            · rw [iI_eq (by omega) (by omega)] at z
              refine pw_gu ((gin_iI (by omega)).2 (by omega)) (pw_if (fun w => ?_) (fun w => ?_))
              · have pt : paC b (tlE (tiG m) (fiC a0) k) = -1 := by unfold paC ci; rw [w]; decide
                refine stay (fun _ h => ?_)
                rcases h with h | h
                · omega
                · exact absurd pt h
              · exact mark (Or.inr (fun h => w (by rw [ci_of b]; exact (congrArg iI h).trans (by decide))))
          · exact stay (fun _ _ => Or.inr (fun h => r (by rw [ci_of b]; exact (congrArg iI h).trans (by decide))))
      · rw [show (if decide (mi m 1051 (2 + k) = 1) = true then (1 : Int32) else 0) = 0 from if_neg (by rw [decide_eq_false q]; decide)]
        exact pw_t rfl (stay (fun h => absurd (of_decide_eq_true h) q))
    have eft : ∀ p : gI b 1121 k = 0, tlE (tiG m) (fiC a0) k = (tiG m).2.1 k ∧ hdE (tiG m) (fiC a0) k = (tiG m).2.2 k := fun p => by
      rw [← efi]
      unfold tlE hdE fiC
      rw [if_neg (by rw [decide_eq_false (fun w => w p)]; decide), if_neg (by rw [decide_eq_false (fun w => w p)]; decide)]
      exact ⟨rfl, rfl⟩
    have eff : ∀ p : ¬ gI b 1121 k = 0, tlE (tiG m) (fiC a0) k = (tiG m).2.2 k ∧ hdE (tiG m) (fiC a0) k = (tiG m).2.1 k := fun p => by
      rw [← efi]
      unfold tlE hdE fiC
      rw [if_pos (decide_eq_true p), if_pos (decide_eq_true p)]
      exact ⟨rfl, rfl⟩
    unfold mb_X0_leadsOn_42 mj_X0_leadsOn_82
    rw [c_ties hH]
    refine pw_bind (pw_some (pw_f (by rw [iI_le (by omega) (by omega)]; omega) (pw_gu ik ?_)))
    try dsimp only
    rw [gk]
    refine pw_if (fun p => ?_) (fun p => ?_)
    · rw [T1]
      refine pw_bind (pw_some (pw_gu T2 (pw_gu ik ?_)))
      try dsimp only
      refine pw_t p ?_
      rw [T1]
      refine pw_bind (pw_some (pw_gu T2 ?_))
      try dsimp only
      rw [T3, T4, ← (eft p).1, ← (eft p).2]
      exact main
    · rw [T1]
      refine pw_bind (pw_some (pw_gu T2 (pw_gu ik ?_)))
      try dsimp only
      refine pw_f p ?_
      rw [T1]
      refine pw_bind (pw_some (pw_gu T2 ?_))
      try dsimp only
      rw [T3, T4, ← (eff p).1, ← (eff p).2]
      exact main
  · rintro ⟨y1, y2, y3, y4, b⟩ ⟨e1, e2, e3, hq', hx⟩
    dsimp only at e1 e2 e3 hq' hx ⊢
    subst e1; subst e2; subst e3
    unfold mb_X0_leadsOn_42
    rw [c_ties hq'.1.co.2.1]
    exact pw_bind (pw_some (pw_t (by unfold ties; rw [iI_le (by omega) (by omega)]; omega) (pw_some (hQ b y3 hq' hx))))
/-- is there a way on? -/
def ldQ (l : List (Int × Int × Int)) (m : MM) (μ : gM) (S D : Nat) (c : Int) (a0 : gM) (q : Int32 × gM) : Prop := sqC l m μ S a0 q.2 ∧ ((q.1 = 1 ∧ paC q.2 D ≠ -1) ∨ (q.1 = 0 ∧ MxF (tiG m) (ties m) S D c))
theorem c_end189 {a0 a : gM} {c : Int} (hD : D < 8) (hne : S ≠ D) (hFl : Fl (tiG m) (ties m) S D (fiC a0) c) (hq : sqC l m μ S a0 a) (hc : paC a D = -1 → cloC m S a0 a (ties m)) : pw (mj_X0_leadsOn_189 (iI D) a) (ldQ l m μ S D c a0) := by
  have gD : gz_ix (iI (D : Int)) = D := by rw [gix (by omega)]; omega
  unfold mj_X0_leadsOn_189
  rw [gD]
  refine pw_gu ((gin_iI (by omega)).2 (by omega)) (pw_if (fun q => ?_) (fun q => ?_))
  · have pD : paC a D = -1 := by unfold paC ci; rw [q]; decide
    refine pw_some ⟨hq, Or.inr ⟨rfl, ⟨_, hFl⟩, fun ψ c2 h2 => ?_⟩⟩
    refine cut (R := fun v => decide (v = S) || decide (paC a v ≠ -1)) hFl h2 (by simp) (by simp [pD]; exact fun z => hne z.symm) (fun k hk hG hr => ?_)
    have conv : ∀ v : Nat, (decide (v = S) || decide (paC a v ≠ -1)) = true ↔ Rc S (paC a) v := fun v => by
      rw [Bool.or_eq_true, decide_eq_true_iff, decide_eq_true_iff]; exact Iff.rfl
    exact (conv _).mpr (hc pD k hk hG ((conv _).mp hr))
  · exact pw_some ⟨hq, Or.inl ⟨rfl, fun z => q (by rw [ci_of a]; exact (congrArg iI z).trans (by decide))⟩⟩
theorem c_leadsOn {a0 : gM} {c : Int} (hT : tieOK m) (hS : S < 8) (hD : D < 8) (hne : S ≠ D) (hf : kcW l m μ a0) (hFl : Fl (tiG m) (ties m) S D (fiC a0) c) : pw (cf_X0_leadsOn (iI S) (iI D) a0) (ldQ l m μ S D c a0) := by
  have gD : gz_ix (iI (D : Int)) = D := by rw [gix (by omega)]; omega
  unfold cf_X0_leadsOn ml_X0_leadsOn_2
  refine pw_for (fun i q => q.1 = iI S ∧ q.2.1 = iI D ∧ q.2.2.1 = iI (i : Int) ∧ kcW l m μ q.2.2.2 ∧ (∀ k : Nat, gI q.2.2.2 1121 k = gI a0 1121 k) ∧ ∀ v : Nat, v < i → gI q.2.2.2 1122 v = -1) 8 ?_ ?_ ⟨rfl, rfl, rfl, hf, fun _ => rfl, fun v hv => absurd hv (Nat.not_lt_zero _)⟩
  · rintro i ⟨y1, y2, y3, b⟩ hi ⟨e1, e2, e3, f1, f2, f3⟩
    dsimp only at e1 e2 e3 f1 f2 f3 ⊢
    subst e1; subst e2; subst e3
    have gi : gz_ix (iI (i : Int)) = i := by rw [gix (by omega)]; omega
    unfold mb_X0_leadsOn_2
    rw [gi]
    refine pw_f (by rw [show (8 : Int32) = iI 8 from rfl, iI_le (by omega) (by omega)]; omega) (pw_gu ((gin_iI (by omega)).2 (by omega)) (pw_let (pw_let (pw_some ⟨rfl, rfl, ?_, f1.mv (kcF.sI _ (Or.inr rfl)), fun k => ?_, fun v hv => ?_⟩))))
    · show iI (i : Int) + (1 : Int32) = _
      rw [iI_lit, iI_add]; rfl
    · show gI (gz_sI b 1122 i (-1)) 1121 k = _
      rw [sI_i, if_neg (by omega)]; exact f2 k
    · show gI (gz_sI b 1122 i (-1)) 1122 v = _
      rw [sI_i]
      by_cases z : v = i
      · rw [if_pos ⟨rfl, z⟩]
      · rw [if_neg (fun w => z w.2)]; exact f3 v (by omega)
  · rintro ⟨y1, y2, y3, b⟩ ⟨e1, e2, e3, f1, f2, f3⟩
    dsimp only at e1 e2 e3 f1 f2 f3 ⊢
    subst e1; subst e2; subst e3
    unfold mb_X0_leadsOn_2 ml_X0_leadsOn_23
    refine pw_t (by decide) (pw_map ?_)
    have q0 : sqC l m μ S a0 b := ⟨f1, f2, fun _ => 0, 0, fun v v8 vS vp => absurd (show paC b v = -1 by unfold paC ci; rw [f3 v v8]; decide) vp⟩
    refine pw_dn (fun n q => ∃ x : Nat, q.1 = iI S ∧ q.2.1 = iI D ∧ q.2.2.1 = iI (x : Int) ∧ sqC l m μ S a0 q.2.2.2 ∧ ((x = 1 ∧ n + 2 * mkN q.2.2.2 = 21) ∨ (x = 0 ∧ cloC m S a0 q.2.2.2 (ties m)))) ?_ (n := 21 - 2 * mkN b) ⟨1, rfl, rfl, rfl, q0, Or.inl ⟨rfl, by show 21 - 2 * mkN b + 2 * mkN b = 21; have : mkN b ≤ 8 := cn_le _ 8; omega⟩⟩
    rintro n ⟨y1, y2, y3, d⟩ ⟨x, e1, e2, e3, hq, hx⟩
    dsimp only at e1 e2 e3 hq hx ⊢
    subst e1; subst e2; subst e3
    unfold mb_X0_leadsOn_23
    rcases hx with ⟨x1, x2⟩ | ⟨x1, x2⟩
    · subst x1
      rw [gD]
      refine pw_f n10 (pw_gu ((gin_iI (by omega)).2 (by omega)) (pw_if (fun p => ?_) (fun p => ?_)))
      · refine c_pass hT hS hq (fun e y g1 g2 => ?_)
        have c8 : mkN e ≤ 8 := cn_le _ 8
        rcases g2 with ⟨g2, g3, g4⟩ | ⟨g2, g3⟩
        · exact ⟨0, by omega, 0, rfl, rfl, g2, g1, Or.inr ⟨rfl, g4⟩⟩
        · exact ⟨21 - 2 * mkN e, by omega, 1, rfl, rfl, g2, g1, Or.inl ⟨rfl, by show 21 - 2 * mkN e + 2 * mkN e = 21; omega⟩⟩
      · have pD : paC d D ≠ -1 := fun z => p (by rw [ci_of d]; exact (congrArg iI z).trans (by decide))
        exact pw_map (pw_mono (c_end189 hD hne hFl hq (fun z => absurd z pD)) (fun z hz => hz))
    · subst x1
      exact pw_t rfl (pw_map (pw_mono (c_end189 hD hne hFl hq (fun _ => x2)) (fun z hz => hz)))
theorem c_keep46 (hT : tieOK m) (hS : S < 8) (hD : D < 8) (hne : S ≠ D) {a : gM} (hf : kcW l m μ a) (h0 : ∀ k : Nat, k < 12 → gI a 1121 k = 0) : pw (ml_X0_keep_46 (iI D) (iI S) 0 a) (fun q => kcW l m μ q.2 ∧ ∃ c : Int, q.1 = iI c ∧ MxF (tiG m) (ties m) S D c) := by
  have b9 := hT.1.2.2.2.1
  have E12 : ties m ≤ 12 := by unfold ties; omega
  unfold ml_X0_keep_46
  refine pw_dn (fun n q => ∃ c : Int, q.1 = iI D ∧ q.2.1 = iI S ∧ q.2.2.1 = iI c ∧ kcW l m μ q.2.2.2 ∧ Fl (tiG m) (ties m) S D (fiC q.2.2.2) c ∧ 0 ≤ c ∧ (n : Int) + c = 13) ?_ (n := 13) ⟨0, rfl, rfl, rfl, hf, fun X _ _ => net_0 (ties m) (fun k hk => decide_eq_false (fun z => z (h0 k (by omega)))), by omega, rfl⟩
  rintro n ⟨y1, y2, y3, b⟩ ⟨c, e1, e2, e3, f1, f2, f3, f4⟩
  dsimp only at e1 e2 e3 f1 f2 ⊢
  subst e1; subst e2; subst e3
  unfold mb_X0_keep_46
  refine pw_bind (pw_mono (c_leadsOn hT hS hD hne f1 f2) ?_)
  rintro ⟨r, d⟩ ⟨⟨g1, g2, rk, N, g3⟩, g4⟩
  dsimp only at g1 g2 g3 g4 ⊢
  rcases g4 with ⟨e, g4⟩ | ⟨e, g4⟩
  · subst e
    have efi : fiC d = fiC b := by funext j; unfold fiC; rw [g2]
    refine pw_f n10 (pw_bind (pw_mono (c_walk hT hS hD g1 (by rw [efi]; exact g3) (by rw [efi]; exact f2) g4) ?_))
    rintro ⟨⟨⟩, e⟩ ⟨k1, k2⟩
    dsimp only at k1 k2 ⊢
    have cb := k2.le hne
    refine pw_let (pw_some ⟨n - 1, by omega, c + 1, rfl, rfl, ?_, g1.mv k1, k2, by omega, by omega⟩)
    show iI c + (1 : Int32) = _
    rw [iI_lit, iI_add]
  · subst e
    exact pw_t rfl (pw_some ⟨g1, c, rfl, g4⟩)
theorem c_keepC (h : rCo l m μ) (hS : S < 8) (hD : D < 8) (hne : S ≠ D) : pw (ml_X0_keep_25 (iI D) (iI S) 0 μ) (fun q => kcW l m μ q.2 ∧ ∃ c : Int, q.1 = iI c ∧ MxF (tiG m) (ties m) S D c) := by
  unfold ml_X0_keep_25
  refine pw_for (fun i q => q.1 = iI D ∧ q.2.1 = iI S ∧ q.2.2.1 = iI (i : Int) ∧ kcW l m μ q.2.2.2 ∧ ∀ k : Nat, k < i → gI q.2.2.2 1121 k = 0) 12 ?_ ?_ ⟨rfl, rfl, rfl, ⟨h, kcF.refl μ⟩, fun v hv => absurd hv (Nat.not_lt_zero _)⟩
  · rintro i ⟨y1, y2, y3, b⟩ hi ⟨e1, e2, e3, f1, f2⟩
    dsimp only at e1 e2 e3 f1 f2 ⊢
    subst e1; subst e2; subst e3
    have gi : gz_ix (iI (i : Int)) = i := by rw [gix (by omega)]; omega
    unfold mb_X0_keep_25
    rw [gi]
    refine pw_f (by rw [show (12 : Int32) = iI 12 from rfl, iI_le (by omega) (by omega)]; omega) (pw_gu ((gin_iI (by omega)).2 (by omega)) (pw_let (pw_let (pw_some ⟨rfl, rfl, ?_, f1.mv (kcF.sI _ (Or.inl rfl)), fun v hv => ?_⟩))))
    · show iI (i : Int) + (1 : Int32) = _
      rw [iI_lit, iI_add]; rfl
    · show gI (gz_sI b 1121 i _) 1121 v = _
      rw [sI_i]
      by_cases z : v = i
      · rw [if_pos ⟨rfl, z⟩]; decide
      · rw [if_neg (fun w => z w.2)]; exact f2 v (by omega)
  · rintro ⟨y1, y2, y3, b⟩ ⟨e1, e2, e3, f1, f2⟩
    dsimp only at e1 e2 e3 f1 f2 ⊢
    subst e1; subst e2; subst e3
    unfold mb_X0_keep_25
    exact pw_t (by decide) (pw_map (pw_mono (c_keep46 (tieOK.of h.2.1) hS hD hne f1 f2) (fun z hz => hz)))
theorem e_keep (h : rCo l m μ) (x y : Int32) : eO (mf_keep x y m) (cf_X0_keep x y μ) m μ := by
  obtain ⟨h1, h2, h3, h4, h5, h6, h7, h8, h9, h10, h11, h12, h13⟩ := id h
  obtain ⟨z, hz, rfl⟩ := iI_ex x
  obtain ⟨w, hw, rfl⟩ := iI_ex y
  have b7 := h2.1.2.1
  have no : ∀ (o1 : Option (Int32 × MM)) (o2 : Option (Int32 × gM)), o1 = some (-1, m) → o2 = some (-1, μ) → eO o1 o2 m μ := fun o1 o2 e1 e2 => ⟨-1, m, μ, e1, e2, mSc.refl h5, cSc.refl μ, h9⟩
  unfold mf_keep cf_X0_keep mj_X6_keep_23 mj_X0_keep_21
  rw [i2l_iI hz, i2l_iI hw, p_isThing h2.1 hz, c_isThing h2 hz]
  simp only [Option.bind_some]
  by_cases q1 : 0 ≤ z ∧ z < mi m 1038 7
  rotate_left
  · rw [if_neg q1]
    exact no _ _ rfl rfl
  rw [if_pos q1, if_neg n10, if_neg n10, p_isThing h2.1 hw, c_isThing h2 hw]
  simp only [Option.bind_some]
  by_cases q2 : 0 ≤ w ∧ w < mi m 1038 7
  rotate_left
  · rw [if_neg q2]
    exact no _ _ rfl rfl
  rw [if_pos q2, if_neg n10, if_neg n10]
  by_cases q3 : iI z = iI w
  · rw [if_pos q3, if_pos q3]
    exact no _ _ rfl rfl
  rw [if_neg q3, if_neg q3]
  rw [iI_eq hz hw] at q3
  obtain ⟨D, rfl⟩ : ∃ n : Nat, z = n := ⟨z.toNat, by omega⟩
  obtain ⟨S, rfl⟩ : ∃ n : Nat, w = n := ⟨w.toNat, by omega⟩
  obtain ⟨⟨r, m'⟩, e1, f1, c, c1, c2⟩ := p_keepM (S := S) (D := D) (tieOK.of h2) (by omega) (by omega) (by omega)
  obtain ⟨⟨r2, μ'⟩, e2, g1, c', c1', c2'⟩ := c_keepC (S := S) (D := D) h (by omega) (by omega) (by omega)
  dsimp only at f1 c1 g1 c1'
  have ec := c2.one c2'
  subst c1 c1'
  rw [← ec] at e2
  exact ⟨_, m', μ', e1, e2, ⟨fun cc j k => f1.1 cc j (by unfold scM at k; omega) (by unfold scM at k; omega) (by unfold scM at k; omega), fun cc j _ => by rw [f1.2], by rw [f1.at (by omega) (by omega) (by omega)]; exact h5.2.2.1⟩, g1.2.sc, g1.co.2.2.2.2.2.2.2.2.1⟩
end KeepC
