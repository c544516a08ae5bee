/-! ===== a household as it is told: a spec ===== -/
def HS : Type := Nat × (Nat → List Int) × Nat × (Nat → List Int) × (Nat → Nat × Int × Int) × Nat × (Nat → Nat × Nat × Int) × Nat × (Nat → Nat × Nat) × Nat × Int × Option (List Int) × Option (List Int) × Nat
def HS.mk (nh : Nat) (hn : (Nat → List Int)) (nt : Nat) (tn : (Nat → List Int)) (tv : (Nat → Nat × Int × Int)) (nd : Nat) (dv : (Nat → Nat × Nat × Int)) (ni : Nat) (iv : (Nat → Nat × Nat)) (st : Nat) (dg : Int) (bu : Option (List Int)) (mn : Option (List Int)) (sm : Nat) : HS := (nh, hn, nt, tn, tv, nd, dv, ni, iv, st, dg, bu, mn, sm)
def HS.nh (h : HS) : Nat := h.1
def HS.hn (h : HS) : (Nat → List Int) := h.2.1
def HS.nt (h : HS) : Nat := h.2.2.1
def HS.tn (h : HS) : (Nat → List Int) := h.2.2.2.1
def HS.tv (h : HS) : (Nat → Nat × Int × Int) := h.2.2.2.2.1
def HS.nd (h : HS) : Nat := h.2.2.2.2.2.1
def HS.dv (h : HS) : (Nat → Nat × Nat × Int) := h.2.2.2.2.2.2.1
def HS.ni (h : HS) : Nat := h.2.2.2.2.2.2.2.1
def HS.iv (h : HS) : (Nat → Nat × Nat) := h.2.2.2.2.2.2.2.2.1
def HS.st (h : HS) : Nat := h.2.2.2.2.2.2.2.2.2.1
def HS.dg (h : HS) : Int := h.2.2.2.2.2.2.2.2.2.2.1
def HS.bu (h : HS) : Option (List Int) := h.2.2.2.2.2.2.2.2.2.2.2.1
def HS.mn (h : HS) : Option (List Int) := h.2.2.2.2.2.2.2.2.2.2.2.2.1
def HS.sm (h : HS) : Nat := h.2.2.2.2.2.2.2.2.2.2.2.2.2
def HS0 : HS := (HS.mk (0) (fun _ => []) (0) (fun _ => []) (fun _ => (0, 0, 0)) (0) (fun _ => (0, 0, 0)) (0) (fun _ => (0, 0)) (0) (0) (none) (none) (0))
/-- the first of n names that is w; n: none -/
def fi (f : Nat → List Int) (w : List Int) : Nat → Nat
  | 0 => 0
  | k + 1 => if fi f w k < k then fi f w k else if f k = w then k else k + 1
theorem fi_le (f : Nat → List Int) (w : List Int) : ∀ n : Nat, fi f w n ≤ n
  | 0 => Nat.le_refl _
  | k + 1 => by
    have := fi_le f w k
    unfold fi
    split
    · omega
    · split <;> omega
theorem fi_no {f : Nat → List Int} {w : List Int} : ∀ n : Nat, ∀ j : Nat, j < fi f w n → f j ≠ w
  | 0, j, h => absurd h (Nat.not_lt_zero _)
  | k + 1, j, h => by
    unfold fi at h
    by_cases a : fi f w k < k
    · rw [if_pos a] at h; exact fi_no k j h
    · rw [if_neg a] at h
      have e : fi f w k = k := by have := fi_le f w k; omega
      by_cases b : f k = w
      · rw [if_pos b] at h; exact fi_no k j (by omega)
      · rw [if_neg b] at h
        by_cases c : j = k
        · rw [c]; exact b
        · exact fi_no k j (by omega)
theorem fi_yes {f : Nat → List Int} {w : List Int} : ∀ n : Nat, fi f w n < n → f (fi f w n) = w
  | 0, h => absurd h (Nat.not_lt_zero _)
  | k + 1, h => by
    unfold fi at h ⊢
    by_cases a : fi f w k < k
    · rw [if_pos a]; exact fi_yes k a
    · rw [if_neg a] at h ⊢
      by_cases b : f k = w
      · rw [if_pos b]; exact b
      · rw [if_neg b] at h; omega
theorem fi_eq {f : Nat → List Int} {w : List Int} {n k : Nat} (hk : k < n) (h : f k = w) (hno : ∀ j : Nat, j < k → f j ≠ w) : fi f w n = k := by
  have h1 : ¬ k < fi f w n := fun q => fi_no n k q h
  have h2 : ¬ fi f w n < k := fun q => hno _ q (fi_yes n (by omega))
  omega
theorem fi_n {f : Nat → List Int} {w : List Int} {n : Nat} (hno : ∀ j : Nat, j < n → f j ≠ w) : fi f w n = n := by
  have h1 := fi_le f w n
  have h2 : ¬ fi f w n < n := fun q => hno _ q (fi_yes n q)
  omega
def rB {α β : Type} (x : Rs α) (f : Nat → α → Rs β) : Rs β := match x with
  | Sum.inl e => Sum.inl e
  | Sum.inr (p, a) => f p a
def ownW (k : Nat) : List Int := (wds.getD k (0, [])).2
abbrev isOwn (T : Nat → Int) (n p : Nat) : Prop := ∃ k ∈ List.range 25, isW T n p (ownW k)
def wHall : List Int := [104, 97, 108, 108]
def wDoor : List Int := [100, 111, 111, 114]
def wTo : List Int := [116, 111]
def wSteps : List Int := [115, 116, 101, 112, 115]
def wThing : List Int := [116, 104, 105, 110, 103]
def wIn : List Int := [105, 110]
def wBurns : List Int := [98, 117, 114, 110, 115]
def wHeat : List Int := [104, 101, 97, 116]
def wTie : List Int := [116, 105, 101]
def wStarts : List Int := [115, 116, 97, 114, 116, 115]
def wMinds : List Int := [109, 105, 110, 100, 115]
def wDraught : List Int := [100, 114, 97, 117, 103, 104, 116]
section HSpec
variable (T : Nat → Int) (n : Nat)
def sWrd (p : Nat) (w : List Int) : Rs Unit := if isW T n p w then Sum.inr (skp T n (p + w.length), ()) else Sum.inl (1, p)
def sSgn (p : Nat) (c : Int) : Rs Unit := if T p = c then Sum.inr (skp T n (p + 1), ()) else Sum.inl (1, p)
def sName (p : Nat) : Rs (List Int) := if ¬ isL (T p) ∨ alB T p ∨ isOwn T n p then Sum.inl (1, p) else if p + 6 < wE T n p then Sum.inl (1, p + 6) else Sum.inr (skp T n (wE T n p), wL T n p)
def sFresh (h : HS) (p : Nat) : Rs (List Int) := rB (sName T n p) fun p1 w => if fi h.hn w h.nh < h.nh ∨ fi h.tn w h.nt < h.nt then Sum.inl (3, p) else Sum.inr (p1, w)
def sKnown (f : Nat → List Int) (N : Nat) (but : Int) (p : Nat) : Rs Nat := rB (sName T n p) fun p1 w => if fi f w N < N ∧ (fi f w N : Int) ≠ but then Sum.inr (p1, fi f w N) else Sum.inl (3, p)
def hupd {α : Type} (f : Nat → α) (k : Nat) (a : α) : Nat → α := fun i => if i = k then a else f i
def sHall (h : HS) (p0 p : Nat) : Rs HS := if h.nh = 8 then Sum.inl (5, p0) else
  rB (sFresh T n h p) fun p1 w => Sum.inr (p1, (HS.mk (h.nh + 1) (hupd h.hn h.nh w) h.nt h.tn h.tv h.nd h.dv h.ni h.iv h.st h.dg h.bu h.mn h.sm))
def sDoor (h : HS) (p0 p : Nat) : Rs HS := if h.nd = 12 then Sum.inl (5, p0) else
  rB (sKnown T n h.hn h.nh (-1) p) fun p1 a => rB (sWrd T n p1 wTo) fun p2 _ => rB (sKnown T n h.hn h.nh a p2) fun p3 b => rB (sWrd T n p3 wSteps) fun p4 _ => rB (sNum T n p4 1 9) fun p5 s =>
  Sum.inr (p5, (HS.mk h.nh h.hn h.nt h.tn h.tv (h.nd + 1) (hupd h.dv h.nd (a, b, s)) h.ni h.iv h.st h.dg h.bu h.mn h.sm))
def sThing (h : HS) (p0 p : Nat) : Rs HS := if h.nt = 8 then Sum.inl (5, p0) else
  rB (sFresh T n h p) fun p1 w => rB (sWrd T n p1 wIn) fun p2 _ => rB (sKnown T n h.hn h.nh (-1) p2) fun p3 a => rB (sWrd T n p3 wBurns) fun p4 _ => rB (sNum T n p4 1 99) fun p5 s => rB (sWrd T n p5 wHeat) fun p6 _ => rB (sNum T n p6 0 9) fun p7 e =>
  Sum.inr (p7, (HS.mk h.nh h.hn (h.nt + 1) (hupd h.tn h.nt w) (hupd h.tv h.nt (a, s, e)) h.nd h.dv h.ni h.iv h.st h.dg h.bu h.mn h.sm))
/-- the first of n pairs that is (a, b); n: none -/
def fp (f : Nat → Nat × Nat) (a b : Nat) : Nat → Bool
  | 0 => false
  | k + 1 => fp f a b k || decide (f k = (a, b))
theorem fp_iff {f : Nat → Nat × Nat} {a b : Nat} : ∀ n : Nat, fp f a b n = true ↔ ∃ k : Nat, k < n ∧ f k = (a, b)
  | 0 => ⟨fun h => Bool.noConfusion h, fun ⟨k, h, _⟩ => absurd h (Nat.not_lt_zero _)⟩
  | k + 1 => by
    unfold fp
    rw [Bool.or_eq_true, fp_iff k, decide_eq_true_iff]
    constructor
    · rintro (⟨j, h1, h2⟩ | h)
      · exact ⟨j, by omega, h2⟩
      · exact ⟨k, by omega, h⟩
    · rintro ⟨j, h1, h2⟩
      by_cases e : j = k
      · exact Or.inr (e ▸ h2)
      · exact Or.inl ⟨j, by omega, h2⟩
def sTie (h : HS) (p0 p : Nat) : Rs HS := if h.ni = 12 then Sum.inl (5, p0) else
  rB (sKnown T n h.tn h.nt (-1) p) fun p1 a => rB (sWrd T n p1 wTo) fun p2 _ => rB (sKnown T n h.tn h.nt a p2) fun p3 b => if fp h.iv a b h.ni = true then Sum.inl (3, p2) else
  Sum.inr (p3, (HS.mk h.nh h.hn h.nt h.tn h.tv h.nd h.dv (h.ni + 1) (hupd h.iv h.ni (a, b)) h.st h.dg h.bu h.mn h.sm))
def sStarts (h : HS) (p : Nat) : Rs HS := rB (sKnown T n h.hn h.nh (-1) p) fun p1 a => Sum.inr (p1, (HS.mk h.nh h.hn h.nt h.tn h.tv h.nd h.dv h.ni h.iv (a) h.dg h.bu h.mn h.sm))
def sBurns (h : HS) (p0 p : Nat) : Rs HS := if h.bu ≠ none then Sum.inl (5, p0) else rB (sSum T n (sA T n false 8) 0 p) fun p1 cs => Sum.inr (p1, (HS.mk h.nh h.hn h.nt h.tn h.tv h.nd h.dv h.ni h.iv h.st h.dg (some cs) h.mn h.sm))
def sMinds (h : HS) (p0 p : Nat) : Rs HS := if h.mn ≠ none then Sum.inl (5, p0) else rB (sTest T n (sF T n false 8) 0 p) fun p1 cs => Sum.inr (p1, (HS.mk h.nh h.hn h.nt h.tn h.tv h.nd h.dv h.ni h.iv h.st h.dg h.bu (some cs) h.sm))
def sDraught (h : HS) (p : Nat) : Rs HS := rB (sWrd T n p wDraught) fun p1 _ => rB (sNum T n p1 0 100) fun p2 v => Sum.inr (p2, (HS.mk h.nh h.hn h.nt h.tn h.tv h.nd h.dv h.ni h.iv h.st (v) h.bu h.mn h.sm))
def sTell (h : HS) (p : Nat) : Rs HS :=
  if isW T n p wHall then sHall T n h p (skp T n (p + 4)) else
  if isW T n p wDoor then sDoor T n h p (skp T n (p + 4)) else
  if isW T n p wThing then sThing T n h p (skp T n (p + 5)) else
  if isW T n p wTie then sTie T n h p (skp T n (p + 3)) else
  if isW T n p wStarts then sStarts T n h (skp T n (p + 6)) else
  if isW T n p wBurns then sBurns T n h p (skp T n (p + 5)) else
  if isW T n p wMinds then sMinds T n h p (skp T n (p + 5)) else sDraught T n h p
def sStmt (h : HS) (p : Nat) : Rs HS := if h.sm = 60 then Sum.inl (5, p) else
  rB (sTell T n h p) fun p1 h1 => rB (sSgn T n p1 59) fun p2 _ => Sum.inr (p2, (HS.mk h1.nh h1.hn h1.nt h1.tn h1.tv h1.nd h1.dv h1.ni h1.iv h1.st h1.dg h1.bu h1.mn (h.sm + 1)))
def sAll : Nat → HS → Nat → Rs HS
  | 0, h, p => Sum.inr (p, h)
  | f + 1, h, p => if T p = -1 then Sum.inr (p, h) else rB (sStmt T n h p) fun p1 h1 => sAll f h1 p1
end HSpec
/-- what holds of a household that is told -/
def nmsOK (f : Nat → List Int) (N : Nat) : Prop := (∀ k : Nat, k < N → nmOK (f k)) ∧ ∀ i j : Nat, i < N → j < N → f i = f j → i = j
def hsOK (h : HS) : Prop := (h.nh ≤ 8) ∧ (h.nt ≤ 8) ∧ (h.nd ≤ 12) ∧ (h.ni ≤ 12) ∧ (nmsOK h.hn h.nh) ∧ (nmsOK h.tn h.nt) ∧ (∀ k : Nat, k < h.nt → (h.tv k).1 < h.nh ∧ (1 ≤ (h.tv k).2.1 ∧ (h.tv k).2.1 ≤ 99) ∧ (0 ≤ (h.tv k).2.2 ∧ (h.tv k).2.2 ≤ 9)) ∧ (∀ k : Nat, k < h.nd → (h.dv k).1 < h.nh ∧ (h.dv k).2.1 < h.nh ∧ (1 ≤ (h.dv k).2.2 ∧ (h.dv k).2.2 ≤ 9)) ∧ (∀ k : Nat, k < h.ni → (h.iv k).1 < h.nt ∧ (h.iv k).2 < h.nt) ∧ (h.st < 8) ∧ (0 ≤ h.dg ∧ h.dg ≤ 100) ∧ (h.sm ≤ 60)
section HSO
variable {h : HS}
theorem hsOK.mk (nh8 : h.nh ≤ 8) (nt8 : h.nt ≤ 8) (nd12 : h.nd ≤ 12) (ni12 : h.ni ≤ 12) (hnO : nmsOK h.hn h.nh) (tnO : nmsOK h.tn h.nt) (tvO : ∀ k : Nat, k < h.nt → (h.tv k).1 < h.nh ∧ (1 ≤ (h.tv k).2.1 ∧ (h.tv k).2.1 ≤ 99) ∧ (0 ≤ (h.tv k).2.2 ∧ (h.tv k).2.2 ≤ 9)) (dvO : ∀ k : Nat, k < h.nd → (h.dv k).1 < h.nh ∧ (h.dv k).2.1 < h.nh ∧ (1 ≤ (h.dv k).2.2 ∧ (h.dv k).2.2 ≤ 9)) (ivO : ∀ k : Nat, k < h.ni → (h.iv k).1 < h.nt ∧ (h.iv k).2 < h.nt) (stO : h.st < 8) (dgO : 0 ≤ h.dg ∧ h.dg ≤ 100) (smO : h.sm ≤ 60) : hsOK h := ⟨nh8, nt8, nd12, ni12, hnO, tnO, tvO, dvO, ivO, stO, dgO, smO⟩
theorem hsOK.nh8 (o : hsOK h) : h.nh ≤ 8 := o.1
theorem hsOK.nt8 (o : hsOK h) : h.nt ≤ 8 := o.2.1
theorem hsOK.nd12 (o : hsOK h) : h.nd ≤ 12 := o.2.2.1
theorem hsOK.ni12 (o : hsOK h) : h.ni ≤ 12 := o.2.2.2.1
theorem hsOK.hnO (o : hsOK h) : nmsOK h.hn h.nh := o.2.2.2.2.1
theorem hsOK.tnO (o : hsOK h) : nmsOK h.tn h.nt := o.2.2.2.2.2.1
theorem hsOK.tvO (o : hsOK h) : ∀ k : Nat, k < h.nt → (h.tv k).1 < h.nh ∧ (1 ≤ (h.tv k).2.1 ∧ (h.tv k).2.1 ≤ 99) ∧ (0 ≤ (h.tv k).2.2 ∧ (h.tv k).2.2 ≤ 9) := o.2.2.2.2.2.2.1
theorem hsOK.dvO (o : hsOK h) : ∀ k : Nat, k < h.nd → (h.dv k).1 < h.nh ∧ (h.dv k).2.1 < h.nh ∧ (1 ≤ (h.dv k).2.2 ∧ (h.dv k).2.2 ≤ 9) := o.2.2.2.2.2.2.2.1
theorem hsOK.ivO (o : hsOK h) : ∀ k : Nat, k < h.ni → (h.iv k).1 < h.nt ∧ (h.iv k).2 < h.nt := o.2.2.2.2.2.2.2.2.1
theorem hsOK.stO (o : hsOK h) : h.st < 8 := o.2.2.2.2.2.2.2.2.2.1
theorem hsOK.dgO (o : hsOK h) : 0 ≤ h.dg ∧ h.dg ≤ 100 := o.2.2.2.2.2.2.2.2.2.2.1
theorem hsOK.smO (o : hsOK h) : h.sm ≤ 60 := o.2.2.2.2.2.2.2.2.2.2.2
end HSO
theorem hsOK0 : hsOK HS0 := (hsOK.mk (nh8 := by decide) (nt8 := by decide) (nd12 := by decide) (ni12 := by decide) (hnO := ⟨fun k h => absurd h (Nat.not_lt_zero _), fun i j h => absurd h (Nat.not_lt_zero _)⟩) (tnO := ⟨fun k h => absurd h (Nat.not_lt_zero _), fun i j h => absurd h (Nat.not_lt_zero _)⟩) (tvO := fun k h => absurd h (Nat.not_lt_zero _)) (dvO := fun k h => absurd h (Nat.not_lt_zero _)) (ivO := fun k h => absurd h (Nat.not_lt_zero _)) (stO := by decide) (dgO := by decide) (smO := by decide))
theorem hupd_at {α : Type} (f : Nat → α) (k : Nat) (a : α) : hupd f k a k = a := if_pos rfl
theorem hupd_ne {α : Type} (f : Nat → α) {k i : Nat} (a : α) (h : i ≠ k) : hupd f k a i = f i := if_neg h
/-- words: as many letters as they have -/
theorem isW_inj {T : Nat → Int} {n p : Nat} {w w' : List Int} (h : isW T n p w) (h' : isW T n p w') : w = w' := (((isW_iff h.1 h.2.1).mp h).symm).trans ((isW_iff h.1 h.2.1).mp h')
section HOK
variable {T : Nat → Int} {n : Nat}
theorem sName_ok (hT : tOK T n) {p p1 : Nat} {w : List Int} (h : sName T n p = Sum.inr (p1, w)) : (isL (T p) ∧ ¬ alB T p ∧ ¬ isOwn T n p) ∧ w = wL T n p ∧ nmOK w ∧ p1 = skp T n (wE T n p) ∧ p < wE T n p ∧ wE T n p ≤ n ∧ wE T n p ≤ p + 6 := by
  unfold sName at h
  by_cases c1 : ¬ isL (T p) ∨ alB T p ∨ isOwn T n p
  · rw [if_pos c1] at h; cases h
  rw [if_neg c1] at h
  by_cases c2 : p + 6 < wE T n p
  · rw [if_pos c2] at h; cases h
  rw [if_neg c2] at h
  injection h with h
  injection h with h1 h2
  have c3 : isL (T p) := Classical.byContradiction (fun q => c1 (Or.inl q))
  have c4 : ¬ alB T p := fun q => c1 (Or.inr (Or.inl q))
  have hp := isL_lt hT c3
  have hle := wE_le hT (Nat.le_of_lt hp)
  have hlt : p < wE T n p := by
    have := wE_ge T n (p + 1)
    rw [wE_s hT c3]
    omega
  refine ⟨⟨c3, c4, fun q => c1 (Or.inr (Or.inr q))⟩, h2.symm, ?_, h1.symm, hlt, hle, by omega⟩
  subst h2
  refine ⟨by rw [wL_len]; omega, by rw [wL_len]; omega, fun i hi => ?_⟩
  rw [wL_len] at hi
  rw [wL_get hi]
  exact wE_in (T := T) (n := n) (p := p) (q := p + i) (by omega) (by omega)
theorem sKnown_ok (hT : tOK T n) {f : Nat → List Int} {N p p1 k : Nat} {but : Int} (h : sKnown T n f N but p = Sum.inr (p1, k)) : k < N ∧ (k : Int) ≠ but ∧ p < p1 ∧ p1 ≤ n ∧ skp T n p1 = p1 := by
  unfold sKnown rB at h
  cases e : sName T n p with
  | inl x => rw [e] at h; cases h
  | inr x =>
    obtain ⟨p2, w⟩ := x
    rw [e] at h
    dsimp only at h
    obtain ⟨-, -, -, a1, a2, a3, -⟩ := sName_ok hT e
    by_cases c : fi f w N < N ∧ (fi f w N : Int) ≠ but
    · rw [if_pos c] at h
      injection h with h
      injection h with h1 h2
      subst h1 h2
      have := skp_ge T n (wE T n p)
      exact ⟨c.1, c.2, by omega, by rw [a1]; exact skp_le hT a3, by rw [a1]; exact skp_skp hT _⟩
    · rw [if_neg c] at h; cases h
end HOK
