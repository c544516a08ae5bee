/-! ===== a household as it is told: what the spec keeps ===== -/
section HOK2
variable {T : Nat → Int} {n : Nat}
theorem sWrd_ok (hT : tOK T n) {p p1 : Nat} {w : List Int} {u : Unit} (hw : 1 ≤ w.length) (h : sWrd T n p w = Sum.inr (p1, u)) : isW T n p w ∧ p < p1 ∧ p1 ≤ n ∧ skp T n p1 = p1 := by
  unfold sWrd at h
  by_cases c : isW T n p w
  · rw [if_pos c] at h
    injection h with h
    injection h with h1 h2
    subst h1
    have a := skp_ge T n (p + w.length)
    have b := isW_le hT c
    exact ⟨c, by omega, skp_le hT b, skp_skp hT _⟩
  · rw [if_neg c] at h; cases h
theorem sSgn_ok (hT : tOK T n) {p p1 : Nat} {c : Int} {u : Unit} (hc : 0 ≤ c) (h : sSgn T n p c = Sum.inr (p1, u)) : T p = c ∧ p < p1 ∧ p1 ≤ n ∧ skp T n p1 = p1 := by
  unfold sSgn at h
  by_cases q : T p = c
  · rw [if_pos q] at h
    injection h with h
    injection h with h1 h2
    subst h1
    have a := skp_ge T n (p + 1)
    have b := T_lt hT q hc
    exact ⟨q, by omega, skp_le hT b, skp_skp hT _⟩
  · rw [if_neg q] at h; cases h
theorem sNum_ok2 (hT : tOK T n) {p p1 : Nat} {lo hi v : Int} (hp : p ≤ n) (h : sNum T n p lo hi = Sum.inr (p1, v)) : (lo ≤ v ∧ v ≤ hi) ∧ p < p1 ∧ p1 ≤ n ∧ skp T n p1 = p1 := by
  rcases sNum_ok hT (p := p) lo hi hp with ⟨k, l, e, -, -⟩ | ⟨p', v', e, a1, a2, a3⟩
  · rw [e] at h; cases h
  · have e2 := e
    rw [h] at e2
    injection e2 with e2
    injection e2 with e3 e4
    subst e3 e4
    refine ⟨?_, a1, a2, a3⟩
    unfold sNum at h
    by_cases c1 : ¬ isD (T p) ∨ alB T p
    · rw [if_pos c1] at h; cases h
    rw [if_neg c1] at h
    by_cases c2 : p + 4 < dE T n p
    · rw [if_pos c2] at h; cases h
    rw [if_neg c2] at h
    by_cases c3 : lo ≤ dV T p (dE T n p - p) ∧ dV T p (dE T n p - p) ≤ hi
    · rw [if_pos c3] at h
      injection h with h
      injection h with h1 h2
      rw [← h2]
      exact c3
    · rw [if_neg c3] at h; cases h
theorem sFresh_ok (hT : tOK T n) {h : HS} {p p1 : Nat} {w : List Int} (e : sFresh T n h p = Sum.inr (p1, w)) : nmOK w ∧ (∀ k : Nat, k < h.nh → h.hn k ≠ w) ∧ (∀ k : Nat, k < h.nt → h.tn k ≠ w) ∧ p < p1 ∧ p1 ≤ n ∧ skp T n p1 = p1 := by
  unfold sFresh at e
  obtain ⟨p2, w2, e1, e2⟩ := rB_inr e
  obtain ⟨-, -, a0, a1, a2, a3, -⟩ := sName_ok hT e1
  by_cases c : fi h.hn w2 h.nh < h.nh ∨ fi h.tn w2 h.nt < h.nt
  · rw [if_pos c] at e2; cases e2
  rw [if_neg c] at e2
  injection e2 with e2
  injection e2 with e3 e4
  subst e3 e4
  have := skp_ge T n (wE T n p)
  exact ⟨a0, fun k hk q => c (Or.inl (fi_iff.mpr ⟨k, hk, q⟩)), fun k hk q => c (Or.inr (fi_iff.mpr ⟨k, hk, q⟩)), by omega, by rw [a1]; exact skp_le hT a3, by rw [a1]; exact skp_skp hT _⟩
theorem nmsOK.s {f : Nat → List Int} {N : Nat} {w : List Int} (h : nmsOK f N) (hw : nmOK w) (hno : ∀ k : Nat, k < N → f k ≠ w) : nmsOK (hupd f N w) (N + 1) := by
  refine ⟨fun k hk => ?_, fun i j hi hj e => ?_⟩
  · by_cases q : k = N
    · rw [q, hupd_at]; exact hw
    · rw [hupd_ne _ _ q]; exact h.1 k (by omega)
  · by_cases q1 : i = N
    · by_cases q2 : j = N
      · omega
      · rw [q1, hupd_at, hupd_ne _ _ q2] at e
        exact absurd e.symm (hno j (by omega))
    · by_cases q2 : j = N
      · rw [q2, hupd_at, hupd_ne _ _ q1] at e
        exact absurd e (hno i (by omega))
      · rw [hupd_ne _ _ q1, hupd_ne _ _ q2] at e
        exact h.2 i j (by omega) (by omega) e
/-- what telling keeps -/
def kpt (T : Nat → Int) (n : Nat) (h : HS) (p : Nat) (p1 : Nat) (h1 : HS) : Prop := hsOK h1 ∧ h1.sm = h.sm ∧ p < p1 ∧ p1 ≤ n ∧ skp T n p1 = p1
theorem sHall_ok (hT : tOK T n) {h h1 : HS} {p0 p p1 : Nat} (ho : hsOK h) (e : sHall T n h p0 p = Sum.inr (p1, h1)) : kpt T n h p p1 h1 := by
  unfold sHall at e
  by_cases c : h.nh = 8
  · rw [if_pos c] at e; cases e
  rw [if_neg c] at e
  obtain ⟨p2, w, e1, e2⟩ := rB_inr e
  obtain ⟨a0, a1, a2, a3, a4, a5⟩ := sFresh_ok hT e1
  injection e2 with e2
  injection e2 with e3 e4
  subst e3 e4
  have h8 := ho.nh8
  exact ⟨(hsOK.mk (nh8 := by show h.nh + 1 ≤ 8; omega) (nt8 := ho.nt8) (nd12 := ho.nd12) (ni12 := ho.ni12) (hnO := ho.hnO.s a0 a1) (tnO := ho.tnO) (tvO := fun k hk => ⟨Nat.lt_succ_of_lt (ho.tvO k hk).1, (ho.tvO k hk).2⟩) (dvO := fun k hk => ⟨Nat.lt_succ_of_lt (ho.dvO k hk).1, Nat.lt_succ_of_lt (ho.dvO k hk).2.1, (ho.dvO k hk).2.2⟩) (ivO := ho.ivO) (stO := ho.stO) (dgO := ho.dgO) (smO := ho.smO)), rfl, a3, a4, a5⟩
theorem sDoor_ok (hT : tOK T n) {h h1 : HS} {p0 p p1 : Nat} (ho : hsOK h) (e : sDoor T n h p0 p = Sum.inr (p1, h1)) : kpt T n h p p1 h1 := by
  unfold sDoor at e
  by_cases c : h.nd = 12
  · rw [if_pos c] at e; cases e
  rw [if_neg c] at e
  obtain ⟨p2, a, e1, e⟩ := rB_inr e
  obtain ⟨p3, u, e2, e⟩ := rB_inr e
  obtain ⟨p4, b, e3, e⟩ := rB_inr e
  obtain ⟨p5, u2, e4, e⟩ := rB_inr e
  obtain ⟨p6, v, e5, e⟩ := rB_inr e
  have a1 := sKnown_ok hT e1
  have a2 := sWrd_ok hT (by decide) e2
  have a3 := sKnown_ok hT e3
  have a4 := sWrd_ok hT (by decide) e4
  have a5 := sNum_ok2 hT a4.2.2.1 e5
  injection e with e
  injection e with e3 e4
  subst e3 e4
  have h8 := ho.nd12
  refine ⟨(hsOK.mk (nh8 := ho.nh8) (nt8 := ho.nt8) (nd12 := by show h.nd + 1 ≤ 12; omega) (ni12 := ho.ni12) (hnO := ho.hnO) (tnO := ho.tnO) (tvO := ho.tvO) (dvO := fun k (hk : k < h.nd + 1) => ?_) (ivO := ho.ivO) (stO := ho.stO) (dgO := ho.dgO) (smO := ho.smO)), rfl, by omega, a5.2.2.1, a5.2.2.2⟩
  show (hupd h.dv h.nd (a, b, v) k).1 < h.nh ∧ (hupd h.dv h.nd (a, b, v) k).2.1 < h.nh ∧ (1 ≤ (hupd h.dv h.nd (a, b, v) k).2.2 ∧ (hupd h.dv h.nd (a, b, v) k).2.2 ≤ 9)
  by_cases q : k = h.nd
  · rw [q, hupd_at]; exact ⟨a1.1, a3.1, a5.1⟩
  · rw [hupd_ne _ _ q]; exact ho.dvO k (by omega)
theorem sThing_ok (hT : tOK T n) {h h1 : HS} {p0 p p1 : Nat} (ho : hsOK h) (e : sThing T n h p0 p = Sum.inr (p1, h1)) : kpt T n h p p1 h1 := by
  unfold sThing at e
  by_cases c : h.nt = 8
  · rw [if_pos c] at e; cases e
  rw [if_neg c] at e
  obtain ⟨p2, w, e1, e⟩ := rB_inr e
  obtain ⟨p3, u, e2, e⟩ := rB_inr e
  obtain ⟨p4, a, e3, e⟩ := rB_inr e
  obtain ⟨p5, u2, e4, e⟩ := rB_inr e
  obtain ⟨p6, v, e5, e⟩ := rB_inr e
  obtain ⟨p7, u3, e6, e⟩ := rB_inr e
  obtain ⟨p8, x, e7, e⟩ := rB_inr e
  obtain ⟨a0, a1, a1', a2, -, -⟩ := sFresh_ok hT e1
  have b2 := sWrd_ok hT (by decide) e2
  have b3 := sKnown_ok hT e3
  have b4 := sWrd_ok hT (by decide) e4
  have b5 := sNum_ok2 hT b4.2.2.1 e5
  have b6 := sWrd_ok hT (by decide) e6
  have b7 := sNum_ok2 hT b6.2.2.1 e7
  injection e with e
  injection e with e3 e4
  subst e3 e4
  have h8 := ho.nt8
  refine ⟨(hsOK.mk (nh8 := ho.nh8) (nt8 := by show h.nt + 1 ≤ 8; omega) (nd12 := ho.nd12) (ni12 := ho.ni12) (hnO := ho.hnO) (tnO := ho.tnO.s a0 a1') (tvO := fun k (hk : k < h.nt + 1) => ?_) (dvO := ho.dvO) (ivO := fun k hk => ⟨Nat.lt_succ_of_lt (ho.ivO k hk).1, Nat.lt_succ_of_lt (ho.ivO k hk).2⟩) (stO := ho.stO) (dgO := ho.dgO) (smO := ho.smO)), rfl, by omega, b7.2.2.1, b7.2.2.2⟩
  show (hupd h.tv h.nt (a, v, x) k).1 < h.nh ∧ (1 ≤ (hupd h.tv h.nt (a, v, x) k).2.1 ∧ (hupd h.tv h.nt (a, v, x) k).2.1 ≤ 99) ∧ (0 ≤ (hupd h.tv h.nt (a, v, x) k).2.2 ∧ (hupd h.tv h.nt (a, v, x) k).2.2 ≤ 9)
  by_cases q : k = h.nt
  · rw [q, hupd_at]; exact ⟨b3.1, b5.1, b7.1⟩
  · rw [hupd_ne _ _ q]; exact ho.tvO k (by omega)
theorem sTie_ok (hT : tOK T n) {h h1 : HS} {p0 p p1 : Nat} (ho : hsOK h) (e : sTie T n h p0 p = Sum.inr (p1, h1)) : kpt T n h p p1 h1 := by
  unfold sTie at e
  by_cases c : h.ni = 12
  · rw [if_pos c] at e; cases e
  rw [if_neg c] at e
  obtain ⟨p2, a, e1, e⟩ := rB_inr e
  obtain ⟨p3, u, e2, e⟩ := rB_inr e
  obtain ⟨p4, b, e3, e⟩ := rB_inr e
  have a1 := sKnown_ok hT e1
  have a2 := sWrd_ok hT (by decide) e2
  have a3 := sKnown_ok hT e3
  by_cases c2 : fp h.iv a b h.ni = true
  · rw [if_pos c2] at e; cases e
  rw [if_neg c2] at e
  injection e with e
  injection e with e3 e4
  subst e3 e4
  have h8 := ho.ni12
  refine ⟨(hsOK.mk (nh8 := ho.nh8) (nt8 := ho.nt8) (nd12 := ho.nd12) (ni12 := by show h.ni + 1 ≤ 12; omega) (hnO := ho.hnO) (tnO := ho.tnO) (tvO := ho.tvO) (dvO := ho.dvO) (ivO := fun k (hk : k < h.ni + 1) => ?_) (stO := ho.stO) (dgO := ho.dgO) (smO := ho.smO)), rfl, by omega, a3.2.2.2.1, a3.2.2.2.2⟩
  show (hupd h.iv h.ni (a, b) k).1 < h.nt ∧ (hupd h.iv h.ni (a, b) k).2 < h.nt
  by_cases q : k = h.ni
  · rw [q, hupd_at]; exact ⟨a1.1, a3.1⟩
  · rw [hupd_ne _ _ q]; exact ho.ivO k (by omega)
theorem sStarts_ok (hT : tOK T n) {h h1 : HS} {p p1 : Nat} (ho : hsOK h) (e : sStarts T n h p = Sum.inr (p1, h1)) : kpt T n h p p1 h1 := by
  unfold sStarts at e
  obtain ⟨p2, a, e1, e⟩ := rB_inr e
  have a1 := sKnown_ok hT e1
  injection e with e
  injection e with e3 e4
  subst e3 e4
  have h8 := ho.nh8
  exact ⟨(hsOK.mk (nh8 := ho.nh8) (nt8 := ho.nt8) (nd12 := ho.nd12) (ni12 := ho.ni12) (hnO := ho.hnO) (tnO := ho.tnO) (tvO := ho.tvO) (dvO := ho.dvO) (ivO := ho.ivO) (stO := by show a < 8; omega) (dgO := ho.dgO) (smO := ho.smO)), rfl, a1.2.2⟩
theorem sDraught_ok (hT : tOK T n) {h h1 : HS} {p p1 : Nat} (ho : hsOK h) (e : sDraught T n h p = Sum.inr (p1, h1)) : kpt T n h p p1 h1 := by
  unfold sDraught at e
  obtain ⟨p2, u, e1, e⟩ := rB_inr e
  obtain ⟨p3, v, e2, e⟩ := rB_inr e
  have a1 := sWrd_ok hT (by decide) e1
  have a2 := sNum_ok2 hT a1.2.2.1 e2
  injection e with e
  injection e with e3 e4
  subst e3 e4
  exact ⟨(hsOK.mk (nh8 := ho.nh8) (nt8 := ho.nt8) (nd12 := ho.nd12) (ni12 := ho.ni12) (hnO := ho.hnO) (tnO := ho.tnO) (tvO := ho.tvO) (dvO := ho.dvO) (ivO := ho.ivO) (stO := ho.stO) (dgO := a2.1) (smO := ho.smO)), rfl, by omega, a2.2.2⟩
theorem sCode_ok {h : HS} (ho : hsOK h) (bu mn : Option (List Int)) : hsOK (HS.mk h.nh h.hn h.nt h.tn h.tv h.nd h.dv h.ni h.iv h.st h.dg (bu) (mn) h.sm) := (hsOK.mk (nh8 := ho.nh8) (nt8 := ho.nt8) (nd12 := ho.nd12) (ni12 := ho.ni12) (hnO := ho.hnO) (tnO := ho.tnO) (tvO := ho.tvO) (dvO := ho.dvO) (ivO := ho.ivO) (stO := ho.stO) (dgO := ho.dgO) (smO := ho.smO))
theorem sBurns_ok (hT : tOK T n) {h h1 : HS} {p0 p p1 : Nat} (hp : p ≤ n) (hs : skp T n p = p) (ho : hsOK h) (e : sBurns T n h p0 p = Sum.inr (p1, h1)) : kpt T n h p p1 h1 := by
  unfold sBurns at e
  by_cases c : h.bu ≠ none
  · rw [if_pos c] at e; cases e
  rw [if_neg c] at e
  obtain ⟨p2, cs, e1, e⟩ := rB_inr e
  have a := sSum_ok hT (sA_ok (ask := false) hT 8) 0 p hp hs
  rw [e1] at a
  obtain ⟨a1, a2, a3, -⟩ := a
  injection e with e
  injection e with e3 e4
  subst e3 e4
  exact ⟨sCode_ok ho (some cs) h.mn, rfl, a1, a2, a3⟩
theorem sMinds_ok (hT : tOK T n) {h h1 : HS} {p0 p p1 : Nat} (hp : p ≤ n) (hs : skp T n p = p) (ho : hsOK h) (e : sMinds T n h p0 p = Sum.inr (p1, h1)) : kpt T n h p p1 h1 := by
  unfold sMinds at e
  by_cases c : h.mn ≠ none
  · rw [if_pos c] at e; cases e
  rw [if_neg c] at e
  obtain ⟨p2, cs, e1, e⟩ := rB_inr e
  have a := sTest_ok hT (sF_ok (ask := false) hT 8) 0 p hp hs
  rw [e1] at a
  obtain ⟨a1, a2, a3, -⟩ := a
  injection e with e
  injection e with e3 e4
  subst e3 e4
  exact ⟨sCode_ok ho h.bu (some cs), rfl, a1, a2, a3⟩
theorem kpt.up {h h1 : HS} {p q p1 : Nat} (k : kpt T n h q p1 h1) (hq : p ≤ q) : kpt T n h p p1 h1 := ⟨k.1, k.2.1, by have := k.2.2.1; omega, k.2.2.2⟩
theorem sTell_ok (hT : tOK T n) {h h1 : HS} {p p1 : Nat} (ho : hsOK h) (e : sTell T n h p = Sum.inr (p1, h1)) : kpt T n h p p1 h1 := by
  unfold sTell at e
  have st : ∀ (w : List Int) (k : Nat), isW T n p w → w.length = k → p ≤ skp T n (p + k) ∧ skp T n (p + k) ≤ n ∧ skp T n (skp T n (p + k)) = skp T n (p + k) := fun w k hw hk => by
    subst hk
    have a := skp_ge T n (p + w.length)
    exact ⟨by omega, skp_le hT (isW_le hT hw), skp_skp hT _⟩
  by_cases c : isW T n p wHall
  · rw [if_pos c] at e; exact (sHall_ok hT ho e).up (st wHall 4 c rfl).1
  rw [if_neg c] at e
  by_cases c : isW T n p wDoor
  · rw [if_pos c] at e; exact (sDoor_ok hT ho e).up (st wDoor 4 c rfl).1
  rw [if_neg c] at e
  by_cases c : isW T n p wThing
  · rw [if_pos c] at e; exact (sThing_ok hT ho e).up (st wThing 5 c rfl).1
  rw [if_neg c] at e
  by_cases c : isW T n p wTie
  · rw [if_pos c] at e; exact (sTie_ok hT ho e).up (st wTie 3 c rfl).1
  rw [if_neg c] at e
  by_cases c : isW T n p wStarts
  · rw [if_pos c] at e; exact (sStarts_ok hT ho e).up (st wStarts 6 c rfl).1
  rw [if_neg c] at e
  by_cases c : isW T n p wBurns
  · rw [if_pos c] at e; exact (sBurns_ok hT (st wBurns 5 c rfl).2.1 (st wBurns 5 c rfl).2.2 ho e).up (st wBurns 5 c rfl).1
  rw [if_neg c] at e
  by_cases c : isW T n p wMinds
  · rw [if_pos c] at e; exact (sMinds_ok hT (st wMinds 5 c rfl).2.1 (st wMinds 5 c rfl).2.2 ho e).up (st wMinds 5 c rfl).1
  rw [if_neg c] at e
  exact sDraught_ok hT ho e
theorem sStmt_ok (hT : tOK T n) {h h1 : HS} {p p1 : Nat} (ho : hsOK h) (e : sStmt T n h p = Sum.inr (p1, h1)) : hsOK h1 ∧ p < p1 ∧ p1 ≤ n ∧ skp T n p1 = p1 := by
  unfold sStmt at e
  by_cases c : h.sm = 60
  · rw [if_pos c] at e; cases e
  rw [if_neg c] at e
  obtain ⟨p2, h2, e1, e⟩ := rB_inr e
  obtain ⟨p3, u, e2, e⟩ := rB_inr e
  have a := sTell_ok hT ho e1
  have b := sSgn_ok hT (by omega) e2
  injection e with e
  injection e with e3 e4
  subst e3 e4
  have ho2 := a.1
  have h60 := ho.smO
  have a3 := a.2.2.1
  exact ⟨(hsOK.mk (nh8 := ho2.nh8) (nt8 := ho2.nt8) (nd12 := ho2.nd12) (ni12 := ho2.ni12) (hnO := ho2.hnO) (tnO := ho2.tnO) (tvO := ho2.tvO) (dvO := ho2.dvO) (ivO := ho2.ivO) (stO := ho2.stO) (dgO := ho2.dgO) (smO := by show h.sm + 1 ≤ 60; omega)), by omega, b.2.2.1, b.2.2.2⟩
end HOK2
