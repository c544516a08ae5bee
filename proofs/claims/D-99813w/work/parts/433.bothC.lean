/-! ===== both and test ===== -/
def xE (T : Nat → Int) (n p : Nat) : Nat := if isL (T p) then 2 * (wE T n p - p) + 28 else 0
/-- the contract of a reader that looks for a word behind its last part -/
def cPt (T : Nat → Int) (n S : Nat) (am : Int) (R : gM → Nat → List Int → Prop) (F : gM → Option (Option Nat × gM)) (sp : Nat → Nat → Rs (List Int)) (o e sl fl : Nat) : Prop := ∀ (μ : gM) (p : Nat), cLx T n μ → cAt T n μ p → gI μ 1011 4 = iI o → gI μ 1011 5 = iI am → pw (F μ) (fun q => pF (gZ μ) μ q.2 ∧ ((∃ (p' : Nat) (cs : List Int) (r : Nat), sp o p = Sum.inr (p', cs) ∧ q.1 = some r ∧ Tv R (gZ μ) (gZ q.2) q.2 r cs ∧ cAt T n q.2 p' ∧ gI q.2 1011 4 = iI o ∧ gC q.2 + S * p + sl ≤ gC μ + S * p' + e * xE T n p') ∨ (∃ (k : Int) (l : Nat), sp o p = Sum.inl (k, l) ∧ q.1 = none ∧ cErr q.2 k l ∧ gC q.2 + S * p ≤ gC μ + S * (n + 2) + fl) ∨ ∃ (p' : Nat) (cs : List Int), sp o p = Sum.inr (p', cs) ∧ (isL (T p') ∧ alB T p') ∧ q.1 = none ∧ cErr q.2 1 p' ∧ gC q.2 + S * p ≤ gC μ + S * (n + 2) + fl))
theorem cP.t {T : Nat → Int} {n S : Nat} {am : Int} {R : gM → Nat → List Int → Prop} {F : gM → Option (Option Nat × gM)} {sp : Nat → Nat → Rs (List Int)} {o sl fl : Nat} (h : cP T n S am R F sp o sl fl) : cPt T n S am R F sp o 0 sl fl := fun μ p a b c d => pw_mono (h μ p a b c d) (fun q hq => ⟨hq.1, hq.2.elim (fun ⟨p', cs, r, x1, x2, x3, x4, x5, x6⟩ => Or.inl ⟨p', cs, r, x1, x2, x3, x4, x5, by rw [Nat.zero_mul]; exact x6⟩) (fun x => Or.inr (Or.inl x))⟩)
noncomputable def gB2 (F : gM → Option (Option Nat × gM)) (lc : Nat) (c1 : Nat) (m : gM) : Option ((gM) ⊕ (Option Nat × gM)) :=
  ((cf_X2_passes lc m).bind fun (o4, m2) => (if gZ m ≤ gZ m2 ∧ gW m ≤ gW m2 then gx_o o4 (fun r1 => (if r1 = (0 : Int32) then some (Sum.inr (some c1, m2)) else (if gK m2 c1 = 16 then gz_let (gP m2 c1 0) fun r8 => (if r8 ≠ 0 then ((F m2).bind fun (o13, m11) => (if gZ m2 ≤ gZ m11 ∧ gW m2 ≤ gW m11 then gx_o o13 (fun r10 => (if gK m11 r8 = 21 then ((cf_J2_add r8 r10 m11).bind fun (r16, m17) => (if gZ m11 ≤ gZ m17 ∧ gW m11 ≤ gW m17 then some (Sum.inl (m17)) else none)) else none)) (some (Sum.inr (none, m11))) else none)) else none) else none))) (some (Sum.inr (none, m2))) else none))
noncomputable def gCh2 (F : gM → Option (Option Nat × gM)) (lc : Nat) (k : Int32) (m : gM) : Option (Option Nat × gM) :=
  (if gZ m ≠ 0 then gz_let (gz_al m (15 + 1) 0 2) fun m2 => ((cf_X18_init (gZ m) k m2).bind fun (_, m4) => (if gZ m2 ≤ gZ m4 ∧ gW m2 ≤ gW m4 then (if gK m4 (gZ m) = 16 then gz_let (gP m4 (gZ m) 0) fun r8 => (if r8 ≠ 0 then ((F m4).bind fun (o13, m11) => (if gZ m4 ≤ gZ m11 ∧ gW m4 ≤ gW m11 then gx_o o13 (fun r10 => (if gK m11 r8 = 21 then ((cf_J2_add r8 r10 m11).bind fun (r16, m17) => (if gZ m11 ≤ gZ m17 ∧ gW m11 ≤ gW m17 then (gz_loop (fun q : (gM) => gB2 F lc (gZ m) q) m17) else none)) else none)) (some (none, m11)) else none)) else none) else none) else none)) else none)
theorem both_eq (oR : gM → Option (Option Nat × gM)) (m : gM) : cf_X2_both oR m = gCh2 oR 152 1 m := rfl
theorem test_eq (oR : gM → Option (Option Nat × gM)) (m : gM) : cf_X2_test oR m = gCh2 (cf_X2_both oR) 150 0 m := rfl
section BothC
variable {T : Nat → Int} {n S : Nat} {am : Int}
theorem fStep {al : Int → Prop} {lo : Bool} {d o e0 sl fl : Nat} {F : gM → Option (Option Nat × gM)} {sp : Nat → Nat → Rs (List Int)} (hF : cPt T n S am (tRep al lo d) F sp o e0 sl fl) {c k p : Nat} {f : Nat → List Int} {kk : Int} {m : gM} (hL : cLx T n m) (ha : cAt T n m p) (h4 : gI m 1011 4 = iI o) (h5 : gI m 1011 5 = iI am) (hC : faR al lo d m c k f kk) (hk : k < 1200) {β : Type} {K : gM → Option β} {E : gM → Option β} {Q : β → Prop}
    (hok : ∀ (p' : Nat) (cs : List Int) (m' : gM), sp o p = Sum.inr (p', cs) → pF c m m' → cAt T n m' p' → gI m' 1011 4 = iI o → faR al lo d m' c (k + 1) (fun i => if i = k then cs else f i) kk → gC m' + S * p + sl ≤ gC m + (2 * k + 9) + S * p' + e0 * xE T n p' → pw (K m') Q)
    (hbad : ∀ (k' : Int) (l : Nat) (m' : gM), sp o p = Sum.inl (k', l) → pF c m m' → cErr m' k' l → gC m' + S * p ≤ gC m + S * (n + 2) + fl → pw (E m') Q)
    (hgl : ∀ (p' : Nat) (cs : List Int) (m' : gM), sp o p = Sum.inr (p', cs) → (isL (T p') ∧ alB T p') → pF c m m' → cErr m' 1 p' → gC m' + S * p ≤ gC m + S * (n + 2) + fl → pw (E m') Q) : pw (if gK m c = 16 then gz_let (gP m c 0) fun r8 => (if r8 ≠ 0 then ((F m).bind fun (x : Option Nat × gM) => (if gZ m ≤ gZ x.2 ∧ gW m ≤ gW x.2 then gx_o x.1 (fun r10 => (if gK x.2 r8 = 21 then ((cf_J2_add r8 r10 x.2).bind fun (y : Int32 × gM) => (if gZ x.2 ≤ gZ y.2 ∧ gW x.2 ≤ gW y.2 then K y.2 else none)) else none)) (E x.2) else none)) else none) else none) Q := by
  have hc := hC.2.1
  have hr := hC.2.2.1.at
  refine pw_gu hC.1 (pw_let (pw_gu hr.2.2.2.2 (pw_bind (pw_mono (hF m p hL ha h4 h5) ?_))))
  rintro ⟨r, m1⟩ ⟨a1, ⟨p', cs, r', b1, b2, b3, b4, b5, b6⟩ | ⟨k', l, b1, b2, b3, b4⟩ | ⟨p', cs, b1, b2, b3, b4, b5⟩⟩
  · dsimp only at a1 b2 b3 b4 b5 b6 ⊢
    subst b2
    refine pw_gu ⟨a1.1, a1.2.1⟩ (pw_gxs ?_)
    obtain ⟨m2, s1, s2, s3, s4, s5, s6⟩ := c_faAdd hC a1 hk b3 (Nat.le_refl _)
    refine pw_gu s6 ?_
    rw [s1]
    refine pw_bind (pw_some (pw_gu ⟨s3.1, s3.2.1⟩ ?_))
    exact hok p' cs m2 b1 ((a1.dn (by omega)).trans s3.p) (b4.p (s3.at hc.1 2)) ((s3.at hc.1 4).trans b5) s2 (by omega)
  · dsimp only at a1 b2 b3 b4 ⊢
    subst b2
    exact pw_gu ⟨a1.1, a1.2.1⟩ (pw_gxn (hbad k' l m1 b1 (a1.dn (by omega)) b3 b4))
  · dsimp only at a1 b3 b4 b5 ⊢
    subst b3
    exact pw_gu ⟨a1.1, a1.2.1⟩ (pw_gxn (hgl p' cs m1 b1 b2 (a1.dn (by omega)) b4 b5))
theorem fLoop {al : Int → Prop} {lo : Bool} {d o e0 sl fl : Nat} {F : gM → Option (Option Nat × gM)} {sp : Nat → Nat → Rs (List Int)} (hT : tOK T n) (hSn : 2 * n + 1000 ≤ S) (he0 : e0 ≤ 1) (hfl : 2 * n + 28 ≤ fl) (hF : cPt T n S am (tRep al lo d) F sp o e0 sl fl) (hok : rsAll T n sp) {spL : Nat → Nat → List Int → Rs (List Int)} {kk : Int} (hkk : kk = 0 ∨ kk = 1) {w : List Int} (hw : w.length ≤ 3) (hw2 : 2 ≤ w.length) {lc : Nat}
    (hE : ∀ (f p : Nat) (cs : List Int), spL (f + 1) p cs = (if isW T n p w then (match sp o (skp T n (p + w.length)) with | Sum.inl e => Sum.inl e | Sum.inr (p1, c1) => spL f p1 (cs ++ (c1 ++ [11 - kk]))) else Sum.inr (p, cs)))
    {c p0 G : Nat} {μ0 : gM} {Q : Option Nat × gM → Prop} :
    ∀ (fu k p : Nat) (f : Nat → List Int) (m : gM), n < p + fu → cLx T n m → litC m lc w → cAt T n m p → gI m 1011 4 = iI o → gI m 1011 5 = iI am → faR al lo d m c (k + 1) f kk → 2 * k + 1 + p0 ≤ p → pF c μ0 m → gC m + S * p0 + sl ≤ G + S * p + e0 * xE T n p →
    (∀ (p' : Nat) (cs : List Int) (m' : gM), spL fu p (chC f (fun _ => 11 - kk) k) = Sum.inr (p', cs) → pF c μ0 m' → Tv (tRep al lo (d + 1)) c (gZ m') m' c cs → cAt T n m' p' → gI m' 1011 4 = iI o → gC m' + S * p0 + sl ≤ G + S * p' + (e0 + 1) * xE T n p' → Q (some c, m')) →
    (∀ (k' : Int) (l : Nat) (m' : gM), spL fu p (chC f (fun _ => 11 - kk) k) = Sum.inl (k', l) → pF c μ0 m' → cErr m' k' l → gC m' + S * p0 ≤ G + S * (n + 2) + fl → Q (none, m')) →
    (∀ (p' : Nat) (cs : List Int) (m' : gM), spL fu p (chC f (fun _ => 11 - kk) k) = Sum.inr (p', cs) → (isL (T p') ∧ alB T p') → pF c μ0 m' → cErr m' 1 p' → gC m' + S * p0 ≤ G + S * (n + 2) + fl → Q (none, m')) →
    pw (gz_loop (fun q : (gM) => gB2 F lc c q) m) Q
  | 0, k, p, f, m, h1, _, _, ha, _, _, _, _, _, _, _, _, _ => by
    have := (ha.le hT).1
    omega
  | fu + 1, k, p, f, m, h1, hL, hlit, ha, h4, h5, hC, h2k, hp0, hcost, hQ, hB, hG => by
    have hn := hT.1
    obtain ⟨hpn, hsk⟩ := ha.le hT
    have hc := hC.2.1
    have n10 : ¬ (1 : Int32) = 0 := by decide
    have hwn := wE_le hT hpn
    have hx : xE T n p ≤ 2 * n + 28 := by unfold xE; split <;> omega
    have hx1 := Nat.mul_le_mul he0 hx
    have mN := mulU S (show p + 1 ≤ n + 2 by omega)
    refine pw_unroll ?_
    show pw (gB2 F lc c m) _
    unfold gB2
    refine pw_bind (pw_mono (c_passes hL ha hlit) ?_)
    rintro ⟨r, m2⟩ ⟨a1, ⟨b1, b2, b3, b4, b5⟩ | ⟨b1, b3, b4, b5, b6, b7⟩ | ⟨b1, b2, b3, b4, b5, b6⟩⟩
    · dsimp only at a1 b3 b4 b5 ⊢
      subst b3
      refine pw_gu ⟨a1.1, a1.2.1⟩ (pw_gxn (pw_some ?_))
      exact hG p _ m2 (by rw [hE, if_neg (fun z => z.2.1 b2)]) ⟨b1, b2⟩ (hp0.trans (a1.dn (by omega))) b4 (by omega)
    · dsimp only at a1 b3 b4 b5 b6 b7 ⊢
      subst b3
      have a1z := a1.1
      refine pw_gu ⟨a1.1, a1.2.1⟩ (pw_gxs (pw_f n10 ?_))
      have hwl : wE T n p = p + w.length := b1.2.2.1
      have hxp : xE T n p = 2 * w.length + 28 := by unfold xE; rw [if_pos b1.1, hwl]; omega
      have hx2 := Nat.mul_le_mul he0 (show xE T n p ≤ 34 by omega)
      have gsk := skp_ge T n (p + w.length)
      have hskn := skp_le hT (show p + w.length ≤ n by omega)
      have muq := mulU S (show p + 1 ≤ skp T n (p + w.length) by omega)
      have ha2 : cAt T n m2 (skp T n (p + w.length)) := by
        have := cAt.of (T := T) (n := n) b4 hwn
        rw [hwl] at this
        exact this
      have f2 : pF c m m2 := a1.dn (by omega)
      refine fStep (K := fun m' => some (Sum.inl m')) (E := fun m' => some (Sum.inr (none, m'))) hF (hL.p a1) ha2 (b6.trans h4) ((a1.at5 (by omega)).trans h5) (hC.mv (a1.i hc.1 (Nat.le_refl _)) a1z).1 (by omega) (fun p' cs m' e1 e2 e3 e4 e5 e6 => ?_) (fun k' l m' e1 e2 e3 e4 => ?_) (fun p' cs m' e1 e2 e3 e4 e5 => ?_)
      · refine pw_some ?_
        have hk := (hok o _ hskn (skp_skp hT _)).get e1
        have hcc : chC (fun i => if i = k + 1 then cs else f i) (fun _ => 11 - kk) (k + 1) = chC f (fun _ => 11 - kk) k ++ (cs ++ [11 - kk]) := by
          show chC _ _ k ++ ((if k + 1 = k + 1 then cs else f (k + 1)) ++ [11 - kk]) = _
          rw [if_pos rfl, chC_congr (f := fun i => if i = k + 1 then cs else f i) (f' := f) k (fun i hi => if_neg (by omega)) (fun i _ _ => rfl)]
        have eL : spL (fu + 1) p (chC f (fun _ => 11 - kk) k) = spL fu p' (chC f (fun _ => 11 - kk) k ++ (cs ++ [11 - kk])) := by rw [hE, if_pos b1, e1]
        exact fLoop hT hSn he0 hfl hF hok hkk hw hw2 hE fu (k + 1) p' _ m' (by omega) ((hL.p a1).pz hc.1 e2) ((hlit.p a1 (by omega)).p e2 (by omega)) e3 e4 ((e2.at5 hc.1).trans ((a1.at5 (by omega)).trans h5)) e5 (by omega) ((hp0.trans f2).trans e2) (by omega) (fun p2 cs2 m3 g1 => hQ p2 cs2 m3 (by rw [eL, ← hcc]; exact g1)) (fun k' l m3 g1 => hB k' l m3 (by rw [eL, ← hcc]; exact g1)) (fun p2 cs2 m3 g1 => hG p2 cs2 m3 (by rw [eL, ← hcc]; exact g1))
      · refine pw_some ?_
        exact hB k' l m' (by rw [hE, if_pos b1, e1]) ((hp0.trans f2).trans e2) e3 (by omega)
      · refine pw_some ?_
        refine hG p' (chC f (fun _ => 11 - kk) k ++ (cs ++ [11 - kk])) m' ?_ e2 ((hp0.trans f2).trans e3) e4 (by omega)
        rw [hE, if_pos b1, e1]
        dsimp only
        cases fu with
        | zero => have := ((hok o _ hskn (skp_skp hT _)).get e1); omega
        | succ fu' => rw [hE, if_neg (fun z => z.2.1 e2.2)]
    · dsimp only at a1 b3 b4 b5 b6 ⊢
      subst b3
      refine pw_gu ⟨a1.1, a1.2.1⟩ (pw_gxs (pw_t (by first | rfl | exact True.intro) (pw_some ?_)))
      have hC2 := (hC.mv (a1.i hc.1 (Nat.le_refl _)) a1.1).1
      have b6' : gC m2 ≤ gC m + xE T n p := b6
      have e1 : (e0 + 1) * xE T n p = e0 * xE T n p + xE T n p := Nat.succ_mul _ _
      exact hQ p _ m2 (by rw [hE, if_neg b1]) (hp0.trans (a1.dn (by omega))) (hC2.tree (by omega) hkk) b4 (b5.trans h4) (by omega)
theorem fRead {al : Int → Prop} {lo : Bool} {d o e0 sl fl : Nat} {F : gM → Option (Option Nat × gM)} {sp : Nat → Nat → Rs (List Int)} (hT : tOK T n) (hSn : 2 * n + 1000 ≤ S) (he0 : e0 ≤ 1) (hfl : 2 * n + 28 ≤ fl) (hF : cPt T n S am (tRep al lo d) F sp o e0 (sl + 40) fl) (hok : rsAll T n sp) {spL : Nat → Nat → List Int → Rs (List Int)} {spC : Nat → Nat → Rs (List Int)} {kk : Int} (hkk : kk = 0 ∨ kk = 1) {w : List Int} (hw : w.length ≤ 3) (hw2 : 2 ≤ w.length) {lc : Nat} (hlit : ∀ μ : gM, srOK μ → litC μ lc w)
    (hE : ∀ (f p : Nat) (cs : List Int), spL (f + 1) p cs = (if isW T n p w then (match sp o (skp T n (p + w.length)) with | Sum.inl e => Sum.inl e | Sum.inr (p1, c1) => spL f p1 (cs ++ (c1 ++ [11 - kk]))) else Sum.inr (p, cs)))
    (hE0 : ∀ p : Nat, spC o p = (match sp o p with | Sum.inl e => Sum.inl e | Sum.inr (p1, c1) => spL (n + 1) p1 c1)) : cPt T n S am (tRep al lo (d + 1)) (gCh2 F lc (iI kk)) spC o (e0 + 1) sl (fl + 40) := by
  intro μ p hL ha h4 h5
  have hz := hL.2.2.2.2
  obtain ⟨hpn, hsk⟩ := ha.le hT
  unfold gCh2
  refine pw_gu (by omega) (pw_let ?_)
  obtain ⟨m4, s1, s2, s3, s4, s5, s6⟩ := c_fa0 (al := al) (lo := lo) (d := d) hz (fun _ => []) hkk
  rw [s1]
  refine pw_bind (pw_some (pw_gu ⟨s5, s6⟩ ?_))
  have f4 : pF (gZ μ) μ m4 := s3.p
  have k4 : gI m4 1011 4 = iI o := (s3.at hz 4).trans h4
  have k5 : gI m4 1011 5 = iI am := (s3.at hz 5).trans h5
  have hF' : cPt T n S am (tRep al lo d) F sp o e0 sl (fl + 40) := fun μ p a b c d => pw_mono (hF μ p a b c d) (fun q hq => by
    obtain ⟨g0, ⟨p', cs, r, x1, x2, x3, x4, x5, x6⟩ | ⟨k, l, x1, x2, x3, x4⟩ | ⟨p', cs, x1, x2, x3, x4, x5⟩⟩ := hq
    · exact ⟨g0, Or.inl ⟨p', cs, r, x1, x2, x3, x4, x5, by omega⟩⟩
    · exact ⟨g0, Or.inr (Or.inl ⟨k, l, x1, x2, x3, by omega⟩)⟩
    · exact ⟨g0, Or.inr (Or.inr ⟨p', cs, x1, x2, x3, x4, by omega⟩)⟩)
  refine fStep (K := fun m' => gz_loop (fun q : (gM) => gB2 F lc (gZ μ) q) m') (E := fun m' => some (none, m')) hF (hL.p f4) (ha.p (s3.at hz 2)) k4 k5 s2 (by omega) (fun p' cs m' b1 b2 b3 b4 b5 b6 => ?_) (fun k' l m' b1 b2 b3 b4 => ?_) (fun p' cs m' b1 b2 b3 b4 b5 => ?_)
  · have hk := (hok o _ hpn hsk).get b1
    have hL' := (hL.p f4).pz hz b2
    refine fLoop (c := gZ μ) (p0 := p) (G := gC μ) (μ0 := μ) hT hSn he0 (by omega) hF' hok hkk hw hw2 hE (n + 1) 0 p' _ m' (by omega) hL' (hlit m' hL'.2.2.2.1) b3 b4 ((b2.at5 hz).trans k5) b5 (by omega) (f4.trans b2) (by omega) (fun p2 cs2 m2 e1 e2 e3 e4 e5 e6 => ?_) (fun k' l m2 e1 e2 e3 e4 => ?_) (fun p2 cs2 m2 e1 e2 e3 e4 e5 => ?_)
    · refine ⟨e2, Or.inl ⟨p2, cs2, gZ μ, ?_, rfl, e3, e4, e5, e6⟩⟩
      rw [hE0, b1]
      exact e1
    · refine ⟨e2, Or.inr (Or.inl ⟨k', l, ?_, rfl, e3, e4⟩)⟩
      rw [hE0, b1]
      exact e1
    · refine ⟨e3, Or.inr (Or.inr ⟨p2, cs2, ?_, e2, rfl, e4, e5⟩)⟩
      rw [hE0, b1]
      exact e1
  · have hb : gC m' + S * p ≤ gC μ + S * (n + 2) + (fl + 40) := by omega
    refine pw_some ⟨f4.trans b2, Or.inr (Or.inl ⟨k', l, ?_, rfl, b3, hb⟩)⟩
    rw [hE0, b1]
  · have hb : gC m' + S * p ≤ gC μ + S * (n + 2) + (fl + 40) := by omega
    refine pw_some ⟨f4.trans b3, Or.inr (Or.inr ⟨p', cs, ?_, b2, rfl, b4, hb⟩)⟩
    rw [hE0, b1]
    dsimp only
    rw [hE, if_neg (fun z => z.2.1 b2.2)]
theorem lit_of {c : Nat} {w : List Int} (h : (c, w) ∈ sTab) : ∀ μ : gM, srOK μ → litC μ c w := fun μ hs => ⟨(hs.1 _ h).1, by
  have := List.all_eq_true.mp sTab_low _ h
  simpa [Nat.blt_eq] using this, (hs.1 _ h).2⟩
theorem bothC {al : Int → Prop} {lo : Bool} {d o sl fl : Nat} {F : gM → Option (Option Nat × gM)} {sp : Nat → Nat → Rs (List Int)} (hT : tOK T n) (hSn : 2 * n + 1000 ≤ S) (hfl : 2 * n + 28 ≤ fl) (hF : cP T n S am (tRep al lo d) F sp o (sl + 40) fl) (hok : rsAll T n sp) : cPt T n S am (tRep al lo (d + 1)) (cf_X2_both F) (sBoth T n sp) o 1 sl (fl + 40) := by
  have := fRead (spL := sBothL T n sp o) (spC := sBoth T n sp) (kk := 1) (w := wAnd) (lc := 152) hT hSn (by omega) hfl hF.t hok (Or.inr rfl) (by decide) (by decide) (lit_of (by decide)) (fun f p cs => by rw [sBothL]; rfl) (fun p => rfl)
  exact this
theorem testC {al : Int → Prop} {lo : Bool} {d o sl fl : Nat} {F : gM → Option (Option Nat × gM)} {sp : Nat → Nat → Rs (List Int)} (hT : tOK T n) (hSn : 2 * n + 1000 ≤ S) (hfl : 2 * n + 28 ≤ fl) (hF : cP T n S am (tRep al lo d) F sp o (sl + 40 + 40) fl) (hok : rsAll T n sp) : cPt T n S am (tRep al lo (d + 1 + 1)) (cf_X2_test F) (sTest T n sp) o 2 sl (fl + 40 + 40) := by
  have := fRead (spL := sTestL T n sp o) (spC := sTest T n sp) (kk := 0) (w := wOr) (lc := 150) hT hSn (by omega) (by omega) (bothC hT hSn hfl hF hok) (sBoth_ok hT hok) (Or.inl rfl) (by decide) (by decide) (lit_of (by decide)) (fun f p cs => by rw [sTestL]; rfl) (fun p => rfl)
  exact this
end BothC
