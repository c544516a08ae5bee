/-! ===== products and sums are read ===== -/
theorem chC_congr {f f' : Nat → List Int} {g g' : Nat → Int} : ∀ (n : Nat), (∀ i : Nat, i ≤ n → f i = f' i) → (∀ i : Nat, 1 ≤ i → i ≤ n → g i = g' i) → chC f g n = chC f' g' n
  | 0, h, _ => h 0 (Nat.le_refl _)
  | n + 1, h, hg => by
    show chC f g n ++ (f (n + 1) ++ [g (n + 1)]) = chC f' g' n ++ (f' (n + 1) ++ [g' (n + 1)])
    rw [chC_congr n (fun i hi => h i (by omega)) (fun i h1 h2 => hg i h1 (by omega)), h (n + 1) (Nat.le_refl _), hg (n + 1) (by omega) (Nat.le_refl _)]
/-- what a reader of the component does, against what the spec says -/
def cP (T : Nat → Int) (n S : Nat) (am : Int) (R : gM → Nat → List Int → Prop) (F : gM → Option (Option Nat × gM)) (sp : Nat → Nat → Rs (List Int)) (o sl fl : Nat) : Prop := ∀ (μ : gM) (p : Nat), cLx T n μ → cAt T n μ p → gI μ 1011 4 = iI o → gI μ 1011 5 = iI am → pw (F μ) (fun q => pF (gZ μ) μ q.2 ∧ ((∃ (p' : Nat) (cs : List Int) (r : Nat), sp o p = Sum.inr (p', cs) ∧ q.1 = some r ∧ Tv R (gZ μ) (gZ q.2) q.2 r cs ∧ cAt T n q.2 p' ∧ gI q.2 1011 4 = iI o ∧ gC q.2 + S * p + sl ≤ gC μ + S * p') ∨ ∃ (k : Int) (l : Nat), sp o p = Sum.inl (k, l) ∧ q.1 = none ∧ cErr q.2 k l ∧ gC q.2 + S * p ≤ gC μ + S * (n + 2) + fl))
noncomputable def gB (F : gM → Option (Option Nat × gM)) (u v : Int32) (c1 : Nat) (x2 : Int32) (m : gM) : Option ((Int32 × gM) ⊕ (Option Nat × gM)) :=
  (if x2 = (0 : Int32) then some (Sum.inr (some c1, m)) else ((cf_X2_takes u m).bind fun (r2, m3) => (if m3.2.2.2.2.2 = m.2.2.2.2.2 then (if r2 = (0 : Int32) then ((cf_X2_takes v m3).bind fun (r7, m8) => (if m8.2.2.2.2.2 = m3.2.2.2.2.2 then (if r7 = (0 : Int32) then some (Sum.inl ((0 : Int32), m8)) else ((F m8).bind fun (o15, m13) => (if gZ m8 ≤ gZ m13 ∧ gW m8 ≤ gW m13 then gx_o o15 (fun r12 => (if gK m13 c1 = 11 then ((cf_X12_add c1 v r12 m13).bind fun (_, m19) => (if gZ m13 ≤ gZ m19 ∧ gW m13 ≤ gW m19 then some (Sum.inl (x2, m19)) else none)) else none)) (some (Sum.inr (none, m13))) else none))) else none)) else ((F m3).bind fun (o25, m23) => (if gZ m3 ≤ gZ m23 ∧ gW m3 ≤ gW m23 then gx_o o25 (fun r22 => (if gK m23 c1 = 11 then ((cf_X12_add c1 u r22 m23).bind fun (_, m29) => (if gZ m23 ≤ gZ m29 ∧ gW m23 ≤ gW m29 then some (Sum.inl (x2, m29)) else none)) else none)) (some (Sum.inr (none, m23))) else none))) else none)))
noncomputable def gCh (F : gM → Option (Option Nat × gM)) (u v : Int32) (m : gM) : Option (Option Nat × gM) :=
  (if gZ m ≠ 0 then gz_let (gz_al m (10 + 1) 0 2) fun m2 => ((cf_X12_init (gZ m) m2).bind fun (_, m4) => (if gZ m2 ≤ gZ m4 ∧ gW m2 ≤ gW m4 then ((F m4).bind fun (o10, m8) => (if gZ m4 ≤ gZ m8 ∧ gW m4 ≤ gW m8 then gx_o o10 (fun r7 => (if gK m8 (gZ m) = 11 then ((cf_X12_add (gZ m) u r7 m8).bind fun (_, m14) => (if gZ m8 ≤ gZ m14 ∧ gW m8 ≤ gW m14 then (gz_loop (fun q : (Int32 × gM) => gB F u v (gZ m) q.1 q.2) ((1 : Int32), m14)) else none)) else none)) (some (none, m8)) else none)) else none)) else none)
theorem product_eq (oR : gM → Option (Option Nat × gM)) (m : gM) : cf_X2_product oR m = gCh oR 42 47 m := rfl
theorem sum_eq (oR : gM → Option (Option Nat × gM)) (m : gM) : cf_X2_sum oR m = gCh (cf_X2_product oR) 43 45 m := rfl
section SumC
variable {T : Nat → Int} {n S : Nat} {am : Int}
theorem cLx.pz {μ μ' : gM} (h : cLx T n μ) {z : Nat} (hz : 2369 ≤ z) (hp : pF z μ μ') : cLx T n μ' := by
  obtain ⟨h1, h2, h3, h4, h5⟩ := h
  refine ⟨h1, fun k hk => ?_, ?_, h4.lo hp.lo (by omega), Nat.le_trans h5 hp.1⟩
  · rw [((hp.2.2 1010 (by omega)).2.2 k).1 (by unfold pX; omega)]
    exact h2 k hk
  · rw [((hp.2.2 1011 (by omega)).2.2 1).1 (by unfold pX; omega)]
    exact h3
theorem cAt.p {μ μ' : gM} {p : Nat} (h : cAt T n μ p) (hp : gI μ' 1011 2 = gI μ 1011 2) : cAt T n μ' p := by
  obtain ⟨a, h1, h2, h3⟩ := h
  exact ⟨a, hp.trans h1, h2, h3⟩
theorem sFr.at {c : Nat} {μ μ' : gM} (h : sFr c μ μ') (hc : 2369 ≤ c) (j : Nat) : gI μ' 1011 j = gI μ 1011 j := ((h.2.2 1011 (by omega)).2.2 j).1
theorem pF.at5 {z : Nat} {μ μ' : gM} (h : pF z μ μ') (hz : 2369 ≤ z) : gI μ' 1011 5 = gI μ 1011 5 := ((h.2.2 1011 (by omega)).2.2 5).1 (by unfold pX; omega)
theorem rX.at {μ μ' : gM} (h : rX μ μ') {j : Nat} (hj : j ≠ 2 ∧ j ≠ 3) : gI μ' 1011 j = gI μ 1011 j := h.2.2.2 1011 j (by omega)
/-- one part more is read and put to the chain -/
theorem gStep {al : Int → Prop} {lo : Bool} {d o sl fl : Nat} {F : gM → Option (Option Nat × gM)} {sp : Nat → Nat → Rs (List Int)} (hF : cP T n S am (vRep al lo d) F sp o sl fl) {c k p : Nat} {f : Nat → List Int} {g : Nat → Int} {m : gM} (hL : cLx T n m) (ha : cAt T n m p) (h4 : gI m 1011 4 = iI o) (h5 : gI m 1011 5 = iI am) (hC : chR al lo d m c k f g) (hk : k < 1200) (x : Int) {β : Type} {K : gM → Option β} {E : gM → Option β} {Q : β → Prop}
    (hok : ∀ (p' : Nat) (cs : List Int) (m' : gM), sp o p = Sum.inr (p', cs) → pF c m m' → cAt T n m' p' → gI m' 1011 4 = iI o → chR al lo d m' c (k + 1) (fun i => if i = k then cs else f i) (fun i => if i = k then x else g i) → gC m' + S * p + sl ≤ gC m + (4 * k + 19) + S * p' → pw (K m') Q)
    (hbad : ∀ (kk : Int) (l : Nat) (m' : gM), sp o p = Sum.inl (kk, l) → pF c m m' → cErr m' kk l → gC m' + S * p ≤ gC m + S * (n + 2) + fl → pw (E m') Q) : pw ((F m).bind fun (x' : Option Nat × gM) => (if gZ m ≤ gZ x'.2 ∧ gW m ≤ gW x'.2 then gx_o x'.1 (fun r22 => (if gK x'.2 c = 11 then ((cf_X12_add c (iI (sgn x)) r22 x'.2).bind fun (y : Unit × gM) => (if gZ x'.2 ≤ gZ y.2 ∧ gW x'.2 ≤ gW y.2 then K y.2 else none)) else none)) (E x'.2) else none)) Q := by
  have hc := hC.2.1
  refine pw_bind (pw_mono (hF m p hL ha h4 h5) ?_)
  rintro ⟨r, m1⟩ ⟨a1, ⟨p', cs, r', b1, b2, b3, b4, b5, b6⟩ | ⟨kk, l, b1, b2, b3, b4⟩⟩
  · dsimp only at a1 b2 b3 b4 b5 b6 ⊢
    subst b2
    refine pw_gu ⟨a1.1, a1.2.1⟩ (pw_gxs ?_)
    obtain ⟨m2, s1, s2, s3, s4⟩ := c_chAdd hC a1 hk b3 (Nat.le_refl _) x
    have kc : gK m1 c = 11 := ((a1.2.2 c hc.2).1).trans hC.1
    refine pw_gu kc ?_
    rw [s1]
    refine pw_bind (pw_some (pw_gu ⟨s3.1, s3.2.1⟩ ?_))
    exact hok p' cs m2 b1 ((a1.dn (by omega)).trans s3.p) (b4.p (s3.at hc.1 2)) ((s3.at hc.1 4).trans b5) s2 (by omega)
  · dsimp only at a1 b2 b3 b4 ⊢
    subst b2
    exact pw_gu ⟨a1.1, a1.2.1⟩ (pw_gxn (hbad kk l m1 b1 (a1.dn (by omega)) b3 b4))
/-- the rest of a chain -/
theorem gLoop {al : Int → Prop} {lo : Bool} {d o sl fl : Nat} {F : gM → Option (Option Nat × gM)} {sp : Nat → Nat → Rs (List Int)} (hT : tOK T n) (hSn : 2 * n + 1000 ≤ S) (hF : cP T n S am (vRep al lo d) F sp o sl fl) (hok : rsAll T n sp) {spL : Nat → Nat → List Int → Rs (List Int)} {ku kv : Int} (hku : (ku = 3 ∧ kv = 4) ∨ (ku = 1 ∧ kv = 2))
    (hE : ∀ (f p : Nat) (cs : List Int), spL (f + 1) p cs = (if T p = sgn ku ∨ T p = sgn kv then (match sp o (skp T n (p + 1)) with | Sum.inl e => Sum.inl e | Sum.inr (p1, c1) => spL f p1 (cs ++ (c1 ++ [if T p = sgn ku then ku else kv]))) else Sum.inr (p, cs)))
    {c p0 G : Nat} {μ0 : gM} {Q : Option Nat × gM → Prop} :
    ∀ (fu k p : Nat) (f : Nat → List Int) (g : Nat → Int) (m : gM), n < p + fu → cLx T n m → cAt T n m p → gI m 1011 4 = iI o → gI m 1011 5 = iI am → chR al lo d m c (k + 1) f g → (∀ i : Nat, 1 ≤ i → i ≤ k → 1 ≤ g i ∧ g i ≤ 4) → 2 * k + 1 + p0 ≤ p → pF c μ0 m → gC m + S * p0 + sl ≤ G + S * p →
    (∀ (p' : Nat) (cs : List Int) (m' : gM), spL fu p (chC f g k) = Sum.inr (p', cs) → pF c μ0 m' → Tv (vRep al lo (d + 1)) c (gZ m') m' c cs → cAt T n m' p' → gI m' 1011 4 = iI o → gC m' + S * p0 + sl ≤ G + S * p' → Q (some c, m')) →
    (∀ (kk : Int) (l : Nat) (m' : gM), spL fu p (chC f g k) = Sum.inl (kk, l) → pF c μ0 m' → cErr m' kk l → gC m' + S * p0 ≤ G + S * (n + 2) + fl → Q (none, m')) →
    pw (gz_loop (fun q : (Int32 × gM) => gB F (iI (sgn ku)) (iI (sgn kv)) c q.1 q.2) ((1 : Int32), m)) Q
  | 0, k, p, f, g, m, h1, _, ha, _, _, _, _, _, _, _, _, _ => by
    have := (ha.le hT).1
    omega
  | fu + 1, k, p, f, g, m, h1, hL, ha, h4, h5, hC, hg, h2k, hp0, hcost, hQ, hB => by
    have hn := hT.1
    obtain ⟨hpn, hsk⟩ := ha.le hT
    have hc := hC.2.1
    have hsu := sgn_b ku
    have hsv := sgn_b kv
    have hne : sgn ku ≠ sgn kv := by rcases hku with ⟨rfl, rfl⟩ | ⟨rfl, rfl⟩ <;> decide
    have n10 : ¬ (1 : Int32) = 0 := by decide
    have step : ∀ (x : Int) (m3 : gM), (x = ku ∧ T p = sgn ku ∨ x = kv ∧ T p = sgn kv) → rX m m3 → p < n → gI m3 1011 2 = iI ((p + 1 : Nat) : Int) → pw ((F m3).bind fun (x' : Option Nat × gM) => (if gZ m3 ≤ gZ x'.2 ∧ gW m3 ≤ gW x'.2 then gx_o x'.1 (fun r22 => (if gK x'.2 c = 11 then ((cf_X12_add c (iI (sgn x)) r22 x'.2).bind fun (y : Unit × gM) => (if gZ x'.2 ≤ gZ y.2 ∧ gW x'.2 ≤ gW y.2 then some (Sum.inl ((1 : Int32), y.2)) else none)) else none)) (some (Sum.inr (none, x'.2))) else none)) (Sum.elim (fun s' => pw (gz_loop (fun q : (Int32 × gM) => gB F (iI (sgn ku)) (iI (sgn kv)) c q.1 q.2) s') Q) Q) := by
      intro x m3 hx hr hpl h2
      have e3 : gC m3 = gC m := zgC hr.z
      have eop : (if T p = sgn ku then ku else kv) = x := by
        rcases hx with ⟨rfl, e⟩ | ⟨rfl, e⟩
        · rw [if_pos e]
        · rw [if_neg (fun z => hne (z.symm.trans e))]
      have hTp : T p = sgn ku ∨ T p = sgn kv := by
        rcases hx with ⟨_, e⟩ | ⟨_, e⟩
        · exact Or.inl e
        · exact Or.inr e
      have hx4 : 1 ≤ x ∧ x ≤ 4 := by omega
      have gsk := skp_ge T n (p + 1)
      have hskn := skp_le hT (show p + 1 ≤ n from hpl)
      have mul1 : S * p + S ≤ S * skp T n (p + 1) := by
        rw [← Nat.mul_succ]
        exact Nat.mul_le_mul_left _ gsk
      refine gStep (K := fun m' => some (Sum.inl ((1 : Int32), m'))) (E := fun m' => some (Sum.inr (none, m'))) hF (hL.p (hr.p _)) (cAt.of h2 (by omega)) ((hr.at (by omega)).trans h4) ((hr.at (by omega)).trans h5) (hC.mv ((hr.p (gZ m)).i hc.1 (Nat.le_refl _)) (by have := (hr.p (gZ m)).1; exact this)).1 (by omega) x (fun p' cs m' b1 b2 b3 b4 b5 b6 => ?_) (fun kk l m' b1 b2 b3 b4 => ?_)
      · refine pw_some ?_
        have hk := (hok o _ hskn (skp_skp hT _)).get b1
        have hcc : chC (fun i => if i = k + 1 then cs else f i) (fun i => if i = k + 1 then x else g i) (k + 1) = chC f g k ++ (cs ++ [x]) := by
          show chC _ _ k ++ ((if k + 1 = k + 1 then cs else f (k + 1)) ++ [if k + 1 = k + 1 then x else g (k + 1)]) = _
          rw [if_pos rfl, if_pos rfl, chC_congr k (fun i hi => if_neg (by omega)) (fun i _ hi => if_neg (by omega))]
        have eL : spL (fu + 1) p (chC f g k) = spL fu p' (chC f g k ++ (cs ++ [x])) := by
          rw [hE, if_pos hTp, b1, eop]
        have pfm : pF c μ0 m' := (hp0.trans (hr.p c)).trans b2
        have p5 : gI m' 1011 5 = iI am := ((b2.at5 hc.1).trans (hr.at (by omega))).trans h5
        refine gLoop hT hSn hF hok hku hE fu (k + 1) p' _ _ m' (by omega) ((hL.p (hr.p _)).pz hc.1 b2) b3 b4 p5 b5 (fun i i1 i2 => ?_) (by omega) pfm (by omega) (fun p2 cs2 m2 e1 e2 e3 e4 e5 e6 => hQ p2 cs2 m2 (by rw [eL, ← hcc]; exact e1) e2 e3 e4 e5 e6) (fun kk l m2 e1 e2 e3 e4 => hB kk l m2 (by rw [eL, ← hcc]; exact e1) e2 e3 e4)
        · by_cases q : i = k + 1
          · show 1 ≤ (if i = k + 1 then x else g i) ∧ (if i = k + 1 then x else g i) ≤ 4
            rw [if_pos q]; exact hx4
          · show 1 ≤ (if i = k + 1 then x else g i) ∧ (if i = k + 1 then x else g i) ≤ 4
            rw [if_neg q]; exact hg i i1 (by omega)
      · refine pw_some ?_
        refine hB kk l m' ?_ ((hp0.trans (hr.p c)).trans b2) b3 (by omega)
        rw [hE, if_pos hTp, b1]
    refine pw_unroll ?_
    show pw (gB F (iI (sgn ku)) (iI (sgn kv)) c (1 : Int32) m) _
    unfold gB
    rw [if_neg n10]
    refine pw_bind (pw_mono (c_takes hL ha (c := sgn ku) (by omega)) ?_)
    rintro ⟨r, m3⟩ ⟨a1, ⟨b1, b2, b3, b4⟩ | ⟨b1, b2, b4⟩⟩
    · dsimp only at a1 b2 b4 ⊢
      subst b2
      refine pw_gu a1.z (pw_f n10 ?_)
      exact step ku m3 (Or.inl ⟨rfl, b1⟩) a1 b3 b4
    · dsimp only at a1 b2 b4 ⊢
      subst b2
      refine pw_gu a1.z (pw_t (by first | rfl | exact True.intro) ?_)
      refine pw_bind (pw_mono (c_takes (hL.p (a1.p _)) (by have z := cAt.of (T := T) (n := n) b4 hpn; rw [hsk] at z; exact z) (c := sgn kv) (by omega)) ?_)
      rintro ⟨r, m8⟩ ⟨a2, ⟨d1, d2, d3, d4⟩ | ⟨d1, d2, d4⟩⟩
      · dsimp only at a2 d2 d4 ⊢
        subst d2
        refine pw_gu a2.z (pw_f n10 ?_)
        exact step kv m8 (Or.inr ⟨rfl, d1⟩) (a1.trans a2) d3 d4
      · dsimp only at a2 d2 d4 ⊢
        subst d2
        refine pw_gu a2.z (pw_t (by first | rfl | exact True.intro) (pw_some ?_))
        dsimp only [Sum.elim_inl]
        refine pw_unroll ?_
        show pw (gB F (iI (sgn ku)) (iI (sgn kv)) c (0 : Int32) m8) _
        unfold gB
        refine pw_t (by first | rfl | exact True.intro) (pw_some ?_)
        have a12 := a1.trans a2
        have eC : gC m8 = gC m := zgC a12.z
        have hC8 := (hC.mv ((a12.p (gZ m)).i hc.1 (Nat.le_refl _)) (a12.p (gZ m)).1).1
        refine hQ p _ m8 (by rw [hE, if_neg (fun z => z.elim b1 d1)]) (hp0.trans (a12.p c)) (hC8.tree (by omega) hg) ?_ ((a12.at (by omega)).trans h4) (by omega)
        have := cAt.of (T := T) (n := n) d4 hpn
        rw [hsk] at this
        exact this
/-- a chain is read whole -/
theorem gRead {al : Int → Prop} {lo : Bool} {d o sl fl : Nat} {F : gM → Option (Option Nat × gM)} {sp : Nat → Nat → Rs (List Int)} (hT : tOK T n) (hSn : 2 * n + 1000 ≤ S) (hF : cP T n S am (vRep al lo d) F sp o (sl + 86) fl) (hok : rsAll T n sp) {spL : Nat → Nat → List Int → Rs (List Int)} {spC : Nat → Nat → Rs (List Int)} {ku kv : Int} (hku : (ku = 3 ∧ kv = 4) ∨ (ku = 1 ∧ kv = 2))
    (hE : ∀ (f p : Nat) (cs : List Int), spL (f + 1) p cs = (if T p = sgn ku ∨ T p = sgn kv then (match sp o (skp T n (p + 1)) with | Sum.inl e => Sum.inl e | Sum.inr (p1, c1) => spL f p1 (cs ++ (c1 ++ [if T p = sgn ku then ku else kv]))) else Sum.inr (p, cs)))
    (hE0 : ∀ p : Nat, spC o p = (match sp o p with | Sum.inl e => Sum.inl e | Sum.inr (p1, c1) => spL (n + 1) p1 c1)) : cP T n S am (vRep al lo (d + 1)) (gCh F (iI (sgn ku)) (iI (sgn kv))) spC o sl (fl + 90) := by
  intro μ p hL ha h4 h5
  have hz := hL.2.2.2.2
  obtain ⟨hpn, hsk⟩ := ha.le hT
  unfold gCh
  refine pw_gu (by omega) (pw_let ?_)
  obtain ⟨m4, s1, s2, s3, s4, s5, s6⟩ := c_ch0 (al := al) (lo := lo) (d := d) hz (fun _ => []) (fun _ => 0)
  rw [s1]
  refine pw_bind (pw_some (pw_gu ⟨s5, s6⟩ ?_))
  have f4 : pF (gZ μ) μ m4 := s3.p
  have k4 : gI m4 1011 4 = iI o := (s3.at hz 4).trans h4
  have k5 : gI m4 1011 5 = iI am := (s3.at hz 5).trans h5
  refine gStep (K := fun m' => gz_loop (fun q : (Int32 × gM) => gB F (iI (sgn ku)) (iI (sgn kv)) (gZ μ) q.1 q.2) ((1 : Int32), m')) (E := fun m' => some (none, m')) hF (hL.p f4) (ha.p (s3.at hz 2)) k4 k5 s2 (by omega) ku (fun p' cs m' b1 b2 b3 b4 b5 b6 => ?_) (fun kk l m' b1 b2 b3 b4 => ?_)
  · have hk := (hok o _ hpn hsk).get b1
    refine gLoop (c := gZ μ) (p0 := p) (G := gC μ) (μ0 := μ) (sl := sl) (fl := fl + 90) hT hSn (fun μ p a b c d => pw_mono (hF μ p a b c d) (fun q hq => ?_)) hok hku hE (n + 1) 0 p' _ _ m' (by omega) ((hL.p f4).pz hz b2) b3 b4 ((b2.at5 hz).trans k5) b5 (fun i i1 i2 => absurd i2 (by omega)) (by omega) (f4.trans b2) (by omega) (fun p2 cs2 m2 e1 e2 e3 e4 e5 e6 => ?_) (fun kk l m2 e1 e2 e3 e4 => ?_)
    · refine ⟨hq.1, hq.2.elim (fun ⟨p', cs, r, a1, a2, a3, a4, a5, a6⟩ => Or.inl ⟨p', cs, r, a1, a2, a3, a4, a5, by omega⟩) (fun ⟨k, l, a1, a2, a3, a4⟩ => Or.inr ⟨k, l, a1, a2, a3, by omega⟩)⟩
    · refine ⟨e2, Or.inl ⟨p2, cs2, gZ μ, ?_, rfl, e3, e4, e5, e6⟩⟩
      rw [hE0, b1]
      exact e1
    · refine ⟨e2, Or.inr ⟨kk, l, ?_, rfl, e3, e4⟩⟩
      rw [hE0, b1]
      exact e1
  · have hb : gC m' + S * p ≤ gC μ + S * (n + 2) + (fl + 90) := by
      rw [s4] at b4
      generalize S * (n + 2) = A at b4 ⊢
      generalize S * p = B at b4 ⊢
      omega
    refine pw_some ⟨f4.trans b2, Or.inr ⟨kk, l, ?_, rfl, b3, hb⟩⟩
    rw [hE0, b1]
theorem productC {al : Int → Prop} {lo : Bool} {d o sl fl : Nat} {F : gM → Option (Option Nat × gM)} {sp : Nat → Nat → Rs (List Int)} (hT : tOK T n) (hSn : 2 * n + 1000 ≤ S) (hF : cP T n S am (vRep al lo d) F sp o (sl + 86) fl) (hok : rsAll T n sp) : cP T n S am (vRep al lo (d + 1)) (cf_X2_product F) (sProd T n sp) o sl (fl + 90) := by
  have := gRead (spL := sProdL T n sp o) (spC := sProd T n sp) (ku := 3) (kv := 4) hT hSn hF hok (Or.inl ⟨rfl, rfl⟩) (fun f p cs => by rw [sProdL]; rfl) (fun p => rfl)
  exact this
theorem sumC {al : Int → Prop} {lo : Bool} {d o sl fl : Nat} {F : gM → Option (Option Nat × gM)} {sp : Nat → Nat → Rs (List Int)} (hT : tOK T n) (hSn : 2 * n + 1000 ≤ S) (hF : cP T n S am (vRep al lo d) F sp o (sl + 86 + 86) fl) (hok : rsAll T n sp) : cP T n S am (vRep al lo (d + 1 + 1)) (cf_X2_sum F) (sSum T n sp) o sl (fl + 90 + 90) := by
  have := gRead (spL := sSumL T n sp o) (spC := sSum T n sp) (ku := 1) (kv := 2) hT hSn (productC hT hSn hF hok) (sProd_ok hT hok) (Or.inr ⟨rfl, rfl⟩) (fun f p cs => by rw [sSumL]; rfl) (fun p => rfl)
  exact this
end SumC
