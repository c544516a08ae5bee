/-! ===== facts ===== -/
def cQp (T : Nat → Int) (n S : Nat) (R : gM → Nat → List Int → Prop) (sp : Nat → Nat → Rs (List Int)) (o sl fl : Nat) (μ : gM) (p : Nat) (q : Option Nat × gM) : Prop := pF (gZ μ) μ q.2 ∧ ((∃ (p' : Nat) (cs : List Int) (r : Nat), sp o p = Sum.inr (p', cs) ∧ q.1 = some r ∧ Tv R (gZ μ) (gZ q.2) q.2 r cs ∧ cAt T n q.2 p' ∧ gI q.2 1011 4 = iI o ∧ gC q.2 + S * p + sl ≤ gC μ + S * p') ∨ ∃ (k : Int) (l : Nat), sp o p = Sum.inl (k, l) ∧ q.1 = none ∧ cErr q.2 k l ∧ gC q.2 + S * p ≤ gC μ + S * (n + 2) + fl)
section FactC
variable {T : Nat → Int} {n S : Nat} {ask : Bool}
theorem sum_gl {d o p : Nat} (h1 : isL (T p)) (h2 : alB T p) : sSum T n (sA T n ask (d + 1)) o p = Sum.inl (1, p) := by
  have e : sA T n ask (d + 1) o p = Sum.inl (1, p) := by
    show sAtomF T n ask (sA T n ask d) (sSum T n (sA T n ask d)) o p = _
    rw [atom_num (by omega) (fun z => z.2 h2), sNum_nd (by omega)]
  unfold sSum sProd
  rw [e]
theorem xE_b (hT : tOK T n) {p : Nat} (hp : p ≤ n) : xE T n p ≤ 2 * n + 28 := by
  have := wE_le hT hp
  unfold xE
  split <;> omega
/-- the second sum of a comparison -/
theorem thanC {D o : Nat} (hT : tOK T n) (hSn : 2 * n + 1000 ≤ S) (ho : o ≤ 6) (hD : 24 ≤ D) {ft : Nat → Nat → Rs (List Int)} {F : gM → Option (Option Nat × gM)} {μ m : gM} {p p1 r1 : Nat} {c1 : List Int} (hL : cLx T n μ) (h5 : gI μ 1011 5 = iI (mkA ask)) (hpn : p ≤ n) (hm : pF (gZ μ) μ m) (h2 : gI m 1011 2 = iI p1) (h4 : gI m 1011 4 = iI o) (hp1 : p1 < n) (hc : gC m + S * p ≤ gC μ + S * p1) (ht : Tv (vRep (alS ask) ask 26) (gZ μ) (gZ m) m r1 c1) (hx : T p1 = 60 ∨ T p1 = 62 ∨ T p1 = 61)
    (hsp : sFactF T n ask ft o p = (match sSum T n (sA T n ask 8) o (skp T n (p1 + 1)) with | Sum.inl e => Sum.inl e | Sum.inr (p2, c2) => Sum.inr (p2, c1 ++ (c2 ++ [if T p1 = 60 then 7 else if T p1 = 62 then 8 else 9])))) : pw (mj_X2_fact_148 F r1 (iI (T p1)) m) (cQp T n S (tRep (alS ask) ask (D + 3)) (sFactF T n ask ft) o 600 (4 * n + 400) μ p) := by
  have hz := hL.2.2.2.2
  have hmz := hm.1
  unfold mj_X2_fact_148
  refine pw_let ?_
  rw [h2, show iI (p1 : Int) + (1 : Int32) = iI ((p1 + 1 : Nat) : Int) by rw [iI_lit, iI_add]; rfl]
  have f1 : ∀ z : Nat, pF z m (gz_sI m 1011 2 (iI ((p1 + 1 : Nat) : Int))) := fun z => pF.sI (Or.inl (by unfold pX; omega))
  have z1 : (gz_sI m 1011 2 (iI ((p1 + 1 : Nat) : Int))).2.2.2.2.2 = m.2.2.2.2.2 := rfl
  have i2 : gI (gz_sI m 1011 2 (iI ((p1 + 1 : Nat) : Int))) 1011 2 = iI ((p1 + 1 : Nat) : Int) := by rw [sI_i, if_pos ⟨rfl, rfl⟩]
  have i4 : gI (gz_sI m 1011 2 (iI ((p1 + 1 : Nat) : Int))) 1011 4 = iI o := by rw [sI_i, if_neg (by omega)]; exact h4
  generalize gz_sI m 1011 2 (iI ((p1 + 1 : Nat) : Int)) = m1 at f1 z1 i2 i4
  have gz1 : gZ m1 = gZ m := congrArg Prod.fst z1
  have gc1 : gC m1 = gC m := zgC z1
  refine pw_gu (by omega) (pw_let ?_)
  have f3 : pF (gZ m1) m1 (gz_al m1 (18 + 1) 0 3) := pF.al (Nat.le_refl _)
  have k3 : gK (gz_al m1 (18 + 1) 0 3) (gZ m1) = 19 := by rw [al_k, if_pos rfl]
  have gz3 : gZ (gz_al m1 (18 + 1) 0 3) = gZ m1 + 1 := rfl
  have gc3 : gC (gz_al m1 (18 + 1) 0 3) = gC m1 + 11 := by
    show 8 * (gZ m1 + 1) + (gW m1 + 3) = 8 * gZ m1 + gW m1 + 11
    omega
  have j3 : ∀ j : Nat, gI (gz_al m1 (18 + 1) 0 3) 1011 j = gI m1 1011 j := fun j => by rw [al_i, if_neg (by omega)]
  generalize gz_al m1 (18 + 1) 0 3 = m3 at f3 k3 gz3 gc3 j3
  have f13 : pF (gZ m) m m3 := (f1 _).trans (f3.dn (by omega))
  have fm3 : pF (gZ μ) μ m3 := hm.trans (f13.dn hmz)
  have gsk := skp_ge T n (p1 + 1)
  have hskn := skp_le hT (show p1 + 1 ≤ n from hp1)
  have mu := mulU S gsk
  have hn := hT.1
  refine pw_bind (pw_mono (sumTop (ask := ask) hT hSn ho m3 (skp T n (p1 + 1)) (hL.p fm3) (cAt.of ((j3 2).trans i2) (by omega)) ((j3 4).trans i4) ((fm3.at5 hz).trans h5)) ?_)
  rintro ⟨o7, m5⟩ ⟨w0, ⟨p2, c2, r4, w1, w2, w3, w4, w5, w6⟩ | ⟨k, l, w1, w2, w3, w4⟩⟩
  rotate_left
  · dsimp only at w0 w2 w3 w4 ⊢
    subst w2
    refine pw_gu ⟨w0.1, w0.2.1⟩ (pw_gxn (pw_some ⟨fm3.trans (w0.dn (by omega)), Or.inr ⟨k, l, by rw [hsp, w1], rfl, w3, ?_⟩⟩))
    show gC m5 + S * p ≤ gC μ + S * (n + 2) + (4 * n + 400)
    omega
  dsimp only at w0 w2 w3 w4 w5 w6 ⊢
  subst w2
  have w0z := w0.1
  refine pw_gu ⟨w0.1, w0.2.1⟩ (pw_gxs ?_)
  have kc : gK m5 (gZ m1) = 19 := ((w0.2.2 (gZ m1) (by omega)).1).trans k3
  have r1z : r1 ≠ 0 := by have := ht.1; omega
  have r4z : r4 ≠ 0 := by have := w3.1; omega
  have init : cf_X21_init (gZ m1) r1 (iI (T p1)) r4 m5 = some ((), gz_sP (gz_sI (gz_sP m5 (gZ m1) 0 r1) (gZ m1) 2 (iI (T p1))) (gZ m1) 1 r4) := by
    unfold cf_X21_init cf_X17_init
    simp only [Option.bind_some, gz_let]
    rw [if_pos kc, if_pos (by omega), if_pos ⟨sr_hi2 (by omega) 0, r1z⟩, if_pos (show gK (gz_sP m5 (gZ m1) 0 r1) (gZ m1) = 19 from kc), if_pos (by omega), if_pos (show gK (gz_sI (gz_sP m5 (gZ m1) 0 r1) (gZ m1) 2 (iI (T p1))) (gZ m1) = 19 from kc), if_pos (by omega), if_pos ⟨sr_hi2 (by omega) 1, r4z⟩]
  rw [init]
  have z7 : (gz_sP (gz_sI (gz_sP m5 (gZ m1) 0 r1) (gZ m1) 2 (iI (T p1))) (gZ m1) 1 r4).2.2.2.2.2 = m5.2.2.2.2.2 := rfl
  have f7 : sFr (gZ m1) m5 (gz_sP (gz_sI (gz_sP m5 (gZ m1) 0 r1) (gZ m1) 2 (iI (T p1))) (gZ m1) 1 r4) := ((sFr.sP (Nat.le_refl _)).trans (sFr.sI (Nat.le_refl _))).trans (sFr.sP (Nat.le_refl _))
  have kc7 : gK (gz_sP (gz_sI (gz_sP m5 (gZ m1) 0 r1) (gZ m1) 2 (iI (T p1))) (gZ m1) 1 r4) (gZ m1) = 19 := kc
  have i7 : gI (gz_sP (gz_sI (gz_sP m5 (gZ m1) 0 r1) (gZ m1) 2 (iI (T p1))) (gZ m1) 1 r4) (gZ m1) 2 = iI (T p1) := by show gI (gz_sI (gz_sP m5 (gZ m1) 0 r1) (gZ m1) 2 (iI (T p1))) (gZ m1) 2 = _; rw [sI_i, if_pos ⟨rfl, rfl⟩]
  have p71 : gP (gz_sP (gz_sI (gz_sP m5 (gZ m1) 0 r1) (gZ m1) 2 (iI (T p1))) (gZ m1) 1 r4) (gZ m1) 1 = r4 := by rw [sP_p, if_pos ⟨rfl, rfl⟩]
  have p70 : gP (gz_sP (gz_sI (gz_sP m5 (gZ m1) 0 r1) (gZ m1) 2 (iI (T p1))) (gZ m1) 1 r4) (gZ m1) 0 = r1 := by
    rw [sP_p, if_neg (by omega)]
    show gP (gz_sP m5 (gZ m1) 0 r1) (gZ m1) 0 = r1
    rw [sP_p, if_pos ⟨rfl, rfl⟩]
  have hi7 : ∀ a b : Nat, gZ m1 < a → inR a b m5 (gz_sP (gz_sI (gz_sP m5 (gZ m1) 0 r1) (gZ m1) 2 (iI (T p1))) (gZ m1) 1 r4) := fun a b hab => fun x l r => by
    refine ⟨rfl, rfl, fun jj => ⟨?_, rfl, ?_⟩⟩
    · show gI (gz_sI (gz_sP m5 (gZ m1) 0 r1) (gZ m1) 2 (iI (T p1))) x jj = _
      rw [sI_i, if_neg (by omega)]
      rfl
    · rw [sP_p, if_neg (by omega)]
      show gP (gz_sP m5 (gZ m1) 0 r1) x jj = _
      rw [sP_p, if_neg (by omega)]
  generalize gz_sP (gz_sI (gz_sP m5 (gZ m1) 0 r1) (gZ m1) 2 (iI (T p1))) (gZ m1) 1 r4 = m7 at z7 f7 kc7 i7 p71 p70 hi7
  have gz7 : gZ m7 = gZ m5 := congrArg Prod.fst z7
  have gc7 : gC m7 = gC m5 := zgC z7
  have hk2 := (sSum_ok hT (sA_ok (ask := ask) hT 8) o _ hskn (skp_skp hT _)).get w1
  refine pw_bind (pw_some (pw_gu z7 (pw_some ⟨(fm3.trans (w0.dn (by omega))).trans (f7.dn (by omega)).p, Or.inl ⟨p2, _, gZ m1, by rw [hsp, w1], rfl, ?_, w4.p (f7.at (by omega) 2), (f7.at (by omega) 4).trans w5, ?_⟩⟩)))
  · refine ⟨⟨by omega, by show gZ m1 < gZ m7; omega⟩, ⟨hz, Nat.le_refl _⟩, fun μ' hi => ?_⟩
    obtain ⟨o1, o2, o3⟩ := hi (gZ m1) (by omega) (by show gZ m1 < gZ m7; omega)
    refine ⟨by omega, ks_hi (by omega), Or.inr (Or.inl ⟨o1.trans kc7, c1, c2, (if T p1 = 60 then 7 else if T p1 = 62 then 8 else 9), ?_, ?_, ?_, ?_, rfl⟩)⟩
    · split
      · omega
      · split <;> omega
    · rw [(o3 2).1, i7]
      rcases hx with e | e | e <;> rw [e] <;> rfl
    · rw [(o3 0).2.2, p70]
      refine vRep_le (d := 26) (by omega) (ht.2.2 μ' ?_)
      exact ((f13.i hz (Nat.le_refl _)).trans (w0.i hz (by omega))).trans (((f7.dn (by omega)).p.i hz (show gZ m ≤ gZ m by omega)).trans (hi.dn (Nat.le_refl _) (by show gZ m ≤ gZ m7; omega)))
    · rw [(o3 1).2.2, p71]
      refine vRep_le (d := 26) (by omega) (w3.2.2 μ' ?_)
      exact (hi7 _ _ (by omega)).trans (hi.dn (by omega) (by show gZ m5 ≤ gZ m7; omega))
  · show gC m7 + S * p + 600 ≤ gC μ + S * p2
    omega
end FactC
