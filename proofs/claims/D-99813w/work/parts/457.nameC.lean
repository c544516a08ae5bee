/-! ===== the component: names ===== -/
theorem own_eq : ∀ j : Nat, j < 25 → sWd (cOWN.getD j 0) = ownW j := by decide +kernel
theorem own_mem : ∀ c ∈ cOWN, c ∈ cOWN ++ cASKED ++ cLOOKED ++ cTOLD := by decide +kernel
section NameC
variable {T : Nat → Int} {n : Nat} {μ : gM}
theorem isOwn_iff {p : Nat} (h1 : isL (T p)) (h2 : ¬ alB T p) : isOwn T n p ↔ ∃ j : Nat, j < 25 ∧ ownW j = wL T n p := by
  constructor
  · rintro ⟨k, hk, hw⟩
    exact ⟨k, List.mem_range.mp hk, ((isW_iff h1 h2).mp hw).symm⟩
  · rintro ⟨k, hk, hw⟩
    exact ⟨k, List.mem_range.mpr hk, (isW_iff h1 h2).mpr hw.symm⟩
theorem sName_own {p j : Nat} (h1 : isL (T p)) (h2 : ¬ alB T p) (hj : j < 25) (e : ownW j = wL T n p) : sName T n p = Sum.inl (1, p) := by
  unfold sName
  rw [if_pos (Or.inr (Or.inr ((isOwn_iff h1 h2).mpr ⟨j, hj, e⟩)))]
theorem sName_gd {p : Nat} (h1 : isL (T p)) (h2 : ¬ alB T p) (hno : ∀ j : Nat, j < 25 → ownW j ≠ wL T n p) : sName T n p = if p + 6 < wE T n p then Sum.inl (1, p + 6) else Sum.inr (skp T n (wE T n p), wL T n p) := by
  have own : ¬ isOwn T n p := fun q => by
    obtain ⟨j, j1, j2⟩ := (isOwn_iff h1 h2).mp q
    exact hno j j1 j2
  unfold sName
  rw [if_neg (fun q => ?_)]
  rcases q with q | q | q
  · exact q h1
  · exact h2 q
  · exact own q
theorem c_name (hL : cLx T n μ) {p : Nat} (h : cAt T n μ p) : pw (cf_X2_name μ) (fun q => pF (gZ μ) μ q.2 ∧ ((∃ (p' s : Nat) (w : List Int), sName T n p = Sum.inr (p', w) ∧ q.1 = some s ∧ (gZ μ ≤ s ∧ s < gZ q.2) ∧ strR q.2 s w ∧ (gZ μ ≤ gP q.2 s 0 ∧ gP q.2 s 0 < gZ q.2) ∧ cAt T n q.2 p' ∧ gI q.2 1011 3 = iI p ∧ gI q.2 1011 4 = gI μ 1011 4 ∧ gC q.2 ≤ gC μ + 40) ∨ ∃ (k : Int) (l : Nat), sName T n p = Sum.inl (k, l) ∧ q.1 = none ∧ cErr q.2 k l ∧ gC q.2 ≤ gC μ + (2 * n + 28))) := by
  obtain ⟨hT, -⟩ := id hL
  have hn := hT.1
  have hz := hL.2.2.2.2
  obtain ⟨hpn, hsk⟩ := h.le hT
  unfold cf_X2_name
  refine pw_bind (pw_mono (c_word hL h) ?_)
  rintro ⟨o, m2⟩ ⟨f2, hw⟩
  dsimp only at f2 hw ⊢
  refine pw_gu ⟨f2.1, f2.2.1⟩ ?_
  rcases hw with ⟨s, ⟨c1, c2⟩, e, hs, hs2, hs3, hs4, b1, b2, b3, b4⟩ | ⟨w2, e, e1, e2⟩
  · subst e
    refine pw_gxs ?_
    have hL2 := hL.p f2
    have hS := hL2.2.2.2.1
    obtain ⟨r, er, hr⟩ := c_find (L := cOWN) hs2 hS.2.1 (fun c hc => hS.str (own_mem c hc)) (by decide)
    have l25 : cOWN.length = 25 := by decide
    rw [er]
    refine pw_bind (pw_some (pw_gu rfl ?_))
    have hwe := wE_le hT hpn
    have hge := wE_ge T n p
    rcases hr with ⟨i, i1, i2, i3, -⟩ | ⟨i2, i3⟩
    · rw [l25] at i1
      have sp : sName T n p = Sum.inl (1, p) := sName_own c1 c2 i1 (by rw [← own_eq i i1]; exact i3)
      rw [b2]
      refine pw_f (by rw [i2, show (-1 : Int32) = iI (-1) by decide, iI_eq (by omega) (by omega)]; omega) ?_
      exact c_thr (α := Nat) (k := 1) (e := fun m2 => some (none, m2)) (fun μ' e1 e2 e3 => pw_some ⟨f2.trans (e3 _), Or.inr ⟨1, p, sp, rfl, e1, by rw [zgC e2, b4]; omega⟩⟩)
    · have sp := sName_gd (n := n) c1 c2 (fun j j1 j2 => i3 j (by rw [l25]; exact j1) (by rw [own_eq j j1]; exact j2))
      clear i3
      refine pw_t (by rw [i2]; exact (show iI (-1) = (-1 : Int32) by decide)) (pw_gu hs2.1.2.2.1 ?_)
      rw [c_length hs2]
      refine pw_bind (pw_some (pw_gu rfl ?_))
      rw [wL_len]
      by_cases c : p + 6 < wE T n p
      · rw [if_pos c] at sp
        rw [b2, show iI (p : Int) + 6 = iI ((p + 6 : Nat) : Int) by rw [show (6 : Int32) = iI 6 from rfl, iI_add]; rfl]
        refine pw_f (by rw [show (6 : Int32) = iI 6 from rfl, iI_le (by omega) (by omega)]; omega) ?_
        exact c_thr (α := Nat) (k := 1) (e := fun m2 => some (none, m2)) (fun μ' e1 e2 e3 => pw_some ⟨f2.trans (e3 _), Or.inr ⟨1, p + 6, sp, rfl, e1, by rw [zgC e2, b4]; omega⟩⟩)
      · rw [if_neg c] at sp
        refine pw_t (by rw [show (6 : Int32) = iI 6 from rfl, iI_le (by omega) (by omega)]; omega) (pw_some ⟨f2, Or.inl ⟨skp T n (wE T n p), s, wL T n p, sp, rfl, hs, hs2, hs4, cAt.of b1 hwe, b2, b3, by rw [b4]; omega⟩⟩)
  · subst e
    refine pw_gxn (pw_some ⟨f2, Or.inr ⟨1, p, ?_, rfl, e1, by rw [zgC e2]; omega⟩⟩)
    unfold sName
    rw [if_pos]
    by_cases q : isL (T p)
    · refine Or.inr (Or.inl (Classical.byContradiction (fun z => w2 ⟨q, z⟩)))
    · exact Or.inl q
/-- a name is looked for in a list -/
theorem c_find7 {r s N : Nat} {w : List Int} {L : Nat → Nat} {f : Nat → List Int} (hl : lsR μ r N L) (hN8 : N ≤ 100) (hp : ∀ k : Nat, k < N → (gK μ (L k) = 7 ∨ gK μ (L k) = 9) ∧ strR μ (gP μ (L k) 0) (f k)) (hs : strR μ s w) : cf_X7_find r s μ = some (iI (if fi f w N < N then (fi f w N : Int) else -1), μ) := by
  have hle := fi_le f w N
  have key : pw (cf_X7_find r s μ) (fun q => q = (iI (if fi f w N < N then (fi f w N : Int) else -1), μ)) := by
    unfold cf_X7_find ml_X7_find_2
    refine pw_for (fun (i : Nat) (q : Int32 × gM) => q = (iI i, μ)) (fi f w N) ?_ ?_ rfl
    · rintro i q hi rfl
      dsimp only
      obtain ⟨p1, p2⟩ := hp i (by omega)
      unfold mb_X7_find_2
      refine pw_gu hl.1.2.2.1 ?_
      rw [c_size hl.1]
      refine pw_bind (pw_some (pw_f (by rw [iI_le (by omega) (by omega)]; omega) (pw_gu hl.1.2.2.1 ?_)))
      rw [c_get hl.1 (by omega) (by omega), (hl.2.2.2.2.2 i (by omega)).1]
      refine pw_bind (pw_some (pw_gu p1 (pw_gu p1 (pw_let (pw_gu p2.1.1 (pw_gu p2.1.2.2.1 ?_))))))
      dsimp only
      rw [c_equals p2 hs]
      refine pw_bind (pw_some ?_)
      dsimp only
      rw [if_neg (fi_no N i hi)]
      refine pw_t (by first | rfl | exact True.intro) (pw_let (pw_some ?_))
      show (iI (i : Int) + 1, μ) = _
      rw [show iI (i : Int) + 1 = iI ((i + 1 : Nat) : Int) by rw [show (1 : Int32) = iI 1 from rfl, iI_add]; rfl]
    · rintro q rfl
      dsimp only
      unfold mb_X7_find_2
      refine pw_gu hl.1.2.2.1 ?_
      rw [c_size hl.1]
      by_cases c : fi f w N < N
      · obtain ⟨p1, p2⟩ := hp _ c
        refine pw_bind (pw_some (pw_f (by rw [iI_le (by omega) (by omega)]; omega) (pw_gu hl.1.2.2.1 ?_)))
        rw [c_get hl.1 (by omega) (by omega), (hl.2.2.2.2.2 _ c).1]
        refine pw_bind (pw_some (pw_gu p1 (pw_gu p1 (pw_let (pw_gu p2.1.1 (pw_gu p2.1.2.2.1 ?_))))))
        dsimp only
        rw [c_equals p2 hs]
        refine pw_bind (pw_some ?_)
        dsimp only
        rw [if_pos (fi_yes N c)]
        refine pw_f n10 (pw_some ?_)
        show (_, μ) = _
        rw [if_pos c]
      · refine pw_bind (pw_some (pw_t (by rw [iI_le (by omega) (by omega)]; omega) (pw_some ?_)))
        show ((-1 : Int32), μ) = _
        rw [if_neg c]
        rfl
  obtain ⟨q, e, rfl⟩ := key
  exact e
/-- the names of halls (0), of things (2) -/
def hNm (h : HS) (i : Nat) : Nat → List Int := if i = 0 then h.hn else h.tn
theorem hcR.names {c i : Nat} {h : HS} (hR : hcR μ c h) (hi : i = 0 ∨ i = 2) : ∃ L : Nat → Nat, lsR μ (lcC μ c i) (hN h i) L ∧ ∀ k : Nat, k < hN h i → (gK μ (L k) = 7 ∨ gK μ (L k) = 9) ∧ strR μ (gP μ (L k) 0) (hNm h i k) := by
  obtain ⟨L, l1, l2⟩ := hR.1.2.2 i (by omega)
  refine ⟨L, l1, fun k hk => ?_⟩
  have := (l2 k hk).2.get
  rcases hi with e | e
  · subst e
    obtain ⟨a, b⟩ := this
    exact ⟨Or.inl a, b⟩
  · subst e
    obtain ⟨a, b, -⟩ := this
    exact ⟨Or.inr a, b⟩
theorem hN_le {h : HS} (ho : hsOK h) (i : Nat) : hN h i ≤ 12 := by
  have a := ho.nh8
  have b := ho.nt8
  have c := ho.nd12
  have d := ho.ni12
  unfold hN
  split
  · omega
  · split
    · omega
    · split
      · omega
      · split <;> omega
theorem c_known {c i p : Nat} {h : HS} {but : Int} (hL : cLx T n μ) (ha : cAt T n μ p) (ho : hsOK h) (hR : hcR μ c h) (hi : i = 0 ∨ i = 2) (hbut : -1 ≤ but ∧ but < 100) : pw (cf_X2_known (lcC μ c i) (iI but) μ) (fun q => pF (gZ μ) μ q.2 ∧ ((∃ (p' k : Nat), sKnown T n (hNm h i) (hN h i) but p = Sum.inr (p', k) ∧ q.1 = some (iI k) ∧ cAt T n q.2 p' ∧ gI q.2 1011 3 = iI p ∧ gI q.2 1011 4 = gI μ 1011 4 ∧ gC q.2 ≤ gC μ + 40) ∨ ∃ (k : Int) (l : Nat), sKnown T n (hNm h i) (hN h i) but p = Sum.inl (k, l) ∧ q.1 = none ∧ cErr q.2 k l ∧ gC q.2 ≤ gC μ + (2 * n + 40))) := by
  have hN12 := hN_le ho i
  unfold cf_X2_known
  refine pw_bind (pw_mono (c_name hL ha) ?_)
  rintro ⟨o, m2⟩ ⟨f2, h2⟩
  dsimp only at f2 h2 ⊢
  refine pw_gu ⟨f2.1, f2.2.1⟩ ?_
  rcases h2 with ⟨p', s, w, es, e, hs, hs2, hs3, a2, b2, b3, b4⟩ | ⟨k, l, es, e, e1, e2⟩
  · subst e
    refine pw_gxs ?_
    have hR2 := hR.p f2
    obtain ⟨L, l1, l2⟩ := hR2.names hi
    have el : lcC m2 c i = lcC μ c i := ((f2.sm hR.1.1.2.1 hR.1.1.2.2).2.2 _).2.2
    rw [el] at l1
    have hle := fi_le (hNm h i) w (hN h i)
    rw [c_find7 l1 (by omega) l2 hs2]
    refine pw_bind (pw_some (pw_gu rfl ?_))
    have bad : ¬ (fi (hNm h i) w (hN h i) < hN h i ∧ (fi (hNm h i) w (hN h i) : Int) ≠ but) → pw (mj_X2_known_19 m2) (fun q => pF (gZ μ) μ q.2 ∧ ((∃ (p' k : Nat), sKnown T n (hNm h i) (hN h i) but p = Sum.inr (p', k) ∧ q.1 = some (iI k) ∧ cAt T n q.2 p' ∧ gI q.2 1011 3 = iI p ∧ gI q.2 1011 4 = gI μ 1011 4 ∧ gC q.2 ≤ gC μ + 40) ∨ ∃ (k : Int) (l : Nat), sKnown T n (hNm h i) (hN h i) but p = Sum.inl (k, l) ∧ q.1 = none ∧ cErr q.2 k l ∧ gC q.2 ≤ gC μ + (2 * n + 40))) := fun hb => by
      unfold mj_X2_known_19
      rw [b2]
      exact c_thr (α := Nat) (k := 3) (e := fun m2 => some (none, m2)) (fun μ' e1 e2 e3 => pw_some ⟨f2.trans (e3 _), Or.inr ⟨3, p, by unfold sKnown; rw [rB_r es, if_neg hb], rfl, e1, by have e4 : gC μ' = gC m2 := zgC e2; show gC μ' ≤ _; omega⟩⟩)
    by_cases c1 : fi (hNm h i) w (hN h i) < hN h i
    · rw [if_pos c1]
      refine pw_f (by rw [show (-1 : Int32) = iI (-1) by decide, iI_eq (by omega) (by omega)]; omega) ?_
      by_cases c2 : (fi (hNm h i) w (hN h i) : Int) = but
      · exact pw_t (by rw [c2]) (bad (fun q => q.2 c2))
      · refine pw_f (by rw [iI_eq (by omega) (by omega)]; exact c2) (pw_some ⟨f2, Or.inl ⟨p', fi (hNm h i) w (hN h i), by unfold sKnown; rw [rB_r es, if_pos ⟨c1, c2⟩], rfl, a2, b2, b3, b4⟩⟩)
    · rw [if_neg c1]
      exact pw_t (show iI (-1) = (-1 : Int32) by decide) (bad (fun q => c1 q.1))
  · subst e
    exact pw_gxn (pw_some ⟨f2, Or.inr ⟨k, l, by unfold sKnown; rw [rB_l es], rfl, e1, by show gC m2 ≤ _; omega⟩⟩)
theorem c_known1 {c i p : Nat} {h : HS} (hL : cLx T n μ) (ha : cAt T n μ p) (ho : hsOK h) (hR : hcR μ c h) (hi : i = 0 ∨ i = 2) : pw (cf_X2_known (lcC μ c i) (-1 : Int32) μ) (fun q => pF (gZ μ) μ q.2 ∧ ((∃ (p' k : Nat), sKnown T n (hNm h i) (hN h i) (-1) p = Sum.inr (p', k) ∧ q.1 = some (iI k) ∧ cAt T n q.2 p' ∧ gI q.2 1011 3 = iI p ∧ gI q.2 1011 4 = gI μ 1011 4 ∧ gC q.2 ≤ gC μ + 40) ∨ ∃ (k : Int) (l : Nat), sKnown T n (hNm h i) (hN h i) (-1) p = Sum.inl (k, l) ∧ q.1 = none ∧ cErr q.2 k l ∧ gC q.2 ≤ gC μ + (2 * n + 40))) := by
  rw [show (-1 : Int32) = iI (-1) by decide]
  exact c_known hL ha ho hR hi (by omega)
theorem c_isNamed {c s : Nat} {h : HS} {w : List Int} (ho : hsOK h) (hR : hcR μ c h) (hs : strR μ s w) : cf_X1_isNamed c s μ = some (if fi h.hn w h.nh < h.nh ∨ fi h.tn w h.nt < h.nt then 1 else 0, μ) := by
  obtain ⟨L0, l1, l2⟩ := hR.names (i := 0) (Or.inl rfl)
  obtain ⟨L2, m1, m2⟩ := hR.names (i := 2) (Or.inr rfl)
  have h8 := ho.nh8
  have h9 := ho.nt8
  have hle := fi_le h.hn w h.nh
  have hle2 := fi_le h.tn w h.nt
  have e0 : cf_X7_find (gP μ c 3) s μ = some (iI (if fi h.hn w h.nh < h.nh then (fi h.hn w h.nh : Int) else -1), μ) := c_find7 (f := h.hn) (N := h.nh) l1 (by omega) l2 hs
  have e2 : cf_X7_find (gP μ c 5) s μ = some (iI (if fi h.tn w h.nt < h.nt then (fi h.tn w h.nt : Int) else -1), μ) := c_find7 (f := h.tn) (N := h.nt) m1 (by omega) m2 hs
  have z0 : gP μ c 3 ≠ 0 := l1.1.1
  have z2 : gP μ c 5 ≠ 0 := m1.1.1
  unfold cf_X1_isNamed mj_X1_isNamed_24
  simp only [gz_let]
  rw [if_pos hR.1.1.1, if_pos z0, e0]
  simp only [Option.bind_some]
  by_cases q : fi h.hn w h.nh < h.nh
  · rw [if_pos q, if_neg (by rw [show (-1 : Int32) = iI (-1) by decide, iI_eq (by omega) (by omega)]; omega), if_pos (Or.inl q)]
  · rw [if_neg q, if_pos (by decide), if_pos hR.1.1.1, if_pos z2, e2]
    simp only [Option.bind_some]
    by_cases q2 : fi h.tn w h.nt < h.nt
    · rw [if_pos q2, if_neg (by rw [show (-1 : Int32) = iI (-1) by decide, iI_eq (by omega) (by omega)]; omega), if_pos (Or.inr q2)]
    · rw [if_neg q2, if_pos (by decide), if_neg (fun z => z.elim q q2)]
theorem c_fresh {c p : Nat} {h : HS} (hL : cLx T n μ) (ha : cAt T n μ p) (ho : hsOK h) (h6 : gP μ 1011 6 = c) (hR : hcR μ c h) : pw (cf_X2_fresh μ) (fun q => pF (gZ μ) μ q.2 ∧ ((∃ (p' s : Nat) (w : List Int), sFresh T n h p = Sum.inr (p', w) ∧ q.1 = some s ∧ (gZ μ ≤ s ∧ s < gZ q.2) ∧ strR q.2 s w ∧ (gZ μ ≤ gP q.2 s 0 ∧ gP q.2 s 0 < gZ q.2) ∧ cAt T n q.2 p' ∧ gI q.2 1011 4 = gI μ 1011 4 ∧ gC q.2 ≤ gC μ + 40) ∨ ∃ (k : Int) (l : Nat), sFresh T n h p = Sum.inl (k, l) ∧ q.1 = none ∧ cErr q.2 k l ∧ gC q.2 ≤ gC μ + (2 * n + 40))) := by
  have hz := hL.2.2.2.2
  unfold cf_X2_fresh
  refine pw_bind (pw_mono (c_name hL ha) ?_)
  rintro ⟨o, m2⟩ ⟨f2, h2⟩
  dsimp only at f2 h2 ⊢
  refine pw_gu ⟨f2.1, f2.2.1⟩ ?_
  rcases h2 with ⟨p', s, w, es, e, hs, hs2, hs3, a2, b2, b3, b4⟩ | ⟨k, l, es, e, e1, e2⟩
  · subst e
    refine pw_gxs (pw_let ?_)
    have hR2 := hR.p f2
    have e6 : gP m2 1011 6 = c := ((f2.2.2 1011 (by omega)).2.2 6).2.2.trans h6
    rw [e6]
    refine pw_gu (by have := hR.1.1.2.1; omega) (pw_gu hR2.1.1.1 ?_)
    rw [c_isNamed ho hR2 hs2]
    refine pw_bind (pw_some (pw_gu rfl ?_))
    by_cases q : fi h.hn w h.nh < h.nh ∨ fi h.tn w h.nt < h.nt
    · rw [if_pos q, b2]
      refine pw_f n10 ?_
      exact c_thr (α := Nat) (k := 3) (e := fun m2 => some (none, m2)) (fun μ' e1 e2 e3 => pw_some ⟨f2.trans (e3 _), Or.inr ⟨3, p, by unfold sFresh; rw [rB_r es, if_pos q], rfl, e1, by have e4 : gC μ' = gC m2 := zgC e2; show gC μ' ≤ _; omega⟩⟩)
    · rw [if_neg q]
      exact pw_t (by first | rfl | exact True.intro) (pw_some ⟨f2, Or.inl ⟨p', s, w, by unfold sFresh; rw [rB_r es, if_neg q], rfl, hs, hs2, hs3, a2, b3, b4⟩⟩)
  · subst e
    exact pw_gxn (pw_some ⟨f2, Or.inr ⟨k, l, by unfold sFresh; rw [rB_l es], rfl, e1, by show gC m2 ≤ _; omega⟩⟩)
theorem c_isTied {c a b : Nat} {h : HS} (ho : hsOK h) (hR : hcR μ c h) (ha : a < 8) (hb : b < 8) : cf_X1_isTied c (iI a) (iI b) μ = some (if fp h.iv a b h.ni = true then 1 else 0, μ) := by
  have h12 := ho.ni12
  have h9 := ho.nt8
  obtain ⟨L, l1, l2⟩ := hR.1.2.2 3 (by omega)
  have l1 : lsR μ (gP μ c 6) h.ni L := l1
  have hk := hR.1.1.1
  have key : pw (cf_X1_isTied c (iI a) (iI b) μ) (fun q => q = (if fp h.iv a b h.ni = true then 1 else 0, μ)) := by
    unfold cf_X1_isTied ml_X1_isTied_2
    refine pw_for (fun (i : Nat) (q : Int32 × Int32 × Int32 × gM) => q = (iI a, iI b, iI i, μ) ∧ ∀ k : Nat, k < i → h.iv k ≠ (a, b)) h.ni ?_ ?_ ⟨rfl, fun k hk => absurd hk (Nat.not_lt_zero _)⟩
    · rintro i q hi ⟨rfl, hno⟩
      dsimp only
      have pcs : gK μ (L i) = 10 ∧ gI μ (L i) 0 = iI (h.iv i).1 ∧ gI μ (L i) 1 = iI (h.iv i).2 := (l2 i hi).2.get
      obtain ⟨p1, p2, p3⟩ := pcs
      obtain ⟨o1, o2⟩ := ho.ivO i hi
      have go : (h.iv i ≠ (a, b)) → pw (mj_X1_isTied_57 c (iI a) (iI b) (iI i) μ) (Sum.elim (fun q : Int32 × Int32 × Int32 × gM => q = (iI a, iI b, iI ((i + 1 : Nat) : Int), μ) ∧ ∀ k : Nat, k < i + 1 → h.iv k ≠ (a, b)) (fun q => q = (if fp h.iv a b h.ni = true then 1 else 0, μ))) := fun hne => by
        unfold mj_X1_isTied_57
        refine pw_let (pw_some ⟨?_, fun k hk => ?_⟩)
        · rw [show iI (i : Int) + 1 = iI ((i + 1 : Nat) : Int) by rw [show (1 : Int32) = iI 1 from rfl, iI_add]; rfl]
        · by_cases e : k = i
          · rw [e]; exact hne
          · exact hno k (by omega)
      unfold mb_X1_isTied_2
      refine pw_gu hk (pw_let (pw_gu l1.1.1 (pw_gu l1.1.2.2.1 ?_)))
      rw [c_size l1.1]
      refine pw_bind (pw_some (pw_f (by rw [iI_le (by omega) (by omega)]; omega) (pw_gu hk (pw_let (pw_gu l1.1.1 (pw_gu l1.1.2.2.1 ?_))))))
      rw [c_get l1.1 (by omega) (by omega), (l1.2.2.2.2.2 i hi).1]
      refine pw_bind (pw_some (pw_gu p1 (pw_gu p1 ?_)))
      dsimp only
      rw [p2]
      refine pw_if (fun q => ?_) (fun q => go (fun e => q (by rw [e])))
      rw [iI_eq (by omega) (by omega)] at q
      refine pw_gu hk (pw_let (pw_gu l1.1.1 (pw_gu l1.1.2.2.1 ?_)))
      rw [c_get l1.1 (by omega) (by omega), (l1.2.2.2.2.2 i hi).1]
      refine pw_bind (pw_some (pw_gu p1 (pw_gu p1 ?_)))
      dsimp only
      rw [p3]
      refine pw_if (fun q2 => ?_) (fun q2 => go (fun e => q2 (by rw [e])))
      rw [iI_eq (by omega) (by omega)] at q2
      refine pw_some ?_
      show ((1 : Int32), μ) = _
      rw [if_pos ((fp_iff _).mpr ⟨i, hi, Prod.ext (by show (h.iv i).1 = a; omega) (by show (h.iv i).2 = b; omega)⟩)]
    · rintro q ⟨rfl, hno⟩
      dsimp only
      unfold mb_X1_isTied_2
      refine pw_gu hk (pw_let (pw_gu l1.1.1 (pw_gu l1.1.2.2.1 ?_)))
      rw [c_size l1.1]
      refine pw_bind (pw_some (pw_t (by rw [iI_le (by omega) (by omega)]; omega) (pw_some ?_)))
      show ((0 : Int32), μ) = _
      rw [if_neg (fun e => ?_)]
      obtain ⟨k, k1, k2⟩ := (fp_iff _).mp e
      exact hno k k1 k2
  obtain ⟨q, e, rfl⟩ := key
  exact e
end NameC
