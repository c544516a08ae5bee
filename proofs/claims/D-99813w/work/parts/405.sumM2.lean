section Goes
variable {T : Nat → Int} {n : Nat} {x1 : Int32} {Q : Unit × MM → Prop}
theorem gA.gd {m : MM} {a : Nat} (h : gA T n m a) : gd T n m (skp T n a) := ⟨a, h, rfl⟩
/-- the head of what goes on: no bracket closes -/
theorem goHead {m : MM} {C P V : List Int} {o b p : Nat} {ask : Bool} {R : Int32 × MM → Prop} (hL : lxM T n m) (g : gd T n m p) (h : eS m C (P ++ V) o b ask) (hl : (P ++ V).length ≤ 1700) (hP : prS P) (hb : b ≤ V.length) (htop : topB V b) (hno : T p ≠ 41 ∨ (brk V b ≠ 20 ∧ brk V b ≠ 23 ∧ brk V b ≠ 24)) (hR : ∀ m1 : MM, xF m m1 → gs T n m1 p → pw (mj_X6_qGoesOn_122 m1) R) : pw (mf_qGoesOn m) R := by
  obtain ⟨hT, -⟩ := id hL
  have hr := hT.r p
  unfold mf_qGoesOn ml_X6_qGoesOn_0
  refine pw_unroll ?_
  unfold mb_X6_qGoesOn_0
  refine pw_t g.z (pw_bind (pw_mono (p_look hL g) ?_))
  rintro ⟨r, m1⟩ ⟨rfl, k1, k2⟩
  dsimp only at k1 k2 ⊢
  by_cases c : T p = 41
  · have hno : brk V b ≠ 20 ∧ brk V b ≠ 23 ∧ brk V b ≠ 24 := by
      rcases hno with w | w
      · exact absurd c w
      · exact w
    have hS := h.x k1
    have hbr := p_qBracket hS hl hP hb htop
    have hbb : -1 ≤ brk V b ∧ brk V b < 100 := by
      unfold brk
      rcases htop with e | ⟨x, V', rfl, hx⟩
      · rw [if_pos e]; omega
      · split
        · omega
        · show -1 ≤ x ∧ x < 100; omega
    refine pw_t (by rw [c]; rfl) ?_
    rw [hbr]
    simp only [Option.bind_some]
    refine pw_f (by rw [iI_lit, iI_eq (by omega) (by omega)]; exact hno.1) ?_
    rw [hbr]
    simp only [Option.bind_some]
    refine pw_f (by rw [iI_lit, iI_eq (by omega) (by omega)]; exact hno.2.1) ?_
    rw [hbr]
    simp only [Option.bind_some]
    refine pw_f (by rw [iI_lit, iI_eq (by omega) (by omega)]; exact hno.2.2) (pw_map (pw_mono (hR m1 k1 k2) (fun q hq => hq)))
  · exact pw_f (by rw [iI_lit, iI_eq (by omega) (by omega)]; exact c) (pw_map (pw_mono (hR m1 k1 k2) (fun q hq => hq)))
theorem j140 {m : MM} {p : Nat} (hL : lxM T n m) (g : gA T n m (p + 1)) : mj_X6_qGoesOn_140 m = mj_X6_qGoesOn_161 (if T p = 42 then 3 else 4) m := by
  obtain ⟨hT, hM, -⟩ := id hL
  have hn := hT.1
  have hp := g.2.2.1
  have hr := hT.r p
  have e1 : iI ((p + 1 : Nat) : Int) - (1 : Int32) = iI (p : Int) := by rw [iI_lit, iI_sub]; exact congrArg iI (by omega)
  have gi : gz_ix (iI (p : Int)) = p := by rw [gix (by omega)]; omega
  unfold mj_X6_qGoesOn_140
  rw [g.2.1, e1, gi, hM p (by omega), if_pos ((gin_iI (by omega)).2 (by omega))]
  by_cases c : T p = 42
  · rw [if_pos (by rw [c]; rfl), if_pos c]
  · rw [if_neg (by rw [iI_lit, iI_eq (by omega) (by omega)]; exact c), if_neg c]
theorem j225 {m : MM} {p : Nat} (hL : lxM T n m) (g : gA T n m (p + 1)) : mj_X6_qGoesOn_225 m = mj_X6_qGoesOn_246 (if T p = 43 then 1 else 2) m := by
  obtain ⟨hT, hM, -⟩ := id hL
  have hn := hT.1
  have hp := g.2.2.1
  have hr := hT.r p
  have e1 : iI ((p + 1 : Nat) : Int) - (1 : Int32) = iI (p : Int) := by rw [iI_lit, iI_sub]; exact congrArg iI (by omega)
  have gi : gz_ix (iI (p : Int)) = p := by rw [gix (by omega)]; omega
  unfold mj_X6_qGoesOn_225
  rw [g.2.1, e1, gi, hM p (by omega), if_pos ((gin_iI (by omega)).2 (by omega))]
  by_cases c : T p = 43
  · rw [if_pos (by rw [c]; rfl), if_pos c]
  · rw [if_neg (by rw [iI_lit, iI_eq (by omega) (by omega)]; exact c), if_neg c]
theorem goMul {m : MM} {C P A V : List Int} {o b p : Nat} {ask : Bool} (hL : lxM T n m) (g : gd T n m p) (h : eS m C (P ++ (A ++ V)) o b ask) (hl : C.length + (P ++ (A ++ V)).length < 1700) (hP : ∀ x ∈ P, x = 3 ∨ x = 4) (hA : ∀ x ∈ A, x = 1 ∨ x = 2) (hb : b ≤ V.length) (htop : topB V b) (hV : wOK V) (hon : onT (A ++ V) 3 = false ∧ onT (A ++ V) 4 = false) (c : T p = 42 ∨ T p = 47) (hA' : ∀ m' : MM, gd T n m' (skp T n (p + 1)) → eS m' (P.reverse ++ C) ((if T p = 42 then 3 else 4) :: (A ++ V)) o b ask → qF m m' → pA x1 Q m') : pG x1 Q m := by
  obtain ⟨hT, -⟩ := id hL
  have hPA : prS (P ++ A) := fun x hx => by
    rcases List.mem_append.mp hx with z | z
    · rcases hP x z with z | z <;> omega
    · rcases hA x z with z | z <;> omega
  have hW : wOK (A ++ V) := fun x hx => by
    rcases List.mem_append.mp hx with z | z
    · rcases hA x z with z | z <;> omega
    · exact hV x z
  have h' : eS m C ((P ++ A) ++ V) o b ask := by rw [List.append_assoc]; exact h
  unfold pG
  refine goHead hL g h' (by rw [List.append_assoc]; omega) hPA hb htop (Or.inl (by omega)) (fun m1 k1 k2 => ?_)
  have hS := h.x k1
  have hL1 := hL.x k1
  have fin : ∀ m2 : MM, xF m1 m2 → gA T n m2 (p + 1) → pw (mj_X6_qGoesOn_140 m2) (fun q => pw (ml_X6_qSums_15 x1 (if q.1 = 0 then 0 else 1) q.2) Q) := by
    intro m2 a1 a2
    rw [j140 (hL1.x a1) a2]
    unfold mj_X6_qGoesOn_161
    have key : ∀ op : Int, pw (ml_X6_qGoesOn_162 (iI op) m2) (fun q => q.1 = 1 ∧ eS q.2 (P.reverse ++ C) (op :: (A ++ V)) o b ask ∧ yS m2 q.2) := fun op => loop162 (Q := fun q => q.1 = 1 ∧ eS q.2 (P.reverse ++ C) (op :: (A ++ V)) o b ask ∧ yS m2 q.2) hon hW P hP hl (hS.x a1) (fun m' b1 b2 => ⟨rfl, b1, b2⟩)
    have go : ∀ op : Int, op = (if T p = 42 then 3 else 4) → pw (ml_X6_qGoesOn_162 (iI op) m2) (fun q => pw (ml_X6_qSums_15 x1 (if q.1 = 0 then 0 else 1) q.2) Q) := by
      intro op hop
      refine pw_mono (key op) ?_
      rintro ⟨r, m3⟩ ⟨rfl, b1, b2⟩
      dsimp only at b1 b2 ⊢
      rw [if_neg n10]
      have g3 : gA T n m3 (p + 1) := a2.y b2
      exact sumsA g3.1 (hA' m3 g3.gd (by rw [← hop]; exact b1) ((k1.q.trans a1.q).trans b2.1))
    by_cases d : T p = 42
    · rw [if_pos d]; exact go 3 (by rw [if_pos d])
    · rw [if_neg d]; exact go 4 (by rw [if_neg d])
  unfold mj_X6_qGoesOn_122
  by_cases d : T p = 42
  · refine pw_bind (pw_mono (p_isSign hL1 k2.gd (c := 42) (by omega) (by decide) d) ?_)
    rintro ⟨r, m2⟩ ⟨rfl, a1, a2⟩
    exact pw_f n10 (fin m2 a1 a2)
  · refine pw_bind (pw_mono (p_noSign hL1 k2.gd (c := 42) (by omega) (by decide) d) ?_)
    rintro ⟨r, m2⟩ ⟨rfl, a1, a2⟩
    dsimp only at a1 a2 ⊢
    refine pw_t (by first | rfl | exact True.intro) (pw_bind (pw_mono (p_isSign (hL1.x a1) a2.gd (c := 47) (by omega) (by decide) (by omega)) ?_))
    rintro ⟨r, m3⟩ ⟨rfl, b1, b2⟩
    exact pw_f n10 (fin m3 (a1.trans b1) b2)
theorem goAdd {m : MM} {C P V : List Int} {o b p : Nat} {ask : Bool} (hL : lxM T n m) (g : gd T n m p) (h : eS m C (P ++ V) o b ask) (hl : C.length + (P ++ V).length < 1700) (hP : prS P) (hb : b ≤ V.length) (htop : topB V b) (hV : wOK V) (hon : onT V 3 = false ∧ onT V 4 = false ∧ onT V 1 = false ∧ onT V 2 = false) (c : T p = 43 ∨ T p = 45) (hA' : ∀ m' : MM, gd T n m' (skp T n (p + 1)) → eS m' (P.reverse ++ C) ((if T p = 43 then 1 else 2) :: V) o b ask → qF m m' → pA x1 Q m') : pG x1 Q m := by
  obtain ⟨hT, -⟩ := id hL
  unfold pG
  refine goHead hL g h (by omega) hP hb htop (Or.inl (by omega)) (fun m1 k1 k2 => ?_)
  have hS := h.x k1
  have hL1 := hL.x k1
  have fin : ∀ m2 : MM, xF m1 m2 → gA T n m2 (p + 1) → pw (mj_X6_qGoesOn_225 m2) (fun q => pw (ml_X6_qSums_15 x1 (if q.1 = 0 then 0 else 1) q.2) Q) := by
    intro m2 a1 a2
    rw [j225 (hL1.x a1) a2]
    unfold mj_X6_qGoesOn_246
    have key : ∀ op : Int, pw (ml_X6_qGoesOn_247 (iI op) m2) (fun q => q.1 = 1 ∧ eS q.2 (P.reverse ++ C) (op :: V) o b ask ∧ yS m2 q.2) := fun op => loop247 (Q := fun q => q.1 = 1 ∧ eS q.2 (P.reverse ++ C) (op :: V) o b ask ∧ yS m2 q.2) hon hV P hP hl (hS.x a1) (fun m' b1 b2 => ⟨rfl, b1, b2⟩)
    have go : ∀ op : Int, op = (if T p = 43 then 1 else 2) → pw (ml_X6_qGoesOn_247 (iI op) m2) (fun q => pw (ml_X6_qSums_15 x1 (if q.1 = 0 then 0 else 1) q.2) Q) := by
      intro op hop
      refine pw_mono (key op) ?_
      rintro ⟨r, m3⟩ ⟨rfl, b1, b2⟩
      dsimp only at b1 b2 ⊢
      rw [if_neg n10]
      have g3 : gA T n m3 (p + 1) := a2.y b2
      exact sumsA g3.1 (hA' m3 g3.gd (by rw [← hop]; exact b1) ((k1.q.trans a1.q).trans b2.1))
    by_cases d : T p = 43
    · rw [if_pos d]; exact go 1 (by rw [if_pos d])
    · rw [if_neg d]; exact go 2 (by rw [if_neg d])
  unfold mj_X6_qGoesOn_122
  refine pw_bind (pw_mono (p_noSign hL1 k2.gd (c := 42) (by omega) (by decide) (by omega)) ?_)
  rintro ⟨r, m2⟩ ⟨rfl, a1, a2⟩
  dsimp only at a1 a2 ⊢
  refine pw_t (by first | rfl | exact True.intro) (pw_bind (pw_mono (p_noSign (hL1.x a1) a2.gd (c := 47) (by omega) (by decide) (by omega)) ?_))
  rintro ⟨r, m3⟩ ⟨rfl, b1, b2⟩
  dsimp only at b1 b2 ⊢
  have hL3 := (hL1.x a1).x b1
  refine pw_t (by first | rfl | exact True.intro) ?_
  by_cases d : T p = 43
  · refine pw_bind (pw_mono (p_isSign hL3 b2.gd (c := 43) (by omega) (by decide) d) ?_)
    rintro ⟨r, m4⟩ ⟨rfl, d1, d2⟩
    exact pw_f n10 (fin m4 ((a1.trans b1).trans d1) d2)
  · refine pw_bind (pw_mono (p_noSign hL3 b2.gd (c := 43) (by omega) (by decide) d) ?_)
    rintro ⟨r, m4⟩ ⟨rfl, d1, d2⟩
    dsimp only at d1 d2 ⊢
    refine pw_t (by first | rfl | exact True.intro) (pw_bind (pw_mono (p_isSign (hL3.x d1) d2.gd (c := 45) (by omega) (by decide) (by omega)) ?_))
    rintro ⟨r, m5⟩ ⟨rfl, e1, e2⟩
    exact pw_f n10 (fin m5 (((a1.trans b1).trans d1).trans e1) e2)
/-- no sign follows: on to the brackets -/
theorem noSigns {m : MM} {p : Nat} {R : Int32 × MM → Prop} (hL : lxM T n m) (g : gs T n m p) (c : T p ≠ 42 ∧ T p ≠ 47 ∧ T p ≠ 43 ∧ T p ≠ 45) (hR : ∀ m1 : MM, xF m m1 → gs T n m1 p → pw ((mf_qBracket m1).bind fun (r17, m18) => (if r17 = (21 : Int32) then (mj_X6_qGoesOn_326 m18) else ((mf_qBracket m18).bind fun (r21, m22) => (if r21 = (22 : Int32) then (mj_X6_qGoesOn_326 m22) else ((mf_qBracket m22).bind fun (r25, m26) => (if r25 = (-1 : Int32) then (mj_X6_qGoesOn_386 m26) else (if (m26.1 2000 5) = (0 : Int32) then ((mf_fail (1 : Int32) (m26.1 2000 2) m26).bind fun (_, m31) => (mj_X6_qGoesOn_386 m31)) else (mj_X6_qGoesOn_386 m26)))))))) R) : pw (mj_X6_qGoesOn_122 m) R := by
  unfold mj_X6_qGoesOn_122
  refine pw_bind (pw_mono (p_noSign hL g.gd (c := 42) (by omega) (by decide) c.1) ?_)
  rintro ⟨r, m2⟩ ⟨rfl, a1, a2⟩
  dsimp only at a1 a2 ⊢
  refine pw_t (by first | rfl | exact True.intro) (pw_bind (pw_mono (p_noSign (hL.x a1) a2.gd (c := 47) (by omega) (by decide) c.2.1) ?_))
  rintro ⟨r, m3⟩ ⟨rfl, b1, b2⟩
  dsimp only at b1 b2 ⊢
  have hL3 := (hL.x a1).x b1
  refine pw_t (by first | rfl | exact True.intro) (pw_bind (pw_mono (p_noSign hL3 b2.gd (c := 43) (by omega) (by decide) c.2.2.1) ?_))
  rintro ⟨r, m4⟩ ⟨rfl, d1, d2⟩
  dsimp only at d1 d2 ⊢
  refine pw_t (by first | rfl | exact True.intro) (pw_bind (pw_mono (p_noSign (hL3.x d1) d2.gd (c := 45) (by omega) (by decide) c.2.2.2) ?_))
  rintro ⟨r, m5⟩ ⟨rfl, e1, e2⟩
  dsimp only at e1 e2 ⊢
  exact pw_t (by first | rfl | exact True.intro) (hR m5 (((a1.trans b1).trans d1).trans e1) e2)
theorem brk_br {x : Int} {V : List Int} {b : Nat} (h : (x :: V).length ≠ b) : brk (x :: V) b = x := by
  unfold brk
  rw [if_neg h]
  rfl
/-- the sum at the base is over -/
theorem goEnd {m : MM} {C P V : List Int} {o p b0 : Nat} {ask : Bool} (hL : lxM T n m) (g : gd T n m p) (h : eS m C (P ++ V) o V.length ask) (hl : C.length + (P ++ V).length < 1700) (hP : prS P) (c : T p ≠ 42 ∧ T p ≠ 47 ∧ T p ≠ 43 ∧ T p ≠ 45) (hQ : ∀ m' : MM, eS m' (P.reverse ++ C) V o b0 ask → gd T n m' p → qF m m' → Q ((), m')) : pG (iI b0) Q m := by
  unfold pG
  refine goHead hL g h (by omega) hP (Nat.le_refl _) (Or.inl rfl) (Or.inr (by unfold brk; rw [if_pos rfl]; omega)) (fun m1 k1 k2 => ?_)
  refine noSigns (hL.x k1) k2 c (fun m2 a1 a2 => ?_)
  have hS := (h.x k1).x a1
  have hbr := p_qBracket hS (by omega) hP (Nat.le_refl _) (Or.inl rfl)
  have eb : brk V V.length = -1 := by unfold brk; rw [if_pos rfl]
  rw [eb] at hbr
  unfold mj_X6_qGoesOn_386
  rw [hbr]
  simp only [Option.bind_some]
  refine pw_f (by decide) ?_
  rw [hbr]
  simp only [Option.bind_some]
  refine pw_f (by decide) ?_
  rw [hbr]
  simp only [Option.bind_some]
  refine pw_t (by decide) (pw_some ?_)
  dsimp only
  rw [if_pos rfl]
  exact sumsE_ok hl hS a2.gd (fun m' j1 j2 j3 => hQ m' j1 j2 ((k1.q.trans a1.q).trans j3))
/-- a round or a second bracket does not close: a fault -/
theorem goFail {m : MM} {C P V : List Int} {br : Int} {o b p : Nat} {ask : Bool} (hL : lxM T n m) (g : gd T n m p) (h : eS m C (P ++ br :: V) o b ask) (hl : C.length + (P ++ br :: V).length < 1640) (hP : prS P) (hb : b ≤ V.length) (hbr : br = 20 ∨ br = 23 ∨ br = 24) (c : T p ≠ 42 ∧ T p ≠ 47 ∧ T p ≠ 43 ∧ T p ≠ 45) (c2 : T p ≠ 41) (hQ : ∀ mE : MM, bq mE 1 p → qF m mE → Q ((), mE)) : pG x1 Q m := by
  have hb' : b ≤ (br :: V).length := by rw [List.length_cons]; omega
  have htop : topB (br :: V) b := Or.inr ⟨br, V, rfl, by omega⟩
  unfold pG
  refine goHead hL g h (by omega) hP hb' htop (Or.inl c2) (fun m1 k1 k2 => ?_)
  refine noSigns (hL.x k1) k2 c (fun m2 a1 a2 => ?_)
  have hS := (h.x k1).x a1
  have hbk := p_qBracket hS (by omega) hP hb' htop
  rw [brk_br (by rw [List.length_cons]; omega)] at hbk
  unfold mj_X6_qGoesOn_386
  rw [hbk]
  simp only [Option.bind_some]
  refine pw_f (by rw [iI_lit, iI_eq (by omega) (by omega)]; omega) ?_
  rw [hbk]
  simp only [Option.bind_some]
  refine pw_f (by rw [iI_lit, iI_eq (by omega) (by omega)]; omega) ?_
  rw [hbk]
  simp only [Option.bind_some]
  refine pw_f (by rw [show (-1 : Int32) = iI (-1) by decide, iI_eq (by omega) (by omega)]; omega) (pw_t a2.1.1 ?_)
  rw [a2.1.2.1]
  refine pw_bind (pw_mono (p_fail a2.1.1 (k := 1) (by omega) p) ?_)
  rintro ⟨⟨⟩, m3⟩ ⟨b1, b2⟩
  dsimp only at b1 b2 ⊢
  refine pw_some ?_
  dsimp only
  rw [if_pos rfl]
  exact sumsE_bad (bq.of b1 hS (by omega) b2) (fun mE j1 j2 => hQ mE j1 (((k1.q.trans a1.q).trans b2.q).trans j2))
/-- the lesser, the greater: on to the second sum -/
theorem goComma {m : MM} {C P V : List Int} {br : Int} {o b p : Nat} {ask : Bool} (hL : lxM T n m) (g : gd T n m p) (h : eS m C (P ++ br :: V) o b ask) (hl : C.length + (P ++ br :: V).length < 1640) (hP : prS P) (hb : b ≤ V.length) (hbr : br = 21 ∨ br = 22) (c : T p ≠ 42 ∧ T p ≠ 47 ∧ T p ≠ 43 ∧ T p ≠ 45) (hA : T p = 44 → ∀ m' : MM, gd T n m' (skp T n (p + 1)) → eS m' (P.reverse ++ C) ((br + 2) :: V) o b ask → qF m m' → pA x1 Q m') (hQ : T p ≠ 44 → ∀ mE : MM, bq mE 1 p → qF m mE → Q ((), mE)) : pG x1 Q m := by
  have hb' : b ≤ (br :: V).length := by rw [List.length_cons]; omega
  have htop : topB (br :: V) b := Or.inr ⟨br, V, rfl, by omega⟩
  have hbk0 : brk (br :: V) b = br := brk_br (by rw [List.length_cons]; omega)
  have hlen : (P ++ br :: V).length = P.length + V.length + 1 := by simp only [List.length_append, List.length_cons]; omega
  unfold pG
  refine goHead hL g h (by omega) hP hb' htop (Or.inr (by rw [hbk0]; omega)) (fun m1 k1 k2 => ?_)
  refine noSigns (hL.x k1) k2 c (fun m2 a1 a2 => ?_)
  have hS := (h.x k1).x a1
  have hL2 := (hL.x k1).x a1
  have hbk := p_qBracket hS (by omega) hP hb' htop
  rw [hbk0] at hbk
  have go : pw (mj_X6_qGoesOn_326 m2) (fun q => pw (ml_X6_qSums_15 x1 (if q.1 = 0 then 0 else 1) q.2) Q) := by
    unfold mj_X6_qGoesOn_326
    refine pw_bind (pw_mono (p_asksSign hL2 a2.gd (c := 44) (by omega) (by decide)) ?_)
    rintro ⟨⟨⟩, m3⟩ ⟨d1, ⟨e1, e2⟩ | ⟨e1, e2⟩⟩
    · dsimp only at d1 e2 ⊢
      refine pw_t e2.1 (pw_bind (pw_mono (p_qDropsTo hb' htop P hP (by omega) (hS.x d1)) ?_))
      rintro ⟨⟨⟩, m4⟩ ⟨f1, f2⟩
      dsimp only at f1 f2 ⊢
      obtain ⟨j1, j2, j3, j4, j5, j6, j7⟩ := id f1
      have ew : iI ((br :: V).length : Int) - (1 : Int32) = iI (V.length : Int) := by
        rw [iI_lit, iI_sub, List.length_cons]
        exact congrArg iI (by omega)
      have gi : gz_ix (iI (V.length : Int)) = V.length := by rw [gix (by omega)]; omega
      have hin : gz_in (iI (V.length : Int)) 1700 := (gin_iI (by omega)).2 (by omega)
      rw [j4, ew, gi, j3.1]
      simp only [gz_let]
      refine pw_gu hin (pw_gu hin (pw_some ?_))
      dsimp only
      rw [if_neg n10, show (2 : Int32) = iI 2 from rfl, iI_add]
      have g4 : gA T n (msI m4 1095 V.length (iI (br + 2))) (p + 1) := (e2.y f2).y (yS.sI (by omega))
      refine sumsA g4.1 (hA e1 _ g4.gd ⟨j1.mv (fun j hj => ?_), ?_, ⟨?_, j3.2.mv (fun j hj => ?_)⟩, ?_, ?_, ?_, ?_⟩ ((((k1.q.trans a1.q).trans d1.q).trans f2.1).trans (qF.sI (by unfold qX; omega))))
      · rw [msI_i, if_neg (by omega)]
      · rw [msI_i, if_neg (by omega)]; exact j2
      · rw [msI_i, if_pos ⟨rfl, rfl⟩]
      · rw [msI_i, if_neg (by omega)]
      · rw [msI_i, if_neg (by omega)]; exact j4
      · rw [msI_i, if_neg (by omega)]; exact j5
      · rw [msI_i, if_neg (by omega)]; exact j6
      · rw [msI_i, if_neg (by omega)]; exact j7
    · dsimp only at d1 e2 ⊢
      refine pw_f e2.ne (pw_some ?_)
      dsimp only
      rw [if_pos rfl]
      exact sumsE_bad (bq.of e2 hS (by omega) d1) (fun mE j1 j2 => hQ e1 mE j1 (((k1.q.trans a1.q).trans d1.q).trans j2))
  rw [hbk]
  simp only [Option.bind_some]
  by_cases d : br = 21
  · exact pw_t (by rw [d]; rfl) go
  · refine pw_f (by rw [iI_lit, iI_eq (by omega) (by omega)]; exact d) ?_
    rw [hbk]
    simp only [Option.bind_some]
    exact pw_t (by rw [show br = 22 by omega]; rfl) go
/-- a bracket closes -/
theorem goClose {m : MM} {C P V : List Int} {br : Int} {o b p : Nat} {ask : Bool} (hL : lxM T n m) (g : gd T n m p) (h : eS m C (P ++ br :: V) (o + 1) b ask) (hl : C.length + (P ++ br :: V).length < 1700) (ho : o ≤ 6) (hP : prS P) (hb : b ≤ V.length) (hbr : br = 20 ∨ br = 23 ∨ br = 24) (c : T p = 41) (hB : ∀ m' : MM, gd T n m' (skp T n (p + 1)) → eS m' ((if br = 20 then [] else [br - 18]) ++ (P.reverse ++ C)) V o b ask → qF m m' → pB x1 Q m') : pG x1 Q m := by
  obtain ⟨hT, -⟩ := id hL
  have hn := hT.1
  have hb' : b ≤ (br :: V).length := by rw [List.length_cons]; omega
  have htop : topB (br :: V) b := Or.inr ⟨br, V, rfl, by omega⟩
  have hbk0 : brk (br :: V) b = br := brk_br (by rw [List.length_cons]; omega)
  have hlen : (P ++ br :: V).length = P.length + V.length + 1 := by simp only [List.length_append, List.length_cons]; omega
  have hp := T_lt hT c (by omega)
  have key : ∀ m1 : MM, xF m m1 → gs T n m1 p → pw (mj_X6_qGoesOn_43 m1) (Sum.elim (fun s' => pw (gz_loop (fun q : MM => mb_X6_qGoesOn_0 q) s') (fun q => pw (ml_X6_qSums_15 x1 (if q.1 = 0 then 0 else 1) q.2) Q)) (fun q => pw (ml_X6_qSums_15 x1 (if q.1 = 0 then 0 else 1) q.2) Q)) := by
    intro m1 k1 k2
    have e1 : iI (p : Int) + (1 : Int32) = iI ((p + 1 : Nat) : Int) := by rw [iI_lit, iI_add]; rfl
    unfold mj_X6_qGoesOn_43
    rw [k2.1.2.1, e1]
    simp only [gz_let]
    have g2 : gA T n (msI m1 2000 2 (iI ((p + 1 : Nat) : Int))) (p + 1) := k2.1.step hT hp (by rw [c]; decide)
    have x2 : xF m (msI m1 2000 2 (iI ((p + 1 : Nat) : Int))) := k1.trans (xF.sI (by omega))
    generalize msI m1 2000 2 (iI ((p + 1 : Nat) : Int)) = m2 at g2 x2
    refine pw_bind (pw_mono (p_qDropsTo hb' htop P hP hl (h.x x2)) ?_)
    rintro ⟨⟨⟩, m3⟩ ⟨f1, f2⟩
    dsimp only at f1 f2 ⊢
    obtain ⟨j1, j2, j3, j4, j5, j6, j7⟩ := id f1
    have ew : iI ((br :: V).length : Int) - (1 : Int32) = iI (V.length : Int) := by
      rw [iI_lit, iI_sub, List.length_cons]
      exact congrArg iI (by omega)
    have eo : iI ((o + 1 : Nat) : Int) - (1 : Int32) = iI (o : Int) := by
      rw [iI_lit, iI_sub]
      exact congrArg iI (by omega)
    have gi : gz_ix (iI (V.length : Int)) = V.length := by rw [gix (by omega)]; omega
    have hin : gz_in (iI (V.length : Int)) 1700 := (gin_iI (by omega)).2 (by omega)
    rw [j4, ew]
    rw [show (msI m3 2000 95 (iI (V.length : Int))).1 2000 96 = iI ((o + 1 : Nat) : Int) by rw [msI_i, if_neg (by omega)]; exact j5, eo]
    have hS4 : eS (msI (msI m3 2000 95 (iI (V.length : Int))) 2000 96 (iI (o : Int))) (P.reverse ++ C) V o b ask := by
      refine ⟨j1.mv (fun j hj => ?_), ?_, j3.2.mv (fun j hj => ?_), ?_, ?_, ?_, ?_⟩
      · rw [msI_i, if_neg (by omega), msI_i, if_neg (by omega)]
      · rw [msI_i, if_neg (by omega), msI_i, if_neg (by omega)]; exact j2
      · rw [msI_i, if_neg (by omega), msI_i, if_neg (by omega)]
      · rw [msI_i, if_neg (by omega), msI_i, if_pos ⟨rfl, rfl⟩]
      · rw [msI_i, if_pos ⟨rfl, rfl⟩]
      · rw [msI_i, if_neg (by omega), msI_i, if_neg (by omega)]; exact j6
      · rw [msI_i, if_neg (by omega), msI_i, if_neg (by omega)]; exact j7
    have e95 : (msI (msI m3 2000 95 (iI (V.length : Int))) 2000 96 (iI (o : Int))).1 2000 95 = iI (V.length : Int) := hS4.2.2.2.1
    have eT : (msI (msI m3 2000 95 (iI (V.length : Int))) 2000 96 (iI (o : Int))).1 1095 V.length = iI br := by rw [msI_i, if_neg (by omega), msI_i, if_neg (by omega)]; exact j3.1
    have y4 : yS m3 (msI (msI m3 2000 95 (iI (V.length : Int))) 2000 96 (iI (o : Int))) := (yS.sI (by omega)).trans (yS.sI (by omega))
    generalize msI (msI m3 2000 95 (iI (V.length : Int))) 2000 96 (iI (o : Int)) = m4 at hS4 e95 eT y4
    rw [e95, gi, eT]
    have g4 : gA T n m4 (p + 1) := (g2.y f2).y y4
    have q4 : qF m m4 := (x2.q.trans f2.1).trans y4.1
    have end_ : ∀ m5 : MM, pB x1 Q m5 → pw (mj_X6_qGoesOn_115 m5) (Sum.elim (fun s' => pw (gz_loop (fun q : MM => mb_X6_qGoesOn_0 q) s') (fun q => pw (ml_X6_qSums_15 x1 (if q.1 = 0 then 0 else 1) q.2) Q)) (fun q => pw (ml_X6_qSums_15 x1 (if q.1 = 0 then 0 else 1) q.2) Q)) := by
      intro m5 hB5
      unfold mj_X6_qGoesOn_115
      refine pw_bind (pw_mono hB5 ?_)
      rintro ⟨⟨⟩, m6⟩ ⟨-, hG⟩
      exact pw_some hG
    refine pw_gu hin ?_
    by_cases d : br = 20
    · refine pw_t (by rw [d]; rfl) (end_ m4 (hB m4 g4.gd (by rw [if_pos d]; exact hS4) q4))
    · refine pw_f (by rw [iI_lit, iI_eq (by omega) (by omega)]; exact d) (pw_gu hin ?_)
      have cl : C.length + P.length < 1600 + 100 := by omega
      have code : ∀ v : Int, v = br - 18 → pw (mj_X6_qGoesOn_112 (iI v) m4) (Sum.elim (fun s' => pw (gz_loop (fun q : MM => mb_X6_qGoesOn_0 q) s') (fun q => pw (ml_X6_qSums_15 x1 (if q.1 = 0 then 0 else 1) q.2) Q)) (fun q => pw (ml_X6_qSums_15 x1 (if q.1 = 0 then 0 else 1) q.2) Q)) := by
        intro v hv
        unfold mj_X6_qGoesOn_112
        refine pw_bind (pw_mono (p_qCode hS4 (by simp only [List.length_append, List.length_reverse]; omega) v) ?_)
        rintro ⟨⟨⟩, m5⟩ ⟨t1, t2⟩
        dsimp only at t1 t2 ⊢
        exact end_ m5 (hB m5 (g4.y t2).gd (by rw [if_neg d, ← hv]; exact t1) (q4.trans t2.1))
      by_cases d2 : br = 23
      · exact pw_t (by rw [d2]; rfl) (code 5 (by omega))
      · exact pw_f (by rw [iI_lit, iI_eq (by omega) (by omega)]; exact d2) (code 6 (by omega))
  unfold pG mf_qGoesOn ml_X6_qGoesOn_0
  refine pw_unroll ?_
  unfold mb_X6_qGoesOn_0
  refine pw_t g.z (pw_bind (pw_mono (p_look hL g) ?_))
  rintro ⟨r, m1⟩ ⟨rfl, k1, k2⟩
  dsimp only at k1 k2 ⊢
  have hS := h.x k1
  have hbk := p_qBracket hS (by omega) hP hb' htop
  rw [hbk0] at hbk
  refine pw_t (by rw [c]; rfl) ?_
  rw [hbk]
  simp only [Option.bind_some]
  by_cases d : br = 20
  · exact pw_t (by rw [d]; rfl) (key m1 k1 k2)
  · refine pw_f (by rw [iI_lit, iI_eq (by omega) (by omega)]; exact d) ?_
    rw [hbk]
    simp only [Option.bind_some]
    by_cases d2 : br = 23
    · exact pw_t (by rw [d2]; rfl) (key m1 k1 k2)
    · refine pw_f (by rw [iI_lit, iI_eq (by omega) (by omega)]; exact d2) ?_
      rw [hbk]
      simp only [Option.bind_some]
      exact pw_t (by rw [show br = 24 by omega]; rfl) (key m1 k1 k2)
end Goes
