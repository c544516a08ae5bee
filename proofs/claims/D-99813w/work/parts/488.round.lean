/-! ===== round: both sides ===== -/
theorem chB_at : ∀ (P : List (List Nat)), chB P = true → ∀ i : Nat, i < P.length → (i + 1 < P.length → nxL (P.getD i []) = some (P.getD (i + 1) [])) ∧ (i + 1 = P.length → nxL (P.getD i []) = none)
  | [], h, _, _ => by cases h
  | [o], h, i, hi => by
    have hi : i = 0 := by simp at hi; omega
    subst hi
    refine ⟨fun q => by simp at q, fun _ => ?_⟩
    have h : (nxL o).isNone = true := h
    show nxL o = none
    cases e : nxL o with
    | none => rfl
    | some x => rw [e] at h; cases h
  | o :: o' :: P, h, i, hi => by
    have h : ((match nxL o with | none => false | some q => q == o') && chB (o' :: P)) = true := h
    rw [Bool.and_eq_true] at h
    cases i with
    | zero =>
      refine ⟨fun _ => ?_, fun q => by simp at q⟩
      show nxL o = some o'
      cases e : nxL o with
      | none => rw [e] at h; exact absurd h.1 Bool.false_ne_true
      | some x =>
        rw [e] at h
        have : (x == o') = true := h.1
        rw [eq_of_beq this]
    | succ i =>
      have := chB_at (o' :: P) h.2 i (by simp at hi ⊢; omega)
      refine ⟨fun q => this.1 (by simp at q ⊢; omega), fun q => this.2 (by simp at q ⊢; omega)⟩
theorem bs_some {m : MM} {o : List Nat} {x : Int} {B : Option (Int × List Nat)} (eh : hrS m o = some x) : (B = none → bsS m B o = some (x, o)) ∧ ∀ b, B = some b → bsS m B o = if x < b.1 then some (x, o) else some b := by
  unfold bsS
  rw [eh]
  exact ⟨fun e => by subst e; rfl, fun b e => by subst e; rfl⟩
section RoundM
variable {m : MM} {l : List (Int × Int × Int)}
def bM (B : Option (Int × List Nat)) : Int := match B with
  | none => -1
  | some b => b.1
def hM1 (h : Option Int) : Int := match h with
  | none => -1
  | some x => x
theorem p_hoursBy {a : MM} {o : List Nat} (hM : rMany m) (hc : cOK m) (hT : tieOK m) (hwy : wyR m) (hN : okN m) (h10 : mi m 1051 0 ≤ 999) (h11 : 0 ≤ mi m 1051 1 ∧ mi m 1051 1 < 8) (hkp : kpM l m) (ht : tk m a) (hs : sE m a) (hl : o.length ≤ 4) (ho : ordOK m o) (ha : arM o a) : pw (mf_hoursBy (iI o.length) a) (fun q => tk m q.2 ∧ sE m q.2 ∧ (∀ c j : Nat, c = 1060 ∨ c = 1061 → q.2.1 c j = a.1 c j) ∧ q.1 = iI (hM1 (hrS m o)) ∧ (∀ h, hrS m o = some h → 0 ≤ h ∧ h ≤ 999)) := by
  have g0 : gz_ix (0 : Int32) = 0 := by decide
  have hb := hM.2.1
  have w0 : wlO m m := ⟨hhE.refl m, hN, h10, h11⟩
  have m0 := hN.1
  have bnd : ∀ h, hrS m o = some h → 0 ≤ h ∧ h ≤ 999 := fun h e => by
    unfold hrS at e
    split at e
    · cases e
    · rename_i w q
      injection e with e
      have h1 := trS_hour hM hwy o w0 ho q
      have h2 := (trS_ok hM hwy o w0 ho q).2.2.1
      omega
  have anew : ∀ (b : MM) (z : Int32), tk m b → viF a b → z = iI (hM1 (hrS m o)) → pw (mj_X6_hoursBy_51 z b) (fun q => tk m q.2 ∧ sE m q.2 ∧ (∀ c j : Nat, c = 1060 ∨ c = 1061 → q.2.1 c j = a.1 c j) ∧ q.1 = iI (hM1 (hrS m o)) ∧ (∀ h, hrS m o = some h → 0 ≤ h ∧ h ≤ 999)) := fun b z tb fb ez => by
    unfold mj_X6_hoursBy_51
    refine pw_bind (pw_mono (pw_and tb.anew (p_triesAnew b)) ?_)
    rintro ⟨⟨⟩, d⟩ ⟨⟨f1, f2, f3, f4⟩, g1, g2⟩
    dsimp only at f1 f2 f3 f4 g1 g2 ⊢
    refine pw_some ⟨f1, f1.sE f2 ?_ ?_, fun c j h => ?_, ez, bnd⟩
    · rw [f3, fb.1.1 _ _ (by omega)]; exact hs _ _ (by unfold kyC; omega)
    · rw [f4, fb.1.1 _ _ (by omega)]; exact hs _ _ (by unfold kyC; omega)
    · show d.1 c j = _
      rw [g1, if_neg (by omega)]; exact fb.1.1 _ _ (by omega)
  have bad : ∀ (b : MM), tk m b → viF a b → hrS m o = none → pw (mj_X6_hoursBy_30 0 b) (fun q => tk m q.2 ∧ sE m q.2 ∧ (∀ c j : Nat, c = 1060 ∨ c = 1061 → q.2.1 c j = a.1 c j) ∧ q.1 = iI (hM1 (hrS m o)) ∧ (∀ h, hrS m o = some h → 0 ≤ h ∧ h ≤ 999)) := fun b tb fb e => by
    unfold mj_X6_hoursBy_30
    refine pw_t rfl (anew b _ tb fb ?_)
    rw [e]
    show (-1 : Int32) = iI (-1)
    decide
  unfold mf_hoursBy ml_X6_hoursBy_4
  refine pw_for (fun i q => q.1 = iI o.length ∧ q.2.2.1 = iI (i : Int) ∧ tk m q.2.2.2 ∧ viF a q.2.2.2 ∧ ((q.2.1 = 1 ∧ ∃ w, wlO m w ∧ sE w q.2.2.2 ∧ trS w (o.drop i) = trS m o) ∨ (q.2.1 = 0 ∧ hrS m o = none))) o.length ?_ ?_ ⟨rfl, rfl, ht, viF.refl a, Or.inl ⟨rfl, m, w0, hs, rfl⟩⟩
  · rintro i ⟨y1, y2, y3, b⟩ hi ⟨e1, e3, tb, fb, h⟩
    dsimp only at e1 e3 tb fb h ⊢
    subst e1; subst e3
    unfold mb_X6_hoursBy_4
    refine pw_f (by rw [iI_le (by omega) (by omega)]; omega) ?_
    rcases h with ⟨e2, w, hw, sb, et⟩ | ⟨e2, en⟩
    · subst e2
      have gi : gz_ix (iI (i : Int)) = i := by rw [gix (by omega)]; omega
      have hd : o.drop i = o.getD i 0 :: o.drop (i + 1) := by
        rw [List.getD_eq_getElem?_getD, List.getElem?_eq_getElem hi, Option.getD_some]
        exact List.drop_eq_getElem_cons hi
      have hm : o.getD i 0 ∈ o := by
        rw [List.getD_eq_getElem?_getD, List.getElem?_eq_getElem hi, Option.getD_some]
        exact List.getElem_mem hi
      have tlt := ho _ hm
      refine pw_f n10 (pw_gu ((gin_iI (by omega)).2 (by omega)) ?_)
      rw [gi, fb.1.1 1060 i (by omega), ha i hi]
      refine pw_bind (pw_mono (p_visited hM hc hT hwy hw sb (tb.kp hkp) tb.2.2.2.1 tlt) ?_)
      rintro ⟨r, d⟩ ⟨d1, d2⟩
      dsimp only at d1 d2 ⊢
      rw [hd] at et
      refine pw_let (pw_some ⟨rfl, ?_, tb.hE d1.1 d1.2, fb.trans d1, ?_⟩)
      · show iI (i : Int) + (1 : Int32) = _
        rw [iI_lit, iI_add]; rfl
      · rcases d2 with ⟨w', ev, er, sd⟩ | ⟨ev, er⟩
        · refine Or.inl ⟨er, w', viS_ok hM hwy hw tlt ev, sd, ?_⟩
          rw [← et]
          show _ = (match viS (o.getD i 0) w with | none => none | some w' => trS w' (o.drop (i + 1)))
          rw [ev]
        · refine Or.inr ⟨er, ?_⟩
          unfold hrS
          rw [← et]
          show (match (match viS (o.getD i 0) w with | none => none | some w' => trS w' (o.drop (i + 1))) with | none => none | some w => some (mi w 1051 0 - mi m 1051 0)) = none
          rw [ev]
    · subst e2
      exact pw_t rfl (pw_map (pw_mono (bad b tb fb en) (fun z hz => hz)))
  · rintro ⟨y1, y2, y3, b⟩ ⟨e1, e3, tb, fb, h⟩
    dsimp only at e1 e3 tb fb h ⊢
    subst e1; subst e3
    unfold mb_X6_hoursBy_4
    refine pw_t (by rw [iI_le (by omega) (by omega)]; omega) (pw_map ?_)
    rcases h with ⟨e2, w, hw, sb, et⟩ | ⟨e2, en⟩
    · subst e2
      rw [List.drop_length, show trS w [] = some w from rfl] at et
      have en : hrS m o = some (mi w 1051 0 - mi m 1051 0) := by unfold hrS; rw [← et]
      unfold mj_X6_hoursBy_30
      refine pw_f n10 (pw_gu (by decide) (pw_gu (by decide) ?_))
      refine pw_mono (anew b _ tb fb ?_) (fun z hz => hz)
      rw [g0, mi_of b 1051 0, sb.n (by omega), tb.2.2.1 0 (by omega), mi_of m 1051 0, iI_sub, en]; rfl
    · subst e2
      exact pw_mono (bad b tb fb en) (fun z hz => hz)
/-- what was found so far, in the model -/
def lrM (m : MM) (K : Nat) (B : Option (Int × List Nat)) (a : MM) : Prop := tk m a ∧ sE m a ∧ ∀ b, B = some b → (0 ≤ b.1 ∧ b.1 ≤ 999) ∧ ∀ i : Nat, i < K → a.1 1061 i = iI ((b.2.getD i 0 : Nat) : Int)
theorem lrM.go {K : Nat} {B : Option (Int × List Nat)} {a b : MM} (h : lrM m K B a) (g : goF a b) : lrM m K B b := by
  obtain ⟨⟨t1, t2, t3, t4, t5⟩, h2, h3⟩ := h
  have e := g.1
  refine ⟨⟨fun c j k => (e c j (by unfold scM at k; omega)).trans (t1 c j k), fun c j k => by rw [g.2]; exact t2 c j k, fun j hj => (e _ _ (by omega)).trans (t3 j hj), by rw [e _ _ (by omega)]; exact t4, by unfold mi; rw [e _ _ (by omega)]; exact t5⟩, fun c j k => (e c j (by unfold kyC at k; omega)).trans (h2 c j k), fun x hx => ⟨(h3 x hx).1, fun i hi => (e _ _ (by omega)).trans ((h3 x hx).2 i hi)⟩⟩
theorem p_round107 {a : MM} {o : List Nat} {B : Option (Int × List Nat)} {Q : ((Int32 × Int32 × Int32 × MM) ⊕ (Int32 × MM)) → Prop} (hl : 1 ≤ o.length ∧ o.length ≤ 4) (h8 : o8 o) (ha : arM o a) (hL : lrM m o.length B a) (hQ1 : ∀ (b : MM) (o' : List Nat), nxL o = some o' → lrM m o.length B b → arM o' b → Q (Sum.inl (iI o.length, iI (bM B), 1, b))) (hQ2 : ∀ b : MM, nxL o = none → lrM m o.length B b → Q (Sum.inl (iI o.length, iI (bM B), 0, b))) : pw (mj_X6_laysRound_107 (iI o.length) (iI (bM B)) a) Q := by
  unfold mj_X6_laysRound_107
  refine pw_bind (pw_mono (p_goesOn ha hl h8) ?_)
  rintro ⟨r, b⟩ ⟨g, h⟩
  dsimp only at g h ⊢
  rcases h with ⟨o', e1, e2, e3⟩ | ⟨e1, e2, e3⟩
  · subst e2
    exact pw_some (hQ1 b o' e1 (hL.go g) e3)
  · subst e2
    exact pw_some (hQ2 b e1 (hL.go g))
theorem p_round46 {P : List (List Nat)} {K : Nat} (hM : rMany m) (hc : cOK m) (hT : tieOK m) (hwy : wyR m) (hN : okN m) (h10 : mi m 1051 0 ≤ 999) (h11 : 0 ≤ mi m 1051 1 ∧ mi m 1051 1 < 8) (hkp : kpM l m) (hK : 1 ≤ K ∧ K ≤ 4) (hP : chB P = true) (hA : ∀ o ∈ P, o.length = K ∧ ordOK m o ∧ o8 o) {a : MM} (hL : lrM m K none a) (ha : arM (P.headD []) a) : pw (ml_X6_laysRound_46 (iI K) (-1) 1 a) (fun q => q.1 = iI (bM (P.foldl (bsS m) none)) ∧ lrM m K (P.foldl (bsS m) none) q.2) := by
  have hne : 0 < P.length := by
    cases P with
    | nil => cases hP
    | cons _ _ => simp
  unfold ml_X6_laysRound_46
  refine pw_for (fun i q => q.1 = iI K ∧ q.2.1 = iI (bM ((P.take i).foldl (bsS m) none)) ∧ lrM m K ((P.take i).foldl (bsS m) none) q.2.2.2 ∧ ((i < P.length ∧ q.2.2.1 = 1 ∧ arM (P.getD i []) q.2.2.2) ∨ (i = P.length ∧ q.2.2.1 = 0))) P.length ?_ ?_ ⟨rfl, by show (-1 : Int32) = iI (-1); decide, by exact hL, Or.inl ⟨hne, rfl, ?_⟩⟩
  · rintro i ⟨y1, y2, y3, b⟩ hi ⟨e1, e2, L, h⟩
    dsimp only at e1 e2 L h ⊢
    subst e1; subst e2
    obtain ⟨-, e3, ar⟩ : i < P.length ∧ y3 = 1 ∧ arM (P.getD i []) b := by
      rcases h with h | h
      · exact h
      · omega
    subst e3
    obtain ⟨c1, c2⟩ := chB_at P hP i hi
    have hmem : P.getD i [] ∈ P := by
      rw [List.getD_eq_getElem?_getD, List.getElem?_eq_getElem hi, Option.getD_some]
      exact List.getElem_mem hi
    have htk : P.take (i + 1) = P.take i ++ [P.getD i []] := by
      rw [List.getD_eq_getElem?_getD, List.getElem?_eq_getElem hi, Option.getD_some]
      exact (List.take_append_getElem hi).symm
    have hf : (P.take (i + 1)).foldl (bsS m) none = bsS m ((P.take i).foldl (bsS m) none) (P.getD i []) := by
      rw [htk, List.foldl_append]; rfl
    rw [hf]
    obtain ⟨l1, l2, l3⟩ := hA _ hmem
    generalize hB : (P.take i).foldl (bsS m) none = B at *
    generalize hO : P.getD i [] = o at *
    subst l1
    unfold mb_X6_laysRound_46
    refine pw_f n10 ?_
    refine pw_bind (pw_mono (p_hoursBy hM hc hT hwy hN h10 h11 hkp L.1 L.2.1 hK.2 l2 ar) ?_)
    rintro ⟨r, d⟩ ⟨d1, d2, d3, d4, d5⟩
    dsimp only at d1 d2 d3 d4 d5 ⊢
    subst d4
    have Ld : lrM m o.length B d := ⟨d1, d2, fun x hx => ⟨(L.2.2 x hx).1, fun j hj => (d3 _ _ (Or.inr rfl)).trans ((L.2.2 x hx).2 j hj)⟩⟩
    have ard : arM o d := fun j hj => (d3 _ _ (Or.inl rfl)).trans (ar j hj)
    -- what follows
    have cont : ∀ (e : MM) (B' : Option (Int × List Nat)), bsS m B o = B' → lrM m o.length B' e → arM o e → pw (mj_X6_laysRound_107 (iI o.length) (iI (bM B')) e) (Sum.elim (fun q : Int32 × Int32 × Int32 × MM => q.1 = iI o.length ∧ q.2.1 = iI (bM (bsS m B o)) ∧ lrM m o.length (bsS m B o) q.2.2.2 ∧ ((i + 1 < P.length ∧ q.2.2.1 = 1 ∧ arM (P.getD (i + 1) []) q.2.2.2) ∨ (i + 1 = P.length ∧ q.2.2.1 = 0))) (fun q : Int32 × MM => q.1 = iI (bM (P.foldl (bsS m) none)) ∧ lrM m o.length (P.foldl (bsS m) none) q.2)) := fun e B' eB Le are => by
      subst eB
      refine p_round107 hK l3 are Le (fun b o' en Lb arb => ⟨rfl, rfl, Lb, ?_⟩) (fun b en Lb => ⟨rfl, rfl, Lb, ?_⟩)
      · rcases Nat.lt_or_ge (i + 1) P.length with q | q
        · refine Or.inl ⟨q, rfl, ?_⟩
          have := c1 q
          rw [en] at this
          injection this with this
          rw [← this]; exact arb
        · have := c2 (by omega)
          rw [en] at this
          cases this
      · rcases Nat.lt_or_ge (i + 1) P.length with q | q
        · have := c1 q
          rw [en] at this
          cases this
        · exact Or.inr ⟨by omega, rfl⟩
    cases eh : hrS m o with
    | none =>
      refine pw_t (show iI (-1) = (-1 : Int32) by decide) (cont d B ?_ Ld ard)
      unfold bsS; rw [eh]
    | some x =>
      have xb := d5 x eh
      have take : bsS m B o = some (x, o) → pw (mj_X6_laysRound_75 (iI o.length) (iI x) d) (Sum.elim (fun q : Int32 × Int32 × Int32 × MM => q.1 = iI o.length ∧ q.2.1 = iI (bM (bsS m B o)) ∧ lrM m o.length (bsS m B o) q.2.2.2 ∧ ((i + 1 < P.length ∧ q.2.2.1 = 1 ∧ arM (P.getD (i + 1) []) q.2.2.2) ∨ (i + 1 = P.length ∧ q.2.2.1 = 0))) (fun q : Int32 × MM => q.1 = iI (bM (P.foldl (bsS m) none)) ∧ lrM m o.length (P.foldl (bsS m) none) q.2)) := fun eB => by
        unfold mj_X6_laysRound_75 ml_X6_laysRound_81
        refine pw_for (fun j q => q.1 = iI o.length ∧ q.2.1 = iI x ∧ q.2.2.1 = iI (j : Int) ∧ (∀ c k : Nat, c ≠ 1061 → q.2.2.2.1 c k = d.1 c k) ∧ q.2.2.2.2 = d.2 ∧ ∀ k : Nat, k < j → q.2.2.2.1 1061 k = d.1 1060 k) o.length ?_ ?_ ⟨rfl, rfl, rfl, fun _ _ _ => rfl, rfl, fun k hk => absurd hk (Nat.not_lt_zero _)⟩
        · rintro j ⟨z1, z2, z3, e⟩ hj ⟨f1, f2, f3, f4, f5, f6⟩
          dsimp only at f1 f2 f3 f4 f5 f6 ⊢
          subst f1; subst f2; subst f3
          have gj : gz_ix (iI (j : Int)) = j := by rw [gix (by omega)]; omega
          have ij : gz_in (iI (j : Int)) 4 := (gin_iI (by omega)).2 (by omega)
          unfold mb_X6_laysRound_81
          rw [gj]
          refine pw_f (by rw [iI_le (by omega) (by omega)]; omega) (pw_gu ij (pw_gu ij (pw_let (pw_let (pw_some ⟨rfl, rfl, ?_, fun c k hk => ?_, f5, fun k hk => ?_⟩)))))
          · show iI (j : Int) + (1 : Int32) = _
            rw [iI_lit, iI_add]; rfl
          · show (msI e 1061 j (e.1 1060 j)).1 c k = _
            rw [msI_i, if_neg (fun w => hk w.1)]; exact f4 c k hk
          · show (msI e 1061 j (e.1 1060 j)).1 1061 k = _
            rw [msI_i]
            by_cases z : k = j
            · rw [if_pos ⟨rfl, z⟩, z]; exact f4 _ _ (by omega)
            · rw [if_neg (fun w => z w.2)]; exact f6 k (by omega)
        · rintro ⟨z1, z2, z3, e⟩ ⟨f1, f2, f3, f4, f5, f6⟩
          dsimp only at f1 f2 f3 f4 f5 f6 ⊢
          subst f1; subst f2; subst f3
          unfold mb_X6_laysRound_81
          refine pw_t (by rw [iI_le (by omega) (by omega)]; omega) (pw_map ?_)
          obtain ⟨⟨t1, t2, t3, t4, t5⟩, s2, -⟩ := Ld
          refine pw_mono (cont e (some (x, o)) eB ⟨⟨fun c j k => (f4 c j (by unfold scM at k; omega)).trans (t1 c j k), fun c j k => by rw [f5]; exact t2 c j k, fun j hj => (f4 _ _ (by omega)).trans (t3 j hj), by rw [f4 _ _ (by omega)]; exact t4, by unfold mi; rw [f4 _ _ (by omega)]; exact t5⟩, fun c j k => (f4 c j (by unfold kyC at k; omega)).trans (s2 c j k), fun b hb => ?_⟩ (fun j hj => (f4 _ _ (by omega)).trans (ard j hj))) (fun z hz => hz)
          injection hb with hb
          rw [← hb]
          exact ⟨xb, fun j hj => (f6 j hj).trans (ard j hj)⟩
      refine pw_f (show ¬ iI x = (-1 : Int32) by rw [show (-1 : Int32) = iI (-1) by decide, iI_eq (by omega) (by omega)]; omega) ?_
      have eB := bs_some (B := B) eh
      cases B with
      | none => exact pw_t (by decide) (take (eB.1 rfl))
      | some b =>
        have bb := (L.2.2 b rfl).1
        refine pw_f (show ¬ iI b.1 = (-1 : Int32) by rw [show (-1 : Int32) = iI (-1) by decide, iI_eq (by omega) (by omega)]; omega) ?_
        by_cases q : x < b.1
        · refine pw_f (show ¬ iI b.1 ≤ iI x by rw [iI_le (by omega) (by omega)]; omega) (take ?_)
          rw [eB.2 b rfl]; exact if_pos q
        · refine pw_t (show iI b.1 ≤ iI x by rw [iI_le (by omega) (by omega)]; omega) (cont d (some b) ?_ Ld ard)
          rw [eB.2 b rfl]; exact if_neg q
  · rintro ⟨y1, y2, y3, b⟩ ⟨e1, e2, L, h⟩
    dsimp only at e1 e2 L h ⊢
    subst e1; subst e2
    have e3 : y3 = 0 := by
      rcases h with h | h
      · omega
      · exact h.2
    subst e3
    rw [List.take_length] at L ⊢
    unfold mb_X6_laysRound_46
    exact pw_t rfl (pw_some ⟨rfl, L⟩)
  · have : P.headD [] = P.getD 0 [] := by cases P <;> rfl
    rw [← this]; exact ha
end RoundM
