/-! ===== the model: codes are told, a statement, all of them ===== -/
theorem cod_at {m : MM} : ∀ {C : List Int}, cod m C → ∀ j : Nat, j < C.length → m.1 1093 j = iI (C.reverse.getD j 0)
  | [], _, j, hj => absurd hj (Nat.not_lt_zero _)
  | c :: C, h, j, hj => by
    have hj : j < C.length + 1 := hj
    rw [List.reverse_cons, List.getD_eq_getElem?_getD]
    by_cases e : j = C.length
    · rw [List.getElem?_append_right (by rw [List.length_reverse]; omega), List.length_reverse, e, Nat.sub_self]
      exact h.1
    · rw [List.getElem?_append_left (by rw [List.length_reverse]; omega), ← List.getD_eq_getElem?_getD]
      exact cod_at h.2 j (by omega)
section StmtM
variable {T : Nat → Int} {n : Nat} {m : MM} {h : HS} {C : Nat}
/-- the codes are copied -/
theorem p_codes92 {x C0 L : Nat} {cs : List Int} {Q : Unit × MM → Prop} (hx : x < 2) (h93 : m.1 2000 93 = iI cs.length) (hC : C0 + cs.length ≤ 1600) (h46 : m.1 2000 46 = iI C0) (hq : ∀ j : Nat, j < cs.length → m.1 1093 j = iI (cs.getD j 0)) (hQ : ∀ m' : MM, (∀ c j : Nat, ¬ ((c = 1046 ∧ C0 ≤ j ∧ j < C0 + cs.length) ∨ (c = 2000 ∧ j = 46) ∨ (c = 1045 ∧ j = x)) → m'.1 c j = m.1 c j) → m'.2 = m.2 → (∀ j : Nat, j < cs.length → m'.1 1046 (C0 + j) = iI (cs.getD j 0)) → m'.1 2000 46 = iI ((C0 + cs.length : Nat) : Int) → m'.1 1045 x = iI ((C0 + cs.length : Nat) : Int) → Q ((), m')) : pw (ml_X6_codesTold_92 (iI x) (0 : Int32) m) Q := by
  unfold ml_X6_codesTold_92
  have gx : gz_ix (iI (x : Int)) = x := by rw [gix (by omega)]; omega
  refine pw_for (fun (i : Nat) (q : Int32 × Int32 × MM) => q.1 = iI x ∧ q.2.1 = iI i ∧ (∀ c j : Nat, ¬ ((c = 1046 ∧ C0 ≤ j ∧ j < C0 + cs.length) ∨ (c = 2000 ∧ j = 46)) → q.2.2.1 c j = m.1 c j) ∧ q.2.2.2 = m.2 ∧ (∀ j : Nat, j < i → q.2.2.1 1046 (C0 + j) = iI (cs.getD j 0)) ∧ q.2.2.1 2000 46 = iI ((C0 + i : Nat) : Int)) cs.length ?_ ?_ ⟨rfl, rfl, fun _ _ _ => rfl, rfl, fun j hj => absurd hj (Nat.not_lt_zero _), h46⟩
  · rintro i ⟨q1, q2, m1⟩ hi ⟨e1, e2, f1, f2, f3, f4⟩
    dsimp only at e1 e2 f1 f2 f3 f4 ⊢
    subst e1 e2
    have gi : gz_ix (iI (i : Int)) = i := by rw [gix (by omega)]; omega
    have gC' : gz_ix (iI ((C0 + i : Nat) : Int)) = C0 + i := by rw [gix (by omega)]; omega
    unfold mb_X6_codesTold_92
    rw [f1 2000 93 (by omega), h93, f4, gi, gC', f1 1093 i (by omega), hq i hi]
    refine pw_f (by rw [iI_le (by omega) (by omega)]; omega) (pw_gu ((gin_iI (by omega)).2 (by omega)) (pw_gu ((gin_iI (by omega)).2 (by omega)) (pw_let (pw_let (pw_let (pw_some ?_))))))
    have e46 : (msI m1 1046 (C0 + i) (iI (cs.getD i 0))).1 2000 46 + 1 = iI ((C0 + (i + 1) : Nat) : Int) := by
      rw [msI_i, if_neg (by omega), f4, show (1 : Int32) = iI 1 from rfl, iI_add]
      rfl
    rw [e46, show iI (i : Int) + 1 = iI ((i + 1 : Nat) : Int) by rw [show (1 : Int32) = iI 1 from rfl, iI_add]; rfl]
    refine ⟨rfl, rfl, fun c j k => ?_, f2, fun j hj => ?_, ?_⟩
    · show (msI (msI m1 1046 (C0 + i) (iI (cs.getD i 0))) 2000 46 (iI ((C0 + (i + 1) : Nat) : Int))).1 c j = _
      rw [msI_i, if_neg (by omega), msI_i, if_neg (by omega)]
      exact f1 c j k
    · show (msI (msI m1 1046 (C0 + i) (iI (cs.getD i 0))) 2000 46 (iI ((C0 + (i + 1) : Nat) : Int))).1 1046 (C0 + j) = _
      rw [msI_i, if_neg (by omega), msI_i]
      by_cases e : j = i
      · rw [if_pos ⟨rfl, by omega⟩, e]
      · rw [if_neg (by omega)]; exact f3 j (by omega)
    · show (msI (msI m1 1046 (C0 + i) (iI (cs.getD i 0))) 2000 46 (iI ((C0 + (i + 1) : Nat) : Int))).1 2000 46 = _
      rw [msI_i, if_pos ⟨rfl, rfl⟩]
  · rintro ⟨q1, q2, m1⟩ ⟨e1, e2, f1, f2, f3, f4⟩
    dsimp only at e1 e2 f1 f2 f3 f4 ⊢
    subst e1 e2
    unfold mb_X6_codesTold_92
    rw [f1 2000 93 (by omega), h93, f4, gx]
    refine pw_t (by rw [iI_le (by omega) (by omega)]; omega) (pw_gu ((gin_iI (by omega)).2 (by omega)) (pw_let (pw_some ?_)))
    refine hQ _ (fun c j k => ?_) f2 (fun j hj => ?_) ?_ ?_
    · rw [msI_i, if_neg (by omega)]; exact f1 c j (by omega)
    · rw [msI_i, if_neg (by omega)]; exact f3 j hj
    · rw [msI_i, if_neg (by omega)]; exact f4
    · rw [msI_i, if_pos ⟨rfl, rfl⟩]
/-- what telling gives, with codes -/
def tR (T : Nat → Int) (n : Nat) (m : MM) (s : Rs HS) (p C : Nat) (q : Unit × MM) : Prop := hF m q.2 ∧ ((∃ (k : Int) (l : Nat), s = Sum.inl (k, l) ∧ bd q.2 k l) ∨ ∃ (p' : Nat) (h' : HS) (C' : Nat), s = Sum.inr (p', h') ∧ gd T n q.2 p' ∧ hsM q.2 h' C' ∧ C' + p ≤ C + p')
theorem tQ.r {s : Rs HS} {p : Nat} {q : Unit × MM} (hs : ∀ p' h', s = Sum.inr (p', h') → p ≤ p') (h : tQ T n m s C q) : tR T n m s p C q := ⟨h.1, h.2.imp id (fun ⟨p', h', C', e, g, hM, hC⟩ => ⟨p', h', C', e, g, hM, by have := hs p' h' e; omega⟩)⟩
/-- behind the codes -/
theorem p_codes72 {x p : Nat} {m0 : MM} {s : Rs (List Int)} {sh : Rs HS} (hx : x < 2) (hM0 : hsM m0 h C) (hx0 : (x = 0 ∧ h.bu = none) ∨ (x = 1 ∧ h.mn = none)) (hF0 : hF m0 m) (hM : hsM m h C) (hn : n ≤ 1600) (hC : C ≤ p) (hsh : sh = rB s fun p1 cs => Sum.inr (p1, (HS.mk h.nh h.hn h.nt h.tn h.tv h.nd h.dv h.ni h.iv h.st h.dg (if x = 0 then some cs else h.bu) (if x = 0 then h.mn else some cs) h.sm)))
    (hr : (∃ (p' : Nat) (cs : List Int), s = Sum.inr (p', cs) ∧ (cs.length + p ≤ p' ∧ p' ≤ n) ∧ gd T n m p' ∧ eS m (cs.reverse ++ []) [] 0 0 false) ∨ ∃ (k : Int) (l : Nat), s = Sum.inl (k, l) ∧ bd m k l) : pw (mj_X6_codesTold_72 (iI x) m) (tR T n m0 sh p C) := by
  have gx : gz_ix (iI (x : Int)) = x := by rw [gix (by omega)]; omega
  unfold mj_X6_codesTold_72
  rcases hr with ⟨p', cs, es, ⟨l1, l2⟩, g, hE⟩ | ⟨k, l, es, b⟩
  · rw [List.append_nil] at hE
    refine pw_t g.z (pw_gu ((gin_iI (by omega)).2 (by omega)) (pw_let ?_))
    rw [gx, hM.cC]
    have F3 : ∀ c j : Nat, ¬ (c = 1044 ∧ j = x) → (msI m 1044 x (iI C)).1 c j = m.1 c j := fun c j k => by rw [msI_i, if_neg k]
    have y3 : (msI m 1044 x (iI C)).1 1044 x = iI C := by rw [msI_i, if_pos ⟨rfl, rfl⟩]
    have z3 : (msI m 1044 x (iI C)).2 = m.2 := rfl
    generalize msI m 1044 x (iI C) = m3 at F3 y3 z3
    have hE2 := hE.2.1
    rw [List.length_reverse] at hE2
    refine p_codes92 (L := 0) (C0 := C) (cs := cs) hx ((F3 _ _ (by omega)).trans hE2) (by omega) ((F3 _ _ (by omega)).trans hM.cC) (fun j hj => ?_) (fun m9 F9 z9 y9 c9 x9 => ?_)
    · rw [F3 _ _ (by omega)]
      have := cod_at hE.1 j (by rw [List.length_reverse]; exact hj)
      rw [List.reverse_reverse] at this
      exact this
    have F : ∀ c j : Nat, ¬ ((c = 1046 ∧ C ≤ j ∧ j < C + cs.length) ∨ (c = 2000 ∧ j = 46) ∨ ((c = 1045 ∨ c = 1044) ∧ j = x)) → m9.1 c j = m.1 c j := fun c j k => (F9 c j (by omega)).trans (F3 c j (by omega))
    have L : ∀ j : Nat, m9.2 1039 j = m.2 1039 j := fun j => by rw [z9, z3]
    have new : cdM m9 x (some cs) (C + cs.length) := ⟨C, (F9 _ _ (by omega)).trans y3, x9, Nat.le_refl _, y9⟩
    refine ⟨hF0.trans ⟨fun c j k => F c j (by unfold hX at k; omega), fun c j _ => by rw [z9, z3]⟩, Or.inr ⟨p', _, C + cs.length, by rw [hsh, rB_r es], g.mv (F _ _ (by omega)) (F _ _ (by omega)) (F _ _ (by omega)), ?_, by omega⟩⟩
    have old : ∀ (y : Nat) (o : Option (List Int)), y ≠ x → cdM m y o C → cdM m9 y o (C + cs.length) := fun y o hy ho => ho.mv (F _ _ (by omega)) (F _ _ (by omega)) (fun j hj => F _ _ (by omega)) (by omega)
    have hb0 : cdM m9 0 (if x = 0 then some cs else h.bu) (C + cs.length) := by
      by_cases e : x = 0
      · rw [if_pos e]; rw [e] at new; exact new
      · rw [if_neg e]; exact old 0 _ (by omega) hM.b0
    have hb1 : cdM m9 1 (if x = 0 then h.mn else some cs) (C + cs.length) := by
      by_cases e : x = 0
      · rw [if_pos e]; exact old 1 _ (by omega) hM.b1
      · rw [if_neg e]
        have e1 : x = 1 := by omega
        rw [e1] at new; exact new
    exact (hsM.mk (c0 := (F _ _ (by omega)).trans hM.c0) (c1 := (F _ _ (by omega)).trans hM.c1) (c2 := (F _ _ (by omega)).trans hM.c2) (c3 := (F _ _ (by omega)).trans hM.c3) (c4 := (F _ _ (by omega)).trans hM.c4) (c5 := (F _ _ (by omega)).trans hM.c5) (nH := fun k (hk : k < h.nh) => (L _).trans (hM.nH k hk)) (nT := fun k (hk : k < h.nt) => (L _).trans (hM.nT k hk)) (fD := fun k (hk : k < h.nd) => ⟨(F _ _ (by omega)).trans (hM.fD k hk).1, (F _ _ (by omega)).trans (hM.fD k hk).2.1, (F _ _ (by omega)).trans (hM.fD k hk).2.2⟩) (fT := fun k (hk : k < h.nt) => ⟨(F _ _ (by omega)).trans (hM.fT k hk).1, (F _ _ (by omega)).trans (hM.fT k hk).2.1, (F _ _ (by omega)).trans (hM.fT k hk).2.2⟩) (fI := fun k (hk : k < h.ni) => ⟨(F _ _ (by omega)).trans (hM.fI k hk).1, (F _ _ (by omega)).trans (hM.fI k hk).2⟩) (b0 := hb0) (b1 := hb1) (cC := c9) (sM := (F _ _ (by omega)).trans hM.sM))
  · exact pw_f b.ne (pw_some ⟨hF0, Or.inl ⟨k, l, by rw [hsh, rB_l es], b⟩⟩)
theorem p_codesTold {x p p0 : Nat} {sh : Rs HS} (hx : x < 2) (hL : lxM T n m) (g : gd T n m p) (hM : hsM m h C) (hC : C ≤ p) (hsh : sh = if x = 0 then sBurns T n h p0 p else sMinds T n h p0 p) : pw (mf_codesTold (iI x) (iI p0) m) (tR T n m sh p C) := by
  obtain ⟨hT, -⟩ := id hL
  have hn := hT.1
  have gx : gz_ix (iI (x : Int)) = x := by rw [gix (by omega)]; omega
  have hp := g.le hT
  unfold mf_codesTold
  have bad : (¬ (x = 0 ∧ h.bu = none) ∧ ¬ (x = 1 ∧ h.mn = none)) → sh = Sum.inl (5, p0) := fun hb => by
    rw [hsh]
    by_cases e : x = 0
    · rw [if_pos e]; unfold sBurns; rw [if_pos (fun q => hb.1 ⟨e, q⟩)]
    · rw [if_neg e]; unfold sMinds; rw [if_pos (fun q => hb.2 ⟨by omega, q⟩)]
  refine pw_t g.z (pw_gu ((gin_iI (by omega)).2 (by omega)) ?_)
  rw [gx]
  refine pw_if (fun q => ?_) (fun q => ?_)
  · have hno : (x = 0 ∧ h.bu = none) ∨ (x = 1 ∧ h.mn = none) := by
      have key : ∀ (y : Nat) (o : Option (List Int)), cdM m y o C → m.1 1044 y = -1 → o = none := fun y o ho hq => by
        cases o with
        | none => rfl
        | some cs =>
          obtain ⟨f, a1, -, a3, -⟩ := ho
          rw [a1, show (-1 : Int32) = iI (-1) by decide, iI_eq (by omega) (by omega)] at hq
          omega
      by_cases e : x = 0
      · exact Or.inl ⟨e, key 0 _ hM.b0 (by rw [e] at q; exact q)⟩
      · have e1 : x = 1 := by omega
        exact Or.inr ⟨e1, key 1 _ hM.b1 (by rw [e1] at q; exact q)⟩
    unfold mj_X6_codesTold_23
    refine pw_t g.z (pw_let (pw_let (pw_let (pw_let (pw_let ?_)))))
    have F6 : ∀ c j : Nat, ¬ (c = 2000 ∧ (j = 48 ∨ j = 93 ∨ j = 95 ∨ j = 96 ∨ j = 97)) → (msI (msI (msI (msI (msI m 2000 48 0) 2000 93 0) 2000 95 0) 2000 96 0) 2000 97 0).1 c j = m.1 c j := fun c j k => by rw [msI_i, if_neg (by omega), msI_i, if_neg (by omega), msI_i, if_neg (by omega), msI_i, if_neg (by omega), msI_i, if_neg (by omega)]
    have y6 : eS (msI (msI (msI (msI (msI m 2000 48 0) 2000 93 0) 2000 95 0) 2000 96 0) 2000 97 0) [] [] 0 0 false := by
      refine ⟨True.intro, ?_, True.intro, ?_, ?_, ?_, ?_⟩
      · rw [msI_i, if_neg (by omega), msI_i, if_neg (by omega), msI_i, if_neg (by omega), msI_i, if_pos ⟨rfl, rfl⟩]; rfl
      · rw [msI_i, if_neg (by omega), msI_i, if_neg (by omega), msI_i, if_pos ⟨rfl, rfl⟩]; rfl
      · rw [msI_i, if_neg (by omega), msI_i, if_pos ⟨rfl, rfl⟩]; rfl
      · rw [msI_i, if_pos ⟨rfl, rfl⟩]; rfl
      · rw [msI_i, if_neg (by omega), msI_i, if_neg (by omega), msI_i, if_neg (by omega), msI_i, if_neg (by omega), msI_i, if_pos ⟨rfl, rfl⟩]; rfl
    have z6 : (msI (msI (msI (msI (msI m 2000 48 0) 2000 93 0) 2000 95 0) 2000 96 0) 2000 97 0).2 = m.2 := rfl
    generalize msI (msI (msI (msI (msI m 2000 48 0) 2000 93 0) 2000 95 0) 2000 96 0) 2000 97 0 = m6 at F6 y6 z6
    have fr6 : hF m m6 := ⟨fun c j k => F6 c j (by unfold hX qX at k; omega), fun c j _ => by rw [z6]⟩
    have hM6 : hsM m6 h C := hM.mv (fun c j k => F6 c j (by omega)) (fun j => by rw [z6])
    have g6 : gd T n m6 p := g.mv (F6 _ _ (by omega)) (F6 _ _ (by omega)) (F6 _ _ (by omega))
    have hL6 := hL.h fr6
    rcases hno with ⟨e, hb⟩ | ⟨e, hb⟩
    · subst e
      refine pw_f (by decide) (pw_bind (pw_mono (p_qSums (ask := false) hT hL6 g6 y6 (Nat.zero_le _) (by omega) (by omega) (fun x hx => absurd hx List.not_mem_nil) ⟨rfl, rfl, rfl, rfl⟩) ?_))
      rintro ⟨⟨⟩, m9⟩ ⟨f9, h9⟩
      dsimp only at f9 h9 ⊢
      refine p_codes72 (x := 0) (p := p) (s := sSum T n (sA T n false 8) 0 p) (by omega) hM (Or.inl ⟨rfl, hb⟩) (fr6.trans f9.h) (hM6.q f9) hn hC ?_ ?_
      · rw [hsh, if_pos rfl]
        unfold sBurns
        rw [if_neg (fun q => q hb)]
        rfl
      · rcases h9 with ⟨p', cs, e1, g9, e9⟩ | ⟨k, l, e1, b9⟩
        · have a := (sSum_ok hT (sA_ok (ask := false) hT 8) 0 p hp.1 hp.2).get e1
          exact Or.inl ⟨p', cs, e1, ⟨a.2.2.2.1, a.2.1⟩, g9, e9⟩
        · exact Or.inr ⟨k, l, e1, b9.1⟩
    · subst e
      refine pw_t (by decide) (pw_bind (pw_mono (p_qTest (ask := false) hT hL6 g6 y6 (Nat.zero_le _) (by omega)) ?_))
      rintro ⟨⟨⟩, m9⟩ ⟨f9, h9⟩
      dsimp only at f9 h9 ⊢
      refine p_codes72 (x := 1) (p := p) (s := sTest T n (sF T n false 8) 0 p) (by omega) hM (Or.inr ⟨rfl, hb⟩) (fr6.trans f9.h) (hM6.q f9) hn hC ?_ ?_
      · rw [hsh, if_neg (by omega)]
        unfold sMinds
        rw [if_neg (fun q => q hb)]
        rfl
      · rcases h9 with ⟨p', cs, e1, g9, e9⟩ | ⟨k, l, e1, b9⟩
        · have a := (sTest_ok hT (sF_ok (ask := false) hT 8) 0 p hp.1 hp.2).get e1
          exact Or.inl ⟨p', cs, e1, ⟨a.2.2.2.1, a.2.1⟩, g9, e9⟩
        · exact Or.inr ⟨k, l, e1, b9⟩
  · have hno : ¬ (x = 0 ∧ h.bu = none) ∧ ¬ (x = 1 ∧ h.mn = none) := by
      refine ⟨fun ⟨e, hb⟩ => q ?_, fun ⟨e, hb⟩ => q ?_⟩
      · have := hM.b0; rw [hb] at this; rw [e]; exact this
      · have := hM.b1; rw [hb] at this; rw [e]; exact this
    refine pw_bind (pw_mono (p_fail g.z (k := 5) (by omega) p0) ?_)
    rintro ⟨⟨⟩, m2⟩ ⟨b1, b2⟩
    unfold mj_X6_codesTold_23
    exact pw_f b1.ne (pw_some ⟨b2.h, Or.inl ⟨5, p0, bad hno, b1⟩⟩)
/-- a statement's end -/
def sQ (T : Nat → Int) (n : Nat) (m : MM) (s : Rs HS) (q : Unit × MM) : Prop := hF m q.2 ∧ ((∃ (k : Int) (l : Nat), s = Sum.inl (k, l) ∧ bd q.2 k l) ∨ ∃ (p' : Nat) (h' : HS) (C' : Nat), s = Sum.inr (p', h') ∧ gd T n q.2 p' ∧ hsM q.2 h' C' ∧ C' ≤ p')
theorem p_stmt184 {p : Nat} {m0 : MM} {s : Rs HS} (hT : tOK T n) (hL0 : lxM T n m0) (hF0 : hF m0 m) (hS : h.sm ≠ 60) (hsm : m0.1 2000 47 = iI h.sm) (ho : hsOK h) (hC : C ≤ p) (hk : ∀ p1 h1, s = Sum.inr (p1, h1) → h1.sm = h.sm) (hr : (∃ (k : Int) (l : Nat), s = Sum.inl (k, l) ∧ bd m k l) ∨ ∃ (p' : Nat) (h' : HS) (C' : Nat), s = Sum.inr (p', h') ∧ gd T n m p' ∧ hsM m h' C' ∧ C' + p ≤ C + p') : pw (mj_X6_statementTold_184 m) (sQ T n m0 (rB s fun p1 h1 => rB (sSgn T n p1 59) fun p2 _ => Sum.inr (p2, (HS.mk h1.nh h1.hn h1.nt h1.tn h1.tv h1.nd h1.dv h1.ni h1.iv h1.st h1.dg h1.bu h1.mn (h.sm + 1))))) := by
  unfold mj_X6_statementTold_184
  rcases hr with ⟨k, l, es, b⟩ | ⟨p1, h1, C1, es, g1, hM1, hC1⟩
  · rw [p_asksSign_bad b.ne]
    refine pw_bind (pw_some (pw_let (pw_some ⟨hF0.trans (hF.sI (by unfold hX; omega)), Or.inl ⟨k, l, rB_l es, ⟨b.1, ?_, ?_⟩⟩⟩)))
    · show (msI m 2000 47 _).1 2000 5 = _
      rw [msI_i, if_neg (by omega)]; exact b.2.1
    · show (msI m 2000 47 _).1 2000 6 = _
      rw [msI_i, if_neg (by omega)]; exact b.2.2
  · have hk1 := hk p1 h1 es
    have h60 := ho.smO
    refine pw_bind (pw_mono (p_asksSign (hL0.h hF0) g1 (c := 59) (by omega) (by decide)) ?_)
    rintro ⟨⟨⟩, m2⟩ ⟨x2, h2⟩
    dsimp only at x2 h2 ⊢
    have hM2 := hM1.x x2
    refine pw_let (pw_some ?_)
    have F : ∀ c j : Nat, ¬ (c = 2000 ∧ j = 47) → (msI m2 2000 47 (m2.1 2000 47 + 1)).1 c j = m2.1 c j := fun c j k => by rw [msI_i, if_neg k]
    have y : (msI m2 2000 47 (m2.1 2000 47 + 1)).1 2000 47 = iI ((h.sm + 1 : Nat) : Int) := by
      rw [msI_i, if_pos ⟨rfl, rfl⟩, hM2.sM, hk1, show (1 : Int32) = iI 1 from rfl, iI_add]
      rfl
    refine ⟨(hF0.trans x2.h).trans (hF.sI (by unfold hX; omega)), ?_⟩
    rcases h2 with ⟨t2, g2⟩ | ⟨t2, b⟩
    · have hle := g2.2.2.1
      have gsk := skp_ge T n (p1 + 1)
      refine Or.inr ⟨skp T n (p1 + 1), (HS.mk h1.nh h1.hn h1.nt h1.tn h1.tv h1.nd h1.dv h1.ni h1.iv h1.st h1.dg h1.bu h1.mn (h.sm + 1)), C1, by rw [rB_r es]; unfold sSgn; rw [if_pos t2]; rfl, ⟨p1 + 1, g2.mv (F _ _ (by omega)) (F _ _ (by omega)) (F _ _ (by omega)), rfl⟩, ?_, by omega⟩
      exact (hsM.mk (c0 := (F _ _ (by omega)).trans hM2.c0) (c1 := (F _ _ (by omega)).trans hM2.c1) (c2 := (F _ _ (by omega)).trans hM2.c2) (c3 := (F _ _ (by omega)).trans hM2.c3) (c4 := (F _ _ (by omega)).trans hM2.c4) (c5 := (F _ _ (by omega)).trans hM2.c5) (nH := hM2.nH) (nT := hM2.nT) (fD := fun k (hk : k < h1.nd) => ⟨(F _ _ (by omega)).trans (hM2.fD k hk).1, (F _ _ (by omega)).trans (hM2.fD k hk).2.1, (F _ _ (by omega)).trans (hM2.fD k hk).2.2⟩) (fT := fun k (hk : k < h1.nt) => ⟨(F _ _ (by omega)).trans (hM2.fT k hk).1, (F _ _ (by omega)).trans (hM2.fT k hk).2.1, (F _ _ (by omega)).trans (hM2.fT k hk).2.2⟩) (fI := fun k (hk : k < h1.ni) => ⟨(F _ _ (by omega)).trans (hM2.fI k hk).1, (F _ _ (by omega)).trans (hM2.fI k hk).2⟩) (b0 := hM2.b0.mv (F _ _ (by omega)) (F _ _ (by omega)) (fun j _ => F _ _ (by omega)) (Nat.le_refl _)) (b1 := hM2.b1.mv (F _ _ (by omega)) (F _ _ (by omega)) (fun j _ => F _ _ (by omega)) (Nat.le_refl _)) (cC := (F _ _ (by omega)).trans hM2.cC) (sM := y))
    · exact Or.inl ⟨1, p1, by rw [rB_r es]; unfold sSgn; rw [if_neg t2]; rfl, ⟨b.1, (F _ _ (by omega)).trans b.2.1, (F _ _ (by omega)).trans b.2.2⟩⟩
theorem p_stmt {p : Nat} (hL : lxM T n m) (g : gs T n m p) (ho : hsOK h) (hM : hsM m h C) (hC : C ≤ p) : pw (mf_statementTold m) (sQ T n m (sStmt T n h p)) := by
  obtain ⟨hT, -⟩ := id hL
  have hn := hT.1
  have h60 := ho.smO
  unfold mf_statementTold sStmt
  rw [hM.sM, g.1.2.1]
  refine pw_if (fun q => ?_) (fun q => ?_)
  · rw [show (60 : Int32) = iI 60 from rfl, iI_eq (by omega) (by omega)] at q
    rw [if_pos (show h.sm = 60 by omega)]
    refine pw_bind (pw_mono (p_fail g.1.1 (k := 5) (by omega) p) ?_)
    rintro ⟨⟨⟩, m2⟩ ⟨b1, b2⟩
    exact pw_some ⟨b2.h, Or.inl ⟨5, p, rfl, b1⟩⟩
  rw [show (60 : Int32) = iI 60 from rfl, iI_eq (by omega) (by omega)] at q
  rw [if_neg (show ¬ h.sm = 60 by omega)]
  have hq : h.sm ≠ 60 := by omega
  have hk : ∀ p1 h1, sTell T n h p = Sum.inr (p1, h1) → h1.sm = h.sm := fun p1 h1 e => (sTell_ok hT ho e).2.1
  have up : ∀ (w : List Int), isW T n p w → p ≤ skp T n (p + w.length) := fun w hw => by have := skp_ge T n (p + w.length); omega
  have lf : ∀ {s : Rs HS} {p1 : Nat}, (∀ p' h', s = Sum.inr (p', h') → kpt T n h p1 p' h') → ∀ p' h', s = Sum.inr (p', h') → p1 ≤ p' := fun hs p' h' e => Nat.le_of_lt (hs p' h' e).2.2.1
  -- the end of each way
  have fin : ∀ (m1 m2 : MM) (s : Rs HS) (p1 : Nat), p ≤ p1 → xF m m1 → sTell T n h p = s → tR T n m1 s p1 C ((), m2) → pw (mj_X6_statementTold_184 m2) (sQ T n m (rB (sTell T n h p) fun p1 h1 => rB (sSgn T n p1 59) fun p2 _ => Sum.inr (p2, (HS.mk h1.nh h1.hn h1.nt h1.tn h1.tv h1.nd h1.dv h1.ni h1.iv h1.st h1.dg h1.bu h1.mn (h.sm + 1))))) := fun m1 m2 s p1 hp x e ht => by
    refine p_stmt184 (C := C) (p := p) hT hL (x.h.trans ht.1) hq hM.sM ho hC hk ?_
    rw [e]
    rcases ht.2 with z | ⟨p', h', C', e1, g1, hM1, hC1⟩
    · exact Or.inl z
    · exact Or.inr ⟨p', h', C', e1, g1, hM1, by omega⟩
  -- hall
  refine pw_bind (pw_mono (p_takes hL g.gd (show (1012, wHall) ∈ wds by decide +kernel)) ?_)
  rintro ⟨r1, m1⟩ ⟨x1, h1⟩
  dsimp only at x1 h1 ⊢
  rcases h1 with ⟨w1, e, g1⟩ | ⟨w1, e, g1⟩
  · subst e
    have es : sTell T n h p = sHall T n h p (skp T n (p + 4)) := by unfold sTell; rw [if_pos w1]
    refine pw_f n10 (pw_bind (pw_mono (p_hallTold (p0 := p) (hL.x x1) g1 ho (hM.x x1)) ?_))
    rintro ⟨⟨⟩, m2⟩ ht
    exact fin m1 m2 _ _ (up _ w1) x1 es (ht.r (lf (fun p' h' e => sHall_ok hT ho e)))
  subst e
  refine pw_t rfl ?_
  -- door
  refine pw_bind (pw_mono (p_takes (hL.x x1) g1.gd (show (1013, wDoor) ∈ wds by decide +kernel)) ?_)
  rintro ⟨r2, m2⟩ ⟨x2, h2⟩
  dsimp only at x2 h2 ⊢
  replace x2 := x1.trans x2
  rcases h2 with ⟨w2, e, g2⟩ | ⟨w2, e, g2⟩
  · subst e
    have es : sTell T n h p = sDoor T n h p (skp T n (p + 4)) := by unfold sTell; rw [if_neg w1, if_pos w2]
    refine pw_f n10 (pw_bind (pw_mono (p_doorTold (p0 := p) (hL.x x2) g2 ho (hM.x x2)) ?_))
    rintro ⟨⟨⟩, m3⟩ ht
    exact fin m2 m3 _ _ (up _ w2) x2 es (ht.r (lf (fun p' h' e => sDoor_ok hT ho e)))
  subst e
  refine pw_t rfl ?_
  -- thing
  refine pw_bind (pw_mono (p_takes (hL.x x2) g2.gd (show (1016, wThing) ∈ wds by decide +kernel)) ?_)
  rintro ⟨r3, m3⟩ ⟨x3, h3⟩
  dsimp only at x3 h3 ⊢
  replace x3 := x2.trans x3
  rcases h3 with ⟨w3, e, g3⟩ | ⟨w3, e, g3⟩
  · subst e
    have es : sTell T n h p = sThing T n h p (skp T n (p + 5)) := by unfold sTell; rw [if_neg w1, if_neg w2, if_pos w3]
    refine pw_f n10 (pw_bind (pw_mono (p_thingTold (p0 := p) (hL.x x3) g3 ho (hM.x x3)) ?_))
    rintro ⟨⟨⟩, m4⟩ ht
    exact fin m3 m4 _ _ (up _ w3) x3 es (ht.r (lf (fun p' h' e => sThing_ok hT ho e)))
  subst e
  refine pw_t rfl ?_
  -- tie
  refine pw_bind (pw_mono (p_takes (hL.x x3) g3.gd (show (1020, wTie) ∈ wds by decide +kernel)) ?_)
  rintro ⟨r4, m4⟩ ⟨x4, h4⟩
  dsimp only at x4 h4 ⊢
  replace x4 := x3.trans x4
  rcases h4 with ⟨w4, e, g4⟩ | ⟨w4, e, g4⟩
  · subst e
    have es : sTell T n h p = sTie T n h p (skp T n (p + 3)) := by unfold sTell; rw [if_neg w1, if_neg w2, if_neg w3, if_pos w4]
    refine pw_f n10 (pw_bind (pw_mono (p_tieTold (p0 := p) (hL.x x4) g4 ho (hM.x x4)) ?_))
    rintro ⟨⟨⟩, m5⟩ ht
    exact fin m4 m5 _ _ (up _ w4) x4 es (ht.r (lf (fun p' h' e => sTie_ok hT ho e)))
  subst e
  refine pw_t rfl ?_
  -- starts
  refine pw_bind (pw_mono (p_takes (hL.x x4) g4.gd (show (1021, wStarts) ∈ wds by decide +kernel)) ?_)
  rintro ⟨r5, m5⟩ ⟨x5, h5⟩
  dsimp only at x5 h5 ⊢
  replace x5 := x4.trans x5
  rcases h5 with ⟨w5, e, g5⟩ | ⟨w5, e, g5⟩
  · subst e
    have es : sTell T n h p = sStarts T n h (skp T n (p + 6)) := by unfold sTell; rw [if_neg w1, if_neg w2, if_neg w3, if_neg w4, if_pos w5]
    obtain ⟨⟨u, m6⟩, e6, ht⟩ := p_startsTold (hL.x x5) g5 ho (hM.x x5)
    refine pw_f n10 ?_
    have fin5 := fin m5 m6 _ _ (up _ w5) x5 es (ht.r (lf (fun p' h' e => sStarts_ok hT ho e)))
    cases hN : mf_named (0 : Int32) (-1 : Int32) m5 with
    | none => rw [hN] at e6; cases e6
    | some z =>
      obtain ⟨z1, z2⟩ := z
      rw [hN] at e6
      refine pw_bind (pw_some (pw_gu (by decide) (pw_let ?_)))
      have e7 : m6 = msI z2 1038 (gz_ix (4 : Int32)) z1 := by
        have e8 : (if gz_in (4 : Int32) (12) then gz_let (msI z2 1038 (gz_ix (4 : Int32)) z1) fun m48 => some ((), m48) else none) = some (u, m6) := e6
        rw [if_pos (by decide)] at e8
        injection e8 with e8
        injection e8 with _ e9
        exact e9.symm
      rw [← e7]
      exact fin5
  subst e
  refine pw_t rfl ?_
  -- burns
  refine pw_bind (pw_mono (p_takes (hL.x x5) g5.gd (show (1018, wBurns) ∈ wds by decide +kernel)) ?_)
  rintro ⟨r6, m6⟩ ⟨x6, h6⟩
  dsimp only at x6 h6 ⊢
  replace x6 := x5.trans x6
  rcases h6 with ⟨w6, e, g6⟩ | ⟨w6, e, g6⟩
  · subst e
    have es : sTell T n h p = sBurns T n h p (skp T n (p + 5)) := by unfold sTell; rw [if_neg w1, if_neg w2, if_neg w3, if_neg w4, if_neg w5, if_pos w6]
    have hu := up _ w6
    refine pw_f n10 (pw_bind (pw_mono (p_codesTold (x := 0) (p0 := p) (sh := sBurns T n h p (skp T n (p + 5))) (by omega) (hL.x x6) g6 (hM.x x6) (Nat.le_trans hC hu) (by rw [if_pos rfl]; rfl)) ?_))
    rintro ⟨⟨⟩, m7⟩ ht
    exact fin m6 m7 _ _ hu x6 es ht
  subst e
  refine pw_t rfl ?_
  -- minds
  refine pw_bind (pw_mono (p_takes (hL.x x6) g6.gd (show (1022, wMinds) ∈ wds by decide +kernel)) ?_)
  rintro ⟨r7, m7⟩ ⟨x7, h7⟩
  dsimp only at x7 h7 ⊢
  replace x7 := x6.trans x7
  rcases h7 with ⟨w7, e, g7⟩ | ⟨w7, e, g7⟩
  · subst e
    have es : sTell T n h p = sMinds T n h p (skp T n (p + 5)) := by unfold sTell; rw [if_neg w1, if_neg w2, if_neg w3, if_neg w4, if_neg w5, if_neg w6, if_pos w7]
    have hu := up _ w7
    refine pw_f n10 (pw_bind (pw_mono (p_codesTold (x := 1) (p0 := p) (sh := sMinds T n h p (skp T n (p + 5))) (by omega) (hL.x x7) g7 (hM.x x7) (Nat.le_trans hC hu) (by rw [if_neg (by omega)]; rfl)) ?_))
    rintro ⟨⟨⟩, m8⟩ ht
    exact fin m7 m8 _ _ hu x7 es ht
  subst e
  refine pw_t rfl ?_
  -- draught
  have es : sTell T n h p = sDraught T n h p := by unfold sTell; rw [if_neg w1, if_neg w2, if_neg w3, if_neg w4, if_neg w5, if_neg w6, if_neg w7]
  obtain ⟨⟨u, m9⟩, e9, ht⟩ := p_draughtTold (hL.x x7) g7.gd (hM.x x7)
  have fin9 := fin m7 m9 _ _ (Nat.le_refl _) x7 es (ht.r (lf (fun p' h' e => sDraught_ok hT ho e)))
  cases hA : mf_asks 1023 m7 with
  | none => rw [hA] at e9; cases e9
  | some y =>
    obtain ⟨⟨⟩, y2⟩ := y
    rw [hA] at e9
    refine pw_bind (pw_some ?_)
    dsimp only
    cases hN : mf_number (0 : Int32) (100 : Int32) y2 with
    | none =>
      have e8 : ((mf_number (0 : Int32) (100 : Int32) y2).bind fun (x : Int32 × MM) => (if gz_in (5 : Int32) (12) then gz_let (msI x.2 1038 (gz_ix (5 : Int32)) x.1) fun m48 => some ((), m48) else none)) = some (u, m9) := e9
      rw [hN] at e8; cases e8
    | some z =>
      obtain ⟨z1, z2⟩ := z
      have e8 : ((mf_number (0 : Int32) (100 : Int32) y2).bind fun (x : Int32 × MM) => (if gz_in (5 : Int32) (12) then gz_let (msI x.2 1038 (gz_ix (5 : Int32)) x.1) fun m48 => some ((), m48) else none)) = some (u, m9) := e9
      rw [hN] at e8
      refine pw_bind (pw_some (pw_gu (by decide) (pw_let ?_)))
      have e7 : m9 = msI z2 1038 (gz_ix (5 : Int32)) z1 := by
        have e8 : (if gz_in (5 : Int32) (12) then gz_let (msI z2 1038 (gz_ix (5 : Int32)) z1) fun m48 => some ((), m48) else none) = some (u, m9) := e8
        rw [if_pos (by decide)] at e8
        injection e8 with e8
        injection e8 with _ e9
        exact e9.symm
      rw [← e7]
      exact fin9
theorem p_hh84 {Q : Int32 × MM → Prop} (hT : tOK T n) : ∀ (f : Nat) (m : MM) (h : HS) (C p : Nat), n < p + f → lxM T n m → gd T n m p → hsOK h → hsM m h C → C ≤ p → (∀ (m' : MM) (p' : Nat) (h' : HS) (C' : Nat), sAll T n f h p = Sum.inr (p', h') → hF m m' → m'.1 2000 5 = 0 → hsM m' h' C' → hsOK h' → C' ≤ n → pw (mj_X6_household_106 m') Q) → (∀ (m' : MM) (k : Int) (l : Nat), sAll T n f h p = Sum.inl (k, l) → hF m m' → bd m' k l → pw (mj_X6_household_106 m') Q) → pw (ml_X6_household_84 m) Q
  | 0, m, h, C, p, hf, hL, g, ho, hM, hC, hG, hB => absurd (g.le hT).1 (by omega)
  | f + 1, m, h, C, p, hf, hL, g, ho, hM, hC, hG, hB => by
    unfold ml_X6_household_84
    refine pw_unroll ?_
    unfold mb_X6_household_84
    refine pw_t g.z (pw_bind (pw_mono (p_look hL g) ?_))
    rintro ⟨r, m1⟩ ⟨e, x1, g1⟩
    dsimp only at e x1 g1 ⊢
    subst e
    have hr := hT.r p
    have hp := (g.le hT).1
    refine pw_if (fun q => ?_) (fun q => ?_)
    · rw [show (-1 : Int32) = iI (-1) by decide, iI_eq (by omega) (by omega)] at q
      refine pw_map (hG m1 p h C ?_ x1.h g1.1.1 (hM.x x1) ho (by omega))
      unfold sAll
      rw [if_pos q]
    · rw [show (-1 : Int32) = iI (-1) by decide, iI_eq (by omega) (by omega)] at q
      have sA1 : sAll T n (f + 1) h p = rB (sStmt T n h p) fun p1 h1 => sAll T n f h1 p1 := by
        show (if T p = -1 then _ else _) = _
        rw [if_neg q]
      refine pw_bind (pw_mono (p_stmt (hL.x x1) g1 ho (hM.x x1) hC) ?_)
      rintro ⟨⟨⟩, m2⟩ ⟨f2, h2⟩
      dsimp only at f2 h2 ⊢
      refine pw_some ?_
      show pw (gz_loop (fun q => mb_X6_household_84 q) m2) Q
      rcases h2 with ⟨k, l, es, b⟩ | ⟨p', h', C', es, g2, hM2, hC2⟩
      · refine pw_unroll ?_
        unfold mb_X6_household_84
        exact pw_f b.ne (pw_map (hB m2 k l (by rw [sA1, rB_l es]) (x1.h.trans f2) b))
      · have ok := sStmt_ok hT ho es
        refine p_hh84 hT f m2 h' C' p' (by omega) ((hL.x x1).h f2) g2 ok.1 hM2 hC2 (fun m' p'' h'' C'' e a b c d e2 => hG m' p'' h'' C'' (by rw [sA1, rB_r es]; exact e) ((x1.h.trans f2).trans a) b c d e2) (fun m' k l e a b => hB m' k l (by rw [sA1, rB_r es]; exact e) ((x1.h.trans f2).trans a) b)
end StmtM
