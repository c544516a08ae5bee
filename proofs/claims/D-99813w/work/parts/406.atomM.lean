/-! ===== the model reads one part ===== -/
theorem wds_q : ∀ k : Nat, k < 9 → (1084 + k, kW k) ∈ wds := by decide +kernel
section Atom
variable {T : Nat → Int} {n : Nat}
theorem p_qWordHere {m : MM} (hL : lxM T n m) {p : Nat} (g : gd T n m p) : pw (mf_qWordHere m) (fun q => q.1 = iI (if qK T n p = 9 then -1 else (qK T n p : Int)) ∧ xF m q.2 ∧ gs T n q.2 p) := by
  unfold mf_qWordHere qK
  have w0 := wds_q 0 (by omega)
  have w1 := wds_q 1 (by omega)
  have w2 := wds_q 2 (by omega)
  have w3 := wds_q 3 (by omega)
  have w4 := wds_q 4 (by omega)
  have w5 := wds_q 5 (by omega)
  have w6 := wds_q 6 (by omega)
  have w7 := wds_q 7 (by omega)
  have w8 := wds_q 8 (by omega)
  refine pw_bind (pw_mono (p_isHere hL g w0) ?_)
  rintro ⟨r, m0⟩ ⟨rfl, a0, b0⟩
  dsimp only at a0 b0 ⊢
  by_cases c0 : isW T n p (kW 0)
  · rw [if_pos c0, if_pos c0]; exact pw_f n10 (pw_some ⟨rfl, a0, b0⟩)
  rw [if_neg c0, if_neg c0]
  have L0 := hL.x a0
  refine pw_t (by first | rfl | exact True.intro) (pw_bind (pw_mono (p_isHere L0 b0.gd w1) ?_))
  rintro ⟨r, m1⟩ ⟨rfl, a1, b1⟩
  dsimp only at a1 b1 ⊢
  have x1 := a0.trans a1
  by_cases c1 : isW T n p (kW 1)
  · rw [if_pos c1, if_pos c1]; exact pw_f n10 (pw_some ⟨rfl, x1, b1⟩)
  rw [if_neg c1, if_neg c1]
  refine pw_t (by first | rfl | exact True.intro) (pw_bind (pw_mono (p_isHere (hL.x x1) b1.gd w2) ?_))
  rintro ⟨r, m2⟩ ⟨rfl, a2, b2⟩
  dsimp only at a2 b2 ⊢
  have x2 := x1.trans a2
  by_cases c2 : isW T n p (kW 2)
  · rw [if_pos c2, if_pos c2]; exact pw_f n10 (pw_some ⟨rfl, x2, b2⟩)
  rw [if_neg c2, if_neg c2]
  refine pw_t (by first | rfl | exact True.intro) (pw_bind (pw_mono (p_isHere (hL.x x2) b2.gd w3) ?_))
  rintro ⟨r, m3⟩ ⟨rfl, a3, b3⟩
  dsimp only at a3 b3 ⊢
  have x3 := x2.trans a3
  by_cases c3 : isW T n p (kW 3)
  · rw [if_pos c3, if_pos c3]; exact pw_f n10 (pw_some ⟨rfl, x3, b3⟩)
  rw [if_neg c3, if_neg c3]
  refine pw_t (by first | rfl | exact True.intro) (pw_bind (pw_mono (p_isHere (hL.x x3) b3.gd w4) ?_))
  rintro ⟨r, m4⟩ ⟨rfl, a4, b4⟩
  dsimp only at a4 b4 ⊢
  have x4 := x3.trans a4
  by_cases c4 : isW T n p (kW 4)
  · rw [if_pos c4, if_pos c4]; exact pw_f n10 (pw_some ⟨rfl, x4, b4⟩)
  rw [if_neg c4, if_neg c4]
  refine pw_t (by first | rfl | exact True.intro) (pw_bind (pw_mono (p_isHere (hL.x x4) b4.gd w5) ?_))
  rintro ⟨r, m5⟩ ⟨rfl, a5, b5⟩
  dsimp only at a5 b5 ⊢
  have x5 := x4.trans a5
  by_cases c5 : isW T n p (kW 5)
  · rw [if_pos c5, if_pos c5]; exact pw_f n10 (pw_some ⟨rfl, x5, b5⟩)
  rw [if_neg c5, if_neg c5]
  refine pw_t (by first | rfl | exact True.intro) (pw_bind (pw_mono (p_isHere (hL.x x5) b5.gd w6) ?_))
  rintro ⟨r, m6⟩ ⟨rfl, a6, b6⟩
  dsimp only at a6 b6 ⊢
  have x6 := x5.trans a6
  by_cases c6 : isW T n p (kW 6)
  · rw [if_pos c6, if_pos c6]; exact pw_f n10 (pw_some ⟨rfl, x6, b6⟩)
  rw [if_neg c6, if_neg c6]
  refine pw_t (by first | rfl | exact True.intro) (pw_bind (pw_mono (p_isHere (hL.x x6) b6.gd w7) ?_))
  rintro ⟨r, m7⟩ ⟨rfl, a7, b7⟩
  dsimp only at a7 b7 ⊢
  have x7 := x6.trans a7
  by_cases c7 : isW T n p (kW 7)
  · rw [if_pos c7, if_pos c7]; exact pw_f n10 (pw_some ⟨rfl, x7, b7⟩)
  rw [if_neg c7, if_neg c7]
  refine pw_t (by first | rfl | exact True.intro) (pw_bind (pw_mono (p_isHere (hL.x x7) b7.gd w8) ?_))
  rintro ⟨r, m8⟩ ⟨rfl, a8, b8⟩
  dsimp only at a8 b8 ⊢
  have x8 := x7.trans a8
  by_cases c8 : isW T n p (kW 8)
  · rw [if_pos c8, if_pos c8]; exact pw_f n10 (pw_some ⟨rfl, x8, b8⟩)
  rw [if_neg c8, if_neg c8]
  exact pw_t (by first | rfl | exact True.intro) (pw_some ⟨show (-1 : Int32) = iI (if 9 = 9 then -1 else ((9 : Nat) : Int)) by rw [if_pos rfl]; decide, x8, b8⟩)
theorem qK_b (T : Nat → Int) (n p : Nat) : qK T n p ≤ 9 := by
  unfold qK
  repeat' split
  all_goals omega
theorem p_qWordOf {m : MM} (hL : lxM T n m) {p : Nat} (g : gd T n m p) {ask : Bool} (h48 : m.1 2000 48 = (if ask = true then 3 else 0)) {lo hi : Nat} (hhi : hi ≤ 9 ∧ lo ≤ 9) : pw (mf_qWordOf (iI lo) (iI hi) m) (fun q => q.1 = iI (if (lo ≤ qK T n p ∧ qK T n p < hi) ∧ qAl ask (qK T n p) then (qK T n p : Int) else -1) ∧ xF m q.2 ∧ gs T n q.2 p) := by
  have hk := qK_b T n p
  unfold mf_qWordOf mj_X6_qWordOf_27
  refine pw_bind (pw_mono (p_qWordHere hL g) ?_)
  rintro ⟨r, m1⟩ ⟨rfl, a, b⟩
  dsimp only at a b ⊢
  have h48' : m1.1 2000 48 = (if ask = true then 3 else 0) := by rw [a.1 _ _ (by unfold xK; omega)]; exact h48
  generalize qK T n p = k at hk
  by_cases c1 : lo ≤ k ∧ k < hi
  rotate_left
  · rw [if_neg (show ¬ ((lo ≤ k ∧ k < hi) ∧ qAl ask k) from fun z => c1 z.1)]
    by_cases c2 : k = 9
    · rw [if_pos c2]
      exact pw_t (by rw [iI_lt (by omega) (by omega)]; omega) (pw_some ⟨show (-1 : Int32) = iI (-1) by decide, a, b⟩)
    · rw [if_neg c2]
      by_cases c3 : k < lo
      · exact pw_t (by rw [iI_lt (by omega) (by omega)]; omega) (pw_some ⟨show (-1 : Int32) = iI (-1) by decide, a, b⟩)
      · exact pw_f (by rw [iI_lt (by omega) (by omega)]; omega) (pw_t (by rw [iI_le (by omega) (by omega)]; omega) (pw_some ⟨show (-1 : Int32) = iI (-1) by decide, a, b⟩))
  rw [if_neg (show ¬ k = 9 by omega)]
  refine pw_f (by rw [iI_lt (by omega) (by omega)]; omega) (pw_f (by rw [iI_le (by omega) (by omega)]; omega) (pw_bind ?_))
  have hal : mf_isAllowed (iI (k : Int)) m1 = some (if qAl ask k then 1 else 0, m1) := by
    unfold mf_isAllowed
    rw [h48']
    cases ask with
    | true =>
      have e : qAl true k ↔ k ≠ 2 := by unfold qAl; rw [if_pos rfl]
      rw [if_pos (show true = true from rfl), if_neg (show ¬ (3 : Int32) = 0 by decide)]
      by_cases d : k = 2
      · rw [if_pos (show iI (k : Int) = (2 : Int32) by rw [d]; rfl), if_neg (fun z => (e.1 z) d)]
      · rw [if_neg (show ¬ iI (k : Int) = (2 : Int32) by rw [iI_lit, iI_eq (by omega) (by omega)]; omega), if_pos (e.2 d)]
    | false =>
      have e : qAl false k ↔ k < 4 := by unfold qAl; rw [if_neg Bool.false_ne_true]
      rw [if_neg (show ¬ false = true from Bool.false_ne_true), if_pos (show (0 : Int32) = 0 from rfl)]
      by_cases d : k < 4
      · rw [if_neg (show ¬ (4 : Int32) ≤ iI (k : Int) by rw [iI_lit, iI_le (by omega) (by omega)]; omega), if_pos (e.2 d)]
      · rw [if_pos (show (4 : Int32) ≤ iI (k : Int) by rw [iI_lit, iI_le (by omega) (by omega)]; omega), if_neg (fun z => d (e.1 z))]
  rw [hal]
  by_cases c4 : qAl ask k
  · rw [if_pos c4, if_pos (show (lo ≤ k ∧ k < hi) ∧ qAl ask k from ⟨c1, c4⟩)]
    exact pw_some (pw_f n10 (pw_some ⟨rfl, a, b⟩))
  · rw [if_neg c4, if_neg (show ¬ ((lo ≤ k ∧ k < hi) ∧ qAl ask k) from fun z => c4 z.2)]
    exact pw_some (pw_t (by first | rfl | exact True.intro) (pw_some ⟨show (-1 : Int32) = iI (-1) by decide, a, b⟩))
theorem p_qAsksWord {m : MM} (hL : lxM T n m) {p : Nat} (g : gd T n m p) {k : Nat} (hk : k < 9) (hW : isW T n p (kW k)) : pw (mf_qAsksWord (iI k) m) (fun q => xF m q.2 ∧ gd T n q.2 (skp T n (p + (kW k).length))) := by
  have key : ∀ c : Nat, (c, kW k) ∈ wds → pw ((mf_asks c m).bind fun (x : Unit × MM) => some ((), x.2)) (fun q => xF m q.2 ∧ gd T n q.2 (skp T n (p + (kW k).length))) := by
    intro c hc
    refine pw_bind (pw_mono (p_asks hL g hc) ?_)
    rintro ⟨⟨⟩, m1⟩ ⟨a, ⟨-, b⟩ | ⟨b, -⟩⟩
    · exact pw_some ⟨a, b⟩
    · exact absurd hW b
  have hw := wds_q k hk
  unfold mf_qAsksWord
  by_cases c0 : k = 0
  · subst c0; exact pw_t (by first | rfl | exact True.intro) (key _ hw)
  refine pw_f (by rw [iI_lit, iI_eq (by omega) (by omega)]; omega) ?_
  by_cases c1 : k = 1
  · subst c1; exact pw_t (by first | rfl | exact True.intro) (key _ hw)
  refine pw_f (by rw [iI_lit, iI_eq (by omega) (by omega)]; omega) ?_
  by_cases c2 : k = 2
  · subst c2; exact pw_t (by first | rfl | exact True.intro) (key _ hw)
  refine pw_f (by rw [iI_lit, iI_eq (by omega) (by omega)]; omega) ?_
  by_cases c3 : k = 3
  · subst c3; exact pw_t (by first | rfl | exact True.intro) (key _ hw)
  refine pw_f (by rw [iI_lit, iI_eq (by omega) (by omega)]; omega) ?_
  by_cases c4 : k = 4
  · subst c4; exact pw_t (by first | rfl | exact True.intro) (key _ hw)
  refine pw_f (by rw [iI_lit, iI_eq (by omega) (by omega)]; omega) ?_
  by_cases c5 : k = 5
  · subst c5; exact pw_t (by first | rfl | exact True.intro) (key _ hw)
  refine pw_f (by rw [iI_lit, iI_eq (by omega) (by omega)]; omega) ?_
  by_cases c6 : k = 6
  · subst c6; exact pw_t (by first | rfl | exact True.intro) (key _ hw)
  refine pw_f (by rw [iI_lit, iI_eq (by omega) (by omega)]; omega) ?_
  by_cases c7 : k = 7
  · subst c7; exact pw_t (by first | rfl | exact True.intro) (key _ hw)
  refine pw_f (by rw [iI_lit, iI_eq (by omega) (by omega)]; omega) ?_
  have c8 : k = 8 := by omega
  subst c8
  exact key _ hw
theorem p_qAsksWord_bad {m : MM} (h : ¬ m.1 2000 5 = 0) (x : Int32) : mf_qAsksWord x m = some ((), m) := by
  unfold mf_qAsksWord
  simp only [p_asks_bad h, Option.bind_some]
  repeat' split
  all_goals rfl
variable {x1 : Int32} {Q : Unit × MM → Prop}
/-- a fault while a part is read -/
theorem partBad {m : MM} {k : Int} {l : Nat} (hb : bq m k l) (h : ∀ mE : MM, bq mE k l → qF m mE → Q ((), mE)) (y : Int32) : pw (gz_loop (fun q : (Int32 × MM) => mb_X6_qPartTold_2 q.1 q.2) (y, m)) (pK x1 Q) := by
  have hz := hb.1.ne
  have fin : pw (mj_X6_qPartTold_186 m) (pK x1 Q) := by
    unfold mj_X6_qPartTold_186
    refine pw_f hz (pw_some ?_)
    unfold pK
    rw [if_neg hz]
    exact sumsE_bad hb h
  refine pw_unroll ?_
  unfold mb_X6_qPartTold_2
  dsimp only
  by_cases c : y = 0
  · exact pw_t c (pw_map (pw_mono fin (fun q hq => hq)))
  · exact pw_f c (pw_f hz (pw_map (pw_mono fin (fun q hq => hq))))
/-- a part without brackets -/
theorem partEnd {m : MM} {C W : List Int} {o b p : Nat} {ask : Bool} (hL : lxM T n m) (g : gd T n m p) (h : eS m C W o b ask) (hl : C.length < 1640) (hB : ∀ (c : Int) (p' : Nat) (m' : MM), (((qK T n p < 7 ∧ qAl ask (qK T n p)) ∧ c = 40 + (qK T n p : Int) ∧ p' = skp T n (p + (kW (qK T n p)).length)) ∨ (¬ (qK T n p < 7 ∧ qAl ask (qK T n p)) ∧ ∃ v, sNum T n p 0 9999 = Sum.inr (p', v) ∧ c = 1000 + v)) → gd T n m' p' → eS m' (c :: C) W o b ask → qF m m' → pB x1 Q m') (hQ : ¬ (qK T n p < 7 ∧ qAl ask (qK T n p)) → ∀ (k : Int) (l : Nat) (mE : MM), sNum T n p 0 9999 = Sum.inl (k, l) → bq mE k l → qF m mE → Q ((), mE)) : pw (mj_X6_qPartTold_186 m) (pK x1 Q) := by
  have code : ∀ (c : Int) (p' : Nat) (m1 : MM), (((qK T n p < 7 ∧ qAl ask (qK T n p)) ∧ c = 40 + (qK T n p : Int) ∧ p' = skp T n (p + (kW (qK T n p)).length)) ∨ (¬ (qK T n p < 7 ∧ qAl ask (qK T n p)) ∧ ∃ v, sNum T n p 0 9999 = Sum.inr (p', v) ∧ c = 1000 + v)) → gd T n m1 p' → xF m m1 → pw (mj_X6_qPartTold_237 (iI c) m1) (pK x1 Q) := by
    intro c p' m1 hc g1 x
    unfold mj_X6_qPartTold_237
    refine pw_bind (pw_mono (p_qCode (h.x x) (by omega) c) ?_)
    rintro ⟨⟨⟩, m2⟩ ⟨k1, k2⟩
    dsimp only at k1 k2 ⊢
    have g2 := g1.y k2
    refine pw_bind (pw_mono (hB c p' m2 hc g2 k1 (x.q.trans k2.1)) ?_)
    rintro ⟨⟨⟩, m3⟩ ⟨z, hG⟩
    refine pw_some ?_
    unfold pK
    dsimp only at z hG ⊢
    rw [if_pos z]
    exact hG
  unfold mj_X6_qPartTold_186
  refine pw_t g.z ?_
  have hw := p_qWordOf hL g h.2.2.2.2.2.2 (lo := 0) (hi := 7) (by omega)
  refine pw_bind (pw_mono hw ?_)
  rintro ⟨r, m1⟩ ⟨rfl, a, b'⟩
  dsimp only at a b' ⊢
  have hk := qK_b T n p
  by_cases c : qK T n p < 7 ∧ qAl ask (qK T n p)
  · have c' : (0 ≤ qK T n p ∧ qK T n p < 7) ∧ qAl ask (qK T n p) := ⟨⟨by omega, c.1⟩, c.2⟩
    rw [if_pos c']
    refine pw_f (by rw [show (-1 : Int32) = iI (-1) by decide, iI_eq (by omega) (by omega)]; omega) (pw_bind (pw_mono (p_qAsksWord (hL.x a) b'.gd (by omega) (qK_W p (by omega))) ?_))
    rintro ⟨⟨⟩, m2⟩ ⟨d1, d2⟩
    dsimp only at d1 d2 ⊢
    unfold mj_X6_qPartTold_212
    refine pw_f (by rw [show (-1 : Int32) = iI (-1) by decide, iI_eq (by omega) (by omega)]; omega) ?_
    rw [iI_lit, iI_add]
    exact code _ _ m2 (Or.inl ⟨c, rfl, rfl⟩) d2 (a.trans d1)
  · have c' : ¬ ((0 ≤ qK T n p ∧ qK T n p < 7) ∧ qAl ask (qK T n p)) := fun z => c ⟨z.1.2, z.2⟩
    rw [if_neg c']
    refine pw_t (by decide) ?_
    unfold mj_X6_qPartTold_212
    refine pw_t (by decide) (pw_bind (pw_mono (p_number (hL.x a) b'.gd (lo := 0) (hi := 9999) (by omega) (by omega)) ?_))
    rintro ⟨r, m2⟩ ⟨d1, ⟨k, l, e1, e2⟩ | ⟨p', v, e1, e2, e3, e4, e5⟩⟩
    · dsimp only at d1 e2 ⊢
      unfold mj_X6_qPartTold_237
      obtain ⟨w, hw, ew⟩ := iI_ex ((1000 : Int32) + r)
      rw [ew]
      refine pw_bind (pw_mono (p_qCode ((h.x a).x d1) (by omega) w) ?_)
      rintro ⟨⟨⟩, m3⟩ ⟨t1, t2⟩
      dsimp only at t1 t2 ⊢
      have b3 : bd m3 k l := e2.mv t2.2.2.2.1 t2.2.2.2.2
      refine pw_bind ?_
      unfold mf_qEndsPart ml_X6_qEndsPart_0
      refine pw_unroll ?_
      unfold mb_X6_qEndsPart_0
      refine pw_f b3.ne (pw_some (pw_some ?_))
      unfold pK
      dsimp only
      rw [if_neg b3.ne]
      exact sumsE_bad ⟨b3, t1.cd (by simp only [List.length_cons]; omega)⟩ (fun mE j1 j2 => hQ c k l mE e1 j1 (((a.q.trans d1.q).trans t2.1).trans j2))
    · dsimp only at d1 e2 e5 ⊢
      subst e2
      rw [iI_lit, iI_add]
      exact code _ _ m2 (Or.inr ⟨c, v, e1, rfl⟩) e5 (a.trans d1)
end Atom
