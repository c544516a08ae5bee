section AtomM
variable {T : Nat → Int} {n : Nat} {ask : Bool} {x1 : Int32} {b : Nat}
theorem br_on {x : Int} {W : List Int} (hx : isBr x) : onT (x :: W) 3 = false ∧ onT (x :: W) 4 = false ∧ onT (x :: W) 1 = false ∧ onT (x :: W) 2 = false := by
  refine ⟨?_, ?_, ?_, ?_⟩ <;> exact decide_eq_false (by omega)
theorem br_ok {x : Int} {W : List Int} (hx : isBr x) (hW : wOK W) : wOK (x :: W) := by
  intro y hy
  rcases List.mem_cons.mp hy with z | z
  · rw [z]; omega
  · exact hW y z
/-- behind min or max -/
theorem within2M {Q : Unit × MM → Prop} {m : MM} {C W : List Int} {o p : Nat} {x4 : Int32} {two : Int} (hx4 : (x4 = 1 ∧ two = 1) ∨ (x4 = 0 ∧ two = 2)) (hL : lxM T n m) (g : gd T n m p) (h : eS m C W o b ask) (hl : C.length + W.length < 1640) (ho : o ≤ 6) (hA : T p = 40 → o ≠ 6 → ∀ m' : MM, gd T n m' (skp T n (p + 1)) → eS m' C ((20 + two) :: W) (o + 1) b ask → qF m m' → pA x1 Q m') (hE1 : T p ≠ 40 → ∀ mE : MM, bq mE 1 p → qF m mE → Q ((), mE)) (hE2 : T p = 40 → o = 6 → ∀ mE : MM, bq mE 4 p → qF m mE → Q ((), mE)) : pw (mj_X6_qPartTold_101 (1 : Int32) x4 m) (Sum.elim (fun s' => pw (gz_loop (fun q : (Int32 × MM) => mb_X6_qPartTold_2 q.1 q.2) s') (pK x1 Q)) (pK x1 Q)) := by
  obtain ⟨hT, -⟩ := id hL
  have hn := hT.1
  have hr := hT.r p
  unfold mj_X6_qPartTold_101
  refine pw_bind (pw_mono (p_look hL g) ?_)
  rintro ⟨r, m1⟩ ⟨rfl, a1, b1⟩
  dsimp only at a1 b1 ⊢
  have hL1 := hL.x a1
  by_cases c : T p = 40
  · have hple := b1.le
    refine pw_t (by rw [c]; rfl) ?_
    rw [b1.1.2.1]
    unfold mj_X6_qPartTold_118
    refine pw_f (by rw [show (-1 : Int32) = iI (-1) by decide, iI_eq (by omega) (by omega)]; omega) ?_
    have go : pw (mj_X6_qPartTold_139 (1 : Int32) (iI p) (iI (20 + two)) m1) (Sum.elim (fun s' => pw (gz_loop (fun q : (Int32 × MM) => mb_X6_qPartTold_2 q.1 q.2) s') (pK x1 Q)) (pK x1 Q)) := by
      unfold mj_X6_qPartTold_139 mj_X6_qPartTold_144 mj_X6_qPartTold_183
      refine pw_bind (pw_mono (p_qOpens (T := T) (n := n) (h.x a1) b1.1.1 ho (by omega) (20 + two) p) ?_)
      rintro ⟨⟨⟩, m2⟩ (⟨d1, d2, d3⟩ | ⟨d1, d2, d3⟩)
      · dsimp only at d2 d3 ⊢
        rw [p_asksSign_bad d2.ne]
        exact pw_bind (pw_some (pw_some (partBad (bq.of d2 (h.x a1) (by omega) d3) (fun mE j1 j2 => hE2 c d1 mE j1 ((a1.q.trans d3.q).trans j2)) 1)))
      · dsimp only at d2 d3 ⊢
        refine pw_bind (pw_mono (p_asksSign (hL1.q d3.1) (b1.y d3).gd (c := 40) (by omega) (by decide)) ?_)
        rintro ⟨⟨⟩, m3⟩ ⟨e1, ⟨-, e2⟩ | ⟨e2, -⟩⟩
        · dsimp only at e1 e2 ⊢
          exact pw_some (hA c d1 m3 e2.gd (d2.x e1) ((a1.q.trans d3.1).trans e1.q))
        · exact absurd c e2
    rcases hx4 with ⟨rfl, rfl⟩ | ⟨rfl, rfl⟩
    · exact pw_f n10 go
    · exact pw_t (by first | rfl | exact True.intro) go
  · refine pw_f (by rw [iI_lit, iI_eq (by omega) (by omega)]; exact c) ?_
    unfold mj_X6_qPartTold_118 mj_X6_qPartTold_144 mj_X6_qPartTold_183
    refine pw_t (by first | rfl | exact True.intro) (pw_bind (pw_mono (p_asksSign hL1 b1.gd (c := 40) (by omega) (by decide)) ?_))
    rintro ⟨⟨⟩, m3⟩ ⟨e1, ⟨e2, -⟩ | ⟨-, e2⟩⟩
    · exact absurd e2 c
    · dsimp only at e1 e2 ⊢
      exact pw_some (partBad (bq.of e2 (h.x a1) (by omega) e1) (fun mE j1 j2 => hE1 c mE j1 ((a1.q.trans e1.q).trans j2)) 1)
theorem atom_ok (hT : tOK T n) : ∀ d o : Nat, o ≤ 6 → 7 ≤ d + o → atomP T n ask x1 b (sA T n ask d) o
  | 0, o, h1, h2 => by omega
  | d + 1, o, ho, hd => by
    have ihS : o ≠ 6 → sumP T n ask x1 b (sSum T n (sA T n ask d)) (o + 1) := fun z => sumP_of hT (atom_ok hT d (o + 1) (by omega) (by omega)) (sA_ok hT d)
    have ihA : o ≠ 6 → atomP T n ask x1 b (sA T n ask d) (o + 1) := fun z => atom_ok hT d (o + 1) (by omega) (by omega)
    have hsok := sSum_ok hT (sA_ok (ask := ask) hT d)
    have haok := sA_ok (ask := ask) hT d
    have hn := hT.1
    intro Q p C W m hL g h hl hb hW hB hE
    obtain ⟨hpn, hskp⟩ := g.le hT
    have hr := hT.r p
    have eA : sA T n ask (d + 1) o p = sAtomF T n ask (sA T n ask d) (sSum T n (sA T n ask d)) o p := rfl
    generalize hsm : sSum T n (sA T n ask d) = sm at ihS hsok eA
    unfold pA ml_X6_qPartTold_2
    refine pw_unroll ?_
    unfold mb_X6_qPartTold_2
    refine pw_f n10 (pw_t g.z (pw_bind (pw_mono (p_look hL g) ?_)))
    rintro ⟨r, m4⟩ ⟨rfl, a4, b4⟩
    dsimp only at a4 b4 ⊢
    have S4 := h.x a4
    have hw := p_qWordOf (hL.x a4) b4.gd S4.2.2.2.2.2.2 (lo := 7) (hi := 9) (by omega)
    refine pw_bind (pw_mono hw ?_)
    rintro ⟨r, m7⟩ ⟨rfl, a7, b7⟩
    dsimp only at a7 b7 ⊢
    have X7 := a4.trans a7
    have L7 := hL.x X7
    have S7 := h.x X7
    by_cases c1 : T p = 40
    · have hp1 := T_lt hT c1 (by omega)
      have eW : sA T n ask (d + 1) o p = sWithin T n sm 0 o p := by rw [eA]; unfold sAtomF; rw [if_pos c1]
      have n40 : ¬ (T p ≠ 40) := fun z => z c1
      have e1 : iI (p : Int) + (1 : Int32) = iI ((p + 1 : Nat) : Int) := by rw [iI_lit, iI_add]; rfl
      refine pw_t (by rw [c1]; rfl) ?_
      rw [b7.1.2.1]
      unfold mj_X6_qPartTold_183
      refine pw_bind (pw_mono (p_qOpens (T := T) (n := n) S7 b7.1.1 ho (by omega) 20 p) ?_)
      rintro ⟨⟨⟩, m2⟩ (⟨d1, d2, d3⟩ | ⟨d1, d2, d3⟩)
      · dsimp only at d2 d3 ⊢
        simp only [gz_let]
        refine pw_some (partBad (bq.of (d2.mv (by rw [msI_i, if_neg (by omega)]) (by rw [msI_i, if_neg (by omega)])) S7 (by omega) (d3.trans (xF.sI (by omega)))) (fun mE j1 j2 => hE 4 p mE ?_ j1 (((X7.q.trans d3.q).trans (qF.sI (by unfold qX xK; omega))).trans j2)) 1)
        rw [eW]
        unfold sWithin
        rw [if_neg n40, if_pos d1]
      · dsimp only at d2 d3 ⊢
        simp only [gz_let]
        have g2 := b7.y d3
        rw [g2.1.2.1, e1]
        have g3 : gA T n (msI m2 2000 2 (iI ((p + 1 : Nat) : Int))) (p + 1) := g2.1.step hT hp1 (by rw [c1]; decide)
        have X3 : xF m2 (msI m2 2000 2 (iI ((p + 1 : Nat) : Int))) := xF.sI (by omega)
        have S3 := d2.x X3
        have Q3 := (X7.q.trans d3.1).trans X3.q
        generalize msI m2 2000 2 (iI ((p + 1 : Nat) : Int)) = m3 at g3 S3 Q3
        have gsk := skp_ge T n (p + 1)
        refine pw_some ?_
        show pA x1 Q m3
        refine ihS d1 Q (skp T n (p + 1)) C (20 :: W) m3 (hL.q Q3) g3.gd S3 (by rw [List.length_cons]; omega) (by rw [List.length_cons]; omega) (br_ok (by omega) hW) (Or.inr ⟨20, W, rfl, by omega⟩) (br_on (by omega)) (fun p1 c1' P C1 m5 e5 g5 s5 hP5 hE5 hno q5 => ?_) (fun k l mE e5 j1 j2 => hE k l mE ?_ j1 (Q3.trans j2))
        · have hk := (hsok (o + 1) _ (skp_le hT (show _ + 1 ≤ n from hp1)) (skp_skp hT _)).get e5
          have hlen := len_eq hE5
          by_cases c4 : T p1 = 41
          · refine goClose (hL.q (Q3.trans q5)) g5 s5 (by simp only [List.length_append, List.length_cons]; omega) (by omega) hP5 hb (Or.inl rfl) c4 (fun m6 g6 s6 q6 => hB _ c1' m6 ?_ g6 ?_ ((Q3.trans q5).trans q6))
            · rw [eW]
              unfold sWithin
              rw [if_neg n40, if_neg d1, e5]
              dsimp only
              rw [if_pos rfl, if_pos c4]
            · rw [if_pos rfl, List.nil_append, hE5] at s6
              exact s6
          · refine goFail (hL.q (Q3.trans q5)) g5 s5 (by simp only [List.length_append, List.length_cons]; omega) hP5 hb (Or.inl rfl) hno c4 (fun mE j1 j2 => hE 1 p1 mE ?_ j1 ((Q3.trans q5).trans j2))
            rw [eW]
            unfold sWithin
            rw [if_neg n40, if_neg d1, e5]
            dsimp only
            rw [if_pos rfl, if_neg c4]
        · rw [eW]
          unfold sWithin
          rw [if_neg n40, if_neg d1, e5]
    -- min, max
    have two_ : ∀ (m8 : MM) (x4 : Int32) (two : Nat), ((x4 = 1 ∧ two = 1) ∨ (x4 = 0 ∧ two = 2)) → sA T n ask (d + 1) o p = sWithin T n sm two o (skp T n (p + 3)) → p + 3 ≤ n → qF m m8 → gd T n m8 (skp T n (p + 3)) → eS m8 C W o b ask → pw (mj_X6_qPartTold_101 (1 : Int32) x4 m8) (Sum.elim (fun s' => pw (gz_loop (fun q : (Int32 × MM) => mb_X6_qPartTold_2 q.1 q.2) s') (pK x1 Q)) (pK x1 Q)) := by
      intro m8 x4 two hx4 eW hp3 q8 g8 s8
      have hp3' := skp_le hT hp3
      have gsk3 := skp_ge T n (p + 3)
      generalize skp T n (p + 3) = p3 at eW g8 hp3' gsk3
      have htw : two ≠ 0 := by omega
      refine within2M (two := (two : Int)) (by rcases hx4 with ⟨z1, z2⟩ | ⟨z1, z2⟩; exact Or.inl ⟨z1, by omega⟩; exact Or.inr ⟨z1, by omega⟩) (hL.q q8) g8 s8 (by omega) ho (fun c d1 m9 g9 s9 q9 => ?_) (fun c mE j1 j2 => hE 1 p3 mE ?_ j1 (q8.trans j2)) (fun c d1 mE j1 j2 => hE 4 p3 mE ?_ j1 (q8.trans j2))
      · have n40 : ¬ (T p3 ≠ 40) := fun z => z c
        have hp1 := T_lt hT c (by omega)
        have gsk := skp_ge T n (p3 + 1)
        have Q9 := q8.trans q9
        refine ihS d1 Q (skp T n (p3 + 1)) C ((20 + (two : Int)) :: W) m9 (hL.q Q9) g9 s9 (by rw [List.length_cons]; omega) (by rw [List.length_cons]; omega) (br_ok (by omega) hW) (Or.inr ⟨_, W, rfl, by omega⟩) (br_on (by omega)) (fun p1 c1' P C1 m5 e5 g5 s5 hP5 hE5 hno q5 => ?_) (fun k l mE e5 j1 j2 => hE k l mE ?_ j1 (Q9.trans j2))
        · have hk := (hsok (o + 1) _ (skp_le hT (show _ + 1 ≤ n from hp1)) (skp_skp hT _)).get e5
          have hlen := len_eq hE5
          have Q5 := Q9.trans q5
          refine goComma (hL.q Q5) g5 s5 (by simp only [List.length_append, List.length_cons]; omega) hP5 hb (by omega) hno (fun c4 m6 g6 s6 q6 => ?_) (fun c4 mE j1 j2 => hE 1 p1 mE ?_ j1 (Q5.trans j2))
          · have n44 : ¬ (T p1 ≠ 44) := fun z => z c4
            have hp2 := T_lt hT c4 (by omega)
            have gsk2 := skp_ge T n (p1 + 1)
            have Q6 := Q5.trans q6
            refine ihS d1 Q (skp T n (p1 + 1)) (P.reverse ++ C1) ((20 + (two : Int) + 2) :: W) m6 (hL.q Q6) g6 s6 (by rw [List.length_cons, List.length_append, List.length_reverse]; omega) (by rw [List.length_cons]; omega) (br_ok (by omega) hW) (Or.inr ⟨_, W, rfl, by omega⟩) (br_on (by omega)) (fun p2 c2' P2 C2 m10 e10 g10 s10 hP10 hE10 hno10 q10 => ?_) (fun k l mE e10 j1 j2 => hE k l mE ?_ j1 (Q6.trans j2))
            · have hk2 := (hsok (o + 1) _ (skp_le hT (show _ + 1 ≤ n from hp2)) (skp_skp hT _)).get e10
              have hlen2 := len_eq hE10
              simp only [List.length_append, List.length_reverse] at hlen2
              have Q10 := Q6.trans q10
              by_cases c5 : T p2 = 41
              · refine goClose (hL.q Q10) g10 s10 (by simp only [List.length_append, List.length_cons]; omega) (by omega) hP10 hb (by omega) c5 (fun m11 g11 s11 q11 => hB _ (c1' ++ (c2' ++ [4 + (two : Int)])) m11 ?_ g11 ?_ (Q10.trans q11))
                · rw [eW]
                  unfold sWithin
                  rw [if_neg n40, if_neg d1, e5]
                  dsimp only
                  rw [if_neg htw, if_neg n44, e10]
                  dsimp only
                  rw [if_pos c5]
                · rw [if_neg (by omega), hE10, hE5] at s11
                  simp only [List.reverse_append, List.reverse_cons, List.reverse_nil, List.nil_append, List.append_assoc, List.singleton_append]
                  rw [show 4 + (two : Int) = 20 + (two : Int) + 2 - 18 by omega]
                  exact s11
              · refine goFail (hL.q Q10) g10 s10 (by simp only [List.length_append, List.length_cons]; omega) hP10 hb (by omega) hno10 c5 (fun mE j1 j2 => hE 1 p2 mE ?_ j1 (Q10.trans j2))
                rw [eW]
                unfold sWithin
                rw [if_neg n40, if_neg d1, e5]
                dsimp only
                rw [if_neg htw, if_neg n44, e10]
                dsimp only
                rw [if_neg c5]
            · rw [eW]
              unfold sWithin
              rw [if_neg n40, if_neg d1, e5]
              dsimp only
              rw [if_neg htw, if_neg n44, e10]
          · rw [eW]
            unfold sWithin
            rw [if_neg n40, if_neg d1, e5]
            dsimp only
            rw [if_neg htw, if_pos c4]
        · rw [eW]
          unfold sWithin
          rw [if_neg n40, if_neg d1, e5]
      · rw [eW]
        unfold sWithin
        rw [if_pos c]
      · rw [eW]
        unfold sWithin
        rw [if_neg (fun z => z c), if_pos d1]
    have wmin : (1082, wMin) ∈ wds := by decide +kernel
    have wmax : (1083, wMax) ∈ wds := by decide +kernel
    refine pw_f (by rw [iI_lit, iI_eq (by omega) (by omega)]; exact c1) (pw_bind (pw_mono (p_isHere L7 b7.gd wmin) ?_))
    rintro ⟨r, m8⟩ ⟨rfl, a8, b8⟩
    dsimp only at a8 b8 ⊢
    have X8 := X7.trans a8
    by_cases c2 : isW T n p wMin
    · rw [if_pos c2]
      refine pw_f n10 ?_
      unfold mj_X6_qPartTold_78
      have eW : sA T n ask (d + 1) o p = sWithin T n sm 1 o (skp T n (p + 3)) := by rw [eA]; unfold sAtomF; rw [if_neg c1, if_pos c2]
      refine pw_bind (pw_mono (p_takes (hL.x X8) b8.gd wmin) ?_)
      rintro ⟨r, m9⟩ ⟨e1, ⟨-, rfl, e3⟩ | ⟨e2, -⟩⟩
      · dsimp only at e1 e3 ⊢
        exact pw_f n10 (two_ m9 1 1 (Or.inl ⟨rfl, rfl⟩) eW (isW_le hT c2) (X8.trans e1).q e3 (h.x (X8.trans e1)))
      · exact absurd c2 e2
    rw [if_neg c2]
    refine pw_t (by first | rfl | exact True.intro) (pw_bind (pw_mono (p_isHere (hL.x X8) b8.gd wmax) ?_))
    rintro ⟨r, m9⟩ ⟨rfl, a9, b9⟩
    dsimp only at a9 b9 ⊢
    have X9 := X8.trans a9
    by_cases c3 : isW T n p wMax
    · rw [if_pos c3]
      refine pw_f n10 ?_
      unfold mj_X6_qPartTold_78
      have eW : sA T n ask (d + 1) o p = sWithin T n sm 2 o (skp T n (p + 3)) := by rw [eA]; unfold sAtomF; rw [if_neg c1, if_neg c2, if_pos c3]
      refine pw_bind (pw_mono (p_takes (hL.x X9) b9.gd wmin) ?_)
      rintro ⟨r, m10⟩ ⟨e1, ⟨e2, -⟩ | ⟨-, rfl, e3⟩⟩
      · exact absurd e2 c2
      · dsimp only at e1 e3 ⊢
        have X10 := X9.trans e1
        refine pw_t (by first | rfl | exact True.intro) (pw_bind (pw_mono (p_asks (hL.x X10) e3.gd wmax) ?_))
        rintro ⟨⟨⟩, m11⟩ ⟨f1, ⟨-, f2⟩ | ⟨f2, -⟩⟩
        · dsimp only at f1 f2 ⊢
          exact two_ m11 0 2 (Or.inr ⟨rfl, rfl⟩) eW (isW_le hT c3) (X10.trans f1).q f2 (h.x (X10.trans f1))
        · exact absurd c3 f2
    rw [if_neg c3]
    refine pw_t (by first | rfl | exact True.intro) ?_
    have hkb := qK_b T n p
    by_cases c4 : (7 ≤ qK T n p ∧ qK T n p < 9) ∧ qAl ask (qK T n p)
    · rw [if_pos c4]
      have hW9 := qK_W p c4.1.2
      have hlw := isW_le hT hW9
      have hw2 := kW_len (qK T n p)
      have eO : sA T n ask (d + 1) o p = (if o = 6 then Sum.inl (4, p) else match sA T n ask d (o + 1) (skp T n (p + (kW (qK T n p)).length)) with
        | Sum.inl e => Sum.inl e
        | Sum.inr (p1, c1) => Sum.inr (p1, c1 ++ [53 + (qK T n p : Int)])) := by rw [eA]; unfold sAtomF; rw [if_neg c1, if_neg c2, if_neg c3, if_pos c4]; rfl
      generalize hkk : qK T n p = kk at c4 hW9 hlw hw2 eO hkb
      refine pw_f (by rw [show (-1 : Int32) = iI (-1) by decide, iI_eq (by omega) (by omega)]; omega) ?_
      have eop : (60 : Int32) + iI (kk : Int) - (7 : Int32) = iI (53 + (kk : Int)) := by
        rw [iI_lit, iI_lit, iI_add, iI_sub]
        exact congrArg iI (by omega)
      rw [eop, b9.1.2.1]
      unfold mj_X6_qPartTold_183
      refine pw_bind (pw_mono (p_qOpens (T := T) (n := n) (h.x X9) b9.1.1 ho (by omega) (53 + (kk : Int)) p) ?_)
      rintro ⟨⟨⟩, m2⟩ (⟨d1, d2, d3⟩ | ⟨d1, d2, d3⟩)
      · dsimp only at d2 d3 ⊢
        rw [p_qAsksWord_bad d2.ne]
        exact pw_bind (pw_some (pw_some (partBad (bq.of d2 (h.x X9) (by omega) d3) (fun mE j1 j2 => hE 4 p mE (by rw [eO, if_pos d1]) j1 ((X9.q.trans d3.q).trans j2)) 1)))
      · dsimp only at d2 d3 ⊢
        have Q2 := X9.q.trans d3.1
        refine pw_bind (pw_mono (p_qAsksWord (hL.q Q2) (b9.y d3).gd c4.1.2 hW9) ?_)
        rintro ⟨⟨⟩, m3⟩ ⟨e1, e2⟩
        dsimp only at e1 e2 ⊢
        have Q3 := Q2.trans e1.q
        have gsk := skp_ge T n (p + (kW kk).length)
        refine pw_some ?_
        show pA x1 Q m3
        refine ihA d1 Q (skp T n (p + (kW kk).length)) C ((53 + (kk : Int)) :: W) m3 (hL.q Q3) e2 (d2.x e1) (by rw [List.length_cons]; omega) (by rw [List.length_cons]; omega) (fun y hy => ?_) (fun p1 c1' m5 e5 g5 s5 q5 => ?_) (fun k l mE e5 j1 j2 => hE k l mE (by rw [eO, if_neg d1, e5]) j1 (Q3.trans j2))
        · rcases List.mem_cons.mp hy with z | z
          · rw [z]; omega
          · exact hW y z
        · have hk := (haok (o + 1) _ (skp_le hT hlw) (skp_skp hT _)).get e5
          refine endsOf1 (T := T) (n := n) (p := p1) s5 g5 (by simp only [List.length_append, List.length_reverse]; omega) (by omega) hb (by omega) (fun m6 s6 g6 q6 => hB p1 (c1' ++ [53 + (kk : Int)]) m6 (by rw [eO, if_neg d1, e5]) g6 ?_ ((Q3.trans q5).trans q6))
          simp only [List.reverse_append, List.reverse_cons, List.reverse_nil, List.nil_append, List.singleton_append]
          exact s6
    · rw [if_neg c4]
      refine pw_t (by decide) ?_
      unfold mj_X6_qPartTold_183
      refine pw_some ?_
      -- a part without brackets
      refine pw_unroll ?_
      dsimp only
      refine pw_t (by first | trivial | rfl) (pw_map (pw_mono (partEnd (hL.x X9) b9.gd (h.x X9) (by omega) (fun cc p' m' hc g' s' q' => ?_) (fun hc k l mE e5 j1 j2 => hE k l mE ?_ j1 (X9.q.trans j2))) (fun q hq => hq)))
      · have := hB p' [cc] m' ?_ g' s' (X9.q.trans q')
        · exact this
        · rw [eA]
          unfold sAtomF
          rw [if_neg c1, if_neg c2, if_neg c3, if_neg c4]
          rcases hc with ⟨hc1, hc2, hc3⟩ | ⟨hc1, v, hc2, hc3⟩
          · rw [if_pos hc1, hc2, hc3]
          · rw [if_neg hc1, hc2, hc3]
      · rw [eA]
        unfold sAtomF
        rw [if_neg c1, if_neg c2, if_neg c3, if_neg c4, if_neg hc, e5]
end AtomM
/-- a sum is read, as the spec reads it -/
theorem p_qSums {T : Nat → Int} {n : Nat} {ask : Bool} (hT : tOK T n) {m : MM} {C V : List Int} {o b0 p : Nat} (hL : lxM T n m) (g : gd T n m p) (h : eS m C V o b0 ask) (hl : C.length + V.length ≤ p) (ho : o ≤ 6) (hb0 : b0 ≤ 1700) (hV : wOK V) (hon : onT V 3 = false ∧ onT V 4 = false ∧ onT V 1 = false ∧ onT V 2 = false) : pw (mf_qSums m) (fun q => qF m q.2 ∧ ((∃ p' cs, sSum T n (sA T n ask 8) o p = Sum.inr (p', cs) ∧ gd T n q.2 p' ∧ eS q.2 (cs.reverse ++ C) V o b0 ask) ∨ ∃ k l, sSum T n (sA T n ask 8) o p = Sum.inl (k, l) ∧ bq q.2 k l)) := by
  have hn := hT.1
  obtain ⟨hpn, hskp⟩ := g.le hT
  unfold mf_qSums
  rw [h.2.2.2.1, h.2.2.2.2.2.1]
  refine pw_let ?_
  have h1 := h.base V.length
  have y1 : yS m (msI m 2000 97 (iI (V.length : Int))) := yS.sI (by omega)
  generalize msI m 2000 97 (iI (V.length : Int)) = m1 at h1 y1
  have g1 := g.y y1
  refine sumsA g1.z ?_
  refine sumP_of hT (atom_ok (x1 := iI b0) (b := V.length) hT 8 o ho (by omega)) (sA_ok hT 8) _ p C V m1 (hL.q y1.1) g1 h1 hl (Nat.le_refl _) hV (Or.inl rfl) hon (fun p' cs P C1 m' e g' s' hP hE hno q' => ?_) (fun k l mE e j1 j2 => ⟨y1.1.trans j2, Or.inr ⟨k, l, e, j1⟩⟩)
  have hk := (sSum_ok hT (sA_ok hT 8) o p hpn hskp).get e
  have hlen := len_eq hE
  refine goEnd (b0 := b0) (hL.q (y1.1.trans q')) g' s' (by simp only [List.length_append]; omega) hP hno (fun m2 s2 g2 q2 => ⟨(y1.1.trans q').trans q2, Or.inl ⟨p', cs, e, g2, ?_⟩⟩)
  rw [hE] at s2
  exact s2
