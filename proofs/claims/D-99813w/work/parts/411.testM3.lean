section FactM
variable {T : Nat → Int} {n : Nat} {ask : Bool}
def factP (T : Nat → Int) (n : Nat) (ask : Bool) (ft : Nat → Nat → Rs (List Int)) (o : Nat) : Prop := ∀ (Q : Unit × MM → Prop) (p : Nat) (C W : List Int) (m : MM), lxM T n m → gd T n m p → eS m C W o 0 ask → C.length + W.length ≤ p → tW W → (∀ (p' : Nat) (cs : List Int) (m' : MM), ft o p = Sum.inr (p', cs) → gd T n m' p' → eS m' (cs.reverse ++ C) W o 0 ask → qF m m' → tBn Q m') → (∀ (k : Int) (l : Nat) (mE : MM), ft o p = Sum.inl (k, l) → bd mE k l → qF m mE → Q ((), mE)) → tA Q m
def andS (P : List Int) : Prop := P = [] ∨ P = [10]
theorem andS.mem {P : List Int} (h : andS P) : ∀ x ∈ P, x = 10 := by
  intro x hx
  rcases h with rfl | rfl
  · cases hx
  · exact List.mem_singleton.mp hx
theorem bothL (hT : tOK T n) {ft : Nat → Nat → Rs (List Int)} {o : Nat} (hft : factP T n ask ft o) (hok : rsAll T n ft) {Q : Unit × MM → Prop} {W C : List Int} {q : Nat} (hW : tW W) (hon : onT W 10 = false) (hq : C.length + W.length ≤ q) : ∀ (f p : Nat) (cs P C1 : List Int) (m : MM), n + 1 ≤ f + p → p ≤ n → lxM T n m → gd T n m p → eS m C1 (P ++ W) o 0 ask → andS P → P.reverse ++ C1 = cs.reverse ++ C → cs.length + q ≤ p → (∀ (p' : Nat) (cs' P' C1' : List Int) (m' : MM), sBothL T n ft o f p cs = Sum.inr (p', cs') → gd T n m' p' → eS m' C1' (P' ++ W) o 0 ask → andS P' → P'.reverse ++ C1' = cs'.reverse ++ C → ¬ isW T n p' wAnd → qF m m' → tG Q m') → (∀ (k : Int) (l : Nat) (mE : MM), sBothL T n ft o f p cs = Sum.inl (k, l) → bd mE k l → qF m mE → Q ((), mE)) → tG Q m
  | 0, p, cs, P, C1, m, h1, h2, _, _, _, _, _, _, _, _ => by omega
  | f + 1, p, cs, P, C1, m, h1, h2, hL, g, h, hP, hE, hcs, hG, hQ => by
    have hn := hT.1
    have hlen := len_eq hE
    have hPl : P.length ≤ 1 := by rcases hP with rfl | rfl <;> simp
    by_cases c : isW T n p wAnd
    · have hp1 : p + 3 ≤ n := isW_le hT c
      have gsk := skp_ge T n (p + 3)
      have hskn := skp_le hT hp1
      have hW2 : tW (10 :: W) := fun x hx => by
        rcases List.mem_cons.mp hx with z | z
        · omega
        · exact hW x z
      refine tgAnd hL g h (by simp only [List.length_append]; omega) hP.mem hW hon c (fun m2 g2 s2 q2 => ?_)
      have hL2 := hL.q q2
      refine hft Q _ _ _ m2 hL2 g2 s2 ?_ hW2 (fun p1 c1 m3 e1 g3 s3 q3 => ?_) (fun k l mE e1 e2 e3 => hQ k l mE (sBothL_e c e1) e2 (q2.trans e3))
      · simp only [List.length_append, List.length_reverse, List.length_cons]
        omega
      · have ho := (hok o _ hskn (skp_skp hT _)).get e1
        refine notsNo (T := T) (n := n) (p := p1) s3 g3 (by simp only [List.length_cons]; omega) hW2 rfl ?_
        refine bothL hT hft hok hW hon hq f p1 (cs ++ (c1 ++ [10])) [10] (c1.reverse ++ (P.reverse ++ C1)) m3 (by omega) ho.2.1 (hL2.q q3) g3 s3 (Or.inr rfl) ?_ ?_ (fun p' cs' P' C1' m' e2 a1 a2 a3 a4 a5 a6 => hG p' cs' P' C1' m' ((sBothL_y c e1).trans e2) a1 a2 a3 a4 a5 ((q2.trans q3).trans a6)) (fun k l mE e2 a1 a2 => hQ k l mE ((sBothL_y c e1).trans e2) a1 ((q2.trans q3).trans a2))
        · rw [hE]
          simp only [List.reverse_append, List.reverse_cons, List.reverse_nil, List.nil_append, List.append_assoc, List.singleton_append, List.cons_append]
        · simp only [List.length_append, List.length_cons, List.length_nil]
          omega
    · exact hG p cs P C1 m (sBothL_n c) g h hP hE c (qF.refl m)
theorem bothP (hT : tOK T n) {ft : Nat → Nat → Rs (List Int)} {o : Nat} (hft : factP T n ask ft o) (hok : rsAll T n ft) {Q : Unit × MM → Prop} {W C : List Int} {q : Nat} {m : MM} (hW : tW W) (hon : onT W 10 = false) (h12 : onT W 12 = false) (hq : C.length + W.length ≤ q) (hL : lxM T n m) (g : gd T n m q) (h : eS m C W o 0 ask) (hG : ∀ (p' : Nat) (cs' P' C1' : List Int) (m' : MM), sBoth T n ft o q = Sum.inr (p', cs') → gd T n m' p' → eS m' C1' (P' ++ W) o 0 ask → andS P' → P'.reverse ++ C1' = cs'.reverse ++ C → ¬ isW T n p' wAnd → qF m m' → tG Q m') (hQ : ∀ (k : Int) (l : Nat) (mE : MM), sBoth T n ft o q = Sum.inl (k, l) → bd mE k l → qF m mE → Q ((), mE)) : tA Q m := by
  have hn := hT.1
  obtain ⟨hqn, hsk⟩ := g.le hT
  refine hft Q q C W m hL g h hq hW (fun p1 c1 m2 e1 g2 s2 q2 => ?_) (fun k l mE e1 e2 e3 => hQ k l mE (by rw [sBoth, e1]) e2 e3)
  have ho := (hok o _ hqn hsk).get e1
  refine notsNo (T := T) (n := n) (p := p1) s2 g2 (by omega) hW h12 ?_
  refine bothL hT hft hok hW hon hq (n + 1) p1 c1 [] (c1.reverse ++ C) m2 (by omega) ho.2.1 (hL.q q2) g2 s2 (Or.inl rfl) rfl ho.2.2.2.1 (fun p' cs' P' C1' m' e2 a1 a2 a3 a4 a5 a6 => hG p' cs' P' C1' m' (by rw [sBoth, e1]; exact e2) a1 a2 a3 a4 a5 (q2.trans a6)) (fun k l mE e2 a1 a2 => hQ k l mE (by rw [sBoth, e1]; exact e2) a1 (q2.trans a2))
def sqT (V : List Int) : Prop := V = [] ∨ ∃ V', V = 25 :: V'
theorem sqT.on {V : List Int} (h : sqT V) {t : Int} (ht : t ≠ 25) : onT V t = false := by
  rcases h with rfl | ⟨V', rfl⟩
  · rfl
  · exact decide_eq_false (fun z => ht z.symm)
theorem testL (hT : tOK T n) {ft : Nat → Nat → Rs (List Int)} {o : Nat} (hft : factP T n ask ft o) (hok : rsAll T n ft) {Q : Unit × MM → Prop} {V C : List Int} {q : Nat} (hV : tW V) (hsq : sqT V) (hq : C.length + V.length ≤ q) : ∀ (f p : Nat) (cs P C1 : List Int) (m : MM), n + 1 ≤ f + p → p ≤ n → lxM T n m → gd T n m p → eS m C1 (P ++ V) o 0 ask → (∀ x ∈ P, x = 10 ∨ x = 11) → P.reverse ++ C1 = cs.reverse ++ C → cs.length + q ≤ p → ¬ isW T n p wAnd → (∀ (p' : Nat) (cs' P' C1' : List Int) (m' : MM), sTestL T n ft o f p cs = Sum.inr (p', cs') → gd T n m' p' → eS m' C1' (P' ++ V) o 0 ask → (∀ x ∈ P', x = 10 ∨ x = 11) → P'.reverse ++ C1' = cs'.reverse ++ C → (¬ isW T n p' wAnd ∧ ¬ isW T n p' wOr) → qF m m' → tG Q m') → (∀ (k : Int) (l : Nat) (mE : MM), sTestL T n ft o f p cs = Sum.inl (k, l) → bd mE k l → qF m mE → Q ((), mE)) → tG Q m
  | 0, p, cs, P, C1, m, h1, h2, _, _, _, _, _, _, _, _, _ => by omega
  | f + 1, p, cs, P, C1, m, h1, h2, hL, g, h, hP, hE, hcs, hna, hG, hQ => by
    have hn := hT.1
    have hlen := len_eq hE
    by_cases c : isW T n p wOr
    · have hp1 : p + 2 ≤ n := isW_le hT c
      have gsk := skp_ge T n (p + 2)
      have hskn := skp_le hT hp1
      have hW2 : tW (11 :: V) := fun x hx => by
        rcases List.mem_cons.mp hx with z | z
        · omega
        · exact hV x z
      refine tgOr hL g h (by simp only [List.length_append]; omega) hP hV ⟨hsq.on (by omega), hsq.on (by omega)⟩ c (fun m2 g2 s2 q2 => ?_)
      have hL2 := hL.q q2
      refine bothP hT hft hok (W := 11 :: V) (C := P.reverse ++ C1) (q := skp T n (p + 2)) (m := m2) hW2 rfl rfl ?_ hL2 g2 s2 (fun p1 c1 P1 C2 m3 e1 g3 s3 a1 a2 a3 q3 => ?_) (fun k l mE e1 e2 e3 => hQ k l mE (sTestL_e c e1) e2 (q2.trans e3))
      · simp only [List.length_append, List.length_reverse, List.length_cons]
        omega
      · have ho := (sBoth_ok hT hok o _ hskn (skp_skp hT _)).get e1
        have e4 : sTestL T n ft o (f + 1) p cs = sTestL T n ft o f p1 (cs ++ (c1 ++ [11])) := sTestL_y c e1
        refine testL hT hft hok hV hsq hq f p1 (cs ++ (c1 ++ [11])) (P1 ++ [11]) C2 m3 (by omega) ho.2.1 (hL2.q q3) g3 (by rw [List.append_assoc]; exact s3) ?_ ?_ ?_ a3 (fun p' cs' P' C1' m' e2 b1 b2 b3 b4 b5 b6 => hG p' cs' P' C1' m' (e4.trans e2) b1 b2 b3 b4 b5 ((q2.trans q3).trans b6)) (fun k l mE e2 b1 b2 => hQ k l mE (e4.trans e2) b1 ((q2.trans q3).trans b2))
        · intro x hx
          rcases List.mem_append.mp hx with z | z
          · exact Or.inl (a1.mem x z)
          · exact Or.inr (List.mem_singleton.mp z)
        · rw [List.reverse_append, List.append_assoc, a2, hE]
          simp only [List.reverse_append, List.reverse_cons, List.reverse_nil, List.nil_append, List.append_assoc, List.singleton_append, List.cons_append]
        · simp only [List.length_append, List.length_cons, List.length_nil]
          omega
    · exact hG p cs P C1 m (sTestL_n c) g h hP hE ⟨hna, c⟩ (qF.refl m)
theorem testP (hT : tOK T n) {ft : Nat → Nat → Rs (List Int)} {o : Nat} (hft : factP T n ask ft o) (hok : rsAll T n ft) {Q : Unit × MM → Prop} {V C : List Int} {p : Nat} {m : MM} (hV : tW V) (hsq : sqT V) (hl : C.length + V.length ≤ p) (hL : lxM T n m) (g : gd T n m p) (h : eS m C V o 0 ask) (hG : ∀ (p' : Nat) (cs' P' C1' : List Int) (m' : MM), sTest T n ft o p = Sum.inr (p', cs') → gd T n m' p' → eS m' C1' (P' ++ V) o 0 ask → (∀ x ∈ P', x = 10 ∨ x = 11) → P'.reverse ++ C1' = cs'.reverse ++ C → (¬ isW T n p' wAnd ∧ ¬ isW T n p' wOr) → qF m m' → tG Q m') (hQ : ∀ (k : Int) (l : Nat) (mE : MM), sTest T n ft o p = Sum.inl (k, l) → bd mE k l → qF m mE → Q ((), mE)) : tA Q m := by
  have hn := hT.1
  obtain ⟨hqn, hsk⟩ := g.le hT
  refine bothP hT hft hok (W := V) (C := C) (q := p) (m := m) hV (hsq.on (by omega)) (hsq.on (by omega)) hl hL g h (fun p1 c1 P1 C2 m2 e1 g2 s2 a1 a2 a3 q2 => ?_) (fun k l mE e1 e2 e3 => hQ k l mE (by rw [sTest, e1]) e2 e3)
  have ho := (sBoth_ok hT hok o _ hqn hsk).get e1
  refine testL hT hft hok hV hsq hl (n + 1) p1 c1 P1 C2 m2 (by omega) ho.2.1 (hL.q q2) g2 s2 (fun x hx => Or.inl (a1.mem x hx)) a2 ho.2.2.2.1 a3 (fun p' cs' P' C1' m' e2 b1 b2 b3 b4 b5 b6 => hG p' cs' P' C1' m' (by rw [sTest, e1]; exact e2) b1 b2 b3 b4 b5 (q2.trans b6)) (fun k l mE e2 b1 b2 => hQ k l mE (by rw [sTest, e1]; exact e2) b1 (q2.trans b2))
theorem fact_ok (hT : tOK T n) : ∀ d o : Nat, o ≤ 6 → 7 ≤ d + o → factP T n ask (sF T n ask d) o
  | 0, o, h1, h2 => by omega
  | d + 1, o, ho, hd => by
    have ihF : o ≠ 6 → factP T n ask (sF T n ask d) (o + 1) := fun z => fact_ok hT d (o + 1) (by omega) (by omega)
    have hfok := sF_ok (ask := ask) hT d
    have hn := hT.1
    intro Q p C W m hL g h hl hW hB hE
    obtain ⟨hpn, hskp⟩ := g.le hT
    have hr := hT.r p
    have eF : sF T n ask (d + 1) o p = sFactF T n ask (sF T n ask d) o p := rfl
    unfold tA ml_X6_qTest_2
    refine pw_unroll ?_
    unfold mb_X6_qTest_2
    refine pw_f n10 (pw_t g.z (pw_bind (pw_mono (p_look hL g) ?_)))
    rintro ⟨r, m4⟩ ⟨rfl, a4, b4⟩
    dsimp only at a4 b4 ⊢
    have S4 := h.x a4
    have L4 := hL.x a4
    by_cases c1 : T p = 91
    · have hp1 := T_lt hT c1 (by omega)
      have e1 : iI (p : Int) + (1 : Int32) = iI ((p + 1 : Nat) : Int) := by rw [iI_lit, iI_add]; rfl
      refine pw_t (by rw [c1]; rfl) ?_
      rw [b4.1.2.1]
      refine pw_bind (pw_mono (p_qOpens (T := T) (n := n) S4 b4.1.1 ho (by omega) 25 p) ?_)
      rintro ⟨⟨⟩, m2⟩ (⟨d1, d2, d3⟩ | ⟨d1, d2, d3⟩)
      · dsimp only at d2 d3 ⊢
        simp only [gz_let]
        have hb2 := d2.mv (m' := msI m2 2000 2 (m2.1 2000 2 + (1 : Int32))) (by rw [msI_i, if_neg (by omega)]) (by rw [msI_i, if_neg (by omega)])
        refine pw_some ?_
        show pw (ml_X6_qTest_2 1 _) Q
        refine testBad hb2 (hE 4 p _ ?_ hb2 ((a4.q.trans d3.q).trans (qF.sI (by unfold qX xK; omega)))) 1
        rw [eF]
        unfold sFactF
        rw [if_pos c1, if_pos d1]
      · dsimp only at d2 d3 ⊢
        simp only [gz_let]
        have g2 := b4.y d3
        rw [g2.1.2.1, e1]
        have g3 : gA T n (msI m2 2000 2 (iI ((p + 1 : Nat) : Int))) (p + 1) := g2.1.step hT hp1 (by rw [c1]; decide)
        have X3 : xF m2 (msI m2 2000 2 (iI ((p + 1 : Nat) : Int))) := xF.sI (by omega)
        have S3 := d2.x X3
        have Q3 := (a4.q.trans d3.1).trans X3.q
        generalize msI m2 2000 2 (iI ((p + 1 : Nat) : Int)) = m3 at g3 S3 Q3
        have gsk := skp_ge T n (p + 1)
        have hW2 : tW (25 :: W) := fun x hx => by
          rcases List.mem_cons.mp hx with z | z
          · omega
          · exact hW x z
        refine pw_some ?_
        show tA Q m3
        refine testP hT (ihF d1) hfok (V := 25 :: W) (C := C) (p := skp T n (p + 1)) (m := m3) hW2 (Or.inr ⟨W, rfl⟩) (by rw [List.length_cons]; omega) (hL.q Q3) g3.gd S3 (fun p1 c1' P C1 m5 e5 g5 s5 hP5 hE5 hno q5 => ?_) (fun k l mE e5 j1 j2 => hE k l mE ?_ j1 (Q3.trans j2))
        · have hk := (sTest_ok hT hfok (o + 1) _ (skp_le hT (show p + 1 ≤ n by omega)) (skp_skp hT _)).get e5
          have hlen := len_eq hE5
          have hll : C1.length + (P ++ 25 :: W).length < 1640 := by simp only [List.length_append, List.length_cons]; omega
          by_cases c4 : T p1 = 93
          · refine tgClose (hL.q (Q3.trans q5)) g5 s5 (by omega) (by omega) hP5 hW c4 (fun m6 g6 s6 q6 => hB _ c1' m6 ?_ g6 ?_ ((Q3.trans q5).trans q6))
            · rw [eF]
              unfold sFactF
              rw [if_pos c1, if_neg d1, e5]
              dsimp only
              rw [if_pos c4]
            · rw [hE5] at s6
              exact s6
          · have hPW : tW (P ++ 25 :: W) := fun x hx => by
              rcases List.mem_append.mp hx with z | z
              · have := hP5 x z; omega
              · exact hW2 x z
            refine tgFail (hL.q (Q3.trans q5)) g5 s5 (by omega) hPW (by simp) hno c4 (fun mE j1 j2 => hE 1 p1 mE ?_ j1 ((Q3.trans q5).trans j2))
            rw [eF]
            unfold sFactF
            rw [if_pos c1, if_neg d1, e5]
            dsimp only
            rw [if_neg c4]
        · rw [eF]
          unfold sFactF
          rw [if_pos c1, if_neg d1, e5]
    refine pw_f (by rw [iI_lit, iI_eq (by omega) (by omega)]; exact c1) (pw_bind (pw_mono (p_isHere L4 b4.gd wNot_in) ?_))
    rintro ⟨r, m8⟩ ⟨rfl, a8, b8⟩
    dsimp only at a8 b8 ⊢
    have X8 := a4.trans a8
    by_cases c2 : isW T n p wNot
    · rw [if_pos c2]
      refine pw_f n10 ?_
      have hp1 : p + 3 ≤ n := isW_le hT c2
      rw [b8.1.2.1]
      refine pw_bind (pw_mono (p_qOpens (T := T) (n := n) (h.x X8) b8.1.1 ho (by omega) 12 p) ?_)
      rintro ⟨⟨⟩, m2⟩ (⟨d1, d2, d3⟩ | ⟨d1, d2, d3⟩)
      · dsimp only at d2 d3 ⊢
        rw [p_asks_bad d2.ne]
        refine pw_bind (pw_some (pw_some ?_))
        show pw (ml_X6_qTest_2 1 m2) Q
        refine testBad d2 (hE 4 p _ ?_ d2 (X8.q.trans d3.q)) 1
        rw [eF]
        unfold sFactF
        rw [if_neg c1, if_pos c2, if_pos d1]
      · dsimp only at d2 d3 ⊢
        have Q2 := X8.q.trans d3.1
        refine pw_bind (pw_mono (p_asks (hL.q Q2) (b8.y d3).gd wNot_in) ?_)
        rintro ⟨⟨⟩, m3⟩ ⟨e1, ⟨-, e2⟩ | ⟨e2, -⟩⟩
        · dsimp only at e1 e2 ⊢
          have Q3 := Q2.trans e1.q
          have gsk := skp_ge T n (p + 3)
          have hW2 : tW (12 :: W) := fun x hx => by
            rcases List.mem_cons.mp hx with z | z
            · omega
            · exact hW x z
          refine pw_some ?_
          show tA Q m3
          refine ihF d1 Q (skp T n (p + 3)) C (12 :: W) m3 (hL.q Q3) e2 (d2.x e1) (by rw [List.length_cons]; omega) hW2 (fun p1 c1' m5 e5 g5 s5 q5 => ?_) (fun k l mE e5 j1 j2 => hE k l mE ?_ j1 (Q3.trans j2))
          · have hk := (hfok (o + 1) _ (skp_le hT hp1) (skp_skp hT _)).get e5
            refine notsOn (T := T) (n := n) (p := p1) s5 g5 (by simp only [List.length_append, List.length_reverse]; omega) (by omega) hW (fun m6 s6 g6 q6 => hB p1 (c1' ++ [12]) m6 ?_ g6 ?_ ((Q3.trans q5).trans q6))
            · rw [eF]
              unfold sFactF
              rw [if_neg c1, if_pos c2, if_neg d1, e5]
            · simp only [List.reverse_append, List.reverse_cons, List.reverse_nil, List.nil_append, List.singleton_append]
              exact s6
          · rw [eF]
            unfold sFactF
            rw [if_neg c1, if_pos c2, if_neg d1, e5]
        · exact absurd c2 e2
    rw [if_neg c2]
    refine pw_t (by first | rfl | exact True.intro) (pw_bind (pw_mono (p_qFact hT (ft := sF T n ask d) (hL.x X8) b8.gd (h.x X8) hl ho hW c1 c2) ?_))
    rintro ⟨⟨⟩, m9⟩ ⟨q9, ⟨p', cs, e9, g9, s9⟩ | ⟨k, l, e9, b9⟩⟩
    · dsimp only at q9 g9 s9 ⊢
      have hk := (sF_ok (ask := ask) hT (d + 1) o p hpn hskp).get (eF.trans e9)
      refine pw_bind (pw_mono (hB p' cs m9 (eF.trans e9) g9 s9 (X8.q.trans q9)) ?_)
      rintro ⟨⟨⟩, m10⟩ ⟨z, hG⟩
      dsimp only at z hG ⊢
      refine pw_t z (pw_bind (pw_mono hG ?_))
      rintro ⟨r, m11⟩ hr
      dsimp only at hr ⊢
      unfold mj_X6_qTest_105 mj_X6_qTest_106
      by_cases y : r = 0
      · rw [if_pos y] at hr
        exact pw_t y (pw_some hr)
      · rw [if_neg y] at hr
        exact pw_f y (pw_some hr)
    · dsimp only at q9 b9 ⊢
      have hz := b9.ne
      refine pw_bind ?_
      unfold mf_qDropsNots ml_X6_qDropsNots_0
      refine pw_unroll ?_
      unfold mb_X6_qDropsNots_0
      refine pw_f hz (pw_some (pw_f hz ?_))
      unfold mj_X6_qTest_105 mj_X6_qTest_106
      refine pw_some ?_
      show pw (ml_X6_qTest_2 0 m9) Q
      exact testBad b9 (hE k l m9 (eF.trans e9) b9 (X8.q.trans q9)) 0
/-- a test is read, as the spec reads it -/
theorem p_qTest (hT : tOK T n) {m : MM} {C : List Int} {o p : Nat} (hL : lxM T n m) (g : gd T n m p) (h : eS m C [] o 0 ask) (hl : C.length ≤ p) (ho : o ≤ 6) : pw (mf_qTest m) (fun q => qF m q.2 ∧ ((∃ p' cs, sTest T n (sF T n ask 8) o p = Sum.inr (p', cs) ∧ gd T n q.2 p' ∧ eS q.2 (cs.reverse ++ C) [] o 0 ask) ∨ ∃ k l, sTest T n (sF T n ask 8) o p = Sum.inl (k, l) ∧ bd q.2 k l)) := by
  have hn := hT.1
  obtain ⟨hpn, hskp⟩ := g.le hT
  unfold mf_qTest
  refine testP hT (fact_ok hT 8 o ho (by omega)) (sF_ok hT 8) (V := []) (C := C) (fun x hx => by cases hx) (Or.inl rfl) hl hL g h (fun p' cs P C1 m' e g' s' hP hE hno q' => ?_) (fun k l mE e j1 j2 => ⟨j2, Or.inr ⟨k, l, e, j1⟩⟩)
  have hk := (sTest_ok hT (sF_ok hT 8) o p hpn hskp).get e
  have hlen := len_eq hE
  rw [List.append_nil] at s'
  have hPW : tW P := fun x hx => by have := hP x hx; omega
  refine tgEnd (hL.q q') g' s' (by omega) hPW (fun z => by have := hP 25 z; omega) hno (fun m2 s2 g2 q2 => ⟨q'.trans q2, Or.inl ⟨p', cs, e, g2, ?_⟩⟩)
  rw [hE] at s2
  exact s2
end FactM
