section TestOK
variable {T : Nat → Int} {n : Nat} {ask : Bool}
theorem sBothL_y {ft : Nat → Nat → Rs (List Int)} {o f p p1 : Nat} {cs c1 : List Int} (c : isW T n p wAnd) (e : ft o (skp T n (p + 3)) = Sum.inr (p1, c1)) : sBothL T n ft o (f + 1) p cs = sBothL T n ft o f p1 (cs ++ (c1 ++ [10])) := by
  rw [sBothL, if_pos c, e]
theorem sBothL_e {ft : Nat → Nat → Rs (List Int)} {o f p : Nat} {cs : List Int} {x : Int × Nat} (c : isW T n p wAnd) (e : ft o (skp T n (p + 3)) = Sum.inl x) : sBothL T n ft o (f + 1) p cs = Sum.inl x := by
  rw [sBothL, if_pos c, e]
theorem sBothL_n {ft : Nat → Nat → Rs (List Int)} {o f p : Nat} {cs : List Int} (c : ¬ isW T n p wAnd) : sBothL T n ft o (f + 1) p cs = Sum.inr (p, cs) := by
  rw [sBothL, if_neg c]
theorem sTestL_y {ft : Nat → Nat → Rs (List Int)} {o f p p1 : Nat} {cs c1 : List Int} (c : isW T n p wOr) (e : sBoth T n ft o (skp T n (p + 2)) = Sum.inr (p1, c1)) : sTestL T n ft o (f + 1) p cs = sTestL T n ft o f p1 (cs ++ (c1 ++ [11])) := by
  rw [sTestL, if_pos c, e]
theorem sTestL_e {ft : Nat → Nat → Rs (List Int)} {o f p : Nat} {cs : List Int} {x : Int × Nat} (c : isW T n p wOr) (e : sBoth T n ft o (skp T n (p + 2)) = Sum.inl x) : sTestL T n ft o (f + 1) p cs = Sum.inl x := by
  rw [sTestL, if_pos c, e]
theorem sTestL_n {ft : Nat → Nat → Rs (List Int)} {o f p : Nat} {cs : List Int} (c : ¬ isW T n p wOr) : sTestL T n ft o (f + 1) p cs = Sum.inr (p, cs) := by
  rw [sTestL, if_neg c]
theorem sBothL_ok (hT : tOK T n) {ft : Nat → Nat → Rs (List Int)} (ha : rsAll T n ft) (o : Nat) : ∀ (f p q : Nat) (cs : List Int), q < p → p ≤ n → skp T n p = p → cs.length + q ≤ p → 0 < cs.length → rsOK T n q (sBothL T n ft o f p cs)
  | 0, p, q, cs, h1, h2, h3, h4, h5 => ⟨h1, h2, h3, h4, h5⟩
  | f + 1, p, q, cs, h1, h2, h3, h4, h5 => by
    by_cases c : isW T n p wAnd
    · have hp1 : p + 3 ≤ n := isW_le hT c
      have g1 := skp_ge T n (p + 3)
      have h6 := ha o (skp T n (p + 3)) (skp_le hT (show _ + 1 ≤ n from hp1)) (skp_skp hT _)
      revert h6
      cases e : ft o (skp T n (p + 3)) with
      | inl x => intro h; rw [sBothL_e c e]; exact h
      | inr r =>
        obtain ⟨p1, cs1⟩ := r
        rintro ⟨a1, a2, a3, a4, a5⟩
        rw [sBothL_y c e]
        refine sBothL_ok hT ha o f p1 q _ (by omega) a2 a3 ?_ ?_
        · rw [List.length_append, List.length_append]
          show cs.length + (cs1.length + 1) + q ≤ p1
          omega
        · rw [List.length_append]; omega
    · rw [sBothL_n c]; exact ⟨h1, h2, h3, h4, h5⟩
theorem sBoth_ok (hT : tOK T n) {ft : Nat → Nat → Rs (List Int)} (ha : rsAll T n ft) : rsAll T n (sBoth T n ft) := by
  intro o p hp hsk
  unfold sBoth
  have h := ha o p hp hsk
  revert h
  cases ft o p with
  | inl e => exact fun h => h
  | inr r =>
    obtain ⟨p1, cs1⟩ := r
    rintro ⟨a1, a2, a3, a4, a5⟩
    exact sBothL_ok hT ha o _ p1 p cs1 a1 a2 a3 a4 a5
theorem sTestL_ok (hT : tOK T n) {ft : Nat → Nat → Rs (List Int)} (ha : rsAll T n ft) (o : Nat) : ∀ (f p q : Nat) (cs : List Int), q < p → p ≤ n → skp T n p = p → cs.length + q ≤ p → 0 < cs.length → rsOK T n q (sTestL T n ft o f p cs)
  | 0, p, q, cs, h1, h2, h3, h4, h5 => ⟨h1, h2, h3, h4, h5⟩
  | f + 1, p, q, cs, h1, h2, h3, h4, h5 => by
    by_cases c : isW T n p wOr
    · have hp1 : p + 2 ≤ n := isW_le hT c
      have g1 := skp_ge T n (p + 2)
      have h6 := sBoth_ok hT ha o (skp T n (p + 2)) (skp_le hT (show _ + 1 ≤ n from hp1)) (skp_skp hT _)
      revert h6
      cases e : sBoth T n ft o (skp T n (p + 2)) with
      | inl x => intro h; rw [sTestL_e c e]; exact h
      | inr r =>
        obtain ⟨p1, cs1⟩ := r
        rintro ⟨a1, a2, a3, a4, a5⟩
        rw [sTestL_y c e]
        refine sTestL_ok hT ha o f p1 q _ (by omega) a2 a3 ?_ ?_
        · rw [List.length_append, List.length_append]
          show cs.length + (cs1.length + 1) + q ≤ p1
          omega
        · rw [List.length_append]; omega
    · rw [sTestL_n c]; exact ⟨h1, h2, h3, h4, h5⟩
theorem sTest_ok (hT : tOK T n) {ft : Nat → Nat → Rs (List Int)} (ha : rsAll T n ft) : rsAll T n (sTest T n ft) := by
  intro o p hp hsk
  unfold sTest
  have h := sBoth_ok hT ha o p hp hsk
  revert h
  cases sBoth T n ft o p with
  | inl e => exact fun h => h
  | inr r =>
    obtain ⟨p1, cs1⟩ := r
    rintro ⟨a1, a2, a3, a4, a5⟩
    exact sTestL_ok hT ha o _ p1 p cs1 a1 a2 a3 a4 a5
theorem sFactF_ok (hT : tOK T n) {ft : Nat → Nat → Rs (List Int)} (ha : rsAll T n ft) : rsAll T n (sFactF T n ask ft) := by
  intro o p hp hsk
  unfold sFactF
  by_cases c1 : T p = 91
  · rw [if_pos c1]
    have hp1 := T_lt hT c1 (by omega)
    by_cases c2 : o = 6
    · rw [if_pos c2]; exact rsOK.bad (by omega) hp
    rw [if_neg c2]
    have g1 := skp_ge T n (p + 1)
    have h := sTest_ok hT ha (o + 1) _ (skp_le hT (show p + 1 ≤ n by omega)) (skp_skp hT (p + 1))
    revert h
    cases sTest T n ft (o + 1) (skp T n (p + 1)) with
    | inl e => exact fun h => h
    | inr r =>
      obtain ⟨p1, cs1⟩ := r
      rintro ⟨a1, a2, a3, a4, a5⟩
      dsimp only
      by_cases c3 : T p1 = 93
      · rw [if_pos c3]
        have := T_lt hT c3 (by omega)
        have g2 := skp_ge T n (p1 + 1)
        exact ⟨by omega, skp_le hT (by omega), skp_skp hT _, by omega, a5⟩
      · rw [if_neg c3]; exact rsOK.bad (by omega) a2
  rw [if_neg c1]
  by_cases c2 : isW T n p wNot
  · rw [if_pos c2]
    have hp1 : p + 3 ≤ n := isW_le hT c2
    by_cases c3 : o = 6
    · rw [if_pos c3]; exact rsOK.bad (by omega) hp
    rw [if_neg c3]
    have g1 := skp_ge T n (p + 3)
    have h := ha (o + 1) _ (skp_le hT hp1) (skp_skp hT (p + 3))
    revert h
    cases ft (o + 1) (skp T n (p + 3)) with
    | inl e => exact fun h => h
    | inr r =>
      obtain ⟨p1, cs1⟩ := r
      rintro ⟨a1, a2, a3, a4, a5⟩
      refine ⟨by omega, a2, a3, ?_, ?_⟩
      · rw [List.length_append]
        show cs1.length + 1 + p ≤ p1
        omega
      · rw [List.length_append]; omega
  rw [if_neg c2]
  by_cases c3 : isW T n p wAll
  · rw [if_pos c3]
    have hp1 : p + 3 ≤ n := isW_le hT c3
    have g1 := skp_ge T n (p + 3)
    exact ⟨by omega, skp_le hT hp1, skp_skp hT _, by show 1 + p ≤ _; omega, by show 0 < 1; omega⟩
  rw [if_neg c3]
  have h := sSum_ok hT (sA_ok (ask := ask) hT 8) o p hp hsk
  revert h
  cases sSum T n (sA T n ask 8) o p with
  | inl e => exact fun h => h
  | inr r =>
    obtain ⟨p1, cs1⟩ := r
    rintro ⟨a1, a2, a3, a4, a5⟩
    dsimp only
    by_cases c4 : T p1 = 60 ∨ T p1 = 62 ∨ T p1 = 61
    · rw [if_pos c4]
      have hp1 : p1 < n := by rcases c4 with c | c | c <;> exact T_lt hT c (by omega)
      have g1 := skp_ge T n (p1 + 1)
      have h := sSum_ok hT (sA_ok (ask := ask) hT 8) o (skp T n (p1 + 1)) (skp_le hT (show _ + 1 ≤ n from hp1)) (skp_skp hT _)
      revert h
      cases sSum T n (sA T n ask 8) o (skp T n (p1 + 1)) with
      | inl e => exact fun h => h
      | inr r =>
        obtain ⟨p2, cs2⟩ := r
        rintro ⟨b1, b2, b3, b4, b5⟩
        refine ⟨by omega, b2, b3, ?_, ?_⟩
        · rw [List.length_append, List.length_append]
          show cs1.length + (cs2.length + 1) + p ≤ p2
          omega
        · rw [List.length_append]; omega
    · rw [if_neg c4]; exact rsOK.bad (by omega) a2
theorem sF_ok (hT : tOK T n) : ∀ d : Nat, rsAll T n (sF T n ask d)
  | 0 => fun _ _ hp _ => rsOK.bad (by omega) hp
  | d + 1 => sFactF_ok hT (sF_ok hT d)
theorem p_qFact (hT : tOK T n) {ft : Nat → Nat → Rs (List Int)} {m : MM} {C W : List Int} {o p : Nat} (hL : lxM T n m) (g : gd T n m p) (h : eS m C W o 0 ask) (hl : C.length + W.length ≤ p) (ho : o ≤ 6) (hW : tW W) (c1 : T p ≠ 91) (c2 : ¬ isW T n p wNot) : pw (mf_qFact m) (fun q => qF m q.2 ∧ ((∃ p' cs, sFactF T n ask ft o p = Sum.inr (p', cs) ∧ gd T n q.2 p' ∧ eS q.2 (cs.reverse ++ C) W o 0 ask) ∨ ∃ k l, sFactF T n ask ft o p = Sum.inl (k, l) ∧ bd q.2 k l)) := by
  have hn := hT.1
  obtain ⟨hpn, hsk⟩ := g.le hT
  have eF : sFactF T n ask ft o p = (if isW T n p wAll then Sum.inr (skp T n (p + 3), [13]) else
    match sSum T n (sA T n ask 8) o p with
    | Sum.inl e => Sum.inl e
    | Sum.inr (p1, c1) =>
      if T p1 = 60 ∨ T p1 = 62 ∨ T p1 = 61 then
        match sSum T n (sA T n ask 8) o (skp T n (p1 + 1)) with
        | Sum.inl e => Sum.inl e
        | Sum.inr (p2, c2) => Sum.inr (p2, c1 ++ (c2 ++ [if T p1 = 60 then 7 else if T p1 = 62 then 8 else 9]))
      else Sum.inl (1, p1)) := by
    unfold sFactF
    rw [if_neg c1, if_neg c2]
    rfl
  rw [eF]
  unfold mf_qFact
  refine pw_bind (pw_mono (p_takes hL g wAll_in) ?_)
  rintro ⟨r, m1⟩ ⟨e1, ⟨e2, rfl, e3⟩ | ⟨e2, rfl, e3⟩⟩
  · dsimp only at e1 e3 ⊢
    refine pw_f n10 (pw_bind (pw_mono (p_qCode (h.x e1) (by omega) 13) ?_))
    rintro ⟨⟨⟩, m2⟩ ⟨k1, k2⟩
    exact pw_some ⟨e1.q.trans k2.1, Or.inl ⟨skp T n (p + 3), [13], by rw [if_pos e2], e3.y k2, k1⟩⟩
  · dsimp only at e1 e3 ⊢
    rw [if_neg e2]
    refine pw_t (by first | rfl | exact True.intro) (pw_bind (pw_mono (p_qSums hT (hL.x e1) e3.gd (h.x e1) hl ho (by omega) hW.w hW.on) ?_))
    rintro ⟨⟨⟩, m2⟩ ⟨q2, ⟨p1, cs1, f1, f2, f3⟩ | ⟨k, l, f1, f2⟩⟩
    · dsimp only at q2 f2 f3 ⊢
      have hk := (sSum_ok hT (sA_ok (ask := ask) hT 8) o p hpn hsk).get f1
      have Q2 := e1.q.trans q2
      have L2 := hL.q Q2
      rw [f1]
      dsimp only
      refine pw_t f2.z (pw_bind (pw_mono (p_look L2 f2) ?_))
      rintro ⟨r, m3⟩ ⟨rfl, a3, b3⟩
      dsimp only at a3 b3 ⊢
      have hr := hT.r p1
      have Q3 := Q2.trans a3.q
      have S3 := f3.x a3
      have more : (T p1 = 60 ∨ T p1 = 62 ∨ T p1 = 61) → pw (mj_X6_qFact_63 (iI (T p1)) m3) (fun q => qF m q.2 ∧ ((∃ p' cs, (match sSum T n (sA T n ask 8) o (skp T n (p1 + 1)) with
        | Sum.inl e => Sum.inl e
        | Sum.inr (p2, c2) => Sum.inr (p2, cs1 ++ (c2 ++ [if T p1 = 60 then 7 else if T p1 = 62 then 8 else 9])) : Rs (List Int)) = Sum.inr (p', cs) ∧ gd T n q.2 p' ∧ eS q.2 (cs.reverse ++ C) W o 0 ask) ∨ ∃ k l, (match sSum T n (sA T n ask 8) o (skp T n (p1 + 1)) with
        | Sum.inl e => Sum.inl e
        | Sum.inr (p2, c2) => Sum.inr (p2, cs1 ++ (c2 ++ [if T p1 = 60 then 7 else if T p1 = 62 then 8 else 9])) : Rs (List Int)) = Sum.inl (k, l) ∧ bd q.2 k l)) := by
        intro c4
        have hp1 : p1 < n := by rcases c4 with c | c | c <;> exact T_lt hT c (by omega)
        have e4 : iI (p1 : Int) + (1 : Int32) = iI ((p1 + 1 : Nat) : Int) := by rw [iI_lit, iI_add]; rfl
        have gsk := skp_ge T n (p1 + 1)
        unfold mj_X6_qFact_63
        rw [b3.1.2.1, e4]
        simp only [gz_let]
        have g4 : gA T n (msI m3 2000 2 (iI ((p1 + 1 : Nat) : Int))) (p1 + 1) := b3.1.step hT hp1 (by omega)
        have X4 : xF m3 (msI m3 2000 2 (iI ((p1 + 1 : Nat) : Int))) := xF.sI (by omega)
        have S4 := S3.x X4
        have Q4 := Q3.trans X4.q
        generalize msI m3 2000 2 (iI ((p1 + 1 : Nat) : Int)) = m4 at g4 S4 Q4
        refine pw_bind (pw_mono (p_qSums hT (hL.q Q4) g4.gd S4 (by rw [List.length_append, List.length_reverse]; omega) ho (by omega) hW.w hW.on) ?_)
        rintro ⟨⟨⟩, m5⟩ ⟨q5, hh⟩
        dsimp only at q5 hh ⊢
        have Q5 := Q4.trans q5
        have code : ∀ v : Int, v = (if T p1 = 60 then 7 else if T p1 = 62 then 8 else 9) → pw (mj_X6_qFact_102 (iI v) m5) (fun q => qF m q.2 ∧ ((∃ p' cs, (match sSum T n (sA T n ask 8) o (skp T n (p1 + 1)) with
          | Sum.inl e => Sum.inl e
          | Sum.inr (p2, c2) => Sum.inr (p2, cs1 ++ (c2 ++ [if T p1 = 60 then 7 else if T p1 = 62 then 8 else 9])) : Rs (List Int)) = Sum.inr (p', cs) ∧ gd T n q.2 p' ∧ eS q.2 (cs.reverse ++ C) W o 0 ask) ∨ ∃ k l, (match sSum T n (sA T n ask 8) o (skp T n (p1 + 1)) with
          | Sum.inl e => Sum.inl e
          | Sum.inr (p2, c2) => Sum.inr (p2, cs1 ++ (c2 ++ [if T p1 = 60 then 7 else if T p1 = 62 then 8 else 9])) : Rs (List Int)) = Sum.inl (k, l) ∧ bd q.2 k l)) := by
          intro v hv
          unfold mj_X6_qFact_102
          rcases hh with ⟨p2, cs2, f4, f5, f6⟩ | ⟨k, l, f4, f5⟩
          · have hk2 := (sSum_ok hT (sA_ok (ask := ask) hT 8) o _ (skp_le hT (show _ + 1 ≤ n from hp1)) (skp_skp hT _)).get f4
            refine pw_bind (pw_mono (p_qCode f6 (by simp only [List.length_append, List.length_reverse]; omega) v) ?_)
            rintro ⟨⟨⟩, m6⟩ ⟨k1, k2⟩
            refine pw_some ⟨Q5.trans k2.1, Or.inl ⟨p2, _, by rw [f4], f5.y k2, ?_⟩⟩
            rw [← hv]
            simp only [List.reverse_append, List.reverse_cons, List.reverse_nil, List.nil_append, List.append_assoc, List.singleton_append]
            exact k1
          · -- a code is put all the same
            obtain ⟨f5, cc, cc1, cc2⟩ := f5
            have gi : gz_ix (iI (cc : Int)) = cc := by rw [gix (by omega)]; omega
            unfold mf_qCode
            rw [cc2, gi]
            simp only [gz_let]
            have yy : yS m5 (msI (msI m5 1093 cc (iI v)) 2000 93 ((msI m5 1093 cc (iI v)).1 2000 93 + (1 : Int32))) := (yS.sI (by omega)).trans (yS.sI (by omega))
            rw [if_pos ((gin_iI (by omega)).2 (by omega))]
            exact pw_bind (pw_some (pw_some ⟨Q5.trans yy.1, Or.inr ⟨k, l, by rw [f4], f5.mv yy.2.2.2.1 yy.2.2.2.2⟩⟩))
        by_cases d1 : T p1 = 60
        · refine pw_t (by rw [d1]; rfl) ?_
          exact code 7 (by rw [if_pos d1])
        · refine pw_f (by rw [iI_lit, iI_eq (by omega) (by omega)]; exact d1) ?_
          by_cases d2 : T p1 = 62
          · refine pw_t (by rw [d2]; rfl) ?_
            exact code 8 (by rw [if_neg d1, if_pos d2])
          · refine pw_f (by rw [iI_lit, iI_eq (by omega) (by omega)]; exact d2) ?_
            exact code 9 (by rw [if_neg d1, if_neg d2])
      by_cases d1 : T p1 = 60
      · rw [if_pos (Or.inl d1)]
        exact pw_t (by rw [d1]; rfl) (more (Or.inl d1))
      refine pw_f (by rw [iI_lit, iI_eq (by omega) (by omega)]; exact d1) ?_
      by_cases d2 : T p1 = 62
      · rw [if_pos (Or.inr (Or.inl d2))]
        exact pw_t (by rw [d2]; rfl) (more (Or.inr (Or.inl d2)))
      refine pw_f (by rw [iI_lit, iI_eq (by omega) (by omega)]; exact d2) ?_
      by_cases d3 : T p1 = 61
      · rw [if_pos (Or.inr (Or.inr d3))]
        exact pw_t (by rw [d3]; rfl) (more (Or.inr (Or.inr d3)))
      refine pw_f (by rw [iI_lit, iI_eq (by omega) (by omega)]; exact d3) ?_
      rw [if_neg (fun z => by rcases z with z | z | z; exact d1 z; exact d2 z; exact d3 z), b3.1.2.1]
      refine pw_bind (pw_mono (p_fail b3.1.1 (k := 1) (by omega) p1) ?_)
      rintro ⟨⟨⟩, m4⟩ ⟨t1, t2⟩
      exact pw_some ⟨Q3.trans t2.q, Or.inr ⟨1, p1, rfl, t1⟩⟩
    · dsimp only at q2 f2 ⊢
      rw [f1]
      exact pw_f f2.1.ne (pw_some ⟨e1.q.trans q2, Or.inr ⟨k, l, rfl, f2.1⟩⟩)
end TestOK
