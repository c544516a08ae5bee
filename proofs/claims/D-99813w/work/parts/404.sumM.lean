/-! ===== the model reads sums ===== -/
def pG (x1 : Int32) (Q : Unit × MM → Prop) (m : MM) : Prop := pw (mf_qGoesOn m) (fun q => pw (ml_X6_qSums_15 x1 (if q.1 = 0 then 0 else 1) q.2) Q)
def pK (x1 : Int32) (Q : Unit × MM → Prop) (q : Unit × MM) : Prop := if q.2.1 2000 5 = 0 then pG x1 Q q.2 else pw (ml_X6_qSums_15 x1 0 q.2) Q
def pA (x1 : Int32) (Q : Unit × MM → Prop) (m : MM) : Prop := pw (ml_X6_qPartTold_2 1 m) (pK x1 Q)
def pB (x1 : Int32) (Q : Unit × MM → Prop) (m : MM) : Prop := pw (mf_qEndsPart m) (fun q => q.2.1 2000 5 = 0 ∧ pG x1 Q q.2)
theorem sumsA {x1 : Int32} {Q : Unit × MM → Prop} {m : MM} (hz : m.1 2000 5 = 0) (h : pA x1 Q m) : pw (ml_X6_qSums_15 x1 1 m) Q := by
  unfold ml_X6_qSums_15
  refine pw_unroll ?_
  unfold mb_X6_qSums_15 mj_X6_qSums_48 mj_X6_qSums_49
  refine pw_f n10 (pw_t hz (pw_bind ?_))
  unfold mf_qPartTold
  refine pw_mono h ?_
  rintro ⟨⟨⟩, m4⟩ k
  unfold pK at k
  dsimp only at k ⊢
  by_cases c : m4.1 2000 5 = 0
  · rw [if_pos c] at k
    refine pw_t c (pw_bind (pw_mono k ?_))
    rintro ⟨r, m8⟩ j
    dsimp only at j ⊢
    by_cases c2 : r = 0
    · rw [if_pos c2] at j
      exact pw_t c2 (pw_some j)
    · rw [if_neg c2] at j
      exact pw_f c2 (pw_some j)
  · rw [if_neg c] at k
    exact pw_f c (pw_some k)
theorem bd.mv {m m' : MM} {k : Int} {p : Nat} (h : bd m k p) (h5 : m'.1 2000 5 = m.1 2000 5) (h6 : m'.1 2000 6 = m.1 2000 6) : bd m' k p := ⟨h.1, h5.trans h.2.1, h6.trans h.2.2⟩
/-- something was wrong; the codes are few all the same -/
def cd (m : MM) : Prop := ∃ c : Nat, c ≤ 1650 ∧ m.1 2000 93 = iI c
def bq (m : MM) (k : Int) (p : Nat) : Prop := bd m k p ∧ cd m
theorem eS.cd {m : MM} {C W : List Int} {o b : Nat} {ask : Bool} (h : eS m C W o b ask) (hl : C.length ≤ 1650) : cd m := ⟨C.length, hl, h.2.1⟩
theorem bq.of {m m' : MM} {k : Int} {l : Nat} (hb : bd m' k l) {C W : List Int} {o b : Nat} {ask : Bool} (h : eS m C W o b ask) (hl : C.length ≤ 1650) (x : xF m m') : bq m' k l := ⟨hb, (h.x x).cd hl⟩
theorem sumsE_bad {x1 : Int32} {Q : Unit × MM → Prop} {m : MM} {k : Int} {l : Nat} (hb : bq m k l) (h : ∀ mE : MM, bq mE k l → qF m mE → Q ((), mE)) : pw (ml_X6_qSums_15 x1 0 m) Q := by
  have hz := hb.1.ne
  unfold ml_X6_qSums_15
  refine pw_unroll ?_
  unfold mb_X6_qSums_15
  refine pw_t (by first | trivial | rfl) (pw_map ?_)
  unfold ml_X6_qSums_53
  refine pw_unroll ?_
  unfold mb_X6_qSums_53 mj_X6_qSums_78
  obtain ⟨c, c1, c2⟩ := hb.2
  refine pw_f hz (pw_map (pw_let (pw_some (h _ ⟨hb.1.mv ?_ ?_, c, c1, ?_⟩ (qF.sI (by unfold qX; omega))))))
  · rw [msI_i, if_neg (by omega)]
  · rw [msI_i, if_neg (by omega)]
  · rw [msI_i, if_neg (by omega)]; exact c2
theorem eS.base {m : MM} {C W : List Int} {o b : Nat} {ask : Bool} (h : eS m C W o b ask) (b' : Nat) : eS (msI m 2000 97 (iI b')) C W o b' ask := by
  obtain ⟨h1, h2, h3, h4, h5, h6, h7⟩ := h
  refine ⟨h1.mv (fun j hj => ?_), ?_, h3.mv (fun j hj => ?_), ?_, ?_, ?_, ?_⟩
  · rw [msI_i, if_neg (by omega)]
  · rw [msI_i, if_neg (by omega)]; exact h2
  · rw [msI_i, if_neg (by omega)]
  · rw [msI_i, if_neg (by omega)]; exact h4
  · rw [msI_i, if_neg (by omega)]; exact h5
  · rw [msI_i, if_pos ⟨rfl, rfl⟩]
  · rw [msI_i, if_neg (by omega)]; exact h7
/-- a sum ends at its base -/
theorem sumsE53 {T : Nat → Int} {n : Nat} {V : List Int} {o b0 : Nat} {ask : Bool} {Q : Unit × MM → Prop} : ∀ (P : List Int) {m : MM} {C : List Int} {p : Nat}, C.length + (P ++ V).length < 1700 → eS m C (P ++ V) o V.length ask → gd T n m p → (∀ m' : MM, eS m' (P.reverse ++ C) V o b0 ask → gd T n m' p → qF m m' → Q ((), m')) → pw (ml_X6_qSums_53 (iI b0) m) Q
  | [], m, C, p, hl, h, g, hQ => by
    rw [List.nil_append] at hl h
    unfold ml_X6_qSums_53
    refine pw_unroll ?_
    unfold mb_X6_qSums_53 mj_X6_qSums_78
    rw [h.2.2.2.1, h.2.2.2.2.2.1]
    refine pw_t g.z (pw_t (by rw [iI_le (by omega) (by omega)]; omega) (pw_map (pw_let (pw_some (hQ _ (h.base b0) (g.y (yS.sI (by omega))) (qF.sI (by unfold qX; omega)))))))
  | y :: P, m, C, p, hl, h, g, hQ => by
    have hlen : ((y :: P) ++ V).length = P.length + V.length + 1 := by simp only [List.cons_append, List.length_cons, List.length_append]
    have hlen2 : (P ++ V).length = P.length + V.length := List.length_append
    unfold ml_X6_qSums_53
    refine pw_unroll ?_
    unfold mb_X6_qSums_53
    rw [h.2.2.2.1, h.2.2.2.2.2.1]
    refine pw_t g.z (pw_f (by rw [iI_le (by omega) (by omega)]; omega) (pw_bind (pw_mono (p_qDrops (t := y) (W := P ++ V) h (by omega)) ?_)))
    rintro ⟨⟨⟩, m2⟩ ⟨k1, k2⟩
    dsimp only at k1 k2 ⊢
    refine pw_some ?_
    show pw (ml_X6_qSums_53 (iI b0) m2) Q
    refine sumsE53 P (by simp only [List.length_cons]; omega) k1 (g.y k2) (fun m' a1 a2 a3 => hQ m' ?_ a2 (k2.1.trans a3))
    rw [List.reverse_cons, List.append_assoc]
    exact a1
theorem sumsE_ok {T : Nat → Int} {n : Nat} {V P : List Int} {o b0 : Nat} {ask : Bool} {Q : Unit × MM → Prop} {m : MM} {C : List Int} {p : Nat} (hl : C.length + (P ++ V).length < 1700) (h : eS m C (P ++ V) o V.length ask) (g : gd T n m p) (hQ : ∀ m' : MM, eS m' (P.reverse ++ C) V o b0 ask → gd T n m' p → qF m m' → Q ((), m')) : pw (ml_X6_qSums_15 (iI b0) 0 m) Q := by
  unfold ml_X6_qSums_15
  refine pw_unroll ?_
  unfold mb_X6_qSums_15
  refine pw_t (by first | trivial | rfl) (pw_map ?_)
  exact pw_mono (sumsE53 P hl h g hQ) (fun q hq => hq)
/-! a part has ended -/
theorem endsNo {T : Nat → Int} {n : Nat} {x1 : Int32} {Q : Unit × MM → Prop} {m : MM} {C W : List Int} {o b p : Nat} {ask : Bool} (h : eS m C W o b ask) (g : gd T n m p) (hl : W.length < 1700) (hb : b ≤ W.length) (ht : W.length = b ∨ ∃ t W', W = t :: W' ∧ 0 ≤ t ∧ t < 60) (hG : pG x1 Q m) : pB x1 Q m := by
  unfold pB mf_qEndsPart ml_X6_qEndsPart_0
  refine pw_unroll ?_
  unfold mb_X6_qEndsPart_0
  rw [h.2.2.2.1, h.2.2.2.2.2.1]
  refine pw_t g.z ?_
  by_cases c : W.length = b
  · exact pw_t (by rw [iI_le (by omega) (by omega)]; omega) (pw_some ⟨g.z, hG⟩)
  · rcases ht with e | ⟨t, W', rfl, t1, t2⟩
    · exact absurd e c
    · have ew : iI ((t :: W').length : Int) - (1 : Int32) = iI (W'.length : Int) := by
        rw [iI_lit, iI_sub, List.length_cons]
        exact congrArg iI (by omega)
      have gi : gz_ix (iI (W'.length : Int)) = W'.length := by rw [gix (by simp only [List.length_cons] at hl; omega)]; omega
      rw [ew, gi, h.2.2.1.1]
      refine pw_f (by rw [iI_le (by omega) (by omega)]; omega) (pw_gu ((gin_iI (by simp only [List.length_cons] at hl; omega)).2 (by simp only [List.length_cons] at hl; omega)) (pw_t (by rw [iI_lit, iI_lt (by omega) (by omega)]; omega) (pw_some ⟨g.z, hG⟩)))
theorem eS.open_ {m : MM} {C W : List Int} {o b : Nat} {ask : Bool} (h : eS m C W o b ask) (o' : Nat) : eS (msI m 2000 96 (iI o')) C W o' b ask := by
  obtain ⟨h1, h2, h3, h4, h5, h6, h7⟩ := h
  refine ⟨h1.mv (fun j hj => ?_), ?_, h3.mv (fun j hj => ?_), ?_, ?_, ?_, ?_⟩
  · rw [msI_i, if_neg (by omega)]
  · rw [msI_i, if_neg (by omega)]; exact h2
  · rw [msI_i, if_neg (by omega)]
  · rw [msI_i, if_neg (by omega)]; exact h4
  · rw [msI_i, if_pos ⟨rfl, rfl⟩]
  · rw [msI_i, if_neg (by omega)]; exact h6
  · rw [msI_i, if_neg (by omega)]; exact h7
theorem endsOf1 {T : Nat → Int} {n : Nat} {x1 : Int32} {Q : Unit × MM → Prop} {m : MM} {C W : List Int} {t : Int} {o b p : Nat} {ask : Bool} (h : eS m C (t :: W) (o + 1) b ask) (g : gd T n m p) (hl : C.length + W.length < 1600) (ho : o ≤ 6) (hb : b ≤ W.length) (ht : 60 ≤ t ∧ t < 100) (hG : ∀ m' : MM, eS m' (t :: C) W o b ask → gd T n m' p → qF m m' → pB x1 Q m') : pB x1 Q m := by
  unfold pB mf_qEndsPart ml_X6_qEndsPart_0
  refine pw_unroll ?_
  unfold mb_X6_qEndsPart_0
  have ew : iI ((t :: W).length : Int) - (1 : Int32) = iI (W.length : Int) := by
    rw [iI_lit, iI_sub, List.length_cons]
    exact congrArg iI (by omega)
  have gi : gz_ix (iI (W.length : Int)) = W.length := by rw [gix (by omega)]; omega
  have eo : iI ((o + 1 : Nat) : Int) - (1 : Int32) = iI (o : Int) := by
    rw [iI_lit, iI_sub]
    exact congrArg iI (by omega)
  rw [h.2.2.2.1, h.2.2.2.2.2.1, ew, gi, h.2.2.1.1, h.2.2.2.2.1, eo]
  refine pw_t g.z (pw_f (by rw [iI_le (by rw [List.length_cons]; omega) (by omega), List.length_cons]; omega) (pw_gu ((gin_iI (by omega)).2 (by omega)) (pw_f (by rw [iI_lit, iI_lt (by omega) (by omega)]; omega) (pw_let (pw_bind (pw_mono (p_qDrops (h.open_ o) (by omega)) ?_))))))
  rintro ⟨⟨⟩, m2⟩ ⟨k1, k2⟩
  have y : yS m m2 := (yS.sI (by omega)).trans k2
  exact pw_some (hG m2 k1 (g.y y) y.1)
/-! what stands behind a part -/
theorem p_noSign {T : Nat → Int} {n : Nat} {m : MM} (hL : lxM T n m) {p : Nat} (h : gd T n m p) {c : Int} (hc : 0 ≤ c ∧ c < 256) (hc2 : ¬ isL c ∧ ¬ isD c) (hT : T p ≠ c) : pw (mf_takesSign (iI c) m) (fun q => q.1 = 0 ∧ xF m q.2 ∧ gs T n q.2 p) := by
  refine pw_mono (p_takesSign hL h hc hc2) ?_
  rintro ⟨r, m1⟩ ⟨x1, ⟨c1, -⟩ | ⟨-, rfl, g1⟩⟩
  · exact absurd c1 hT
  · exact ⟨rfl, x1, g1⟩
theorem p_isSign {T : Nat → Int} {n : Nat} {m : MM} (hL : lxM T n m) {p : Nat} (h : gd T n m p) {c : Int} (hc : 0 ≤ c ∧ c < 256) (hc2 : ¬ isL c ∧ ¬ isD c) (hT : T p = c) : pw (mf_takesSign (iI c) m) (fun q => q.1 = 1 ∧ xF m q.2 ∧ gA T n q.2 (p + 1)) := by
  refine pw_mono (p_takesSign hL h hc hc2) ?_
  rintro ⟨r, m1⟩ ⟨x1, ⟨-, rfl, g1⟩ | ⟨c1, -⟩⟩
  · exact ⟨rfl, x1, g1⟩
  · exact absurd hT c1
theorem eS.push {m : MM} {C W : List Int} {o b : Nat} {ask : Bool} (h : eS m C W o b ask) (t : Int) : eS (msI (msI m 1095 W.length (iI t)) 2000 95 (iI ((W.length + 1 : Nat) : Int))) C (t :: W) o b ask := by
  obtain ⟨h1, h2, h3, h4, h5, h6, h7⟩ := h
  refine ⟨h1.mv (fun j hj => ?_), ?_, ⟨?_, h3.mv (fun j hj => ?_)⟩, ?_, ?_, ?_, ?_⟩
  · rw [msI_i, if_neg (by omega), msI_i, if_neg (by omega)]
  · rw [msI_i, if_neg (by omega), msI_i, if_neg (by omega)]; exact h2
  · rw [msI_i, if_neg (by omega), msI_i, if_pos ⟨rfl, rfl⟩]
  · rw [msI_i, if_neg (by omega), msI_i, if_neg (by omega)]
  · rw [msI_i, if_pos ⟨rfl, rfl⟩]; rfl
  · rw [msI_i, if_neg (by omega), msI_i, if_neg (by omega)]; exact h5
  · rw [msI_i, if_neg (by omega), msI_i, if_neg (by omega)]; exact h6
  · rw [msI_i, if_neg (by omega), msI_i, if_neg (by omega)]; exact h7
abbrev wOK (W : List Int) : Prop := ∀ x ∈ W, 0 ≤ x ∧ x < 100
theorem onT_f {W : List Int} {t : Int} (h : ∀ x W', W = x :: W' → x ≠ t) : onT W t = false := by
  cases W with
  | nil => rfl
  | cons x W => unfold onT; exact decide_eq_false (h x W rfl)
theorem p_push {m : MM} {C W : List Int} {o b : Nat} {ask : Bool} (h : eS m C W o b ask) (hl : W.length < 1700) (t : Int) {Q : Int32 × MM → Prop} (hQ : ∀ m', eS m' C (t :: W) o b ask → yS m m' → Q (1, m')) {S : Type} : pw (if gz_in (m.1 2000 95) 1700 then gz_let (msI m 1095 (gz_ix (m.1 2000 95)) (iI t)) fun m18 => gz_let (msI m18 2000 95 ((m18.1 2000 95) + (1 : Int32))) fun m19 => some (Sum.inr ((1 : Int32), m19)) else none : Option (S ⊕ (Int32 × MM))) (Sum.elim (fun _ => False) Q) := by
  have gi : gz_ix (iI (W.length : Int)) = W.length := by rw [gix (by omega)]; omega
  have e1 : (msI m 1095 W.length (iI t)).1 2000 95 + (1 : Int32) = iI ((W.length + 1 : Nat) : Int) := by
    rw [msI_i, if_neg (by omega), h.2.2.2.1, iI_lit, iI_add]
    rfl
  rw [h.2.2.2.1, gi]
  simp only [gz_let]
  rw [e1]
  exact pw_gu ((gin_iI (by omega)).2 (by omega)) (pw_some (hQ _ (h.push t) ((yS.sI (by omega)).trans (yS.sI (by omega)))))
/-- times, by: what waits of them drops -/
theorem loop162 {op : Int} {W : List Int} {o b : Nat} {ask : Bool} {Q : Int32 × MM → Prop} (hn : onT W 3 = false ∧ onT W 4 = false) (hW : wOK W) : ∀ (P : List Int) {m : MM} {C : List Int}, (∀ x ∈ P, x = 3 ∨ x = 4) → C.length + (P ++ W).length < 1700 → eS m C (P ++ W) o b ask → (∀ m' : MM, eS m' (P.reverse ++ C) (op :: W) o b ask → yS m m' → Q (1, m')) → pw (ml_X6_qGoesOn_162 (iI op) m) Q
  | [], m, C, hP, hl, h, hQ => by
    rw [List.nil_append] at hl h
    unfold ml_X6_qGoesOn_162
    refine pw_unroll ?_
    unfold mb_X6_qGoesOn_162
    dsimp only
    rw [show (3 : Int32) = iI 3 from rfl, p_qIsOn h (by omega) hW (by omega), hn.1]
    simp only [Option.bind_some]
    rw [if_neg Bool.false_ne_true]
    refine pw_t (by first | rfl | exact True.intro) ?_
    rw [show (4 : Int32) = iI 4 from rfl, p_qIsOn h (by omega) hW (by omega), hn.2]
    simp only [Option.bind_some]
    rw [if_neg Bool.false_ne_true]
    refine pw_t (by first | rfl | exact True.intro) (pw_mono (p_push h (by omega) op (Q := Q) hQ) ?_)
    rintro (s | r) hq
    · exact hq.elim
    · exact hq
  | y :: P, m, C, hP, hl, h, hQ => by
    have hy := hP y (by simp)
    have hlen : ((y :: P) ++ W).length = P.length + W.length + 1 := by simp only [List.cons_append, List.length_cons, List.length_append]
    have hlen2 : (P ++ W).length = P.length + W.length := List.length_append
    have hW2 : wOK ((y :: P) ++ W) := fun x hx => by
      rcases List.mem_append.mp hx with z | z
      · rcases hP x z with z | z <;> omega
      · exact hW x z
    have drop : pw (mj_X6_qGoesOn_178 (iI op) m) (Sum.elim (fun s' => pw (gz_loop (fun q : (Int32 × MM) => mb_X6_qGoesOn_162 q.1 q.2) s') Q) Q) := by
      unfold mj_X6_qGoesOn_178
      refine pw_bind (pw_mono (p_qDrops (t := y) (W := P ++ W) h (by omega)) ?_)
      rintro ⟨⟨⟩, m2⟩ ⟨k1, k2⟩
      dsimp only at k1 k2 ⊢
      refine pw_some ?_
      show pw (ml_X6_qGoesOn_162 (iI op) m2) Q
      refine loop162 hn hW P (fun x hx => hP x (by simp [hx])) (by simp only [List.length_cons]; omega) k1 (fun m' a1 a2 => hQ m' ?_ (k2.trans a2))
      rw [List.reverse_cons, List.append_assoc]
      exact a1
    unfold ml_X6_qGoesOn_162
    refine pw_unroll ?_
    unfold mb_X6_qGoesOn_162
    dsimp only
    rw [show (3 : Int32) = iI 3 from rfl, p_qIsOn h (by omega) hW2 (by omega)]
    simp only [Option.bind_some]
    by_cases c : y = 3
    · rw [if_pos (show onT ((y :: P) ++ W) 3 = true by show decide (y = 3) = true; exact decide_eq_true c)]
      exact pw_f n10 drop
    · rw [if_neg (show ¬ onT ((y :: P) ++ W) 3 = true by show ¬ decide (y = 3) = true; simpa using c)]
      refine pw_t (by first | rfl | exact True.intro) ?_
      rw [show (4 : Int32) = iI 4 from rfl, p_qIsOn h (by omega) hW2 (by omega)]
      simp only [Option.bind_some]
      rw [if_pos (show onT ((y :: P) ++ W) 4 = true by show decide (y = 4) = true; exact decide_eq_true (by omega))]
      exact pw_f n10 drop
theorem loop247 {op : Int} {W : List Int} {o b : Nat} {ask : Bool} {Q : Int32 × MM → Prop} (hn : onT W 3 = false ∧ onT W 4 = false ∧ onT W 1 = false ∧ onT W 2 = false) (hW : wOK W) : ∀ (P : List Int) {m : MM} {C : List Int}, prS P → C.length + (P ++ W).length < 1700 → eS m C (P ++ W) o b ask → (∀ m' : MM, eS m' (P.reverse ++ C) (op :: W) o b ask → yS m m' → Q (1, m')) → pw (ml_X6_qGoesOn_247 (iI op) m) Q
  | [], m, C, hP, hl, h, hQ => by
    rw [List.nil_append] at hl h
    unfold ml_X6_qGoesOn_247
    refine pw_unroll ?_
    unfold mb_X6_qGoesOn_247
    dsimp only
    rw [show (3 : Int32) = iI 3 from rfl, p_qIsOn h (by omega) hW (by omega), hn.1]
    simp only [Option.bind_some]
    rw [if_neg Bool.false_ne_true]
    refine pw_t (by first | rfl | exact True.intro) ?_
    rw [show (4 : Int32) = iI 4 from rfl, p_qIsOn h (by omega) hW (by omega), hn.2.1]
    simp only [Option.bind_some]
    rw [if_neg Bool.false_ne_true]
    refine pw_t (by first | rfl | exact True.intro) ?_
    have q1 := p_qIsOn h (by omega) hW (t := 1) (by omega)
    rw [hn.2.2.1, if_neg Bool.false_ne_true] at q1
    rw [show mf_qIsOn (1 : Int32) m = some (0, m) from q1]
    simp only [Option.bind_some]
    refine pw_t (by first | rfl | exact True.intro) ?_
    rw [show (2 : Int32) = iI 2 from rfl, p_qIsOn h (by omega) hW (by omega), hn.2.2.2]
    simp only [Option.bind_some]
    rw [if_neg Bool.false_ne_true]
    refine pw_t (by first | rfl | exact True.intro) (pw_mono (p_push h (by omega) op (Q := Q) hQ) ?_)
    rintro (s | r) hq
    · exact hq.elim
    · exact hq
  | y :: P, m, C, hP, hl, h, hQ => by
    have hy := hP y (by simp)
    have hlen : ((y :: P) ++ W).length = P.length + W.length + 1 := by simp only [List.cons_append, List.length_cons, List.length_append]
    have hlen2 : (P ++ W).length = P.length + W.length := List.length_append
    have hW2 : wOK ((y :: P) ++ W) := fun x hx => by
      rcases List.mem_append.mp hx with z | z
      · have := hP x z; omega
      · exact hW x z
    have drop : pw (mj_X6_qGoesOn_279 (iI op) m) (Sum.elim (fun s' => pw (gz_loop (fun q : (Int32 × MM) => mb_X6_qGoesOn_247 q.1 q.2) s') Q) Q) := by
      unfold mj_X6_qGoesOn_279
      refine pw_bind (pw_mono (p_qDrops (t := y) (W := P ++ W) h (by omega)) ?_)
      rintro ⟨⟨⟩, m2⟩ ⟨k1, k2⟩
      dsimp only at k1 k2 ⊢
      refine pw_some ?_
      show pw (ml_X6_qGoesOn_247 (iI op) m2) Q
      refine loop247 hn hW P (fun x hx => hP x (by simp [hx])) (by simp only [List.length_cons]; omega) k1 (fun m' a1 a2 => hQ m' ?_ (k2.trans a2))
      rw [List.reverse_cons, List.append_assoc]
      exact a1
    have on : ∀ t : Int, (0 ≤ t ∧ t < 100) → mf_qIsOn (iI t) m = some (if y = t then 1 else 0, m) := by
      intro t ht
      rw [p_qIsOn h (by omega) hW2 ht]
      by_cases c : y = t
      · rw [if_pos c, if_pos (show onT ((y :: P) ++ W) t = true by show decide (y = t) = true; exact decide_eq_true c)]
      · rw [if_neg c, if_neg (show ¬ onT ((y :: P) ++ W) t = true by show ¬ decide (y = t) = true; simpa using c)]
    unfold ml_X6_qGoesOn_247
    refine pw_unroll ?_
    unfold mb_X6_qGoesOn_247
    dsimp only
    rw [show mf_qIsOn (3 : Int32) m = _ from on 3 (by omega)]
    simp only [Option.bind_some]
    by_cases c3 : y = 3
    · rw [if_pos c3]; exact pw_f n10 drop
    rw [if_neg c3]
    refine pw_t (by first | rfl | exact True.intro) ?_
    rw [show mf_qIsOn (4 : Int32) m = _ from on 4 (by omega)]
    simp only [Option.bind_some]
    by_cases c4 : y = 4
    · rw [if_pos c4]; exact pw_f n10 drop
    rw [if_neg c4]
    refine pw_t (by first | rfl | exact True.intro) ?_
    rw [show mf_qIsOn (1 : Int32) m = _ from on 1 (by omega)]
    simp only [Option.bind_some]
    by_cases c1 : y = 1
    · rw [if_pos c1]; exact pw_f n10 drop
    rw [if_neg c1]
    refine pw_t (by first | rfl | exact True.intro) ?_
    rw [show mf_qIsOn (2 : Int32) m = _ from on 2 (by omega)]
    simp only [Option.bind_some]
    rw [if_pos (show y = 2 by omega)]
    exact pw_f n10 drop
