/-! ===== the model reads tests ===== -/
def tA (Q : Unit × MM → Prop) (m : MM) : Prop := pw (ml_X6_qTest_2 1 m) Q
def tG (Q : Unit × MM → Prop) (m : MM) : Prop := pw (mf_qGoesOnTest m) (fun q => pw (ml_X6_qTest_2 (if q.1 = 0 then 0 else 1) q.2) Q)
def tBn (Q : Unit × MM → Prop) (m : MM) : Prop := pw (mf_qDropsNots m) (fun q => q.2.1 2000 5 = 0 ∧ tG Q q.2)
abbrev tW (W : List Int) : Prop := ∀ x ∈ W, x = 10 ∨ x = 11 ∨ x = 12 ∨ x = 25
theorem tW.w {W : List Int} (h : tW W) : wOK W := fun x hx => by have := h x hx; omega
theorem tW.on {W : List Int} (h : tW W) : onT W 3 = false ∧ onT W 4 = false ∧ onT W 1 = false ∧ onT W 2 = false := by
  refine ⟨?_, ?_, ?_, ?_⟩ <;> exact onT_f (fun x W' e => by have := h x (by rw [e]; simp); omega)
section TestM
variable {T : Nat → Int} {n : Nat} {ask : Bool} {Q : Unit × MM → Prop}
theorem testBad {m : MM} {k : Int} {l : Nat} (hb : bd m k l) (hQ : Q ((), m)) (y : Int32) : pw (ml_X6_qTest_2 y m) Q := by
  have hz := hb.ne
  have fin : pw (ml_X6_qTest_110 m) Q := by
    unfold ml_X6_qTest_110
    refine pw_unroll ?_
    unfold mb_X6_qTest_110
    exact pw_f hz (pw_some hQ)
  unfold ml_X6_qTest_2
  refine pw_unroll ?_
  unfold mb_X6_qTest_2
  dsimp only
  by_cases c : y = 0
  · exact pw_t c (pw_map (pw_mono fin (fun q hq => hq)))
  · exact pw_f c (pw_f hz (pw_map (pw_mono fin (fun q hq => hq))))
theorem testEnd {o b : Nat} : ∀ (P : List Int) {m : MM} {C : List Int} {p : Nat}, C.length + P.length < 1700 → eS m C P o b ask → gd T n m p → (∀ m' : MM, eS m' (P.reverse ++ C) [] o b ask → gd T n m' p → qF m m' → Q ((), m')) → pw (ml_X6_qTest_110 m) Q
  | [], m, C, p, hl, h, g, hQ => by
    unfold ml_X6_qTest_110
    refine pw_unroll ?_
    unfold mb_X6_qTest_110
    rw [h.2.2.2.1]
    exact pw_t g.z (pw_t (by decide) (pw_some (hQ m h g (qF.refl m))))
  | y :: P, m, C, p, hl, h, g, hQ => by
    rw [List.length_cons] at hl
    unfold ml_X6_qTest_110
    refine pw_unroll ?_
    unfold mb_X6_qTest_110
    rw [h.2.2.2.1]
    refine pw_t g.z (pw_f (by rw [iI_lit, iI_le (by rw [List.length_cons]; omega) (by omega), List.length_cons]; omega) (pw_bind (pw_mono (p_qDrops h (by omega)) ?_)))
    rintro ⟨⟨⟩, m2⟩ ⟨k1, k2⟩
    dsimp only at k1 k2 ⊢
    refine pw_some ?_
    show pw (ml_X6_qTest_110 m2) Q
    refine testEnd P (by rw [List.length_cons]; omega) k1 (g.y k2) (fun m' a1 a2 a3 => hQ m' ?_ a2 (k2.1.trans a3))
    rw [List.reverse_cons, List.append_assoc]
    exact a1
/-! a fact has ended -/
theorem notsNo {m : MM} {C W : List Int} {o b p : Nat} (h : eS m C W o b ask) (g : gd T n m p) (hl : W.length ≤ 1700) (hW : tW W) (ht : onT W 12 = false) (hG : tG Q m) : tBn Q m := by
  unfold tBn mf_qDropsNots ml_X6_qDropsNots_0
  refine pw_unroll ?_
  unfold mb_X6_qDropsNots_0
  refine pw_t g.z ?_
  rw [show (12 : Int32) = iI 12 from rfl, p_qIsOn h hl hW.w (by omega), ht]
  simp only [Option.bind_some]
  rw [if_neg Bool.false_ne_true]
  exact pw_t (by first | rfl | exact True.intro) (pw_some ⟨g.z, hG⟩)
theorem notsOn {m : MM} {C W : List Int} {o b p : Nat} (h : eS m C (12 :: W) (o + 1) b ask) (g : gd T n m p) (hl : C.length + W.length < 1600) (ho : o ≤ 6) (hW : tW W) (hG : ∀ m' : MM, eS m' (12 :: C) W o b ask → gd T n m' p → qF m m' → tBn Q m') : tBn Q m := by
  have hW2 : tW (12 :: W) := fun x hx => by
    rcases List.mem_cons.mp hx with z | z
    · omega
    · exact hW x z
  have eo : iI ((o + 1 : Nat) : Int) - (1 : Int32) = iI (o : Int) := by
    rw [iI_lit, iI_sub]
    exact congrArg iI (by omega)
  unfold tBn mf_qDropsNots ml_X6_qDropsNots_0
  refine pw_unroll ?_
  unfold mb_X6_qDropsNots_0
  refine pw_t g.z ?_
  rw [show (12 : Int32) = iI 12 from rfl, p_qIsOn h (by rw [List.length_cons]; omega) hW2.w (by omega), show onT (12 :: W) 12 = true from rfl]
  simp only [Option.bind_some, if_true]
  rw [h.2.2.2.2.1, eo]
  refine pw_f n10 (pw_let (pw_bind (pw_mono (p_qDrops (h.open_ o) (by omega)) ?_)))
  rintro ⟨⟨⟩, m2⟩ ⟨k1, k2⟩
  have y : yS m m2 := (yS.sI (by omega)).trans k2
  exact pw_some (hG m2 k1 (g.y y) y.1)
/-! squares -/
theorem p_hasSq {m : MM} {C W : List Int} {o b : Nat} (h : eS m C W o b ask) (hl : W.length ≤ 1700) (hW : tW W) : pw (mf_qHasSquare m) (fun q => q.2 = m ∧ ((q.1 = 1 ∧ (25 : Int) ∈ W) ∨ (q.1 = 0 ∧ (25 : Int) ∉ W))) := by
  have get : ∀ (W : List Int), tW W → stk m W → ∀ i : Nat, i < W.length → ∃ x : Int, (0 ≤ x ∧ x < 100) ∧ m.1 1095 i = iI x ∧ W[W.length - 1 - i]? = some x := by
    intro W
    induction W with
    | nil => intro _ _ i hi; cases hi
    | cons t W ih =>
      intro hW hs i hi
      rw [List.length_cons] at hi
      by_cases c : i = W.length
      · subst c
        exact ⟨t, by have := hW t (by simp); omega, hs.1, by rw [List.length_cons, show W.length + 1 - 1 - W.length = 0 by omega]; rfl⟩
      · obtain ⟨x, x1, x2, x3⟩ := ih (fun y hy => hW y (by simp [hy])) hs.2 i (by omega)
        refine ⟨x, x1, x2, ?_⟩
        rw [List.length_cons, show W.length + 1 - 1 - i = (W.length - 1 - i) + 1 by omega, List.getElem?_cons_succ]
        exact x3
  have hs := get W hW h.2.2.1
  have h4 := h.2.2.2.1
  unfold mf_qHasSquare ml_X6_qHasSquare_2
  refine pw_for (fun (i : Nat) (q : Int32 × MM) => q.1 = iI i ∧ q.2 = m ∧ ∀ j : Nat, j < i → W[W.length - 1 - j]? ≠ some 25) W.length ?_ ?_ ⟨rfl, rfl, fun j hj => absurd hj (Nat.not_lt_zero _)⟩
  · rintro i ⟨y, m'⟩ hi hq0
    dsimp only at hq0
    obtain ⟨rfl, rfl, k⟩ := hq0
    dsimp only at k ⊢
    obtain ⟨x, x1, x2, x3⟩ := hs i hi
    have gi : gz_ix (iI (i : Int)) = i := by rw [gix (by omega)]; omega
    have ei : iI (i : Int) + (1 : Int32) = iI ((i + 1 : Nat) : Int) := by rw [iI_lit, iI_add]; rfl
    unfold mb_X6_qHasSquare_2
    rw [h4, gi, x2, ei]
    simp only [gz_let]
    refine pw_f (by rw [iI_le (by omega) (by omega)]; omega) (pw_gu ((gin_iI (by omega)).2 (by omega)) ?_)
    by_cases c : x = 25
    · refine pw_t (by rw [c]; rfl) (pw_some ⟨rfl, Or.inl ⟨rfl, ?_⟩⟩)
      rw [c] at x3
      exact List.mem_of_getElem? x3
    · refine pw_f (by rw [iI_lit, iI_eq (by omega) (by omega)]; exact c) (pw_some ⟨rfl, rfl, fun j hj => ?_⟩)
      by_cases z : j = i
      · rw [z, x3]
        intro w
        injection w with w
        exact c w
      · exact k j (by omega)
  · rintro ⟨y, m'⟩ hq0
    dsimp only at hq0
    obtain ⟨rfl, rfl, k⟩ := hq0
    dsimp only at k ⊢
    unfold mb_X6_qHasSquare_2
    rw [h4]
    refine pw_t (by rw [iI_le (by omega) (by omega)]; omega) (pw_some ⟨rfl, Or.inr ⟨rfl, fun w => ?_⟩⟩)
    obtain ⟨j, hj⟩ := List.mem_iff_getElem?.mp w
    have hj2 : j < W.length := by
      rcases Nat.lt_or_ge j W.length with z | z
      · exact z
      · rw [List.getElem?_eq_none z] at hj; cases hj
    exact k (W.length - 1 - j) (by omega) (by rw [show W.length - 1 - (W.length - 1 - j) = j by omega]; exact hj)
theorem wAnd_in : (1079, wAnd) ∈ wds := by decide +kernel
theorem wOr_in : (1080, wOr) ∈ wds := by decide +kernel
theorem wAll_in : (1081, wAll) ∈ wds := by decide +kernel
theorem wNot_in : (1078, wNot) ∈ wds := by decide +kernel
/-- the head of what goes on: no square closes -/
theorem tgHead {m : MM} {C W : List Int} {o b p : Nat} {R : Int32 × MM → Prop} (hL : lxM T n m) (g : gd T n m p) (h : eS m C W o b ask) (hl : W.length ≤ 1700) (hW : tW W) (hno : T p ≠ 93 ∨ (25 : Int) ∉ W) (hR : ∀ m1 : MM, xF m m1 → gs T n m1 p → pw (mj_X6_qGoesOnTest_76 m1) R) : pw (mf_qGoesOnTest m) R := by
  obtain ⟨hT, -⟩ := id hL
  have hr := hT.r p
  unfold mf_qGoesOnTest ml_X6_qGoesOnTest_0
  refine pw_unroll ?_
  unfold mb_X6_qGoesOnTest_0
  refine pw_t g.z (pw_bind (pw_mono (p_look hL g) ?_))
  rintro ⟨r, m1⟩ ⟨rfl, k1, k2⟩
  dsimp only at k1 k2 ⊢
  by_cases c : T p = 93
  · have hno : (25 : Int) ∉ W := by
      rcases hno with w | w
      · exact absurd c w
      · exact w
    refine pw_t (by rw [c]; rfl) (pw_bind (pw_mono (p_hasSq (h.x k1) hl hW) ?_))
    rintro ⟨r, m2⟩ ⟨rfl, ⟨-, w⟩ | ⟨rfl, -⟩⟩
    · exact absurd w hno
    · exact pw_t (by first | trivial | rfl) (pw_map (pw_mono (hR _ k1 k2) (fun q hq => hq)))
  · exact pw_f (by rw [iI_lit, iI_eq (by omega) (by omega)]; exact c) (pw_map (pw_mono (hR m1 k1 k2) (fun q hq => hq)))
theorem loop87 {W : List Int} {o b : Nat} {R : Int32 × MM → Prop} (hn : onT W 10 = false) (hW : tW W) : ∀ (P : List Int) {m : MM} {C : List Int}, (∀ x ∈ P, x = 10) → C.length + (P ++ W).length < 1700 → eS m C (P ++ W) o b ask → (∀ m' : MM, eS m' (P.reverse ++ C) (10 :: W) o b ask → yS m m' → R (1, m')) → pw (ml_X6_qGoesOnTest_87 m) R
  | [], m, C, hP, hl, h, hQ => by
    rw [List.nil_append] at hl h
    unfold ml_X6_qGoesOnTest_87
    refine pw_unroll ?_
    unfold mb_X6_qGoesOnTest_87
    have on := p_qIsOn h (by omega) hW.w (t := 10) (by omega)
    rw [hn, if_neg Bool.false_ne_true] at on
    rw [show mf_qIsOn (10 : Int32) m = _ from on]
    simp only [Option.bind_some]
    refine pw_t (by first | rfl | exact True.intro) (pw_mono (p_push h (by omega) 10 (Q := R) hQ) ?_)
    rintro (s | r) hq
    · exact hq.elim
    · exact hq
  | y :: P, m, C, hP, hl, h, hQ => by
    have hy := hP y (by simp)
    have hlen : ((y :: P) ++ W).length = P.length + W.length + 1 := by simp only [List.cons_append, List.length_cons, List.length_append]
    have hlen2 : (P ++ W).length = P.length + W.length := List.length_append
    have hW2 : wOK ((y :: P) ++ W) := fun x hx => by
      rcases List.mem_append.mp hx with z | z
      · have := hP x z; omega
      · exact hW.w x z
    unfold ml_X6_qGoesOnTest_87
    refine pw_unroll ?_
    unfold mb_X6_qGoesOnTest_87
    have on := p_qIsOn h (by omega) hW2 (t := 10) (by omega)
    rw [show onT ((y :: P) ++ W) 10 = true by show decide (y = 10) = true; exact decide_eq_true hy, if_pos rfl] at on
    rw [show mf_qIsOn (10 : Int32) m = _ from on]
    simp only [Option.bind_some]
    refine pw_f n10 (pw_bind (pw_mono (p_qDrops (t := y) (W := P ++ W) h (by omega)) ?_))
    rintro ⟨⟨⟩, m2⟩ ⟨k1, k2⟩
    dsimp only at k1 k2 ⊢
    refine pw_some ?_
    show pw (ml_X6_qGoesOnTest_87 m2) R
    refine loop87 hn hW P (fun x hx => hP x (by simp [hx])) (by simp only [List.length_cons]; omega) k1 (fun m' a1 a2 => hQ m' ?_ (k2.trans a2))
    rw [List.reverse_cons, List.append_assoc]
    exact a1
theorem loop137 {W : List Int} {o b : Nat} {R : Int32 × MM → Prop} (hn : onT W 10 = false ∧ onT W 11 = false) (hW : tW W) : ∀ (P : List Int) {m : MM} {C : List Int}, (∀ x ∈ P, x = 10 ∨ x = 11) → C.length + (P ++ W).length < 1700 → eS m C (P ++ W) o b ask → (∀ m' : MM, eS m' (P.reverse ++ C) (11 :: W) o b ask → yS m m' → R (1, m')) → pw (ml_X6_qGoesOnTest_137 m) R
  | [], m, C, hP, hl, h, hQ => by
    rw [List.nil_append] at hl h
    unfold ml_X6_qGoesOnTest_137
    refine pw_unroll ?_
    unfold mb_X6_qGoesOnTest_137
    have on := p_qIsOn h (by omega) hW.w (t := 10) (by omega)
    rw [hn.1, if_neg Bool.false_ne_true] at on
    have on2 := p_qIsOn h (by omega) hW.w (t := 11) (by omega)
    rw [hn.2, if_neg Bool.false_ne_true] at on2
    rw [show mf_qIsOn (10 : Int32) m = _ from on]
    simp only [Option.bind_some]
    refine pw_t (by first | rfl | exact True.intro) ?_
    rw [show mf_qIsOn (11 : Int32) m = _ from on2]
    simp only [Option.bind_some]
    refine pw_t (by first | rfl | exact True.intro) (pw_mono (p_push h (by omega) 11 (Q := R) hQ) ?_)
    rintro (s | r) hq
    · exact hq.elim
    · exact hq
  | y :: P, m, C, hP, hl, h, hQ => by
    have hy := hP y (by simp)
    have hlen : ((y :: P) ++ W).length = P.length + W.length + 1 := by simp only [List.cons_append, List.length_cons, List.length_append]
    have hlen2 : (P ++ W).length = P.length + W.length := List.length_append
    have hW2 : wOK ((y :: P) ++ W) := fun x hx => by
      rcases List.mem_append.mp hx with z | z
      · have := hP x z; omega
      · exact hW.w x z
    have drop : pw (mj_X6_qGoesOnTest_155 m) (Sum.elim (fun s' => pw (gz_loop (fun q : MM => mb_X6_qGoesOnTest_137 q) s') R) R) := by
      unfold mj_X6_qGoesOnTest_155
      refine pw_bind (pw_mono (p_qDrops (t := y) (W := P ++ W) h (by omega)) ?_)
      rintro ⟨⟨⟩, m2⟩ ⟨k1, k2⟩
      dsimp only at k1 k2 ⊢
      refine pw_some ?_
      show pw (ml_X6_qGoesOnTest_137 m2) R
      refine loop137 hn hW P (fun x hx => hP x (by simp [hx])) (by simp only [List.length_cons]; omega) k1 (fun m' a1 a2 => hQ m' ?_ (k2.trans a2))
      rw [List.reverse_cons, List.append_assoc]
      exact a1
    have on : ∀ t : Int, (0 ≤ t ∧ t < 100) → mf_qIsOn (iI t) m = some (if y = t then 1 else 0, m) := by
      intro t ht
      rw [p_qIsOn h (by omega) hW2 ht]
      by_cases c : y = t
      · rw [if_pos c, if_pos (show onT ((y :: P) ++ W) t = true by show decide (y = t) = true; exact decide_eq_true c)]
      · rw [if_neg c, if_neg (show ¬ onT ((y :: P) ++ W) t = true by show ¬ decide (y = t) = true; simpa using c)]
    unfold ml_X6_qGoesOnTest_137
    refine pw_unroll ?_
    unfold mb_X6_qGoesOnTest_137
    rw [show mf_qIsOn (10 : Int32) m = _ from on 10 (by omega)]
    simp only [Option.bind_some]
    by_cases c : y = 10
    · rw [if_pos c]; exact pw_f n10 drop
    rw [if_neg c]
    refine pw_t (by first | rfl | exact True.intro) ?_
    rw [show mf_qIsOn (11 : Int32) m = _ from on 11 (by omega)]
    simp only [Option.bind_some]
    rw [if_pos (show y = 11 by omega)]
    exact pw_f n10 drop
theorem tgAnd {m : MM} {C P W : List Int} {o b p : Nat} (hL : lxM T n m) (g : gd T n m p) (h : eS m C (P ++ W) o b ask) (hl : C.length + (P ++ W).length < 1700) (hP : ∀ x ∈ P, x = 10) (hW : tW W) (hon : onT W 10 = false) (c : isW T n p wAnd) (hA : ∀ m' : MM, gd T n m' (skp T n (p + 3)) → eS m' (P.reverse ++ C) (10 :: W) o b ask → qF m m' → tA Q m') : tG Q m := by
  have hPW : tW (P ++ W) := fun x hx => by
    rcases List.mem_append.mp hx with z | z
    · have := hP x z; omega
    · exact hW x z
  unfold tG
  refine tgHead hL g h (by omega) hPW (Or.inl (by have := c.1; omega)) (fun m1 k1 k2 => ?_)
  unfold mj_X6_qGoesOnTest_76
  refine pw_bind (pw_mono (p_takes (hL.x k1) k2.gd wAnd_in) ?_)
  rintro ⟨r, m2⟩ ⟨e1, ⟨-, rfl, e3⟩ | ⟨e2, -⟩⟩
  · dsimp only at e1 e3 ⊢
    refine pw_f n10 ?_
    refine loop87 hon hW P hP hl ((h.x k1).x e1) (fun m' a1 a2 => ?_)
    dsimp only
    rw [if_neg n10]
    exact hA m' (e3.y a2) a1 ((k1.q.trans e1.q).trans a2.1)
  · exact absurd c e2
theorem tgOr {m : MM} {C P W : List Int} {o b p : Nat} (hL : lxM T n m) (g : gd T n m p) (h : eS m C (P ++ W) o b ask) (hl : C.length + (P ++ W).length < 1700) (hP : ∀ x ∈ P, x = 10 ∨ x = 11) (hW : tW W) (hon : onT W 10 = false ∧ onT W 11 = false) (c : isW T n p wOr) (hA : ∀ m' : MM, gd T n m' (skp T n (p + 2)) → eS m' (P.reverse ++ C) (11 :: W) o b ask → qF m m' → tA Q m') : tG Q m := by
  have hPW : tW (P ++ W) := fun x hx => by
    rcases List.mem_append.mp hx with z | z
    · have := hP x z; omega
    · exact hW x z
  have na : ¬ isW T n p wAnd := fun w => by
    have h1 := c.2.2.1
    have h2 := w.2.2.1
    rw [h1] at h2
    have : p + 2 = p + 3 := h2
    omega
  unfold tG
  refine tgHead hL g h (by omega) hPW (Or.inl (by have := c.1; omega)) (fun m1 k1 k2 => ?_)
  unfold mj_X6_qGoesOnTest_76
  refine pw_bind (pw_mono (p_takes (hL.x k1) k2.gd wAnd_in) ?_)
  rintro ⟨r, m2⟩ ⟨e1, ⟨e2, -⟩ | ⟨-, rfl, e3⟩⟩
  · exact absurd e2 na
  · dsimp only at e1 e3 ⊢
    refine pw_t (by first | rfl | exact True.intro) (pw_bind (pw_mono (p_takes ((hL.x k1).x e1) e3.gd wOr_in) ?_))
    rintro ⟨r, m3⟩ ⟨f1, ⟨-, rfl, f3⟩ | ⟨f2, -⟩⟩
    · dsimp only at f1 f3 ⊢
      refine pw_f n10 ?_
      refine loop137 hon hW P hP hl (((h.x k1).x e1).x f1) (fun m' a1 a2 => ?_)
      dsimp only
      rw [if_neg n10]
      exact hA m' (f3.y a2) a1 (((k1.q.trans e1.q).trans f1.q).trans a2.1)
    · exact absurd c f2
/-- neither and nor or -/
theorem tgNone {m : MM} {p : Nat} {R : Int32 × MM → Prop} (hL : lxM T n m) (g : gs T n m p) (c : ¬ isW T n p wAnd ∧ ¬ isW T n p wOr) (hR : ∀ m1 : MM, xF m m1 → gs T n m1 p → pw ((mf_qHasSquare m1).bind fun (r10, m11) => (if r10 = (0 : Int32) then (mj_X6_qGoesOnTest_208 m11) else ((mf_fail (1 : Int32) (m11.1 2000 2) m11).bind fun (_, m15) => (mj_X6_qGoesOnTest_208 m15)))) R) : pw (mj_X6_qGoesOnTest_76 m) R := by
  unfold mj_X6_qGoesOnTest_76
  refine pw_bind (pw_mono (p_takes hL g.gd wAnd_in) ?_)
  rintro ⟨r, m2⟩ ⟨e1, ⟨e2, -⟩ | ⟨-, rfl, e3⟩⟩
  · exact absurd e2 c.1
  · dsimp only at e1 e3 ⊢
    refine pw_t (by first | rfl | exact True.intro) (pw_bind (pw_mono (p_takes (hL.x e1) e3.gd wOr_in) ?_))
    rintro ⟨r, m3⟩ ⟨f1, ⟨f2, -⟩ | ⟨-, rfl, f3⟩⟩
    · exact absurd f2 c.2
    · dsimp only at f1 f3 ⊢
      exact pw_t (by first | rfl | exact True.intro) (pw_t f3.1.1 (hR m3 (e1.trans f1) f3))
theorem tgFail {m : MM} {C W : List Int} {o b p : Nat} (hL : lxM T n m) (g : gd T n m p) (h : eS m C W o b ask) (hl : W.length ≤ 1700) (hW : tW W) (hs : (25 : Int) ∈ W) (c : ¬ isW T n p wAnd ∧ ¬ isW T n p wOr) (c2 : T p ≠ 93) (hQ : ∀ mE : MM, bd mE 1 p → qF m mE → Q ((), mE)) : tG Q m := by
  unfold tG
  refine tgHead hL g h hl hW (Or.inl c2) (fun m1 k1 k2 => ?_)
  refine tgNone (hL.x k1) k2 c (fun m2 a1 a2 => ?_)
  refine pw_bind (pw_mono (p_hasSq ((h.x k1).x a1) hl hW) ?_)
  rintro ⟨r, m3⟩ ⟨rfl, ⟨rfl, -⟩ | ⟨-, w⟩⟩
  · dsimp only
    refine pw_f n10 ?_
    unfold mj_X6_qGoesOnTest_208
    rw [a2.1.2.1]
    refine pw_bind (pw_mono (p_fail a2.1.1 (k := 1) (by omega) p) ?_)
    rintro ⟨⟨⟩, m4⟩ ⟨b1, b2⟩
    dsimp only at b1 b2 ⊢
    refine pw_some ?_
    dsimp only
    rw [if_pos rfl]
    exact testBad b1 (hQ m4 b1 ((k1.q.trans a1.q).trans b2.q)) 0
  · exact absurd hs w
theorem tgEnd {m : MM} {C W : List Int} {o b p : Nat} (hL : lxM T n m) (g : gd T n m p) (h : eS m C W o b ask) (hl : C.length + W.length < 1700) (hW : tW W) (hs : (25 : Int) ∉ W) (c : ¬ isW T n p wAnd ∧ ¬ isW T n p wOr) (hQ : ∀ m' : MM, eS m' (W.reverse ++ C) [] o b ask → gd T n m' p → qF m m' → Q ((), m')) : tG Q m := by
  unfold tG
  refine tgHead hL g h (by omega) hW (Or.inr hs) (fun m1 k1 k2 => ?_)
  refine tgNone (hL.x k1) k2 c (fun m2 a1 a2 => ?_)
  have S2 := (h.x k1).x a1
  refine pw_bind (pw_mono (p_hasSq S2 (by omega) hW) ?_)
  rintro ⟨r, m3⟩ ⟨rfl, ⟨-, w⟩ | ⟨rfl, -⟩⟩
  · exact absurd w hs
  · dsimp only at a1 a2 S2 ⊢
    unfold mj_X6_qGoesOnTest_208
    refine pw_t (by first | rfl | exact True.intro) (pw_some ?_)
    dsimp only
    rw [if_pos rfl]
    unfold ml_X6_qTest_2
    refine pw_unroll ?_
    unfold mb_X6_qTest_2
    exact pw_t (by first | trivial | rfl) (pw_map (pw_mono (testEnd W hl S2 a2.gd (fun m' j1 j2 j3 => hQ m' j1 j2 ((k1.q.trans a1.q).trans j3))) (fun q hq => hq)))
theorem loop33 {V : List Int} {o b p : Nat} {R : MM → Prop} (ho : o ≤ 6) (hV : tW V) : ∀ (P : List Int) {m : MM} {C : List Int}, (∀ x ∈ P, x = 10 ∨ x = 11) → C.length + (P ++ 25 :: V).length < 1700 → eS m C (P ++ 25 :: V) (o + 1) b ask → gA T n m p → (∀ m' : MM, eS m' (P.reverse ++ C) V o b ask → gA T n m' p → qF m m' → pw (mf_qDropsNots m') (fun q => R q.2)) → pw (ml_X6_qGoesOnTest_33 m) (Sum.elim R (fun _ => False))
  | [], m, C, hP, hl, h, g, hQ => by
    rw [List.nil_append] at hl h
    rw [List.length_cons] at hl
    have hW2 : wOK (25 :: V) := fun x hx => by
      rcases List.mem_cons.mp hx with z | z
      · omega
      · exact hV.w x z
    obtain ⟨j1, j2, j3, j4, j5, j6, j7⟩ := id h
    have ew : iI ((25 :: V).length : Int) - (1 : Int32) = iI (V.length : Int) := by
      rw [iI_lit, iI_sub, List.length_cons]
      exact congrArg iI (by omega)
    have eo : iI ((o + 1 : Nat) : Int) - (1 : Int32) = iI (o : Int) := by
      rw [iI_lit, iI_sub]
      exact congrArg iI (by omega)
    unfold ml_X6_qGoesOnTest_33
    refine pw_unroll ?_
    unfold mb_X6_qGoesOnTest_33
    have on := p_qIsOn h (by rw [List.length_cons]; omega) hW2 (t := 25) (by omega)
    rw [show onT (25 :: V) 25 = true from rfl, if_pos rfl] at on
    rw [show mf_qIsOn (25 : Int32) m = _ from on]
    simp only [Option.bind_some, gz_let]
    refine pw_f n10 ?_
    rw [j4, ew, show (msI m 2000 95 (iI (V.length : Int))).1 2000 96 = iI ((o + 1 : Nat) : Int) by rw [msI_i, if_neg (by omega)]; exact j5, eo]
    have y : yS m (msI (msI m 2000 95 (iI (V.length : Int))) 2000 96 (iI (o : Int))) := (yS.sI (by omega)).trans (yS.sI (by omega))
    refine pw_bind (pw_mono (hQ _ ⟨j1.mv (fun j hj => ?_), ?_, j3.2.mv (fun j hj => ?_), ?_, ?_, ?_, ?_⟩ (g.y y) y.1) ?_)
    · rw [msI_i, if_neg (by omega), msI_i, if_neg (by omega)]
    · rw [msI_i, if_neg (by omega), msI_i, if_neg (by omega)]; exact j2
    · rw [msI_i, if_neg (by omega), msI_i, if_neg (by omega)]
    · rw [msI_i, if_neg (by omega), msI_i, if_pos ⟨rfl, rfl⟩]
    · rw [msI_i, if_pos ⟨rfl, rfl⟩]
    · rw [msI_i, if_neg (by omega), msI_i, if_neg (by omega)]; exact j6
    · rw [msI_i, if_neg (by omega), msI_i, if_neg (by omega)]; exact j7
    · rintro ⟨⟨⟩, m2⟩ hr
      exact pw_some hr
  | y :: P, m, C, hP, hl, h, g, hQ => by
    have hy := hP y (by simp)
    have hlen : ((y :: P) ++ 25 :: V).length = P.length + V.length + 2 := by simp only [List.cons_append, List.length_cons, List.length_append]; omega
    have hlen2 : (P ++ 25 :: V).length = P.length + V.length + 1 := by simp only [List.length_append, List.length_cons]; omega
    have hW2 : wOK ((y :: P) ++ 25 :: V) := fun x hx => by
      rcases List.mem_append.mp hx with z | z
      · have := hP x z; omega
      · rcases List.mem_cons.mp z with z | z
        · omega
        · exact hV.w x z
    unfold ml_X6_qGoesOnTest_33
    refine pw_unroll ?_
    unfold mb_X6_qGoesOnTest_33
    have on := p_qIsOn h (by omega) hW2 (t := 25) (by omega)
    rw [show onT ((y :: P) ++ 25 :: V) 25 = false by show decide (y = 25) = false; exact decide_eq_false (by omega), if_neg Bool.false_ne_true] at on
    rw [show mf_qIsOn (25 : Int32) m = _ from on]
    simp only [Option.bind_some]
    refine pw_t (by first | rfl | exact True.intro) (pw_bind (pw_mono (p_qDrops (t := y) (W := P ++ 25 :: V) h (by omega)) ?_))
    rintro ⟨⟨⟩, m2⟩ ⟨k1, k2⟩
    dsimp only at k1 k2 ⊢
    refine pw_some ?_
    show pw (ml_X6_qGoesOnTest_33 m2) _
    refine loop33 ho hV P (fun x hx => hP x (by simp [hx])) (by simp only [List.length_cons]; omega) k1 (g.y k2) (fun m' a1 a2 a3 => hQ m' ?_ a2 (k2.1.trans a3))
    rw [List.reverse_cons, List.append_assoc]
    exact a1
theorem tgClose {m : MM} {C P V : List Int} {o b p : Nat} (hL : lxM T n m) (g : gd T n m p) (h : eS m C (P ++ 25 :: V) (o + 1) b ask) (hl : C.length + (P ++ 25 :: V).length < 1700) (ho : o ≤ 6) (hP : ∀ x ∈ P, x = 10 ∨ x = 11) (hV : tW V) (c : T p = 93) (hB : ∀ m' : MM, gd T n m' (skp T n (p + 1)) → eS m' (P.reverse ++ C) V o b ask → qF m m' → tBn Q m') : tG Q m := by
  obtain ⟨hT, -⟩ := id hL
  have hn := hT.1
  have hp := T_lt hT c (by omega)
  have hPW : tW (P ++ 25 :: V) := fun x hx => by
    rcases List.mem_append.mp hx with z | z
    · have := hP x z; omega
    · rcases List.mem_cons.mp z with z | z
      · omega
      · exact hV x z
  have e1 : iI (p : Int) + (1 : Int32) = iI ((p + 1 : Nat) : Int) := by rw [iI_lit, iI_add]; rfl
  unfold tG mf_qGoesOnTest ml_X6_qGoesOnTest_0
  refine pw_unroll ?_
  unfold mb_X6_qGoesOnTest_0
  refine pw_t g.z (pw_bind (pw_mono (p_look hL g) ?_))
  rintro ⟨r, m1⟩ ⟨rfl, k1, k2⟩
  dsimp only at k1 k2 ⊢
  refine pw_t (by rw [c]; rfl) (pw_bind (pw_mono (p_hasSq (h.x k1) (by omega) hPW) ?_))
  rintro ⟨r, m2⟩ ⟨rfl, ⟨rfl, -⟩ | ⟨-, w⟩⟩
  · dsimp only at k1 k2 ⊢
    refine pw_f n10 ?_
    rw [k2.1.2.1, e1]
    simp only [gz_let]
    have g2 : gA T n (msI m2 2000 2 (iI ((p + 1 : Nat) : Int))) (p + 1) := k2.1.step hT hp (by rw [c]; decide)
    have x2 : xF m (msI m2 2000 2 (iI ((p + 1 : Nat) : Int))) := k1.trans (xF.sI (by omega))
    generalize msI m2 2000 2 (iI ((p + 1 : Nat) : Int)) = m3 at g2 x2
    refine pw_mono (loop33 (T := T) (n := n) (p := p + 1) (R := fun s' => pw (gz_loop (fun q : MM => mb_X6_qGoesOnTest_0 q) s') (fun q => pw (ml_X6_qTest_2 (if q.1 = 0 then 0 else 1) q.2) Q)) ho hV P hP hl (h.x x2) g2 (fun m' a1 a2 a3 => pw_mono (hB m' a2.gd a1 (x2.q.trans a3)) (fun q hq => hq.2))) ?_
    rintro (s | r) hq
    · exact hq
    · exact hq.elim
  · exact absurd (by simp) w
end TestM
