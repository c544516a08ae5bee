/-! ===== sums, products, parts: the model reads as the spec does ===== -/
section SumM
variable {T : Nat → Int} {n : Nat} {ask : Bool} {x1 : Int32} {b : Nat}
def atomP (T : Nat → Int) (n : Nat) (ask : Bool) (x1 : Int32) (b : Nat) (at' : Nat → Nat → Rs (List Int)) (o : Nat) : Prop := ∀ (Q : Unit × MM → Prop) (p : Nat) (C W : List Int) (m : MM), lxM T n m → gd T n m p → eS m C W o b ask → C.length + W.length ≤ p → b ≤ W.length → wOK W → (∀ (p' : Nat) (cs : List Int) (m' : MM), at' o p = Sum.inr (p', cs) → gd T n m' p' → eS m' (cs.reverse ++ C) W o b ask → qF m m' → pB x1 Q m') → (∀ (k : Int) (l : Nat) (mE : MM), at' o p = Sum.inl (k, l) → bq mE k l → qF m mE → Q ((), mE)) → pA x1 Q m
theorem sProdL_y {at' : Nat → Nat → Rs (List Int)} {o f p p1 : Nat} {cs c1 : List Int} (c : T p = 42 ∨ T p = 47) (e : at' o (skp T n (p + 1)) = Sum.inr (p1, c1)) : sProdL T n at' o (f + 1) p cs = sProdL T n at' o f p1 (cs ++ (c1 ++ [if T p = 42 then 3 else 4])) := by
  rw [sProdL, if_pos c, e]
theorem sProdL_e {at' : Nat → Nat → Rs (List Int)} {o f p : Nat} {cs : List Int} {x : Int × Nat} (c : T p = 42 ∨ T p = 47) (e : at' o (skp T n (p + 1)) = Sum.inl x) : sProdL T n at' o (f + 1) p cs = Sum.inl x := by
  rw [sProdL, if_pos c, e]
theorem sProdL_n {at' : Nat → Nat → Rs (List Int)} {o f p : Nat} {cs : List Int} (c : ¬ (T p = 42 ∨ T p = 47)) : sProdL T n at' o (f + 1) p cs = Sum.inr (p, cs) := by
  rw [sProdL, if_neg c]
theorem sSumL_y {at' : Nat → Nat → Rs (List Int)} {o f p p1 : Nat} {cs c1 : List Int} (c : T p = 43 ∨ T p = 45) (e : sProd T n at' o (skp T n (p + 1)) = Sum.inr (p1, c1)) : sSumL T n at' o (f + 1) p cs = sSumL T n at' o f p1 (cs ++ (c1 ++ [if T p = 43 then 1 else 2])) := by
  rw [sSumL, if_pos c, e]
theorem sSumL_e {at' : Nat → Nat → Rs (List Int)} {o f p : Nat} {cs : List Int} {x : Int × Nat} (c : T p = 43 ∨ T p = 45) (e : sProd T n at' o (skp T n (p + 1)) = Sum.inl x) : sSumL T n at' o (f + 1) p cs = Sum.inl x := by
  rw [sSumL, if_pos c, e]
theorem sSumL_n {at' : Nat → Nat → Rs (List Int)} {o f p : Nat} {cs : List Int} (c : ¬ (T p = 43 ∨ T p = 45)) : sSumL T n at' o (f + 1) p cs = Sum.inr (p, cs) := by
  rw [sSumL, if_neg c]
def mulS (P : List Int) : Prop := P = [] ∨ ∃ t : Int, (t = 3 ∨ t = 4) ∧ P = [t]
theorem mulS.mem {P : List Int} (h : mulS P) : ∀ x ∈ P, x = 3 ∨ x = 4 := by
  intro x hx
  rcases h with rfl | ⟨t, ht, rfl⟩
  · cases hx
  · rw [List.mem_singleton] at hx
    rw [hx]; exact ht
theorem len_eq {P C1 cs C : List Int} (h : P.reverse ++ C1 = cs.reverse ++ C) : P.length + C1.length = cs.length + C.length := by
  have := congrArg List.length h
  simpa only [List.length_append, List.length_reverse] using this
theorem prodL (hT : tOK T n) {at' : Nat → Nat → Rs (List Int)} {o : Nat} (hat : atomP T n ask x1 b at' o) (hok : rsAll T n at') {Q : Unit × MM → Prop} {A V C : List Int} {q : Nat} (hA : ∀ x ∈ A, x = 1 ∨ x = 2) (hb : b ≤ V.length) (htop : topB V b) (hV : wOK V) (hon : onT (A ++ V) 3 = false ∧ onT (A ++ V) 4 = false) (hq : C.length + (A ++ V).length ≤ q) : ∀ (f p : Nat) (cs P C1 : List Int) (m : MM), n + 1 ≤ f + p → p ≤ n → lxM T n m → gd T n m p → eS m C1 (P ++ (A ++ V)) o b ask → mulS P → P.reverse ++ C1 = cs.reverse ++ C → cs.length + q ≤ p → (∀ (p' : Nat) (cs' P' C1' : List Int) (m' : MM), sProdL T n at' o f p cs = Sum.inr (p', cs') → gd T n m' p' → eS m' C1' (P' ++ (A ++ V)) o b ask → mulS P' → P'.reverse ++ C1' = cs'.reverse ++ C → (T p' ≠ 42 ∧ T p' ≠ 47) → qF m m' → pG x1 Q m') → (∀ (k : Int) (l : Nat) (mE : MM), sProdL T n at' o f p cs = Sum.inl (k, l) → bq mE k l → qF m mE → Q ((), mE)) → pG x1 Q m
  | 0, p, cs, P, C1, m, h1, h2, _, _, _, _, _, _, _, _ => by omega
  | f + 1, p, cs, P, C1, m, h1, h2, hL, g, h, hP, hE, hcs, hG, hQ => by
    have hn := hT.1
    have hlen := len_eq hE
    have hPl : P.length ≤ 1 := by rcases hP with rfl | ⟨t, _, rfl⟩ <;> simp
    by_cases c : T p = 42 ∨ T p = 47
    · have hp1 : p < n := by rcases c with c | c <;> exact T_lt hT c (by omega)
      have gsk := skp_ge T n (p + 1)
      have hskn := skp_le hT (show p + 1 ≤ n by omega)
      have hW2 : wOK ((if T p = 42 then 3 else 4) :: (A ++ V)) := by
        intro x hx
        rcases List.mem_cons.mp hx with z | z
        · rw [z]; split <;> omega
        · rcases List.mem_append.mp z with z | z
          · rcases hA x z with z | z <;> omega
          · exact hV x z
      have hAV : (A ++ V).length = A.length + V.length := List.length_append
      refine goMul hL g h (by simp only [List.length_append] at hq ⊢; omega) hP.mem hA hb htop hV hon c (fun m2 g2 s2 q2 => ?_)
      have hL2 := hL.q q2
      refine hat Q _ _ _ m2 hL2 g2 s2 ?_ (by simp only [List.length_cons]; omega) hW2 (fun p1 c1 m3 e1 g3 s3 q3 => ?_) (fun k l mE e1 e2 e3 => hQ k l mE (sProdL_e c e1) e2 (q2.trans e3))
      · simp only [List.length_append, List.length_reverse, List.length_cons] at hq ⊢
        omega
      · have ho := (hok o _ hskn (skp_skp hT _)).get e1
        refine endsNo (T := T) (n := n) (p := p1) s3 g3 (by simp only [List.length_cons]; omega) (by simp only [List.length_cons]; omega) (Or.inr ⟨_, _, rfl, by split <;> omega⟩) ?_
        refine prodL hT hat hok hA hb htop hV hon hq f p1 (cs ++ (c1 ++ [if T p = 42 then 3 else 4])) [if T p = 42 then 3 else 4] (c1.reverse ++ (P.reverse ++ C1)) m3 (by omega) ho.2.1 (hL2.q q3) g3 s3 (Or.inr ⟨_, by split <;> omega, rfl⟩) ?_ ?_ (fun p' cs' P' C1' m' e2 a1 a2 a3 a4 a5 a6 => hG p' cs' P' C1' m' ((sProdL_y c e1).trans e2) a1 a2 a3 a4 a5 ((q2.trans q3).trans a6)) (fun k l mE e2 a1 a2 => hQ k l mE ((sProdL_y c e1).trans e2) a1 ((q2.trans q3).trans a2))
        · rw [hE]
          simp only [List.reverse_append, List.reverse_cons, List.reverse_nil, List.nil_append, List.append_assoc, List.singleton_append, List.cons_append]
        · simp only [List.length_append, List.length_cons, List.length_nil]
          omega
    · exact hG p cs P C1 m (sProdL_n c) g h hP hE ⟨fun z => c (Or.inl z), fun z => c (Or.inr z)⟩ (qF.refl m)
/-- a product is read from here on -/
theorem prodP (hT : tOK T n) {at' : Nat → Nat → Rs (List Int)} {o : Nat} (hat : atomP T n ask x1 b at' o) (hok : rsAll T n at') {Q : Unit × MM → Prop} {A V C : List Int} {q : Nat} {m : MM} (hA : ∀ x ∈ A, x = 1 ∨ x = 2) (hb : b ≤ V.length) (htop : topB V b) (hV : wOK V) (hon : onT (A ++ V) 3 = false ∧ onT (A ++ V) 4 = false) (hno : (A ++ V).length = b ∨ ∃ t W', A ++ V = t :: W' ∧ 0 ≤ t ∧ t < 60) (hq : C.length + (A ++ V).length ≤ q) (hL : lxM T n m) (g : gd T n m q) (h : eS m C (A ++ V) o b ask) (hG : ∀ (p' : Nat) (cs' P' C1' : List Int) (m' : MM), sProd T n at' o q = Sum.inr (p', cs') → gd T n m' p' → eS m' C1' (P' ++ (A ++ V)) o b ask → mulS P' → P'.reverse ++ C1' = cs'.reverse ++ C → (T p' ≠ 42 ∧ T p' ≠ 47) → qF m m' → pG x1 Q m') (hQ : ∀ (k : Int) (l : Nat) (mE : MM), sProd T n at' o q = Sum.inl (k, l) → bq mE k l → qF m mE → Q ((), mE)) : pA x1 Q m := by
  have hn := hT.1
  have hWA : wOK (A ++ V) := by
    intro x hx
    rcases List.mem_append.mp hx with z | z
    · rcases hA x z with z | z <;> omega
    · exact hV x z
  obtain ⟨hqn, hsk⟩ := g.le hT
  have hAV : (A ++ V).length = A.length + V.length := List.length_append
  refine hat Q q C (A ++ V) m hL g h hq (by omega) hWA (fun p1 c1 m2 e1 g2 s2 q2 => ?_) (fun k l mE e1 e2 e3 => hQ k l mE (by rw [sProd, e1]) e2 e3)
  have ho := (hok o _ hqn hsk).get e1
  refine endsNo (T := T) (n := n) (p := p1) s2 g2 (by omega) (by omega) hno ?_
  refine prodL hT hat hok hA hb htop hV hon hq (n + 1) p1 c1 [] (c1.reverse ++ C) m2 (by omega) ho.2.1 (hL.q q2) g2 s2 (Or.inl rfl) rfl ho.2.2.2.1 (fun p' cs' P' C1' m' e2 a1 a2 a3 a4 a5 a6 => hG p' cs' P' C1' m' (by rw [sProd, e1]; exact e2) a1 a2 a3 a4 a5 (q2.trans a6)) (fun k l mE e2 a1 a2 => hQ k l mE (by rw [sProd, e1]; exact e2) a1 (q2.trans a2))
def sumP (T : Nat → Int) (n : Nat) (ask : Bool) (x1 : Int32) (b : Nat) (sm : Nat → Nat → Rs (List Int)) (o : Nat) : Prop := ∀ (Q : Unit × MM → Prop) (p : Nat) (C V : List Int) (m : MM), lxM T n m → gd T n m p → eS m C V o b ask → C.length + V.length ≤ p → b ≤ V.length → wOK V → (topB V b) → (onT V 3 = false ∧ onT V 4 = false ∧ onT V 1 = false ∧ onT V 2 = false) → (∀ (p' : Nat) (cs P C1 : List Int) (m' : MM), sm o p = Sum.inr (p', cs) → gd T n m' p' → eS m' C1 (P ++ V) o b ask → prS P → P.reverse ++ C1 = cs.reverse ++ C → (T p' ≠ 42 ∧ T p' ≠ 47 ∧ T p' ≠ 43 ∧ T p' ≠ 45) → qF m m' → pG x1 Q m') → (∀ (k : Int) (l : Nat) (mE : MM), sm o p = Sum.inl (k, l) → bq mE k l → qF m mE → Q ((), mE)) → pA x1 Q m
theorem onT_A {V : List Int} {t a : Int} (ha : a ≠ t) : onT ([a] ++ V) t = false := onT_f (fun x W' e => by
  have : a = x := by injection e
  rw [← this]; exact ha)
theorem sumL (hT : tOK T n) {at' : Nat → Nat → Rs (List Int)} {o : Nat} (hat : atomP T n ask x1 b at' o) (hok : rsAll T n at') {Q : Unit × MM → Prop} {V C : List Int} {q : Nat} (hb : b ≤ V.length) (htop : topB V b) (hV : wOK V) (hon : onT V 3 = false ∧ onT V 4 = false ∧ onT V 1 = false ∧ onT V 2 = false) (hq : C.length + V.length ≤ q) : ∀ (f p : Nat) (cs P C1 : List Int) (m : MM), n + 1 ≤ f + p → p ≤ n → lxM T n m → gd T n m p → eS m C1 (P ++ V) o b ask → prS P → P.reverse ++ C1 = cs.reverse ++ C → cs.length + q ≤ p → (T p ≠ 42 ∧ T p ≠ 47) → (∀ (p' : Nat) (cs' P' C1' : List Int) (m' : MM), sSumL T n at' o f p cs = Sum.inr (p', cs') → gd T n m' p' → eS m' C1' (P' ++ V) o b ask → prS P' → P'.reverse ++ C1' = cs'.reverse ++ C → (T p' ≠ 42 ∧ T p' ≠ 47 ∧ T p' ≠ 43 ∧ T p' ≠ 45) → qF m m' → pG x1 Q m') → (∀ (k : Int) (l : Nat) (mE : MM), sSumL T n at' o f p cs = Sum.inl (k, l) → bq mE k l → qF m mE → Q ((), mE)) → pG x1 Q m
  | 0, p, cs, P, C1, m, h1, h2, _, _, _, _, _, _, _, _, _ => by omega
  | f + 1, p, cs, P, C1, m, h1, h2, hL, g, h, hP, hE, hcs, hmul, hG, hQ => by
    have hn := hT.1
    have hlen := len_eq hE
    by_cases c : T p = 43 ∨ T p = 45
    · have hp1 : p < n := by rcases c with c | c <;> exact T_lt hT c (by omega)
      have gsk := skp_ge T n (p + 1)
      have hskn := skp_le hT (show p + 1 ≤ n by omega)
      refine goAdd hL g h (by simp only [List.length_append]; omega) hP hb htop hV hon c (fun m2 g2 s2 q2 => ?_)
      have hL2 := hL.q q2
      generalize hop : (if T p = 43 then (1 : Int) else 2) = op at s2
      have hop2 : op = 1 ∨ op = 2 := by rw [← hop]; split <;> simp
      refine prodP hT hat hok (A := [op]) (V := V) (C := P.reverse ++ C1) (q := skp T n (p + 1)) (m := m2) (fun x hx => by rw [List.mem_singleton] at hx; rw [hx]; exact hop2) hb htop hV ⟨onT_A (by omega), onT_A (by omega)⟩ (Or.inr ⟨op, V, rfl, by omega⟩) ?_ hL2 g2 s2 (fun p1 c1 P1 C2 m3 e1 g3 s3 a1 a2 a3 q3 => ?_) (fun k l mE e1 e2 e3 => hQ k l mE (sSumL_e c e1) e2 (q2.trans e3))
      · simp only [List.length_append, List.length_reverse, List.length_cons, List.length_nil]
        omega
      · have ho := (sProd_ok hT hok o _ hskn (skp_skp hT _)).get e1
        have e4 : sSumL T n at' o (f + 1) p cs = sSumL T n at' o f p1 (cs ++ (c1 ++ [op])) := by rw [← hop]; exact sSumL_y c e1
        refine sumL hT hat hok hb htop hV hon hq f p1 (cs ++ (c1 ++ [op])) (P1 ++ [op]) C2 m3 (by omega) ho.2.1 (hL2.q q3) g3 (by rw [List.append_assoc]; exact s3) ?_ ?_ ?_ a3 (fun p' cs' P' C1' m' e2 b1 b2 b3 b4 b5 b6 => hG p' cs' P' C1' m' (e4.trans e2) b1 b2 b3 b4 b5 ((q2.trans q3).trans b6)) (fun k l mE e2 b1 b2 => hQ k l mE (e4.trans e2) b1 ((q2.trans q3).trans b2))
        · intro x hx
          rcases List.mem_append.mp hx with z | z
          · rcases a1.mem x z with z | z <;> omega
          · rw [List.mem_singleton] at z
            rw [z]; omega
        · rw [List.reverse_append, List.append_assoc, a2, hE]
          simp only [List.reverse_append, List.reverse_cons, List.reverse_nil, List.nil_append, List.append_assoc, List.singleton_append, List.cons_append]
        · simp only [List.length_append, List.length_cons, List.length_nil]
          omega
    · exact hG p cs P C1 m (sSumL_n c) g h hP hE ⟨hmul.1, hmul.2, fun z => c (Or.inl z), fun z => c (Or.inr z)⟩ (qF.refl m)
theorem sumP_of (hT : tOK T n) {at' : Nat → Nat → Rs (List Int)} {o : Nat} (hat : atomP T n ask x1 b at' o) (hok : rsAll T n at') : sumP T n ask x1 b (sSum T n at') o := by
  intro Q p C V m hL g h hl hb hV htop hon hG hQ
  have hn := hT.1
  obtain ⟨hqn, hsk⟩ := g.le hT
  refine prodP hT hat hok (A := []) (V := V) (C := C) (q := p) (m := m) (fun x hx => by cases hx) hb htop hV ⟨hon.1, hon.2.1⟩ ?_ hl hL g h (fun p1 c1 P1 C2 m2 e1 g2 s2 a1 a2 a3 q2 => ?_) (fun k l mE e1 e2 e3 => hQ k l mE (by rw [sSum, e1]) e2 e3)
  · rcases htop with e | ⟨x, V', e, hx⟩
    · exact Or.inl e
    · exact Or.inr ⟨x, V', e, by omega⟩
  · have ho := (sProd_ok hT hok o _ hqn hsk).get e1
    refine sumL hT hat hok hb htop hV hon hl (n + 1) p1 c1 P1 C2 m2 (by omega) ho.2.1 (hL.q q2) g2 s2 (fun x hx => by rcases a1.mem x hx with z | z <;> omega) a2 ho.2.2.2.1 a3 (fun p' cs' P' C1' m' e2 b1 b2 b3 b4 b5 b6 => hG p' cs' P' C1' m' (by rw [sSum, e1]; exact e2) b1 b2 b3 b4 b5 (q2.trans b6)) (fun k l mE e2 b1 b2 => hQ k l mE (by rw [sSum, e1]; exact e2) b1 (q2.trans b2))
end SumM
