/-! ===== sums and tests, as they are read: a spec ===== -/
theorem pw_unroll {S R : Type} {f : S → Option (S ⊕ R)} {s : S} {Q : R → Prop} (h : pw (f s) (Sum.elim (fun s' => pw (gz_loop f s') Q) Q)) : pw (gz_loop f s) Q := by
  obtain ⟨x, e, q⟩ := h
  cases x with
  | inl s' => rw [gz_loop_in e]; exact q
  | inr r => exact ⟨r, gz_loop_out e, q⟩
/-- words of parts (strength, heat, near, hour, number, place, smell, ends, steps) by the model's numbers -/
def kW (k : Nat) : List Int := if k = 0 then [115, 116, 114, 101, 110, 103, 116, 104] else if k = 1 then [104, 101, 97, 116] else if k = 2 then [110, 101, 97, 114] else if k = 3 then [104, 111, 117, 114] else if k = 4 then [110, 117, 109, 98, 101, 114] else if k = 5 then [112, 108, 97, 99, 101] else if k = 6 then [115, 109, 101, 108, 108] else if k = 7 then [101, 110, 100, 115] else [115, 116, 101, 112, 115]
def wMin : List Int := [109, 105, 110]
def wMax : List Int := [109, 97, 120]
def wAll : List Int := [97, 108, 108]
def wNot : List Int := [110, 111, 116]
def wAnd : List Int := [97, 110, 100]
def wOr : List Int := [111, 114]
/-- which part's word is here, if any (9: none) -/
def qK (T : Nat → Int) (n p : Nat) : Nat := if isW T n p (kW 0) then 0 else if isW T n p (kW 1) then 1 else if isW T n p (kW 2) then 2 else if isW T n p (kW 3) then 3 else if isW T n p (kW 4) then 4 else if isW T n p (kW 5) then 5 else if isW T n p (kW 6) then 6 else if isW T n p (kW 7) then 7 else if isW T n p (kW 8) then 8 else 9
/-- what may be asked: in a household's sums strength, heat, near, hour; in a question all but near -/
abbrev qAl (ask : Bool) (k : Nat) : Prop := if ask = true then k ≠ 2 else k < 4
section Spec
variable (T : Nat → Int) (n : Nat) (ask : Bool)
/-- within brackets; two: 0 one sum, 1 the lesser, 2 the greater -/
def sWithin (sm : Nat → Nat → Rs (List Int)) (two : Nat) (o p : Nat) : Rs (List Int) :=
  if T p ≠ 40 then Sum.inl (1, p) else if o = 6 then Sum.inl (4, p) else
  match sm (o + 1) (skp T n (p + 1)) with
  | Sum.inl e => Sum.inl e
  | Sum.inr (p1, c1) =>
    if two = 0 then (if T p1 = 41 then Sum.inr (skp T n (p1 + 1), c1) else Sum.inl (1, p1)) else
    if T p1 ≠ 44 then Sum.inl (1, p1) else
    match sm (o + 1) (skp T n (p1 + 1)) with
    | Sum.inl e => Sum.inl e
    | Sum.inr (p2, c2) => if T p2 = 41 then Sum.inr (skp T n (p2 + 1), c1 ++ (c2 ++ [4 + (two : Int)])) else Sum.inl (1, p2)
/-- an atom; at: atoms one deeper, sm: sums of such -/
def sAtomF (at' sm : Nat → Nat → Rs (List Int)) (o p : Nat) : Rs (List Int) :=
  if T p = 40 then sWithin T n sm 0 o p else
  if isW T n p wMin then sWithin T n sm 1 o (skp T n (p + 3)) else
  if isW T n p wMax then sWithin T n sm 2 o (skp T n (p + 3)) else
  if (7 ≤ qK T n p ∧ qK T n p < 9) ∧ qAl ask (qK T n p) then
    (if o = 6 then Sum.inl (4, p) else
    match at' (o + 1) (skp T n (p + (kW (qK T n p)).length)) with
    | Sum.inl e => Sum.inl e
    | Sum.inr (p1, c1) => Sum.inr (p1, c1 ++ [53 + (qK T n p : Int)])) else
  if qK T n p < 7 ∧ qAl ask (qK T n p) then Sum.inr (skp T n (p + (kW (qK T n p)).length), [40 + (qK T n p : Int)]) else
  match sNum T n p 0 9999 with
  | Sum.inl e => Sum.inl e
  | Sum.inr (p1, v) => Sum.inr (p1, [1000 + v])
/-- what follows a product's first atom -/
def sProdL (at' : Nat → Nat → Rs (List Int)) (o : Nat) : Nat → Nat → List Int → Rs (List Int)
  | 0, p, cs => Sum.inr (p, cs)
  | f + 1, p, cs =>
    if T p = 42 ∨ T p = 47 then
      match at' o (skp T n (p + 1)) with
      | Sum.inl e => Sum.inl e
      | Sum.inr (p1, c1) => sProdL at' o f p1 (cs ++ (c1 ++ [if T p = 42 then 3 else 4]))
    else Sum.inr (p, cs)
def sProd (at' : Nat → Nat → Rs (List Int)) (o p : Nat) : Rs (List Int) :=
  match at' o p with
  | Sum.inl e => Sum.inl e
  | Sum.inr (p1, c1) => sProdL T n at' o (n + 1) p1 c1
def sSumL (at' : Nat → Nat → Rs (List Int)) (o : Nat) : Nat → Nat → List Int → Rs (List Int)
  | 0, p, cs => Sum.inr (p, cs)
  | f + 1, p, cs =>
    if T p = 43 ∨ T p = 45 then
      match sProd T n at' o (skp T n (p + 1)) with
      | Sum.inl e => Sum.inl e
      | Sum.inr (p1, c1) => sSumL at' o f p1 (cs ++ (c1 ++ [if T p = 43 then 1 else 2]))
    else Sum.inr (p, cs)
def sSum (at' : Nat → Nat → Rs (List Int)) (o p : Nat) : Rs (List Int) :=
  match sProd T n at' o p with
  | Sum.inl e => Sum.inl e
  | Sum.inr (p1, c1) => sSumL T n at' o (n + 1) p1 c1
def sA : Nat → Nat → Nat → Rs (List Int)
  | 0 => fun _ p => Sum.inl (1, p)
  | d + 1 => sAtomF T n ask (sA d) (sSum T n (sA d))
/-- tests -/
def sBothL (ft : Nat → Nat → Rs (List Int)) (o : Nat) : Nat → Nat → List Int → Rs (List Int)
  | 0, p, cs => Sum.inr (p, cs)
  | f + 1, p, cs =>
    if isW T n p wAnd then
      match ft o (skp T n (p + 3)) with
      | Sum.inl e => Sum.inl e
      | Sum.inr (p1, c1) => sBothL ft o f p1 (cs ++ (c1 ++ [10]))
    else Sum.inr (p, cs)
def sBoth (ft : Nat → Nat → Rs (List Int)) (o p : Nat) : Rs (List Int) :=
  match ft o p with
  | Sum.inl e => Sum.inl e
  | Sum.inr (p1, c1) => sBothL T n ft o (n + 1) p1 c1
def sTestL (ft : Nat → Nat → Rs (List Int)) (o : Nat) : Nat → Nat → List Int → Rs (List Int)
  | 0, p, cs => Sum.inr (p, cs)
  | f + 1, p, cs =>
    if isW T n p wOr then
      match sBoth T n ft o (skp T n (p + 2)) with
      | Sum.inl e => Sum.inl e
      | Sum.inr (p1, c1) => sTestL ft o f p1 (cs ++ (c1 ++ [11]))
    else Sum.inr (p, cs)
def sTest (ft : Nat → Nat → Rs (List Int)) (o p : Nat) : Rs (List Int) :=
  match sBoth T n ft o p with
  | Sum.inl e => Sum.inl e
  | Sum.inr (p1, c1) => sTestL T n ft o (n + 1) p1 c1
def sFactF (ft : Nat → Nat → Rs (List Int)) (o p : Nat) : Rs (List Int) :=
  if T p = 91 then
    (if o = 6 then Sum.inl (4, p) else
    match sTest T n ft (o + 1) (skp T n (p + 1)) with
    | Sum.inl e => Sum.inl e
    | Sum.inr (p1, c1) => if T p1 = 93 then Sum.inr (skp T n (p1 + 1), c1) else Sum.inl (1, p1)) else
  if isW T n p wNot then
    (if o = 6 then Sum.inl (4, p) else
    match ft (o + 1) (skp T n (p + 3)) with
    | Sum.inl e => Sum.inl e
    | Sum.inr (p1, c1) => Sum.inr (p1, c1 ++ [12])) else
  if isW T n p wAll then Sum.inr (skp T n (p + 3), [13]) else
  match sSum T n (sA T n ask 8) o p with
  | Sum.inl e => Sum.inl e
  | Sum.inr (p1, c1) =>
    if T p1 = 60 ∨ T p1 = 62 ∨ T p1 = 61 then
      match sSum T n (sA T n ask 8) o (skp T n (p1 + 1)) with
      | Sum.inl e => Sum.inl e
      | Sum.inr (p2, c2) => Sum.inr (p2, c1 ++ (c2 ++ [if T p1 = 60 then 7 else if T p1 = 62 then 8 else 9]))
    else Sum.inl (1, p1)
def sF : Nat → Nat → Nat → Rs (List Int)
  | 0 => fun _ p => Sum.inl (1, p)
  | d + 1 => sFactF T n ask (sF d)
end Spec
/-- where reading can come to, how many codes it can make, what faults it can tell -/
def rsOK (T : Nat → Int) (n p : Nat) (r : Rs (List Int)) : Prop := match r with
  | Sum.inl (k, l) => (1 ≤ k ∧ k ≤ 5) ∧ l ≤ n
  | Sum.inr (p', cs) => p < p' ∧ p' ≤ n ∧ skp T n p' = p' ∧ cs.length + p ≤ p' ∧ 0 < cs.length
def rsAll (T : Nat → Int) (n : Nat) (f : Nat → Nat → Rs (List Int)) : Prop := ∀ o p : Nat, p ≤ n → skp T n p = p → rsOK T n p (f o p)
theorem rsOK.bad {T : Nat → Int} {n p : Nat} {k : Int} {l : Nat} (hk : 1 ≤ k ∧ k ≤ 5) (hl : l ≤ n) : rsOK T n p (Sum.inl (k, l)) := ⟨hk, hl⟩
theorem rsOK.get {T : Nat → Int} {n p : Nat} {r : Rs (List Int)} (h : rsOK T n p r) {p' : Nat} {cs : List Int} (e : r = Sum.inr (p', cs)) : p < p' ∧ p' ≤ n ∧ skp T n p' = p' ∧ cs.length + p ≤ p' ∧ 0 < cs.length := by subst e; exact h
theorem rsOK.getE {T : Nat → Int} {n p : Nat} {r : Rs (List Int)} (h : rsOK T n p r) {k : Int} {l : Nat} (e : r = Sum.inl (k, l)) : (1 ≤ k ∧ k ≤ 5) ∧ l ≤ n := by subst e; exact h
theorem kW_len (k : Nat) : 2 ≤ (kW k).length := by
  unfold kW
  repeat' split
  all_goals decide
theorem sNum_ok {T : Nat → Int} {n : Nat} (hT : tOK T n) {p : Nat} (lo hi : Int) (hp : p ≤ n) : (∃ k l, sNum T n p lo hi = Sum.inl (k, l) ∧ (1 ≤ k ∧ k ≤ 5) ∧ l ≤ n) ∨ ∃ p' v, sNum T n p lo hi = Sum.inr (p', v) ∧ p < p' ∧ p' ≤ n ∧ skp T n p' = p' := by
  unfold sNum
  have hde := dE_le hT hp
  by_cases c1 : ¬ isD (T p) ∨ alB T p
  · rw [if_pos c1]; exact Or.inl ⟨1, p, rfl, by omega, hp⟩
  · rw [if_neg c1]
    by_cases c2 : p + 4 < dE T n p
    · rw [if_pos c2]; exact Or.inl ⟨1, p + 4, rfl, by omega, by omega⟩
    · rw [if_neg c2]
      split
      · refine Or.inr ⟨_, _, rfl, ?_, skp_le hT hde, skp_skp hT _⟩
        have hd : isD (T p) := Classical.byContradiction (fun w => c1 (Or.inl w))
        have : p < dE T n p := by
          rcases Nat.lt_or_ge p (dE T n p) with q | q
          · exact q
          · have h1 := dE_out hT p
            have h2 := dE_ge T n p
            rw [show dE T n p = p by omega] at h1
            exact absurd hd h1
        have := skp_ge T n (dE T n p)
        omega
      · exact Or.inl ⟨2, p, rfl, by omega, hp⟩
theorem isW_le {T : Nat → Int} {n : Nat} (hT : tOK T n) {p : Nat} {w : List Int} (h : isW T n p w) : p + w.length ≤ n := by
  have := wE_le hT (Nat.le_of_lt (isL_lt hT h.1))
  rw [h.2.2.1] at this
  exact this
section SpecOK
variable {T : Nat → Int} {n : Nat} {ask : Bool}
theorem T_lt (hT : tOK T n) {p : Nat} {c : Int} (h : T p = c) (hc : 0 ≤ c) : p < n := by
  rcases Nat.lt_or_ge p n with q | q
  · exact q
  · rw [hT.2.2 p q] at h; omega
theorem sWithin_ok (hT : tOK T n) {sm : Nat → Nat → Rs (List Int)} (hs : rsAll T n sm) {two o p : Nat} (hp : p ≤ n) : rsOK T n p (sWithin T n sm two o p) := by
  unfold sWithin
  by_cases c1 : T p ≠ 40
  · rw [if_pos c1]; exact rsOK.bad (by omega) hp
  rw [if_neg c1]
  have c1 : T p = 40 := Classical.byContradiction c1
  have hp1 := T_lt hT c1 (by omega)
  by_cases c2 : o = 6
  · rw [if_pos c2]; exact rsOK.bad (by omega) hp
  rw [if_neg c2]
  have g1 := skp_ge T n (p + 1)
  have h1 := hs (o + 1) (skp T n (p + 1)) (skp_le hT hp1) (skp_skp hT _)
  revert h1
  cases sm (o + 1) (skp T n (p + 1)) with
  | inl e => exact fun h => h
  | inr q =>
    obtain ⟨p1, cs1⟩ := q
    rintro ⟨a1, a2, a3, a4, a5⟩
    dsimp only
    by_cases c3 : two = 0
    · rw [if_pos c3]
      by_cases c4 : T p1 = 41
      · rw [if_pos c4]
        have g2 := skp_ge T n (p1 + 1)
        have := T_lt hT c4 (by omega)
        exact ⟨by omega, skp_le hT (by omega), skp_skp hT _, by omega, a5⟩
      · rw [if_neg c4]; exact rsOK.bad (by omega) a2
    · rw [if_neg c3]
      by_cases c4 : T p1 ≠ 44
      · rw [if_pos c4]; exact rsOK.bad (by omega) a2
      rw [if_neg c4]
      have c4 : T p1 = 44 := Classical.byContradiction c4
      have hp2 := T_lt hT c4 (by omega)
      have g2 := skp_ge T n (p1 + 1)
      have h2 := hs (o + 1) (skp T n (p1 + 1)) (skp_le hT hp2) (skp_skp hT _)
      revert h2
      cases sm (o + 1) (skp T n (p1 + 1)) with
      | inl e => exact fun h => h
      | inr q =>
        obtain ⟨p2, cs2⟩ := q
        rintro ⟨b1, b2, b3, b4, b5⟩
        dsimp only
        by_cases c5 : T p2 = 41
        · rw [if_pos c5]
          have g3 := skp_ge T n (p2 + 1)
          have := T_lt hT c5 (by omega)
          refine ⟨by omega, skp_le hT (by omega), skp_skp hT _, ?_, ?_⟩
          · rw [List.length_append, List.length_append]
            show cs1.length + (cs2.length + 1) + p ≤ _
            omega
          · rw [List.length_append]; omega
        · rw [if_neg c5]; exact rsOK.bad (by omega) b2
theorem qK_W (p : Nat) (h : qK T n p < 9) : isW T n p (kW (qK T n p)) := by
  unfold qK at h ⊢
  by_cases h0 : isW T n p (kW 0)
  · rw [if_pos h0]; exact h0
  rw [if_neg h0] at h ⊢
  by_cases h1 : isW T n p (kW 1)
  · rw [if_pos h1]; exact h1
  rw [if_neg h1] at h ⊢
  by_cases h2 : isW T n p (kW 2)
  · rw [if_pos h2]; exact h2
  rw [if_neg h2] at h ⊢
  by_cases h3 : isW T n p (kW 3)
  · rw [if_pos h3]; exact h3
  rw [if_neg h3] at h ⊢
  by_cases h4 : isW T n p (kW 4)
  · rw [if_pos h4]; exact h4
  rw [if_neg h4] at h ⊢
  by_cases h5 : isW T n p (kW 5)
  · rw [if_pos h5]; exact h5
  rw [if_neg h5] at h ⊢
  by_cases h6 : isW T n p (kW 6)
  · rw [if_pos h6]; exact h6
  rw [if_neg h6] at h ⊢
  by_cases h7 : isW T n p (kW 7)
  · rw [if_pos h7]; exact h7
  rw [if_neg h7] at h ⊢
  by_cases h8 : isW T n p (kW 8)
  · rw [if_pos h8]; exact h8
  rw [if_neg h8] at h
  omega
theorem rsOK.up {p q : Nat} {r : Rs (List Int)} (h : rsOK T n q r) (hq : p ≤ q) : rsOK T n p r := by
  cases r with
  | inl e => exact h
  | inr e =>
    obtain ⟨p', cs⟩ := e
    obtain ⟨a1, a2, a3, a4, a5⟩ := h
    exact ⟨by omega, a2, a3, by omega, a5⟩
theorem sAtomF_ok (hT : tOK T n) {at' sm : Nat → Nat → Rs (List Int)} (ha : rsAll T n at') (hs : rsAll T n sm) : rsAll T n (sAtomF T n ask at' sm) := by
  intro o p hp hsk
  unfold sAtomF
  by_cases c1 : T p = 40
  · rw [if_pos c1]; exact sWithin_ok hT hs hp
  rw [if_neg c1]
  by_cases c2 : isW T n p wMin
  · rw [if_pos c2]
    have h1 : p + 3 ≤ n := isW_le hT c2
    have := skp_ge T n (p + 3)
    exact (sWithin_ok hT hs (skp_le hT h1)).up (by omega)
  rw [if_neg c2]
  by_cases c3 : isW T n p wMax
  · rw [if_pos c3]
    have h1 : p + 3 ≤ n := isW_le hT c3
    have := skp_ge T n (p + 3)
    exact (sWithin_ok hT hs (skp_le hT h1)).up (by omega)
  rw [if_neg c3]
  by_cases c4 : (7 ≤ qK T n p ∧ qK T n p < 9) ∧ qAl ask (qK T n p)
  · rw [if_pos c4]
    by_cases c5 : o = 6
    · rw [if_pos c5]; exact rsOK.bad (by omega) hp
    rw [if_neg c5]
    have hW := qK_W p c4.1.2
    have h1 := isW_le hT hW
    have h2 := kW_len (qK T n p)
    have h3 := skp_ge T n (p + (kW (qK T n p)).length)
    have h4 := ha (o + 1) _ (skp_le hT h1) (skp_skp hT _)
    revert h4
    cases at' (o + 1) (skp T n (p + (kW (qK T n p)).length)) with
    | inl e => exact fun h => h
    | inr q =>
      obtain ⟨p1, cs1⟩ := q
      rintro ⟨a1, a2, a3, a4, a5⟩
      refine ⟨by omega, a2, a3, ?_, ?_⟩
      · rw [List.length_append]
        show cs1.length + 1 + p ≤ p1
        omega
      · rw [List.length_append]; omega
  rw [if_neg c4]
  by_cases c5 : qK T n p < 7 ∧ qAl ask (qK T n p)
  · rw [if_pos c5]
    have hW := qK_W (T := T) (n := n) p (by omega)
    have h1 := isW_le hT hW
    have h2 := kW_len (qK T n p)
    have h3 := skp_ge T n (p + (kW (qK T n p)).length)
    exact ⟨by omega, skp_le hT h1, skp_skp hT _, by show 1 + p ≤ _; omega, by show 0 < 1; omega⟩
  rw [if_neg c5]
  rcases sNum_ok hT (p := p) 0 9999 hp with ⟨k, l, e, h1, h2⟩ | ⟨p', v, e, h1, h2, h3⟩
  · rw [e]; exact ⟨h1, h2⟩
  · rw [e]; exact ⟨h1, h2, h3, by show 1 + p ≤ _; omega, by show 0 < 1; omega⟩
theorem sProdL_ok (hT : tOK T n) {at' : Nat → Nat → Rs (List Int)} (ha : rsAll T n at') (o : Nat) : ∀ (f p q : Nat) (cs : List Int), q < p → p ≤ n → skp T n p = p → cs.length + q ≤ p → 0 < cs.length → rsOK T n q (sProdL T n at' o f p cs)
  | 0, p, q, cs, h1, h2, h3, h4, h5 => ⟨h1, h2, h3, h4, h5⟩
  | f + 1, p, q, cs, h1, h2, h3, h4, h5 => by
    unfold sProdL
    by_cases c1 : T p = 42 ∨ T p = 47
    · rw [if_pos c1]
      have hp1 : p < n := by rcases c1 with c | c <;> exact T_lt hT c (by omega)
      have g1 := skp_ge T n (p + 1)
      have h6 := ha o (skp T n (p + 1)) (skp_le hT hp1) (skp_skp hT _)
      revert h6
      cases at' o (skp T n (p + 1)) with
      | inl e => exact fun h => h
      | inr r =>
        obtain ⟨p1, cs1⟩ := r
        rintro ⟨a1, a2, a3, a4, a5⟩
        refine sProdL_ok hT ha o f p1 q _ (by omega) a2 a3 ?_ ?_
        · rw [List.length_append, List.length_append]
          show cs.length + (cs1.length + 1) + q ≤ p1
          omega
        · rw [List.length_append]; omega
    · rw [if_neg c1]; exact ⟨h1, h2, h3, h4, h5⟩
theorem sProd_ok (hT : tOK T n) {at' : Nat → Nat → Rs (List Int)} (ha : rsAll T n at') : rsAll T n (sProd T n at') := by
  intro o p hp hsk
  unfold sProd
  have h := ha o p hp hsk
  revert h
  cases at' o p with
  | inl e => exact fun h => h
  | inr r =>
    obtain ⟨p1, cs1⟩ := r
    rintro ⟨a1, a2, a3, a4, a5⟩
    exact sProdL_ok hT ha o _ p1 p cs1 a1 a2 a3 a4 a5
theorem sSumL_ok (hT : tOK T n) {at' : Nat → Nat → Rs (List Int)} (ha : rsAll T n at') (o : Nat) : ∀ (f p q : Nat) (cs : List Int), q < p → p ≤ n → skp T n p = p → cs.length + q ≤ p → 0 < cs.length → rsOK T n q (sSumL T n at' o f p cs)
  | 0, p, q, cs, h1, h2, h3, h4, h5 => ⟨h1, h2, h3, h4, h5⟩
  | f + 1, p, q, cs, h1, h2, h3, h4, h5 => by
    unfold sSumL
    by_cases c1 : T p = 43 ∨ T p = 45
    · rw [if_pos c1]
      have hp1 : p < n := by rcases c1 with c | c <;> exact T_lt hT c (by omega)
      have g1 := skp_ge T n (p + 1)
      have h6 := sProd_ok hT ha o (skp T n (p + 1)) (skp_le hT hp1) (skp_skp hT _)
      revert h6
      cases sProd T n at' o (skp T n (p + 1)) with
      | inl e => exact fun h => h
      | inr r =>
        obtain ⟨p1, cs1⟩ := r
        rintro ⟨a1, a2, a3, a4, a5⟩
        refine sSumL_ok hT ha o f p1 q _ (by omega) a2 a3 ?_ ?_
        · rw [List.length_append, List.length_append]
          show cs.length + (cs1.length + 1) + q ≤ p1
          omega
        · rw [List.length_append]; omega
    · rw [if_neg c1]; exact ⟨h1, h2, h3, h4, h5⟩
theorem sSum_ok (hT : tOK T n) {at' : Nat → Nat → Rs (List Int)} (ha : rsAll T n at') : rsAll T n (sSum T n at') := by
  intro o p hp hsk
  unfold sSum
  have h := sProd_ok hT ha o p hp hsk
  revert h
  cases sProd T n at' o p with
  | inl e => exact fun h => h
  | inr r =>
    obtain ⟨p1, cs1⟩ := r
    rintro ⟨a1, a2, a3, a4, a5⟩
    exact sSumL_ok hT ha o _ p1 p cs1 a1 a2 a3 a4 a5
theorem sA_ok (hT : tOK T n) : ∀ d : Nat, rsAll T n (sA T n ask d)
  | 0 => fun _ _ hp _ => rsOK.bad (by omega) hp
  | d + 1 => sAtomF_ok hT (sA_ok hT d) (sSum_ok hT (sA_ok hT d))
end SpecOK
