/-! ===== the model's piles of codes and of what waits ===== -/
def cod (m : MM) : List Int → Prop
  | [] => True
  | c :: C => m.1 1093 C.length = iI c ∧ cod m C
def stk (m : MM) : List Int → Prop
  | [] => True
  | t :: W => m.1 1095 W.length = iI t ∧ stk m W
theorem cod.mv {m m' : MM} : ∀ {C : List Int}, cod m C → (∀ j : Nat, j < C.length → m'.1 1093 j = m.1 1093 j) → cod m' C
  | [], _, _ => trivial
  | c :: C, h, hm => ⟨by rw [hm _ (by simp)]; exact h.1, h.2.mv (fun j hj => hm j (by simp; omega))⟩
theorem stk.mv {m m' : MM} : ∀ {W : List Int}, stk m W → (∀ j : Nat, j < W.length → m'.1 1095 j = m.1 1095 j) → stk m' W
  | [], _, _ => trivial
  | t :: W, h, hm => ⟨by rw [hm _ (by simp)]; exact h.1, h.2.mv (fun j hj => hm j (by simp; omega))⟩
theorem stk.tail {m : MM} : ∀ (P : List Int) {W : List Int}, stk m (P ++ W) → stk m W
  | [], _, h => h
  | _ :: P, _, h => stk.tail P h.2
/-- codes (last first), what waits (top first), how many are open, the base, what may be asked -/
def eS (m : MM) (C W : List Int) (o b : Nat) (ask : Bool) : Prop := cod m C ∧ m.1 2000 93 = iI C.length ∧ stk m W ∧ m.1 2000 95 = iI W.length ∧ m.1 2000 96 = iI o ∧ m.1 2000 97 = iI b ∧ m.1 2000 48 = (if ask = true then 3 else 0)
/-- what reading a sum may change -/
def qX (c j : Nat) : Prop := xK c j ∨ c = 1093 ∨ c = 1095 ∨ (c = 2000 ∧ (j = 93 ∨ j = 95 ∨ j = 96 ∨ j = 97))
def qF (m m' : MM) : Prop := (∀ c j : Nat, (¬ qX c j ∨ (c = 2000 ∧ (j = 5 ∨ j = 6) ∧ m'.1 2000 5 = 0)) → m'.1 c j = m.1 c j) ∧ m'.2 = m.2
theorem qF.refl (m : MM) : qF m m := ⟨fun _ _ _ => rfl, rfl⟩
theorem qF.trans {a b c : MM} (h1 : qF a b) (h2 : qF b c) : qF a c := ⟨fun x y k => (h2.1 x y k).trans (h1.1 x y (k.imp id (fun ⟨e1, e2, e3⟩ => ⟨e1, e2, (h2.1 2000 5 (Or.inr ⟨rfl, Or.inl rfl, e3⟩)).symm.trans e3⟩))), h2.2.trans h1.2⟩
theorem xF.q {m m' : MM} (h : xF m m') : qF m m' := ⟨fun c j k => h.1 c j (k.imp (fun w z => w (Or.inl z)) id), h.2⟩
theorem qF.sI {m : MM} {c j : Nat} {v : Int32} (h : qX c j) (h2 : ¬ (c = 2000 ∧ (j = 5 ∨ j = 6)) := by omega) : qF m (msI m c j v) := ⟨fun c' j' k => by
  rw [msI_i, if_neg (fun e => ?_)]
  rcases k with k | ⟨k1, k2, -⟩
  · exact k (by rw [e.1, e.2]; exact h)
  · exact h2 ⟨by omega, by omega⟩, rfl⟩
theorem lxM.q {T : Nat → Int} {n : Nat} {m m' : MM} (h : lxM T n m) (hx : qF m m') : lxM T n m' := ⟨h.1, fun k hk => by rw [hx.1 _ _ (by unfold qX xK; omega)]; exact h.2.1 k hk, by rw [hx.1 _ _ (by unfold qX xK; omega)]; exact h.2.2.1, h.2.2.2.mv (fun c j a b _ => hx.1 _ _ (by unfold qX xK; omega))⟩
theorem eS.x {m m' : MM} {C W : List Int} {o b : Nat} {ask : Bool} (h : eS m C W o b ask) (hx : xF m m') : eS m' C W o b ask := by
  obtain ⟨h1, h2, h3, h4, h5, h6, h7⟩ := h
  have e : ∀ c j : Nat, ¬ xK c j → m'.1 c j = m.1 c j := fun c j k => hx.1 c j (Or.inl k)
  exact ⟨h1.mv (fun j _ => e _ _ (by unfold xK; omega)), by rw [e _ _ (by unfold xK; omega)]; exact h2, h3.mv (fun j _ => e _ _ (by unfold xK; omega)), by rw [e _ _ (by unfold xK; omega)]; exact h4, by rw [e _ _ (by unfold xK; omega)]; exact h5, by rw [e _ _ (by unfold xK; omega)]; exact h6, by rw [e _ _ (by unfold xK; omega)]; exact h7⟩
/-- what reading does not look at -/
theorem gA.mv {T : Nat → Int} {n : Nat} {m m' : MM} {a : Nat} (h : gA T n m a) (h2 : m'.1 2000 2 = m.1 2000 2) (h4 : m'.1 2000 4 = m.1 2000 4) (h5 : m'.1 2000 5 = m.1 2000 5) : gA T n m' a := by
  obtain ⟨k1, k2, k3, e, k4, k5, k6⟩ := h
  exact ⟨h5.trans k1, h2.trans k2, k3, e, h4.trans k4, k5, k6⟩
theorem gd.mv {T : Nat → Int} {n : Nat} {m m' : MM} {p : Nat} (h : gd T n m p) (h2 : m'.1 2000 2 = m.1 2000 2) (h4 : m'.1 2000 4 = m.1 2000 4) (h5 : m'.1 2000 5 = m.1 2000 5) : gd T n m' p := by
  obtain ⟨a, g, s⟩ := h
  exact ⟨a, g.mv h2 h4 h5, s⟩
theorem gs.mv {T : Nat → Int} {n : Nat} {m m' : MM} {p : Nat} (h : gs T n m p) (h2 : m'.1 2000 2 = m.1 2000 2) (h4 : m'.1 2000 4 = m.1 2000 4) (h5 : m'.1 2000 5 = m.1 2000 5) : gs T n m' p := ⟨h.1.mv h2 h4 h5, h.2⟩
/-- the piles alone changed -/
def yS (m m' : MM) : Prop := qF m m' ∧ m'.1 2000 2 = m.1 2000 2 ∧ m'.1 2000 4 = m.1 2000 4 ∧ m'.1 2000 5 = m.1 2000 5 ∧ m'.1 2000 6 = m.1 2000 6
theorem yS.refl (m : MM) : yS m m := ⟨qF.refl m, rfl, rfl, rfl, rfl⟩
theorem yS.trans {a b c : MM} (h1 : yS a b) (h2 : yS b c) : yS a c := ⟨h1.1.trans h2.1, h2.2.1.trans h1.2.1, h2.2.2.1.trans h1.2.2.1, h2.2.2.2.1.trans h1.2.2.2.1, h2.2.2.2.2.trans h1.2.2.2.2⟩
theorem yS.sI {m : MM} {c j : Nat} {v : Int32} (h : c = 1093 ∨ c = 1095 ∨ (c = 2000 ∧ (j = 93 ∨ j = 95 ∨ j = 96 ∨ j = 97))) : yS m (msI m c j v) := ⟨qF.sI (Or.inr h), by rw [msI_i, if_neg (by omega)], by rw [msI_i, if_neg (by omega)], by rw [msI_i, if_neg (by omega)], by rw [msI_i, if_neg (by omega)]⟩
theorem gd.y {T : Nat → Int} {n : Nat} {m m' : MM} {p : Nat} (h : gd T n m p) (y : yS m m') : gd T n m' p := h.mv y.2.1 y.2.2.1 y.2.2.2.1
theorem gs.y {T : Nat → Int} {n : Nat} {m m' : MM} {p : Nat} (h : gs T n m p) (y : yS m m') : gs T n m' p := h.mv y.2.1 y.2.2.1 y.2.2.2.1
theorem gA.y {T : Nat → Int} {n : Nat} {m m' : MM} {p : Nat} (h : gA T n m p) (y : yS m m') : gA T n m' p := h.mv y.2.1 y.2.2.1 y.2.2.2.1
theorem gd.z {T : Nat → Int} {n : Nat} {m : MM} {p : Nat} (h : gd T n m p) : m.1 2000 5 = 0 := by
  obtain ⟨a, g, -⟩ := h
  exact g.1
theorem gd.le {T : Nat → Int} {n : Nat} {m : MM} {p : Nat} (h : gd T n m p) (hT : tOK T n) : p ≤ n ∧ skp T n p = p := by
  obtain ⟨a, g, rfl⟩ := h
  exact ⟨skp_le hT g.2.2.1, skp_skp hT _⟩
theorem p_qCode {m : MM} {C W : List Int} {o b : Nat} {ask : Bool} (h : eS m C W o b ask) (hl : C.length < 1700) (c : Int) : pw (mf_qCode (iI c) m) (fun q => eS q.2 (c :: C) W o b ask ∧ yS m q.2) := by
  obtain ⟨h1, h2, h3, h4, h5, h6, h7⟩ := h
  have gi : gz_ix (iI (C.length : Int)) = C.length := by rw [gix (by omega)]; omega
  unfold mf_qCode
  rw [h2, gi]
  refine pw_gu ((gin_iI (by omega)).2 (by omega)) (pw_let (pw_let (pw_some ⟨⟨⟨?_, h1.mv (fun j hj => ?_)⟩, ?_, h3.mv (fun j hj => ?_), ?_, ?_, ?_, ?_⟩, (yS.sI (by omega)).trans (yS.sI (by omega))⟩)))
  · rw [msI_i, if_neg (by omega), msI_i, if_pos ⟨rfl, rfl⟩]
  · rw [msI_i, if_neg (by omega), msI_i, if_neg (by omega)]
  · rw [msI_i, if_pos ⟨rfl, rfl⟩, msI_i, if_neg (by omega), h2, iI_lit, iI_add]
    rfl
  · rw [msI_i, if_neg (by omega), msI_i, if_neg (by omega)]
  · rw [msI_i, if_neg (by omega), msI_i, if_neg (by omega)]; exact h4
  · rw [msI_i, if_neg (by omega), msI_i, if_neg (by omega)]; exact h5
  · rw [msI_i, if_neg (by omega), msI_i, if_neg (by omega)]; exact h6
  · rw [msI_i, if_neg (by omega), msI_i, if_neg (by omega)]; exact h7
theorem p_qDrops {m : MM} {C W : List Int} {t : Int} {o b : Nat} {ask : Bool} (h : eS m C (t :: W) o b ask) (hl : C.length + W.length < 1700) : pw (mf_qDrops m) (fun q => eS q.2 (t :: C) W o b ask ∧ yS m q.2) := by
  obtain ⟨h1, h2, h3, h4, h5, h6, h7⟩ := h
  have ew : iI ((t :: W).length : Int) - (1 : Int32) = iI (W.length : Int) := by
    rw [iI_lit, iI_sub, List.length_cons]
    exact congrArg iI (by omega)
  have gi : gz_ix (iI (W.length : Int)) = W.length := by rw [gix (by omega)]; omega
  unfold mf_qDrops
  rw [h4, ew]
  simp only [gz_let]
  have e1 : (msI m 2000 95 (iI (W.length : Int))).1 2000 95 = iI (W.length : Int) := by rw [msI_i, if_pos ⟨rfl, rfl⟩]
  have e2 : (msI m 2000 95 (iI (W.length : Int))).1 1095 W.length = iI t := by rw [msI_i, if_neg (by omega)]; exact h3.1
  rw [e1, gi, e2]
  have hS : eS (msI m 2000 95 (iI (W.length : Int))) C W o b ask := by
    refine ⟨h1.mv (fun j hj => ?_), ?_, h3.2.mv (fun j hj => ?_), e1, ?_, ?_, ?_⟩
    · rw [msI_i, if_neg (by omega)]
    · rw [msI_i, if_neg (by omega)]; exact h2
    · rw [msI_i, if_neg (by omega)]
    · rw [msI_i, if_neg (by omega)]; exact h5
    · rw [msI_i, if_neg (by omega)]; exact h6
    · rw [msI_i, if_neg (by omega)]; exact h7
  refine pw_gu ((gin_iI (by omega)).2 (by omega)) (pw_bind (pw_mono (p_qCode hS (by omega) t) ?_))
  rintro ⟨⟨⟩, m2⟩ ⟨k1, k2⟩
  exact pw_some ⟨k1, (yS.sI (by omega)).trans k2⟩
/-- is it on top -/
def onT (W : List Int) (t : Int) : Bool := match W with
  | [] => false
  | x :: _ => decide (x = t)
theorem p_qIsOn {m : MM} {C W : List Int} {o b : Nat} {ask : Bool} (h : eS m C W o b ask) (hl : W.length ≤ 1700) (hW : ∀ x ∈ W, 0 ≤ x ∧ x < 100) {t : Int} (ht : 0 ≤ t ∧ t < 100) : mf_qIsOn (iI t) m = some (if onT W t = true then 1 else 0, m) := by
  obtain ⟨h1, h2, h3, h4, h5, h6, h7⟩ := h
  unfold mf_qIsOn mj_X6_qIsOn_26
  rw [h4]
  cases W with
  | nil =>
    rw [if_pos (show iI (([] : List Int).length : Int) ≤ (0 : Int32) by decide)]
    rfl
  | cons x W =>
    have ew : iI ((x :: W).length : Int) - (1 : Int32) = iI (W.length : Int) := by
      rw [iI_lit, iI_sub, List.length_cons]
      exact congrArg iI (by omega)
    have gi : gz_ix (iI (W.length : Int)) = W.length := by rw [gix (by simp at hl; omega)]; omega
    have hx := hW x (by simp)
    simp only [List.length_cons] at hl
    rw [if_neg (by rw [iI_lit, iI_le (by rw [List.length_cons]; omega) (by omega), List.length_cons]; omega), ew, if_pos ((gin_iI (by omega)).2 (by omega)), gi, h3.1]
    unfold onT
    by_cases c : x = t
    · rw [if_pos (by rw [c]), if_pos (by simpa using c)]
    · rw [if_neg (by rw [iI_eq (by omega) (by omega)]; exact c), if_neg (by simpa using c)]
abbrev isBr (x : Int) : Prop := 20 ≤ x ∧ x ≤ 24
theorem p_isBr {z : Int} (hz : -2147483648 ≤ z ∧ z < 2147483648) (m : MM) : mf_qIsBracket (iI z) m = some (if isBr z then 1 else 0, m) := by
  unfold mf_qIsBracket mj_X6_qIsBracket_16
  simp (disch := omega) only [show (20 : Int32) = iI 20 from rfl, show (24 : Int32) = iI 24 from rfl, iI_lt]
  by_cases h : isBr z
  · rw [if_neg (by omega), if_neg (by omega), if_pos h]
  · rw [if_neg h]
    split
    · rfl
    · rw [if_pos (by omega)]
/-- signs that wait (1 to 4), then a bracket, or the base -/
def topB (V : List Int) (b : Nat) : Prop := V.length = b ∨ ∃ x V', V = x :: V' ∧ isBr x
def prS (P : List Int) : Prop := ∀ x ∈ P, 1 ≤ x ∧ x ≤ 4
def brk (V : List Int) (b : Nat) : Int := if V.length = b then -1 else V.headD (-1)
theorem p_brk2 {m : MM} {b : Nat} (h97 : m.1 2000 97 = iI b) {V : List Int} (hV : V.length ≤ 1700) (hb : b ≤ V.length) (htop : topB V b) : ∀ (P : List Int), prS P → (P ++ V).length ≤ 1700 → stk m (P ++ V) → pw (ml_X6_qBracket_7 (iI (((P ++ V).length : Int) - 1)) m) (fun q => q.1 = iI (brk V b) ∧ q.2 = m)
  | [], hP, hl, hs => by
    rw [List.nil_append] at hs hl ⊢
    unfold ml_X6_qBracket_7
    refine pw_unroll ?_
    unfold mb_X6_qBracket_7 mj_X6_qBracket_33
    rw [h97]
    unfold brk
    rcases htop with e | ⟨x, V', rfl, hx⟩
    · have c : iI ((V.length : Int) - 1) < iI (b : Int) := by rw [iI_lt (by omega) (by omega)]; omega
      rw [if_pos c, if_pos c, if_pos e]
      exact pw_some ⟨rfl, rfl⟩
    · by_cases e : (x :: V').length = b
      · have c : iI (((x :: V').length : Int) - 1) < iI (b : Int) := by rw [iI_lt (by omega) (by omega)]; omega
        rw [if_pos c, if_pos c, if_pos e]
        exact pw_some ⟨rfl, rfl⟩
      · simp only [List.length_cons] at hV hb e ⊢
        have ee : (((V'.length + 1 : Nat) : Int) - 1) = (V'.length : Int) := by omega
        rw [ee]
        have c : ¬ iI (V'.length : Int) < iI (b : Int) := by rw [iI_lt (by omega) (by omega)]; omega
        have gi : gz_ix (iI (V'.length : Int)) = V'.length := by rw [gix (by omega)]; omega
        have hs1 : m.1 1095 V'.length = iI x := hs.1
        rw [if_neg c, gi, hs1, p_isBr (by omega), if_pos hx, if_neg e]
        simp only [Option.bind_some]
        refine pw_gu ((gin_iI (by omega)).2 (by omega)) (pw_f n10 (pw_map ?_))
        rw [h97, if_neg c, hs1]
        exact pw_gu ((gin_iI (by omega)).2 (by omega)) (pw_some ⟨rfl, rfl⟩)
  | y :: P, hP, hl, hs => by
    have hy := hP y (by simp)
    have ih := p_brk2 h97 hV hb htop P (fun x hx => hP x (by simp [hx])) (by simp at hl ⊢; omega) hs.2
    simp only [List.cons_append, List.length_cons, List.length_append] at hl
    have e1 : ((((y :: P) ++ V).length : Int) - 1) = ((P ++ V).length : Int) := by simp only [List.cons_append, List.length_cons]; omega
    rw [e1]
    have gi : gz_ix (iI ((P ++ V).length : Int)) = (P ++ V).length := by rw [gix (by simp only [List.length_append]; omega)]; omega
    have hlen : (P ++ V).length = P.length + V.length := List.length_append
    unfold ml_X6_qBracket_7
    refine pw_unroll ?_
    unfold mb_X6_qBracket_7
    have hs1 : m.1 1095 (P ++ V).length = iI y := hs.1
    dsimp only
    rw [h97, gi, hs1, p_isBr (by omega), if_neg (show ¬ isBr y by omega)]
    simp only [Option.bind_some, gz_let]
    refine pw_f (by rw [iI_lt (by omega) (by omega)]; omega) (pw_gu ((gin_iI (by omega)).2 (by omega)) (pw_t (by first | trivial | rfl) (pw_some ?_)))
    show pw (ml_X6_qBracket_7 _ m) _
    rw [show iI ((P ++ V).length : Int) + (-1 : Int32) = iI (((P ++ V).length : Int) - 1) by rw [show (-1 : Int32) = iI (-1) by decide, iI_add]; exact congrArg iI (by omega)]
    exact ih
theorem p_qBracket {m : MM} {C P V : List Int} {o b : Nat} {ask : Bool} (h : eS m C (P ++ V) o b ask) (hl : (P ++ V).length ≤ 1700) (hP : prS P) (hb : b ≤ V.length) (htop : topB V b) : mf_qBracket m = some (iI (brk V b), m) := by
  have hlen : (P ++ V).length = P.length + V.length := List.length_append
  have key := p_brk2 (m := m) h.2.2.2.2.2.1 (V := V) (by omega) hb htop P hP hl h.2.2.1
  unfold mf_qBracket
  rw [h.2.2.2.1]
  simp only [gz_let]
  rw [show iI ((P ++ V).length : Int) - (1 : Int32) = iI (((P ++ V).length : Int) - 1) by rw [iI_lit, iI_sub]]
  obtain ⟨⟨r, m'⟩, e, rfl, rfl⟩ := key
  exact e
theorem p_qDropsTo {V : List Int} {o b : Nat} {ask : Bool} (hb : b ≤ V.length) (htop : topB V b) : ∀ (P : List Int) {m : MM} {C : List Int}, prS P → C.length + (P ++ V).length < 1700 → eS m C (P ++ V) o b ask → pw (mf_qDropsToBracket m) (fun q => eS q.2 (P.reverse ++ C) V o b ask ∧ yS m q.2)
  | [], m, C, hP, hl, h => by
    rw [List.nil_append] at hl h
    unfold mf_qDropsToBracket ml_X6_qDropsToBracket_0
    refine pw_unroll ?_
    unfold mb_X6_qDropsToBracket_0
    rw [h.2.2.2.1, h.2.2.2.2.2.1]
    rcases htop with e | ⟨x, V', rfl, hx⟩
    · exact pw_t (by rw [iI_le (by omega) (by omega)]; omega) (pw_some ⟨h, yS.refl m⟩)
    · by_cases e : (x :: V').length = b
      · exact pw_t (by rw [iI_le (by omega) (by omega)]; omega) (pw_some ⟨h, yS.refl m⟩)
      · have ew : iI ((x :: V').length : Int) - (1 : Int32) = iI (V'.length : Int) := by
          rw [iI_lit, iI_sub, List.length_cons]
          exact congrArg iI (by omega)
        simp only [List.length_cons] at hb e hl
        have gi : gz_ix (iI (V'.length : Int)) = V'.length := by rw [gix (by omega)]; omega
        rw [ew, gi, h.2.2.1.1, p_isBr (by omega), if_pos hx]
        simp only [Option.bind_some]
        exact pw_f (by rw [iI_le (by rw [List.length_cons]; omega) (by omega), List.length_cons]; omega) (pw_gu ((gin_iI (by omega)).2 (by omega)) (pw_f n10 (pw_some ⟨h, yS.refl m⟩)))
  | y :: P, m, C, hP, hl, h => by
    have hy := hP y (by simp)
    have hlen : ((y :: P) ++ V).length = P.length + V.length + 1 := by simp only [List.cons_append, List.length_cons, List.length_append]
    have hlen2 : (P ++ V).length = P.length + V.length := List.length_append
    unfold mf_qDropsToBracket ml_X6_qDropsToBracket_0
    refine pw_unroll ?_
    unfold mb_X6_qDropsToBracket_0
    have ew : iI (((y :: P) ++ V).length : Int) - (1 : Int32) = iI ((P ++ V).length : Int) := by
      rw [iI_lit, iI_sub]
      exact congrArg iI (by omega)
    have gi : gz_ix (iI ((P ++ V).length : Int)) = (P ++ V).length := by rw [gix (by omega)]; omega
    have htp : m.1 1095 (P ++ V).length = iI y := h.2.2.1.1
    rw [h.2.2.2.1, h.2.2.2.2.2.1, ew, gi, htp, p_isBr (by omega), if_neg (show ¬ isBr y by omega)]
    simp only [Option.bind_some]
    refine pw_f (by rw [iI_le (by omega) (by omega)]; omega) (pw_gu ((gin_iI (by omega)).2 (by omega)) (pw_t (by first | trivial | rfl) (pw_bind (pw_mono (p_qDrops (t := y) (W := P ++ V) h (by omega)) ?_))))
    rintro ⟨⟨⟩, m2⟩ ⟨k1, k2⟩
    dsimp only at k1 k2 ⊢
    refine pw_some ?_
    show pw (mf_qDropsToBracket m2) _
    refine pw_mono (p_qDropsTo hb htop P (fun x hx => hP x (by simp [hx])) (by simp only [List.length_cons]; omega) k1) ?_
    rintro ⟨⟨⟩, m3⟩ ⟨j1, j2⟩
    refine ⟨?_, k2.trans j2⟩
    rw [List.reverse_cons, List.append_assoc]
    exact j1
theorem p_qOpens {T : Nat → Int} {n : Nat} {m : MM} {C W : List Int} {o b : Nat} {ask : Bool} (h : eS m C W o b ask) (hz : m.1 2000 5 = 0) (ho : o ≤ 6) (hl : W.length < 1700) (x : Int) (p : Nat) : pw (mf_qOpens (iI x) (iI p) m) (fun q => (o = 6 ∧ bd q.2 4 p ∧ xF m q.2) ∨ (o ≠ 6 ∧ eS q.2 C (x :: W) (o + 1) b ask ∧ yS m q.2)) := by
  obtain ⟨h1, h2, h3, h4, h5, h6, h7⟩ := h
  have gi : gz_ix (iI (W.length : Int)) = W.length := by rw [gix (by omega)]; omega
  unfold mf_qOpens
  refine pw_t hz ?_
  rw [h5]
  by_cases c : o = 6
  · subst c
    refine pw_t rfl (pw_bind (pw_mono (p_fail hz (k := 4) (by omega) p) ?_))
    rintro ⟨⟨⟩, m2⟩ ⟨b1, b2⟩
    exact pw_some (Or.inl ⟨rfl, b1, b2⟩)
  · refine pw_f (by rw [iI_lit, iI_eq (by omega) (by omega)]; omega) ?_
    simp only [gz_let]
    have e1 : (msI m 2000 96 (iI (o : Int) + (1 : Int32))).1 2000 95 = iI (W.length : Int) := by rw [msI_i, if_neg (by omega)]; exact h4
    rw [e1, gi]
    refine pw_gu ((gin_iI (by omega)).2 (by omega)) (pw_some (Or.inr ⟨c, ⟨h1.mv (fun j hj => ?_), ?_, ⟨?_, h3.mv (fun j hj => ?_)⟩, ?_, ?_, ?_, ?_⟩, ((yS.sI (by omega)).trans (yS.sI (by omega))).trans (yS.sI (by omega))⟩))
    · rw [msI_i, if_neg (by omega), msI_i, if_neg (by omega), msI_i, if_neg (by omega)]
    · rw [msI_i, if_neg (by omega), msI_i, if_neg (by omega), msI_i, if_neg (by omega)]; exact h2
    · rw [msI_i, if_neg (by omega), msI_i, if_pos ⟨rfl, rfl⟩]
    · rw [msI_i, if_neg (by omega), msI_i, if_neg (by omega), msI_i, if_neg (by omega)]
    · rw [msI_i, if_pos ⟨rfl, rfl⟩, msI_i, if_neg (by omega), e1, iI_lit, iI_add]; rfl
    · rw [msI_i, if_neg (by omega), msI_i, if_neg (by omega), msI_i, if_pos ⟨rfl, rfl⟩, iI_lit, iI_add]; rfl
    · rw [msI_i, if_neg (by omega), msI_i, if_neg (by omega), msI_i, if_neg (by omega)]; exact h6
    · rw [msI_i, if_neg (by omega), msI_i, if_neg (by omega), msI_i, if_neg (by omega)]; exact h7
