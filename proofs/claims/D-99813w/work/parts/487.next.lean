/-! ===== round: the next order ===== -/
def pvS (o : List Nat) : Nat → Option Nat
  | 0 => none
  | i + 1 => if o.getD i 0 ≤ o.getD (i + 1) 0 then some i else pvS o i
def suS (o : List Nat) (p : Nat) : Nat → Nat
  | 0 => 0
  | i + 1 => if o.getD p 0 ≤ o.getD i 0 then i else suS o p i
def swL (o : List Nat) (i j : Nat) : List Nat := (o.set i (o.getD j 0)).set j (o.getD i 0)
def rvL (o : List Nat) (i j : Nat) : Nat → List Nat
  | 0 => o
  | f + 1 => if j ≤ i then o else rvL (swL o i j) (i + 1) (j - 1) f
def nxL (o : List Nat) : Option (List Nat) := match pvS o (o.length - 1) with
  | none => none
  | some p => some (rvL (swL o p (suS o p o.length)) (p + 1) (o.length - 1) 2)
theorem swL_len (o : List Nat) (i j : Nat) : (swL o i j).length = o.length := by unfold swL; rw [List.length_set, List.length_set]
theorem swL_get (o : List Nat) {i j k : Nat} (hi : i < o.length) (hj : j < o.length) : (swL o i j).getD k 0 = if k = j then o.getD i 0 else if k = i then o.getD j 0 else o.getD k 0 := by
  unfold swL
  rw [List.getD_eq_getElem?_getD, List.getElem?_set, List.length_set]
  by_cases q : k = j
  · rw [if_pos q.symm, if_pos hj, if_pos q]; rfl
  · rw [if_neg (fun w => q w.symm), if_neg q, List.getElem?_set]
    by_cases p : k = i
    · rw [if_pos p.symm, if_pos hi, if_pos p]; rfl
    · rw [if_neg (fun w => p w.symm), if_neg p, List.getD_eq_getElem?_getD]
/-- the order lies in the model's row -/
def arM (o : List Nat) (a : MM) : Prop := ∀ i : Nat, i < o.length → a.1 1060 i = iI ((o.getD i 0 : Nat) : Int)
def goF (a b : MM) : Prop := (∀ c j : Nat, c ≠ 1060 → b.1 c j = a.1 c j) ∧ b.2 = a.2
theorem goF.refl (a : MM) : goF a a := ⟨fun _ _ _ => rfl, rfl⟩
theorem goF.trans {a b c : MM} (h1 : goF a b) (h2 : goF b c) : goF a c := ⟨fun x y k => (h2.1 x y k).trans (h1.1 x y k), h2.2.trans h1.2⟩
theorem ar_sw {o : List Nat} {a : MM} (h : arM o a) {i j : Nat} (hi : i < o.length) (hj : j < o.length) : arM (swL o i j) (msI (msI a 1060 i (a.1 1060 j)) 1060 j (a.1 1060 i)) := by
  intro k hk
  rw [swL_len] at hk
  rw [swL_get o hi hj, msI_i, msI_i, h i hi, h j hj, h k hk]
  by_cases q : k = j
  · rw [if_pos ⟨rfl, q⟩, if_pos q]
  · rw [if_neg (fun w => q w.2), if_neg q]
    by_cases p : k = i
    · rw [if_pos ⟨rfl, p⟩, if_pos p]
    · rw [if_neg (fun w => p w.2), if_neg p]
theorem go_sw (a : MM) (i j : Nat) (x y : Int32) : goF a (msI (msI a 1060 i x) 1060 j y) := ⟨fun c k h => by rw [msI_i, if_neg (fun w => h w.1), msI_i, if_neg (fun w => h w.1)], rfl⟩
def o8 (o : List Nat) : Prop := ∀ i : Nat, o.getD i 0 < 8
theorem p_rev {o : List Nat} {a : MM} {i j : Nat} (ha : arM o a) (hl : o.length ≤ 4) (hj : j < o.length) (hij : (j : Int) - i ≤ 3) (hi4 : i ≤ 4) : pw (ml_X6_goesOn_100 (iI i) (iI j) a) (fun q => q.1 = 1 ∧ goF a q.2 ∧ arM (rvL o i j 2) q.2) := by
  unfold ml_X6_goesOn_100
  refine pw_for (fun s q => ∃ (i' j' : Nat) (o' : List Nat), q.1 = iI (i' : Int) ∧ q.2.1 = iI (j' : Int) ∧ goF a q.2.2 ∧ arM o' q.2.2 ∧ o'.length = o.length ∧ j' < o.length ∧ (j' : Int) - i' ≤ 3 - 2 * (s : Int) ∧ i' ≤ 4 + s ∧ rvL o' i' j' (2 - s) = rvL o i j 2) 2 ?_ ?_ ⟨i, j, o, rfl, rfl, goF.refl a, ha, rfl, hj, by omega, by omega, rfl⟩
  · rintro s ⟨y1, y2, b⟩ hs ⟨i', j', o', e1, e2, g, h1, h2, h3, h4, h5, h6⟩
    dsimp only at e1 e2 g h1 ⊢
    subst e1; subst e2
    unfold mb_X6_goesOn_100
    by_cases q : j' ≤ i'
    · refine pw_t (by rw [iI_le (by omega) (by omega)]; omega) (pw_some ⟨rfl, g, ?_⟩)
      rw [← h6, show 2 - s = (1 - s) + 1 by omega]
      show arM (if j' ≤ i' then o' else rvL (swL o' i' j') (i' + 1) (j' - 1) (1 - s)) b
      rw [if_pos q]; exact h1
    · have gi : gz_ix (iI (i' : Int)) = i' := by rw [gix (by omega)]; omega
      have gj : gz_ix (iI (j' : Int)) = j' := by rw [gix (by omega)]; omega
      have ii : gz_in (iI (i' : Int)) 4 := (gin_iI (by omega)).2 (by omega)
      have ij : gz_in (iI (j' : Int)) 4 := (gin_iI (by omega)).2 (by omega)
      rw [gi, gj]
      refine pw_f (by rw [iI_le (by omega) (by omega)]; omega) (pw_gu ii (pw_let (pw_gu ij (pw_gu ii (pw_let (pw_gu ij (pw_let (pw_let (pw_let (pw_some ⟨i' + 1, j' - 1, swL o' i' j', ?_, ?_, g.trans (go_sw b i' j' _ _), ar_sw h1 (by omega) (by omega), by rw [swL_len]; exact h2, by omega, by omega, by omega, ?_⟩))))))))))
      · show iI (i' : Int) + (1 : Int32) = _
        rw [iI_lit, iI_add]; rfl
      · show iI (j' : Int) + (-1 : Int32) = _
        rw [show (-1 : Int32) = iI (-1) by decide, iI_add]; congr 1; omega
      · rw [← h6, show 2 - s = (2 - (s + 1)) + 1 by omega]
        show _ = (if j' ≤ i' then o' else rvL (swL o' i' j') (i' + 1) (j' - 1) (2 - (s + 1)))
        rw [if_neg q]
  · rintro ⟨y1, y2, b⟩ ⟨i', j', o', e1, e2, g, h1, h2, h3, h4, h5, h6⟩
    dsimp only at e1 e2 g h1 ⊢
    subst e1; subst e2
    unfold mb_X6_goesOn_100
    refine pw_t (by rw [iI_le (by omega) (by omega)]; omega) (pw_some ⟨rfl, g, ?_⟩)
    rw [← h6]; exact h1
theorem p_goesOn {o : List Nat} {a : MM} (ha : arM o a) (hl : 1 ≤ o.length ∧ o.length ≤ 4) (h8 : o8 o) : pw (mf_goesOn (iI o.length) a) (fun q => goF a q.2 ∧ ((∃ o', nxL o = some o' ∧ q.1 = 1 ∧ arM o' q.2) ∨ (nxL o = none ∧ q.1 = 0 ∧ q.2 = a))) := by
  unfold mf_goesOn
  refine pw_let ?_
  rw [show (2 : Int32) = iI 2 from rfl, iI_sub]
  unfold ml_X6_goesOn_4
  -- what follows the pivot
  have found : ∀ p : Nat, p + 1 < o.length → pvS o (o.length - 1) = some p → pw (mj_X6_goesOn_31 (iI o.length) (iI p) a) (fun q => goF a q.2 ∧ ((∃ o', nxL o = some o' ∧ q.1 = 1 ∧ arM o' q.2) ∨ (nxL o = none ∧ q.1 = 0 ∧ q.2 = a))) := fun p hp ep => by
    have en : nxL o = some (rvL (swL o p (suS o p o.length)) (p + 1) (o.length - 1) 2) := by unfold nxL; rw [ep]
    have gp : gz_ix (iI (p : Int)) = p := by rw [gix (by omega)]; omega
    have ip : gz_in (iI (p : Int)) 4 := (gin_iI (by omega)).2 (by omega)
    unfold mj_X6_goesOn_31
    refine pw_t (by rw [show (0 : Int32) = iI 0 from rfl, iI_le (by omega) (by omega)]; omega) (pw_let ?_)
    rw [show (1 : Int32) = iI 1 from rfl, iI_sub]
    unfold ml_X6_goesOn_41
    have stop : ∀ (r : Nat) (b : MM) (P : (Int32 × Int32 × Int32 × MM) → Prop), b = a → p ≤ r → r < o.length → o.getD p 0 ≤ o.getD r 0 → suS o p o.length = r → pw (mb_X6_goesOn_41 (iI o.length) (iI p) (iI r) b) (Sum.elim P (fun q : Int32 × MM => goF a q.2 ∧ ((∃ o', nxL o = some o' ∧ q.1 = 1 ∧ arM o' q.2) ∨ (nxL o = none ∧ q.1 = 0 ∧ q.2 = a)))) := fun r b P eb h1 h2 h3 es => by
      subst eb
      have gr : gz_ix (iI (r : Int)) = r := by rw [gix (by omega)]; omega
      have ir : gz_in (iI (r : Int)) 4 := (gin_iI (by omega)).2 (by omega)
      have b1 := h8 p
      have b2 := h8 r
      unfold mb_X6_goesOn_41
      rw [gp, gr]
      refine pw_gu ir (pw_gu ip (pw_t (show b.1 1060 p ≤ b.1 1060 r by rw [ha p (by omega), ha r h2, iI_le (by omega) (by omega)]; omega) (pw_gu ip (pw_let (pw_gu ir (pw_gu ip (pw_let (pw_gu ir (pw_let (pw_let (pw_let (pw_map ?_)))))))))))) 
      rw [show (1 : Int32) = iI 1 from rfl, iI_add, iI_sub, show (o.length : Int) - 1 = ((o.length - 1 : Nat) : Int) by omega]
      refine pw_mono (p_rev (i := p + 1) (j := o.length - 1) (ar_sw ha (i := p) (j := r) (by omega) h2) (by rw [swL_len]; exact hl.2) (by rw [swL_len]; omega) (by omega) (by omega)) ?_
      rintro ⟨z, c⟩ ⟨c1, c2, c3⟩
      dsimp only at c1 c2 c3 ⊢
      refine ⟨(go_sw b p r _ _).trans c2, Or.inl ⟨_, en, c1, ?_⟩⟩
      rw [es]; exact c3
    refine pw_for (fun s q => q.1 = iI o.length ∧ q.2.1 = iI p ∧ q.2.2.1 = iI ((o.length - 1 - s : Nat) : Int) ∧ q.2.2.2 = a ∧ suS o p (o.length - s) = suS o p o.length) (o.length - 1 - p) ?_ ?_ ⟨rfl, rfl, by show iI _ = iI _; congr 1; omega, rfl, rfl⟩
    · rintro s ⟨y1, y2, y3, b⟩ hs ⟨e1, e2, e3, e4, e5⟩
      dsimp only at e1 e2 e3 e4 ⊢
      subst e1; subst e2; subst e3
      have es : suS o p (o.length - s) = (if o.getD p 0 ≤ o.getD (o.length - 1 - s) 0 then (o.length - 1 - s) else suS o p (o.length - 1 - s)) := by
        rw [show o.length - s = (o.length - 1 - s) + 1 by omega]; rfl
      by_cases q : o.getD p 0 ≤ o.getD (o.length - 1 - s) 0
      · rw [if_pos q] at es
        exact stop (o.length - 1 - s) b _ e4 (by omega) (by omega) q (by rw [← e5]; exact es)
      · rw [if_neg q] at es
        subst e4
        have gr : gz_ix (iI ((o.length - 1 - s : Nat) : Int)) = o.length - 1 - s := by rw [gix (by omega)]; omega
        have ir : gz_in (iI ((o.length - 1 - s : Nat) : Int)) 4 := (gin_iI (by omega)).2 (by omega)
        have b1 := h8 p
        have b2 := h8 (o.length - 1 - s)
        unfold mb_X6_goesOn_41
        rw [gp, gr]
        refine pw_gu ir (pw_gu ip (pw_f (show ¬ b.1 1060 p ≤ b.1 1060 (o.length - 1 - s) by rw [ha p (by omega), ha _ (by omega), iI_le (by omega) (by omega)]; omega) (pw_let (pw_some ⟨rfl, rfl, ?_, rfl, ?_⟩))))
        · show iI ((o.length - 1 - s : Nat) : Int) + (-1 : Int32) = _
          rw [show (-1 : Int32) = iI (-1) by decide, iI_add]; congr 1; omega
        · rw [show o.length - (s + 1) = o.length - 1 - s by omega, ← es]; exact e5
    · rintro ⟨y1, y2, y3, b⟩ ⟨e1, e2, e3, e4, e5⟩
      dsimp only at e1 e2 e3 e4 ⊢
      subst e1; subst e2; subst e3
      rw [show o.length - 1 - (o.length - 1 - p) = p by omega]
      refine stop p b _ e4 (Nat.le_refl _) (by omega) (Nat.le_refl _) ?_
      rw [← e5, show o.length - (o.length - 1 - p) = p + 1 by omega]
      exact if_pos (Nat.le_refl _)
  refine pw_for (fun s q => q.1 = iI o.length ∧ q.2.1 = iI ((o.length : Int) - 2 - s) ∧ q.2.2 = a ∧ pvS o (o.length - 1 - s) = pvS o (o.length - 1)) (o.length - 1) ?_ ?_ ⟨rfl, by show iI _ = iI _; congr 1; omega, rfl, rfl⟩
  · rintro s ⟨y1, y2, b⟩ hs ⟨e1, e2, e3, e4⟩
    dsimp only at e1 e2 e3 ⊢
    subst e1; subst e2; subst e3
    obtain ⟨r, hr⟩ : ∃ r : Nat, o.length - 1 - s = r + 1 := ⟨o.length - 2 - s, by omega⟩
    have er : (o.length : Int) - 2 - s = r := by omega
    rw [er]
    rw [hr] at e4
    have ep : pvS o (r + 1) = (if o.getD r 0 ≤ o.getD (r + 1) 0 then some r else pvS o r) := rfl
    have gr : gz_ix (iI (r : Int)) = r := by rw [gix (by omega)]; omega
    have jr : iI (r : Int) + (1 : Int32) = iI ((r + 1 : Nat) : Int) := by rw [iI_lit, iI_add]; rfl
    have gr1 : gz_ix (iI ((r + 1 : Nat) : Int)) = r + 1 := by rw [gix (by omega)]; omega
    have b1 := h8 r
    have b2 := h8 (r + 1)
    unfold mb_X6_goesOn_4
    rw [jr, gr, gr1]
    refine pw_f (by rw [show (0 : Int32) = iI 0 from rfl, iI_lt (by omega) (by omega)]; omega) (pw_gu ((gin_iI (by omega)).2 (by omega)) (pw_gu ((gin_iI (by omega)).2 (by omega)) ?_))
    by_cases q : o.getD r 0 ≤ o.getD (r + 1) 0
    · rw [if_pos q] at ep
      exact pw_t (show b.1 1060 r ≤ b.1 1060 (r + 1) by rw [ha r (by omega), ha (r + 1) (by omega), iI_le (by omega) (by omega)]; omega) (pw_map (pw_mono (found r (by omega) (by rw [← e4]; exact ep)) (fun z hz => hz)))
    · rw [if_neg q] at ep
      refine pw_f (show ¬ b.1 1060 r ≤ b.1 1060 (r + 1) by rw [ha r (by omega), ha (r + 1) (by omega), iI_le (by omega) (by omega)]; omega) (pw_let (pw_some ⟨rfl, ?_, rfl, ?_⟩))
      · show iI (r : Int) + (-1 : Int32) = _
        rw [show (-1 : Int32) = iI (-1) by decide, iI_add]; congr 1; omega
      · rw [show o.length - 1 - (s + 1) = r by omega, ← ep]; exact e4
  · rintro ⟨y1, y2, b⟩ ⟨e1, e2, e3, e4⟩
    dsimp only at e1 e2 e3 ⊢
    subst e1; subst e2; subst e3
    have en : nxL o = none := by
      unfold nxL
      rw [← e4, show o.length - 1 - (o.length - 1) = 0 by omega]; rfl
    unfold mb_X6_goesOn_4 mj_X6_goesOn_31
    refine pw_t (by rw [show (0 : Int32) = iI 0 from rfl, iI_lt (by omega) (by omega)]; omega) (pw_map (pw_f (by rw [show (0 : Int32) = iI 0 from rfl, iI_le (by omega) (by omega)]; omega) (pw_some ⟨goF.refl b, Or.inr ⟨en, rfl, rfl⟩⟩)))
/-! all orders in a row -/
def bsL (f : Nat → Bool) : Nat → List Nat
  | 0 => []
  | t + 1 => if f t = true then bsL f t ++ [t] else bsL f t
def chB : List (List Nat) → Bool
  | [] => false
  | [o] => (nxL o).isNone
  | o :: o' :: P => (match nxL o with | none => false | some q => q == o') && chB (o' :: P)
def ordB (n : Nat) : Bool := Nat.ble 5 (popN n) || n == 0 || (((lxP (popN n) n.testBit).headD [] == bsL n.testBit 8) && chB (lxP (popN n) n.testBit) && ((bsL n.testBit 8).length == popN n) && (lxP (popN n) n.testBit).all (fun o => o.length == popN n && o.all (fun t => n.testBit t && Nat.blt t 8)))
theorem ord_all : (List.range 256).all ordB = true := by decide +kernel
