/-! ===== round: orders, and the component ===== -/
def trS (w : MM) : List Nat → Option MM
  | [] => some w
  | t :: o => match viS t w with
    | none => none
    | some w' => trS w' o
def hrS (m : MM) (o : List Nat) : Option Int := match trS m o with
  | none => none
  | some w => some (mi w 1051 0 - mi m 1051 0)
def bsS (m : MM) (B : Option (Int × List Nat)) (o : List Nat) : Option (Int × List Nat) := match hrS m o with
  | none => B
  | some h => match B with
    | none => some (h, o)
    | some b => if h < b.1 then some (h, o) else some b
def ctN (g : Nat → List (List Nat)) : Nat → List (List Nat)
  | 0 => []
  | n + 1 => ctN g n ++ g n
def lxG (k : Nat) (rec : (Nat → Bool) → List (List Nat)) (f : Nat → Bool) (t : Nat) : List (List Nat) := if f t = true then (rec (fun u => f u && !(Nat.beq u t))).map (fun o => t :: o) else []
def lxP : Nat → (Nat → Bool) → List (List Nat)
  | 0, _ => [[]]
  | k + 1, f => ctN (lxG k (lxP k) f) 8
theorem ctN_ext {g h : Nat → List (List Nat)} : ∀ n : Nat, (∀ t : Nat, t < n → g t = h t) → ctN g n = ctN h n
  | 0, _ => rfl
  | n + 1, e => by
    show ctN g n ++ g n = ctN h n ++ h n
    rw [ctN_ext n (fun t ht => e t (by omega)), e n (by omega)]
theorem ctN_cut {g : Nat → List (List Nat)} {k : Nat} : ∀ n : Nat, k ≤ n → (∀ t : Nat, k ≤ t → t < n → g t = []) → ctN g n = ctN g k
  | 0, h, _ => by rw [show k = 0 by omega]
  | n + 1, h, e => by
    rcases Nat.lt_or_ge n k with q | q
    · rw [show k = n + 1 by omega]
    · show ctN g n ++ g n = _
      rw [e n q (by omega), List.append_nil]
      exact ctN_cut n q (fun t h1 h2 => e t h1 (by omega))
/-- only what is below eight matters -/
theorem lxP_ext : ∀ (k : Nat) {f g : Nat → Bool}, (∀ t : Nat, t < 8 → f t = g t) → lxP k f = lxP k g
  | 0, _, _, _ => rfl
  | k + 1, f, g, e => by
    refine ctN_ext 8 (fun t ht => ?_)
    unfold lxG
    rw [e t ht, lxP_ext k (fun u hu => by rw [e u hu])]
def ordOK (m : MM) (o : List Nat) : Prop := ∀ t ∈ o, (t : Int) < mi m 1038 7
theorem trS_ok {m : MM} (hm : rMany m) (hw : wyR m) : ∀ (o : List Nat) {w w' : MM}, wlO m w → ordOK m o → trS w o = some w' → wlO m w'
  | [], w, w', h, _, e => by
    injection e with e
    rw [← e]; exact h
  | t :: o, w, w', h, ho, e => by
    unfold trS at e
    split at e
    · cases e
    · rename_i w1 q
      exact trS_ok hm hw o (viS_ok hm hw h (ho t List.mem_cons_self) q) (fun u hu => ho u (List.mem_cons_of_mem _ hu)) e
theorem wtS_hour {m : MM} (hm : rMany m) {t : Nat} : ∀ (n : Nat) {w w' : MM}, wlO m w → wtS t n w = some w' → mi w 1051 0 ≤ mi w' 1051 0 := by
  have out : ∀ w : MM, mi (outM w t) 1051 0 = mi w 1051 0 := fun w => by
    unfold outM
    split
    · exact poM_lo w _ t (by omega) _
    · rfl
  intro n
  induction n with
  | zero =>
    intro w w' _ e
    unfold wtS at e
    split at e
    · cases e
    · injection e with e
      rw [← e, out]; exact Int.le_refl _
  | succ n ih =>
    intro w w' h e
    unfold wtS at e
    split at e
    · split at e
      · cases e
      · rename_i q
        have := ih (hour_wlO hm h q) e
        rw [hourM_0 h.2.1] at this
        omega
    · injection e with e
      rw [← e, out]; exact Int.le_refl _
theorem viS_hour {m : MM} (hm : rMany m) (hw : wyR m) {t : Nat} {w w' : MM} (h : wlO m w) (ht : (t : Int) < mi m 1038 7) (e : viS t w = some w') : mi w 1051 0 ≤ mi w' 1051 0 := by
  have hl := (h.2.1.2.2.2 t (by rw [h.1.at (by omega)]; exact ht)).1
  have b0 := h.2.1.1
  have wy : -1 ≤ wyM w t ∧ wyM w t ≤ 900 := by
    unfold wyM hlM
    rw [h.1.at (by omega)]
    exact hw _ _ (by have := h.2.2.2; omega) (by omega)
  unfold viS at e
  split at e
  · split at e
    · cases e
    · split at e
      · have := wtS_hour hm 20 (at_wlO hm h ht (by omega)) e
        rw [atM_o _ _ (by omega), (hoursS_ok h.2.1 (h.1.many hm) _ (by omega)).2] at this
        omega
      · cases e
  · injection e with e
    rw [← e]; exact Int.le_refl _
theorem trS_hour {m : MM} (hm : rMany m) (hw : wyR m) : ∀ (o : List Nat) {w w' : MM}, wlO m w → ordOK m o → trS w o = some w' → mi w 1051 0 ≤ mi w' 1051 0
  | [], w, w', h, _, e => by
    injection e with e
    rw [← e]; exact Int.le_refl _
  | t :: o, w, w', h, ho, e => by
    unfold trS at e
    split at e
    · cases e
    · rename_i w1 q
      have h1 := viS_hour hm hw h (ho t List.mem_cons_self) q
      have h2 := trS_hour hm hw o (viS_ok hm hw h (ho t List.mem_cons_self) q) (fun u hu => ho u (List.mem_cons_of_mem _ hu)) e
      omega
section Orders
variable {m : MM} {μ : gM} {l : List (Int × Int × Int)}
def bC (B : Option (Int × List Nat)) : Int := match B with
  | none => 100000000
  | some b => b.1
/-- what was found so far -/
def tSt (l : List (Int × Int × Int)) (m : MM) (μ : gM) (K : Nat) (B : Option (Int × List Nat)) (ν : gM) : Prop := rcW l m μ ν ∧ rowOK ν 1073 ∧ gI ν 1000 14 = iI (bC B) ∧ (0 ≤ bC B ∧ bC B ≤ 100000000) ∧ ∀ b, B = some b → b.1 ≤ 999 ∧ ∀ i : Nat, i < K → gI ν 1120 i = iI ((b.2.getD i 0 : Nat) : Int)
theorem c_try {K : Nat} {B : Option (Int × List Nat)} {ν : gM} {o : List Nat} (hwy : wyR m) (h : tSt l m μ K B ν) (hK : K ≤ 4) (hl : o.length = K) (ho : ordOK m o) (ha : ∀ i : Nat, i < K → gI ν 1119 i = iI ((o.getD i 0 : Nat) : Int)) : pw (cf_X0_tries (iI K) ν) (fun q => tSt l m μ K (bsS m B o) q.2 ∧ ∀ i : Nat, gI q.2 1119 i = gI ν 1119 i) := by
  obtain ⟨hW, hr, h14, hB, hb⟩ := h
  obtain ⟨hC, hWy, hsc⟩ := id hW
  have hM := hC.2.1.1
  have hN : rCo l m ν := hC.sc (mSc.refl hC.2.2.2.2.1) hsc hr
  obtain ⟨h1, h2, h3, h4, h5, h6, h7, h8, h9, h10, h11, h12, h13⟩ := id hN
  have b7 := hM.2.1
  unfold cf_X0_tries
  refine pw_bind (pw_mono (pw_and (c_tries hN) (c_copy (x := 1073) (y := 1027) (by decide) (by decide) (by decide) h9 h8)) ?_)
  rintro ⟨r, μ1⟩ ⟨⟨e, t2, t3, t4⟩, ⟨-, y1, -⟩⟩
  dsimp only at e t2 t3 t4 y1 ⊢
  subst e
  refine pw_gu (by decide) ?_
  have f1 : rcF ν μ1 := rcF.y y1
  have w0 : wlO m m := ⟨hhE.refl m, h5, h10, h11⟩
  unfold ml_X0_tries_14
  refine pw_for (fun i q => q.1 = iI K ∧ q.2.1 = iI (i : Int) ∧ rcF ν q.2.2 ∧ ∃ (w : MM) (l1 : List (Int × Int × Int)), wlO m w ∧ rSt w q.2.2 1073 ∧ kC l1 q.2.2 1073 ∧ trS w (o.drop i) = trS m o) K ?_ ?_ ⟨rfl, rfl, f1, m, l, w0, t3, t4, rfl⟩
  · rintro i ⟨z1, z2, ξ⟩ hi ⟨e1, e2, f2, w, l1, hw, hS, hk, et⟩
    dsimp only at e1 e2 f2 hS hk ⊢
    subst e1; subst e2
    have gi : gz_ix (iI (i : Int)) = i := by rw [gix (by omega)]; omega
    have hio : i < o.length := by omega
    have hd : o.drop i = o.getD i 0 :: o.drop (i + 1) := by
      rw [List.getD_eq_getElem?_getD, List.getElem?_eq_getElem hio, Option.getD_some]
      exact List.drop_eq_getElem_cons hio
    have hm : o.getD i 0 ∈ o := by
      rw [List.getD_eq_getElem?_getD, List.getElem?_eq_getElem hio, Option.getD_some]
      exact List.getElem_mem hio
    have tlt := ho _ hm
    unfold mb_X0_tries_14
    rw [gi, f2.2.2.2.2.1 1119 i (by omega), ha i hi]
    refine pw_f (by rw [iI_le (by omega) (by omega)]; omega) (pw_gu ((gin_iI (by omega)).2 (by omega)) ?_)
    refine pw_bind (pw_mono (c_reaches (hW.mv f2) hw hS hk tlt) ?_)
    rintro ⟨r, ζ⟩ ⟨g1, g2, g3⟩
    dsimp only at g1 g2 g3 ⊢
    rw [hd] at et
    rcases g3 with ⟨w', l', ev, er, gS, gk⟩ | ⟨ev, er⟩
    · subst er
      refine pw_f n10 (pw_let (pw_some ⟨rfl, ?_, f2.trans g1, w', l', viS_ok hM hwy hw tlt ev, gS, gk, ?_⟩))
      · show iI (i : Int) + (1 : Int32) = _
        rw [iI_lit, iI_add]; rfl
      · rw [← et]
        show _ = (match viS (o.getD i 0) w with | none => none | some w' => trS w' (o.drop (i + 1)))
        rw [ev]
    · subst er
      have en : hrS m o = none := by
        unfold hrS
        rw [← et]
        show (match (match viS (o.getD i 0) w with | none => none | some w' => trS w' (o.drop (i + 1))) with | none => none | some w => some (mi w 1051 0 - mi m 1051 0)) = none
        rw [ev]
      have eB : bsS m B o = B := by unfold bsS; rw [en]
      rw [eB]
      have fz := f2.trans g1
      exact pw_t rfl (pw_some ⟨⟨hW.mv fz, g2, by rw [fz.2.2.2.2.1 _ _ (by omega)]; exact h14, hB, fun b e => ⟨(hb b e).1, fun j hj => by rw [fz.2.2.2.2.1 _ _ (by omega)]; exact (hb b e).2 j hj⟩⟩, fun j => fz.2.2.2.2.1 _ _ (by omega)⟩)
  · rintro ⟨z1, z2, ξ⟩ ⟨e1, e2, f2, w, l1, hw, hS, hk, et⟩
    dsimp only at e1 e2 f2 hS hk ⊢
    subst e1; subst e2
    rw [show o.drop K = [] by rw [← hl]; exact List.drop_length, show trS w [] = some w from rfl] at et
    have en : hrS m o = some (mi w 1051 0 - mi m 1051 0) := by unfold hrS; rw [← et]
    have w0b := hw.2.1.1
    have m0b := h5.1
    have hle := hw.2.2.1
    -- time goes on only
    have d14 : gI ξ 1000 14 = iI (bC B) := by rw [f2.2.2.2.2.1 _ _ (by omega)]; exact h14
    have d27 : gI ξ 1027 0 = iI (mi m 1051 0) := by rw [f2.2.2.2.2.1 _ _ (by omega), h6.1]; exact mi_of _ _ _
    unfold mb_X0_tries_14
    rw [hS.1, mi_of w, d27, d14, iI_sub]
    refine pw_t (by rw [iI_le (by omega) (by omega)]; omega) ?_
    have eB : bsS m B o = (match B with | none => some (mi w 1051 0 - mi m 1051 0, o) | some b => if mi w 1051 0 - mi m 1051 0 < b.1 then some (mi w 1051 0 - mi m 1051 0, o) else some b) := by
      unfold bsS
      rw [en]
      cases B <;> rfl
    refine pw_if (fun q => ?_) (fun q => ?_)
    · rw [iI_lt (by omega) (by omega)] at q
      have eB2 : bsS m B o = some (mi w 1051 0 - mi m 1051 0, o) := by
        rw [eB]
        cases B with
        | none => rfl
        | some b => exact if_pos q
      rw [eB2]
      refine pw_let (pw_map ?_)
      unfold ml_X0_tries_83
      have I3 : ∀ c j : Nat, ¬ (c = 1000 ∧ j = 14) → gI (gz_sI ξ 1000 14 (iI (mi w 1051 0 - mi m 1051 0))) c j = gI ξ c j := fun c j k => by rw [sI_i, if_neg k]
      have c3 : cSc ν (gz_sI ξ 1000 14 (iI (mi w 1051 0 - mi m 1051 0))) := f2.sc.trans ⟨rfl, rfl, rfl, fun c j k => I3 c j (by unfold scC at k; omega), fun _ _ _ _ => rfl, fun _ _ _ => rfl⟩
      have k3 : kC l1 (gz_sI ξ 1000 14 (iI (mi w 1051 0 - mi m 1051 0))) 1073 := hk.sI (by omega)
      have v3 : gI (gz_sI ξ 1000 14 (iI (mi w 1051 0 - mi m 1051 0))) 1000 14 = iI (mi w 1051 0 - mi m 1051 0) := by rw [sI_i, if_pos ⟨rfl, rfl⟩]
      generalize gz_sI ξ 1000 14 (iI (mi w 1051 0 - mi m 1051 0)) = m3 at I3 c3 k3 v3 ⊢
      have o3 : ∀ i : Nat, gI m3 1119 i = gI ν 1119 i := fun i => by rw [I3 _ _ (by omega)]; exact f2.2.2.2.2.1 _ _ (by omega)
      refine pw_for (fun i q => q.1 = iI K ∧ q.2.1 = iI (i : Int) ∧ cSc m3 q.2.2 ∧ (∀ c j : Nat, c ≠ 1120 → gI q.2.2 c j = gI m3 c j) ∧ q.2.2.2.2.2 = m3.2.2.2 ∧ ∀ j : Nat, j < i → gI q.2.2 1120 j = gI m3 1119 j) K ?_ ?_ ⟨rfl, rfl, cSc.refl m3, fun _ _ _ => rfl, rfl, fun j hj => absurd hj (Nat.not_lt_zero _)⟩
      · rintro i ⟨z1, z2, ζ⟩ hi ⟨e1, e2, c4, i4, p4, v4⟩
        dsimp only at e1 e2 c4 i4 p4 v4 ⊢
        subst e1; subst e2
        have gi : gz_ix (iI (i : Int)) = i := by rw [gix (by omega)]; omega
        have ii : gz_in (iI (i : Int)) 4 := (gin_iI (by omega)).2 (by omega)
        unfold mb_X0_tries_83
        rw [gi]
        refine pw_f (by rw [iI_le (by omega) (by omega)]; omega) (pw_gu ii (pw_gu ii (pw_let (pw_let (pw_some ⟨rfl, ?_, c4.trans ⟨rfl, rfl, rfl, fun c j k => ?_, fun _ _ _ _ => rfl, fun _ _ _ => rfl⟩, fun c j k => ?_, p4, fun j hj => ?_⟩)))))
        · show iI (i : Int) + (1 : Int32) = _
          rw [iI_lit, iI_add]; rfl
        · rw [sI_i, if_neg (by unfold scC at k; omega)]
        · show gI (gz_sI ζ 1120 i (gI ζ 1119 i)) c j = _
          rw [sI_i, if_neg (fun q => k q.1)]; exact i4 c j k
        · show gI (gz_sI ζ 1120 i (gI ζ 1119 i)) 1120 j = _
          rw [sI_i]
          by_cases z : j = i
          · rw [if_pos ⟨rfl, z⟩, z]; exact i4 _ _ (by omega)
          · rw [if_neg (fun w => z w.2)]; exact v4 j (by omega)
      · rintro ⟨z1, z2, ζ⟩ ⟨e1, e2, c4, i4, p4, v4⟩
        dsimp only at e1 e2 c4 i4 p4 v4 ⊢
        subst e1; subst e2
        unfold mb_X0_tries_83
        have k4 : kC l1 ζ 1073 := k3.sc (i4 _ _ (by omega)) (fun j => congrFun (congrFun (congrArg (fun z => z.2.1) p4) _) j) (fun c j q1 q2 => i4 c j (by omega))
        refine pw_t (by rw [iI_le (by omega) (by omega)]; omega) (pw_some ⟨⟨⟨hC, hWy, hsc.trans (c3.trans c4)⟩, k4.2.2.1, ?_, ?_, fun b e => ?_⟩, fun i => ?_⟩)
        · show gI ζ 1000 14 = iI (mi w 1051 0 - mi m 1051 0)
          rw [i4 _ _ (by omega)]; exact v3
        · show 0 ≤ mi w 1051 0 - mi m 1051 0 ∧ mi w 1051 0 - mi m 1051 0 ≤ 100000000
          have := trS_hour hM hwy o w0 ho et.symm
          omega
        · injection e with e
          rw [← e]
          refine ⟨by show mi w 1051 0 - mi m 1051 0 ≤ 999; omega, fun i hi => ?_⟩
          show gI ζ 1120 i = _
          rw [v4 i hi, o3 i]
          exact ha i hi
        · show gI ζ 1119 i = _
          rw [i4 _ _ (by omega)]; exact o3 i
    · rw [iI_lt (by omega) (by omega)] at q
      have eB2 : bsS m B o = B := by
        rw [eB]
        cases B with
        | none => exact absurd (show mi w 1051 0 - mi m 1051 0 < 100000000 by omega) q
        | some b => exact if_neg q
      rw [eB2]
      exact pw_some ⟨⟨hW.mv f2, hk.2.2.1, d14, hB, fun b e => ⟨(hb b e).1, fun j hj => by rw [f2.2.2.2.2.1 _ _ (by omega)]; exact (hb b e).2 j hj⟩⟩, fun j => f2.2.2.2.2.1 _ _ (by omega)⟩
theorem bt_less (s : Int32) {t u : Nat} (ht : t < 8) (hu : u < 8) : bt (s &&& (((1 : Int32) <<< (iI t &&& 31)) ^^^ (-1 : Int32))) u = (bt s u && !(Nat.beq u t)) := by
  rw [b_and, b_xor, bt_1t (by omega) (by omega), b_m1 u (by omega)]
  by_cases q : u = t
  · subst q
    rw [decide_eq_true rfl, Nat.beq_refl]; rfl
  · rw [decide_eq_false q]
    have : Nat.beq u t = false := by
      cases e : Nat.beq u t with
      | false => rfl
      | true => exact absurd (Nat.eq_of_beq_eq_true e) q
    rw [this]; rfl
theorem c_ceo (hwy : wyR m) (hM : rMany m) {K : Nat} (hK : K ≤ 4) : ∀ (k d : Nat), k < d → ∀ (j : Nat) (pre : List Nat) (s : Int32) (f : Nat → Bool) (ν : gM) (B : Option (Int × List Nat)), j + k = K → pre.length = j → (∀ i : Nat, i < j → gI ν 1119 i = iI ((pre.getD i 0 : Nat) : Int)) → (∀ t : Nat, t < 8 → bt s t = f t) → (∀ t : Nat, t < 8 → f t = true → (t : Int) < mi m 1038 7) → ordOK m pre → tSt l m μ K B ν → pw (ceo d s (iI j) (iI K) ν) (fun q => tSt l m μ K ((lxP k f).foldl (fun B o => bsS m B (pre ++ o)) B) q.2 ∧ ∀ i : Nat, i < j → gI q.2 1119 i = gI ν 1119 i) := by
  intro k
  induction k with
  | zero =>
    intro d hd j pre s f ν B hj hp ha hs hf ho hS
    obtain ⟨d, rfl⟩ : ∃ e : Nat, d = e + 1 := ⟨d - 1, by omega⟩
    have hj : j = K := by omega
    subst hj
    show pw (cf_X0_orders (ceo d) s (iI j) (iI j) ν) _
    unfold cf_X0_orders
    refine pw_t rfl (pw_bind (pw_mono (c_try hwy hS hK hp ho ha) ?_))
    rintro ⟨⟨⟩, ξ⟩ ⟨g1, g2⟩
    refine pw_some ⟨?_, fun i _ => g2 i⟩
    show tSt l m μ j (bsS m B (pre ++ [])) ξ
    rw [List.append_nil]; exact g1
  | succ k ih =>
    intro d hd j pre s f ν B hj hp ha hs hf ho hS
    obtain ⟨d, rfl⟩ : ∃ e : Nat, d = e + 1 := ⟨d - 1, by omega⟩
    have hb := hM.2.1
    show pw (cf_X0_orders (ceo d) s (iI j) (iI K) ν) _
    unfold cf_X0_orders
    refine pw_f (by rw [iI_eq (by omega) (by omega)]; omega) ?_
    have ecut : lxP (k + 1) f = ctN (lxG k (lxP k) f) (things m) := by
      show ctN (lxG k (lxP k) f) 8 = _
      refine ctN_cut 8 (by unfold things; omega) (fun t h1 h2 => ?_)
      unfold lxG
      rw [if_neg (fun q => by have := hf t h2 q; unfold things at h1; omega)]
    rw [ecut]
    unfold ml_X0_orders_14
    refine pw_for (fun i q => q.1 = s ∧ q.2.1 = iI j ∧ q.2.2.1 = iI K ∧ q.2.2.2.1 = iI (i : Int) ∧ tSt l m μ K ((ctN (lxG k (lxP k) f) i).foldl (fun B o => bsS m B (pre ++ o)) B) q.2.2.2.2 ∧ ∀ i : Nat, i < j → gI q.2.2.2.2 1119 i = gI ν 1119 i) (things m) ?_ ?_ ⟨rfl, rfl, rfl, rfl, by exact hS, fun _ _ => rfl⟩
    · rintro t ⟨y1, y2, y3, y4, ξ⟩ hi ⟨e1, e2, e3, e4, a1, a2⟩
      dsimp only at e1 e2 e3 e4 a1 a2 ⊢
      subst e1; subst e2; subst e3; subst e4
      have ht7 : (t : Int) < mi m 1038 7 := by unfold things at hi; omega
      have hH : rHH m ξ := a1.1.hh (hhE.refl m)
      have jj : iI (t : Int) + (1 : Int32) = iI ((t + 1 : Nat) : Int) := by rw [iI_lit, iI_add]; rfl
      unfold mb_X0_orders_14
      rw [c_things hH]
      refine pw_bind (pw_some (pw_f (by rw [iI_le (by omega) (by omega)]; omega) ?_))
      try dsimp only
      rw [c_has ξ _ (by omega), hs t (by omega)]
      refine pw_bind (pw_some ?_)
      try dsimp only
      unfold mj_X0_orders_59
      by_cases q : f t = true
      · rw [if_pos q]
        refine pw_f n10 (pw_gu ((gin_iI (by omega)).2 (by omega)) (pw_let ?_))
        have gj : gz_ix (iI (j : Int)) = j := by rw [gix (by omega)]; omega
        rw [gj, show iI (j : Int) + (1 : Int32) = iI ((j + 1 : Nat) : Int) by rw [iI_lit, iI_add]; rfl]
        have I2 : ∀ c i : Nat, ¬ (c = 1119 ∧ i = j) → gI (gz_sI ξ 1119 j (iI t)) c i = gI ξ c i := fun c i k => by rw [sI_i, if_neg k]
        have S2 : tSt l m μ K ((ctN (lxG k (lxP k) f) t).foldl (fun B o => bsS m B (pre ++ o)) B) (gz_sI ξ 1119 j (iI t)) := by
          obtain ⟨⟨b1, b2, b3⟩, b4, b5, b6, b7⟩ := a1
          refine ⟨⟨b1, b2, b3.trans ⟨rfl, rfl, rfl, fun c i k => I2 c i (by unfold scC at k; omega), fun _ _ _ _ => rfl, fun _ _ _ => rfl⟩⟩, b4, by rw [I2 _ _ (by omega)]; exact b5, b6, fun b e => ⟨(b7 b e).1, fun i hi => by rw [I2 _ _ (by omega)]; exact (b7 b e).2 i hi⟩⟩
        have V2 : gI (gz_sI ξ 1119 j (iI t)) 1119 j = iI (t : Int) := by rw [sI_i, if_pos ⟨rfl, rfl⟩]
        generalize gz_sI ξ 1119 j (iI t) = ξ2 at I2 S2 V2 ⊢
        refine pw_bind (pw_mono (ih d (by omega) (j + 1) (pre ++ [t]) _ (fun u => f u && !(Nat.beq u t)) ξ2 _ (by omega) (by rw [List.length_append, hp]; rfl) (fun i hi => ?_) (fun u hu => by rw [bt_less _ (by omega) hu, hs u hu]) (fun u hu w => hf u hu (by rw [Bool.and_eq_true] at w; exact w.1)) (fun u hu => ?_) S2) ?_)
        · by_cases z : i = j
          · subst z
            rw [V2, List.getD_eq_getElem?_getD, List.getElem?_append_right (by omega), hp, Nat.sub_self]
            rfl
          · rw [I2 _ _ (by omega), a2 i (by omega), ha i (by omega), List.getD_eq_getElem?_getD, List.getD_eq_getElem?_getD, List.getElem?_append_left (by omega)]
        · rcases List.mem_append.mp hu with w | w
          · exact ho u w
          · rw [List.mem_singleton.mp w]; exact ht7
        · rintro ⟨⟨⟩, ζ⟩ ⟨g1, g2⟩
          dsimp only at g1 g2 ⊢
          refine pw_let (pw_some ⟨rfl, rfl, rfl, jj, ?_, fun i hi => by rw [g2 i (by omega), I2 _ _ (by omega)]; exact a2 i hi⟩)
          have eg : lxG k (lxP k) f t = (lxP k (fun u => f u && !(Nat.beq u t))).map (fun o => t :: o) := by unfold lxG; rw [if_pos q]
          show tSt l m μ K ((ctN (lxG k (lxP k) f) t ++ lxG k (lxP k) f t).foldl (fun B o => bsS m B (pre ++ o)) B) ζ
          rw [List.foldl_append, eg, List.foldl_map]
          simp only [List.append_assoc, List.singleton_append] at g1
          exact g1
      · rw [if_neg q]
        refine pw_t rfl (pw_let (pw_some ⟨rfl, rfl, rfl, jj, ?_, a2⟩))
        show tSt l m μ K ((ctN (lxG k (lxP k) f) t ++ lxG k (lxP k) f t).foldl (fun B o => bsS m B (pre ++ o)) B) ξ
        rw [show lxG k (lxP k) f t = [] by unfold lxG; rw [if_neg q], List.append_nil]
        exact a1
    · rintro ⟨y1, y2, y3, y4, ξ⟩ ⟨e1, e2, e3, e4, a1, a2⟩
      dsimp only at e1 e2 e3 e4 a1 a2 ⊢
      subst e1; subst e2; subst e3; subst e4
      have hH : rHH m ξ := a1.1.hh (hhE.refl m)
      unfold mb_X0_orders_14
      rw [c_things hH]
      exact pw_bind (pw_some (pw_t (by unfold things; rw [iI_le (by omega) (by omega)]; omega) (pw_some ⟨a1, a2⟩)))
end Orders
