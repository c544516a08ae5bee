/-! ===== the component's sums, told: what the codes tell ===== -/
theorem c_charAt {μ : gM} {b n : Nat} {g : Nat → Int} (h : sbR μ b n g) (hn : n < 2147483648) {i : Nat} (hi : i < n) : cf_J15_charAt b (iI i) μ = some (iI (sgn (g i)), μ) := by
  obtain ⟨a1, a2, a3, a4, a5, a6, a7, a8, a9, a10, a11⟩ := h
  have e : gI μ (gP μ b 0) i = iI (sgn (g i)) := a11 i hi
  have hmin : cf_J8_min (iI n) (nI (gN μ (gP μ b 0)) >>> (iI 0 &&& 31)) μ = some (iI n, μ) := by
    have e1 : nI (gN μ (gP μ b 0)) >>> (iI 0 &&& 31) = iI (gN μ (gP μ b 0) : Nat) := by
      rw [iI_nI]
      show nI (gN μ (gP μ b 0)) >>> ((0 : Int32) &&& 31) = _
      rw [show ((0 : Int32) &&& 31) = 0 by decide, Int32.shiftRight_zero]
    unfold cf_J8_min
    rw [e1, if_neg (by rw [iI_lt (by omega) (by omega)]; omega)]
  have hs : sgn (g i) = 43 ∨ sgn (g i) = 45 ∨ sgn (g i) = 42 ∨ sgn (g i) = 47 := by
    unfold sgn
    repeat' split
    all_goals omega
  have hch : ((((iI (sgn (g i))) &&& (255 : Int32)).toUInt32 % 65536).toInt32) = iI (sgn (g i)) ∧ (iI (sgn (g i))).toUInt32.toUInt16.toUInt32.toInt32 = iI (sgn (g i)) := by
    rcases hs with q | q | q | q <;> rw [q] <;> decide
  unfold cf_J15_charAt cf_J14_charAt cf_J9_checkIndex cf_J7_checkIndex
  rw [if_pos a3]
  simp only [gz_let, if_pos a3, if_pos a6, if_pos a8, a4, a5, hmin, Option.bind_some]
  rw [if_neg (by rw [iI_lit, iI_lt (by omega) (by omega)]; omega), if_pos (by rw [iI_lt (by omega) (by omega)]; omega)]
  simp only [Option.bind_some]
  have hix : gz_ix (iI (i : Int)) = i := by rw [gix (by omega)]; omega
  rw [if_pos (by rw [iI_lit]), if_pos a8, if_pos (by rw [gin_iI (by omega)]; omega), hix, e, hch.1, if_pos hch.2]
  simp only [Option.bind_some]
  rw [if_pos hch.2]
def moOK (μ : gM) (mo : Nat) : Prop := gK μ mo = 5 ∧ gP μ mo 0 ≠ 0 ∧ gK μ (gP μ mo 0) = 105 ∧ gN μ (gP μ mo 0) = 7
theorem qop_1 (a b : Int) : qop 1 a b = clp (a + b) := by unfold qop; rw [if_pos (by omega)]
theorem qop_2 (a b : Int) : qop 2 a b = clp (a - b) := by unfold qop; rw [if_neg (by omega), if_pos (by omega)]
theorem qop_3 (a b : Int) : qop 3 a b = clp (a * b) := by unfold qop; rw [if_neg (by omega), if_neg (by omega), if_pos (by omega)]
theorem qop_4 (a b : Int) : qop 4 a b = fdv a b := by unfold qop; rw [if_neg (by omega), if_neg (by omega), if_neg (by omega), if_pos (by omega)]
theorem c_two {g a b : Int} (μ : gM) (hg : 1 ≤ g ∧ g ≤ 4) (ha : -1000000 ≤ a ∧ a ≤ 1000000) (hb : -1000000 ≤ b ∧ b ≤ 1000000) : ∃ z, (-9223372036854775808 ≤ z ∧ z < 9223372036854775808) ∧ cf_X12_two (iI (sgn g)) (lL a) (lL b) μ = some (lL z, μ) ∧ clp z = qop g a b := by
  have hab : -1000000000000 ≤ a * b ∧ a * b ≤ 1000000000000 := by
    have h3 : (a * b).natAbs ≤ 1000000000000 := by rw [Int.natAbs_mul]; exact Nat.le_trans (Nat.mul_le_mul (show a.natAbs ≤ 1000000 by omega) (show b.natAbs ≤ 1000000 by omega)) (Nat.le_of_ble_eq_true rfl)
    omega
  have hgg : g = 1 ∨ g = 2 ∨ g = 3 ∨ g = 4 := by omega
  unfold cf_X12_two mj_X12_two_44
  rcases hgg with e | e | e | e <;> subst e
  · refine ⟨a + b, by omega, ?_, (qop_1 a b).symm⟩
    rw [if_neg (by decide), if_pos (by decide), lL_add]
  · refine ⟨a - b, by omega, ?_, (qop_2 a b).symm⟩
    rw [if_neg (by decide), if_neg (by decide), if_neg (by decide), if_pos (by decide), lL_sub]
  · refine ⟨a * b, by omega, ?_, (qop_3 a b).symm⟩
    rw [if_pos (by decide), lL_mul]
  · have hf := fdv_b (b := b) ha
    refine ⟨fdv a b, by omega, ?_, ?_⟩
    · rw [if_neg (by decide), if_neg (by decide), if_neg (by decide), if_neg (by decide)]
      by_cases h0 : b = 0
      · subst h0
        rw [if_pos (by rw [lL_lit])]
        rfl
      · rw [if_neg (by rw [lL_lit, lL_eq (by omega) (by omega)]; exact h0), c_floorDiv μ ha hb h0]
        rfl
    · rw [clp_id hf, qop_4]
theorem vRep_k {al : Int → Prop} {lo : Bool} {d : Nat} {μ : gM} {r : Nat} {cs : List Int} (h : vRep al lo d μ r cs) : gK μ r = 13 ∨ gK μ r = 14 ∨ gK μ r = 12 ∨ gK μ r = 11 ∨ gK μ r = 15 := by
  cases d with
  | zero => exact h.elim
  | succ d =>
    obtain ⟨_, _, h⟩ := h
    rcases h with ⟨k, _⟩ | ⟨k, _⟩ | ⟨k, _⟩ | ⟨k, _⟩ | ⟨k, _⟩ <;> simp [k]
/-- sums in memory tell what their codes tell -/
theorem c_at {al : Int → Prop} {lo : Bool} {μ : gM} {mo : Nat} {env : Int → Int} {lk : Int → Int → Int} (hmo : moOK μ mo) (henv : ∀ w : Int, 0 ≤ w → w ≤ 6 → al w → clp (cl μ (gP μ mo 0) w.toNat) = clp (env (prt w)))
    (hlk : lo = true → ∀ k a : Int, (k = 0 ∨ k = 1) → (-1000000 ≤ a ∧ a ≤ 1000000) → (-9223372036854775808 ≤ lk k a ∧ lk k a < 9223372036854775808) ∧ cf_X0_looked (iI k) (lL a) μ = some (lL (lk k a), μ)) :
    ∀ (d : Nat) {r : Nat} {cs : List Int}, vRep al lo d μ r cs → ∃ v : Int, (-1000000 ≤ v ∧ v ≤ 1000000) ∧ (cev d).1 r mo μ = some (lL v, μ) ∧ ∀ st, qR env lk cs st = v :: st
  | 0, _, _, h => h.elim
  | d + 1, r, cs, ⟨r0, rk, h⟩ => by
    have ih := @c_at al lo μ mo env lk hmo henv hlk d
    simp only [cev]
    have kne : ∀ x y : Nat, gK μ r = y → y ≠ x → ¬ μ.1 r = x := fun x y h1 h2 q => h2 (h1.symm.trans q)
    rcases h with ⟨k, v, hv, e1, e⟩ | ⟨k, w, hw, hal, e1, e⟩ | ⟨k, c1, c2, kk, hk, e1, h1, h2, e⟩ | ⟨k, hlo, c1, kk, hk, e1, e2, h1, e⟩ | ⟨k, n, f, g, hn, hl, hf, hsb, hg, e⟩
    · subst e
      refine ⟨v, by omega, ?_, fun st => ?_⟩
      · rw [if_pos k]
        unfold cf_X14_at
        rw [if_pos k, e1]
      · show qS env lk (1000 + v) st = _
        unfold qS
        rw [if_pos (by omega)]
        congr 1
        omega
    · subst e
      have hp : 0 ≤ prt w ∧ prt w ≤ 6 := by
        unfold prt
        repeat' split
        all_goals omega
      have hix : gz_ix (iI w) = w.toNat := gix (by omega)
      refine ⟨clp (env (prt w)), clp_b _, ?_, fun st => ?_⟩
      · rw [if_neg (kne _ _ k (by decide)), if_pos k]
        unfold cf_X15_at
        have hr := cl_r μ (gP μ mo 0) w.toNat
        simp only [gz_let, if_pos hmo.1, if_pos hmo.2.1, if_pos k, if_pos hmo.2.2.1, e1, hmo.2.2.2]
        rw [if_pos (by rw [gin_iI (by omega)]; omega), hix, cl_of, c_held μ hr, henv w hw.1 hw.2 hal]
        rfl
      · show qS env lk (40 + prt w) st = _
        unfold qS
        rw [if_neg (by omega), if_neg (by omega), if_pos (by omega), show 40 + prt w - 40 = prt w by omega]
    · subst e
      obtain ⟨v1, b1, q1, s1⟩ := ih h1
      obtain ⟨v2, b2, q2, s2⟩ := ih h2
      have p1 : gP μ r 1 ≠ 0 := by
        cases d with
        | zero => exact h1.elim
        | succ d => exact h1.1
      have p2 : gP μ r 2 ≠ 0 := by
        cases d with
        | zero => exact h2.elim
        | succ d => exact h2.1
      have hbb : -1000000 ≤ (if kk = 0 then (if v1 < v2 then v1 else v2) else (if v2 < v1 then v1 else v2)) ∧ (if kk = 0 then (if v1 < v2 then v1 else v2) else (if v2 < v1 then v1 else v2)) ≤ 1000000 := by
        repeat' split
        all_goals omega
      refine ⟨if kk = 0 then (if v1 < v2 then v1 else v2) else (if v2 < v1 then v1 else v2), hbb, ?_, fun st => ?_⟩
      · rw [if_neg (kne _ _ k (by decide)), if_neg (kne _ _ k (by decide)), if_pos k]
        unfold cf_X13_at mj_X13_at_35
        simp only [gz_let, if_pos k, if_pos p1, if_pos p2, q1, q2, Option.bind_some, e1]
        by_cases c : v1 ≤ v2
        · rw [if_pos (by rw [lL_le (by omega) (by omega)]; exact c)]
          rcases hk with z | z <;> subst z
          · rw [if_pos (by rw [iI_lit]), if_pos rfl]
            by_cases c' : v1 < v2
            · rw [if_pos c']
            · rw [if_neg c', show v1 = v2 by omega]
          · rw [if_neg (by decide), if_neg (by decide), if_neg (by omega)]
        · rw [if_neg (by rw [lL_le (by omega) (by omega)]; exact c)]
          rcases hk with z | z <;> subst z
          · rw [if_neg (by decide), if_pos rfl, if_neg (by omega)]
          · rw [if_pos (by rw [iI_lit]), if_neg (by decide), if_pos (by omega)]
      · rw [qR_app, s1, qR_app, s2]
        show qS env lk (5 + kk) (v2 :: v1 :: st) = _
        unfold qS qop
        rw [if_neg (by omega), if_neg (by omega), if_neg (by omega), if_neg (by omega), if_neg (by omega)]
        show _ :: st = _
        rw [if_neg (by omega), if_neg (by omega), if_neg (by omega), if_neg (by omega)]
        rcases hk with z | z <;> subst z
        · rw [if_pos (by omega), if_pos rfl]
        · rw [if_neg (show ¬ (5 + 1 : Int) = 5 by omega), if_pos (show (5 + 1 : Int) = 6 by omega), if_neg (show ¬ (1 : Int) = 0 by omega)]
    · subst e
      obtain ⟨v1, b1, q1, s1⟩ := ih h1
      have p1 : gP μ r 1 ≠ 0 := by
        cases d with
        | zero => exact h1.elim
        | succ d => exact h1.1
      obtain ⟨l1, l2⟩ := hlk hlo kk v1 hk b1
      refine ⟨clp (lk kk v1), clp_b _, ?_, fun st => ?_⟩
      · rw [if_neg (kne _ _ k (by decide)), if_neg (kne _ _ k (by decide)), if_neg (kne _ _ k (by decide)), if_neg (kne _ _ k (by decide)), if_pos k]
        unfold cf_X16_at
        simp only [gz_let, if_pos k, if_pos e2, if_pos p1, q1, Option.bind_some, e1, l2, c_held μ l1]
      · rw [qR_app, s1]
        show qS env lk (60 + kk) (v1 :: st) = _
        unfold qS
        rw [if_neg (by omega), if_pos (by omega), show 60 + kk - 60 = kk by omega]
    · subst e
      have lp : gP μ r 0 ≠ 0 := hl.1
      have lk21 : gK μ (gP μ r 0) = 21 := hl.2.2.1
      have key : ∀ i : Nat, i ≤ n → ∃ v : Int, (-1000000 ≤ v ∧ v ≤ 1000000) ∧ (∀ st, qR env lk (chC f g i) st = v :: st) ∧ (cf_X12_at (cev d).1 (cev d).2 r mo μ = ml_X12_at_21 (cev d).1 (cev d).2 r mo (lL v) (iI ((i : Int) + 1)) μ) := by
        intro i
        induction i with
        | zero =>
          intro _
          obtain ⟨v, bv, qv, sv⟩ := ih (hf 0 (Nat.zero_le _))
          refine ⟨v, bv, sv, ?_⟩
          unfold cf_X12_at
          have hg0 := c_get hl (by omega) (i := 0) (by omega)
          have e0 : (0 : Int32) = iI ((0 : Nat) : Int) := iI_lit 0
          simp only [gz_let, if_pos k, if_pos lp, if_pos lk21]
          rw [e0, hg0]
          simp only [Option.bind_some, if_pos (vRep_k (hf 0 (Nat.zero_le _))), qv]
          rfl
        | succ i ihi =>
          intro hi
          obtain ⟨v, bv, sv, ev⟩ := ihi (by omega)
          obtain ⟨v2, bv2, qv2, sv2⟩ := ih (hf (i + 1) hi)
          have hgi := hg (i + 1) (by omega) hi
          obtain ⟨z, hz, tz, cz⟩ := c_two μ hgi bv bv2
          have hqb : -1000000 ≤ qop (g (i + 1)) v v2 ∧ qop (g (i + 1)) v v2 ≤ 1000000 := by rw [← cz]; exact clp_b _
          refine ⟨qop (g (i + 1)) v v2, hqb, fun st => ?_, ?_⟩
          · show qR env lk (chC f g i ++ (f (i + 1) ++ [g (i + 1)])) st = _
            rw [qR_app, sv, qR_app, sv2]
            show qS env lk (g (i + 1)) (v2 :: v :: st) = _
            unfold qS
            rw [if_neg (by omega), if_neg (by omega), if_neg (by omega), if_neg (by omega), if_neg (by omega)]
          · rw [ev]
            unfold ml_X12_at_21
            refine gz_loop_in ?_
            dsimp only
            unfold mb_X12_at_21
            have ec : iI ((i : Int) + 1) = iI ((i + 1 : Nat) : Int) := rfl
            simp only [gz_let, if_pos k, if_pos lp, if_pos lk21, c_size hl, Option.bind_some]
            rw [if_neg (by rw [iI_le (by omega) (by omega)]; omega)]
            simp only [gz_let, if_pos k, if_pos hsb.1, if_pos hsb.2.2.1]
            rw [ec, c_charAt hsb (by omega) (by omega)]
            simp only [Option.bind_some, if_pos k, if_pos lp, if_pos lk21]
            rw [c_get hl (by omega) (i := i + 1) (by omega)]
            simp only [Option.bind_some, if_pos (vRep_k (hf (i + 1) hi)), qv2, tz, c_held μ hz, cz]
            rw [iI_lit, iI_add]
      obtain ⟨v, bv, sv, ev⟩ := key n (Nat.le_refl _)
      refine ⟨v, bv, ?_, sv⟩
      rw [if_neg (kne _ _ k (by decide)), if_neg (kne _ _ k (by decide)), if_neg (kne _ _ k (by decide)), if_pos k, ev]
      unfold ml_X12_at_21
      refine gz_loop_out ?_
      dsimp only
      unfold mb_X12_at_21
      simp only [gz_let, if_pos k, if_pos lp, if_pos lk21, c_size hl, Option.bind_some]
      rw [if_pos (by rw [iI_le (by omega) (by omega)]; omega)]
