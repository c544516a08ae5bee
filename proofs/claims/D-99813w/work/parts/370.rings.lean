/-! ===== rings ===== -/
theorem ends_own {m : MM} {t : Nat} (ht : t < 8) : bt (endsS m t) t = false := by
  unfold endsS
  rw [b_and, b_xor, bt_1t (by omega) (by omega), b_m1 t (by omega), decide_eq_true (show t = t from rfl)]
  simp
/-- all ends are laid out -/
def eE (f : Nat → Int32) (n : Nat) (m a : MM) : Prop := (∀ c j : Nat, c ≠ 1055 → a.1 c j = m.1 c j) ∧ a.2 = m.2 ∧ ∀ t : Nat, t < n → a.1 1055 t = f t
theorem eE.s {f : Nat → Int32} {n : Nat} {m a : MM} (h : eE f n m a) : sE m a := fun c j k => h.1 c j (by unfold kyC at k; omega)
theorem eE.sc {f : Nat → Int32} {n : Nat} {m a : MM} (h : eE f n m a) (hN : okN m) : mSc m a := ⟨fun c j k => h.1 c j (by unfold scM at k; omega), fun c j _ => by rw [h.2.1], by unfold mi; rw [h.1 _ _ (by omega)]; exact hN.2.2.1⟩
def rgI (m : MM) (a : Nat) (s : Int32) : Nat → Int32
  | 0 => s
  | b + 1 => if bt (endsS m a) b = true ∧ bt (endsS m b) a = true then rgI m a s b ||| ((1 : Int32) <<< (iI a &&& 31)) else rgI m a s b
theorem rgI_s (m : MM) (a : Nat) (s : Int32) (b : Nat) : rgI m a s (b + 1) = if bt (endsS m a) b = true ∧ bt (endsS m b) a = true then rgI m a s b ||| ((1 : Int32) <<< (iI a &&& 31)) else rgI m a s b := rfl
def rgO (m : MM) : Nat → Int32
  | 0 => 0
  | a + 1 => rgI m a (rgO m a) (things m)
theorem p_rings {m : MM} (hT : tieOK m) (hN : okN m) : pw (mf_rings m) (fun q => q.1 = rgO m (things m) ∧ mSc m q.2) := by
  have hb := hT.1.2.1
  have h8 : things m ≤ 8 := by unfold things; omega
  have hth : (things m : Int) = mi m 1038 7 := by unfold things; omega
  unfold mf_rings ml_X6_rings_4
  refine pw_for (fun (i : Nat) (q : Int32 × Int32 × MM) => q.1 = 0 ∧ q.2.1 = iI i ∧ eE (endsS m) i m q.2.2) (things m) ?_ ?_ ⟨rfl, rfl, fun _ _ _ => rfl, rfl, fun t ht => absurd ht (Nat.not_lt_zero _)⟩
  · rintro i ⟨y1, y2, a⟩ hi ⟨rfl, rfl, a1⟩
    dsimp only at a1 ⊢
    have e1 : iI (i : Int) + (1 : Int32) = iI ((i + 1 : Nat) : Int) := by rw [iI_lit, iI_add]; rfl
    have gi : gz_ix (iI (i : Int)) = i := by rw [gix (by omega)]; omega
    have hi8 : gz_in (iI (i : Int)) 8 := (gin_iI (by omega)).2 (by omega)
    unfold mb_X6_rings_4
    rw [p_thingMany, a1.s.w]
    refine pw_bind (pw_some ?_)
    dsimp only
    refine pw_f (by rw [iI_le (by omega) (by omega)]; omega) ?_
    rw [p_endsOf (hT.s a1.s) (by omega), a1.s.ends hT.1]
    refine pw_bind (pw_some ?_)
    dsimp only
    refine pw_gu hi8 (pw_let (pw_let (pw_some ⟨rfl, e1, ?_⟩)))
    rw [gi]
    refine ⟨fun c j hc => ?_, a1.2.1, fun t ht => ?_⟩
    · show (msI a 1055 i (endsS m i)).1 c j = _
      rw [msI_i, if_neg (fun z => hc z.1)]
      exact a1.1 c j hc
    · show (msI a 1055 i (endsS m i)).1 1055 t = _
      rw [msI_i]
      by_cases q : t = i
      · rw [if_pos ⟨rfl, q⟩, q]
      · rw [if_neg (fun z => q z.2)]
        exact a1.2.2 t (by omega)
  · rintro ⟨y1, y2, a⟩ ⟨rfl, rfl, a1⟩
    dsimp only at a1 ⊢
    unfold mb_X6_rings_4
    rw [p_thingMany, a1.s.w]
    refine pw_bind (pw_some ?_)
    dsimp only
    refine pw_t (by rw [iI_le (by omega) (by omega)]; omega) (pw_map ?_)
    unfold ml_X6_rings_31
    refine pw_for (fun (i : Nat) (q : Int32 × Int32 × MM) => q = (rgO m i, iI i, a)) (things m) ?_ ?_ rfl
    · rintro i q hi rfl
      dsimp only
      have e1 : iI (i : Int) + (1 : Int32) = iI ((i + 1 : Nat) : Int) := by rw [iI_lit, iI_add]; rfl
      have gi : gz_ix (iI (i : Int)) = i := by rw [gix (by omega)]; omega
      have hi8 : gz_in (iI (i : Int)) 8 := (gin_iI (by omega)).2 (by omega)
      unfold mb_X6_rings_31
      rw [p_thingMany, a1.s.w]
      refine pw_bind (pw_some ?_)
      dsimp only
      refine pw_f (by rw [iI_le (by omega) (by omega)]; omega) ?_
      unfold ml_X6_rings_41
      refine pw_for (fun (b : Nat) (q : Int32 × Int32 × Int32 × MM) => q = (rgI m i (rgO m i) b, iI i, iI b, a)) (things m) ?_ ?_ rfl
      · rintro b q hb' rfl
        dsimp only
        have e2 : iI (b : Int) + (1 : Int32) = iI ((b + 1 : Nat) : Int) := by rw [iI_lit, iI_add]; rfl
        have gb : gz_ix (iI (b : Int)) = b := by rw [gix (by omega)]; omega
        have hb8 : gz_in (iI (b : Int)) 8 := (gin_iI (by omega)).2 (by omega)
        have no : ¬ (bt (endsS m i) b = true ∧ bt (endsS m b) i = true) → pw (mj_X6_rings_83 (rgI m i (rgO m i) b) (iI i) (iI b) a) (Sum.elim (fun q : Int32 × Int32 × Int32 × MM => q = (rgI m i (rgO m i) (b + 1), iI i, iI ((b + 1 : Nat) : Int), a)) (Sum.elim (fun q => q = (rgO m (i + 1), iI ((i + 1 : Nat) : Int), a)) (fun q => q.1 = rgO m (things m) ∧ mSc m q.2))) := by
          intro q
          unfold mj_X6_rings_83
          refine pw_let (pw_some ?_)
          show (rgI m i (rgO m i) b, iI i, iI b + (1 : Int32), a) = _
          rw [rgI_s, if_neg q, e2]
        unfold mb_X6_rings_41
        rw [p_thingMany, a1.s.w]
        refine pw_bind (pw_some ?_)
        dsimp only
        refine pw_f (by rw [iI_le (by omega) (by omega)]; omega) (pw_gu hi8 ?_)
        rw [gi, gb, a1.2.2 i hi, a1.2.2 b hb']
        by_cases q1 : bt (endsS m i) b = true
        · refine pw_t ((has_bt _ (by omega)).2 q1) (pw_gu hb8 ?_)
          by_cases q2 : bt (endsS m b) i = true
          · refine pw_t ((has_bt _ (by omega)).2 q2) (pw_let ?_)
            unfold mj_X6_rings_83
            refine pw_let (pw_some ?_)
            show (rgI m i (rgO m i) b ||| ((1 : Int32) <<< (iI i &&& 31)), iI i, iI b + (1 : Int32), a) = _
            rw [rgI_s, if_pos ⟨q1, q2⟩, e2]
          · exact pw_f (fun z => q2 ((has_bt _ (by omega)).1 z)) (no (fun z => q2 z.2))
        · exact pw_f (fun z => q1 ((has_bt _ (by omega)).1 z)) (no (fun z => q1 z.1))
      · rintro q rfl
        dsimp only
        unfold mb_X6_rings_41
        rw [p_thingMany, a1.s.w]
        refine pw_bind (pw_some ?_)
        dsimp only
        refine pw_t (by rw [iI_le (by omega) (by omega)]; omega) (pw_let (pw_some ?_))
        show (rgI m i (rgO m i) (things m), iI i + (1 : Int32), a) = _
        rw [e1]
        rfl
    · rintro q rfl
      dsimp only
      unfold mb_X6_rings_31
      rw [p_thingMany, a1.s.w]
      refine pw_bind (pw_some ?_)
      dsimp only
      exact pw_t (by rw [iI_le (by omega) (by omega)]; omega) (pw_some ⟨rfl, a1.sc hN⟩)
theorem c_rings {m : MM} {μ : gM} (h : rHH m μ) (h6 : rTied m μ 1027) : cf_X0_rings μ = some (rgO m (things m), μ) := by
  have hb := h.1.2.1
  have h8 : things m ≤ 8 := by unfold things; omega
  have hth : (things m : Int) = mi m 1038 7 := by unfold things; omega
  have key : pw (cf_X0_rings μ) (fun q => q = (rgO m (things m), μ)) := by
    unfold cf_X0_rings ml_X0_rings_4
    refine pw_for (fun (i : Nat) (q : Int32 × Int32 × gM) => q = (rgO m i, iI i, μ)) (things m) ?_ ?_ rfl
    · rintro i q hi rfl
      dsimp only
      have e1 : iI (i : Int) + (1 : Int32) = iI ((i + 1 : Nat) : Int) := by rw [iI_lit, iI_add]; rfl
      unfold mb_X0_rings_4
      rw [c_things h]
      refine pw_bind (pw_some ?_)
      dsimp only
      refine pw_f (by rw [iI_le (by omega) (by omega)]; omega) ?_
      unfold ml_X0_rings_14
      refine pw_for (fun (b : Nat) (q : Int32 × Int32 × Int32 × gM) => q = (rgI m i (rgO m i) b, iI i, iI b, μ)) (things m) ?_ ?_ rfl
      · rintro b q hb' rfl
        dsimp only
        have e2 : iI (b : Int) + (1 : Int32) = iI ((b + 1 : Nat) : Int) := by rw [iI_lit, iI_add]; rfl
        have no : ¬ (bt (endsS m i) b = true ∧ bt (endsS m b) i = true) → pw (mj_X0_rings_64 (iI i) (iI b) (rgI m i (rgO m i) b) μ) (Sum.elim (fun q : Int32 × Int32 × Int32 × gM => q = (rgI m i (rgO m i) (b + 1), iI i, iI ((b + 1 : Nat) : Int), μ)) (Sum.elim (fun q => q = (rgO m (i + 1), iI ((i + 1 : Nat) : Int), μ)) (fun q => q = (rgO m (things m), μ)))) := by
          intro q
          unfold mj_X0_rings_64 mj_X0_rings_65
          refine pw_let (pw_let (pw_some ?_))
          show (rgI m i (rgO m i) b ||| (0 : Int32), iI i, iI b + (1 : Int32), μ) = _
          rw [rgI_s, if_neg q, e2, or_0]
        unfold mb_X0_rings_14
        rw [c_things h]
        refine pw_bind (pw_some ?_)
        dsimp only
        refine pw_f (by rw [iI_le (by omega) (by omega)]; omega) ?_
        by_cases q0 : i = b
        · refine pw_t (by rw [q0]) (no (fun z => ?_))
          have := z.1
          rw [← q0, ends_own (by omega)] at this
          cases this
        · refine pw_f (by rw [iI_eq (by omega) (by omega)]; omega) ?_
          rw [c_along h h6 (by omega)]
          refine pw_bind (pw_some ?_)
          dsimp only
          rw [c_has _ _ (by omega)]
          refine pw_bind (pw_some ?_)
          dsimp only
          by_cases q1 : bt (endsS m i) b = true
          · rw [if_pos q1]
            refine pw_f n10 ?_
            rw [c_along h h6 (by omega)]
            refine pw_bind (pw_some ?_)
            dsimp only
            rw [c_has _ _ (by omega)]
            refine pw_bind (pw_some ?_)
            dsimp only
            by_cases q2 : bt (endsS m b) i = true
            · rw [if_pos q2]
              refine pw_f n10 ?_
              unfold mj_X0_rings_65
              refine pw_let (pw_let (pw_some ?_))
              show (rgI m i (rgO m i) b ||| ((1 : Int32) <<< (iI i &&& 31)), iI i, iI b + (1 : Int32), μ) = _
              rw [rgI_s, if_pos ⟨q1, q2⟩, e2]
            · rw [if_neg q2]
              exact pw_t rfl (no (fun z => q2 z.2))
          · rw [if_neg q1]
            exact pw_t rfl (no (fun z => q1 z.1))
      · rintro q rfl
        dsimp only
        unfold mb_X0_rings_14
        rw [c_things h]
        refine pw_bind (pw_some ?_)
        dsimp only
        refine pw_t (by rw [iI_le (by omega) (by omega)]; omega) (pw_let (pw_some ?_))
        show (rgI m i (rgO m i) (things m), iI i + (1 : Int32), μ) = _
        rw [e1]
        rfl
    · rintro q rfl
      dsimp only
      unfold mb_X0_rings_4
      rw [c_things h]
      refine pw_bind (pw_some ?_)
      dsimp only
      exact pw_t (by rw [iI_le (by omega) (by omega)]; omega) (pw_some rfl)
  obtain ⟨r, e1, e2⟩ := key
  rw [e1, e2]
theorem e_rings {l : List (Int × Int × Int)} {m : MM} {μ : gM} (h : rCo l m μ) : eO (mf_rings m) (cf_X0_rings μ) m μ :=
  eO.of _ (p_rings (tieOK.of h.2.1) h.2.2.2.2.1) ⟨_, c_rings h.2.1 h.2.2.2.2.2.1.2.2.1, rfl, cSc.refl μ, h.2.2.2.2.2.2.2.2.1⟩
