/-! ===== heats: which heats fit what was seen; the model ===== -/
theorem pw_and {α : Type} {o : Option α} {P Q : α → Prop} (h1 : pw o P) (h2 : pw o Q) : pw o (fun a => P a ∧ Q a) := by
  obtain ⟨a, e1, p⟩ := h1
  obtain ⟨b, e2, q⟩ := h2
  rw [e1] at e2
  injection e2 with e2
  subst e2
  exact ⟨a, e1, p, q⟩
/-- thing t thought to be of heat h -/
def heatM (m : MM) (t h : Nat) : MM := (fun c j => if c = 2000 ∧ j = 52 then iI t else if c = 2000 ∧ j = 53 then iI h else m.1 c j, m.2)
theorem heatM_o (m : MM) (t h : Nat) {c j : Nat} (k : ¬ (c = 2000 ∧ (j = 52 ∨ j = 53))) : (heatM m t h).1 c j = m.1 c j := by
  show (if c = 2000 ∧ j = 52 then iI t else if c = 2000 ∧ j = 53 then iI h else m.1 c j) = _
  rw [if_neg (by omega), if_neg (by omega)]
theorem heatM_mo (m : MM) (t h : Nat) {c j : Nat} (k : ¬ (c = 2000 ∧ (j = 52 ∨ j = 53))) : mi (heatM m t h) c j = mi m c j := congrArg Int32.toInt (heatM_o m t h k)
theorem heatM_hh (m : MM) (t h : Nat) : hhE m (heatM m t h) := fun c j k => heatM_o m t h (by omega)
theorem heatM_okN {m : MM} (hN : okN m) (t : Nat) {h : Nat} (hh : h < 10) : okN (heatM m t h) := by
  obtain ⟨a1, a2, a3, a4⟩ := hN
  refine ⟨by rw [heatM_mo m t h (by omega)]; exact a1, fun u hu => by rw [heatM_mo m t h (by omega), heatM_mo m t h (by omega)]; exact a2 u hu, ?_, fun u hu => ?_⟩
  · have : mi (heatM m t h) 2000 53 = h := by
      show (iI (h : Int)).toInt = _
      exact toInt_iI (by omega) (by omega)
    omega
  · rw [heatM_mo m t h (by omega)] at hu
    rw [heatM_mo m t h (by omega), heatM_mo m t h (by omega)]
    exact a4 u hu
/-- how strong thing u is behind k hours -/
def stH (m : MM) (t h k u : Nat) : Int := mi (hoursS k (heatM m t h)) 1051 (14 + 2 * u)
def rwN (m : MM) : Nat := (mi m 2000 64).toNat
def rwH (m : MM) (r : Nat) : Nat := (mi m 1066 (3 * r)).toNat
def rwT (m : MM) (r : Nat) : Nat := (mi m 1066 (3 * r + 1)).toNat
/-- the rows that were seen are rows -/
def rwsO (m : MM) : Prop := (0 ≤ mi m 2000 64 ∧ mi m 2000 64 ≤ 16) ∧ ∀ k : Nat, k < rwN m → (0 ≤ mi m 1066 (3 * k) ∧ mi m 1066 (3 * k) ≤ 30) ∧ (0 ≤ mi m 1066 (3 * k + 1) ∧ mi m 1066 (3 * k + 1) < mi m 1038 7) ∧ 0 ≤ mi m 1066 (3 * k + 2) ∧ mi m 1066 (3 * k + 2) ≤ 99
theorem rRows.ok {m : MM} {μ : gM} (h : rRows m μ) : rwsO m := ⟨h.2.1, fun k hk => (h.2.2 k (by unfold rwN at hk; have := h.2.1; omega)).2⟩
def rwB (m : MM) (t h r : Nat) : Bool := decide (stH m t h (rwH m r) (rwT m r) = mi m 1066 (3 * r + 2))
def fitB (m : MM) (t h : Nat) : Bool := decide (∀ r : Nat, r < rwN m → mi m 1051 0 + rwH m r ≤ 999 ∧ rwB m t h r = true)
def seeB (m : MM) (t h k : Nat) : Bool := decide (∀ r : Nat, r < rwN m → rwH m r = k → mi m 1051 0 + rwH m r ≤ 999 ∧ rwB m t h r = true)
def alK (m : MM) (t h k : Nat) : Bool := decide (∀ k' : Nat, k' < k → seeB m t h k' = true)
theorem alK_fit {m : MM} (hR : rwsO m) (t h : Nat) : alK m t h 31 = fitB m t h := by
  unfold alK fitB
  refine decide_eq_decide.mpr ⟨fun a r hr => ?_, fun a k hk => ?_⟩
  · have b := (hR.2 r hr).1
    have := a (rwH m r) (by unfold rwH; omega)
    unfold seeB at this
    exact of_decide_eq_true this r hr rfl
  · unfold seeB
    exact decide_eq_true (fun r hr _ => a r hr)
theorem alK_s (m : MM) (t h k : Nat) : alK m t h (k + 1) = (alK m t h k && seeB m t h k) := by
  unfold alK
  rw [Bool.eq_iff_iff, Bool.and_eq_true, decide_eq_true_iff, decide_eq_true_iff]
  exact ⟨fun a => ⟨fun k' hk => a k' (by omega), a k (by omega)⟩, fun a k' hk => by
    rcases Nat.lt_or_ge k' k with q | q
    · exact a.1 k' q
    · rw [show k' = k by omega]; exact a.2⟩
def setS (m : MM) (t : Nat) : Nat → Int32
  | 0 => 0
  | h + 1 => if fitB m t h = true then setS m t h ||| ((1 : Int32) <<< (iI h &&& 31)) else setS m t h
section HeatM
variable {m : MM} {t : Nat}
theorem p_seen {a : MM} {h k : Nat} (hR : rwsO m) (hM : rMany m) (hN : okN m) (hh : h < 10) (hk : k ≤ 30) (h10 : mi m 1051 0 ≤ 999) (ht : tk m a) (hs : sE (hoursS k (heatM m t h)) a) : mf_isAsSeen (iI k) a = some (if seeB m t h k = true then 1 else 0, a) := by
  have g0 : gz_ix (0 : Int32) = 0 := by decide
  have b0 := hN.1
  have hb8 := hM.2.1
  have o2 := (hoursS_ok (heatM_okN hN t hh) ((heatM_hh m t h).many hM) k (by rw [heatM_mo _ _ _ (by omega)]; omega)).2
  rw [heatM_mo _ _ _ (by omega)] at o2
  have a66 : ∀ j : Nat, a.1 1066 j = m.1 1066 j := fun j => ht.1 _ _ (by unfold scM; omega)
  have a64 : a.1 2000 64 = iI (mi m 2000 64) := (ht.1 _ _ (by unfold scM; omega)).trans (mi_of _ _ _)
  have hb := hR.1
  have hn : (rwN m : Int) = mi m 2000 64 := by unfold rwN; omega
  have P : pw (mf_isAsSeen (iI k) a) (fun q => q.1 = (if seeB m t h k = true then 1 else 0) ∧ q.2 = a) := by
    unfold mf_isAsSeen ml_X6_isAsSeen_2
    refine pw_for (fun i q => q.1 = iI k ∧ q.2.1 = iI (i : Int) ∧ q.2.2 = a ∧ ∀ r : Nat, r < i → rwH m r = k → mi m 1051 0 + rwH m r ≤ 999 ∧ rwB m t h r = true) (rwN m) ?_ ?_ ⟨rfl, rfl, rfl, fun r hr => absurd hr (Nat.not_lt_zero _)⟩
    · rintro i ⟨x1, x2, a'⟩ hi ⟨e1, e2, e3, hv⟩
      dsimp only at e1 e2 e3 ⊢
      subst e1; subst e2; subst e3
      obtain ⟨r1, r2, r3⟩ := hR.2 i hi
      have i3 : (3 : Int32) * iI (i : Int) = iI ((3 * i : Nat) : Int) := by rw [iI_lit, iI_mul]; rfl
      have i4 : iI ((3 * i : Nat) : Int) + (1 : Int32) = iI ((3 * i + 1 : Nat) : Int) := by rw [iI_lit, iI_add]; rfl
      have i5 : iI ((3 * i : Nat) : Int) + (2 : Int32) = iI ((3 * i + 2 : Nat) : Int) := by rw [iI_lit, iI_add]; rfl
      have g3 : gz_ix (iI ((3 * i : Nat) : Int)) = 3 * i := by rw [gix (by omega)]; omega
      have g4 : gz_ix (iI ((3 * i + 1 : Nat) : Int)) = 3 * i + 1 := by rw [gix (by omega)]; omega
      have g5 : gz_ix (iI ((3 * i + 2 : Nat) : Int)) = 3 * i + 2 := by rw [gix (by omega)]; omega
      have eH : mi m 1066 (3 * i) = rwH m i := by unfold rwH; omega
      have eT : mi m 1066 (3 * i + 1) = rwT m i := by unfold rwT; omega
      have fin : ∀ b : Prop, (rwH m i = k → mi m 1051 0 + rwH m i ≤ 999 ∧ rwB m t h i = true) → pw (mj_X6_isAsSeen_63 (iI k) (iI i) a') (Sum.elim (fun q : Int32 × Int32 × MM => q.1 = iI k ∧ q.2.1 = iI ((i + 1 : Nat) : Int) ∧ q.2.2 = a' ∧ ∀ r : Nat, r < i + 1 → rwH m r = k → mi m 1051 0 + rwH m r ≤ 999 ∧ rwB m t h r = true) (fun q : Int32 × MM => q.1 = (if seeB m t h k = true then 1 else 0) ∧ q.2 = a')) := fun _ ok => by
        unfold mj_X6_isAsSeen_63
        refine pw_let (pw_some ⟨rfl, ?_, rfl, fun r hr => ?_⟩)
        · show iI (i : Int) + (1 : Int32) = _
          rw [iI_lit, iI_add]; rfl
        · rcases Nat.lt_or_ge r i with q | q
          · exact hv r q
          · rw [show r = i by omega]; exact ok
      have no : ¬ (rwH m i = k → mi m 1051 0 + rwH m i ≤ 999 ∧ rwB m t h i = true) → pw (Option.map Sum.inr (mj_X6_isAsSeen_61 a')) (Sum.elim (fun q : Int32 × Int32 × MM => q.1 = iI k ∧ q.2.1 = iI ((i + 1 : Nat) : Int) ∧ q.2.2 = a' ∧ ∀ r : Nat, r < i + 1 → rwH m r = k → mi m 1051 0 + rwH m r ≤ 999 ∧ rwB m t h r = true) (fun q : Int32 × MM => q.1 = (if seeB m t h k = true then 1 else 0) ∧ q.2 = a')) := fun bad => by
        unfold mj_X6_isAsSeen_61
        refine pw_map (pw_some ⟨?_, rfl⟩)
        rw [if_neg]
        intro q
        unfold seeB at q
        exact bad (of_decide_eq_true q i hi)
      unfold mb_X6_isAsSeen_2
      rw [a64, i3, i4, i5, g3, g4, g5, a66, a66, mi_of m 1066 (3 * i), eH, mi_of m 1066 (3 * i + 1), eT, g0, mi_of a' 1051 0, hs.n (by omega), o2]
      refine pw_f (by rw [iI_le (by omega) (by omega)]; omega) (pw_gu ((gin_iI (by omega)).2 (by omega)) (pw_if (fun q => ?_) (fun q => ?_)))
      · rw [iI_eq (by omega) (by omega)] at q
        have q' : rwH m i = k := by omega
        refine pw_gu (by decide) (pw_if (fun p => ?_) (fun p => ?_))
        · rw [show (999 : Int32) = iI 999 from rfl, iI_lt (by omega) (by omega)] at p
          exact no (fun w => by have := (w q').1; omega)
        · rw [show (999 : Int32) = iI 999 from rfl, iI_lt (by omega) (by omega)] at p
          refine pw_gu ((gin_iI (by omega)).2 (by omega)) ?_
          rw [p_strengthOf (by omega), hs.n (by omega)]
          refine pw_bind (pw_some (pw_gu ((gin_iI (by omega)).2 (by omega)) ?_))
          try dsimp only
          rw [a66, mi_of m 1066 (3 * i + 2)]
          have bs := mi_r (hoursS k (heatM m t h)) 1051 (14 + 2 * rwT m i)
          refine pw_if (fun w => ?_) (fun w => ?_)
          · rw [iI_eq (by omega) (by omega)] at w
            refine fin True (fun _ => ⟨by omega, ?_⟩)
            unfold rwB stH
            rw [q']
            exact decide_eq_true w
          · rw [iI_eq (by omega) (by omega)] at w
            refine no (fun z => w ?_)
            have := (z q').2
            unfold rwB stH at this
            rw [q'] at this
            exact of_decide_eq_true this
      · rw [iI_eq (by omega) (by omega)] at q
        exact fin True (fun z => absurd (by omega) q)
    · rintro ⟨x1, x2, a'⟩ ⟨e1, e2, e3, hv⟩
      dsimp only at e1 e2 e3 ⊢
      subst e1; subst e2; subst e3
      unfold mb_X6_isAsSeen_2
      rw [a64]
      refine pw_t (by rw [iI_le (by omega) (by omega)]; omega) (pw_some ⟨?_, rfl⟩)
      show (1 : Int32) = _
      rw [if_pos]
      unfold seeB
      exact decide_eq_true (fun r hr => hv r hr)
  obtain ⟨⟨r, a'⟩, e, q1, q2⟩ := P
  dsimp only at q1 q2
  rw [e, q1, q2]
/-- the strengths that were reckoned -/
def hwM (m : MM) (t : Nat) (a : MM) (H K U : Nat) : Prop := ∀ h k u : Nat, k ≤ 30 → u < things m → (h < H ∨ (h = H ∧ (k < K ∨ (k = K ∧ u < U)))) → a.1 1067 (248 * h + 8 * k + u) = iI (stH m t h k u)
theorem hwM.mv {a b : MM} {H K U : Nat} (w : hwM m t a H K U) (e : ∀ j : Nat, b.1 1067 j = a.1 1067 j) : hwM m t b H K U := fun h k u h1 h2 h3 => (e _).trans (w h k u h1 h2 h3)
theorem tk.mv {m a b : MM} (h : tk m a) (e1 : ∀ c j : Nat, ¬ (c = 1067 ∨ (c = 2000 ∧ j = 53)) → b.1 c j = a.1 c j) (e2 : b.2 = a.2) (e3 : 0 ≤ mi b 2000 53 ∧ mi b 2000 53 ≤ 9) : tk m b := by
  obtain ⟨t1, t2, t3, t4, t5⟩ := h
  exact ⟨fun c j k => (e1 c j (by unfold scM at k; omega)).trans (t1 c j k), fun c j k => by rw [e2]; exact t2 c j k, fun j hj => (e1 _ _ (by omega)).trans (t3 j hj), by rw [e1 _ _ (by omega)]; exact t4, e3⟩
/-- one hour's strengths, then the hour goes -/
theorem p_heat61 {Q : ((Int32 × Int32 × Int32 × Int32 × MM) ⊕ ((Int32 × Int32 × MM) ⊕ (Int32 × MM))) → Prop} {l : List (Int × Int × Int)} {a : MM} {h k : Nat} (hM : rMany m) (hN : okN m) (hc : cOK m) (hkp : kpM l m) (hh : h < 10) (hk : k ≤ 30) (h10 : mi m 1051 0 ≤ 999) (x2 x4 : Int32) (ht : tk m a) (hs : sE (hoursS k (heatM m t h)) a) (hw : hwM m t a h k 0) (hQ : ∀ b : MM, tk m b → sE (hoursS (k + 1) (heatM m t h)) b → hwM m t b h (k + 1) 0 → Q (Sum.inl (x2, iI h, x4, iI ((k + 1 : Nat) : Int), b))) : pw (ml_X6_heatSet_61 x2 (iI h) x4 (iI k) 0 a) Q := by
  have hb := hM.2.1
  have b0 := hN.1
  obtain ⟨o1, o2⟩ := hoursS_ok (heatM_okN hN t hh) ((heatM_hh m t h).many hM) k (by rw [heatM_mo _ _ _ (by omega)]; omega)
  have hhk := (heatM_hh m t h).trans (hoursS_hh (heatM m t h) k)
  unfold ml_X6_heatSet_61
  refine pw_for (fun i q => q.1 = x2 ∧ q.2.1 = iI h ∧ q.2.2.1 = x4 ∧ q.2.2.2.1 = iI k ∧ q.2.2.2.2.1 = iI (i : Int) ∧ tk m q.2.2.2.2.2 ∧ sE (hoursS k (heatM m t h)) q.2.2.2.2.2 ∧ hwM m t q.2.2.2.2.2 h k i) (things m) ?_ ?_ ⟨rfl, rfl, rfl, rfl, rfl, ht, hs, hw⟩
  · rintro i ⟨y1, y2, y3, y4, y5, a'⟩ hi ⟨e1, e2, e3, e4, e5, ht', hs', hw'⟩
    dsimp only at e1 e2 e3 e4 e5 ht' hs' hw' ⊢
    subst e1; subst e2; subst e3; subst e4; subst e5
    unfold things at hi
    have m7 : mi a' 1038 7 = mi m 1038 7 := by rw [hs'.w, hhk.at (by omega)]
    have ei : (248 : Int32) * iI (h : Int) + (8 : Int32) * iI (k : Int) + iI (i : Int) = iI ((248 * h + 8 * k + i : Nat) : Int) := by
      rw [show (248 : Int32) = iI 248 from rfl, show (8 : Int32) = iI 8 from rfl, iI_mul, iI_mul, iI_add, iI_add]; congr 1
    unfold mb_X6_heatSet_61
    rw [p_thingMany, m7]
    refine pw_bind (pw_some (pw_f (by rw [iI_le (by omega) (by omega)]; omega) ?_))
    dsimp only
    rw [p_strengthOf (by omega), hs'.n (by omega)]
    refine pw_bind (pw_some ?_)
    dsimp only
    rw [ei]
    refine pw_gu ((gin_iI (by omega)).2 (by omega)) (pw_let (pw_let (pw_some ⟨rfl, rfl, rfl, rfl, ?_, ?_, ?_, ?_⟩)))
    · show iI (i : Int) + (1 : Int32) = _
      rw [iI_lit, iI_add]; rfl
    · refine ht'.mv (fun c j q => ?_) rfl ?_
      · show (msI a' 1067 _ _).1 c j = _
        rw [msI_i, if_neg (by omega)]
      · show 0 ≤ mi (msI a' 1067 _ _) 2000 53 ∧ mi (msI a' 1067 _ _) 2000 53 ≤ 9
        have : mi (msI a' 1067 (gz_ix (iI ((248 * h + 8 * k + i : Nat) : Int))) (iI (mi (hoursS k (heatM m t h)) 1051 (14 + 2 * i)))) 2000 53 = mi a' 2000 53 := by
          unfold mi; rw [msI_i, if_neg (by omega)]
        rw [this]
        exact ht'.2.2.2.2
    · intro c j q
      show (msI a' 1067 _ _).1 c j = _
      rw [msI_i, if_neg (by unfold kyC at q; omega)]
      exact hs' c j q
    · intro h' k' u' q1 q2 q3
      have q2' : (u' : Int) < 8 := by unfold things at q2; omega
      show (msI a' 1067 _ _).1 1067 _ = _
      rw [msI_i, gix (by omega)]
      by_cases q : h' = h ∧ k' = k ∧ u' = i
      · rw [if_pos ⟨rfl, by omega⟩, q.1, q.2.1, q.2.2]; rfl
      · rw [if_neg (by omega)]
        exact hw' h' k' u' q1 q2 (by omega)
  · rintro ⟨y1, y2, y3, y4, y5, a'⟩ ⟨e1, e2, e3, e4, e5, ht', hs', hw'⟩
    dsimp only at e1 e2 e3 e4 e5 ht' hs' hw' ⊢
    subst e1; subst e2; subst e3; subst e4; subst e5
    have m7 : mi a' 1038 7 = mi m 1038 7 := by rw [hs'.w, hhk.at (by omega)]
    unfold mb_X6_heatSet_61
    rw [p_thingMany, m7]
    refine pw_bind (pw_some (pw_t (by unfold things; rw [iI_le (by omega) (by omega)]; omega) ?_))
    dsimp only
    refine pw_bind (pw_mono (p_hour (hs'.many (hhk.many hM)) (hs'.oN o1) (hs'.cO (hhk.cO hc)) (ht'.kp hkp)) ?_)
    rintro ⟨⟨⟩, b⟩ ⟨c1, c2, c3, c4, c5⟩
    dsimp only at c1 c2 c3 c4 c5 ⊢
    refine pw_let (pw_some ?_)
    show Q (Sum.inl (y1, iI h, y3, iI (k : Int) + 1, b))
    rw [show iI (k : Int) + (1 : Int32) = iI ((k + 1 : Nat) : Int) by rw [iI_lit, iI_add]; rfl]
    refine hQ b (ht'.hE c2 (c5 ht'.2.2.2.1)) ((hs'.hour (hhk.many hM)).trans c1) (fun h' k' u' q1 q2 q3 => ?_)
    rw [c2.1 _ _ (by omega)]
    exact hw' h' k' u' q1 q2 (by omega)
theorem p_heat30 {Q : ((Int32 × Int32 × MM) ⊕ (Int32 × MM)) → Prop} {l : List (Int × Int × Int)} {a : MM} {h : Nat} (hR : rwsO m) (hM : rMany m) (hN : okN m) (hc : cOK m) (hkp : kpM l m) (hh : h < 10) (h10 : mi m 1051 0 ≤ 999) (x2 : Int32) (ht : tk m a) (hs : sE (heatM m t h) a) (hw : hwM m t a h 0 0) (hQ : ∀ b : MM, tk m b → (∀ j : Nat, j < 30 → b.1 1051 j = m.1 1051 j) → b.1 2000 52 = iI t → hwM m t b (h + 1) 0 0 → Q (Sum.inl (if fitB m t h = true then x2 ||| ((1 : Int32) <<< (iI h &&& 31)) else x2, iI ((h + 1 : Nat) : Int), b))) : pw (ml_X6_heatSet_30 x2 (iI h) 1 0 a) Q := by
  have b0 := hN.1
  unfold ml_X6_heatSet_30
  refine pw_for (fun k q => q.1 = x2 ∧ q.2.1 = iI h ∧ q.2.2.1 = (if alK m t h k = true then 1 else 0) ∧ q.2.2.2.1 = iI (k : Int) ∧ tk m q.2.2.2.2 ∧ sE (hoursS k (heatM m t h)) q.2.2.2.2 ∧ hwM m t q.2.2.2.2 h k 0) 31 ?_ ?_ ⟨rfl, rfl, ?_, rfl, ht, by exact hs, hw⟩
  · rintro k ⟨y1, y2, y3, y4, a'⟩ hk ⟨e1, e2, e3, e4, ht', hs', hw'⟩
    dsimp only at e1 e2 e3 e4 ht' hs' hw' ⊢
    subst e1; subst e2; subst e3; subst e4
    unfold mb_X6_heatSet_30
    have go : ∀ x : Int32, x = (if alK m t h (k + 1) = true then 1 else 0) → pw (mj_X6_heatSet_56 y1 (iI h) (iI k) x a') (Sum.elim (fun q : Int32 × Int32 × Int32 × Int32 × MM => q.1 = y1 ∧ q.2.1 = iI h ∧ q.2.2.1 = (if alK m t h (k + 1) = true then 1 else 0) ∧ q.2.2.2.1 = iI ((k + 1 : Nat) : Int) ∧ tk m q.2.2.2.2 ∧ sE (hoursS (k + 1) (heatM m t h)) q.2.2.2.2 ∧ hwM m t q.2.2.2.2 h (k + 1) 0) Q) := fun x hx => by
      unfold mj_X6_heatSet_56
      exact p_heat61 hM hN hc hkp hh (by omega) h10 y1 x ht' hs' hw' (fun b f1 f2 f3 => ⟨rfl, rfl, hx, rfl, f1, f2, f3⟩)
    refine pw_f (by rw [show (30 : Int32) = iI 30 from rfl, iI_lt (by omega) (by omega)]; omega) ?_
    by_cases q : alK m t h k = true
    · rw [if_pos q]
      refine pw_f n10 ?_
      rw [p_seen hR hM hN hh (by omega) h10 ht' hs']
      refine pw_bind (pw_some ?_)
      dsimp only
      by_cases p : seeB m t h k = true
      · rw [if_pos p]
        exact pw_f n10 (go 1 (by rw [if_pos (by rw [alK_s, q, p]; rfl)]))
      · rw [if_neg p]
        unfold mj_X6_heatSet_55
        exact pw_t rfl (go 0 (by rw [if_neg (by rw [alK_s, Bool.and_eq_true]; exact fun w => p w.2)]))
    · rw [if_neg q]
      unfold mj_X6_heatSet_55
      exact pw_t rfl (go 0 (by rw [if_neg (by rw [alK_s, Bool.and_eq_true]; exact fun w => q w.1)]))
  · rintro ⟨y1, y2, y3, y4, a'⟩ ⟨e1, e2, e3, e4, ht', hs', hw'⟩
    dsimp only at e1 e2 e3 e4 ht' hs' hw' ⊢
    subst e1; subst e2; subst e3; subst e4
    unfold mb_X6_heatSet_30
    refine pw_t (by decide) ?_
    refine pw_bind (pw_mono (pw_and (ht'.anew) (p_triesAnew a')) ?_)
    rintro ⟨⟨⟩, b⟩ ⟨⟨f1, f2, f3, f4⟩, g1, g2⟩
    dsimp only at f1 f2 f3 f4 g1 g2 ⊢
    have e52 : b.1 2000 52 = iI t := by
      rw [f3, hs' 2000 52 (by unfold kyC; omega)]
      have : ∀ k : Nat, (hoursS k (heatM m t h)).1 2000 52 = iI t := fun k => by
        induction k with
        | zero => rfl
        | succ k ih => show (hourM (hoursS k (heatM m t h))).1 2000 52 = _; rw [hourM_o _ (by omega)]; exact ih
      exact this 31
    have wb : hwM m t b (h + 1) 0 0 := fun h' k' u' q1 q2 q3 => by
      rw [g1, if_neg (by omega)]
      exact hw' h' k' u' q1 q2 (by omega)
    have fin := hQ b f1 f2 e52 wb
    rw [alK_fit hR]
    have jj : iI (h : Int) + (1 : Int32) = iI ((h + 1 : Nat) : Int) := by rw [iI_lit, iI_add]; rfl
    by_cases q : fitB m t h = true
    · rw [if_pos q] at fin ⊢
      refine pw_f n10 (pw_let (pw_map ?_))
      unfold mj_X6_heatSet_126
      refine pw_let (pw_some ?_)
      show Q (Sum.inl (y1 ||| ((1 : Int32) <<< (iI h &&& 31)), iI (h : Int) + 1, b))
      rw [jj]; exact fin
    · rw [if_neg q] at fin ⊢
      refine pw_t rfl (pw_map ?_)
      unfold mj_X6_heatSet_126
      refine pw_let (pw_some ?_)
      show Q (Sum.inl (y1, iI (h : Int) + 1, b))
      rw [jj]; exact fin
  · show (1 : Int32) = _
    rw [if_pos]
    unfold alK
    exact decide_eq_true (fun k' hk => absurd hk (Nat.not_lt_zero _))
theorem p_heatSet {l : List (Int × Int × Int)} (hR : rwsO m) (hM : rMany m) (hN : okN m) (hc : cOK m) (hkp : kpM l m) (h10 : mi m 1051 0 ≤ 999) (h52 : m.1 2000 52 = -1) (h56 : m.1 2000 56 = 0) : pw (mf_heatSet (iI t) m) (fun q => q.1 = setS m t 10 ∧ mSc m q.2 ∧ hwM m t q.2 10 0 0) := by
  unfold mf_heatSet
  refine pw_bind (pw_mono (tk.aside hN) ?_)
  rintro ⟨⟨⟩, a⟩ ⟨t1, t2⟩
  dsimp only at t1 t2 ⊢
  refine pw_let ?_
  unfold ml_X6_heatSet_13
  refine pw_for (fun h q => q.1 = setS m t h ∧ q.2.1 = iI (h : Int) ∧ tk m q.2.2 ∧ (∀ j : Nat, j < 30 → q.2.2.1 1051 j = m.1 1051 j) ∧ q.2.2.1 2000 52 = iI t ∧ hwM m t q.2.2 h 0 0) 10 ?_ ?_ ⟨rfl, rfl, ?_, fun j hj => ?_, ?_, fun h k u _ _ q => by omega⟩
  · rintro h ⟨y1, y2, a'⟩ hh ⟨e1, e2, ht', hn', h52', hw'⟩
    dsimp only at e1 e2 ht' hn' h52' hw' ⊢
    subst e1; subst e2
    unfold mb_X6_heatSet_13
    refine pw_f (by rw [show (10 : Int32) = iI 10 from rfl, iI_le (by omega) (by omega)]; omega) (pw_let ?_)
    have v53 : mi (msI a' 2000 53 (iI (h : Int))) 2000 53 = h := by rw [mi_sI _ _ _ _ _ (by omega), if_pos ⟨rfl, rfl⟩]
    refine p_heat30 hR hM hN hc hkp hh h10 _ (ht'.mv (fun c j q => by rw [msI_i, if_neg (by omega)]) rfl (by omega)) ?_ (hw'.mv (fun j => by rw [msI_i, if_neg (by omega)])) (fun b f1 f2 f3 f4 => ⟨rfl, rfl, f1, f2, f3, f4⟩)
    intro c j q
    rw [msI_i]
    by_cases w : c = 2000 ∧ j = 53
    · rw [if_pos w, w.1, w.2]; rfl
    · rw [if_neg w]
      by_cases w2 : c = 2000 ∧ j = 52
      · rw [w2.1, w2.2, h52']; rfl
      · rw [heatM_o m t h (by omega)]
        by_cases w3 : c = 1051
        · subst w3
          exact hn' j (by unfold kyC at q; omega)
        · exact ht'.1 c j (by unfold kyC at q; unfold scM; omega)
  · rintro ⟨y1, y2, a'⟩ ⟨e1, e2, ht', hn', h52', hw'⟩
    dsimp only at e1 e2 ht' hn' h52' hw' ⊢
    subst e1; subst e2
    unfold mb_X6_heatSet_13
    refine pw_t (by decide) ?_
    refine pw_bind (pw_mono (pw_and (ht'.back h52 h56) (p_takesBack a')) ?_)
    rintro ⟨⟨⟩, b⟩ ⟨f1, g1, g2⟩
    dsimp only at f1 g1 g2 ⊢
    exact pw_some ⟨rfl, f1, hw'.mv (fun j => by rw [g1, if_neg (by omega), if_neg (by omega), if_neg (by omega)])⟩
  · refine ⟨fun c j k => ?_, fun c j k => t1.2.1 c j k, fun j hj => ?_, ?_, ?_⟩
    · show (msI a 2000 52 (iI t)).1 c j = _
      rw [msI_i, if_neg (by omega)]
      exact t1.1 c j k
    · show (msI a 2000 52 (iI t)).1 1052 j = _
      rw [msI_i, if_neg (by omega)]
      exact t1.2.2.1 j hj
    · show (msI a 2000 52 (iI t)).1 2000 56 ≠ _
      rw [msI_i, if_neg (by omega)]
      exact t1.2.2.2.1
    · show 0 ≤ mi (msI a 2000 52 (iI t)) 2000 53 ∧ mi (msI a 2000 52 (iI t)) 2000 53 ≤ 9
      have : mi (msI a 2000 52 (iI t)) 2000 53 = mi a 2000 53 := by unfold mi; rw [msI_i, if_neg (by omega)]
      rw [this]
      exact t1.2.2.2.2
  · show (msI a 2000 52 (iI t)).1 1051 j = _
    rw [msI_i, if_neg (by omega)]
    exact t2 _ _ (by unfold kyC; omega)
  · show (msI a 2000 52 (iI t)).1 2000 52 = _
    rw [msI_i, if_pos ⟨rfl, rfl⟩]
end HeatM
