/-! ===== the household query: what stays, what begins ===== -/
theorem sr_1011_6 : sr 1011 6 = 0 := by decide
/-- nothing that stands has changed below what is new -/
def upA (μ μ' : gM) : Prop := gZ μ ≤ gZ μ' ∧ ∀ c : Nat, c < gZ μ → gK μ' c = gK μ c ∧ gN μ' c = gN μ c ∧ ∀ j : Nat, (c ≠ 1011 → c ≠ 1012 → ¬ (c = 1000 ∧ j = 25) → gI μ' c j = gI μ c j) ∧ (c ≠ 1016 → gL μ' c j = gL μ c j) ∧ (¬ (c = 1011 ∧ j = 6) → gP μ' c j = gP μ c j)
theorem hpF.a {μ μ' : gM} (x : hpF (gZ μ) μ μ') : upA μ μ' := ⟨x.1, fun c hc => ⟨(x.2.2 c hc).1, (x.2.2 c hc).2.1, fun j => ⟨fun k1 k2 _ => ((x.2.2 c hc).2.2 j).1 k1 k2, fun _ => ((x.2.2 c hc).2.2 j).2.1, ((x.2.2 c hc).2.2 j).2.2⟩⟩⟩
theorem ks_1016 : ks 1016 = 105 := by decide
theorem upA.lo {μ μ' : gM} (h : upA μ μ') : loA (gZ μ) μ μ' := fun c k l => by
  obtain ⟨a1, a2, a3⟩ := h.2 c l
  have n1 : c ≠ 1011 := fun e => by rw [e, ks_1011] at k; cases k
  have n2 : c ≠ 1012 := fun e => by rw [e, ks_1012] at k; cases k
  have n3 : c ≠ 1000 := fun e => by rw [e, ks_1000] at k; cases k
  have n4 : c ≠ 1016 := fun e => by rw [e, ks_1016] at k; cases k
  exact ⟨a1, a2, fun j => ⟨(a3 j).1 n1 n2 (fun q => n3 q.1), (a3 j).2.1 n4, (a3 j).2.2 (fun q => n1 q.1)⟩⟩
theorem cLay.up {μ μ' : gM} (h : cLay μ) (hz : 2369 ≤ gZ μ) (x : upA μ μ') : cLay μ' := by
  intro c hc
  have lt : c < gZ μ := by
    rcases Nat.lt_or_ge c 2369 with q | q
    · omega
    · exact absurd (ks_hi q) hc
  obtain ⟨a1, a2, a3⟩ := h c hc
  obtain ⟨b1, b2, b3⟩ := x.2 c lt
  refine ⟨b1.trans a1, b2.trans a2, fun k hk => ?_⟩
  by_cases e : c = 1011 ∧ k = 6
  · rw [e.1, e.2, sr_1011_6] at hk
    exact absurd rfl hk
  · exact ((b3 k).2.2 e).trans (a3 k hk)
theorem rUnd.up {m : MM} {μ μ' : gM} (h : rUnd m μ) (hm : rMany m) (h52 : m.1 2000 52 = -1) (h53 : 0 ≤ mi m 2000 53 ∧ mi m 2000 53 ≤ 9) (hI : ∀ c j : Nat, c < 2369 → c ≠ 1011 → c ≠ 1012 → ¬ (c = 1000 ∧ j = 25) → gI μ' c j = gI μ c j) (hP : ∀ c j : Nat, c < 2369 → c ≠ 1011 → gP μ' c j = gP μ c j) : rUnd m μ' := by
  obtain ⟨n, p, b1, b2, b3, b4, b5, b6, b7⟩ := h
  have top : ∀ y : Nat, cSt y = true → 1448 ≤ y → y + 46 ≤ 2368 := by
    intro y h1 h2
    simp [cSt] at h1
    omega
  refine ⟨n, p, b1, b2, (hI _ _ (by omega) (by omega) (by omega) (by omega)).trans b3, b4, b5, fun i hi' => ?_, fun i hi' => ?_⟩
  · obtain ⟨c1, c2, c3, c4⟩ := b6 i hi'
    have ht := top _ c1 c2
    rw [hP 1447 i (by omega) (by omega)]
    refine ⟨c1, c2, c3.o (fun j => hP _ _ (by omega) (by omega)), fun j hj e => c4 j hj ?_⟩
    rw [hP 1447 j (by omega) (by omega)] at e
    exact e
  · obtain ⟨c1, c2, c3, c4⟩ := b6 i (by omega)
    obtain ⟨l, hl⟩ := b7 i hi'
    have ht := top _ c1 c2
    rw [hP 1447 i (by omega) (by omega)]
    exact ⟨l, hl.mv (rngM_many hm _) (hhE.refl _) (fun j => rfl) (fun t => rfl) h53 (fun c j x1 x2 => hI c j (by omega) (by omega) (by omega) (by omega)) (fun j => hP _ _ (by omega) (by omega))⟩
theorem rNm.up {m : MM} {μ μ' : gM} (h : rNm m μ) (x : upA μ μ') : rNm m μ' := by
  obtain ⟨h1, h2, h3, h4⟩ := h
  have e0 : gP μ' 1000 0 = gP μ 1000 0 := ((x.2 1000 (by omega)).2.2 0).2.2 (by omega)
  exact ⟨h1.lo x.lo (by omega), h2, by have := x.1; omega, fun μ2 a b => h4 μ2 (x.lo.trans (a.dn x.1)) (b.trans e0)⟩
theorem rWd.up {m : MM} {μ μ' : gM} (h : rWd m μ) (x : upA μ μ') : rWd m μ' := by
  obtain ⟨l, h1, h2, h3, h4, h5, h6⟩ := h
  have hz := h6.2.2.1
  have n' := h6.up x
  have hh := n'.2.2.2 μ' (loA.refl _ _) rfl
  have hI : ∀ c j : Nat, c < 2369 → c ≠ 1011 → c ≠ 1012 → ¬ (c = 1000 ∧ j = 25) → gI μ' c j = gI μ c j := fun c j a b d e => ((x.2 c (by omega)).2.2 j).1 b d e
  have hP : ∀ c j : Nat, c < 2369 → c ≠ 1011 → gP μ' c j = gP μ c j := fun c j a b => ((x.2 c (by omega)).2.2 j).2.2 (by omega)
  obtain ⟨q1, q2, q3, q4, q5, q6, q7, q8, q9, q10, q11, q12, q13⟩ := h1
  refine ⟨l, ⟨q1.up hz x, hh.1, hh.2.1, q4, q5, q6.sc q2.1 (fun _ => rfl) (fun _ _ => rfl) (fun _ => rfl) (fun c j a b => hI c j (by omega) (by omega) (by omega) (by omega)), q7, q8.sc (hI _ _ (by omega) (by omega) (by omega) (by omega)) (fun j => hP _ _ (by omega) (by omega)) (fun c j a b => hI c j (by omega) (by omega) (by omega) (by omega)), q9.o (fun j => hP _ _ (by omega) (by omega)), q10, q11, q12, q13⟩, fun a b ha hb => ?_, h3, ?_, h5.up q2.1 q12 q5.2.2.1 hI hP, n'⟩
  · unfold ci
    rw [hI (1019 + a) b (by omega) (by omega) (by omega) (by omega)]
    exact h2 a b ha hb
  · obtain ⟨r1, r2, r3⟩ := h4
    refine ⟨by rw [hI _ _ (by omega) (by omega) (by omega) (by omega)]; exact r1, r2, fun k hk => ?_⟩
    rw [hI 1123 _ (by omega) (by omega) (by omega) (by omega), hI 1124 _ (by omega) (by omega) (by omega) (by omega), hI 1125 _ (by omega) (by omega) (by omega) (by omega)]
    exact r3 k hk
theorem rWd.rd {m m' : MM} {μ : gM} (h : rWd m μ) (E : ∀ c j : Nat, ¬ rdX c j → m'.1 c j = m.1 c j) (EL : ∀ j : Nat, 16 ≤ j → m'.2 1039 j = m.2 1039 j) : rWd m' μ := by
  obtain ⟨l, h1, h2, h3, h4, h5, h6⟩ := h
  exact ⟨l, by rw [rd_Co E]; exact h1, by rw [rd_Way E]; exact h2, by rw [rd_t01 E]; exact h3, by rw [rd_Rows E]; exact h4, by rw [rd_Und E]; exact h5, rd_Nm E EL h6⟩
theorem rWd.rdk {m m' : MM} {μ μ' : gM} (h : rWd m μ) (E : ∀ c j : Nat, ¬ rdX c j → ¬ dkM c j → m'.1 c j = m.1 c j) (EL : ∀ j : Nat, 16 ≤ j → m'.2 1039 j = m.2 1039 j) (hc : cD μ μ') : rWd m' μ' := by
  have hA : mD m (fun c j => @ite Int32 (dkM c j) (Classical.propDecidable _) (m'.1 c j) (m.1 c j), m.2) := ⟨fun c j k => @if_neg _ (Classical.propDecidable _) k _ _ _, fun c j _ => rfl⟩
  refine (h.dk hA hc).rd (fun c j k => ?_) EL
  by_cases q : dkM c j
  · exact (@if_pos _ (Classical.propDecidable _) q Int32 (m'.1 c j) (m.1 c j)).symm
  · exact (E c j k q).trans (@if_neg _ (Classical.propDecidable _) q Int32 (m'.1 c j) (m.1 c j)).symm
/-! the component: what is begins -/
def bgF (μ μ' : gM) : Prop := μ'.1 = μ.1 ∧ μ'.2.1 = μ.2.1 ∧ μ'.2.2.2 = μ.2.2.2 ∧ ∀ c j : Nat, c ≠ 1027 → c ≠ 1028 → c ≠ 1030 → c ≠ 1031 → gI μ' c j = gI μ c j
theorem bgF.trans {a b c : gM} (h1 : bgF a b) (h2 : bgF b c) : bgF a c := ⟨h2.1.trans h1.1, h2.2.1.trans h1.2.1, h2.2.2.1.trans h1.2.2.1, fun x y k1 k2 k3 k4 => (h2.2.2.2 x y k1 k2 k3 k4).trans (h1.2.2.2 x y k1 k2 k3 k4)⟩
theorem bgF.sI {μ : gM} {c j : Nat} {v : Int32} (h : c = 1027 ∨ c = 1028 ∨ c = 1030 ∨ c = 1031) : bgF μ (gz_sI μ c j v) := ⟨rfl, rfl, rfl, fun c' j' k1 k2 k3 k4 => by rw [sI_i, if_neg (by omega)]⟩
theorem ks_bg : ks 1027 ≠ 0 ∧ ks 1028 ≠ 0 ∧ ks 1030 ≠ 0 ∧ ks 1031 ≠ 0 := by decide
theorem bgF.dy {μ μ' : gM} (h : bgF μ μ') : dyS μ μ' := by
  obtain ⟨h1, h2, h3, h4⟩ := h
  have hL : gL μ' = gL μ := congrArg Prod.fst h3
  have hP : gP μ' = gP μ := congrArg (fun z => z.2.1) h3
  have k := ks_bg
  exact ⟨h1, h2, congrArg (fun z => z.2.2) h3, fun c hc j => ⟨h4 c j (fun q => k.1 (q ▸ hc)) (fun q => k.2.1 (q ▸ hc)) (fun q => k.2.2.1 (q ▸ hc)) (fun q => k.2.2.2 (q ▸ hc)), by rw [hL], by rw [hP]⟩⟩
theorem bgF.P {μ μ' : gM} (h : bgF μ μ') (c j : Nat) : gP μ' c j = gP μ c j := congrFun (congrFun (congrArg (fun z => z.2.1) h.2.2.1) c) j
theorem c_begins {m : MM} {μ : gM} (h : rHH m μ) : pw (cf_X5_begins 1027 μ) (fun q => bgF μ q.2 ∧ gI q.2 1027 0 = 0 ∧ gI q.2 1027 1 = 0 ∧ gI q.2 1027 2 = gI μ (hC μ) 1 ∧ gI q.2 1027 3 = ((1 : Int32) <<< (iI (mi m 1038 9) &&& 31)) - 1 ∧ ∀ t : Nat, (t : Int) < mi m 1038 7 → gI q.2 1028 t = gI μ (thC μ t) 2 ∧ gI q.2 1030 t = 0 ∧ gI q.2 1031 t = gI μ (thC μ t) 3) := by
  have hb := h.1.2.1
  have k := ks_bg
  unfold cf_X5_begins
  refine pw_let (pw_let (pw_let ?_))
  have x2 : bgF μ (gz_sI (gz_sI μ 1027 0 0) 1027 1 0) := (bgF.sI (Or.inl rfl)).trans (bgF.sI (Or.inl rfl))
  have a0 : gI (gz_sI (gz_sI μ 1027 0 0) 1027 1 0) 1027 0 = 0 := by rw [sI_i, if_neg (by omega), sI_i, if_pos ⟨rfl, rfl⟩]
  have a1 : gI (gz_sI (gz_sI μ 1027 0 0) 1027 1 0) 1027 1 = 0 := by rw [sI_i, if_pos ⟨rfl, rfl⟩]
  generalize gz_sI (gz_sI μ 1027 0 0) 1027 1 0 = m2 at x2 a0 a1
  have h2 : rHH m m2 := h.mv (hhE.refl m) x2.dy (x2.P 1000 0)
  have eH : hC m2 = hC μ := x2.P 1000 0
  refine pw_gu h2.2.1.1 (pw_gu h2.2.1.2.2.1 (pw_let ?_))
  have eh1 : gI m2 (gP m2 1000 0) 1 = gI μ (hC μ) 1 := by
    rw [show gP m2 1000 0 = hC μ from eH]
    exact (x2.dy.2.2.2 _ h.2.1.2.1 1).1
  rw [eh1]
  have x6 : bgF m2 (gz_sI m2 1027 2 (gI μ (hC μ) 1)) := bgF.sI (Or.inl rfl)
  have h6 : rHH m (gz_sI m2 1027 2 (gI μ (hC μ) 1)) := h2.mv (hhE.refl m) x6.dy (x6.P 1000 0)
  rw [c_ties h6]
  refine pw_bind (pw_some (pw_let ?_))
  have X : bgF μ (gz_sI (gz_sI m2 1027 2 (gI μ (hC μ) 1)) 1027 3 ((1 : Int32) <<< (iI (mi m 1038 9) &&& 31) - 1)) := (x2.trans x6).trans (bgF.sI (Or.inl rfl))
  have b0 : gI (gz_sI (gz_sI m2 1027 2 (gI μ (hC μ) 1)) 1027 3 ((1 : Int32) <<< (iI (mi m 1038 9) &&& 31) - 1)) 1027 0 = 0 := by rw [sI_i, if_neg (by omega), sI_i, if_neg (by omega)]; exact a0
  have b1 : gI (gz_sI (gz_sI m2 1027 2 (gI μ (hC μ) 1)) 1027 3 ((1 : Int32) <<< (iI (mi m 1038 9) &&& 31) - 1)) 1027 1 = 0 := by rw [sI_i, if_neg (by omega), sI_i, if_neg (by omega)]; exact a1
  have b2 : gI (gz_sI (gz_sI m2 1027 2 (gI μ (hC μ) 1)) 1027 3 ((1 : Int32) <<< (iI (mi m 1038 9) &&& 31) - 1)) 1027 2 = gI μ (hC μ) 1 := by rw [sI_i, if_neg (by omega), sI_i, if_pos ⟨rfl, rfl⟩]
  have b3 : gI (gz_sI (gz_sI m2 1027 2 (gI μ (hC μ) 1)) 1027 3 ((1 : Int32) <<< (iI (mi m 1038 9) &&& 31) - 1)) 1027 3 = (1 : Int32) <<< (iI (mi m 1038 9) &&& 31) - 1 := by rw [sI_i, if_pos ⟨rfl, rfl⟩]
  generalize gz_sI (gz_sI m2 1027 2 (gI μ (hC μ) 1)) 1027 3 ((1 : Int32) <<< (iI (mi m 1038 9) &&& 31) - 1) = m10 at X b0 b1 b2 b3
  unfold ml_X5_begins_41
  refine pw_for (fun (i : Nat) (q : Int32 × gM) => q.1 = iI i ∧ bgF μ q.2 ∧ (gI q.2 1027 0 = 0 ∧ gI q.2 1027 1 = 0 ∧ gI q.2 1027 2 = gI μ (hC μ) 1 ∧ gI q.2 1027 3 = (1 : Int32) <<< (iI (mi m 1038 9) &&& 31) - 1) ∧ ∀ t : Nat, t < i → gI q.2 1028 t = gI μ (thC μ t) 2 ∧ gI q.2 1030 t = 0 ∧ gI q.2 1031 t = gI μ (thC μ t) 3) (mi m 1038 7).toNat ?_ ?_ ⟨rfl, X, ⟨b0, b1, b2, b3⟩, fun t ht => absurd ht (Nat.not_lt_zero _)⟩
  · rintro i ⟨q1, m3⟩ hi ⟨e, x3, c1, c2⟩
    dsimp only at e x3 c1 c2 ⊢
    subst e
    have h3 : rHH m m3 := h.mv (hhE.refl m) x3.dy (x3.P 1000 0)
    have gi : gz_ix (iI (i : Int)) = i := by rw [gix (by omega)]; omega
    have n8 : gz_in (iI (i : Int)) 8 := (gin_iI (by omega)).2 (by omega)
    have hti : (i : Int) < mi m 1038 7 := by omega
    -- where the thing lies
    have et : ∀ m' : gM, bgF μ m' → thC m' i = thC μ i ∧ gI m' (thC μ i) 2 = gI μ (thC μ i) 2 ∧ gI m' (thC μ i) 3 = gI μ (thC μ i) 3 ∧ gK m' (thC μ i) = 9 := fun m' x => by
      have e0 : hC m' = hC μ := x.P 1000 0
      have e1 : thC m' i = thC μ i := by unfold thC el; rw [e0, x.P, x.P, x.P]
      have hks : ks (thC μ i) = 0 := (h.2.1.2.2.2.2.2.1.2.2.2.2.2.2.2.2 i hti).2
      have h9 := (h.2.2.1 i hti).1
      exact ⟨e1, (x.dy.2.2.2 _ hks 2).1, (x.dy.2.2.2 _ hks 3).1, (congrFun x.1 _).trans h9⟩
    obtain ⟨t1, t2, t3, t4⟩ := et m3 x3
    unfold mb_X5_begins_41
    rw [c_things h3]
    refine pw_bind (pw_some (pw_f (by rw [iI_le (by omega) (by omega)]; omega) ?_))
    rw [c_thingOf h3 hti, t1]
    refine pw_bind (pw_some (pw_gu t4 (pw_gu n8 (pw_let (pw_gu n8 (pw_let ?_))))))
    dsimp only
    rw [gi, t2]
    have x12 : bgF μ (gz_sI (gz_sI m3 (1027 + 1) i (gI μ (thC μ i) 2)) (1027 + 3) i 0) := (x3.trans (bgF.sI (by omega))).trans (bgF.sI (by omega))
    have h12 : rHH m (gz_sI (gz_sI m3 (1027 + 1) i (gI μ (thC μ i) 2)) (1027 + 3) i 0) := h.mv (hhE.refl m) x12.dy (x12.P 1000 0)
    obtain ⟨u1, u2, u3, u4⟩ := et _ x12
    rw [c_thingOf h12 hti, u1]
    refine pw_bind (pw_some (pw_gu u4 (pw_gu n8 (pw_let (pw_let (pw_some ?_))))))
    dsimp only
    rw [u3, show iI (i : Int) + 1 = iI ((i + 1 : Nat) : Int) by rw [show (1 : Int32) = iI 1 from rfl, iI_add]; rfl]
    refine ⟨rfl, x12.trans (bgF.sI (by omega)), ⟨?_, ?_, ?_, ?_⟩, fun t ht => ⟨?_, ?_, ?_⟩⟩
    · rw [sI_i, if_neg (by omega), sI_i, if_neg (by omega), sI_i, if_neg (by omega)]; exact c1.1
    · rw [sI_i, if_neg (by omega), sI_i, if_neg (by omega), sI_i, if_neg (by omega)]; exact c1.2.1
    · rw [sI_i, if_neg (by omega), sI_i, if_neg (by omega), sI_i, if_neg (by omega)]; exact c1.2.2.1
    · rw [sI_i, if_neg (by omega), sI_i, if_neg (by omega), sI_i, if_neg (by omega)]; exact c1.2.2.2
    · rw [sI_i, if_neg (by omega), sI_i, if_neg (by omega), sI_i]
      by_cases e : t = i
      · rw [if_pos ⟨rfl, e⟩, e]
      · rw [if_neg (fun q => e q.2)]; exact (c2 t (by omega)).1
    · rw [sI_i, if_neg (by omega), sI_i]
      by_cases e : t = i
      · rw [if_pos ⟨rfl, e⟩]
      · rw [if_neg (fun q => e q.2), sI_i, if_neg (by omega)]; exact (c2 t (by omega)).2.1
    · rw [sI_i]
      by_cases e : t = i
      · rw [if_pos ⟨rfl, e⟩, e]
      · rw [if_neg (fun q => e q.2), sI_i, if_neg (by omega), sI_i, if_neg (by omega)]; exact (c2 t (by omega)).2.2
  · rintro ⟨q1, m3⟩ ⟨e, x3, c1, c2⟩
    dsimp only at e x3 c1 c2 ⊢
    subst e
    have h3 : rHH m m3 := h.mv (hhE.refl m) x3.dy (x3.P 1000 0)
    unfold mb_X5_begins_41
    rw [c_things h3]
    exact pw_bind (pw_some (pw_t (by rw [iI_le (by omega) (by omega)]; omega) (pw_some ⟨x3, c1.1, c1.2.1, c1.2.2.1, c1.2.2.2, fun t ht => c2 t (by omega)⟩)))
