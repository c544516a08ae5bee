/-! ===== a question is read ===== -/
def kdW (k : Nat) : List Int := (wds.getD (25 + k) (0, [])).2
theorem kd_in : ∀ k : Nat, k < 6 → (1072 + k, kdW k) ∈ wds ∧ sWd (cTOLD.getD k 0) = kdW k ∧ 1 ≤ (kdW k).length ∧ (kdW k).length ≤ 5 := by decide +kernel
theorem told_mem : ∀ c ∈ cTOLD, c ∈ cOWN ++ cASKED ++ cLOOKED ++ cTOLD := by decide +kernel
theorem kd_inj : ∀ i : Nat, i < 6 → ∀ j : Nat, j < 6 → kdW i = kdW j → i = j := by decide +kernel
def kdF (T : Nat → Int) (n p : Nat) : Nat → Nat
  | 0 => 6
  | k + 1 => if isW T n p (kdW (5 - k)) then 5 - k else kdF T n p k
/-- which question; 6: none -/
def kdK (T : Nat → Int) (n p : Nat) : Nat := kdF T n p 6
theorem kdK_of {T : Nat → Int} {n p k : Nat} (hk : k < 6) (h : isW T n p (kdW k)) : kdK T n p = k := by
  have no : ∀ j : Nat, j < 6 → j ≠ k → ¬ isW T n p (kdW j) := fun j hj hne q => hne (kd_inj j hj k hk (isW_inj q h))
  unfold kdK
  obtain e | e | e | e | e | e : k = 0 ∨ k = 1 ∨ k = 2 ∨ k = 3 ∨ k = 4 ∨ k = 5 := by omega
  all_goals subst e
  · show (if isW T n p (kdW 0) then 0 else _) = 0
    rw [if_pos h]
  · show (if isW T n p (kdW 0) then 0 else if isW T n p (kdW 1) then 1 else _) = 1
    rw [if_neg (no 0 (by omega) (by omega)), if_pos h]
  · show (if isW T n p (kdW 0) then 0 else if isW T n p (kdW 1) then 1 else if isW T n p (kdW 2) then 2 else _) = 2
    rw [if_neg (no 0 (by omega) (by omega)), if_neg (no 1 (by omega) (by omega)), if_pos h]
  · show (if isW T n p (kdW 0) then 0 else if isW T n p (kdW 1) then 1 else if isW T n p (kdW 2) then 2 else if isW T n p (kdW 3) then 3 else _) = 3
    rw [if_neg (no 0 (by omega) (by omega)), if_neg (no 1 (by omega) (by omega)), if_neg (no 2 (by omega) (by omega)), if_pos h]
  · show (if isW T n p (kdW 0) then 0 else if isW T n p (kdW 1) then 1 else if isW T n p (kdW 2) then 2 else if isW T n p (kdW 3) then 3 else if isW T n p (kdW 4) then 4 else _) = 4
    rw [if_neg (no 0 (by omega) (by omega)), if_neg (no 1 (by omega) (by omega)), if_neg (no 2 (by omega) (by omega)), if_neg (no 3 (by omega) (by omega)), if_pos h]
  · show (if isW T n p (kdW 0) then 0 else if isW T n p (kdW 1) then 1 else if isW T n p (kdW 2) then 2 else if isW T n p (kdW 3) then 3 else if isW T n p (kdW 4) then 4 else if isW T n p (kdW 5) then 5 else _) = 5
    rw [if_neg (no 0 (by omega) (by omega)), if_neg (no 1 (by omega) (by omega)), if_neg (no 2 (by omega) (by omega)), if_neg (no 3 (by omega) (by omega)), if_neg (no 4 (by omega) (by omega)), if_pos h]
theorem kdK_no {T : Nat → Int} {n p : Nat} (no : ∀ k : Nat, k < 6 → ¬ isW T n p (kdW k)) : kdK T n p = 6 := by
  unfold kdK
  show (if isW T n p (kdW 0) then 0 else if isW T n p (kdW 1) then 1 else if isW T n p (kdW 2) then 2 else if isW T n p (kdW 3) then 3 else if isW T n p (kdW 4) then 4 else if isW T n p (kdW 5) then 5 else 6) = 6
  rw [if_neg (no 0 (by omega)), if_neg (no 1 (by omega)), if_neg (no 2 (by omega)), if_neg (no 3 (by omega)), if_neg (no 4 (by omega)), if_neg (no 5 (by omega))]
/-- the question: which, and its codes -/
def sAsk (T : Nat → Int) (n : Nat) : Rs (Nat × List Int) :=
  if 6 ≤ kdK T n (skp T n 0) then Sum.inl (1, skp T n 0) else
  rB (if kdK T n (skp T n 0) < 3 then sTest T n (sF T n true 8) 0 (skp T n (skp T n 0 + (kdW (kdK T n (skp T n 0))).length)) else sSum T n (sA T n true 8) 0 (skp T n (skp T n 0 + (kdW (kdK T n (skp T n 0))).length))) fun p2 cs => if T p2 = -1 then Sum.inr (p2, (kdK T n (skp T n 0), cs)) else Sum.inl (1, p2)
section AskM
variable {T : Nat → Int} {n : Nat} {m : MM}
theorem p_qKind {p : Nat} (hL : lxM T n m) (g : gd T n m p) : pw (mf_qKind m) (fun q => xF m q.2 ∧ ((kdK T n p < 6 ∧ q.1 = iI (kdK T n p : Int) ∧ gd T n q.2 (skp T n (p + (kdW (kdK T n p)).length))) ∨ (kdK T n p = 6 ∧ q.1 = 5 ∧ bd q.2 1 p))) := by
  unfold mf_qKind
  have yes : ∀ (k : Nat) (m2 : MM), k < 5 → isW T n p (kdW k) → xF m m2 → gd T n m2 (skp T n (p + (kdW k).length)) → pw (mj_X6_qKind_76 (iI k) m2) (fun q => xF m q.2 ∧ ((kdK T n p < 6 ∧ q.1 = iI (kdK T n p : Int) ∧ gd T n q.2 (skp T n (p + (kdW (kdK T n p)).length))) ∨ (kdK T n p = 6 ∧ q.1 = 5 ∧ bd q.2 1 p))) := fun k m2 hk hw x g => by
    unfold mj_X6_qKind_76 mj_X6_qKind_90
    have e := kdK_of (by omega) hw
    refine pw_f (by rw [show (5 : Int32) = iI 5 from rfl, iI_eq (by omega) (by omega)]; omega) (pw_some ⟨x, Or.inl ⟨by omega, by rw [e], by rw [e]; exact g⟩⟩)
  refine pw_bind (pw_mono (p_takes hL g (kd_in 0 (by omega)).1) ?_)
  rintro ⟨r0, m0⟩ ⟨x0, h0⟩
  dsimp only at x0 h0 ⊢
  rcases h0 with ⟨w0, e, g0⟩ | ⟨w0, e, g0⟩
  · subst e; exact pw_f n10 (yes 0 m0 (by omega) w0 x0 g0)
  subst e
  refine pw_t rfl (pw_bind (pw_mono (p_takes (hL.x x0) g0.gd (kd_in 1 (by omega)).1) ?_))
  rintro ⟨r1, m1⟩ ⟨x1, h1⟩
  dsimp only at x1 h1 ⊢
  replace x1 := x0.trans x1
  rcases h1 with ⟨w1, e, g1⟩ | ⟨w1, e, g1⟩
  · subst e; exact pw_f n10 (yes 1 m1 (by omega) w1 x1 g1)
  subst e
  refine pw_t rfl (pw_bind (pw_mono (p_takes (hL.x x1) g1.gd (kd_in 2 (by omega)).1) ?_))
  rintro ⟨r2, m2⟩ ⟨x2, h2⟩
  dsimp only at x2 h2 ⊢
  replace x2 := x1.trans x2
  rcases h2 with ⟨w2, e, g2⟩ | ⟨w2, e, g2⟩
  · subst e; exact pw_f n10 (yes 2 m2 (by omega) w2 x2 g2)
  subst e
  refine pw_t rfl (pw_bind (pw_mono (p_takes (hL.x x2) g2.gd (kd_in 3 (by omega)).1) ?_))
  rintro ⟨r3, m3⟩ ⟨x3, h3⟩
  dsimp only at x3 h3 ⊢
  replace x3 := x2.trans x3
  rcases h3 with ⟨w3, e, g3⟩ | ⟨w3, e, g3⟩
  · subst e; exact pw_f n10 (yes 3 m3 (by omega) w3 x3 g3)
  subst e
  refine pw_t rfl (pw_bind (pw_mono (p_takes (hL.x x3) g3.gd (kd_in 4 (by omega)).1) ?_))
  rintro ⟨r4, m4⟩ ⟨x4, h4⟩
  dsimp only at x4 h4 ⊢
  replace x4 := x3.trans x4
  rcases h4 with ⟨w4, e, g4⟩ | ⟨w4, e, g4⟩
  · subst e; exact pw_f n10 (yes 4 m4 (by omega) w4 x4 g4)
  subst e
  refine pw_t rfl ?_
  unfold mj_X6_qKind_76 mj_X6_qKind_90
  refine pw_t rfl (pw_bind (pw_mono (p_asks (hL.x x4) g4.gd (kd_in 5 (by omega)).1) ?_))
  rintro ⟨u, m5⟩ ⟨x5, h5⟩
  dsimp only at x5 h5 ⊢
  replace x5 := x4.trans x5
  rcases h5 with ⟨w5, g5⟩ | ⟨w5, b5⟩
  · have e := kdK_of (k := 5) (by omega) w5
    exact pw_some ⟨x5, Or.inl ⟨by omega, by rw [e]; rfl, by rw [e]; exact g5⟩⟩
  · refine pw_some ⟨x5, Or.inr ⟨kdK_no (fun k hk => ?_), rfl, b5⟩⟩
    obtain e | e | e | e | e | e : k = 0 ∨ k = 1 ∨ k = 2 ∨ k = 3 ∨ k = 4 ∨ k = 5 := by omega
    all_goals subst e; assumption
/-- up to the answer -/
theorem p_askR {Q : Int64 × MM → Prop} {N : Nat} (hN : m.1 2000 1 = iI N) (hT : tOK T N) (hT2 : ∀ k : Nat, k < N → m.1 1001 k = iI (T k)) (hw : wdOK m) (hG : ∀ (m' : MM) (p2 k : Nat) (cs : List Int), sAsk T N = Sum.inr (p2, (k, cs)) → k < 6 → (∀ c j : Nat, ¬ rdX c j → ¬ (c = 2000 ∧ j = 1) → m'.1 c j = m.1 c j) → m'.2 = m.2 → m'.1 2000 1 = 0 → m'.1 2000 5 = 0 → m'.1 2000 6 = -1 → eS m' (cs.reverse ++ []) [] 0 0 true → cs.length ≤ N → pw (mj_X6_ask_117 (iI k) m') Q) (hB : ∀ (m' : MM) (k : Int) (l : Nat) (x : Int32), sAsk T N = Sum.inl (k, l) → (∀ c j : Nat, ¬ rdX c j → ¬ (c = 2000 ∧ j = 1) → m'.1 c j = m.1 c j) → m'.2 = m.2 → m'.1 2000 1 = 0 → bd m' k l → pw (mj_X6_ask_117 x m') Q) : pw (mf_ask m) Q := by
  have hn := hT.1
  unfold mf_ask
  refine pw_let (pw_let (pw_let (pw_let (pw_let (pw_let (pw_let (pw_let (pw_let (pw_let (pw_let ?_))))))))))
  rw [hN]
  generalize hM : msI (msI (msI (msI (msI (msI (msI (msI (msI (msI (msI m 2000 3 (iI N)) 2000 1 0) 2000 2 0) 2000 4 (-1)) 2000 5 0) 2000 6 (-1)) 2000 48 3) 2000 93 0) 2000 95 0) 2000 96 0) 2000 97 0 = mA
  have F : ∀ c j : Nat, ¬ (c = 2000 ∧ (j = 3 ∨ j = 1 ∨ j = 2 ∨ j = 4 ∨ j = 5 ∨ j = 6 ∨ j = 48 ∨ j = 93 ∨ j = 95 ∨ j = 96 ∨ j = 97)) → mA.1 c j = m.1 c j := fun c j k => by
    rw [← hM, msI_i, if_neg (by omega), msI_i, if_neg (by omega), msI_i, if_neg (by omega), msI_i, if_neg (by omega), msI_i, if_neg (by omega), msI_i, if_neg (by omega), msI_i, if_neg (by omega), msI_i, if_neg (by omega), msI_i, if_neg (by omega), msI_i, if_neg (by omega), msI_i, if_neg (by omega)]
  have V : mA.1 2000 3 = iI N ∧ mA.1 2000 1 = 0 ∧ mA.1 2000 2 = iI 0 ∧ mA.1 2000 4 = iI (-1) ∧ mA.1 2000 5 = 0 ∧ mA.1 2000 6 = -1 ∧ mA.1 2000 48 = 3 ∧ mA.1 2000 93 = iI 0 ∧ mA.1 2000 95 = iI 0 ∧ mA.1 2000 96 = iI 0 ∧ mA.1 2000 97 = iI 0 := by
    rw [← hM]
    exact ⟨rfl, rfl, rfl, by show (-1 : Int32) = iI (-1); decide, rfl, rfl, rfl, rfl, rfl, rfl, rfl⟩
  have LA : mA.2 = m.2 := by rw [← hM]; rfl
  clear hM
  obtain ⟨v3, v1, v2, v4, v5, v6, v48, v93, v95, v96, v97⟩ := V
  have hL : lxM T N mA := ⟨hT, fun k hk => (F _ _ (by omega)).trans (hT2 k hk), v3, hw.mv (fun c j a b k => F c j (by omega))⟩
  have g : gd T N mA (skp T N 0) := ⟨0, ⟨v5, v2, Nat.zero_le _, -1, v4, by omega, Or.inr ⟨by omega, fun q => absurd q.1 (Nat.lt_irrefl _)⟩⟩, rfl⟩
  have hE : eS mA [] [] 0 0 true := ⟨True.intro, v93, True.intro, v95, v96, v97, v48⟩
  have fr : ∀ m' : MM, qF mA m' → (∀ c j : Nat, ¬ rdX c j → ¬ (c = 2000 ∧ j = 1) → m'.1 c j = m.1 c j) ∧ m'.2 = m.2 ∧ m'.1 2000 1 = 0 := fun m' x => by
    refine ⟨fun c j k1 k2 => ?_, x.2.trans LA, (x.1 2000 1 (Or.inl (by unfold qX xK; omega))).trans v1⟩
    unfold rdX at k1
    rw [x.1 c j (Or.inl (by unfold qX xK; omega))]
    exact F c j (by omega)
  have bad : ∀ (m' : MM) (k : Int) (l : Nat) (x : Int32), sAsk T N = Sum.inl (k, l) → qF mA m' → bd m' k l → pw (mj_X6_ask_93 x m') Q := fun m' k l x es f b => by
    unfold mj_X6_ask_93
    obtain ⟨f1, f2, f3⟩ := fr m' f
    exact pw_f b.ne (hB m' k l x es f1 f2 f3 b)
  refine pw_bind (pw_mono (p_qKind hL g) ?_)
  rintro ⟨r, m1⟩ ⟨x1, h1⟩
  dsimp only at x1 h1 ⊢
  rcases h1 with ⟨hk, e, g1⟩ | ⟨hk, e, b1⟩
  rotate_left
  · subst e
    have es : sAsk T N = Sum.inl (1, skp T N 0) := by unfold sAsk; rw [if_pos (by omega)]
    refine pw_f b1.ne ?_
    unfold mj_X6_ask_82
    exact pw_f b1.ne (bad m1 1 _ 5 es x1.q b1)
  subst e
  have hE1 := hE.x x1
  have hL1 := hL.x x1
  have es : sAsk T N = rB (if kdK T N (skp T N 0) < 3 then sTest T N (sF T N true 8) 0 (skp T N (skp T N 0 + (kdW (kdK T N (skp T N 0))).length)) else sSum T N (sA T N true 8) 0 (skp T N (skp T N 0 + (kdW (kdK T N (skp T N 0))).length))) fun p2 cs => if T p2 = -1 then Sum.inr (p2, (kdK T N (skp T N 0), cs)) else Sum.inl (1, p2) := by unfold sAsk; rw [if_neg (by omega)]
  have hp1 := g1.le hT
  have after : ∀ (m2 : MM) (s : Rs (List Int)), qF mA m2 → sAsk T N = rB s (fun p2 cs => if T p2 = -1 then Sum.inr (p2, (kdK T N (skp T N 0), cs)) else Sum.inl (1, p2)) → ((∃ (p' : Nat) (cs : List Int), s = Sum.inr (p', cs) ∧ cs.length ≤ N ∧ gd T N m2 p' ∧ eS m2 (cs.reverse ++ []) [] 0 0 true) ∨ ∃ (k : Int) (l : Nat), s = Sum.inl (k, l) ∧ bd m2 k l) → pw (mj_X6_ask_93 (iI (kdK T N (skp T N 0) : Int)) m2) Q := fun m2 s f es h2 => by
    rcases h2 with ⟨p', cs, e1, hl, g2, e2⟩ | ⟨k, l, e1, b⟩
    · unfold mj_X6_ask_93
      refine pw_t g2.z (pw_bind (pw_mono (p_look (hL.q f) g2) ?_))
      rintro ⟨r3, m3⟩ ⟨e3, x3, g3⟩
      dsimp only at e3 x3 g3 ⊢
      subst e3
      have hr := hT.r p'
      have f3 := f.trans x3.q
      obtain ⟨k1, k2, k3⟩ := fr m3 f3
      refine pw_if (fun q => ?_) (fun q => ?_)
      · rw [show (-1 : Int32) = iI (-1) by decide, iI_eq (by omega) (by omega)] at q
        exact hG m3 p' _ cs (by rw [es, rB_r e1, if_pos q]) hk k1 k2 k3 g3.1.1 ((f3.1 2000 6 (Or.inr ⟨rfl, Or.inr rfl, g3.1.1⟩)).trans v6) (e2.x x3) hl
      · rw [show (-1 : Int32) = iI (-1) by decide, iI_eq (by omega) (by omega)] at q
        rw [g3.1.2.1]
        refine pw_bind (pw_mono (p_fail g3.1.1 (k := 1) (by omega) p') ?_)
        rintro ⟨⟨⟩, m4⟩ ⟨b1, b2⟩
        obtain ⟨k1, k2, k3⟩ := fr m4 (f3.trans b2.q)
        exact hB m4 1 p' _ (by rw [es, rB_r e1, if_neg q]) k1 k2 k3 b1
    · exact bad m2 k l _ (by rw [es, rB_l e1]) f b
  refine pw_t g1.z ?_
  by_cases q : kdK T N (skp T N 0) < 3
  · rw [if_pos q] at es
    refine pw_f (by rw [show (3 : Int32) = iI 3 from rfl, iI_le (by omega) (by omega)]; omega) (pw_bind (pw_mono (p_qTest (ask := true) hT hL1 g1 hE1 (Nat.zero_le _) (by omega)) ?_))
    rintro ⟨⟨⟩, m2⟩ ⟨f2, h2⟩
    dsimp only at f2 h2 ⊢
    refine after m2 _ (x1.q.trans f2) es ?_
    rcases h2 with ⟨p', cs, e1, g2, e2⟩ | ⟨k, l, e1, b⟩
    · have a := (sTest_ok hT (sF_ok (ask := true) hT 8) 0 _ hp1.1 hp1.2).get e1
      exact Or.inl ⟨p', cs, e1, by omega, g2, e2⟩
    · exact Or.inr ⟨k, l, e1, b⟩
  · rw [if_neg q] at es
    refine pw_t (by rw [show (3 : Int32) = iI 3 from rfl, iI_le (by omega) (by omega)]; omega) ?_
    unfold mj_X6_ask_82
    refine pw_t g1.z (pw_bind (pw_mono (p_qSums (ask := true) hT hL1 g1 hE1 (Nat.zero_le _) (by omega) (by omega) (fun x hx => absurd hx List.not_mem_nil) ⟨rfl, rfl, rfl, rfl⟩) ?_))
    rintro ⟨⟨⟩, m2⟩ ⟨f2, h2⟩
    dsimp only at f2 h2 ⊢
    refine after m2 _ (x1.q.trans f2) es ?_
    rcases h2 with ⟨p', cs, e1, g2, e2⟩ | ⟨k, l, e1, b⟩
    · have a := (sSum_ok hT (sA_ok (ask := true) hT 8) 0 _ hp1.1 hp1.2).get e1
      exact Or.inl ⟨p', cs, e1, by omega, g2, e2⟩
    · exact Or.inr ⟨k, l, e1, b.1⟩
end AskM
