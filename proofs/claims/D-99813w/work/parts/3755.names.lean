/-! ===== names: the model's words, the component's strings, what is told of the household ===== -/
def wds : List (Nat × List Int) := [
  (1012, [104, 97, 108, 108]), (1013, [100, 111, 111, 114]), (1014, [116, 111]), (1015, [115, 116, 101, 112, 115]), (1016, [116, 104, 105, 110, 103]), (1017, [105, 110]),
  (1018, [98, 117, 114, 110, 115]), (1019, [104, 101, 97, 116]), (1020, [116, 105, 101]), (1021, [115, 116, 97, 114, 116, 115]), (1022, [109, 105, 110, 100, 115]), (1023, [100, 114, 97, 117, 103, 104, 116]),
  (1024, [115, 116, 114, 101, 110, 103, 116, 104]), (1025, [110, 101, 97, 114]), (1026, [104, 111, 117, 114]), (1027, [115, 109, 101, 108, 108]), (1028, [110, 117, 109, 98, 101, 114]), (1029, [112, 108, 97, 99, 101]),
  (1030, [101, 110, 100, 115]), (1031, [111, 114]), (1032, [97, 110, 100]), (1033, [110, 111, 116]), (1034, [97, 108, 108]), (1035, [109, 105, 110]), (1036, [109, 97, 120]),
  (1072, [102, 105, 114, 115, 116]), (1073, [108, 97, 115, 116]), (1074, [111, 102, 116, 101, 110]), (1075, [116, 111, 116, 97, 108]), (1076, [109, 111, 115, 116]), (1077, [108, 101, 97, 115, 116]),
  (1078, [110, 111, 116]), (1079, [97, 110, 100]), (1080, [111, 114]), (1081, [97, 108, 108]), (1082, [109, 105, 110]), (1083, [109, 97, 120]),
  (1084, [115, 116, 114, 101, 110, 103, 116, 104]), (1085, [104, 101, 97, 116]), (1086, [110, 101, 97, 114]), (1087, [104, 111, 117, 114]), (1088, [110, 117, 109, 98, 101, 114]), (1089, [112, 108, 97, 99, 101]), (1090, [115, 109, 101, 108, 108]), (1091, [101, 110, 100, 115]), (1092, [115, 116, 101, 112, 115])]
def wdOK (m : MM) : Prop := ∀ x ∈ wds, ∀ j : Nat, j < x.2.length → m.1 x.1 j = iI (x.2.getD j 0)
theorem wds_n : wds.all (fun x => nM x.1 == x.2.length && Nat.ble x.2.length 8 && Nat.ble 2 x.2.length && x.2.all (fun c => decide (97 ≤ c ∧ c ≤ 122))) = true := by decide +kernel
theorem wds_of {x : Nat × List Int} (h : x ∈ wds) : nM x.1 = x.2.length ∧ x.2.length ≤ 8 ∧ 2 ≤ x.2.length ∧ ∀ j : Nat, j < x.2.length → 97 ≤ x.2.getD j 0 ∧ x.2.getD j 0 ≤ 122 := by
  have a := List.all_eq_true.mp wds_n x h
  simp only [Bool.and_eq_true, beq_iff_eq, Nat.ble_eq, List.all_eq_true, decide_eq_true_eq] at a
  obtain ⟨⟨⟨a1, a2⟩, a3⟩, a4⟩ := a
  refine ⟨a1, a2, a3, fun j hj => ?_⟩
  rw [List.getD_eq_getElem?_getD, List.getElem?_eq_getElem hj, Option.getD_some]
  exact a4 _ (List.getElem_mem hj)
theorem wdOK.mv {m m' : MM} (h : wdOK m) (hm : ∀ c j : Nat, 1012 ≤ c → c ≤ 1092 → ¬ (1037 ≤ c ∧ c ≤ 1071) → m'.1 c j = m.1 c j) : wdOK m' := fun x hx j hj => by
  have : wds.all (fun x => Nat.ble 1012 x.1 && Nat.ble x.1 1092 && !(Nat.ble 1037 x.1 && Nat.ble x.1 1071)) = true := by decide +kernel
  have a := List.all_eq_true.mp this x hx
  simp only [Bool.and_eq_true, Nat.ble_eq, Bool.not_eq_true', Bool.and_eq_false_iff] at a
  rw [hm _ _ a.1.1 a.1.2 (fun z => ?_)]
  · exact h x hx j hj
  · rcases a.2 with b | b
    · rw [Nat.ble_eq_true_of_le z.1] at b; cases b
    · rw [Nat.ble_eq_true_of_le z.2] at b; cases b
/-- a string of plain signs -/
def strR (μ : gM) (s : Nat) (w : List Int) : Prop := (s ≠ 0 ∧ ks s = 0 ∧ gK μ s = 22 ∧ gI μ s 1 = 0) ∧ (gP μ s 0 ≠ 0 ∧ ks (gP μ s 0) = 0 ∧ gK μ (gP μ s 0) = 102 ∧ gN μ (gP μ s 0) = w.length) ∧ w.length ≤ 1600 ∧ ∀ i : Nat, i < w.length → gI μ (gP μ s 0) i = iI (w.getD i 0) ∧ 0 ≤ w.getD i 0 ∧ w.getD i 0 < 128
def sTab : List (Nat × List Int) := [(100, [115, 116, 114, 101, 110, 103, 116, 104]), (102, [104, 101, 97, 116]), (104, [110, 101, 97, 114]), (106, [104, 111, 117, 114]), (108, [115, 109, 101, 108, 108]), (110, [110, 117, 109, 98, 101, 114]), (112, [112, 108, 97, 99, 101]), (114, [101, 110, 100, 115]), (116, [115, 116, 101, 112, 115]), (118, [102, 105, 114, 115, 116]), (120, [108, 97, 115, 116]), (122, [111, 102, 116, 101, 110]), (124, [116, 111, 116, 97, 108]), (126, [109, 111, 115, 116]), (128, [108, 101, 97, 115, 116]), (130, [104, 97, 108, 108]), (132, [100, 111, 111, 114]), (134, [116, 111]), (136, [116, 104, 105, 110, 103]), (138, [105, 110]), (140, [98, 117, 114, 110, 115]), (142, [116, 105, 101]), (144, [115, 116, 97, 114, 116, 115]), (146, [109, 105, 110, 100, 115]), (148, [100, 114, 97, 117, 103, 104, 116]), (150, [111, 114]), (152, [97, 110, 100]), (154, [110, 111, 116]), (156, [97, 108, 108]), (158, [109, 105, 110]), (160, [109, 97, 120])]
def cOWN : List Nat := [130, 132, 134, 116, 136, 138, 140, 102, 142, 144, 146, 148, 100, 104, 106, 108, 110, 112, 114, 150, 152, 154, 156, 158, 160]
def cASKED : List Nat := [100, 102, 104, 106, 108, 110, 112]
def cLOOKED : List Nat := [114, 116]
def cTOLD : List Nat := [118, 120, 122, 124, 126, 128]
def arrR (μ : gM) (a : Nat) (L : List Nat) : Prop := gK μ a = 107 ∧ gN μ a = L.length ∧ ∀ i : Nat, i < L.length → gP μ a i = L.getD i 0
/-- the component's words -/
def srOK (μ : gM) : Prop := (∀ x ∈ sTab, strR μ x.1 x.2 ∧ gP μ x.1 0 < 1000) ∧ arrR μ 10 cOWN ∧ arrR μ 11 cASKED ∧ arrR μ 12 cLOOKED ∧ arrR μ 13 cTOLD
/-- what lies below z is as it was -/
def loA (z : Nat) (μ μ' : gM) : Prop := ∀ c : Nat, ks c = 0 → c < z → gK μ' c = gK μ c ∧ gN μ' c = gN μ c ∧ ∀ j : Nat, gI μ' c j = gI μ c j ∧ gL μ' c j = gL μ c j ∧ gP μ' c j = gP μ c j
theorem loA.refl (z : Nat) (μ : gM) : loA z μ μ := fun _ _ _ => ⟨rfl, rfl, fun _ => ⟨rfl, rfl, rfl⟩⟩
theorem loA.trans {z : Nat} {a b c : gM} (h1 : loA z a b) (h2 : loA z b c) : loA z a c := fun d k l => ⟨(h2 d k l).1.trans (h1 d k l).1, (h2 d k l).2.1.trans (h1 d k l).2.1, fun j => ⟨((h2 d k l).2.2 j).1.trans ((h1 d k l).2.2 j).1, ((h2 d k l).2.2 j).2.1.trans ((h1 d k l).2.2 j).2.1, ((h2 d k l).2.2 j).2.2.trans ((h1 d k l).2.2 j).2.2⟩⟩
theorem loA.of {z : Nat} {μ μ' : gM} (h : dyS μ μ') : loA z μ μ' := fun c k _ => ⟨congrFun h.1 c, congrFun h.2.1 c, fun j => h.2.2.2 c k j⟩
theorem loA.dn {z y : Nat} {μ μ' : gM} (h : loA z μ μ') (hy : y ≤ z) : loA y μ μ' := fun c k l => h c k (by omega)
theorem strR.lo {μ μ' : gM} {s z : Nat} {w : List Int} (h : strR μ s w) (hl : loA z μ μ') (h1 : s < z) (h2 : gP μ s 0 < z) : strR μ' s w := by
  obtain ⟨⟨a1, a2, a3, a4⟩, ⟨b1, b2, b3, b4⟩, c1, c2⟩ := h
  obtain ⟨e1, e2, e3⟩ := hl s a2 h1
  obtain ⟨f1, f2, f3⟩ := hl _ b2 h2
  have eP : gP μ' s 0 = gP μ s 0 := (e3 0).2.2
  refine ⟨⟨a1, a2, e1.trans a3, ((e3 1).1).trans a4⟩, ⟨by rw [eP]; exact b1, by rw [eP]; exact b2, by rw [eP, f1]; exact b3, by rw [eP, f2]; exact b4⟩, c1, fun i hi => ?_⟩
  rw [eP, (f3 i).1]
  exact c2 i hi
theorem ks_low : (List.range 1000).all (fun c => ks c == 0) = true := by decide +kernel
theorem ks_lo {c : Nat} (h : c < 1000) : ks c = 0 := by
  have := List.all_eq_true.mp ks_low c (List.mem_range.mpr h)
  simpa using this
theorem sTab_low : sTab.all (fun x => Nat.blt x.1 1000) = true := by decide +kernel
theorem srOK.lo {z : Nat} {μ μ' : gM} (h : srOK μ) (hl : loA z μ μ') (hz : 1000 ≤ z) : srOK μ' := by
  have arr : ∀ {a : Nat} {L : List Nat}, a < 1000 → arrR μ a L → arrR μ' a L := by
    intro a L ha hr
    obtain ⟨e1, e2, e3⟩ := hl a (ks_lo ha) (by omega)
    exact ⟨e1.trans hr.1, e2.trans hr.2.1, fun i hi => ((e3 i).2.2).trans (hr.2.2 i hi)⟩
  refine ⟨fun x hx => ?_, arr (by omega) h.2.1, arr (by omega) h.2.2.1, arr (by omega) h.2.2.2.1, arr (by omega) h.2.2.2.2⟩
  have hlow : x.1 < 1000 := by
    have := List.all_eq_true.mp sTab_low x hx
    simpa [Nat.blt_eq] using this
  obtain ⟨s1, s2⟩ := h.1 x hx
  refine ⟨s1.lo hl (by omega) (by omega), ?_⟩
  rw [((hl x.1 (ks_lo hlow) (by omega)).2.2 0).2.2]
  exact s2
/-- a name's number -/
def nmV : List Int → Int
  | [] => 0
  | c :: w => nmV w + (c - 96) * 27 ^ w.length
def nmOK (w : List Int) : Prop := 1 ≤ w.length ∧ w.length ≤ 6 ∧ ∀ i : Nat, i < w.length → 97 ≤ w.getD i 0 ∧ w.getD i 0 ≤ 122
def nm1 (μ : gM) (r : Nat) (k : Int) (v : Int) : Prop := (gK μ r : Int) = k ∧ ∃ w : List Int, strR μ (gP μ r 0) w ∧ nmOK w ∧ v = nmV w
def rNames (m : MM) (μ : gM) : Prop := (∀ k : Nat, (k : Int) < mi m 1038 6 → nm1 μ (hlC μ k) 7 (ml m 1039 (16 + k))) ∧ ∀ k : Nat, (k : Int) < mi m 1038 7 → nm1 μ (thC μ k) 9 (ml m 1039 (24 + k))
def hhS (m : MM) (μ : gM) : Prop := rHH m μ ∧ rTree m μ ∧ rNames m μ
def rNm (m : MM) (μ : gM) : Prop := srOK μ ∧ wdOK m ∧ 2369 ≤ gZ μ ∧ ∀ μ' : gM, loA (gZ μ) μ μ' → gP μ' 1000 0 = gP μ 1000 0 → hhS m μ'
def wdE (m m' : MM) : Prop := (∀ c j : Nat, 1012 ≤ c → c ≤ 1092 → ¬ (1037 ≤ c ∧ c ≤ 1071) → m'.1 c j = m.1 c j) ∧ ∀ j : Nat, m'.2 1039 j = m.2 1039 j
theorem hhS.m {m m' : MM} {μ : gM} (h : hhS m μ) (hh : hhE m m') (hl : ∀ j : Nat, m'.2 1039 j = m.2 1039 j) : hhS m' μ := by
  obtain ⟨h1, h2, h3⟩ := h
  refine ⟨h1.mv hh (dyS.refl μ) rfl, h2.mv h1 hh (dyS.refl μ) rfl, fun k hk => ?_, fun k hk => ?_⟩
  · rw [hh.at (by omega)] at hk
    unfold ml
    rw [hl]
    exact h3.1 k hk
  · rw [hh.at (by omega)] at hk
    unfold ml
    rw [hl]
    exact h3.2 k hk
theorem rNm.mv {m m' : MM} {μ μ' : gM} (h : rNm m μ) (hh : hhE m m') (hw : wdE m m') (hd : dyS μ μ') (hP : gP μ' 1000 0 = gP μ 1000 0) : rNm m' μ' := by
  obtain ⟨h1, h2, h3, h4⟩ := h
  have eZ : gZ μ' = gZ μ := congrArg Prod.fst hd.2.2.1
  refine ⟨h1.lo (loA.of hd (z := gZ μ)) (by omega), h2.mv hw.1, by rw [eZ]; exact h3, fun μ2 a b => ?_⟩
  rw [eZ] at a
  exact (h4 μ2 ((loA.of hd).trans a) (b.trans hP)).m hh hw.2
