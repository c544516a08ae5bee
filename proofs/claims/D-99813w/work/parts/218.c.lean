set_option maxRecDepth 100000
theorem cg_J2_63_20 {X : gz_X} {G : gz_G} {cc : ByteArray} {nL fr lo pc : Nat} {rem : Nat × Nat} {m : gM} {lv : List (Nat × Value)} {st : List Value} (hX : gz_C cS X G cc nL RJ2 fr lo) {c : Nat} {v : Value} (hK : clc m.1 m.2.1 m.2.2.2.2.1 → m.1 c = 20 + 1) (hv : clc m.1 m.2.1 m.2.2.2.2.1 → gz_u (gz_ad G) m (ftC 20 0) c 0 = v) (hd : decode cc pc = .ok (.getfield 63, 3)) (kk : gz_V cS X G nL rem m (pc + 3) lv (v :: st)) : gz_V cS X G nL rem m pc lv (.ref (gz_ad G c) :: st) :=
  gz_getfS hX (C := RJ2) (T := TJ2) (N := 3) (ci := 20) (k := 0) rfl (by decide) in_J2 (by decide) (Or.inl (hX.2.2.2.2.1 _ q241)) (fun x hx => u_same (hX.2.2.2.2.1 _ q242) x hx) hd hK hv kk
theorem cp_J2_63_20 {X : gz_X} {G : gz_G} {cc : ByteArray} {nL fr lo pc : Nat} {rem : Nat × Nat} {m m9 : gM} {lv : List (Nat × Value)} {st : List Value} (hX : gz_C cS X G cc nL RJ2 fr lo) {c : Nat} {x : Int32} (hK : clc m.1 m.2.1 m.2.2.2.2.1 → m.1 c = 20 + 1) (hw : 1000 ≤ c) (hd : decode cc pc = .ok (.putfield 63, 3)) (hm : m9 = gz_sI m c 0 x) (kk : gz_V cS X G nL rem m9 (pc + 3) lv st) : gz_V cS X G nL rem m pc lv (.int x :: .ref (gz_ad G c) :: st) := by
  subst hm
  exact gz_putfS hX (C := RJ2) (T := TJ2) (N := 3) (ci := 20) (k := 0) (ty := .int) (μ' := gz_sI m c 0 x) rfl (by decide) in_J2 tyJ2 tyJ2_ok nmJ2 (by decide) (Or.inl (hX.2.2.2.2.1 _ q241)) (fun x hx => u_same (hX.2.2.2.2.1 _ q242) x hx) rfl rfl rfl rfl hd hK hw rfl rfl rfl (fun d tc j h => gz_sI_o d tc j h) (gz_sI_v (fun j => ftC 20 j) rfl) (fun h => h) kk
theorem cc_J2_131 {X : gz_X} {G : gz_G} {cc : ByteArray} {nL fr lo pc : Nat} {rem : Nat × Nat} {lv : List (Nat × Value)} {rest st0 : List Value} (hX : gz_C cS X G cc nL RJ2 fr lo) {c0 : Nat} {c1 : Nat} {c2 : Nat} {x3 : Int32} {m m9 : gM} (hK : clc m.1 m.2.1 m.2.2.2.2.1 → m.1 c0 = 20 + 1)  (h : cf_J2_add_2 c0 c1 c2 x3 m = some ((), m9)) (hroom : 5 + 1 ≤ fr ∧ 8 + (4 + 11) + 147 ≤ lo) (hst : st0 = [.int x3, .ref (gz_ad G c2), .ref (gz_ad G c1), .ref (gz_ad G c0)] ++ rest) (hW : (rest.map fun v => v.category).sum ≤ 8) (hd : decode cc pc = .ok (.invokevirtual 131, 3)) (kk : gz_V cS X G nL rem m9 (pc + 3) lv (rest)) : gz_V cS X G nL (rem.1 + (gZ m9 - gZ m), rem.2 + (gW m9 - gW m)) m pc lv st0 :=
  gz_callV2 hX cs_E (As := [.ref (gz_ad G c1), .ref (gz_ad G c2), .int x3]) (rest := rest) (q := (RJ2, TJ2, 3)) (ci := 20) (c := c0) (ct_J2_add_2 (l := X.2.1) h) (lw_V q852 q854 qs14 q171 q855) (n := 3) (by decide +kernel) hroom rfl rfl (by decide) hK hst hW hd (rem := rem) kk
/-! java/util/ArrayList.add(Ljava/lang/Object;)Z -/
noncomputable def cf_J2_add (c0 : Nat) (c1 : Nat) (m : gM) : Option (Int32 × gM) :=
  (if gK m c0 = 21 then (if gK m c0 = 21 then (if 1000 ≤ c0 then gz_let (gz_sI m c0 0 ((gI m c0 0) + (1 : Int32))) fun m4 => (if gK m4 c0 = 21 then gz_let (gP m4 c0 1) fun r6 => (if r6 ≠ 0 then (if gK m4 c0 = 21 then (if gK m4 c0 = 21 then ((cf_J2_add_2 c0 c1 r6 (gI m4 c0 2) m4).bind fun (_, m11) => (if gZ m4 ≤ gZ m11 ∧ gW m4 ≤ gW m11 then some ((1 : Int32), m11) else none)) else none) else none) else none) else none) else none) else none) else none)
theorem wm_J2_add {X : gz_X} {G : gz_G} {zE : Nat × Nat} (hX : gz_C cS X G cJ2_add 2 RJ2 6 170) {c0 : Nat} {c1 : Nat}  {m : gM} {z : (Int32 × gM)} (h : cf_J2_add c0 c1 m = some z) (hk : (fun z : (Int32 × gM) => gz_kZa cS X G 2 zE cJ2_add z.2 z.1) z) : gz_Va cS X G 2 zE m 0 [(0, .ref (gz_ad G c0)), (1, .ref (gz_ad G c1))] [] := by
  unfold cf_J2_add at h
  refine gz_Vs (fun _ kk => gz_aload_n (pc := 0) hX dJ2_add_0 rfl 0 rfl kk) rfl ?_
  refine gz_Vs (fun _ kk => gz_dup (pc := 1) hX dJ2_add_1 rfl kk) rfl ?_
  obtain ⟨g1, h⟩ := gz_gu h
  refine gz_Vs (fun _ kk => cg_J2_63_20 (pc := 2) hX (c := c0) (v := .int (gI m c0 0)) (fun _ => g1) (fun _ => rfl) dJ2_add_2 kk) rfl ?_
  refine gz_Vs (fun _ kk => gz_iconst (pc := 5) (v := (1 : Int32)) hX dJ2_add_5 (by decide) kk) rfl ?_
  refine gz_Vs (fun _ kk => gz_iadd (pc := 6) hX dJ2_add_6 kk) rfl ?_
  obtain ⟨g2, h⟩ := gz_gu h
  obtain ⟨g3, h⟩ := gz_gu h
  obtain ⟨m4, em4, h⟩ := gz_lt h
  refine gz_Vs (fun _ kk => cp_J2_63_20 (pc := 7) hX (c := c0) (fun _ => g2) g3 dJ2_add_7 em4 kk) (by rw [em4]; rfl) ?_
  refine gz_Vs (fun _ kk => gz_aload_n (pc := 10) hX dJ2_add_10 rfl 0 rfl kk) rfl ?_
  refine gz_Vs (fun _ kk => gz_aload_n (pc := 11) hX dJ2_add_11 rfl 1 rfl kk) rfl ?_
  refine gz_Vs (fun _ kk => gz_aload_n (pc := 12) hX dJ2_add_12 rfl 0 rfl kk) rfl ?_
  obtain ⟨g5, h⟩ := gz_gu h
  obtain ⟨r6, er6, h⟩ := gz_lt h
  obtain ⟨g7, h⟩ := gz_gu h
  refine gz_Vs (fun _ kk => cg_J2_9_20 (pc := 13) hX (c := c0) (v := .ref (gz_ad G r6)) (fun _ => g5) (fun _ => gz_rq er6 g7) dJ2_add_13 kk) rfl ?_
  refine gz_Vs (fun _ kk => gz_aload_n (pc := 16) hX dJ2_add_16 rfl 0 rfl kk) rfl ?_
  obtain ⟨g8, h⟩ := gz_gu h
  refine gz_Vs (fun _ kk => cg_J2_48_20 (pc := 17) hX (c := c0) (v := .int (gI m4 c0 2)) (fun _ => g8) (fun _ => rfl) dJ2_add_17 kk) rfl ?_
  obtain ⟨g9, h⟩ := gz_gu h
  obtain ⟨⟨⟨⟩, m11⟩, c12, h⟩ := gz_bd h
  obtain ⟨g13, h⟩ := gz_gu h
  refine gz_Vc (k := gZ m11 - gZ m4) (n := gW m11 - gW m4) (fun _ kk => cc_J2_131 (pc := 20) hX (fun _ => g9) c12 ⟨Nat.le_of_ble_eq_true rfl, Nat.le_of_ble_eq_true rfl⟩ (rest := []) rfl (Nat.le_of_ble_eq_true rfl) dJ2_add_20 kk) ⟨by have := g13.1; dsimp only [gZ] at *; omega, by have := g13.2; dsimp only [gW] at *; omega⟩ ?_
  refine gz_Vs (fun _ kk => gz_iconst (pc := 23) (v := (1 : Int32)) hX dJ2_add_23 (by decide) kk) rfl ?_
  obtain rfl := Option.some.inj h
  exact hk _ _ dJ2_add_24 (Or.inr rfl)
theorem ct_J2_add {G : gz_G} {l : Launch} {c0 : Nat} {c1 : Nat}  {m m9 : gM} {r : Int32} (h : cf_J2_add c0 c1 m = some (r, m9)) : gz_Met cS G l yJ2_add cJ2_add 2 (some .boolean) (mRc 6 170 (gZ m9 - gZ m) (gW m9 - gW m)) [.ref (gz_ad G c0), .ref (gz_ad G c1)] m m9 (some (.int r)) :=
  gz_ofZ (by decide +kernel) (Nat.le_of_ble_eq_true rfl) fun X _ hX hk => (wm_J2_add (zE := m9.2.2.2.2.2) hX h (fun pc lv hd hz => gz_Ve (hk pc lv hd hz))).2
theorem cc_J15_50 {X : gz_X} {G : gz_G} {cc : ByteArray} {nL fr lo pc : Nat} {rem : Nat × Nat} {lv : List (Nat × Value)} {rest st0 : List Value} (hX : gz_C cS X G cc nL RJ15 fr lo) {c0 : Nat} {x1 : Int32} {m m9 : gM} (hK : clc m.1 m.2.1 m.2.2.2.2.1 → m.1 c0 = 22 + 1)  {r : Nat} (h : cf_J14_append c0 x1 m = some (r, m9)) (hroom : 4 + 1 ≤ fr ∧ 8 + (2 + 11) + 104 ≤ lo) (hst : st0 = [.int x1, .ref (gz_ad G c0)] ++ rest) (hW : (rest.map fun v => v.category).sum ≤ 8) (hd : decode cc pc = .ok (.invokespecial 50, 3)) (kk : gz_V cS X G nL rem m9 (pc + 3) lv (.ref (gz_ad G r) :: rest)) : gz_V cS X G nL (rem.1 + (gZ m9 - gZ m), rem.2 + (gW m9 - gW m)) m pc lv st0 :=
  gz_callSU hX cs_E (As := [.int x1]) (rest := rest) (q := (RJ15, TJ15, 4)) (ci := 22) (c := c0) (ct_J14_append (l := X.2.1) h) (va_cwSU 1 hX.2.2.2.2.1 (lw_app (by intro w hw; simp only [List.mem_cons, List.not_mem_nil, or_false] at hw; rcases hw with e | e | e | e | e <;> rw [e] <;> first | exact q1168 | exact q2657 | exact q1067 | exact q1169 | exact q195) (lw_meth q1170)) rfl rfl rfl (by decide +kernel) ⟨Nat.le_trans hroom.1 hX.2.2.2.2.2.2.1, Nat.le_trans hroom.2 hX.2.2.2.2.2.2.2⟩) rfl rfl (by decide) hK hst hW hd (rem := rem) kk
/-! java/lang/StringBuilder.append(C)Ljava/lang/StringBuilder; -/
noncomputable def cf_J15_append (c0 : Nat) (x1 : Int32) (m : gM) : Option (Nat × gM) :=
  (if gK m c0 = 23 then ((cf_J14_append c0 x1 m).bind fun (r2, m3) => (if gZ m ≤ gZ m3 ∧ gW m ≤ gW m3 then some (c0, m3) else none)) else none)
theorem wm_J15_append {X : gz_X} {G : gz_G} {zE : Nat × Nat} (hX : gz_C cS X G cJ15_append 2 RJ15 5 125) {c0 : Nat} {x1 : Int32}  {m : gM} {z : (Nat × gM)} (h : cf_J15_append c0 x1 m = some z) (hk : (fun z : (Nat × gM) => gz_kRa cS X G 2 zE cJ15_append z.2 z.1) z) : gz_Va cS X G 2 zE m 0 [(0, .ref (gz_ad G c0)), (1, .int x1)] [] := by
  unfold cf_J15_append at h
  refine gz_Vs (fun _ kk => gz_aload_n (pc := 0) hX dJ15_append_0 rfl 0 rfl kk) rfl ?_
  refine gz_Vs (fun _ kk => gz_iload_n (pc := 1) hX dJ15_append_1 rfl 1 rfl kk) rfl ?_
  obtain ⟨g1, h⟩ := gz_gu h
  obtain ⟨⟨r2, m3⟩, c4, h⟩ := gz_bd h
  obtain ⟨g5, h⟩ := gz_gu h
  refine gz_Vc (k := gZ m3 - gZ m) (n := gW m3 - gW m) (fun _ kk => cc_J15_50 (pc := 2) hX (fun _ => g1) c4 ⟨Nat.le_of_ble_eq_true rfl, Nat.le_of_ble_eq_true rfl⟩ (rest := []) rfl (Nat.le_of_ble_eq_true rfl) dJ15_append_2 kk) ⟨by have := g5.1; dsimp only [gZ] at *; omega, by have := g5.2; dsimp only [gW] at *; omega⟩ ?_
  refine gz_Vs (fun _ kk => gz_pop (pc := 5) hX dJ15_append_5 rfl kk) rfl ?_
  refine gz_Vs (fun _ kk => gz_aload_n (pc := 6) hX dJ15_append_6 rfl 0 rfl kk) rfl ?_
  obtain rfl := Option.some.inj h
  exact hk _ _ dJ15_append_7
theorem ct_J15_append {G : gz_G} {l : Launch} {c0 : Nat} {x1 : Int32}  {m m9 : gM} {r : Nat} (h : cf_J15_append c0 x1 m = some (r, m9)) : gz_Met cS G l yJ15_append cJ15_append 2 (some (.object "java/lang/StringBuilder")) (mRc 5 125 (gZ m9 - gZ m) (gW m9 - gW m)) [.ref (gz_ad G c0), .int x1] m m9 (some (.ref (gz_ad G r))) :=
  gz_ofR (Or.inl ⟨_, rfl⟩) (by decide +kernel) (Nat.le_of_ble_eq_true rfl) fun X _ hX hk => (wm_J15_append (zE := m9.2.2.2.2.2) hX h (fun pc lv hd => gz_Ve (hk pc lv hd))).2
theorem cc_X2_64 {X : gz_X} {G : gz_G} {cc : ByteArray} {nL fr lo pc : Nat} {rem : Nat × Nat} {lv : List (Nat × Value)} {rest st0 : List Value} (hX : gz_C cS X G cc nL RX2 fr lo) {c0 : Nat} {m m9 : gM}  {r : Nat} (h : cf_J9_valueOf c0 m = some (r, m9)) (hroom : 5 + 1 ≤ fr ∧ 8 + (1 + 11) + 112 ≤ lo) (hst : st0 = [.ref (gz_ad G c0)] ++ rest) (hW : (rest.map fun v => v.category).sum ≤ 8) (hd : decode cc pc = .ok (.invokestatic 64, 3)) (kk : gz_V cS X G nL rem m9 (pc + 3) lv (.ref (gz_ad G r) :: rest)) : gz_V cS X G nL (rem.1 + (gZ m9 - gZ m), rem.2 + (gW m9 - gW m)) m pc lv st0 :=
  gz_callS hX cs_E (As := [.ref (gz_ad G c0)]) (rest := rest) (ct_J9_valueOf (l := X.2.1) h) (lw_S q649 q650 q183 q651) (n := 1) (by decide +kernel) hroom rfl hst hW hd (rem := rem) kk
/-! FirstSnuffer$Reader.word()Ljava/lang/String; -/
def mP_X2_word_32 (X : gz_X) (G : gz_G) (zE : Nat × Nat) (q : (gM)) : Prop := gz_Va cS X G 3 zE q 32 [(0, .ref (gz_ad G 1011))] []
def mP_X2_word_76 (X : gz_X) (G : gz_G) (zE : Nat × Nat) (c1 : Nat) (q : (Int32 × gM)) : Prop := gz_Va cS X G 3 zE q.2 76 [(0, .ref (gz_ad G 1011)), (1, .ref (gz_ad G c1)), (2, .int q.1)] []
noncomputable def mb_X2_word_76 (c1 : Nat) (x2 : Int32) (m : gM) : Option ((Int32 × gM) ⊕ (Option Nat × gM)) :=
  (if (gI m 1011 2) ≤ x2 then ((cf_J9_valueOf c1 m).bind fun (r2, m3) => (if gZ m ≤ gZ m3 ∧ gW m ≤ gW m3 then some (Sum.inr (some r2, m3)) else none)) else (if gz_in x2 (1600) then (if gK m c1 = 103 ∧ 1000 ≤ c1 then (if gz_in (x2 - (gI m 1011 3)) (gN m c1) then gz_let (gz_sI m c1 (gz_ix (x2 - (gI m 1011 3))) ((((gI m 1010 (gz_ix x2)).toUInt32 % 65536).toInt32).toUInt32.toUInt16.toUInt32.toInt32)) fun m9 => gz_let (x2 + (1 : Int32)) fun y10 => some (Sum.inl (y10, m9)) else none) else none) else none))
theorem wb_X2_word_76 {X : gz_X} {G : gz_G} {zE : Nat × Nat} (hX : gz_C cS X G cX2_word 3 RX2 6 132) {c1 : Nat} {x2 : Int32}  {m : gM} {z : ((Int32 × gM) ⊕ (Option Nat × gM))} (h : mb_X2_word_76 c1 x2 m = some z) (hk : (Sum.elim (mP_X2_word_76 X G zE c1) (fun z : (Option Nat × gM) => gx_k (fun r => gz_kRa cS X G 3 zE cX2_word z.2 r) (∀ (pc : Nat) (lv : List (Nat × Value)), gz_VXa cS X G 3 zE z.2 pc lv) z.1)) z) : gz_Va cS X G 3 zE m 76 [(0, .ref (gz_ad G 1011)), (1, .ref (gz_ad G c1)), (2, .int x2)] [] := by
  unfold mb_X2_word_76 at h
  refine gz_Vs (fun _ kk => gz_iload_n (pc := 76) hX dX2_word_76 rfl 2 rfl kk) rfl ?_
  refine gz_Vs (fun _ kk => gz_aload_n (pc := 77) hX dX2_word_77 rfl 0 rfl kk) rfl ?_
  refine gz_Vs (fun _ kk => cg_X2_36_2 (pc := 78) hX (c := 1011) (v := .int (gI m 1011 2)) (fun h => cz_k h rfl) (fun _ => rfl) dX2_word_78 kk) rfl ?_
  refine gz_Vif (μ1 := m) (μ2 := m) (fun _ k1 k2 => gz_icmp_ge (pc := 81) (tgt := 108) hX dX2_word_81 (by decide) k1 k2) (by first | exact Classical.em _ | exact (Classical.em _).symm) (fun g1 => ?_) (fun g1 => ?_)
  · replace h := gz_it' g1 h
    refine gz_Vs (fun _ kk => gz_aload_n (pc := 108) hX dX2_word_108 rfl 1 rfl kk) rfl ?_
    obtain ⟨⟨r2, m3⟩, c4, h⟩ := gz_bd h
    obtain ⟨g5, h⟩ := gz_gu h
    refine gz_Vc (k := gZ m3 - gZ m) (n := gW m3 - gW m) (fun _ kk => cc_X2_64 (pc := 109) hX c4 ⟨Nat.le_of_ble_eq_true rfl, Nat.le_of_ble_eq_true rfl⟩ (rest := []) rfl (Nat.le_of_ble_eq_true rfl) dX2_word_109 kk) ⟨by have := g5.1; dsimp only [gZ] at *; omega, by have := g5.2; dsimp only [gW] at *; omega⟩ ?_
    obtain rfl := Option.some.inj h
    exact hk _ _ dX2_word_112
  · replace h := gz_if' g1 h
    refine gz_Vs (fun _ kk => gz_aload_n (pc := 84) hX dX2_word_84 rfl 1 rfl kk) rfl ?_
    refine gz_Vs (fun _ kk => gz_iload_n (pc := 85) hX dX2_word_85 rfl 2 rfl kk) rfl ?_
    refine gz_Vs (fun _ kk => gz_aload_n (pc := 86) hX dX2_word_86 rfl 0 rfl kk) rfl ?_
    refine gz_Vs (fun _ kk => cg_X2_61_2 (pc := 87) hX (c := 1011) (v := .int (gI m 1011 3)) (fun h => cz_k h rfl) (fun _ => rfl) dX2_word_87 kk) rfl ?_
    refine gz_Vs (fun _ kk => gz_isub (pc := 90) hX dX2_word_90 kk) rfl ?_
    refine gz_Vs (fun _ kk => gz_aload_n (pc := 91) hX dX2_word_91 rfl 0 rfl kk) rfl ?_
    refine gz_Vs (fun _ kk => cg_X2_3_2 (pc := 92) hX (c := 1011) (v := .ref (gz_ad G 1000)) (fun h => cz_k h rfl) (fun h => cz_f h (by decide) rfl (by decide) rfl) dX2_word_92 kk) rfl ?_
    refine gz_Vs (fun _ kk => cg_X2_32_0 (pc := 95) hX (c := 1000) (v := .ref (gz_ad G 1010)) (fun h => cz_k h rfl) (fun h => cz_f h (by decide) rfl (by decide) rfl) dX2_word_95 kk) rfl ?_
    refine gz_Vs (fun _ kk => gz_iload_n (pc := 98) hX dX2_word_98 rfl 2 rfl kk) rfl ?_
    obtain ⟨g6, h⟩ := gz_gu h
    refine gz_Vs (fun _ kk => gz_bald2 (pc := 99) (c := 1010) (n := 1600) hX rfl (fun h => cz_a h rfl (by decide) rfl) g6 dX2_word_99 kk) rfl ?_
    refine gz_Vs (fun _ kk => gz_i2c (pc := 100) hX dX2_word_100 kk) rfl ?_
    obtain ⟨g7, h⟩ := gz_gu h
    obtain ⟨g8, h⟩ := gz_gu h
    obtain ⟨m9, em9, h⟩ := gz_lt h
    refine gz_Vs (fun _ kk => gz_cast2 (pc := 101) (c := c1) (n := gN m c1) hX rfl (fun _ => ⟨g7.1, rfl⟩) g7.2 g8 dX2_word_101 em9 kk) (by rw [em9]; rfl) ?_
    obtain ⟨y10, ey10, h⟩ := gz_lt h
    refine gz_Vs (fun _ kk => gz_iinc (pc := 102) (v := y10) (lw := [(2, .int y10), (0, .ref (gz_ad G 1011)), (1, .ref (gz_ad G c1))]) hX dX2_word_102 (k := 2) rfl (by rw [ey10]; rfl) (by decide) rfl kk) rfl ?_
    refine gz_Vs (fun _ kk => gz_goto (pc := 105) (tgt := 76) hX dX2_word_105 (by decide) kk) rfl ?_
    refine gz_Vs (fun _ kk => gz_sub (lw := [(0, .ref (gz_ad G 1011)), (1, .ref (gz_ad G c1)), (2, .int y10)]) [1, 2, 0] rfl kk) rfl ?_
    obtain rfl := Option.some.inj h
    exact hk
noncomputable def ml_X2_word_76 (c1 : Nat) (x2 : Int32) (m : gM) : Option (Option Nat × gM) := gz_loop (fun q : (Int32 × gM) => mb_X2_word_76 c1 q.1 q.2) (x2, m)
theorem wl_X2_word_76 {X : gz_X} {G : gz_G} {zE : Nat × Nat} (hX : gz_C cS X G cX2_word 3 RX2 6 132) {c1 : Nat} {x2 : Int32}  {m : gM} {z : (Option Nat × gM)} (h : ml_X2_word_76 c1 x2 m = some z) (hk : (fun z : (Option Nat × gM) => gx_k (fun r => gz_kRa cS X G 3 zE cX2_word z.2 r) (∀ (pc : Nat) (lv : List (Nat × Value)), gz_VXa cS X G 3 zE z.2 pc lv) z.1) z) : gz_Va cS X G 3 zE m 76 [(0, .ref (gz_ad G 1011)), (1, .ref (gz_ad G c1)), (2, .int x2)] [] := by
  have hp : mP_X2_word_76 X G zE c1 (x2, m) := gz_loop_ind (fun q z hz hkz => wb_X2_word_76 hX  hz hkz) h hk
  exact hp
noncomputable def mb_X2_word_32  (m : gM) : Option ((gM) ⊕ (Option Nat × gM)) :=
  ((cf_X2_byteAt (gI m 1011 2) m).bind fun (r1, m2) => (if m2.2.2.2.2.2 = m.2.2.2.2.2 then ((cf_X0_isLetter r1 m2).bind fun (r5, m6) => (if m6.2.2.2.2.2 = m2.2.2.2.2.2 then (if r5 = (0 : Int32) then (if 0 ≤ ((gI m6 1011 2) - (gI m6 1011 3)) ∧ gz_ix ((gI m6 1011 2) - (gI m6 1011 3)) * 2 ≤ 536870912 ∧ gZ m6 ≠ 0 then gz_let (gz_al m6 (2 + 101) (gz_ix ((gI m6 1011 2) - (gI m6 1011 3))) (gz_ix ((gI m6 1011 2) - (gI m6 1011 3)))) fun m11 => gz_let ((gI m11 1011 3)) fun y12 => (Option.map Sum.inr (ml_X2_word_76 (gZ m6) y12 m11)) else none) else gz_let (gz_sI m6 1011 2 ((gI m6 1011 2) + (1 : Int32))) fun m13 => some (Sum.inl (m13))) else none)) else none))
theorem wb_X2_word_32 {X : gz_X} {G : gz_G} {zE : Nat × Nat} (hX : gz_C cS X G cX2_word 3 RX2 6 132)   {m : gM} {z : ((gM) ⊕ (Option Nat × gM))} (h : mb_X2_word_32  m = some z) (hk : (Sum.elim (mP_X2_word_32 X G zE) (fun z : (Option Nat × gM) => gx_k (fun r => gz_kRa cS X G 3 zE cX2_word z.2 r) (∀ (pc : Nat) (lv : List (Nat × Value)), gz_VXa cS X G 3 zE z.2 pc lv) z.1)) z) : gz_Va cS X G 3 zE m 32 [(0, .ref (gz_ad G 1011))] [] := by
  unfold mb_X2_word_32 at h
  refine gz_Vs (fun _ kk => gz_aload_n (pc := 32) hX dX2_word_32 rfl 0 rfl kk) rfl ?_
  refine gz_Vs (fun _ kk => gz_aload_n (pc := 33) hX dX2_word_33 rfl 0 rfl kk) rfl ?_
  refine gz_Vs (fun _ kk => cg_X2_36_2 (pc := 34) hX (c := 1011) (v := .int (gI m 1011 2)) (fun h => cz_k h rfl) (fun _ => rfl) dX2_word_34 kk) rfl ?_
  obtain ⟨⟨r1, m2⟩, c3, h⟩ := gz_bd h
  obtain ⟨g4, h⟩ := gz_gu h
  refine gz_Vs (fun _ kk => cc_X2_39 (pc := 37) hX (fun h => cz_k h rfl) c3 ⟨Nat.le_of_ble_eq_true rfl, Nat.le_of_ble_eq_true rfl⟩ (rest := []) rfl (Nat.le_of_ble_eq_true rfl) dX2_word_37 kk) g4 ?_
  obtain ⟨⟨r5, m6⟩, c7, h⟩ := gz_bd h
  obtain ⟨g8, h⟩ := gz_gu h
  refine gz_Vs (fun _ kk => cc_X2_51 (pc := 40) hX c7 ⟨Nat.le_of_ble_eq_true rfl, Nat.le_of_ble_eq_true rfl⟩ (rest := []) rfl (Nat.le_of_ble_eq_true rfl) dX2_word_40 kk) g8 ?_
  refine gz_Vif (μ1 := m) (μ2 := m) (fun _ k1 k2 => gz_if_eq (pc := 43) (tgt := 59) hX dX2_word_43 (by decide) k1 k2) (by first | exact Classical.em _ | exact (Classical.em _).symm) (fun g9 => ?_) (fun g9 => ?_)
  · replace h := gz_it' g9 h
    refine gz_Vs (fun _ kk => gz_aload_n (pc := 59) hX dX2_word_59 rfl 0 rfl kk) rfl ?_
    refine gz_Vs (fun _ kk => cg_X2_36_2 (pc := 60) hX (c := 1011) (v := .int (gI m6 1011 2)) (fun h => cz_k h rfl) (fun _ => rfl) dX2_word_60 kk) rfl ?_
    refine gz_Vs (fun _ kk => gz_aload_n (pc := 63) hX dX2_word_63 rfl 0 rfl kk) rfl ?_
    refine gz_Vs (fun _ kk => cg_X2_61_2 (pc := 64) hX (c := 1011) (v := .int (gI m6 1011 3)) (fun h => cz_k h rfl) (fun _ => rfl) dX2_word_64 kk) rfl ?_
    refine gz_Vs (fun _ kk => gz_isub (pc := 67) hX dX2_word_67 kk) rfl ?_
    obtain ⟨g10, h⟩ := gz_gu h
    obtain ⟨m11, em11, h⟩ := gz_lt h
    refine gz_Vn (fun _ kk => gz_newa (pc := 68) (t := 2) (N := gz_ix ((gI m6 1011 2) - (gI m6 1011 3))) hX rfl rfl q726 rfl ⟨⟨g10.1, Nat.lt_succ_self _⟩, rfl⟩ g10.2.1 g10.2.2 clc_al dX2_word_68 em11 kk) em11 ?_
    refine gz_Vs (fun _ kk => gz_astore_n (pc := 70) (lw := [(1, .ref (gz_ad G (gZ m6))), (0, .ref (gz_ad G 1011))]) hX dX2_word_70 rfl (by decide) rfl kk) rfl ?_
    refine gz_Vs (fun _ kk => gz_aload_n (pc := 71) hX dX2_word_71 rfl 1 rfl kk) rfl ?_
    refine gz_Vs (fun _ kk => cg_X2_61_2 (pc := 72) hX (c := 1011) (v := .int (gI m11 1011 3)) (fun h => cz_k h rfl) (fun _ => rfl) dX2_word_72 kk) rfl ?_
    obtain ⟨y12, ey12, h⟩ := gz_lt h
    refine gz_Vs (fun _ kk => gz_topi ey12 kk) rfl ?_
    refine gz_Vs (fun _ kk => gz_istore_n (pc := 75) (lw := [(2, .int y12), (1, .ref (gz_ad G (gZ m6))), (0, .ref (gz_ad G 1011))]) hX dX2_word_75 rfl (by decide) rfl kk) rfl ?_
    refine gz_Vs (fun _ kk => gz_sub (lw := [(0, .ref (gz_ad G 1011)), (1, .ref (gz_ad G (gZ m6))), (2, .int y12)]) [2, 1, 0] rfl kk) rfl ?_
    obtain ⟨z0, hm0, rfl⟩ := gz_mp h
    exact wl_X2_word_76 hX hm0 hk
  · replace h := gz_if' g9 h
    refine gz_Vs (fun _ kk => gz_aload_n (pc := 46) hX dX2_word_46 rfl 0 rfl kk) rfl ?_
    refine gz_Vs (fun _ kk => gz_dup (pc := 47) hX dX2_word_47 rfl kk) rfl ?_
    refine gz_Vs (fun _ kk => cg_X2_36_2 (pc := 48) hX (c := 1011) (v := .int (gI m6 1011 2)) (fun h => cz_k h rfl) (fun _ => rfl) dX2_word_48 kk) rfl ?_
    refine gz_Vs (fun _ kk => gz_iconst (pc := 51) (v := (1 : Int32)) hX dX2_word_51 (by decide) kk) rfl ?_
    refine gz_Vs (fun _ kk => gz_iadd (pc := 52) hX dX2_word_52 kk) rfl ?_
    obtain ⟨m13, em13, h⟩ := gz_lt h
    refine gz_Vs (fun _ kk => cp_X2_36_2 (pc := 53) hX (c := 1011) (fun h => cz_k h rfl) (Nat.le_of_ble_eq_true rfl) dX2_word_53 em13 kk) (by rw [em13]; rfl) ?_
    refine gz_Vs (fun _ kk => gz_goto (pc := 56) (tgt := 32) hX dX2_word_56 (by decide) kk) rfl ?_
    obtain rfl := Option.some.inj h
    exact hk
noncomputable def ml_X2_word_32  (m : gM) : Option (Option Nat × gM) := gz_loop (fun q : (gM) => mb_X2_word_32  q) (m)
theorem wl_X2_word_32 {X : gz_X} {G : gz_G} {zE : Nat × Nat} (hX : gz_C cS X G cX2_word 3 RX2 6 132)   {m : gM} {z : (Option Nat × gM)} (h : ml_X2_word_32  m = some z) (hk : (fun z : (Option Nat × gM) => gx_k (fun r => gz_kRa cS X G 3 zE cX2_word z.2 r) (∀ (pc : Nat) (lv : List (Nat × Value)), gz_VXa cS X G 3 zE z.2 pc lv) z.1) z) : gz_Va cS X G 3 zE m 32 [(0, .ref (gz_ad G 1011))] [] := by
  have hp : mP_X2_word_32 X G zE (m) := gz_loop_ind (fun q z hz hkz => wb_X2_word_32 hX  hz hkz) h hk
  exact hp
noncomputable def cf_X2_word  (m : gM) : Option (Option Nat × gM) :=
  ((cf_X2_here m).bind fun (r1, m2) => (if m2.2.2.2.2.2 = m.2.2.2.2.2 then ((cf_X0_isLetter r1 m2).bind fun (r5, m6) => (if m6.2.2.2.2.2 = m2.2.2.2.2.2 then (if r5 = (0 : Int32) then ((cf_X2_wrong (1 : Int32) (gI m6 1011 2) m6).bind fun (r16, m17) => (if m17.2.2.2.2.2 = m6.2.2.2.2.2 then (if r16 = 1012 then some (none, m17) else none) else none)) else ((cf_X2_parted  m6).bind fun (o13, m11) => (if gZ m6 ≤ gZ m11 ∧ gW m6 ≤ gW m11 then gx_o o13 (fun r10 => gz_let (gz_sI m11 1011 3 (gI m11 1011 2)) fun m15 => (ml_X2_word_32  m15)) (some (none, m11)) else none))) else none)) else none))
theorem wm_X2_word {X : gz_X} {G : gz_G} {zE : Nat × Nat} (hX : gz_C cS X G cX2_word 3 RX2 6 132)   {m : gM} {z : (Option Nat × gM)} (h : cf_X2_word  m = some z) (hk : (fun z : (Option Nat × gM) => gx_k (fun r => gz_kRa cS X G 3 zE cX2_word z.2 r) (∀ (pc : Nat) (lv : List (Nat × Value)), gz_VXa cS X G 3 zE z.2 pc lv) z.1) z) : gz_Va cS X G 3 zE m 0 [(0, .ref (gz_ad G 1011))] [] := by
  unfold cf_X2_word at h
  refine gz_Vs (fun _ kk => gz_aload_n (pc := 0) hX dX2_word_0 rfl 0 rfl kk) rfl ?_
  obtain ⟨⟨r1, m2⟩, c3, h⟩ := gz_bd h
  obtain ⟨g4, h⟩ := gz_gu h
  refine gz_Vs (fun _ kk => cc_X2_43 (pc := 1) hX (fun h => cz_k h rfl) c3 ⟨Nat.le_of_ble_eq_true rfl, Nat.le_of_ble_eq_true rfl⟩ (rest := []) rfl (Nat.le_of_ble_eq_true rfl) dX2_word_1 kk) g4 ?_
  obtain ⟨⟨r5, m6⟩, c7, h⟩ := gz_bd h
  obtain ⟨g8, h⟩ := gz_gu h
  refine gz_Vs (fun _ kk => cc_X2_51 (pc := 4) hX c7 ⟨Nat.le_of_ble_eq_true rfl, Nat.le_of_ble_eq_true rfl⟩ (rest := []) rfl (Nat.le_of_ble_eq_true rfl) dX2_word_4 kk) g8 ?_
  refine gz_Vif (μ1 := m) (μ2 := m) (fun _ k1 k2 => gz_if_ne (pc := 7) (tgt := 20) hX dX2_word_7 (by decide) k1 k2) (by first | exact Classical.em _ | exact (Classical.em _).symm) (fun g9 => ?_) (fun g9 => ?_)
  · replace h := gz_if' g9 h
    refine gz_Vs (fun _ kk => gz_aload_n (pc := 20) hX dX2_word_20 rfl 0 rfl kk) rfl ?_
    obtain ⟨⟨o13, m11⟩, c12, h⟩ := gz_bd h
    obtain ⟨g14, h⟩ := gz_gu h
    cases o13 with
    | none =>
      replace h := gx_on h
      obtain rfl := Option.some.inj h
      exact gz_Vcx (k := gZ m11 - gZ m6) (n := gW m11 - gW m6) (fun _ kk => cc_X2_58x (pc := 21) hX (fun h => cz_k h rfl) c12 ⟨Nat.le_of_ble_eq_true rfl, Nat.le_of_ble_eq_true rfl⟩ (rest := []) rfl (Nat.le_of_ble_eq_true rfl) dX2_word_21 kk) ⟨by have := g14.1; dsimp only [gZ] at *; omega, by have := g14.2; dsimp only [gW] at *; omega⟩ (hk _ _)
    | some r10 =>
      replace h := gx_os h
      refine gz_Vc (k := gZ m11 - gZ m6) (n := gW m11 - gW m6) (fun _ kk => cc_X2_58 (pc := 21) hX (fun h => cz_k h rfl) c12 ⟨Nat.le_of_ble_eq_true rfl, Nat.le_of_ble_eq_true rfl⟩ (rest := []) rfl (Nat.le_of_ble_eq_true rfl) dX2_word_21 kk) ⟨by have := g14.1; dsimp only [gZ] at *; omega, by have := g14.2; dsimp only [gW] at *; omega⟩ ?_
      refine gz_Vs (fun _ kk => gz_aload_n (pc := 24) hX dX2_word_24 rfl 0 rfl kk) rfl ?_
      refine gz_Vs (fun _ kk => gz_aload_n (pc := 25) hX dX2_word_25 rfl 0 rfl kk) rfl ?_
      refine gz_Vs (fun _ kk => cg_X2_36_2 (pc := 26) hX (c := 1011) (v := .int (gI m11 1011 2)) (fun h => cz_k h rfl) (fun _ => rfl) dX2_word_26 kk) rfl ?_
      obtain ⟨m15, em15, h⟩ := gz_lt h
      refine gz_Vs (fun _ kk => cp_X2_61_2 (pc := 29) hX (c := 1011) (fun h => cz_k h rfl) (Nat.le_of_ble_eq_true rfl) dX2_word_29 em15 kk) (by rw [em15]; rfl) ?_
      exact wl_X2_word_32 hX h hk
  · replace h := gz_it' g9 h
    refine gz_Vs (fun _ kk => gz_aload_n (pc := 10) hX dX2_word_10 rfl 0 rfl kk) rfl ?_
    refine gz_Vs (fun _ kk => gz_iconst (pc := 11) (v := (1 : Int32)) hX dX2_word_11 (by decide) kk) rfl ?_
    refine gz_Vs (fun _ kk => gz_aload_n (pc := 12) hX dX2_word_12 rfl 0 rfl kk) rfl ?_
    refine gz_Vs (fun _ kk => cg_X2_36_2 (pc := 13) hX (c := 1011) (v := .int (gI m6 1011 2)) (fun h => cz_k h rfl) (fun _ => rfl) dX2_word_13 kk) rfl ?_
    obtain ⟨⟨r16, m17⟩, c18, h⟩ := gz_bd h
    obtain ⟨g19, h⟩ := gz_gu h
    refine gz_Vs (fun _ kk => cc_X2_47 (pc := 16) hX (fun h => cz_k h rfl) c18 ⟨Nat.le_of_ble_eq_true rfl, Nat.le_of_ble_eq_true rfl⟩ (rest := []) rfl (Nat.le_of_ble_eq_true rfl) dX2_word_16 kk) g19 ?_
    obtain ⟨g20, h⟩ := gz_gu h
    subst g20
    obtain rfl := Option.some.inj h
    exact gz_athrowa hX dX2_word_19 (hk _ _)
theorem ct_X2_word {G : gz_G} {l : Launch}   {m m9 : gM} {o : Option Nat} (h : cf_X2_word  m = some (o, m9)) : gx_Met cS G l yX2_word cX2_word 3 (some (.object "java/lang/String")) (mRc 6 132 (gZ m9 - gZ m) (gW m9 - gW m)) [.ref (gz_ad G 1011)] m m9 (o.map (fun r => some (.ref (gz_ad G r)))) :=
  gx_ofR (Or.inl ⟨_, rfl⟩) (by decide +kernel) (Nat.le_of_ble_eq_true rfl) ⟨_, rfl, rfl⟩ (fun h => cz_k (c := 1012) (k := 3) h rfl) fun X _ hX hk => (wm_X2_word (zE := m9.2.2.2.2.2) hX h (gx_km (fun _ q pc lv hd => gz_Ve (q pc lv hd)) (fun q pc lv => gz_VXe (q pc lv)) hk)).2
theorem cc_X2_70 {X : gz_X} {G : gz_G} {cc : ByteArray} {nL fr lo pc : Nat} {rem : Nat × Nat} {lv : List (Nat × Value)} {rest st0 : List Value} (hX : gz_C cS X G cc nL RX2 fr lo)  {m m9 : gM} (hK : clc m.1 m.2.1 m.2.2.2.2.1 → m.1 1011 = 2 + 1)  {r : Nat} (h : cf_X2_word  m = some (some r, m9)) (hroom : 6 + 1 ≤ fr ∧ 8 + (3 + 11) + 132 ≤ lo) (hst : st0 = [.ref (gz_ad G 1011)] ++ rest) (hW : (rest.map fun v => v.category).sum ≤ 8) (hd : decode cc pc = .ok (.invokevirtual 70, 3)) (kk : gz_V cS X G nL rem m9 (pc + 3) lv (.ref (gz_ad G r) :: rest)) : gz_V cS X G nL (rem.1 + (gZ m9 - gZ m), rem.2 + (gW m9 - gW m)) m pc lv st0 :=
  gz_callX hX cs_E (As := []) (rest := rest) (q := (RX2, TX2, 8)) (ci := 2) (c := 1011) (ct_X2_word (l := X.2.1) h) (lw_V q635 q637 qs9 q172 q638) (n := 0) (by decide +kernel) hroom rfl rfl (by decide) hK hst hW hd (rem := rem) (fun rv e => by obtain rfl := Option.some.inj e; exact kk) (fun e => by simp at e)
theorem cc_X2_70x {X : gz_X} {G : gz_G} {cc : ByteArray} {nL fr lo pc : Nat} {rem : Nat × Nat} {lv : List (Nat × Value)} {rest st0 : List Value} (hX : gz_C cS X G cc nL RX2 fr lo)  {m m9 : gM} (hK : clc m.1 m.2.1 m.2.2.2.2.1 → m.1 1011 = 2 + 1)  (h : cf_X2_word  m = some (none, m9)) (hroom : 6 + 1 ≤ fr ∧ 8 + (3 + 11) + 132 ≤ lo) (hst : st0 = [.ref (gz_ad G 1011)] ++ rest) (hW : (rest.map fun v => v.category).sum ≤ 8) (hd : decode cc pc = .ok (.invokevirtual 70, 3)) (kk : gz_VX cS X G nL rem m9 pc lv) : gz_V cS X G nL (rem.1 + (gZ m9 - gZ m), rem.2 + (gW m9 - gW m)) m pc lv st0 :=
  gz_callX hX cs_E (As := []) (rest := rest) (q := (RX2, TX2, 8)) (ci := 2) (c := 1011) (ct_X2_word (l := X.2.1) h) (lw_V q635 q637 qs9 q172 q638) (n := 0) (by decide +kernel) hroom rfl rfl (by decide) hK hst hW hd (rem := rem) (fun rv e => by simp at e) (fun _ => kk)
theorem cs_X2_78 {X : gz_X} {G : gz_G} {cc : ByteArray} {nL fr lo pc : Nat} {rem : Nat × Nat} {m : gM} {lv : List (Nat × Value)} {st : List Value} (hX : gz_C cS X G cc nL RX2 fr lo) (hd : decode cc pc = .ok (.getstatic 78, 3)) (kk : gz_V cS X G nL rem m (pc + 3) lv (.ref (gz_ad G 10) :: st)) : gz_V cS X G nL rem m pc lv st := gz_gets hX ((cz_s hX).2.2.1 _ (List.mem_of_getElem? (show cSr[0]? = some ("FirstSnuffer", "OWN", "[Ljava/lang/String;", 10) from rfl))) (Or.inr ⟨_, va_Nw.use rfl (cz_n (Z := cS) hX q808 rfl)⟩) hd kk
theorem cc_X2_82 {X : gz_X} {G : gz_G} {cc : ByteArray} {nL fr lo pc : Nat} {rem : Nat × Nat} {lv : List (Nat × Value)} {rest st0 : List Value} (hX : gz_C cS X G cc nL RX2 fr lo) {c0 : Nat} {c1 : Nat} {m m9 : gM}  {r : Int32} (h : cf_X0_find c0 c1 m = some (r, m9)) (hroom : 2 + 1 ≤ fr ∧ 8 + (3 + 11) + 44 ≤ lo) (hst : st0 = [.ref (gz_ad G c1), .ref (gz_ad G c0)] ++ rest) (hW : (rest.map fun v => v.category).sum ≤ 8) (hd : decode cc pc = .ok (.invokestatic 82, 3)) (kk : gz_V cS X G nL rem m9 (pc + 3) lv (.int r :: rest)) : gz_V cS X G nL rem m pc lv st0 :=
  gz_callSN hX cs_E (As := [.ref (gz_ad G c0), .ref (gz_ad G c1)]) (rest := rest) (ct_X0_find (l := X.2.1) h) q812 (cz_n (Z := cS) hX q810 rfl) q167 q811 (n := 2) (by decide +kernel) hroom rfl hst hW hd (rem := rem) kk
theorem cc_X2_86 {X : gz_X} {G : gz_G} {cc : ByteArray} {nL fr lo pc : Nat} {rem : Nat × Nat} {lv : List (Nat × Value)} {rest st0 : List Value} (hX : gz_C cS X G cc nL RX2 fr lo) {c0 : Nat} {m m9 : gM} (hK : clc m.1 m.2.1 m.2.2.2.2.1 → m.1 c0 = 21 + 1)  {r : Int32} (h : cf_J9_length c0 m = some (r, m9)) (hroom : 1 + 1 ≤ fr ∧ 8 + (1 + 11) + 20 ≤ lo) (hst : st0 = [.ref (gz_ad G c0)] ++ rest) (hW : (rest.map fun v => v.category).sum ≤ 8) (hd : decode cc pc = .ok (.invokevirtual 86, 3)) (kk : gz_V cS X G nL rem m9 (pc + 3) lv (.int r :: rest)) : gz_V cS X G nL rem m pc lv st0 :=
  gz_callV2 hX cs_E (As := []) (rest := rest) (q := (RJ9, TJ9, 4)) (ci := 21) (c := c0) (ct_J9_length (l := X.2.1) h) (lw_V q814 q815 q816 q183 q817) (n := 0) (by decide +kernel) hroom rfl rfl (by decide) hK hst hW hd (rem := rem) kk
/-! FirstSnuffer$Reader.name()Ljava/lang/String; -/
noncomputable def cf_X2_name  (m : gM) : Option (Option Nat × gM) :=
  ((cf_X2_word  m).bind fun (o4, m2) => (if gZ m ≤ gZ m2 ∧ gW m ≤ gW m2 then gx_o o4 (fun r1 => ((cf_X0_find r1 10 m2).bind fun (r6, m7) => (if m7.2.2.2.2.2 = m2.2.2.2.2.2 then (if r6 = (-1 : Int32) then (if gK m7 r1 = 22 then ((cf_J9_length r1 m7).bind fun (r12, m13) => (if m13.2.2.2.2.2 = m7.2.2.2.2.2 then (if r12 ≤ (6 : Int32) then some (some r1, m13) else ((cf_X2_wrong (1 : Int32) ((gI m13 1011 3) + (6 : Int32)) m13).bind fun (r17, m18) => (if m18.2.2.2.2.2 = m13.2.2.2.2.2 then (if r17 = 1012 then some (none, m18) else none) else none))) else none)) else none) else ((cf_X2_wrong (1 : Int32) (gI m7 1011 3) m7).bind fun (r22, m23) => (if m23.2.2.2.2.2 = m7.2.2.2.2.2 then (if r22 = 1012 then some (none, m23) else none) else none))) else none))) (some (none, m2)) else none))
theorem wm_X2_name {X : gz_X} {G : gz_G} {zE : Nat × Nat} (hX : gz_C cS X G cX2_name 2 RX2 7 154)   {m : gM} {z : (Option Nat × gM)} (h : cf_X2_name  m = some z) (hk : (fun z : (Option Nat × gM) => gx_k (fun r => gz_kRa cS X G 2 zE cX2_name z.2 r) (∀ (pc : Nat) (lv : List (Nat × Value)), gz_VXa cS X G 2 zE z.2 pc lv) z.1) z) : gz_Va cS X G 2 zE m 0 [(0, .ref (gz_ad G 1011))] [] := by
  unfold cf_X2_name at h
  refine gz_Vs (fun _ kk => gz_aload_n (pc := 0) hX dX2_name_0 rfl 0 rfl kk) rfl ?_
  obtain ⟨⟨o4, m2⟩, c3, h⟩ := gz_bd h
  obtain ⟨g5, h⟩ := gz_gu h
  cases o4 with
  | none =>
    replace h := gx_on h
    obtain rfl := Option.some.inj h
    exact gz_Vcx (k := gZ m2 - gZ m) (n := gW m2 - gW m) (fun _ kk => cc_X2_70x (pc := 1) hX (fun h => cz_k h rfl) c3 ⟨Nat.le_of_ble_eq_true rfl, Nat.le_of_ble_eq_true rfl⟩ (rest := []) rfl (Nat.le_of_ble_eq_true rfl) dX2_name_1 kk) ⟨by have := g5.1; dsimp only [gZ] at *; omega, by have := g5.2; dsimp only [gW] at *; omega⟩ (hk _ _)
  | some r1 =>
    replace h := gx_os h
    refine gz_Vc (k := gZ m2 - gZ m) (n := gW m2 - gW m) (fun _ kk => cc_X2_70 (pc := 1) hX (fun h => cz_k h rfl) c3 ⟨Nat.le_of_ble_eq_true rfl, Nat.le_of_ble_eq_true rfl⟩ (rest := []) rfl (Nat.le_of_ble_eq_true rfl) dX2_name_1 kk) ⟨by have := g5.1; dsimp only [gZ] at *; omega, by have := g5.2; dsimp only [gW] at *; omega⟩ ?_
    refine gz_Vs (fun _ kk => gz_astore_n (pc := 4) (lw := [(1, .ref (gz_ad G r1)), (0, .ref (gz_ad G 1011))]) hX dX2_name_4 rfl (by decide) rfl kk) rfl ?_
    refine gz_Vs (fun _ kk => gz_aload_n (pc := 5) hX dX2_name_5 rfl 0 rfl kk) rfl ?_
    refine gz_Vs (fun _ kk => cs_X2_78 (pc := 6) hX dX2_name_6 kk) rfl ?_
    obtain ⟨⟨r6, m7⟩, c8, h⟩ := gz_bd h
    obtain ⟨g9, h⟩ := gz_gu h
    refine gz_Vs (fun _ kk => cc_X2_82 (pc := 9) hX c8 ⟨Nat.le_of_ble_eq_true rfl, Nat.le_of_ble_eq_true rfl⟩ (rest := []) rfl (Nat.le_of_ble_eq_true rfl) dX2_name_9 kk) g9 ?_
    refine gz_Vs (fun _ kk => gz_iconst (pc := 12) (v := (-1 : Int32)) hX dX2_name_12 (by decide) kk) rfl ?_
    refine gz_Vif (μ1 := m) (μ2 := m) (fun _ k1 k2 => gz_icmp_eq (pc := 13) (tgt := 26) hX dX2_name_13 (by decide) k1 k2) (by first | exact Classical.em _ | exact (Classical.em _).symm) (fun g10 => ?_) (fun g10 => ?_)
    · replace h := gz_it' g10 h
      refine gz_Vs (fun _ kk => gz_aload_n (pc := 26) hX dX2_name_26 rfl 0 rfl kk) rfl ?_
      obtain ⟨g11, h⟩ := gz_gu h
      obtain ⟨⟨r12, m13⟩, c14, h⟩ := gz_bd h
      obtain ⟨g15, h⟩ := gz_gu h
      refine gz_Vs (fun _ kk => cc_X2_86 (pc := 27) hX (fun _ => g11) c14 ⟨Nat.le_of_ble_eq_true rfl, Nat.le_of_ble_eq_true rfl⟩ (rest := []) rfl (Nat.le_of_ble_eq_true rfl) dX2_name_27 kk) g15 ?_
      refine gz_Vs (fun _ kk => gz_bipush (pc := 30) (v := (6 : Int32)) hX dX2_name_30 (by decide) kk) rfl ?_
      refine gz_Vif (μ1 := m) (μ2 := m) (fun _ k1 k2 => gz_icmp_le (pc := 32) (tgt := 48) hX dX2_name_32 (by decide) k1 k2) (by first | exact Classical.em _ | exact (Classical.em _).symm) (fun g16 => ?_) (fun g16 => ?_)
      · replace h := gz_it' g16 h
        refine gz_Vs (fun _ kk => gz_aload_n (pc := 48) hX dX2_name_48 rfl 0 rfl kk) rfl ?_
        obtain rfl := Option.some.inj h
        exact hk _ _ dX2_name_49
      · replace h := gz_if' g16 h
        refine gz_Vs (fun _ kk => gz_aload_n (pc := 35) hX dX2_name_35 rfl 1 rfl kk) rfl ?_
        refine gz_Vs (fun _ kk => gz_iconst (pc := 36) (v := (1 : Int32)) hX dX2_name_36 (by decide) kk) rfl ?_
        refine gz_Vs (fun _ kk => gz_aload_n (pc := 37) hX dX2_name_37 rfl 1 rfl kk) rfl ?_
        refine gz_Vs (fun _ kk => cg_X2_61_2 (pc := 38) hX (c := 1011) (v := .int (gI m13 1011 3)) (fun h => cz_k h rfl) (fun _ => rfl) dX2_name_38 kk) rfl ?_
        refine gz_Vs (fun _ kk => gz_bipush (pc := 41) (v := (6 : Int32)) hX dX2_name_41 (by decide) kk) rfl ?_
        refine gz_Vs (fun _ kk => gz_iadd (pc := 43) hX dX2_name_43 kk) rfl ?_
        obtain ⟨⟨r17, m18⟩, c19, h⟩ := gz_bd h
        obtain ⟨g20, h⟩ := gz_gu h
        refine gz_Vs (fun _ kk => cc_X2_47 (pc := 44) hX (fun h => cz_k h rfl) c19 ⟨Nat.le_of_ble_eq_true rfl, Nat.le_of_ble_eq_true rfl⟩ (rest := []) rfl (Nat.le_of_ble_eq_true rfl) dX2_name_44 kk) g20 ?_
        obtain ⟨g21, h⟩ := gz_gu h
        subst g21
        obtain rfl := Option.some.inj h
        exact gz_athrowa hX dX2_name_47 (hk _ _)
    · replace h := gz_if' g10 h
      refine gz_Vs (fun _ kk => gz_aload_n (pc := 16) hX dX2_name_16 rfl 1 rfl kk) rfl ?_
      refine gz_Vs (fun _ kk => gz_iconst (pc := 17) (v := (1 : Int32)) hX dX2_name_17 (by decide) kk) rfl ?_
      refine gz_Vs (fun _ kk => gz_aload_n (pc := 18) hX dX2_name_18 rfl 1 rfl kk) rfl ?_
      refine gz_Vs (fun _ kk => cg_X2_61_2 (pc := 19) hX (c := 1011) (v := .int (gI m7 1011 3)) (fun h => cz_k h rfl) (fun _ => rfl) dX2_name_19 kk) rfl ?_
      obtain ⟨⟨r22, m23⟩, c24, h⟩ := gz_bd h
      obtain ⟨g25, h⟩ := gz_gu h
      refine gz_Vs (fun _ kk => cc_X2_47 (pc := 22) hX (fun h => cz_k h rfl) c24 ⟨Nat.le_of_ble_eq_true rfl, Nat.le_of_ble_eq_true rfl⟩ (rest := []) rfl (Nat.le_of_ble_eq_true rfl) dX2_name_22 kk) g25 ?_
      obtain ⟨g26, h⟩ := gz_gu h
      subst g26
      obtain rfl := Option.some.inj h
      exact gz_athrowa hX dX2_name_25 (hk _ _)
theorem ct_X2_name {G : gz_G} {l : Launch}   {m m9 : gM} {o : Option Nat} (h : cf_X2_name  m = some (o, m9)) : gx_Met cS G l yX2_name cX2_name 2 (some (.object "java/lang/String")) (mRc 7 154 (gZ m9 - gZ m) (gW m9 - gW m)) [.ref (gz_ad G 1011)] m m9 (o.map (fun r => some (.ref (gz_ad G r)))) :=
  gx_ofR (Or.inl ⟨_, rfl⟩) (by decide +kernel) (Nat.le_of_ble_eq_true rfl) ⟨_, rfl, rfl⟩ (fun h => cz_k (c := 1012) (k := 3) h rfl) fun X _ hX hk => (wm_X2_name (zE := m9.2.2.2.2.2) hX h (gx_km (fun _ q pc lv hd => gz_Ve (q pc lv hd)) (fun q pc lv => gz_VXe (q pc lv)) hk)).2
theorem cc_X2_100 {X : gz_X} {G : gz_G} {cc : ByteArray} {nL fr lo pc : Nat} {rem : Nat × Nat} {lv : List (Nat × Value)} {rest st0 : List Value} (hX : gz_C cS X G cc nL RX2 fr lo)  {m m9 : gM} (hK : clc m.1 m.2.1 m.2.2.2.2.1 → m.1 1011 = 2 + 1)  {r : Nat} (h : cf_X2_name  m = some (some r, m9)) (hroom : 7 + 1 ≤ fr ∧ 8 + (2 + 11) + 154 ≤ lo) (hst : st0 = [.ref (gz_ad G 1011)] ++ rest) (hW : (rest.map fun v => v.category).sum ≤ 8) (hd : decode cc pc = .ok (.invokevirtual 100, 3)) (kk : gz_V cS X G nL rem m9 (pc + 3) lv (.ref (gz_ad G r) :: rest)) : gz_V cS X G nL (rem.1 + (gZ m9 - gZ m), rem.2 + (gW m9 - gW m)) m pc lv st0 :=
  gz_callX hX cs_E (As := []) (rest := rest) (q := (RX2, TX2, 8)) (ci := 2) (c := 1011) (ct_X2_name (l := X.2.1) h) (lw_V q804 q806 qs13 q172 q807) (n := 0) (by decide +kernel) hroom rfl rfl (by decide) hK hst hW hd (rem := rem) (fun rv e => by obtain rfl := Option.some.inj e; exact kk) (fun e => by simp at e)
theorem cc_X2_100x {X : gz_X} {G : gz_G} {cc : ByteArray} {nL fr lo pc : Nat} {rem : Nat × Nat} {lv : List (Nat × Value)} {rest st0 : List Value} (hX : gz_C cS X G cc nL RX2 fr lo)  {m m9 : gM} (hK : clc m.1 m.2.1 m.2.2.2.2.1 → m.1 1011 = 2 + 1)  (h : cf_X2_name  m = some (none, m9)) (hroom : 7 + 1 ≤ fr ∧ 8 + (2 + 11) + 154 ≤ lo) (hst : st0 = [.ref (gz_ad G 1011)] ++ rest) (hW : (rest.map fun v => v.category).sum ≤ 8) (hd : decode cc pc = .ok (.invokevirtual 100, 3)) (kk : gz_VX cS X G nL rem m9 pc lv) : gz_V cS X G nL (rem.1 + (gZ m9 - gZ m), rem.2 + (gW m9 - gW m)) m pc lv st0 :=
  gz_callX hX cs_E (As := []) (rest := rest) (q := (RX2, TX2, 8)) (ci := 2) (c := 1011) (ct_X2_name (l := X.2.1) h) (lw_V q804 q806 qs13 q172 q807) (n := 0) (by decide +kernel) hroom rfl rfl (by decide) hK hst hW hd (rem := rem) (fun rv e => by simp at e) (fun _ => kk)
theorem cc_X2_113 {X : gz_X} {G : gz_G} {cc : ByteArray} {nL fr lo pc : Nat} {rem : Nat × Nat} {lv : List (Nat × Value)} {rest st0 : List Value} (hX : gz_C cS X G cc nL RX2 fr lo) {c0 : Nat} {c1 : Nat} {m m9 : gM}  {r : Int32} (h : cf_X7_find c0 c1 m = some (r, m9)) (hroom : 3 + 1 ≤ fr ∧ 8 + (3 + 11) + 64 ≤ lo) (hst : st0 = [.ref (gz_ad G c1), .ref (gz_ad G c0)] ++ rest) (hW : (rest.map fun v => v.category).sum ≤ 8) (hd : decode cc pc = .ok (.invokestatic 113, 3)) (kk : gz_V cS X G nL rem m9 (pc + 3) lv (.int r :: rest)) : gz_V cS X G nL rem m pc lv st0 :=
  gz_callS hX cs_E (As := [.ref (gz_ad G c0), .ref (gz_ad G c1)]) (rest := rest) (ct_X7_find (l := X.2.1) h) (lw_S q926 q827 q187 q828) (n := 2) (by decide +kernel) hroom rfl hst hW hd (rem := rem) kk
/-! FirstSnuffer$Reader.known(Ljava/util/List;I)I -/
noncomputable def mj_X2_known_19  (m : gM) : Option (Option Int32 × gM) :=
  ((cf_X2_wrong (3 : Int32) (gI m 1011 3) m).bind fun (r1, m2) => (if m2.2.2.2.2.2 = m.2.2.2.2.2 then (if r1 = 1012 then some (none, m2) else none) else none))
theorem wb_X2_known_19 {X : gz_X} {G : gz_G} {zE : Nat × Nat} (hX : gz_C cS X G cX2_known 4 RX2 8 175)   {m : gM} {z : (Option Int32 × gM)} (h : mj_X2_known_19  m = some z) (hk : (fun z : (Option Int32 × gM) => gx_k (fun r => gz_kIa cS X G 4 zE cX2_known z.2 r) (∀ (pc : Nat) (lv : List (Nat × Value)), gz_VXa cS X G 4 zE z.2 pc lv) z.1) z) : gz_Va cS X G 4 zE m 19 [(0, .ref (gz_ad G 1011))] [] := by
  unfold mj_X2_known_19 at h
  refine gz_Vs (fun _ kk => gz_aload_n (pc := 19) hX dX2_known_19 rfl 0 rfl kk) rfl ?_
  refine gz_Vs (fun _ kk => gz_iconst (pc := 20) (v := (3 : Int32)) hX dX2_known_20 (by decide) kk) rfl ?_
  refine gz_Vs (fun _ kk => gz_aload_n (pc := 21) hX dX2_known_21 rfl 0 rfl kk) rfl ?_
  refine gz_Vs (fun _ kk => cg_X2_61_2 (pc := 22) hX (c := 1011) (v := .int (gI m 1011 3)) (fun h => cz_k h rfl) (fun _ => rfl) dX2_known_22 kk) rfl ?_
  obtain ⟨⟨r1, m2⟩, c3, h⟩ := gz_bd h
  obtain ⟨g4, h⟩ := gz_gu h
  refine gz_Vs (fun _ kk => cc_X2_47 (pc := 25) hX (fun h => cz_k h rfl) c3 ⟨Nat.le_of_ble_eq_true rfl, Nat.le_of_ble_eq_true rfl⟩ (rest := []) rfl (Nat.le_of_ble_eq_true rfl) dX2_known_25 kk) g4 ?_
  obtain ⟨g5, h⟩ := gz_gu h
  subst g5
  obtain rfl := Option.some.inj h
  exact gz_athrowa hX dX2_known_28 (hk _ _)
noncomputable def cf_X2_known (c1 : Nat) (x2 : Int32) (m : gM) : Option (Option Int32 × gM) :=
  ((cf_X2_name  m).bind fun (o4, m2) => (if gZ m ≤ gZ m2 ∧ gW m ≤ gW m2 then gx_o o4 (fun r1 => ((cf_X7_find c1 r1 m2).bind fun (r6, m7) => (if m7.2.2.2.2.2 = m2.2.2.2.2.2 then (if r6 = (-1 : Int32) then (mj_X2_known_19  m7) else (if r6 = x2 then (mj_X2_known_19  m7) else some (some r6, m7))) else none))) (some (none, m2)) else none))
theorem wm_X2_known {X : gz_X} {G : gz_G} {zE : Nat × Nat} (hX : gz_C cS X G cX2_known 4 RX2 8 175) {c1 : Nat} {x2 : Int32}  {m : gM} {z : (Option Int32 × gM)} (h : cf_X2_known c1 x2 m = some z) (hk : (fun z : (Option Int32 × gM) => gx_k (fun r => gz_kIa cS X G 4 zE cX2_known z.2 r) (∀ (pc : Nat) (lv : List (Nat × Value)), gz_VXa cS X G 4 zE z.2 pc lv) z.1) z) : gz_Va cS X G 4 zE m 0 [(0, .ref (gz_ad G 1011)), (1, .ref (gz_ad G c1)), (2, .int x2)] [] := by
  unfold cf_X2_known at h
  refine gz_Vs (fun _ kk => gz_aload_n (pc := 0) hX dX2_known_0 rfl 1 rfl kk) rfl ?_
  refine gz_Vs (fun _ kk => gz_aload_n (pc := 1) hX dX2_known_1 rfl 0 rfl kk) rfl ?_
  obtain ⟨⟨o4, m2⟩, c3, h⟩ := gz_bd h
  obtain ⟨g5, h⟩ := gz_gu h
  cases o4 with
  | none =>
    replace h := gx_on h
    obtain rfl := Option.some.inj h
    exact gz_Vcx (k := gZ m2 - gZ m) (n := gW m2 - gW m) (fun _ kk => cc_X2_100x (pc := 2) hX (fun h => cz_k h rfl) c3 ⟨Nat.le_of_ble_eq_true rfl, Nat.le_of_ble_eq_true rfl⟩ (rest := [.ref (gz_ad G c1)]) rfl (Nat.le_of_ble_eq_true rfl) dX2_known_2 kk) ⟨by have := g5.1; dsimp only [gZ] at *; omega, by have := g5.2; dsimp only [gW] at *; omega⟩ (hk _ _)
  | some r1 =>
    replace h := gx_os h
    refine gz_Vc (k := gZ m2 - gZ m) (n := gW m2 - gW m) (fun _ kk => cc_X2_100 (pc := 2) hX (fun h => cz_k h rfl) c3 ⟨Nat.le_of_ble_eq_true rfl, Nat.le_of_ble_eq_true rfl⟩ (rest := [.ref (gz_ad G c1)]) rfl (Nat.le_of_ble_eq_true rfl) dX2_known_2 kk) ⟨by have := g5.1; dsimp only [gZ] at *; omega, by have := g5.2; dsimp only [gW] at *; omega⟩ ?_
    obtain ⟨⟨r6, m7⟩, c8, h⟩ := gz_bd h
    obtain ⟨g9, h⟩ := gz_gu h
    refine gz_Vs (fun _ kk => cc_X2_113 (pc := 5) hX c8 ⟨Nat.le_of_ble_eq_true rfl, Nat.le_of_ble_eq_true rfl⟩ (rest := []) rfl (Nat.le_of_ble_eq_true rfl) dX2_known_5 kk) g9 ?_
    refine gz_Vs (fun _ kk => gz_istore_n (pc := 8) (lw := [(3, .int r6), (0, .ref (gz_ad G 1011)), (1, .ref (gz_ad G c1)), (2, .int x2)]) hX dX2_known_8 rfl (by decide) rfl kk) rfl ?_
    refine gz_Vs (fun _ kk => gz_iload_n (pc := 9) hX dX2_known_9 rfl 0 rfl kk) rfl ?_
    refine gz_Vs (fun _ kk => gz_iconst (pc := 10) (v := (-1 : Int32)) hX dX2_known_10 (by decide) kk) rfl ?_
    refine gz_Vif (μ1 := m) (μ2 := m) (fun _ k1 k2 => gz_icmp_eq (pc := 11) (tgt := 19) hX dX2_known_11 (by decide) k1 k2) (by first | exact Classical.em _ | exact (Classical.em _).symm) (fun g10 => ?_) (fun g10 => ?_)
    · replace h := gz_it' g10 h
      refine gz_Vs (fun _ kk => gz_sub (lw := [(0, .ref (gz_ad G 1011))]) [1] rfl kk) rfl ?_
      exact wb_X2_known_19 hX h hk
    · replace h := gz_if' g10 h
      refine gz_Vs (fun _ kk => gz_iload_n (pc := 14) hX dX2_known_14 rfl 0 rfl kk) rfl ?_
      refine gz_Vs (fun _ kk => gz_iload_n (pc := 15) hX dX2_known_15 rfl 3 rfl kk) rfl ?_
      refine gz_Vif (μ1 := m) (μ2 := m) (fun _ k1 k2 => gz_icmp_ne (pc := 16) (tgt := 29) hX dX2_known_16 (by decide) k1 k2) (by first | exact Classical.em _ | exact (Classical.em _).symm) (fun g11 => ?_) (fun g11 => ?_)
      · replace h := gz_if' g11 h
        refine gz_Vs (fun _ kk => gz_iload_n (pc := 29) hX dX2_known_29 rfl 0 rfl kk) rfl ?_
        obtain rfl := Option.some.inj h
        exact hk _ _ dX2_known_30
      · replace h := gz_it' g11 h
        refine gz_Vs (fun _ kk => gz_sub (lw := [(0, .ref (gz_ad G 1011))]) [1] rfl kk) rfl ?_
        exact wb_X2_known_19 hX h hk
theorem ct_X2_known {G : gz_G} {l : Launch} {c1 : Nat} {x2 : Int32}  {m m9 : gM} {o : Option Int32} (h : cf_X2_known c1 x2 m = some (o, m9)) : gx_Met cS G l yX2_known cX2_known 4 (some .int) (mRc 8 175 (gZ m9 - gZ m) (gW m9 - gW m)) [.ref (gz_ad G 1011), .ref (gz_ad G c1), .int x2] m m9 (o.map (fun r => some (.int r))) :=
  gx_ofI (by decide +kernel) (Nat.le_of_ble_eq_true rfl) ⟨_, rfl, rfl⟩ (fun h => cz_k (c := 1012) (k := 3) h rfl) fun X _ hX hk => (wm_X2_known (zE := m9.2.2.2.2.2) hX h (gx_km (fun _ q pc lv hd => gz_Ve (q pc lv hd)) (fun q pc lv => gz_VXe (q pc lv)) hk)).2
theorem cc_X2_74 {X : gz_X} {G : gz_G} {cc : ByteArray} {nL fr lo pc : Nat} {rem : Nat × Nat} {lv : List (Nat × Value)} {rest st0 : List Value} (hX : gz_C cS X G cc nL RX2 fr lo) {c0 : Nat} {c1 : Nat} {m m9 : gM} (hK : clc m.1 m.2.1 m.2.2.2.2.1 → m.1 c0 = 21 + 1)  {r : Int32} (h : cf_J9_equals c0 c1 m = some (r, m9)) (hroom : 1 + 1 ≤ fr ∧ 8 + (3 + 11) + 22 ≤ lo) (hst : st0 = [.ref (gz_ad G c1), .ref (gz_ad G c0)] ++ rest) (hW : (rest.map fun v => v.category).sum ≤ 8) (hd : decode cc pc = .ok (.invokevirtual 74, 3)) (kk : gz_V cS X G nL rem m9 (pc + 3) lv (.int r :: rest)) : gz_V cS X G nL rem m pc lv st0 :=
  gz_callV2 hX cs_E (As := [.ref (gz_ad G c1)]) (rest := rest) (q := (RJ9, TJ9, 4)) (ci := 21) (c := c0) (ct_J9_equals (l := X.2.1) h) (lw_V q785 q786 q787 q183 q788) (n := 1) (by decide +kernel) hroom rfl rfl (by decide) hK hst hW hd (rem := rem) kk
/-! FirstSnuffer$Reader.word(Ljava/lang/String;)V -/
noncomputable def cf_X2_word_2 (c1 : Nat) (m : gM) : Option (Option Unit × gM) :=
  ((cf_X2_word  m).bind fun (o4, m2) => (if gZ m ≤ gZ m2 ∧ gW m ≤ gW m2 then gx_o o4 (fun r1 => (if gK m2 r1 = 22 then ((cf_J9_equals r1 c1 m2).bind fun (r7, m8) => (if m8.2.2.2.2.2 = m2.2.2.2.2.2 then (if r7 = (0 : Int32) then ((cf_X2_wrong (1 : Int32) (gI m8 1011 3) m8).bind fun (r12, m13) => (if m13.2.2.2.2.2 = m8.2.2.2.2.2 then (if r12 = 1012 then some (none, m13) else none) else none)) else some (some (), m8)) else none)) else none)) (some (none, m2)) else none))
theorem wm_X2_word_2 {X : gz_X} {G : gz_G} {zE : Nat × Nat} (hX : gz_C cS X G cX2_word_2 2 RX2 7 154) {c1 : Nat}  {m : gM} {z : (Option Unit × gM)} (h : cf_X2_word_2 c1 m = some z) (hk : (fun z : (Option Unit × gM) => gx_k (fun _ => gz_kVa cS X G 2 zE cX2_word_2 z.2) (∀ (pc : Nat) (lv : List (Nat × Value)), gz_VXa cS X G 2 zE z.2 pc lv) z.1) z) : gz_Va cS X G 2 zE m 0 [(0, .ref (gz_ad G 1011)), (1, .ref (gz_ad G c1))] [] := by
  unfold cf_X2_word_2 at h
  refine gz_Vs (fun _ kk => gz_aload_n (pc := 0) hX dX2_word_2_0 rfl 0 rfl kk) rfl ?_
  obtain ⟨⟨o4, m2⟩, c3, h⟩ := gz_bd h
  obtain ⟨g5, h⟩ := gz_gu h
  cases o4 with
  | none =>
    replace h := gx_on h
    obtain rfl := Option.some.inj h
    exact gz_Vcx (k := gZ m2 - gZ m) (n := gW m2 - gW m) (fun _ kk => cc_X2_70x (pc := 1) hX (fun h => cz_k h rfl) c3 ⟨Nat.le_of_ble_eq_true rfl, Nat.le_of_ble_eq_true rfl⟩ (rest := []) rfl (Nat.le_of_ble_eq_true rfl) dX2_word_2_1 kk) ⟨by have := g5.1; dsimp only [gZ] at *; omega, by have := g5.2; dsimp only [gW] at *; omega⟩ (hk _ _)
  | some r1 =>
    replace h := gx_os h
    refine gz_Vc (k := gZ m2 - gZ m) (n := gW m2 - gW m) (fun _ kk => cc_X2_70 (pc := 1) hX (fun h => cz_k h rfl) c3 ⟨Nat.le_of_ble_eq_true rfl, Nat.le_of_ble_eq_true rfl⟩ (rest := []) rfl (Nat.le_of_ble_eq_true rfl) dX2_word_2_1 kk) ⟨by have := g5.1; dsimp only [gZ] at *; omega, by have := g5.2; dsimp only [gW] at *; omega⟩ ?_
    refine gz_Vs (fun _ kk => gz_aload_n (pc := 4) hX dX2_word_2_4 rfl 1 rfl kk) rfl ?_
    obtain ⟨g6, h⟩ := gz_gu h
    obtain ⟨⟨r7, m8⟩, c9, h⟩ := gz_bd h
    obtain ⟨g10, h⟩ := gz_gu h
    refine gz_Vs (fun _ kk => cc_X2_74 (pc := 5) hX (fun _ => g6) c9 ⟨Nat.le_of_ble_eq_true rfl, Nat.le_of_ble_eq_true rfl⟩ (rest := []) rfl (Nat.le_of_ble_eq_true rfl) dX2_word_2_5 kk) g10 ?_
    refine gz_Vif (μ1 := m) (μ2 := m) (fun _ k1 k2 => gz_if_ne (pc := 8) (tgt := 21) hX dX2_word_2_8 (by decide) k1 k2) (by first | exact Classical.em _ | exact (Classical.em _).symm) (fun g11 => ?_) (fun g11 => ?_)
    · replace h := gz_if' g11 h
      obtain rfl := Option.some.inj h
      exact hk _ _ dX2_word_2_21
    · replace h := gz_it' g11 h
      refine gz_Vs (fun _ kk => gz_aload_n (pc := 11) hX dX2_word_2_11 rfl 0 rfl kk) rfl ?_
      refine gz_Vs (fun _ kk => gz_iconst (pc := 12) (v := (1 : Int32)) hX dX2_word_2_12 (by decide) kk) rfl ?_
      refine gz_Vs (fun _ kk => gz_aload_n (pc := 13) hX dX2_word_2_13 rfl 0 rfl kk) rfl ?_
      refine gz_Vs (fun _ kk => cg_X2_61_2 (pc := 14) hX (c := 1011) (v := .int (gI m8 1011 3)) (fun h => cz_k h rfl) (fun _ => rfl) dX2_word_2_14 kk) rfl ?_
      obtain ⟨⟨r12, m13⟩, c14, h⟩ := gz_bd h
      obtain ⟨g15, h⟩ := gz_gu h
      refine gz_Vs (fun _ kk => cc_X2_47 (pc := 17) hX (fun h => cz_k h rfl) c14 ⟨Nat.le_of_ble_eq_true rfl, Nat.le_of_ble_eq_true rfl⟩ (rest := []) rfl (Nat.le_of_ble_eq_true rfl) dX2_word_2_17 kk) g15 ?_
      obtain ⟨g16, h⟩ := gz_gu h
      subst g16
      obtain rfl := Option.some.inj h
      exact gz_athrowa hX dX2_word_2_20 (hk _ _)
theorem ct_X2_word_2 {G : gz_G} {l : Launch} {c1 : Nat}  {m m9 : gM} {o : Option Unit} (h : cf_X2_word_2 c1 m = some (o, m9)) : gx_Met cS G l yX2_word_2 cX2_word_2 2 none (mRc 7 154 (gZ m9 - gZ m) (gW m9 - gW m)) [.ref (gz_ad G 1011), .ref (gz_ad G c1)] m m9 (o.map (fun _ => none)) :=
  gx_ofV (by decide +kernel) (Nat.le_of_ble_eq_true rfl) ⟨_, rfl, rfl⟩ (fun h => cz_k (c := 1012) (k := 3) h rfl) fun X _ hX hk => (wm_X2_word_2 (zE := m9.2.2.2.2.2) hX h (gx_km (fun _ q pc lv hd => gz_Ve (q pc lv hd)) (fun q pc lv => gz_VXe (q pc lv)) hk)).2
theorem cc_X2_93 {X : gz_X} {G : gz_G} {cc : ByteArray} {nL fr lo pc : Nat} {rem : Nat × Nat} {lv : List (Nat × Value)} {rest st0 : List Value} (hX : gz_C cS X G cc nL RX2 fr lo) {c1 : Nat} {m m9 : gM} (hK : clc m.1 m.2.1 m.2.2.2.2.1 → m.1 1011 = 2 + 1)  (h : cf_X2_word_2 c1 m = some (some (), m9)) (hroom : 7 + 1 ≤ fr ∧ 8 + (2 + 11) + 154 ≤ lo) (hst : st0 = [.ref (gz_ad G c1), .ref (gz_ad G 1011)] ++ rest) (hW : (rest.map fun v => v.category).sum ≤ 8) (hd : decode cc pc = .ok (.invokevirtual 93, 3)) (kk : gz_V cS X G nL rem m9 (pc + 3) lv (rest)) : gz_V cS X G nL (rem.1 + (gZ m9 - gZ m), rem.2 + (gW m9 - gW m)) m pc lv st0 :=
  gz_callX hX cs_E (As := [.ref (gz_ad G c1)]) (rest := rest) (q := (RX2, TX2, 8)) (ci := 2) (c := 1011) (ct_X2_word_2 (l := X.2.1) h) (lw_V q928 q930 qs19 q172 q931) (n := 1) (by decide +kernel) hroom rfl rfl (by decide) hK hst hW hd (rem := rem) (fun rv e => by obtain rfl := Option.some.inj e; exact kk) (fun e => by simp at e)
theorem cc_X2_93x {X : gz_X} {G : gz_G} {cc : ByteArray} {nL fr lo pc : Nat} {rem : Nat × Nat} {lv : List (Nat × Value)} {rest st0 : List Value} (hX : gz_C cS X G cc nL RX2 fr lo) {c1 : Nat} {m m9 : gM} (hK : clc m.1 m.2.1 m.2.2.2.2.1 → m.1 1011 = 2 + 1)  (h : cf_X2_word_2 c1 m = some (none, m9)) (hroom : 7 + 1 ≤ fr ∧ 8 + (2 + 11) + 154 ≤ lo) (hst : st0 = [.ref (gz_ad G c1), .ref (gz_ad G 1011)] ++ rest) (hW : (rest.map fun v => v.category).sum ≤ 8) (hd : decode cc pc = .ok (.invokevirtual 93, 3)) (kk : gz_VX cS X G nL rem m9 pc lv) : gz_V cS X G nL (rem.1 + (gZ m9 - gZ m), rem.2 + (gW m9 - gW m)) m pc lv st0 :=
  gz_callX hX cs_E (As := [.ref (gz_ad G c1)]) (rest := rest) (q := (RX2, TX2, 8)) (ci := 2) (c := 1011) (ct_X2_word_2 (l := X.2.1) h) (lw_V q928 q930 qs19 q172 q931) (n := 1) (by decide +kernel) hroom rfl rfl (by decide) hK hst hW hd (rem := rem) (fun rv e => by simp at e) (fun _ => kk)
theorem cc_X2_96 {X : gz_X} {G : gz_G} {cc : ByteArray} {nL fr lo pc : Nat} {rem : Nat × Nat} {lv : List (Nat × Value)} {rest st0 : List Value} (hX : gz_C cS X G cc nL RX2 fr lo) {x1 : Int32} {x2 : Int32} {m m9 : gM} (hK : clc m.1 m.2.1 m.2.2.2.2.1 → m.1 1011 = 2 + 1)  {r : Int32} (h : cf_X2_number_2 x1 x2 m = some (some r, m9)) (hroom : 2 + 1 ≤ fr ∧ 8 + (4 + 11) + 42 ≤ lo) (hst : st0 = [.int x2, .int x1, .ref (gz_ad G 1011)] ++ rest) (hW : (rest.map fun v => v.category).sum ≤ 8) (hd : decode cc pc = .ok (.invokevirtual 96, 3)) (kk : gz_V cS X G nL rem m9 (pc + 3) lv (.int r :: rest)) : gz_V cS X G nL (rem.1 + (gZ m9 - gZ m), rem.2 + (gW m9 - gW m)) m pc lv st0 :=
  gz_callX hX cs_E (As := [.int x1, .int x2]) (rest := rest) (q := (RX2, TX2, 8)) (ci := 2) (c := 1011) (ct_X2_number_2 (l := X.2.1) h) (lw_V q939 q941 qs21 q172 q942) (n := 2) (by decide +kernel) hroom rfl rfl (by decide) hK hst hW hd (rem := rem) (fun rv e => by obtain rfl := Option.some.inj e; exact kk) (fun e => by simp at e)
theorem cc_X2_96x {X : gz_X} {G : gz_G} {cc : ByteArray} {nL fr lo pc : Nat} {rem : Nat × Nat} {lv : List (Nat × Value)} {rest st0 : List Value} (hX : gz_C cS X G cc nL RX2 fr lo) {x1 : Int32} {x2 : Int32} {m m9 : gM} (hK : clc m.1 m.2.1 m.2.2.2.2.1 → m.1 1011 = 2 + 1)  (h : cf_X2_number_2 x1 x2 m = some (none, m9)) (hroom : 2 + 1 ≤ fr ∧ 8 + (4 + 11) + 42 ≤ lo) (hst : st0 = [.int x2, .int x1, .ref (gz_ad G 1011)] ++ rest) (hW : (rest.map fun v => v.category).sum ≤ 8) (hd : decode cc pc = .ok (.invokevirtual 96, 3)) (kk : gz_VX cS X G nL rem m9 pc lv) : gz_V cS X G nL (rem.1 + (gZ m9 - gZ m), rem.2 + (gW m9 - gW m)) m pc lv st0 :=
  gz_callX hX cs_E (As := [.int x1, .int x2]) (rest := rest) (q := (RX2, TX2, 8)) (ci := 2) (c := 1011) (ct_X2_number_2 (l := X.2.1) h) (lw_V q939 q941 qs21 q172 q942) (n := 2) (by decide +kernel) hroom rfl rfl (by decide) hK hst hW hd (rem := rem) (fun rv e => by simp at e) (fun _ => kk)
/-! FirstSnuffer$Reader.number(Ljava/lang/String;II)I -/
noncomputable def cf_X2_number (c1 : Nat) (x2 : Int32) (x3 : Int32) (m : gM) : Option (Option Int32 × gM) :=
  ((cf_X2_word_2 c1 m).bind fun (o4, m2) => (if gZ m ≤ gZ m2 ∧ gW m ≤ gW m2 then gx_o o4 (fun r1 => ((cf_X2_number_2 x2 x3 m2).bind fun (o9, m7) => (if gZ m2 ≤ gZ m7 ∧ gW m2 ≤ gW m7 then gx_o o9 (fun r6 => some (some r6, m7)) (some (none, m7)) else none))) (some (none, m2)) else none))
theorem wm_X2_number {X : gz_X} {G : gz_G} {zE : Nat × Nat} (hX : gz_C cS X G cX2_number 4 RX2 8 175) {c1 : Nat} {x2 : Int32} {x3 : Int32}  {m : gM} {z : (Option Int32 × gM)} (h : cf_X2_number c1 x2 x3 m = some z) (hk : (fun z : (Option Int32 × gM) => gx_k (fun r => gz_kIa cS X G 4 zE cX2_number z.2 r) (∀ (pc : Nat) (lv : List (Nat × Value)), gz_VXa cS X G 4 zE z.2 pc lv) z.1) z) : gz_Va cS X G 4 zE m 0 [(0, .ref (gz_ad G 1011)), (1, .ref (gz_ad G c1)), (2, .int x2), (3, .int x3)] [] := by
  unfold cf_X2_number at h
  refine gz_Vs (fun _ kk => gz_aload_n (pc := 0) hX dX2_number_0 rfl 0 rfl kk) rfl ?_
  refine gz_Vs (fun _ kk => gz_aload_n (pc := 1) hX dX2_number_1 rfl 1 rfl kk) rfl ?_
  obtain ⟨⟨o4, m2⟩, c3, h⟩ := gz_bd h
  obtain ⟨g5, h⟩ := gz_gu h
  cases o4 with
  | none =>
    replace h := gx_on h
    obtain rfl := Option.some.inj h
    exact gz_Vcx (k := gZ m2 - gZ m) (n := gW m2 - gW m) (fun _ kk => cc_X2_93x (pc := 2) hX (fun h => cz_k h rfl) c3 ⟨Nat.le_of_ble_eq_true rfl, Nat.le_of_ble_eq_true rfl⟩ (rest := []) rfl (Nat.le_of_ble_eq_true rfl) dX2_number_2 kk) ⟨by have := g5.1; dsimp only [gZ] at *; omega, by have := g5.2; dsimp only [gW] at *; omega⟩ (hk _ _)
  | some r1 =>
    replace h := gx_os h
    refine gz_Vc (k := gZ m2 - gZ m) (n := gW m2 - gW m) (fun _ kk => cc_X2_93 (pc := 2) hX (fun h => cz_k h rfl) c3 ⟨Nat.le_of_ble_eq_true rfl, Nat.le_of_ble_eq_true rfl⟩ (rest := []) rfl (Nat.le_of_ble_eq_true rfl) dX2_number_2 kk) ⟨by have := g5.1; dsimp only [gZ] at *; omega, by have := g5.2; dsimp only [gW] at *; omega⟩ ?_
    refine gz_Vs (fun _ kk => gz_aload_n (pc := 5) hX dX2_number_5 rfl 0 rfl kk) rfl ?_
    refine gz_Vs (fun _ kk => gz_iload_n (pc := 6) hX dX2_number_6 rfl 2 rfl kk) rfl ?_
    refine gz_Vs (fun _ kk => gz_iload_n (pc := 7) hX dX2_number_7 rfl 3 rfl kk) rfl ?_
    obtain ⟨⟨o9, m7⟩, c8, h⟩ := gz_bd h
    obtain ⟨g10, h⟩ := gz_gu h
    cases o9 with
    | none =>
      replace h := gx_on h
      obtain rfl := Option.some.inj h
      exact gz_Vcx (k := gZ m7 - gZ m2) (n := gW m7 - gW m2) (fun _ kk => cc_X2_96x (pc := 8) hX (fun h => cz_k h rfl) c8 ⟨Nat.le_of_ble_eq_true rfl, Nat.le_of_ble_eq_true rfl⟩ (rest := []) rfl (Nat.le_of_ble_eq_true rfl) dX2_number_8 kk) ⟨by have := g10.1; dsimp only [gZ] at *; omega, by have := g10.2; dsimp only [gW] at *; omega⟩ (hk _ _)
    | some r6 =>
      replace h := gx_os h
      refine gz_Vc (k := gZ m7 - gZ m2) (n := gW m7 - gW m2) (fun _ kk => cc_X2_96 (pc := 8) hX (fun h => cz_k h rfl) c8 ⟨Nat.le_of_ble_eq_true rfl, Nat.le_of_ble_eq_true rfl⟩ (rest := []) rfl (Nat.le_of_ble_eq_true rfl) dX2_number_8 kk) ⟨by have := g10.1; dsimp only [gZ] at *; omega, by have := g10.2; dsimp only [gW] at *; omega⟩ ?_
      obtain rfl := Option.some.inj h
      exact hk _ _ dX2_number_11
theorem ct_X2_number {G : gz_G} {l : Launch} {c1 : Nat} {x2 : Int32} {x3 : Int32}  {m m9 : gM} {o : Option Int32} (h : cf_X2_number c1 x2 x3 m = some (o, m9)) : gx_Met cS G l yX2_number cX2_number 4 (some .int) (mRc 8 175 (gZ m9 - gZ m) (gW m9 - gW m)) [.ref (gz_ad G 1011), .ref (gz_ad G c1), .int x2, .int x3] m m9 (o.map (fun r => some (.int r))) :=
  gx_ofI (by decide +kernel) (Nat.le_of_ble_eq_true rfl) ⟨_, rfl, rfl⟩ (fun h => cz_k (c := 1012) (k := 3) h rfl) fun X _ hX hk => (wm_X2_number (zE := m9.2.2.2.2.2) hX h (gx_km (fun _ q pc lv hd => gz_Ve (q pc lv hd)) (fun q pc lv => gz_VXe (q pc lv)) hk)).2
theorem cg_X2_103_2 {X : gz_X} {G : gz_G} {cc : ByteArray} {nL fr lo pc : Nat} {rem : Nat × Nat} {m : gM} {lv : List (Nat × Value)} {st : List Value} (hX : gz_C cS X G cc nL RX2 fr lo) {c : Nat} {v : Value} (hK : clc m.1 m.2.1 m.2.2.2.2.1 → m.1 c = 2 + 1) (hv : clc m.1 m.2.1 m.2.2.2.2.1 → gz_u (gz_ad G) m (ftC 2 6) c 6 = v) (hd : decode cc pc = .ok (.getfield 103, 3)) (kk : gz_V cS X G nL rem m (pc + 3) lv (v :: st)) : gz_V cS X G nL rem m pc lv (.ref (gz_ad G c) :: st) :=
  gz_getf hX (C := RX2) (T := TX2) (N := 8) (ci := 2) (k := 6) rfl (by decide) in_X2 (by decide) (Or.inl (hX.2.2.2.2.1 _ q376)) hd hK hv kk
theorem cg_X2_187_1 {X : gz_X} {G : gz_G} {cc : ByteArray} {nL fr lo pc : Nat} {rem : Nat × Nat} {m : gM} {lv : List (Nat × Value)} {st : List Value} (hX : gz_C cS X G cc nL RX2 fr lo) {c : Nat} {v : Value} (hK : clc m.1 m.2.1 m.2.2.2.2.1 → m.1 c = 1 + 1) (hv : clc m.1 m.2.1 m.2.2.2.2.1 → gz_u (gz_ad G) m (ftC 1 6) c 6 = v) (hd : decode cc pc = .ok (.getfield 187, 3)) (kk : gz_V cS X G nL rem m (pc + 3) lv (v :: st)) : gz_V cS X G nL rem m pc lv (.ref (gz_ad G c) :: st) :=
  gz_getf hX (C := RX1) (T := TX1) (N := 9) (ci := 1) (k := 6) rfl (by decide) in_X1 (by decide) (Or.inr ⟨_, va_Nw.use rfl (cz_n (Z := cS) hX q267 rfl)⟩) hd hK hv kk
theorem cc_X2_145 {X : gz_X} {G : gz_G} {cc : ByteArray} {nL fr lo pc : Nat} {rem : Nat × Nat} {lv : List (Nat × Value)} {rest st0 : List Value} (hX : gz_C cS X G cc nL RX2 fr lo) {c0 : Nat} {m m9 : gM} (hK : clc m.1 m.2.1 m.2.2.2.2.1 → m.1 c0 = 20 + 1)  {r : Int32} (h : cf_J2_size c0 m = some (r, m9)) (hroom : 0 + 1 ≤ fr ∧ 8 + (1 + 11) + 0 ≤ lo) (hst : st0 = [.ref (gz_ad G c0)] ++ rest) (hW : (rest.map fun v => v.category).sum ≤ 8) (hd : decode cc pc = .ok (.invokeinterface 145 1, 5)) (kk : gz_V cS X G nL rem m9 (pc + 5) lv (.int r :: rest)) : gz_V cS X G nL rem m pc lv st0 :=
  gz_callF hX cs_E (x := cLs) (As := []) (rest := rest) (q := (RJ2, TJ2, 3)) (ci := 20) (c := c0) (ct_J2_size (l := X.2.1) h) (va_cwF 0 hX.2.2.2.2.1 (lw_app (by intro w hw; simp only [List.mem_cons, List.not_mem_nil, or_false] at hw; rcases hw with e | e | e | e <;> rw [e] <;> first | exact q797 | exact q468 | exact q470 | exact q171) (lw_meth q472)) rfl rfl rfl hX.2.2.2.2.2.1.2.2.2.1 (by decide +kernel) ⟨Nat.le_trans hroom.1 hX.2.2.2.2.2.2.1, Nat.le_trans hroom.2 hX.2.2.2.2.2.2.2⟩) rfl rfl (by decide) hK hst hW hd (rem := rem) kk
theorem cc_X2_125 {X : gz_X} {G : gz_G} {cc : ByteArray} {nL fr lo pc : Nat} {rem : Nat × Nat} {lv : List (Nat × Value)} {rest st0 : List Value} (hX : gz_C cS X G cc nL RX2 fr lo) {x1 : Int32} {x2 : Int32} {m m9 : gM} (hK : clc m.1 m.2.1 m.2.2.2.2.1 → m.1 1011 = 2 + 1)  (h : cf_X2_most x1 x2 m = some (some (), m9)) (hroom : 1 + 1 ≤ fr ∧ 8 + (3 + 11) + 22 ≤ lo) (hst : st0 = [.int x2, .int x1, .ref (gz_ad G 1011)] ++ rest) (hW : (rest.map fun v => v.category).sum ≤ 8) (hd : decode cc pc = .ok (.invokevirtual 125, 3)) (kk : gz_V cS X G nL rem m9 (pc + 3) lv (rest)) : gz_V cS X G nL (rem.1 + (gZ m9 - gZ m), rem.2 + (gW m9 - gW m)) m pc lv st0 :=
  gz_callX hX cs_E (As := [.int x1, .int x2]) (rest := rest) (q := (RX2, TX2, 8)) (ci := 2) (c := 1011) (ct_X2_most (l := X.2.1) h) (lw_V q627 q629 qs7 q172 q630) (n := 2) (by decide +kernel) hroom rfl rfl (by decide) hK hst hW hd (rem := rem) (fun rv e => by obtain rfl := Option.some.inj e; exact kk) (fun e => by simp at e)
theorem cc_X2_125x {X : gz_X} {G : gz_G} {cc : ByteArray} {nL fr lo pc : Nat} {rem : Nat × Nat} {lv : List (Nat × Value)} {rest st0 : List Value} (hX : gz_C cS X G cc nL RX2 fr lo) {x1 : Int32} {x2 : Int32} {m m9 : gM} (hK : clc m.1 m.2.1 m.2.2.2.2.1 → m.1 1011 = 2 + 1)  (h : cf_X2_most x1 x2 m = some (none, m9)) (hroom : 1 + 1 ≤ fr ∧ 8 + (3 + 11) + 22 ≤ lo) (hst : st0 = [.int x2, .int x1, .ref (gz_ad G 1011)] ++ rest) (hW : (rest.map fun v => v.category).sum ≤ 8) (hd : decode cc pc = .ok (.invokevirtual 125, 3)) (kk : gz_VX cS X G nL rem m9 pc lv) : gz_V cS X G nL (rem.1 + (gZ m9 - gZ m), rem.2 + (gW m9 - gW m)) m pc lv st0 :=
  gz_callX hX cs_E (As := [.int x1, .int x2]) (rest := rest) (q := (RX2, TX2, 8)) (ci := 2) (c := 1011) (ct_X2_most (l := X.2.1) h) (lw_V q627 q629 qs7 q172 q630) (n := 2) (by decide +kernel) hroom rfl rfl (by decide) hK hst hW hd (rem := rem) (fun rv e => by simp at e) (fun _ => kk)
theorem cg_X2_170_1 {X : gz_X} {G : gz_G} {cc : ByteArray} {nL fr lo pc : Nat} {rem : Nat × Nat} {m : gM} {lv : List (Nat × Value)} {st : List Value} (hX : gz_C cS X G cc nL RX2 fr lo) {c : Nat} {v : Value} (hK : clc m.1 m.2.1 m.2.2.2.2.1 → m.1 c = 1 + 1) (hv : clc m.1 m.2.1 m.2.2.2.2.1 → gz_u (gz_ad G) m (ftC 1 5) c 5 = v) (hd : decode cc pc = .ok (.getfield 170, 3)) (kk : gz_V cS X G nL rem m (pc + 3) lv (v :: st)) : gz_V cS X G nL rem m pc lv (.ref (gz_ad G c) :: st) :=
  gz_getf hX (C := RX1) (T := TX1) (N := 9) (ci := 1) (k := 5) rfl (by decide) in_X1 (by decide) (Or.inr ⟨_, va_Nw.use rfl (cz_n (Z := cS) hX q264 rfl)⟩) hd hK hv kk
theorem cc_X2_152 {X : gz_X} {G : gz_G} {cc : ByteArray} {nL fr lo pc : Nat} {rem : Nat × Nat} {lv : List (Nat × Value)} {rest st0 : List Value} (hX : gz_C cS X G cc nL RX2 fr lo) {c1 : Nat} {x2 : Int32} {m m9 : gM} (hK : clc m.1 m.2.1 m.2.2.2.2.1 → m.1 1011 = 2 + 1)  {r : Int32} (h : cf_X2_known c1 x2 m = some (some r, m9)) (hroom : 8 + 1 ≤ fr ∧ 8 + (4 + 11) + 175 ≤ lo) (hst : st0 = [.int x2, .ref (gz_ad G c1), .ref (gz_ad G 1011)] ++ rest) (hW : (rest.map fun v => v.category).sum ≤ 8) (hd : decode cc pc = .ok (.invokevirtual 152, 3)) (kk : gz_V cS X G nL rem m9 (pc + 3) lv (.int r :: rest)) : gz_V cS X G nL (rem.1 + (gZ m9 - gZ m), rem.2 + (gW m9 - gW m)) m pc lv st0 :=
  gz_callX hX cs_E (As := [.ref (gz_ad G c1), .int x2]) (rest := rest) (q := (RX2, TX2, 8)) (ci := 2) (c := 1011) (ct_X2_known (l := X.2.1) h) (lw_V q922 q924 qs18 q172 q925) (n := 2) (by decide +kernel) hroom rfl rfl (by decide) hK hst hW hd (rem := rem) (fun rv e => by obtain rfl := Option.some.inj e; exact kk) (fun e => by simp at e)
theorem cc_X2_152x {X : gz_X} {G : gz_G} {cc : ByteArray} {nL fr lo pc : Nat} {rem : Nat × Nat} {lv : List (Nat × Value)} {rest st0 : List Value} (hX : gz_C cS X G cc nL RX2 fr lo) {c1 : Nat} {x2 : Int32} {m m9 : gM} (hK : clc m.1 m.2.1 m.2.2.2.2.1 → m.1 1011 = 2 + 1)  (h : cf_X2_known c1 x2 m = some (none, m9)) (hroom : 8 + 1 ≤ fr ∧ 8 + (4 + 11) + 175 ≤ lo) (hst : st0 = [.int x2, .ref (gz_ad G c1), .ref (gz_ad G 1011)] ++ rest) (hW : (rest.map fun v => v.category).sum ≤ 8) (hd : decode cc pc = .ok (.invokevirtual 152, 3)) (kk : gz_VX cS X G nL rem m9 pc lv) : gz_V cS X G nL (rem.1 + (gZ m9 - gZ m), rem.2 + (gW m9 - gW m)) m pc lv st0 :=
  gz_callX hX cs_E (As := [.ref (gz_ad G c1), .int x2]) (rest := rest) (q := (RX2, TX2, 8)) (ci := 2) (c := 1011) (ct_X2_known (l := X.2.1) h) (lw_V q922 q924 qs18 q172 q925) (n := 2) (by decide +kernel) hroom rfl rfl (by decide) hK hst hW hd (rem := rem) (fun rv e => by simp at e) (fun _ => kk)
theorem cl_s_X2_156 {X : gz_X} {G : gz_G} {cc : ByteArray} {nL : Nat} {own : String} {fr lo : Nat} (hX : gz_C cS X G cc nL own fr lo) : vk_R RX2 156 "to" (gz_ad G 134) X.2.2.2.2.1 := (cz_s hX).1 _ (List.mem_of_getElem? (show cKs[31]? = some ("FirstSnuffer$Reader", 156, "to", 134) from rfl))
theorem cc_X2_190 {X : gz_X} {G : gz_G} {cc : ByteArray} {nL fr lo pc : Nat} {rem : Nat × Nat} {lv : List (Nat × Value)} {rest st0 : List Value} (hX : gz_C cS X G cc nL RX2 fr lo) {c0 : Nat} {x1 : Int32} {x2 : Int32} {m m9 : gM} (hK : clc m.1 m.2.1 m.2.2.2.2.1 → m.1 c0 = 1 + 1)  {r : Int32} (h : cf_X1_isTied c0 x1 x2 m = some (r, m9)) (hroom : 3 + 1 ≤ fr ∧ 8 + (4 + 11) + 64 ≤ lo) (hst : st0 = [.int x2, .int x1, .ref (gz_ad G c0)] ++ rest) (hW : (rest.map fun v => v.category).sum ≤ 8) (hd : decode cc pc = .ok (.invokevirtual 190, 3)) (kk : gz_V cS X G nL rem m9 (pc + 3) lv (.int r :: rest)) : gz_V cS X G nL rem m pc lv st0 :=
  gz_callV2 hX cs_E (As := [.int x1, .int x2]) (rest := rest) (q := (RX1, TX1, 9)) (ci := 1) (c := c0) (ct_X1_isTied (l := X.2.1) h) (lw_V q996 q997 q998 q168 q999) (n := 2) (by decide +kernel) hroom rfl rfl (by decide) hK hst hW hd (rem := rem) kk
theorem cn_X2_194 {X : gz_X} {G : gz_G} {cc : ByteArray} {nL fr lo pc : Nat} {rem : Nat × Nat} {m m9 : gM} {lv : List (Nat × Value)} {st : List Value} (hX : gz_C cS X G cc nL RX2 fr lo) (hz : gZ m ≠ 0) (hd : decode cc pc = .ok (.new 194, 3)) (hm : m9 = gz_al m (9 + 1) 0 2) (kk : gz_V cS X G nL rem m9 (pc + 3) lv (.ref (gz_ad G (gZ m)) :: st)) : gz_V cS X G nL (rem.1 + 1, rem.2 + 2) m pc lv st :=
  gz_new hX (C := RX10) (T := TX10) (N := 2) (ci := 9) rfl (by decide) in_X10 tyX10 tyX10_ok (by decide +kernel) q1005 q1006 q192 hz clc_al hd hm kk
theorem cc_X2_196 {X : gz_X} {G : gz_G} {cc : ByteArray} {nL fr lo pc : Nat} {rem : Nat × Nat} {lv : List (Nat × Value)} {rest st0 : List Value} (hX : gz_C cS X G cc nL RX2 fr lo) {c0 : Nat} {x1 : Int32} {x2 : Int32} {m m9 : gM}  (h : cf_X10_init c0 x1 x2 m = some ((), m9)) (hroom : 1 + 1 ≤ fr ∧ 8 + (3 + 11) + 20 ≤ lo) (hst : st0 = [.int x2, .int x1, .ref (gz_ad G c0)] ++ rest) (hW : (rest.map fun v => v.category).sum ≤ 8) (hd : decode cc pc = .ok (.invokespecial 196, 3)) (kk : gz_V cS X G nL rem m9 (pc + 3) lv (rest)) : gz_V cS X G nL rem m pc lv st0 :=
  gz_callI hX cs_E (As := [.int x1, .int x2]) (rest := rest) (c := c0) (ct_X10_init (l := X.2.1) h) q1009 q192 q1007 q1008 rfl (n := 2) (by decide +kernel) hroom rfl hst hW hd (rem := rem) kk
theorem cc_X2_167 {X : gz_X} {G : gz_G} {cc : ByteArray} {nL fr lo pc : Nat} {rem : Nat × Nat} {lv : List (Nat × Value)} {rest st0 : List Value} (hX : gz_C cS X G cc nL RX2 fr lo) {c0 : Nat} {c1 : Nat} {m m9 : gM} (hK : clc m.1 m.2.1 m.2.2.2.2.1 → m.1 c0 = 20 + 1)  {r : Int32} (h : cf_J2_add c0 c1 m = some (r, m9)) (hroom : 6 + 1 ≤ fr ∧ 8 + (2 + 11) + 170 ≤ lo) (hst : st0 = [.ref (gz_ad G c1), .ref (gz_ad G c0)] ++ rest) (hW : (rest.map fun v => v.category).sum ≤ 8) (hd : decode cc pc = .ok (.invokeinterface 167 2, 5)) (kk : gz_V cS X G nL rem m9 (pc + 5) lv (.int r :: rest)) : gz_V cS X G nL (rem.1 + (gZ m9 - gZ m), rem.2 + (gW m9 - gW m)) m pc lv st0 :=
  gz_callF hX cs_E (x := cLa) (As := [.ref (gz_ad G c1)]) (rest := rest) (q := (RJ2, TJ2, 3)) (ci := 20) (c := c0) (ct_J2_add (l := X.2.1) h) (va_cwF 1 hX.2.2.2.2.1 (lw_app (by intro w hw; simp only [List.mem_cons, List.not_mem_nil, or_false] at hw; rcases hw with e | e | e | e <;> rw [e] <;> first | exact q844 | exact q847 | exact q849 | exact q171) (lw_meth q851)) rfl rfl rfl hX.2.2.2.2.2.1.2.2.2.2.2.1 (by decide +kernel) ⟨Nat.le_trans hroom.1 hX.2.2.2.2.2.2.1, Nat.le_trans hroom.2 hX.2.2.2.2.2.2.2⟩) rfl rfl (by decide) hK hst hW hd (rem := rem) kk
/-! FirstSnuffer$Reader.readsTie(I)V -/
noncomputable def mj_X2_readsTie_23 (x1 : Int32) (s0 : Int32) (m : gM) : Option (Option Unit × gM) :=
  ((cf_X2_most s0 x1 m).bind fun (o4, m2) => (if gZ m ≤ gZ m2 ∧ gW m ≤ gW m2 then gx_o o4 (fun r1 => gz_let (gP m2 1011 6) fun r6 => (if r6 ≠ 0 then (if gK m2 r6 = 2 then gz_let (gP m2 r6 5) fun r9 => (if r9 ≠ 0 then ((cf_X2_known r9 (-1 : Int32) m2).bind fun (o14, m12) => (if gZ m2 ≤ gZ m12 ∧ gW m2 ≤ gW m12 then gx_o o14 (fun r11 => ((cf_X2_word_2 134 m12).bind fun (o19, m17) => (if gZ m12 ≤ gZ m17 ∧ gW m12 ≤ gW m17 then gx_o o19 (fun r16 => gz_let (gP m17 1011 6) fun r21 => (if r21 ≠ 0 then (if gK m17 r21 = 2 then gz_let (gP m17 r21 5) fun r24 => (if r24 ≠ 0 then ((cf_X2_known r24 r11 m17).bind fun (o29, m27) => (if gZ m17 ≤ gZ m27 ∧ gW m17 ≤ gW m27 then gx_o o29 (fun r26 => gz_let (gP m27 1011 6) fun r31 => (if r31 ≠ 0 then (if gK m27 r31 = 2 then ((cf_X1_isTied r31 r11 r26 m27).bind fun (r34, m35) => (if m35.2.2.2.2.2 = m27.2.2.2.2.2 then (if r34 = (0 : Int32) then gz_let (gP m35 1011 6) fun r39 => (if r39 ≠ 0 then (if gK m35 r39 = 2 then gz_let (gP m35 r39 6) fun r42 => (if r42 ≠ 0 then (if gZ m35 ≠ 0 then gz_let (gz_al m35 (9 + 1) 0 2) fun m45 => ((cf_X10_init (gZ m35) r11 r26 m45).bind fun (_, m47) => (if m47.2.2.2.2.2 = m45.2.2.2.2.2 then (if gK m47 r42 = 21 then ((cf_J2_add r42 (gZ m35) m47).bind fun (r51, m52) => (if gZ m47 ≤ gZ m52 ∧ gW m47 ≤ gW m52 then some (some (), m52) else none)) else none) else none)) else none) else none) else none) else none) else ((cf_X2_wrong (3 : Int32) (gI m35 1011 3) m35).bind fun (r55, m56) => (if m56.2.2.2.2.2 = m35.2.2.2.2.2 then (if r55 = 1012 then some (none, m56) else none) else none))) else none)) else none) else none)) (some (none, m27)) else none)) else none) else none) else none)) (some (none, m17)) else none))) (some (none, m12)) else none)) else none) else none) else none)) (some (none, m2)) else none))
theorem wb_X2_readsTie_23 {X : gz_X} {G : gz_G} {zE : Nat × Nat} (hX : gz_C cS X G cX2_readsTie 4 RX2 9 198) {x1 : Int32} {s0 : Int32}  {m : gM} {z : (Option Unit × gM)} (h : mj_X2_readsTie_23 x1 s0 m = some z) (hk : (fun z : (Option Unit × gM) => gx_k (fun _ => gz_kVa cS X G 4 zE cX2_readsTie z.2) (∀ (pc : Nat) (lv : List (Nat × Value)), gz_VXa cS X G 4 zE z.2 pc lv) z.1) z) : gz_Va cS X G 4 zE m 23 [(0, .ref (gz_ad G 1011)), (1, .int x1)] [.int s0, .ref (gz_ad G 1011)] := by
  unfold mj_X2_readsTie_23 at h
  refine gz_Vs (fun _ kk => gz_iload_n (pc := 23) hX dX2_readsTie_23 rfl 1 rfl kk) rfl ?_
  obtain ⟨⟨o4, m2⟩, c3, h⟩ := gz_bd h
  obtain ⟨g5, h⟩ := gz_gu h
  cases o4 with
  | none =>
    replace h := gx_on h
    obtain rfl := Option.some.inj h
    exact gz_Vcx (k := gZ m2 - gZ m) (n := gW m2 - gW m) (fun _ kk => cc_X2_125x (pc := 24) hX (fun h => cz_k h rfl) c3 ⟨Nat.le_of_ble_eq_true rfl, Nat.le_of_ble_eq_true rfl⟩ (rest := []) rfl (Nat.le_of_ble_eq_true rfl) dX2_readsTie_24 kk) ⟨by have := g5.1; dsimp only [gZ] at *; omega, by have := g5.2; dsimp only [gW] at *; omega⟩ (hk _ _)
  | some r1 =>
    replace h := gx_os h
    refine gz_Vc (k := gZ m2 - gZ m) (n := gW m2 - gW m) (fun _ kk => cc_X2_125 (pc := 24) hX (fun h => cz_k h rfl) c3 ⟨Nat.le_of_ble_eq_true rfl, Nat.le_of_ble_eq_true rfl⟩ (rest := []) rfl (Nat.le_of_ble_eq_true rfl) dX2_readsTie_24 kk) ⟨by have := g5.1; dsimp only [gZ] at *; omega, by have := g5.2; dsimp only [gW] at *; omega⟩ ?_
    refine gz_Vs (fun _ kk => gz_aload_n (pc := 27) hX dX2_readsTie_27 rfl 0 rfl kk) rfl ?_
    refine gz_Vs (fun _ kk => gz_aload_n (pc := 28) hX dX2_readsTie_28 rfl 0 rfl kk) rfl ?_
    obtain ⟨r6, er6, h⟩ := gz_lt h
    obtain ⟨g7, h⟩ := gz_gu h
    refine gz_Vs (fun _ kk => cg_X2_103_2 (pc := 29) hX (c := 1011) (v := .ref (gz_ad G r6)) (fun h => cz_k h rfl) (fun _ => gz_rq er6 g7) dX2_readsTie_29 kk) rfl ?_
    obtain ⟨g8, h⟩ := gz_gu h
    obtain ⟨r9, er9, h⟩ := gz_lt h
    obtain ⟨g10, h⟩ := gz_gu h
    refine gz_Vs (fun _ kk => cg_X2_170_1 (pc := 32) hX (c := r6) (v := .ref (gz_ad G r9)) (fun _ => g8) (fun _ => gz_rq er9 g10) dX2_readsTie_32 kk) rfl ?_
    refine gz_Vs (fun _ kk => gz_iconst (pc := 35) (v := (-1 : Int32)) hX dX2_readsTie_35 (by decide) kk) rfl ?_
    obtain ⟨⟨o14, m12⟩, c13, h⟩ := gz_bd h
    obtain ⟨g15, h⟩ := gz_gu h
    cases o14 with
    | none =>
      replace h := gx_on h
      obtain rfl := Option.some.inj h
      exact gz_Vcx (k := gZ m12 - gZ m2) (n := gW m12 - gW m2) (fun _ kk => cc_X2_152x (pc := 36) hX (fun h => cz_k h rfl) c13 ⟨Nat.le_of_ble_eq_true rfl, Nat.le_of_ble_eq_true rfl⟩ (rest := []) rfl (Nat.le_of_ble_eq_true rfl) dX2_readsTie_36 kk) ⟨by have := g15.1; dsimp only [gZ] at *; omega, by have := g15.2; dsimp only [gW] at *; omega⟩ (hk _ _)
    | some r11 =>
      replace h := gx_os h
      refine gz_Vc (k := gZ m12 - gZ m2) (n := gW m12 - gW m2) (fun _ kk => cc_X2_152 (pc := 36) hX (fun h => cz_k h rfl) c13 ⟨Nat.le_of_ble_eq_true rfl, Nat.le_of_ble_eq_true rfl⟩ (rest := []) rfl (Nat.le_of_ble_eq_true rfl) dX2_readsTie_36 kk) ⟨by have := g15.1; dsimp only [gZ] at *; omega, by have := g15.2; dsimp only [gW] at *; omega⟩ ?_
      refine gz_Vs (fun _ kk => gz_istore_n (pc := 39) (lw := [(2, .int r11), (0, .ref (gz_ad G 1011)), (1, .int x1)]) hX dX2_readsTie_39 rfl (by decide) rfl kk) rfl ?_
      refine gz_Vs (fun _ kk => gz_aload_n (pc := 40) hX dX2_readsTie_40 rfl 1 rfl kk) rfl ?_
      refine gz_Vs (fun _ kk => gz_ldcS (pc := 41) (tx := "to") (c := 134) hX (cl_s_X2_156 hX) dX2_readsTie_41 kk) rfl ?_
      obtain ⟨⟨o19, m17⟩, c18, h⟩ := gz_bd h
      obtain ⟨g20, h⟩ := gz_gu h
      cases o19 with
      | none =>
        replace h := gx_on h
        obtain rfl := Option.some.inj h
        exact gz_Vcx (k := gZ m17 - gZ m12) (n := gW m17 - gW m12) (fun _ kk => cc_X2_93x (pc := 43) hX (fun h => cz_k h rfl) c18 ⟨Nat.le_of_ble_eq_true rfl, Nat.le_of_ble_eq_true rfl⟩ (rest := []) rfl (Nat.le_of_ble_eq_true rfl) dX2_readsTie_43 kk) ⟨by have := g20.1; dsimp only [gZ] at *; omega, by have := g20.2; dsimp only [gW] at *; omega⟩ (hk _ _)
      | some r16 =>
        replace h := gx_os h
        refine gz_Vc (k := gZ m17 - gZ m12) (n := gW m17 - gW m12) (fun _ kk => cc_X2_93 (pc := 43) hX (fun h => cz_k h rfl) c18 ⟨Nat.le_of_ble_eq_true rfl, Nat.le_of_ble_eq_true rfl⟩ (rest := []) rfl (Nat.le_of_ble_eq_true rfl) dX2_readsTie_43 kk) ⟨by have := g20.1; dsimp only [gZ] at *; omega, by have := g20.2; dsimp only [gW] at *; omega⟩ ?_
        refine gz_Vs (fun _ kk => gz_aload_n (pc := 46) hX dX2_readsTie_46 rfl 1 rfl kk) rfl ?_
        refine gz_Vs (fun _ kk => gz_aload_n (pc := 47) hX dX2_readsTie_47 rfl 1 rfl kk) rfl ?_
        obtain ⟨r21, er21, h⟩ := gz_lt h
        obtain ⟨g22, h⟩ := gz_gu h
        refine gz_Vs (fun _ kk => cg_X2_103_2 (pc := 48) hX (c := 1011) (v := .ref (gz_ad G r21)) (fun h => cz_k h rfl) (fun _ => gz_rq er21 g22) dX2_readsTie_48 kk) rfl ?_
        obtain ⟨g23, h⟩ := gz_gu h
        obtain ⟨r24, er24, h⟩ := gz_lt h
        obtain ⟨g25, h⟩ := gz_gu h
        refine gz_Vs (fun _ kk => cg_X2_170_1 (pc := 51) hX (c := r21) (v := .ref (gz_ad G r24)) (fun _ => g23) (fun _ => gz_rq er24 g25) dX2_readsTie_51 kk) rfl ?_
        refine gz_Vs (fun _ kk => gz_iload_n (pc := 54) hX dX2_readsTie_54 rfl 0 rfl kk) rfl ?_
        obtain ⟨⟨o29, m27⟩, c28, h⟩ := gz_bd h
        obtain ⟨g30, h⟩ := gz_gu h
        cases o29 with
        | none =>
          replace h := gx_on h
          obtain rfl := Option.some.inj h
          exact gz_Vcx (k := gZ m27 - gZ m17) (n := gW m27 - gW m17) (fun _ kk => cc_X2_152x (pc := 55) hX (fun h => cz_k h rfl) c28 ⟨Nat.le_of_ble_eq_true rfl, Nat.le_of_ble_eq_true rfl⟩ (rest := []) rfl (Nat.le_of_ble_eq_true rfl) dX2_readsTie_55 kk) ⟨by have := g30.1; dsimp only [gZ] at *; omega, by have := g30.2; dsimp only [gW] at *; omega⟩ (hk _ _)
        | some r26 =>
          replace h := gx_os h
          refine gz_Vc (k := gZ m27 - gZ m17) (n := gW m27 - gW m17) (fun _ kk => cc_X2_152 (pc := 55) hX (fun h => cz_k h rfl) c28 ⟨Nat.le_of_ble_eq_true rfl, Nat.le_of_ble_eq_true rfl⟩ (rest := []) rfl (Nat.le_of_ble_eq_true rfl) dX2_readsTie_55 kk) ⟨by have := g30.1; dsimp only [gZ] at *; omega, by have := g30.2; dsimp only [gW] at *; omega⟩ ?_
          refine gz_Vs (fun _ kk => gz_istore_n (pc := 58) (lw := [(3, .int r26), (2, .int r11), (0, .ref (gz_ad G 1011)), (1, .int x1)]) hX dX2_readsTie_58 rfl (by decide) rfl kk) rfl ?_
          refine gz_Vs (fun _ kk => gz_aload_n (pc := 59) hX dX2_readsTie_59 rfl 2 rfl kk) rfl ?_
          obtain ⟨r31, er31, h⟩ := gz_lt h
          obtain ⟨g32, h⟩ := gz_gu h
          refine gz_Vs (fun _ kk => cg_X2_103_2 (pc := 60) hX (c := 1011) (v := .ref (gz_ad G r31)) (fun h => cz_k h rfl) (fun _ => gz_rq er31 g32) dX2_readsTie_60 kk) rfl ?_
          refine gz_Vs (fun _ kk => gz_iload_n (pc := 63) hX dX2_readsTie_63 rfl 1 rfl kk) rfl ?_
          refine gz_Vs (fun _ kk => gz_iload_n (pc := 64) hX dX2_readsTie_64 rfl 0 rfl kk) rfl ?_
          obtain ⟨g33, h⟩ := gz_gu h
          obtain ⟨⟨r34, m35⟩, c36, h⟩ := gz_bd h
          obtain ⟨g37, h⟩ := gz_gu h
          refine gz_Vs (fun _ kk => cc_X2_190 (pc := 65) hX (fun _ => g33) c36 ⟨Nat.le_of_ble_eq_true rfl, Nat.le_of_ble_eq_true rfl⟩ (rest := []) rfl (Nat.le_of_ble_eq_true rfl) dX2_readsTie_65 kk) g37 ?_
          refine gz_Vif (μ1 := m) (μ2 := m) (fun _ k1 k2 => gz_if_eq (pc := 68) (tgt := 81) hX dX2_readsTie_68 (by decide) k1 k2) (by first | exact Classical.em _ | exact (Classical.em _).symm) (fun g38 => ?_) (fun g38 => ?_)
          · replace h := gz_it' g38 h
            refine gz_Vs (fun _ kk => gz_aload_n (pc := 81) hX dX2_readsTie_81 rfl 2 rfl kk) rfl ?_
            obtain ⟨r39, er39, h⟩ := gz_lt h
            obtain ⟨g40, h⟩ := gz_gu h
            refine gz_Vs (fun _ kk => cg_X2_103_2 (pc := 82) hX (c := 1011) (v := .ref (gz_ad G r39)) (fun h => cz_k h rfl) (fun _ => gz_rq er39 g40) dX2_readsTie_82 kk) rfl ?_
            obtain ⟨g41, h⟩ := gz_gu h
            obtain ⟨r42, er42, h⟩ := gz_lt h
            obtain ⟨g43, h⟩ := gz_gu h
            refine gz_Vs (fun _ kk => cg_X2_187_1 (pc := 85) hX (c := r39) (v := .ref (gz_ad G r42)) (fun _ => g41) (fun _ => gz_rq er42 g43) dX2_readsTie_85 kk) rfl ?_
            obtain ⟨g44, h⟩ := gz_gu h
            obtain ⟨m45, em45, h⟩ := gz_lt h
            refine gz_Vn (fun _ kk => cn_X2_194 (pc := 88) hX g44 dX2_readsTie_88 em45 kk) em45 ?_
            refine gz_Vs (fun _ kk => gz_dup (pc := 91) hX dX2_readsTie_91 rfl kk) rfl ?_
            refine gz_Vs (fun _ kk => gz_iload_n (pc := 92) hX dX2_readsTie_92 rfl 1 rfl kk) rfl ?_
            refine gz_Vs (fun _ kk => gz_iload_n (pc := 93) hX dX2_readsTie_93 rfl 0 rfl kk) rfl ?_
            obtain ⟨⟨⟨⟩, m47⟩, c48, h⟩ := gz_bd h
            obtain ⟨g49, h⟩ := gz_gu h
            refine gz_Vs (fun _ kk => cc_X2_196 (pc := 94) hX c48 ⟨Nat.le_of_ble_eq_true rfl, Nat.le_of_ble_eq_true rfl⟩ (rest := [.ref (gz_ad G (gZ m35)), .ref (gz_ad G r42)]) rfl (Nat.le_of_ble_eq_true rfl) dX2_readsTie_94 kk) g49 ?_
            obtain ⟨g50, h⟩ := gz_gu h
            obtain ⟨⟨r51, m52⟩, c53, h⟩ := gz_bd h
            obtain ⟨g54, h⟩ := gz_gu h
            refine gz_Vc (k := gZ m52 - gZ m47) (n := gW m52 - gW m47) (fun _ kk => cc_X2_167 (pc := 97) hX (fun _ => g50) c53 ⟨Nat.le_of_ble_eq_true rfl, Nat.le_of_ble_eq_true rfl⟩ (rest := []) rfl (Nat.le_of_ble_eq_true rfl) dX2_readsTie_97 kk) ⟨by have := g54.1; dsimp only [gZ] at *; omega, by have := g54.2; dsimp only [gW] at *; omega⟩ ?_
            refine gz_Vs (fun _ kk => gz_pop (pc := 102) hX dX2_readsTie_102 rfl kk) rfl ?_
            obtain rfl := Option.some.inj h
            exact hk _ _ dX2_readsTie_103
          · replace h := gz_if' g38 h
            refine gz_Vs (fun _ kk => gz_aload_n (pc := 71) hX dX2_readsTie_71 rfl 2 rfl kk) rfl ?_
            refine gz_Vs (fun _ kk => gz_iconst (pc := 72) (v := (3 : Int32)) hX dX2_readsTie_72 (by decide) kk) rfl ?_
            refine gz_Vs (fun _ kk => gz_aload_n (pc := 73) hX dX2_readsTie_73 rfl 2 rfl kk) rfl ?_
            refine gz_Vs (fun _ kk => cg_X2_61_2 (pc := 74) hX (c := 1011) (v := .int (gI m35 1011 3)) (fun h => cz_k h rfl) (fun _ => rfl) dX2_readsTie_74 kk) rfl ?_
            obtain ⟨⟨r55, m56⟩, c57, h⟩ := gz_bd h
            obtain ⟨g58, h⟩ := gz_gu h
            refine gz_Vs (fun _ kk => cc_X2_47 (pc := 77) hX (fun h => cz_k h rfl) c57 ⟨Nat.le_of_ble_eq_true rfl, Nat.le_of_ble_eq_true rfl⟩ (rest := []) rfl (Nat.le_of_ble_eq_true rfl) dX2_readsTie_77 kk) g58 ?_
            obtain ⟨g59, h⟩ := gz_gu h
            subst g59
            obtain rfl := Option.some.inj h
            exact gz_athrowa hX dX2_readsTie_80 (hk _ _)
noncomputable def cf_X2_readsTie (x1 : Int32) (m : gM) : Option (Option Unit × gM) :=
  gz_let (gP m 1011 6) fun r1 => (if r1 ≠ 0 then (if gK m r1 = 2 then gz_let (gP m r1 6) fun r4 => (if r4 ≠ 0 then (if gK m r4 = 21 then ((cf_J2_size r4 m).bind fun (r7, m8) => (if m8.2.2.2.2.2 = m.2.2.2.2.2 then (if r7 = (12 : Int32) then (mj_X2_readsTie_23 x1 (1 : Int32) m8) else (mj_X2_readsTie_23 x1 (0 : Int32) m8)) else none)) else none) else none) else none) else none)
theorem wm_X2_readsTie {X : gz_X} {G : gz_G} {zE : Nat × Nat} (hX : gz_C cS X G cX2_readsTie 4 RX2 9 198) {x1 : Int32}  {m : gM} {z : (Option Unit × gM)} (h : cf_X2_readsTie x1 m = some z) (hk : (fun z : (Option Unit × gM) => gx_k (fun _ => gz_kVa cS X G 4 zE cX2_readsTie z.2) (∀ (pc : Nat) (lv : List (Nat × Value)), gz_VXa cS X G 4 zE z.2 pc lv) z.1) z) : gz_Va cS X G 4 zE m 0 [(0, .ref (gz_ad G 1011)), (1, .int x1)] [] := by
  unfold cf_X2_readsTie at h
  refine gz_Vs (fun _ kk => gz_aload_n (pc := 0) hX dX2_readsTie_0 rfl 0 rfl kk) rfl ?_
  refine gz_Vs (fun _ kk => gz_aload_n (pc := 1) hX dX2_readsTie_1 rfl 0 rfl kk) rfl ?_
  obtain ⟨r1, er1, h⟩ := gz_lt h
  obtain ⟨g2, h⟩ := gz_gu h
  refine gz_Vs (fun _ kk => cg_X2_103_2 (pc := 2) hX (c := 1011) (v := .ref (gz_ad G r1)) (fun h => cz_k h rfl) (fun _ => gz_rq er1 g2) dX2_readsTie_2 kk) rfl ?_
  obtain ⟨g3, h⟩ := gz_gu h
  obtain ⟨r4, er4, h⟩ := gz_lt h
  obtain ⟨g5, h⟩ := gz_gu h
  refine gz_Vs (fun _ kk => cg_X2_187_1 (pc := 5) hX (c := r1) (v := .ref (gz_ad G r4)) (fun _ => g3) (fun _ => gz_rq er4 g5) dX2_readsTie_5 kk) rfl ?_
  obtain ⟨g6, h⟩ := gz_gu h
  obtain ⟨⟨r7, m8⟩, c9, h⟩ := gz_bd h
  obtain ⟨g10, h⟩ := gz_gu h
  refine gz_Vs (fun _ kk => cc_X2_145 (pc := 8) hX (fun _ => g6) c9 ⟨Nat.le_of_ble_eq_true rfl, Nat.le_of_ble_eq_true rfl⟩ (rest := [.ref (gz_ad G 1011)]) rfl (Nat.le_of_ble_eq_true rfl) dX2_readsTie_8 kk) g10 ?_
  refine gz_Vs (fun _ kk => gz_bipush (pc := 13) (v := (12 : Int32)) hX dX2_readsTie_13 (by decide) kk) rfl ?_
  refine gz_Vif (μ1 := m) (μ2 := m) (fun _ k1 k2 => gz_icmp_ne (pc := 15) (tgt := 22) hX dX2_readsTie_15 (by decide) k1 k2) (by first | exact Classical.em _ | exact (Classical.em _).symm) (fun g11 => ?_) (fun g11 => ?_)
  · replace h := gz_if' g11 h
    refine gz_Vs (fun _ kk => gz_iconst (pc := 22) (v := (0 : Int32)) hX dX2_readsTie_22 (by decide) kk) rfl ?_
    exact wb_X2_readsTie_23 hX h hk
  · replace h := gz_it' g11 h
    refine gz_Vs (fun _ kk => gz_iconst (pc := 18) (v := (1 : Int32)) hX dX2_readsTie_18 (by decide) kk) rfl ?_
    refine gz_Vs (fun _ kk => gz_goto (pc := 19) (tgt := 23) hX dX2_readsTie_19 (by decide) kk) rfl ?_
    exact wb_X2_readsTie_23 hX h hk
theorem ct_X2_readsTie {G : gz_G} {l : Launch} {x1 : Int32}  {m m9 : gM} {o : Option Unit} (h : cf_X2_readsTie x1 m = some (o, m9)) : gx_Met cS G l yX2_readsTie cX2_readsTie 4 none (mRc 9 198 (gZ m9 - gZ m) (gW m9 - gW m)) [.ref (gz_ad G 1011), .int x1] m m9 (o.map (fun _ => none)) :=
  gx_ofV (by decide +kernel) (Nat.le_of_ble_eq_true rfl) ⟨_, rfl, rfl⟩ (fun h => cz_k (c := 1012) (k := 3) h rfl) fun X _ hX hk => (wm_X2_readsTie (zE := m9.2.2.2.2.2) hX h (gx_km (fun _ q pc lv hd => gz_Ve (q pc lv hd)) (fun q pc lv => gz_VXe (q pc lv)) hk)).2
/-! FirstSnuffer$Reader.passes(Ljava/lang/String;)Z -/
noncomputable def cf_X2_passes (c1 : Nat) (m : gM) : Option (Option Int32 × gM) :=
  gz_let ((gI m 1011 2)) fun y1 => ((cf_X2_here m).bind fun (r2, m3) => (if m3.2.2.2.2.2 = m.2.2.2.2.2 then ((cf_X0_isLetter r2 m3).bind fun (r6, m7) => (if m7.2.2.2.2.2 = m3.2.2.2.2.2 then (if r6 = (0 : Int32) then some (some (0 : Int32), m7) else ((cf_X2_word  m7).bind fun (o14, m12) => (if gZ m7 ≤ gZ m12 ∧ gW m7 ≤ gW m12 then gx_o o14 (fun r11 => (if gK m12 r11 = 22 then ((cf_J9_equals r11 c1 m12).bind fun (r17, m18) => (if m18.2.2.2.2.2 = m12.2.2.2.2.2 then (if r17 = (0 : Int32) then gz_let (gz_sI m18 1011 2 y1) fun m22 => some (some (0 : Int32), m22) else some (some (1 : Int32), m18)) else none)) else none)) (some (none, m12)) else none))) else none)) else none))
theorem wm_X2_passes {X : gz_X} {G : gz_G} {zE : Nat × Nat} (hX : gz_C cS X G cX2_passes 3 RX2 7 154) {c1 : Nat}  {m : gM} {z : (Option Int32 × gM)} (h : cf_X2_passes c1 m = some z) (hk : (fun z : (Option Int32 × gM) => gx_k (fun r => gz_kZa cS X G 3 zE cX2_passes z.2 r) (∀ (pc : Nat) (lv : List (Nat × Value)), gz_VXa cS X G 3 zE z.2 pc lv) z.1) z) : gz_Va cS X G 3 zE m 0 [(0, .ref (gz_ad G 1011)), (1, .ref (gz_ad G c1))] [] := by
  unfold cf_X2_passes at h
  refine gz_Vs (fun _ kk => gz_aload_n (pc := 0) hX dX2_passes_0 rfl 0 rfl kk) rfl ?_
  refine gz_Vs (fun _ kk => cg_X2_36_2 (pc := 1) hX (c := 1011) (v := .int (gI m 1011 2)) (fun h => cz_k h rfl) (fun _ => rfl) dX2_passes_1 kk) rfl ?_
  obtain ⟨y1, ey1, h⟩ := gz_lt h
  refine gz_Vs (fun _ kk => gz_topi ey1 kk) rfl ?_
  refine gz_Vs (fun _ kk => gz_istore_n (pc := 4) (lw := [(2, .int y1), (0, .ref (gz_ad G 1011)), (1, .ref (gz_ad G c1))]) hX dX2_passes_4 rfl (by decide) rfl kk) rfl ?_
  refine gz_Vs (fun _ kk => gz_aload_n (pc := 5) hX dX2_passes_5 rfl 1 rfl kk) rfl ?_
  obtain ⟨⟨r2, m3⟩, c4, h⟩ := gz_bd h
  obtain ⟨g5, h⟩ := gz_gu h
  refine gz_Vs (fun _ kk => cc_X2_43 (pc := 6) hX (fun h => cz_k h rfl) c4 ⟨Nat.le_of_ble_eq_true rfl, Nat.le_of_ble_eq_true rfl⟩ (rest := []) rfl (Nat.le_of_ble_eq_true rfl) dX2_passes_6 kk) g5 ?_
  obtain ⟨⟨r6, m7⟩, c8, h⟩ := gz_bd h
  obtain ⟨g9, h⟩ := gz_gu h
  refine gz_Vs (fun _ kk => cc_X2_51 (pc := 9) hX c8 ⟨Nat.le_of_ble_eq_true rfl, Nat.le_of_ble_eq_true rfl⟩ (rest := []) rfl (Nat.le_of_ble_eq_true rfl) dX2_passes_9 kk) g9 ?_
  refine gz_Vif (μ1 := m) (μ2 := m) (fun _ k1 k2 => gz_if_ne (pc := 12) (tgt := 17) hX dX2_passes_12 (by decide) k1 k2) (by first | exact Classical.em _ | exact (Classical.em _).symm) (fun g10 => ?_) (fun g10 => ?_)
  · replace h := gz_if' g10 h
    refine gz_Vs (fun _ kk => gz_aload_n (pc := 17) hX dX2_passes_17 rfl 1 rfl kk) rfl ?_
    obtain ⟨⟨o14, m12⟩, c13, h⟩ := gz_bd h
    obtain ⟨g15, h⟩ := gz_gu h
    cases o14 with
    | none =>
      replace h := gx_on h
      obtain rfl := Option.some.inj h
      exact gz_Vcx (k := gZ m12 - gZ m7) (n := gW m12 - gW m7) (fun _ kk => cc_X2_70x (pc := 18) hX (fun h => cz_k h rfl) c13 ⟨Nat.le_of_ble_eq_true rfl, Nat.le_of_ble_eq_true rfl⟩ (rest := []) rfl (Nat.le_of_ble_eq_true rfl) dX2_passes_18 kk) ⟨by have := g15.1; dsimp only [gZ] at *; omega, by have := g15.2; dsimp only [gW] at *; omega⟩ (hk _ _)
    | some r11 =>
      replace h := gx_os h
      refine gz_Vc (k := gZ m12 - gZ m7) (n := gW m12 - gW m7) (fun _ kk => cc_X2_70 (pc := 18) hX (fun h => cz_k h rfl) c13 ⟨Nat.le_of_ble_eq_true rfl, Nat.le_of_ble_eq_true rfl⟩ (rest := []) rfl (Nat.le_of_ble_eq_true rfl) dX2_passes_18 kk) ⟨by have := g15.1; dsimp only [gZ] at *; omega, by have := g15.2; dsimp only [gW] at *; omega⟩ ?_
      refine gz_Vs (fun _ kk => gz_aload_n (pc := 21) hX dX2_passes_21 rfl 2 rfl kk) rfl ?_
      obtain ⟨g16, h⟩ := gz_gu h
      obtain ⟨⟨r17, m18⟩, c19, h⟩ := gz_bd h
      obtain ⟨g20, h⟩ := gz_gu h
      refine gz_Vs (fun _ kk => cc_X2_74 (pc := 22) hX (fun _ => g16) c19 ⟨Nat.le_of_ble_eq_true rfl, Nat.le_of_ble_eq_true rfl⟩ (rest := []) rfl (Nat.le_of_ble_eq_true rfl) dX2_passes_22 kk) g20 ?_
      refine gz_Vif (μ1 := m) (μ2 := m) (fun _ k1 k2 => gz_if_eq (pc := 25) (tgt := 30) hX dX2_passes_25 (by decide) k1 k2) (by first | exact Classical.em _ | exact (Classical.em _).symm) (fun g21 => ?_) (fun g21 => ?_)
      · replace h := gz_it' g21 h
        refine gz_Vs (fun _ kk => gz_aload_n (pc := 30) hX dX2_passes_30 rfl 1 rfl kk) rfl ?_
        refine gz_Vs (fun _ kk => gz_iload_n (pc := 31) hX dX2_passes_31 rfl 0 rfl kk) rfl ?_
        obtain ⟨m22, em22, h⟩ := gz_lt h
        refine gz_Vs (fun _ kk => cp_X2_36_2 (pc := 32) hX (c := 1011) (fun h => cz_k h rfl) (Nat.le_of_ble_eq_true rfl) dX2_passes_32 em22 kk) (by rw [em22]; rfl) ?_
        refine gz_Vs (fun _ kk => gz_iconst (pc := 35) (v := (0 : Int32)) hX dX2_passes_35 (by decide) kk) rfl ?_
        obtain rfl := Option.some.inj h
        exact hk _ _ dX2_passes_36 (Or.inl rfl)
      · replace h := gz_if' g21 h
        refine gz_Vs (fun _ kk => gz_iconst (pc := 28) (v := (1 : Int32)) hX dX2_passes_28 (by decide) kk) rfl ?_
        obtain rfl := Option.some.inj h
        exact hk _ _ dX2_passes_29 (Or.inr rfl)
  · replace h := gz_it' g10 h
    refine gz_Vs (fun _ kk => gz_iconst (pc := 15) (v := (0 : Int32)) hX dX2_passes_15 (by decide) kk) rfl ?_
    obtain rfl := Option.some.inj h
    exact hk _ _ dX2_passes_16 (Or.inl rfl)
theorem ct_X2_passes {G : gz_G} {l : Launch} {c1 : Nat}  {m m9 : gM} {o : Option Int32} (h : cf_X2_passes c1 m = some (o, m9)) : gx_Met cS G l yX2_passes cX2_passes 3 (some .boolean) (mRc 7 154 (gZ m9 - gZ m) (gW m9 - gW m)) [.ref (gz_ad G 1011), .ref (gz_ad G c1)] m m9 (o.map (fun r => some (.int r))) :=
  gx_ofZ (by decide +kernel) (Nat.le_of_ble_eq_true rfl) ⟨_, rfl, rfl⟩ (fun h => cz_k (c := 1012) (k := 3) h rfl) fun X _ hX hk => (wm_X2_passes (zE := m9.2.2.2.2.2) hX h (gx_km (fun _ q pc lv hd hz => gz_Ve (q pc lv hd hz)) (fun q pc lv => gz_VXe (q pc lv)) hk)).2
theorem cc_X12_25 {X : gz_X} {G : gz_G} {cc : ByteArray} {nL fr lo pc : Nat} {rem : Nat × Nat} {lv : List (Nat × Value)} {rest st0 : List Value} (hX : gz_C cS X G cc nL RX12 fr lo) {c0 : Nat} {x1 : Int32} {m m9 : gM} (hK : clc m.1 m.2.1 m.2.2.2.2.1 → m.1 c0 = 22 + 1)  {r : Nat} (h : cf_J15_append c0 x1 m = some (r, m9)) (hroom : 5 + 1 ≤ fr ∧ 8 + (2 + 11) + 125 ≤ lo) (hst : st0 = [.int x1, .ref (gz_ad G c0)] ++ rest) (hW : (rest.map fun v => v.category).sum ≤ 8) (hd : decode cc pc = .ok (.invokevirtual 25, 3)) (kk : gz_V cS X G nL rem m9 (pc + 3) lv (.ref (gz_ad G r) :: rest)) : gz_V cS X G nL (rem.1 + (gZ m9 - gZ m), rem.2 + (gW m9 - gW m)) m pc lv st0 :=
  gz_callV2 hX cs_E (As := [.int x1]) (rest := rest) (q := (RJ15, TJ15, 4)) (ci := 22) (c := c0) (ct_J15_append (l := X.2.1) h) (lw_V q1164 q1165 q1166 q196 q1167) (n := 1) (by decide +kernel) hroom rfl rfl (by decide) hK hst hW hd (rem := rem) kk
theorem cc_X12_29 {X : gz_X} {G : gz_G} {cc : ByteArray} {nL fr lo pc : Nat} {rem : Nat × Nat} {lv : List (Nat × Value)} {rest st0 : List Value} (hX : gz_C cS X G cc nL RX12 fr lo) {c0 : Nat} {c1 : Nat} {m m9 : gM} (hK : clc m.1 m.2.1 m.2.2.2.2.1 → m.1 c0 = 20 + 1)  {r : Int32} (h : cf_J2_add c0 c1 m = some (r, m9)) (hroom : 6 + 1 ≤ fr ∧ 8 + (2 + 11) + 170 ≤ lo) (hst : st0 = [.ref (gz_ad G c1), .ref (gz_ad G c0)] ++ rest) (hW : (rest.map fun v => v.category).sum ≤ 8) (hd : decode cc pc = .ok (.invokeinterface 29 2, 5)) (kk : gz_V cS X G nL rem m9 (pc + 5) lv (.int r :: rest)) : gz_V cS X G nL (rem.1 + (gZ m9 - gZ m), rem.2 + (gW m9 - gW m)) m pc lv st0 :=
  gz_callF hX cs_E (x := cLa) (As := [.ref (gz_ad G c1)]) (rest := rest) (q := (RJ2, TJ2, 3)) (ci := 20) (c := c0) (ct_J2_add (l := X.2.1) h) (va_cwF 1 hX.2.2.2.2.1 (lw_app (by intro w hw; simp only [List.mem_cons, List.not_mem_nil, or_false] at hw; rcases hw with e | e | e | e <;> rw [e] <;> first | exact q1220 | exact q847 | exact q849 | exact q171) (lw_meth q851)) rfl rfl rfl hX.2.2.2.2.2.1.2.2.2.2.2.1 (by decide +kernel) ⟨Nat.le_trans hroom.1 hX.2.2.2.2.2.2.1, Nat.le_trans hroom.2 hX.2.2.2.2.2.2.2⟩) rfl rfl (by decide) hK hst hW hd (rem := rem) kk
/-! FirstSnuffer$Chain.add(CLFirstSnuffer$Value;)V -/
noncomputable def cf_X12_add (c0 : Nat) (x1 : Int32) (c2 : Nat) (m : gM) : Option (Unit × gM) :=
  (if gK m c0 = 11 then gz_let (gP m c0 1) fun r2 => (if r2 ≠ 0 then (if gK m r2 = 23 then ((cf_J15_append r2 x1 m).bind fun (r5, m6) => (if gZ m ≤ gZ m6 ∧ gW m ≤ gW m6 then (if gK m6 c0 = 11 then gz_let (gP m6 c0 0) fun r10 => (if r10 ≠ 0 then (if gK m6 r10 = 21 then ((cf_J2_add r10 c2 m6).bind fun (r13, m14) => (if gZ m6 ≤ gZ m14 ∧ gW m6 ≤ gW m14 then some ((), m14) else none)) else none) else none) else none) else none)) else none) else none) else none)
theorem wm_X12_add {X : gz_X} {G : gz_G} {zE : Nat × Nat} (hX : gz_C cS X G cX12_add 3 RX12 7 191) {c0 : Nat} {x1 : Int32} {c2 : Nat}  {m : gM} {z : (Unit × gM)} (h : cf_X12_add c0 x1 c2 m = some z) (hk : (fun z : (Unit × gM) => gz_kVa cS X G 3 zE cX12_add z.2) z) : gz_Va cS X G 3 zE m 0 [(0, .ref (gz_ad G c0)), (1, .int x1), (2, .ref (gz_ad G c2))] [] := by
  unfold cf_X12_add at h
  refine gz_Vs (fun _ kk => gz_aload_n (pc := 0) hX dX12_add_0 rfl 0 rfl kk) rfl ?_
  obtain ⟨g1, h⟩ := gz_gu h
  obtain ⟨r2, er2, h⟩ := gz_lt h
  obtain ⟨g3, h⟩ := gz_gu h
  refine gz_Vs (fun _ kk => cg_X12_21_10 (pc := 1) hX (c := c0) (v := .ref (gz_ad G r2)) (fun _ => g1) (fun _ => gz_rq er2 g3) dX12_add_1 kk) rfl ?_
  refine gz_Vs (fun _ kk => gz_iload_n (pc := 4) hX dX12_add_4 rfl 1 rfl kk) rfl ?_
  obtain ⟨g4, h⟩ := gz_gu h
  obtain ⟨⟨r5, m6⟩, c7, h⟩ := gz_bd h
  obtain ⟨g8, h⟩ := gz_gu h
  refine gz_Vc (k := gZ m6 - gZ m) (n := gW m6 - gW m) (fun _ kk => cc_X12_25 (pc := 5) hX (fun _ => g4) c7 ⟨Nat.le_of_ble_eq_true rfl, Nat.le_of_ble_eq_true rfl⟩ (rest := []) rfl (Nat.le_of_ble_eq_true rfl) dX12_add_5 kk) ⟨by have := g8.1; dsimp only [gZ] at *; omega, by have := g8.2; dsimp only [gW] at *; omega⟩ ?_
  refine gz_Vs (fun _ kk => gz_pop (pc := 8) hX dX12_add_8 rfl kk) rfl ?_
  refine gz_Vs (fun _ kk => gz_aload_n (pc := 9) hX dX12_add_9 rfl 0 rfl kk) rfl ?_
  obtain ⟨g9, h⟩ := gz_gu h
  obtain ⟨r10, er10, h⟩ := gz_lt h
  obtain ⟨g11, h⟩ := gz_gu h
  refine gz_Vs (fun _ kk => cg_X12_12_10 (pc := 10) hX (c := c0) (v := .ref (gz_ad G r10)) (fun _ => g9) (fun _ => gz_rq er10 g11) dX12_add_10 kk) rfl ?_
  refine gz_Vs (fun _ kk => gz_aload_n (pc := 13) hX dX12_add_13 rfl 2 rfl kk) rfl ?_
  obtain ⟨g12, h⟩ := gz_gu h
  obtain ⟨⟨r13, m14⟩, c15, h⟩ := gz_bd h
  obtain ⟨g16, h⟩ := gz_gu h
  refine gz_Vc (k := gZ m14 - gZ m6) (n := gW m14 - gW m6) (fun _ kk => cc_X12_29 (pc := 14) hX (fun _ => g12) c15 ⟨Nat.le_of_ble_eq_true rfl, Nat.le_of_ble_eq_true rfl⟩ (rest := []) rfl (Nat.le_of_ble_eq_true rfl) dX12_add_14 kk) ⟨by have := g16.1; dsimp only [gZ] at *; omega, by have := g16.2; dsimp only [gW] at *; omega⟩ ?_
  refine gz_Vs (fun _ kk => gz_pop (pc := 19) hX dX12_add_19 rfl kk) rfl ?_
  obtain rfl := Option.some.inj h
  exact hk _ _ dX12_add_20
theorem ct_X12_add {G : gz_G} {l : Launch} {c0 : Nat} {x1 : Int32} {c2 : Nat}  {m m9 : gM} (h : cf_X12_add c0 x1 c2 m = some ((), m9)) : gz_Met cS G l yX12_add cX12_add 3 none (mRc 7 191 (gZ m9 - gZ m) (gW m9 - gW m)) [.ref (gz_ad G c0), .int x1, .ref (gz_ad G c2)] m m9 none :=
  gz_ofV (by decide +kernel) (Nat.le_of_ble_eq_true rfl) fun X _ hX hk => (wm_X12_add (zE := m9.2.2.2.2.2) hX h (fun pc lv hd => gz_Ve (hk pc lv hd))).2
theorem cc_X2_107 {X : gz_X} {G : gz_G} {cc : ByteArray} {nL fr lo pc : Nat} {rem : Nat × Nat} {lv : List (Nat × Value)} {rest st0 : List Value} (hX : gz_C cS X G cc nL RX2 fr lo) {c0 : Nat} {c1 : Nat} {m m9 : gM} (hK : clc m.1 m.2.1 m.2.2.2.2.1 → m.1 c0 = 1 + 1)  {r : Int32} (h : cf_X1_isNamed c0 c1 m = some (r, m9)) (hroom : 4 + 1 ≤ fr ∧ 8 + (2 + 11) + 86 ≤ lo) (hst : st0 = [.ref (gz_ad G c1), .ref (gz_ad G c0)] ++ rest) (hW : (rest.map fun v => v.category).sum ≤ 8) (hd : decode cc pc = .ok (.invokevirtual 107, 3)) (kk : gz_V cS X G nL rem m9 (pc + 3) lv (.int r :: rest)) : gz_V cS X G nL rem m pc lv st0 :=
  gz_callV2 hX cs_E (As := [.ref (gz_ad G c1)]) (rest := rest) (q := (RX1, TX1, 9)) (ci := 1) (c := c0) (ct_X1_isNamed (l := X.2.1) h) (lw_V q822 q823 q824 q168 q825) (n := 1) (by decide +kernel) hroom rfl rfl (by decide) hK hst hW hd (rem := rem) kk
/-! FirstSnuffer$Reader.fresh()Ljava/lang/String; -/
noncomputable def cf_X2_fresh  (m : gM) : Option (Option Nat × gM) :=
  ((cf_X2_name  m).bind fun (o4, m2) => (if gZ m ≤ gZ m2 ∧ gW m ≤ gW m2 then gx_o o4 (fun r1 => gz_let (gP m2 1011 6) fun r6 => (if r6 ≠ 0 then (if gK m2 r6 = 2 then ((cf_X1_isNamed r6 r1 m2).bind fun (r9, m10) => (if m10.2.2.2.2.2 = m2.2.2.2.2.2 then (if r9 = (0 : Int32) then some (some r1, m10) else ((cf_X2_wrong (3 : Int32) (gI m10 1011 3) m10).bind fun (r14, m15) => (if m15.2.2.2.2.2 = m10.2.2.2.2.2 then (if r14 = 1012 then some (none, m15) else none) else none))) else none)) else none) else none)) (some (none, m2)) else none))
theorem wm_X2_fresh {X : gz_X} {G : gz_G} {zE : Nat × Nat} (hX : gz_C cS X G cX2_fresh 2 RX2 8 175)   {m : gM} {z : (Option Nat × gM)} (h : cf_X2_fresh  m = some z) (hk : (fun z : (Option Nat × gM) => gx_k (fun r => gz_kRa cS X G 2 zE cX2_fresh z.2 r) (∀ (pc : Nat) (lv : List (Nat × Value)), gz_VXa cS X G 2 zE z.2 pc lv) z.1) z) : gz_Va cS X G 2 zE m 0 [(0, .ref (gz_ad G 1011))] [] := by
  unfold cf_X2_fresh at h
  refine gz_Vs (fun _ kk => gz_aload_n (pc := 0) hX dX2_fresh_0 rfl 0 rfl kk) rfl ?_
  obtain ⟨⟨o4, m2⟩, c3, h⟩ := gz_bd h
  obtain ⟨g5, h⟩ := gz_gu h
  cases o4 with
  | none =>
    replace h := gx_on h
    obtain rfl := Option.some.inj h
    exact gz_Vcx (k := gZ m2 - gZ m) (n := gW m2 - gW m) (fun _ kk => cc_X2_100x (pc := 1) hX (fun h => cz_k h rfl) c3 ⟨Nat.le_of_ble_eq_true rfl, Nat.le_of_ble_eq_true rfl⟩ (rest := []) rfl (Nat.le_of_ble_eq_true rfl) dX2_fresh_1 kk) ⟨by have := g5.1; dsimp only [gZ] at *; omega, by have := g5.2; dsimp only [gW] at *; omega⟩ (hk _ _)
  | some r1 =>
    replace h := gx_os h
    refine gz_Vc (k := gZ m2 - gZ m) (n := gW m2 - gW m) (fun _ kk => cc_X2_100 (pc := 1) hX (fun h => cz_k h rfl) c3 ⟨Nat.le_of_ble_eq_true rfl, Nat.le_of_ble_eq_true rfl⟩ (rest := []) rfl (Nat.le_of_ble_eq_true rfl) dX2_fresh_1 kk) ⟨by have := g5.1; dsimp only [gZ] at *; omega, by have := g5.2; dsimp only [gW] at *; omega⟩ ?_
    refine gz_Vs (fun _ kk => gz_astore_n (pc := 4) (lw := [(1, .ref (gz_ad G r1)), (0, .ref (gz_ad G 1011))]) hX dX2_fresh_4 rfl (by decide) rfl kk) rfl ?_
    refine gz_Vs (fun _ kk => gz_aload_n (pc := 5) hX dX2_fresh_5 rfl 1 rfl kk) rfl ?_
    obtain ⟨r6, er6, h⟩ := gz_lt h
    obtain ⟨g7, h⟩ := gz_gu h
    refine gz_Vs (fun _ kk => cg_X2_103_2 (pc := 6) hX (c := 1011) (v := .ref (gz_ad G r6)) (fun h => cz_k h rfl) (fun _ => gz_rq er6 g7) dX2_fresh_6 kk) rfl ?_
    refine gz_Vs (fun _ kk => gz_aload_n (pc := 9) hX dX2_fresh_9 rfl 0 rfl kk) rfl ?_
    obtain ⟨g8, h⟩ := gz_gu h
    obtain ⟨⟨r9, m10⟩, c11, h⟩ := gz_bd h
    obtain ⟨g12, h⟩ := gz_gu h
    refine gz_Vs (fun _ kk => cc_X2_107 (pc := 10) hX (fun _ => g8) c11 ⟨Nat.le_of_ble_eq_true rfl, Nat.le_of_ble_eq_true rfl⟩ (rest := []) rfl (Nat.le_of_ble_eq_true rfl) dX2_fresh_10 kk) g12 ?_
    refine gz_Vif (μ1 := m) (μ2 := m) (fun _ k1 k2 => gz_if_eq (pc := 13) (tgt := 26) hX dX2_fresh_13 (by decide) k1 k2) (by first | exact Classical.em _ | exact (Classical.em _).symm) (fun g13 => ?_) (fun g13 => ?_)
    · replace h := gz_it' g13 h
      refine gz_Vs (fun _ kk => gz_aload_n (pc := 26) hX dX2_fresh_26 rfl 0 rfl kk) rfl ?_
      obtain rfl := Option.some.inj h
      exact hk _ _ dX2_fresh_27
    · replace h := gz_if' g13 h
      refine gz_Vs (fun _ kk => gz_aload_n (pc := 16) hX dX2_fresh_16 rfl 1 rfl kk) rfl ?_
      refine gz_Vs (fun _ kk => gz_iconst (pc := 17) (v := (3 : Int32)) hX dX2_fresh_17 (by decide) kk) rfl ?_
      refine gz_Vs (fun _ kk => gz_aload_n (pc := 18) hX dX2_fresh_18 rfl 1 rfl kk) rfl ?_
      refine gz_Vs (fun _ kk => cg_X2_61_2 (pc := 19) hX (c := 1011) (v := .int (gI m10 1011 3)) (fun h => cz_k h rfl) (fun _ => rfl) dX2_fresh_19 kk) rfl ?_
      obtain ⟨⟨r14, m15⟩, c16, h⟩ := gz_bd h
      obtain ⟨g17, h⟩ := gz_gu h
      refine gz_Vs (fun _ kk => cc_X2_47 (pc := 22) hX (fun h => cz_k h rfl) c16 ⟨Nat.le_of_ble_eq_true rfl, Nat.le_of_ble_eq_true rfl⟩ (rest := []) rfl (Nat.le_of_ble_eq_true rfl) dX2_fresh_22 kk) g17 ?_
      obtain ⟨g18, h⟩ := gz_gu h
      subst g18
      obtain rfl := Option.some.inj h
      exact gz_athrowa hX dX2_fresh_25 (hk _ _)
theorem ct_X2_fresh {G : gz_G} {l : Launch}   {m m9 : gM} {o : Option Nat} (h : cf_X2_fresh  m = some (o, m9)) : gx_Met cS G l yX2_fresh cX2_fresh 2 (some (.object "java/lang/String")) (mRc 8 175 (gZ m9 - gZ m) (gW m9 - gW m)) [.ref (gz_ad G 1011)] m m9 (o.map (fun r => some (.ref (gz_ad G r)))) :=
  gx_ofR (Or.inl ⟨_, rfl⟩) (by decide +kernel) (Nat.le_of_ble_eq_true rfl) ⟨_, rfl, rfl⟩ (fun h => cz_k (c := 1012) (k := 3) h rfl) fun X _ hX hk => (wm_X2_fresh (zE := m9.2.2.2.2.2) hX h (gx_km (fun _ q pc lv hd => gz_Ve (q pc lv hd)) (fun q pc lv => gz_VXe (q pc lv)) hk)).2
theorem cg_X2_141_1 {X : gz_X} {G : gz_G} {cc : ByteArray} {nL fr lo pc : Nat} {rem : Nat × Nat} {m : gM} {lv : List (Nat × Value)} {st : List Value} (hX : gz_C cS X G cc nL RX2 fr lo) {c : Nat} {v : Value} (hK : clc m.1 m.2.1 m.2.2.2.2.1 → m.1 c = 1 + 1) (hv : clc m.1 m.2.1 m.2.2.2.2.1 → gz_u (gz_ad G) m (ftC 1 4) c 4 = v) (hd : decode cc pc = .ok (.getfield 141, 3)) (kk : gz_V cS X G nL rem m (pc + 3) lv (v :: st)) : gz_V cS X G nL rem m pc lv (.ref (gz_ad G c) :: st) :=
  gz_getf hX (C := RX1) (T := TX1) (N := 9) (ci := 1) (k := 4) rfl (by decide) in_X1 (by decide) (Or.inr ⟨_, va_Nw.use rfl (cz_n (Z := cS) hX q260 rfl)⟩) hd hK hv kk
theorem cg_X2_149_1 {X : gz_X} {G : gz_G} {cc : ByteArray} {nL fr lo pc : Nat} {rem : Nat × Nat} {m : gM} {lv : List (Nat × Value)} {st : List Value} (hX : gz_C cS X G cc nL RX2 fr lo) {c : Nat} {v : Value} (hK : clc m.1 m.2.1 m.2.2.2.2.1 → m.1 c = 1 + 1) (hv : clc m.1 m.2.1 m.2.2.2.2.1 → gz_u (gz_ad G) m (ftC 1 3) c 3 = v) (hd : decode cc pc = .ok (.getfield 149, 3)) (kk : gz_V cS X G nL rem m (pc + 3) lv (v :: st)) : gz_V cS X G nL rem m pc lv (.ref (gz_ad G c) :: st) :=
  gz_getf hX (C := RX1) (T := TX1) (N := 9) (ci := 1) (k := 3) rfl (by decide) in_X1 (by decide) (Or.inr ⟨_, va_Nw.use rfl (cz_n (Z := cS) hX q258 rfl)⟩) hd hK hv kk
theorem cn_X2_157 {X : gz_X} {G : gz_G} {cc : ByteArray} {nL fr lo pc : Nat} {rem : Nat × Nat} {m m9 : gM} {lv : List (Nat × Value)} {st : List Value} (hX : gz_C cS X G cc nL RX2 fr lo) (hz : gZ m ≠ 0) (hd : decode cc pc = .ok (.new 157, 3)) (hm : m9 = gz_al m (7 + 1) 0 3) (kk : gz_V cS X G nL rem m9 (pc + 3) lv (.ref (gz_ad G (gZ m)) :: st)) : gz_V cS X G nL (rem.1 + 1, rem.2 + 3) m pc lv st :=
  gz_new hX (C := RX8) (T := TX8) (N := 3) (ci := 7) rfl (by decide) in_X8 tyX8 tyX8_ok (by decide +kernel) q932 q933 q190 hz clc_al hd hm kk
theorem cl_s_X2_159 {X : gz_X} {G : gz_G} {cc : ByteArray} {nL : Nat} {own : String} {fr lo : Nat} (hX : gz_C cS X G cc nL own fr lo) : vk_R RX2 159 "steps" (gz_ad G 116) X.2.2.2.2.1 := (cz_s hX).1 _ (List.mem_of_getElem? (show cKs[32]? = some ("FirstSnuffer$Reader", 159, "steps", 116) from rfl))
theorem cc_X2_161 {X : gz_X} {G : gz_G} {cc : ByteArray} {nL fr lo pc : Nat} {rem : Nat × Nat} {lv : List (Nat × Value)} {rest st0 : List Value} (hX : gz_C cS X G cc nL RX2 fr lo) {c1 : Nat} {x2 : Int32} {x3 : Int32} {m m9 : gM} (hK : clc m.1 m.2.1 m.2.2.2.2.1 → m.1 1011 = 2 + 1)  {r : Int32} (h : cf_X2_number c1 x2 x3 m = some (some r, m9)) (hroom : 8 + 1 ≤ fr ∧ 8 + (4 + 11) + 175 ≤ lo) (hst : st0 = [.int x3, .int x2, .ref (gz_ad G c1), .ref (gz_ad G 1011)] ++ rest) (hW : (rest.map fun v => v.category).sum ≤ 8) (hd : decode cc pc = .ok (.invokevirtual 161, 3)) (kk : gz_V cS X G nL rem m9 (pc + 3) lv (.int r :: rest)) : gz_V cS X G nL (rem.1 + (gZ m9 - gZ m), rem.2 + (gW m9 - gW m)) m pc lv st0 :=
  gz_callX hX cs_E (As := [.ref (gz_ad G c1), .int x2, .int x3]) (rest := rest) (q := (RX2, TX2, 8)) (ci := 2) (c := 1011) (ct_X2_number (l := X.2.1) h) (lw_V q935 q937 qs20 q172 q938) (n := 3) (by decide +kernel) hroom rfl rfl (by decide) hK hst hW hd (rem := rem) (fun rv e => by obtain rfl := Option.some.inj e; exact kk) (fun e => by simp at e)
theorem cc_X2_161x {X : gz_X} {G : gz_G} {cc : ByteArray} {nL fr lo pc : Nat} {rem : Nat × Nat} {lv : List (Nat × Value)} {rest st0 : List Value} (hX : gz_C cS X G cc nL RX2 fr lo) {c1 : Nat} {x2 : Int32} {x3 : Int32} {m m9 : gM} (hK : clc m.1 m.2.1 m.2.2.2.2.1 → m.1 1011 = 2 + 1)  (h : cf_X2_number c1 x2 x3 m = some (none, m9)) (hroom : 8 + 1 ≤ fr ∧ 8 + (4 + 11) + 175 ≤ lo) (hst : st0 = [.int x3, .int x2, .ref (gz_ad G c1), .ref (gz_ad G 1011)] ++ rest) (hW : (rest.map fun v => v.category).sum ≤ 8) (hd : decode cc pc = .ok (.invokevirtual 161, 3)) (kk : gz_VX cS X G nL rem m9 pc lv) : gz_V cS X G nL (rem.1 + (gZ m9 - gZ m), rem.2 + (gW m9 - gW m)) m pc lv st0 :=
  gz_callX hX cs_E (As := [.ref (gz_ad G c1), .int x2, .int x3]) (rest := rest) (q := (RX2, TX2, 8)) (ci := 2) (c := 1011) (ct_X2_number (l := X.2.1) h) (lw_V q935 q937 qs20 q172 q938) (n := 3) (by decide +kernel) hroom rfl rfl (by decide) hK hst hW hd (rem := rem) (fun rv e => by simp at e) (fun _ => kk)
theorem cc_X2_164 {X : gz_X} {G : gz_G} {cc : ByteArray} {nL fr lo pc : Nat} {rem : Nat × Nat} {lv : List (Nat × Value)} {rest st0 : List Value} (hX : gz_C cS X G cc nL RX2 fr lo) {c0 : Nat} {x1 : Int32} {x2 : Int32} {x3 : Int32} {m m9 : gM}  (h : cf_X8_init c0 x1 x2 x3 m = some ((), m9)) (hroom : 1 + 1 ≤ fr ∧ 8 + (4 + 11) + 20 ≤ lo) (hst : st0 = [.int x3, .int x2, .int x1, .ref (gz_ad G c0)] ++ rest) (hW : (rest.map fun v => v.category).sum ≤ 8) (hd : decode cc pc = .ok (.invokespecial 164, 3)) (kk : gz_V cS X G nL rem m9 (pc + 3) lv (rest)) : gz_V cS X G nL rem m pc lv st0 :=
  gz_callI hX cs_E (As := [.int x1, .int x2, .int x3]) (rest := rest) (c := c0) (ct_X8_init (l := X.2.1) h) q948 q190 q946 q947 rfl (n := 3) (by decide +kernel) hroom rfl hst hW hd (rem := rem) kk
/-! FirstSnuffer$Reader.readsDoor(I)V -/
noncomputable def mj_X2_readsDoor_23 (x1 : Int32) (s0 : Int32) (m : gM) : Option (Option Unit × gM) :=
  ((cf_X2_most s0 x1 m).bind fun (o4, m2) => (if gZ m ≤ gZ m2 ∧ gW m ≤ gW m2 then gx_o o4 (fun r1 => gz_let (gP m2 1011 6) fun r6 => (if r6 ≠ 0 then (if gK m2 r6 = 2 then gz_let (gP m2 r6 3) fun r9 => (if r9 ≠ 0 then ((cf_X2_known r9 (-1 : Int32) m2).bind fun (o14, m12) => (if gZ m2 ≤ gZ m12 ∧ gW m2 ≤ gW m12 then gx_o o14 (fun r11 => ((cf_X2_word_2 134 m12).bind fun (o19, m17) => (if gZ m12 ≤ gZ m17 ∧ gW m12 ≤ gW m17 then gx_o o19 (fun r16 => gz_let (gP m17 1011 6) fun r21 => (if r21 ≠ 0 then (if gK m17 r21 = 2 then gz_let (gP m17 r21 3) fun r24 => (if r24 ≠ 0 then ((cf_X2_known r24 r11 m17).bind fun (o29, m27) => (if gZ m17 ≤ gZ m27 ∧ gW m17 ≤ gW m27 then gx_o o29 (fun r26 => gz_let (gP m27 1011 6) fun r31 => (if r31 ≠ 0 then (if gK m27 r31 = 2 then gz_let (gP m27 r31 4) fun r34 => (if r34 ≠ 0 then (if gZ m27 ≠ 0 then gz_let (gz_al m27 (7 + 1) 0 3) fun m37 => ((cf_X2_number 116 (1 : Int32) (9 : Int32) m37).bind fun (o41, m39) => (if gZ m37 ≤ gZ m39 ∧ gW m37 ≤ gW m39 then gx_o o41 (fun r38 => ((cf_X8_init (gZ m27) r11 r26 r38 m39).bind fun (_, m44) => (if m44.2.2.2.2.2 = m39.2.2.2.2.2 then (if gK m44 r34 = 21 then ((cf_J2_add r34 (gZ m27) m44).bind fun (r48, m49) => (if gZ m44 ≤ gZ m49 ∧ gW m44 ≤ gW m49 then some (some (), m49) else none)) else none) else none))) (some (none, m39)) else none)) else none) else none) else none) else none)) (some (none, m27)) else none)) else none) else none) else none)) (some (none, m17)) else none))) (some (none, m12)) else none)) else none) else none) else none)) (some (none, m2)) else none))
theorem wb_X2_readsDoor_23 {X : gz_X} {G : gz_G} {zE : Nat × Nat} (hX : gz_C cS X G cX2_readsDoor 4 RX2 9 198) {x1 : Int32} {s0 : Int32}  {m : gM} {z : (Option Unit × gM)} (h : mj_X2_readsDoor_23 x1 s0 m = some z) (hk : (fun z : (Option Unit × gM) => gx_k (fun _ => gz_kVa cS X G 4 zE cX2_readsDoor z.2) (∀ (pc : Nat) (lv : List (Nat × Value)), gz_VXa cS X G 4 zE z.2 pc lv) z.1) z) : gz_Va cS X G 4 zE m 23 [(0, .ref (gz_ad G 1011)), (1, .int x1)] [.int s0, .ref (gz_ad G 1011)] := by
  unfold mj_X2_readsDoor_23 at h
  refine gz_Vs (fun _ kk => gz_iload_n (pc := 23) hX dX2_readsDoor_23 rfl 1 rfl kk) rfl ?_
  obtain ⟨⟨o4, m2⟩, c3, h⟩ := gz_bd h
  obtain ⟨g5, h⟩ := gz_gu h
  cases o4 with
  | none =>
    replace h := gx_on h
    obtain rfl := Option.some.inj h
    exact gz_Vcx (k := gZ m2 - gZ m) (n := gW m2 - gW m) (fun _ kk => cc_X2_125x (pc := 24) hX (fun h => cz_k h rfl) c3 ⟨Nat.le_of_ble_eq_true rfl, Nat.le_of_ble_eq_true rfl⟩ (rest := []) rfl (Nat.le_of_ble_eq_true rfl) dX2_readsDoor_24 kk) ⟨by have := g5.1; dsimp only [gZ] at *; omega, by have := g5.2; dsimp only [gW] at *; omega⟩ (hk _ _)
  | some r1 =>
    replace h := gx_os h
    refine gz_Vc (k := gZ m2 - gZ m) (n := gW m2 - gW m) (fun _ kk => cc_X2_125 (pc := 24) hX (fun h => cz_k h rfl) c3 ⟨Nat.le_of_ble_eq_true rfl, Nat.le_of_ble_eq_true rfl⟩ (rest := []) rfl (Nat.le_of_ble_eq_true rfl) dX2_readsDoor_24 kk) ⟨by have := g5.1; dsimp only [gZ] at *; omega, by have := g5.2; dsimp only [gW] at *; omega⟩ ?_
    refine gz_Vs (fun _ kk => gz_aload_n (pc := 27) hX dX2_readsDoor_27 rfl 0 rfl kk) rfl ?_
    refine gz_Vs (fun _ kk => gz_aload_n (pc := 28) hX dX2_readsDoor_28 rfl 0 rfl kk) rfl ?_
    obtain ⟨r6, er6, h⟩ := gz_lt h
    obtain ⟨g7, h⟩ := gz_gu h
    refine gz_Vs (fun _ kk => cg_X2_103_2 (pc := 29) hX (c := 1011) (v := .ref (gz_ad G r6)) (fun h => cz_k h rfl) (fun _ => gz_rq er6 g7) dX2_readsDoor_29 kk) rfl ?_
    obtain ⟨g8, h⟩ := gz_gu h
    obtain ⟨r9, er9, h⟩ := gz_lt h
    obtain ⟨g10, h⟩ := gz_gu h
    refine gz_Vs (fun _ kk => cg_X2_149_1 (pc := 32) hX (c := r6) (v := .ref (gz_ad G r9)) (fun _ => g8) (fun _ => gz_rq er9 g10) dX2_readsDoor_32 kk) rfl ?_
    refine gz_Vs (fun _ kk => gz_iconst (pc := 35) (v := (-1 : Int32)) hX dX2_readsDoor_35 (by decide) kk) rfl ?_
    obtain ⟨⟨o14, m12⟩, c13, h⟩ := gz_bd h
    obtain ⟨g15, h⟩ := gz_gu h
    cases o14 with
    | none =>
      replace h := gx_on h
      obtain rfl := Option.some.inj h
      exact gz_Vcx (k := gZ m12 - gZ m2) (n := gW m12 - gW m2) (fun _ kk => cc_X2_152x (pc := 36) hX (fun h => cz_k h rfl) c13 ⟨Nat.le_of_ble_eq_true rfl, Nat.le_of_ble_eq_true rfl⟩ (rest := []) rfl (Nat.le_of_ble_eq_true rfl) dX2_readsDoor_36 kk) ⟨by have := g15.1; dsimp only [gZ] at *; omega, by have := g15.2; dsimp only [gW] at *; omega⟩ (hk _ _)
    | some r11 =>
      replace h := gx_os h
      refine gz_Vc (k := gZ m12 - gZ m2) (n := gW m12 - gW m2) (fun _ kk => cc_X2_152 (pc := 36) hX (fun h => cz_k h rfl) c13 ⟨Nat.le_of_ble_eq_true rfl, Nat.le_of_ble_eq_true rfl⟩ (rest := []) rfl (Nat.le_of_ble_eq_true rfl) dX2_readsDoor_36 kk) ⟨by have := g15.1; dsimp only [gZ] at *; omega, by have := g15.2; dsimp only [gW] at *; omega⟩ ?_
      refine gz_Vs (fun _ kk => gz_istore_n (pc := 39) (lw := [(2, .int r11), (0, .ref (gz_ad G 1011)), (1, .int x1)]) hX dX2_readsDoor_39 rfl (by decide) rfl kk) rfl ?_
      refine gz_Vs (fun _ kk => gz_aload_n (pc := 40) hX dX2_readsDoor_40 rfl 1 rfl kk) rfl ?_
      refine gz_Vs (fun _ kk => gz_ldcS (pc := 41) (tx := "to") (c := 134) hX (cl_s_X2_156 hX) dX2_readsDoor_41 kk) rfl ?_
      obtain ⟨⟨o19, m17⟩, c18, h⟩ := gz_bd h
      obtain ⟨g20, h⟩ := gz_gu h
      cases o19 with
      | none =>
        replace h := gx_on h
        obtain rfl := Option.some.inj h
        exact gz_Vcx (k := gZ m17 - gZ m12) (n := gW m17 - gW m12) (fun _ kk => cc_X2_93x (pc := 43) hX (fun h => cz_k h rfl) c18 ⟨Nat.le_of_ble_eq_true rfl, Nat.le_of_ble_eq_true rfl⟩ (rest := []) rfl (Nat.le_of_ble_eq_true rfl) dX2_readsDoor_43 kk) ⟨by have := g20.1; dsimp only [gZ] at *; omega, by have := g20.2; dsimp only [gW] at *; omega⟩ (hk _ _)
      | some r16 =>
        replace h := gx_os h
        refine gz_Vc (k := gZ m17 - gZ m12) (n := gW m17 - gW m12) (fun _ kk => cc_X2_93 (pc := 43) hX (fun h => cz_k h rfl) c18 ⟨Nat.le_of_ble_eq_true rfl, Nat.le_of_ble_eq_true rfl⟩ (rest := []) rfl (Nat.le_of_ble_eq_true rfl) dX2_readsDoor_43 kk) ⟨by have := g20.1; dsimp only [gZ] at *; omega, by have := g20.2; dsimp only [gW] at *; omega⟩ ?_
        refine gz_Vs (fun _ kk => gz_aload_n (pc := 46) hX dX2_readsDoor_46 rfl 1 rfl kk) rfl ?_
        refine gz_Vs (fun _ kk => gz_aload_n (pc := 47) hX dX2_readsDoor_47 rfl 1 rfl kk) rfl ?_
        obtain ⟨r21, er21, h⟩ := gz_lt h
        obtain ⟨g22, h⟩ := gz_gu h
        refine gz_Vs (fun _ kk => cg_X2_103_2 (pc := 48) hX (c := 1011) (v := .ref (gz_ad G r21)) (fun h => cz_k h rfl) (fun _ => gz_rq er21 g22) dX2_readsDoor_48 kk) rfl ?_
        obtain ⟨g23, h⟩ := gz_gu h
        obtain ⟨r24, er24, h⟩ := gz_lt h
        obtain ⟨g25, h⟩ := gz_gu h
        refine gz_Vs (fun _ kk => cg_X2_149_1 (pc := 51) hX (c := r21) (v := .ref (gz_ad G r24)) (fun _ => g23) (fun _ => gz_rq er24 g25) dX2_readsDoor_51 kk) rfl ?_
        refine gz_Vs (fun _ kk => gz_iload_n (pc := 54) hX dX2_readsDoor_54 rfl 0 rfl kk) rfl ?_
        obtain ⟨⟨o29, m27⟩, c28, h⟩ := gz_bd h
        obtain ⟨g30, h⟩ := gz_gu h
        cases o29 with
        | none =>
          replace h := gx_on h
          obtain rfl := Option.some.inj h
          exact gz_Vcx (k := gZ m27 - gZ m17) (n := gW m27 - gW m17) (fun _ kk => cc_X2_152x (pc := 55) hX (fun h => cz_k h rfl) c28 ⟨Nat.le_of_ble_eq_true rfl, Nat.le_of_ble_eq_true rfl⟩ (rest := []) rfl (Nat.le_of_ble_eq_true rfl) dX2_readsDoor_55 kk) ⟨by have := g30.1; dsimp only [gZ] at *; omega, by have := g30.2; dsimp only [gW] at *; omega⟩ (hk _ _)
        | some r26 =>
          replace h := gx_os h
          refine gz_Vc (k := gZ m27 - gZ m17) (n := gW m27 - gW m17) (fun _ kk => cc_X2_152 (pc := 55) hX (fun h => cz_k h rfl) c28 ⟨Nat.le_of_ble_eq_true rfl, Nat.le_of_ble_eq_true rfl⟩ (rest := []) rfl (Nat.le_of_ble_eq_true rfl) dX2_readsDoor_55 kk) ⟨by have := g30.1; dsimp only [gZ] at *; omega, by have := g30.2; dsimp only [gW] at *; omega⟩ ?_
          refine gz_Vs (fun _ kk => gz_istore_n (pc := 58) (lw := [(3, .int r26), (2, .int r11), (0, .ref (gz_ad G 1011)), (1, .int x1)]) hX dX2_readsDoor_58 rfl (by decide) rfl kk) rfl ?_
          refine gz_Vs (fun _ kk => gz_aload_n (pc := 59) hX dX2_readsDoor_59 rfl 2 rfl kk) rfl ?_
          obtain ⟨r31, er31, h⟩ := gz_lt h
          obtain ⟨g32, h⟩ := gz_gu h
          refine gz_Vs (fun _ kk => cg_X2_103_2 (pc := 60) hX (c := 1011) (v := .ref (gz_ad G r31)) (fun h => cz_k h rfl) (fun _ => gz_rq er31 g32) dX2_readsDoor_60 kk) rfl ?_
          obtain ⟨g33, h⟩ := gz_gu h
          obtain ⟨r34, er34, h⟩ := gz_lt h
          obtain ⟨g35, h⟩ := gz_gu h
          refine gz_Vs (fun _ kk => cg_X2_141_1 (pc := 63) hX (c := r31) (v := .ref (gz_ad G r34)) (fun _ => g33) (fun _ => gz_rq er34 g35) dX2_readsDoor_63 kk) rfl ?_
          obtain ⟨g36, h⟩ := gz_gu h
          obtain ⟨m37, em37, h⟩ := gz_lt h
          refine gz_Vn (fun _ kk => cn_X2_157 (pc := 66) hX g36 dX2_readsDoor_66 em37 kk) em37 ?_
          refine gz_Vs (fun _ kk => gz_dup (pc := 69) hX dX2_readsDoor_69 rfl kk) rfl ?_
          refine gz_Vs (fun _ kk => gz_iload_n (pc := 70) hX dX2_readsDoor_70 rfl 1 rfl kk) rfl ?_
          refine gz_Vs (fun _ kk => gz_iload_n (pc := 71) hX dX2_readsDoor_71 rfl 0 rfl kk) rfl ?_
          refine gz_Vs (fun _ kk => gz_aload_n (pc := 72) hX dX2_readsDoor_72 rfl 2 rfl kk) rfl ?_
          refine gz_Vs (fun _ kk => gz_ldcS (pc := 73) (tx := "steps") (c := 116) hX (cl_s_X2_159 hX) dX2_readsDoor_73 kk) rfl ?_
          refine gz_Vs (fun _ kk => gz_iconst (pc := 75) (v := (1 : Int32)) hX dX2_readsDoor_75 (by decide) kk) rfl ?_
          refine gz_Vs (fun _ kk => gz_bipush (pc := 76) (v := (9 : Int32)) hX dX2_readsDoor_76 (by decide) kk) rfl ?_
          obtain ⟨⟨o41, m39⟩, c40, h⟩ := gz_bd h
          obtain ⟨g42, h⟩ := gz_gu h
          cases o41 with
          | none =>
            replace h := gx_on h
            obtain rfl := Option.some.inj h
            exact gz_Vcx (k := gZ m39 - gZ m37) (n := gW m39 - gW m37) (fun _ kk => cc_X2_161x (pc := 78) hX (fun h => cz_k h rfl) c40 ⟨Nat.le_of_ble_eq_true rfl, Nat.le_of_ble_eq_true rfl⟩ (rest := [.int r26, .int r11, .ref (gz_ad G (gZ m27)), .ref (gz_ad G (gZ m27)), .ref (gz_ad G r34)]) rfl (Nat.le_of_ble_eq_true rfl) dX2_readsDoor_78 kk) ⟨by have := g42.1; dsimp only [gZ] at *; omega, by have := g42.2; dsimp only [gW] at *; omega⟩ (hk _ _)
          | some r38 =>
            replace h := gx_os h
            refine gz_Vc (k := gZ m39 - gZ m37) (n := gW m39 - gW m37) (fun _ kk => cc_X2_161 (pc := 78) hX (fun h => cz_k h rfl) c40 ⟨Nat.le_of_ble_eq_true rfl, Nat.le_of_ble_eq_true rfl⟩ (rest := [.int r26, .int r11, .ref (gz_ad G (gZ m27)), .ref (gz_ad G (gZ m27)), .ref (gz_ad G r34)]) rfl (Nat.le_of_ble_eq_true rfl) dX2_readsDoor_78 kk) ⟨by have := g42.1; dsimp only [gZ] at *; omega, by have := g42.2; dsimp only [gW] at *; omega⟩ ?_
            obtain ⟨⟨⟨⟩, m44⟩, c45, h⟩ := gz_bd h
            obtain ⟨g46, h⟩ := gz_gu h
            refine gz_Vs (fun _ kk => cc_X2_164 (pc := 81) hX c45 ⟨Nat.le_of_ble_eq_true rfl, Nat.le_of_ble_eq_true rfl⟩ (rest := [.ref (gz_ad G (gZ m27)), .ref (gz_ad G r34)]) rfl (Nat.le_of_ble_eq_true rfl) dX2_readsDoor_81 kk) g46 ?_
            obtain ⟨g47, h⟩ := gz_gu h
            obtain ⟨⟨r48, m49⟩, c50, h⟩ := gz_bd h
            obtain ⟨g51, h⟩ := gz_gu h
            refine gz_Vc (k := gZ m49 - gZ m44) (n := gW m49 - gW m44) (fun _ kk => cc_X2_167 (pc := 84) hX (fun _ => g47) c50 ⟨Nat.le_of_ble_eq_true rfl, Nat.le_of_ble_eq_true rfl⟩ (rest := []) rfl (Nat.le_of_ble_eq_true rfl) dX2_readsDoor_84 kk) ⟨by have := g51.1; dsimp only [gZ] at *; omega, by have := g51.2; dsimp only [gW] at *; omega⟩ ?_
            refine gz_Vs (fun _ kk => gz_pop (pc := 89) hX dX2_readsDoor_89 rfl kk) rfl ?_
            obtain rfl := Option.some.inj h
            exact hk _ _ dX2_readsDoor_90
noncomputable def cf_X2_readsDoor (x1 : Int32) (m : gM) : Option (Option Unit × gM) :=
  gz_let (gP m 1011 6) fun r1 => (if r1 ≠ 0 then (if gK m r1 = 2 then gz_let (gP m r1 4) fun r4 => (if r4 ≠ 0 then (if gK m r4 = 21 then ((cf_J2_size r4 m).bind fun (r7, m8) => (if m8.2.2.2.2.2 = m.2.2.2.2.2 then (if r7 = (12 : Int32) then (mj_X2_readsDoor_23 x1 (1 : Int32) m8) else (mj_X2_readsDoor_23 x1 (0 : Int32) m8)) else none)) else none) else none) else none) else none)
theorem wm_X2_readsDoor {X : gz_X} {G : gz_G} {zE : Nat × Nat} (hX : gz_C cS X G cX2_readsDoor 4 RX2 9 198) {x1 : Int32}  {m : gM} {z : (Option Unit × gM)} (h : cf_X2_readsDoor x1 m = some z) (hk : (fun z : (Option Unit × gM) => gx_k (fun _ => gz_kVa cS X G 4 zE cX2_readsDoor z.2) (∀ (pc : Nat) (lv : List (Nat × Value)), gz_VXa cS X G 4 zE z.2 pc lv) z.1) z) : gz_Va cS X G 4 zE m 0 [(0, .ref (gz_ad G 1011)), (1, .int x1)] [] := by
  unfold cf_X2_readsDoor at h
  refine gz_Vs (fun _ kk => gz_aload_n (pc := 0) hX dX2_readsDoor_0 rfl 0 rfl kk) rfl ?_
  refine gz_Vs (fun _ kk => gz_aload_n (pc := 1) hX dX2_readsDoor_1 rfl 0 rfl kk) rfl ?_
  obtain ⟨r1, er1, h⟩ := gz_lt h
  obtain ⟨g2, h⟩ := gz_gu h
  refine gz_Vs (fun _ kk => cg_X2_103_2 (pc := 2) hX (c := 1011) (v := .ref (gz_ad G r1)) (fun h => cz_k h rfl) (fun _ => gz_rq er1 g2) dX2_readsDoor_2 kk) rfl ?_
  obtain ⟨g3, h⟩ := gz_gu h
  obtain ⟨r4, er4, h⟩ := gz_lt h
  obtain ⟨g5, h⟩ := gz_gu h
  refine gz_Vs (fun _ kk => cg_X2_141_1 (pc := 5) hX (c := r1) (v := .ref (gz_ad G r4)) (fun _ => g3) (fun _ => gz_rq er4 g5) dX2_readsDoor_5 kk) rfl ?_
  obtain ⟨g6, h⟩ := gz_gu h
  obtain ⟨⟨r7, m8⟩, c9, h⟩ := gz_bd h
  obtain ⟨g10, h⟩ := gz_gu h
  refine gz_Vs (fun _ kk => cc_X2_145 (pc := 8) hX (fun _ => g6) c9 ⟨Nat.le_of_ble_eq_true rfl, Nat.le_of_ble_eq_true rfl⟩ (rest := [.ref (gz_ad G 1011)]) rfl (Nat.le_of_ble_eq_true rfl) dX2_readsDoor_8 kk) g10 ?_
  refine gz_Vs (fun _ kk => gz_bipush (pc := 13) (v := (12 : Int32)) hX dX2_readsDoor_13 (by decide) kk) rfl ?_
  refine gz_Vif (μ1 := m) (μ2 := m) (fun _ k1 k2 => gz_icmp_ne (pc := 15) (tgt := 22) hX dX2_readsDoor_15 (by decide) k1 k2) (by first | exact Classical.em _ | exact (Classical.em _).symm) (fun g11 => ?_) (fun g11 => ?_)
  · replace h := gz_if' g11 h
    refine gz_Vs (fun _ kk => gz_iconst (pc := 22) (v := (0 : Int32)) hX dX2_readsDoor_22 (by decide) kk) rfl ?_
    exact wb_X2_readsDoor_23 hX h hk
  · replace h := gz_it' g11 h
    refine gz_Vs (fun _ kk => gz_iconst (pc := 18) (v := (1 : Int32)) hX dX2_readsDoor_18 (by decide) kk) rfl ?_
    refine gz_Vs (fun _ kk => gz_goto (pc := 19) (tgt := 23) hX dX2_readsDoor_19 (by decide) kk) rfl ?_
    exact wb_X2_readsDoor_23 hX h hk
theorem ct_X2_readsDoor {G : gz_G} {l : Launch} {x1 : Int32}  {m m9 : gM} {o : Option Unit} (h : cf_X2_readsDoor x1 m = some (o, m9)) : gx_Met cS G l yX2_readsDoor cX2_readsDoor 4 none (mRc 9 198 (gZ m9 - gZ m) (gW m9 - gW m)) [.ref (gz_ad G 1011), .int x1] m m9 (o.map (fun _ => none)) :=
  gx_ofV (by decide +kernel) (Nat.le_of_ble_eq_true rfl) ⟨_, rfl, rfl⟩ (fun h => cz_k (c := 1012) (k := 3) h rfl) fun X _ hX hk => (wm_X2_readsDoor (zE := m9.2.2.2.2.2) hX h (gx_km (fun _ q pc lv hd => gz_Ve (q pc lv hd)) (fun q pc lv => gz_VXe (q pc lv)) hk)).2
theorem cc_X2_173 {X : gz_X} {G : gz_G} {cc : ByteArray} {nL fr lo pc : Nat} {rem : Nat × Nat} {lv : List (Nat × Value)} {rest st0 : List Value} (hX : gz_C cS X G cc nL RX2 fr lo)  {m m9 : gM} (hK : clc m.1 m.2.1 m.2.2.2.2.1 → m.1 1011 = 2 + 1)  {r : Nat} (h : cf_X2_fresh  m = some (some r, m9)) (hroom : 8 + 1 ≤ fr ∧ 8 + (2 + 11) + 175 ≤ lo) (hst : st0 = [.ref (gz_ad G 1011)] ++ rest) (hW : (rest.map fun v => v.category).sum ≤ 8) (hd : decode cc pc = .ok (.invokevirtual 173, 3)) (kk : gz_V cS X G nL rem m9 (pc + 3) lv (.ref (gz_ad G r) :: rest)) : gz_V cS X G nL (rem.1 + (gZ m9 - gZ m), rem.2 + (gW m9 - gW m)) m pc lv st0 :=
  gz_callX hX cs_E (As := []) (rest := rest) (q := (RX2, TX2, 8)) (ci := 2) (c := 1011) (ct_X2_fresh (l := X.2.1) h) (lw_V q800 q802 qs12 q172 q803) (n := 0) (by decide +kernel) hroom rfl rfl (by decide) hK hst hW hd (rem := rem) (fun rv e => by obtain rfl := Option.some.inj e; exact kk) (fun e => by simp at e)
theorem cc_X2_173x {X : gz_X} {G : gz_G} {cc : ByteArray} {nL fr lo pc : Nat} {rem : Nat × Nat} {lv : List (Nat × Value)} {rest st0 : List Value} (hX : gz_C cS X G cc nL RX2 fr lo)  {m m9 : gM} (hK : clc m.1 m.2.1 m.2.2.2.2.1 → m.1 1011 = 2 + 1)  (h : cf_X2_fresh  m = some (none, m9)) (hroom : 8 + 1 ≤ fr ∧ 8 + (2 + 11) + 175 ≤ lo) (hst : st0 = [.ref (gz_ad G 1011)] ++ rest) (hW : (rest.map fun v => v.category).sum ≤ 8) (hd : decode cc pc = .ok (.invokevirtual 173, 3)) (kk : gz_VX cS X G nL rem m9 pc lv) : gz_V cS X G nL (rem.1 + (gZ m9 - gZ m), rem.2 + (gW m9 - gW m)) m pc lv st0 :=
  gz_callX hX cs_E (As := []) (rest := rest) (q := (RX2, TX2, 8)) (ci := 2) (c := 1011) (ct_X2_fresh (l := X.2.1) h) (lw_V q800 q802 qs12 q172 q803) (n := 0) (by decide +kernel) hroom rfl rfl (by decide) hK hst hW hd (rem := rem) (fun rv e => by simp at e) (fun _ => kk)
theorem cl_s_X2_176 {X : gz_X} {G : gz_G} {cc : ByteArray} {nL : Nat} {own : String} {fr lo : Nat} (hX : gz_C cS X G cc nL own fr lo) : vk_R RX2 176 "in" (gz_ad G 138) X.2.2.2.2.1 := (cz_s hX).1 _ (List.mem_of_getElem? (show cKs[33]? = some ("FirstSnuffer$Reader", 176, "in", 138) from rfl))
theorem cl_s_X2_178 {X : gz_X} {G : gz_G} {cc : ByteArray} {nL : Nat} {own : String} {fr lo : Nat} (hX : gz_C cS X G cc nL own fr lo) : vk_R RX2 178 "burns" (gz_ad G 140) X.2.2.2.2.1 := (cz_s hX).1 _ (List.mem_of_getElem? (show cKs[34]? = some ("FirstSnuffer$Reader", 178, "burns", 140) from rfl))
theorem cn_X2_180 {X : gz_X} {G : gz_G} {cc : ByteArray} {nL fr lo pc : Nat} {rem : Nat × Nat} {m m9 : gM} {lv : List (Nat × Value)} {st : List Value} (hX : gz_C cS X G cc nL RX2 fr lo) (hz : gZ m ≠ 0) (hd : decode cc pc = .ok (.new 180, 3)) (hm : m9 = gz_al m (8 + 1) 0 4) (kk : gz_V cS X G nL rem m9 (pc + 3) lv (.ref (gz_ad G (gZ m)) :: st)) : gz_V cS X G nL (rem.1 + 1, rem.2 + 4) m pc lv st :=
  gz_new hX (C := RX9) (T := TX9) (N := 4) (ci := 8) rfl (by decide) in_X9 tyX9 tyX9_ok (by decide +kernel) q969 q970 q191 hz clc_al hd hm kk
theorem cl_s_X2_182 {X : gz_X} {G : gz_G} {cc : ByteArray} {nL : Nat} {own : String} {fr lo : Nat} (hX : gz_C cS X G cc nL own fr lo) : vk_R RX2 182 "heat" (gz_ad G 102) X.2.2.2.2.1 := (cz_s hX).1 _ (List.mem_of_getElem? (show cKs[35]? = some ("FirstSnuffer$Reader", 182, "heat", 102) from rfl))
theorem cc_X2_184 {X : gz_X} {G : gz_G} {cc : ByteArray} {nL fr lo pc : Nat} {rem : Nat × Nat} {lv : List (Nat × Value)} {rest st0 : List Value} (hX : gz_C cS X G cc nL RX2 fr lo) {c0 : Nat} {c1 : Nat} {x2 : Int32} {x3 : Int32} {x4 : Int32} {m m9 : gM}  (h : cf_X9_init c0 c1 x2 x3 x4 m = some ((), m9)) (hroom : 2 + 1 ≤ fr ∧ 8 + (5 + 11) + 41 ≤ lo) (hst : st0 = [.int x4, .int x3, .int x2, .ref (gz_ad G c1), .ref (gz_ad G c0)] ++ rest) (hW : (rest.map fun v => v.category).sum ≤ 8) (hd : decode cc pc = .ok (.invokespecial 184, 3)) (kk : gz_V cS X G nL rem m9 (pc + 3) lv (rest)) : gz_V cS X G nL rem m pc lv st0 :=
  gz_callI hX cs_E (As := [.ref (gz_ad G c1), .int x2, .int x3, .int x4]) (rest := rest) (c := c0) (ct_X9_init (l := X.2.1) h) q974 q191 q972 q973 rfl (n := 4) (by decide +kernel) hroom rfl hst hW hd (rem := rem) kk
/-! FirstSnuffer$Reader.readsThing(I)V -/
noncomputable def mj_X2_readsThing_23 (x1 : Int32) (s0 : Int32) (m : gM) : Option (Option Unit × gM) :=
  ((cf_X2_most s0 x1 m).bind fun (o4, m2) => (if gZ m ≤ gZ m2 ∧ gW m ≤ gW m2 then gx_o o4 (fun r1 => ((cf_X2_fresh  m2).bind fun (o9, m7) => (if gZ m2 ≤ gZ m7 ∧ gW m2 ≤ gW m7 then gx_o o9 (fun r6 => ((cf_X2_word_2 138 m7).bind fun (o14, m12) => (if gZ m7 ≤ gZ m12 ∧ gW m7 ≤ gW m12 then gx_o o14 (fun r11 => gz_let (gP m12 1011 6) fun r16 => (if r16 ≠ 0 then (if gK m12 r16 = 2 then gz_let (gP m12 r16 3) fun r19 => (if r19 ≠ 0 then ((cf_X2_known r19 (-1 : Int32) m12).bind fun (o24, m22) => (if gZ m12 ≤ gZ m22 ∧ gW m12 ≤ gW m22 then gx_o o24 (fun r21 => ((cf_X2_number 140 (1 : Int32) (99 : Int32) m22).bind fun (o29, m27) => (if gZ m22 ≤ gZ m27 ∧ gW m22 ≤ gW m27 then gx_o o29 (fun r26 => gz_let (gP m27 1011 6) fun r31 => (if r31 ≠ 0 then (if gK m27 r31 = 2 then gz_let (gP m27 r31 5) fun r34 => (if r34 ≠ 0 then (if gZ m27 ≠ 0 then gz_let (gz_al m27 (8 + 1) 0 4) fun m37 => ((cf_X2_number 102 (0 : Int32) (9 : Int32) m37).bind fun (o41, m39) => (if gZ m37 ≤ gZ m39 ∧ gW m37 ≤ gW m39 then gx_o o41 (fun r38 => ((cf_X9_init (gZ m27) r6 r21 r26 r38 m39).bind fun (_, m44) => (if m44.2.2.2.2.2 = m39.2.2.2.2.2 then (if gK m44 r34 = 21 then ((cf_J2_add r34 (gZ m27) m44).bind fun (r48, m49) => (if gZ m44 ≤ gZ m49 ∧ gW m44 ≤ gW m49 then some (some (), m49) else none)) else none) else none))) (some (none, m39)) else none)) else none) else none) else none) else none)) (some (none, m27)) else none))) (some (none, m22)) else none)) else none) else none) else none)) (some (none, m12)) else none))) (some (none, m7)) else none))) (some (none, m2)) else none))
theorem wb_X2_readsThing_23 {X : gz_X} {G : gz_G} {zE : Nat × Nat} (hX : gz_C cS X G cX2_readsThing 5 RX2 9 198) {x1 : Int32} {s0 : Int32}  {m : gM} {z : (Option Unit × gM)} (h : mj_X2_readsThing_23 x1 s0 m = some z) (hk : (fun z : (Option Unit × gM) => gx_k (fun _ => gz_kVa cS X G 5 zE cX2_readsThing z.2) (∀ (pc : Nat) (lv : List (Nat × Value)), gz_VXa cS X G 5 zE z.2 pc lv) z.1) z) : gz_Va cS X G 5 zE m 23 [(0, .ref (gz_ad G 1011)), (1, .int x1)] [.int s0, .ref (gz_ad G 1011)] := by
  unfold mj_X2_readsThing_23 at h
  refine gz_Vs (fun _ kk => gz_iload_n (pc := 23) hX dX2_readsThing_23 rfl 1 rfl kk) rfl ?_
  obtain ⟨⟨o4, m2⟩, c3, h⟩ := gz_bd h
  obtain ⟨g5, h⟩ := gz_gu h
  cases o4 with
  | none =>
    replace h := gx_on h
    obtain rfl := Option.some.inj h
    exact gz_Vcx (k := gZ m2 - gZ m) (n := gW m2 - gW m) (fun _ kk => cc_X2_125x (pc := 24) hX (fun h => cz_k h rfl) c3 ⟨Nat.le_of_ble_eq_true rfl, Nat.le_of_ble_eq_true rfl⟩ (rest := []) rfl (Nat.le_of_ble_eq_true rfl) dX2_readsThing_24 kk) ⟨by have := g5.1; dsimp only [gZ] at *; omega, by have := g5.2; dsimp only [gW] at *; omega⟩ (hk _ _)
  | some r1 =>
    replace h := gx_os h
    refine gz_Vc (k := gZ m2 - gZ m) (n := gW m2 - gW m) (fun _ kk => cc_X2_125 (pc := 24) hX (fun h => cz_k h rfl) c3 ⟨Nat.le_of_ble_eq_true rfl, Nat.le_of_ble_eq_true rfl⟩ (rest := []) rfl (Nat.le_of_ble_eq_true rfl) dX2_readsThing_24 kk) ⟨by have := g5.1; dsimp only [gZ] at *; omega, by have := g5.2; dsimp only [gW] at *; omega⟩ ?_
    refine gz_Vs (fun _ kk => gz_aload_n (pc := 27) hX dX2_readsThing_27 rfl 0 rfl kk) rfl ?_
    obtain ⟨⟨o9, m7⟩, c8, h⟩ := gz_bd h
    obtain ⟨g10, h⟩ := gz_gu h
    cases o9 with
    | none =>
      replace h := gx_on h
      obtain rfl := Option.some.inj h
      exact gz_Vcx (k := gZ m7 - gZ m2) (n := gW m7 - gW m2) (fun _ kk => cc_X2_173x (pc := 28) hX (fun h => cz_k h rfl) c8 ⟨Nat.le_of_ble_eq_true rfl, Nat.le_of_ble_eq_true rfl⟩ (rest := []) rfl (Nat.le_of_ble_eq_true rfl) dX2_readsThing_28 kk) ⟨by have := g10.1; dsimp only [gZ] at *; omega, by have := g10.2; dsimp only [gW] at *; omega⟩ (hk _ _)
    | some r6 =>
      replace h := gx_os h
      refine gz_Vc (k := gZ m7 - gZ m2) (n := gW m7 - gW m2) (fun _ kk => cc_X2_173 (pc := 28) hX (fun h => cz_k h rfl) c8 ⟨Nat.le_of_ble_eq_true rfl, Nat.le_of_ble_eq_true rfl⟩ (rest := []) rfl (Nat.le_of_ble_eq_true rfl) dX2_readsThing_28 kk) ⟨by have := g10.1; dsimp only [gZ] at *; omega, by have := g10.2; dsimp only [gW] at *; omega⟩ ?_
      refine gz_Vs (fun _ kk => gz_astore_n (pc := 31) (lw := [(2, .ref (gz_ad G r6)), (0, .ref (gz_ad G 1011)), (1, .int x1)]) hX dX2_readsThing_31 rfl (by decide) rfl kk) rfl ?_
      refine gz_Vs (fun _ kk => gz_aload_n (pc := 32) hX dX2_readsThing_32 rfl 1 rfl kk) rfl ?_
      refine gz_Vs (fun _ kk => gz_ldcS (pc := 33) (tx := "in") (c := 138) hX (cl_s_X2_176 hX) dX2_readsThing_33 kk) rfl ?_
      obtain ⟨⟨o14, m12⟩, c13, h⟩ := gz_bd h
      obtain ⟨g15, h⟩ := gz_gu h
      cases o14 with
      | none =>
        replace h := gx_on h
        obtain rfl := Option.some.inj h
        exact gz_Vcx (k := gZ m12 - gZ m7) (n := gW m12 - gW m7) (fun _ kk => cc_X2_93x (pc := 35) hX (fun h => cz_k h rfl) c13 ⟨Nat.le_of_ble_eq_true rfl, Nat.le_of_ble_eq_true rfl⟩ (rest := []) rfl (Nat.le_of_ble_eq_true rfl) dX2_readsThing_35 kk) ⟨by have := g15.1; dsimp only [gZ] at *; omega, by have := g15.2; dsimp only [gW] at *; omega⟩ (hk _ _)
      | some r11 =>
        replace h := gx_os h
        refine gz_Vc (k := gZ m12 - gZ m7) (n := gW m12 - gW m7) (fun _ kk => cc_X2_93 (pc := 35) hX (fun h => cz_k h rfl) c13 ⟨Nat.le_of_ble_eq_true rfl, Nat.le_of_ble_eq_true rfl⟩ (rest := []) rfl (Nat.le_of_ble_eq_true rfl) dX2_readsThing_35 kk) ⟨by have := g15.1; dsimp only [gZ] at *; omega, by have := g15.2; dsimp only [gW] at *; omega⟩ ?_
        refine gz_Vs (fun _ kk => gz_aload_n (pc := 38) hX dX2_readsThing_38 rfl 1 rfl kk) rfl ?_
        refine gz_Vs (fun _ kk => gz_aload_n (pc := 39) hX dX2_readsThing_39 rfl 1 rfl kk) rfl ?_
        obtain ⟨r16, er16, h⟩ := gz_lt h
        obtain ⟨g17, h⟩ := gz_gu h
        refine gz_Vs (fun _ kk => cg_X2_103_2 (pc := 40) hX (c := 1011) (v := .ref (gz_ad G r16)) (fun h => cz_k h rfl) (fun _ => gz_rq er16 g17) dX2_readsThing_40 kk) rfl ?_
        obtain ⟨g18, h⟩ := gz_gu h
        obtain ⟨r19, er19, h⟩ := gz_lt h
        obtain ⟨g20, h⟩ := gz_gu h
        refine gz_Vs (fun _ kk => cg_X2_149_1 (pc := 43) hX (c := r16) (v := .ref (gz_ad G r19)) (fun _ => g18) (fun _ => gz_rq er19 g20) dX2_readsThing_43 kk) rfl ?_
        refine gz_Vs (fun _ kk => gz_iconst (pc := 46) (v := (-1 : Int32)) hX dX2_readsThing_46 (by decide) kk) rfl ?_
        obtain ⟨⟨o24, m22⟩, c23, h⟩ := gz_bd h
        obtain ⟨g25, h⟩ := gz_gu h
        cases o24 with
        | none =>
          replace h := gx_on h
          obtain rfl := Option.some.inj h
          exact gz_Vcx (k := gZ m22 - gZ m12) (n := gW m22 - gW m12) (fun _ kk => cc_X2_152x (pc := 47) hX (fun h => cz_k h rfl) c23 ⟨Nat.le_of_ble_eq_true rfl, Nat.le_of_ble_eq_true rfl⟩ (rest := []) rfl (Nat.le_of_ble_eq_true rfl) dX2_readsThing_47 kk) ⟨by have := g25.1; dsimp only [gZ] at *; omega, by have := g25.2; dsimp only [gW] at *; omega⟩ (hk _ _)
        | some r21 =>
          replace h := gx_os h
          refine gz_Vc (k := gZ m22 - gZ m12) (n := gW m22 - gW m12) (fun _ kk => cc_X2_152 (pc := 47) hX (fun h => cz_k h rfl) c23 ⟨Nat.le_of_ble_eq_true rfl, Nat.le_of_ble_eq_true rfl⟩ (rest := []) rfl (Nat.le_of_ble_eq_true rfl) dX2_readsThing_47 kk) ⟨by have := g25.1; dsimp only [gZ] at *; omega, by have := g25.2; dsimp only [gW] at *; omega⟩ ?_
          refine gz_Vs (fun _ kk => gz_istore_n (pc := 50) (lw := [(3, .int r21), (2, .ref (gz_ad G r6)), (0, .ref (gz_ad G 1011)), (1, .int x1)]) hX dX2_readsThing_50 rfl (by decide) rfl kk) rfl ?_
          refine gz_Vs (fun _ kk => gz_aload_n (pc := 51) hX dX2_readsThing_51 rfl 2 rfl kk) rfl ?_
          refine gz_Vs (fun _ kk => gz_ldcS (pc := 52) (tx := "burns") (c := 140) hX (cl_s_X2_178 hX) dX2_readsThing_52 kk) rfl ?_
          refine gz_Vs (fun _ kk => gz_iconst (pc := 54) (v := (1 : Int32)) hX dX2_readsThing_54 (by decide) kk) rfl ?_
          refine gz_Vs (fun _ kk => gz_bipush (pc := 55) (v := (99 : Int32)) hX dX2_readsThing_55 (by decide) kk) rfl ?_
          obtain ⟨⟨o29, m27⟩, c28, h⟩ := gz_bd h
          obtain ⟨g30, h⟩ := gz_gu h
          cases o29 with
          | none =>
            replace h := gx_on h
            obtain rfl := Option.some.inj h
            exact gz_Vcx (k := gZ m27 - gZ m22) (n := gW m27 - gW m22) (fun _ kk => cc_X2_161x (pc := 57) hX (fun h => cz_k h rfl) c28 ⟨Nat.le_of_ble_eq_true rfl, Nat.le_of_ble_eq_true rfl⟩ (rest := []) rfl (Nat.le_of_ble_eq_true rfl) dX2_readsThing_57 kk) ⟨by have := g30.1; dsimp only [gZ] at *; omega, by have := g30.2; dsimp only [gW] at *; omega⟩ (hk _ _)
          | some r26 =>
            replace h := gx_os h
            refine gz_Vc (k := gZ m27 - gZ m22) (n := gW m27 - gW m22) (fun _ kk => cc_X2_161 (pc := 57) hX (fun h => cz_k h rfl) c28 ⟨Nat.le_of_ble_eq_true rfl, Nat.le_of_ble_eq_true rfl⟩ (rest := []) rfl (Nat.le_of_ble_eq_true rfl) dX2_readsThing_57 kk) ⟨by have := g30.1; dsimp only [gZ] at *; omega, by have := g30.2; dsimp only [gW] at *; omega⟩ ?_
            refine gz_Vs (fun _ kk => gz_istore (pc := 60) (lw := [(4, .int r26), (3, .int r21), (2, .ref (gz_ad G r6)), (0, .ref (gz_ad G 1011)), (1, .int x1)]) hX dX2_readsThing_60 (by decide) rfl kk) rfl ?_
            refine gz_Vs (fun _ kk => gz_aload_n (pc := 62) hX dX2_readsThing_62 rfl 3 rfl kk) rfl ?_
            obtain ⟨r31, er31, h⟩ := gz_lt h
            obtain ⟨g32, h⟩ := gz_gu h
            refine gz_Vs (fun _ kk => cg_X2_103_2 (pc := 63) hX (c := 1011) (v := .ref (gz_ad G r31)) (fun h => cz_k h rfl) (fun _ => gz_rq er31 g32) dX2_readsThing_63 kk) rfl ?_
            obtain ⟨g33, h⟩ := gz_gu h
            obtain ⟨r34, er34, h⟩ := gz_lt h
            obtain ⟨g35, h⟩ := gz_gu h
            refine gz_Vs (fun _ kk => cg_X2_170_1 (pc := 66) hX (c := r31) (v := .ref (gz_ad G r34)) (fun _ => g33) (fun _ => gz_rq er34 g35) dX2_readsThing_66 kk) rfl ?_
            obtain ⟨g36, h⟩ := gz_gu h
            obtain ⟨m37, em37, h⟩ := gz_lt h
            refine gz_Vn (fun _ kk => cn_X2_180 (pc := 69) hX g36 dX2_readsThing_69 em37 kk) em37 ?_
            refine gz_Vs (fun _ kk => gz_dup (pc := 72) hX dX2_readsThing_72 rfl kk) rfl ?_
            refine gz_Vs (fun _ kk => gz_aload_n (pc := 73) hX dX2_readsThing_73 rfl 2 rfl kk) rfl ?_
            refine gz_Vs (fun _ kk => gz_iload_n (pc := 74) hX dX2_readsThing_74 rfl 1 rfl kk) rfl ?_
            refine gz_Vs (fun _ kk => gz_iload (pc := 75) hX dX2_readsThing_75 0 rfl kk) rfl ?_
            refine gz_Vs (fun _ kk => gz_aload_n (pc := 77) hX dX2_readsThing_77 rfl 3 rfl kk) rfl ?_
            refine gz_Vs (fun _ kk => gz_ldcS (pc := 78) (tx := "heat") (c := 102) hX (cl_s_X2_182 hX) dX2_readsThing_78 kk) rfl ?_
            refine gz_Vs (fun _ kk => gz_iconst (pc := 80) (v := (0 : Int32)) hX dX2_readsThing_80 (by decide) kk) rfl ?_
            refine gz_Vs (fun _ kk => gz_bipush (pc := 81) (v := (9 : Int32)) hX dX2_readsThing_81 (by decide) kk) rfl ?_
            obtain ⟨⟨o41, m39⟩, c40, h⟩ := gz_bd h
            obtain ⟨g42, h⟩ := gz_gu h
            cases o41 with
            | none =>
              replace h := gx_on h
              obtain rfl := Option.some.inj h
              exact gz_Vcx (k := gZ m39 - gZ m37) (n := gW m39 - gW m37) (fun _ kk => cc_X2_161x (pc := 83) hX (fun h => cz_k h rfl) c40 ⟨Nat.le_of_ble_eq_true rfl, Nat.le_of_ble_eq_true rfl⟩ (rest := [.int r26, .int r21, .ref (gz_ad G r6), .ref (gz_ad G (gZ m27)), .ref (gz_ad G (gZ m27)), .ref (gz_ad G r34)]) rfl (Nat.le_of_ble_eq_true rfl) dX2_readsThing_83 kk) ⟨by have := g42.1; dsimp only [gZ] at *; omega, by have := g42.2; dsimp only [gW] at *; omega⟩ (hk _ _)
            | some r38 =>
              replace h := gx_os h
              refine gz_Vc (k := gZ m39 - gZ m37) (n := gW m39 - gW m37) (fun _ kk => cc_X2_161 (pc := 83) hX (fun h => cz_k h rfl) c40 ⟨Nat.le_of_ble_eq_true rfl, Nat.le_of_ble_eq_true rfl⟩ (rest := [.int r26, .int r21, .ref (gz_ad G r6), .ref (gz_ad G (gZ m27)), .ref (gz_ad G (gZ m27)), .ref (gz_ad G r34)]) rfl (Nat.le_of_ble_eq_true rfl) dX2_readsThing_83 kk) ⟨by have := g42.1; dsimp only [gZ] at *; omega, by have := g42.2; dsimp only [gW] at *; omega⟩ ?_
              obtain ⟨⟨⟨⟩, m44⟩, c45, h⟩ := gz_bd h
              obtain ⟨g46, h⟩ := gz_gu h
              refine gz_Vs (fun _ kk => cc_X2_184 (pc := 86) hX c45 ⟨Nat.le_of_ble_eq_true rfl, Nat.le_of_ble_eq_true rfl⟩ (rest := [.ref (gz_ad G (gZ m27)), .ref (gz_ad G r34)]) rfl (Nat.le_of_ble_eq_true rfl) dX2_readsThing_86 kk) g46 ?_
              obtain ⟨g47, h⟩ := gz_gu h
              obtain ⟨⟨r48, m49⟩, c50, h⟩ := gz_bd h
              obtain ⟨g51, h⟩ := gz_gu h
              refine gz_Vc (k := gZ m49 - gZ m44) (n := gW m49 - gW m44) (fun _ kk => cc_X2_167 (pc := 89) hX (fun _ => g47) c50 ⟨Nat.le_of_ble_eq_true rfl, Nat.le_of_ble_eq_true rfl⟩ (rest := []) rfl (Nat.le_of_ble_eq_true rfl) dX2_readsThing_89 kk) ⟨by have := g51.1; dsimp only [gZ] at *; omega, by have := g51.2; dsimp only [gW] at *; omega⟩ ?_
              refine gz_Vs (fun _ kk => gz_pop (pc := 94) hX dX2_readsThing_94 rfl kk) rfl ?_
              obtain rfl := Option.some.inj h
              exact hk _ _ dX2_readsThing_95
noncomputable def cf_X2_readsThing (x1 : Int32) (m : gM) : Option (Option Unit × gM) :=
  gz_let (gP m 1011 6) fun r1 => (if r1 ≠ 0 then (if gK m r1 = 2 then gz_let (gP m r1 5) fun r4 => (if r4 ≠ 0 then (if gK m r4 = 21 then ((cf_J2_size r4 m).bind fun (r7, m8) => (if m8.2.2.2.2.2 = m.2.2.2.2.2 then (if r7 = (8 : Int32) then (mj_X2_readsThing_23 x1 (1 : Int32) m8) else (mj_X2_readsThing_23 x1 (0 : Int32) m8)) else none)) else none) else none) else none) else none)
theorem wm_X2_readsThing {X : gz_X} {G : gz_G} {zE : Nat × Nat} (hX : gz_C cS X G cX2_readsThing 5 RX2 9 198) {x1 : Int32}  {m : gM} {z : (Option Unit × gM)} (h : cf_X2_readsThing x1 m = some z) (hk : (fun z : (Option Unit × gM) => gx_k (fun _ => gz_kVa cS X G 5 zE cX2_readsThing z.2) (∀ (pc : Nat) (lv : List (Nat × Value)), gz_VXa cS X G 5 zE z.2 pc lv) z.1) z) : gz_Va cS X G 5 zE m 0 [(0, .ref (gz_ad G 1011)), (1, .int x1)] [] := by
  unfold cf_X2_readsThing at h
  refine gz_Vs (fun _ kk => gz_aload_n (pc := 0) hX dX2_readsThing_0 rfl 0 rfl kk) rfl ?_
  refine gz_Vs (fun _ kk => gz_aload_n (pc := 1) hX dX2_readsThing_1 rfl 0 rfl kk) rfl ?_
  obtain ⟨r1, er1, h⟩ := gz_lt h
  obtain ⟨g2, h⟩ := gz_gu h
  refine gz_Vs (fun _ kk => cg_X2_103_2 (pc := 2) hX (c := 1011) (v := .ref (gz_ad G r1)) (fun h => cz_k h rfl) (fun _ => gz_rq er1 g2) dX2_readsThing_2 kk) rfl ?_
  obtain ⟨g3, h⟩ := gz_gu h
  obtain ⟨r4, er4, h⟩ := gz_lt h
  obtain ⟨g5, h⟩ := gz_gu h
  refine gz_Vs (fun _ kk => cg_X2_170_1 (pc := 5) hX (c := r1) (v := .ref (gz_ad G r4)) (fun _ => g3) (fun _ => gz_rq er4 g5) dX2_readsThing_5 kk) rfl ?_
  obtain ⟨g6, h⟩ := gz_gu h
  obtain ⟨⟨r7, m8⟩, c9, h⟩ := gz_bd h
  obtain ⟨g10, h⟩ := gz_gu h
  refine gz_Vs (fun _ kk => cc_X2_145 (pc := 8) hX (fun _ => g6) c9 ⟨Nat.le_of_ble_eq_true rfl, Nat.le_of_ble_eq_true rfl⟩ (rest := [.ref (gz_ad G 1011)]) rfl (Nat.le_of_ble_eq_true rfl) dX2_readsThing_8 kk) g10 ?_
  refine gz_Vs (fun _ kk => gz_bipush (pc := 13) (v := (8 : Int32)) hX dX2_readsThing_13 (by decide) kk) rfl ?_
  refine gz_Vif (μ1 := m) (μ2 := m) (fun _ k1 k2 => gz_icmp_ne (pc := 15) (tgt := 22) hX dX2_readsThing_15 (by decide) k1 k2) (by first | exact Classical.em _ | exact (Classical.em _).symm) (fun g11 => ?_) (fun g11 => ?_)
  · replace h := gz_if' g11 h
    refine gz_Vs (fun _ kk => gz_iconst (pc := 22) (v := (0 : Int32)) hX dX2_readsThing_22 (by decide) kk) rfl ?_
    exact wb_X2_readsThing_23 hX h hk
  · replace h := gz_it' g11 h
    refine gz_Vs (fun _ kk => gz_iconst (pc := 18) (v := (1 : Int32)) hX dX2_readsThing_18 (by decide) kk) rfl ?_
    refine gz_Vs (fun _ kk => gz_goto (pc := 19) (tgt := 23) hX dX2_readsThing_19 (by decide) kk) rfl ?_
    exact wb_X2_readsThing_23 hX h hk
theorem ct_X2_readsThing {G : gz_G} {l : Launch} {x1 : Int32}  {m m9 : gM} {o : Option Unit} (h : cf_X2_readsThing x1 m = some (o, m9)) : gx_Met cS G l yX2_readsThing cX2_readsThing 5 none (mRc 9 198 (gZ m9 - gZ m) (gW m9 - gW m)) [.ref (gz_ad G 1011), .int x1] m m9 (o.map (fun _ => none)) :=
  gx_ofV (by decide +kernel) (Nat.le_of_ble_eq_true rfl) ⟨_, rfl, rfl⟩ (fun h => cz_k (c := 1012) (k := 3) h rfl) fun X _ hX hk => (wm_X2_readsThing (zE := m9.2.2.2.2.2) hX h (gx_km (fun _ q pc lv hd => gz_Ve (q pc lv hd)) (fun q pc lv => gz_VXe (q pc lv)) hk)).2
theorem cn_X2_249 {X : gz_X} {G : gz_G} {cc : ByteArray} {nL fr lo pc : Nat} {rem : Nat × Nat} {m m9 : gM} {lv : List (Nat × Value)} {st : List Value} (hX : gz_C cS X G cc nL RX2 fr lo) (hz : gZ m ≠ 0) (hd : decode cc pc = .ok (.new 249, 3)) (hm : m9 = gz_al m (10 + 1) 0 2) (kk : gz_V cS X G nL rem m9 (pc + 3) lv (.ref (gz_ad G (gZ m)) :: st)) : gz_V cS X G nL (rem.1 + 1, rem.2 + 2) m pc lv st :=
  gz_new hX (C := RX12) (T := TX12) (N := 2) (ci := 10) rfl (by decide) in_X12 tyX12 tyX12_ok (by decide +kernel) q1034 q1035 q194 hz clc_al hd hm kk
theorem cc_X2_251 {X : gz_X} {G : gz_G} {cc : ByteArray} {nL fr lo pc : Nat} {rem : Nat × Nat} {lv : List (Nat × Value)} {rest st0 : List Value} (hX : gz_C cS X G cc nL RX2 fr lo) {c0 : Nat} {m m9 : gM}  (h : cf_X12_init c0 m = some ((), m9)) (hroom : 4 + 1 ≤ fr ∧ 8 + (1 + 11) + 81 ≤ lo) (hst : st0 = [.ref (gz_ad G c0)] ++ rest) (hW : (rest.map fun v => v.category).sum ≤ 8) (hd : decode cc pc = .ok (.invokespecial 251, 3)) (kk : gz_V cS X G nL rem m9 (pc + 3) lv (rest)) : gz_V cS X G nL (rem.1 + (gZ m9 - gZ m), rem.2 + (gW m9 - gW m)) m pc lv st0 :=
  gz_callIN hX cs_E (As := []) (rest := rest) (c := c0) (ct_X12_init (l := X.2.1) h) q1038 (cz_n (Z := cS) hX q1036 rfl) q194 q1037 rfl (n := 0) (by decide +kernel) hroom rfl hst hW hd (rem := rem) kk
theorem cc_X2_255 {X : gz_X} {G : gz_G} {cc : ByteArray} {nL fr lo pc : Nat} {rem : Nat × Nat} {lv : List (Nat × Value)} {rest st0 : List Value} (hX : gz_C cS X G cc nL RX2 fr lo) {c0 : Nat} {x1 : Int32} {c2 : Nat} {m m9 : gM} (hK : clc m.1 m.2.1 m.2.2.2.2.1 → m.1 c0 = 10 + 1)  (h : cf_X12_add c0 x1 c2 m = some ((), m9)) (hroom : 7 + 1 ≤ fr ∧ 8 + (3 + 11) + 191 ≤ lo) (hst : st0 = [.ref (gz_ad G c2), .int x1, .ref (gz_ad G c0)] ++ rest) (hW : (rest.map fun v => v.category).sum ≤ 8) (hd : decode cc pc = .ok (.invokevirtual 255, 3)) (kk : gz_V cS X G nL rem m9 (pc + 3) lv (rest)) : gz_V cS X G nL (rem.1 + (gZ m9 - gZ m), rem.2 + (gW m9 - gW m)) m pc lv st0 :=
  gz_callV2 hX cs_E (As := [.int x1, .ref (gz_ad G c2)]) (rest := rest) (q := (RX12, TX12, 2)) (ci := 10) (c := c0) (ct_X12_add (l := X.2.1) h) (lw_V q1160 q1161 q1162 q194 q1163) (n := 2) (by decide +kernel) hroom rfl rfl (by decide) hK hst hW hd (rem := rem) kk
theorem cc_X2_258 {X : gz_X} {G : gz_G} {cc : ByteArray} {nL fr lo pc : Nat} {rem : Nat × Nat} {lv : List (Nat × Value)} {rest st0 : List Value} (hX : gz_C cS X G cc nL RX2 fr lo) {x1 : Int32} {m m9 : gM} (hK : clc m.1 m.2.1 m.2.2.2.2.1 → m.1 1011 = 2 + 1)  {r : Int32} (h : cf_X2_takes x1 m = some (r, m9)) (hroom : 2 + 1 ≤ fr ∧ 8 + (3 + 11) + 41 ≤ lo) (hst : st0 = [.int x1, .ref (gz_ad G 1011)] ++ rest) (hW : (rest.map fun v => v.category).sum ≤ 8) (hd : decode cc pc = .ok (.invokevirtual 258, 3)) (kk : gz_V cS X G nL rem m9 (pc + 3) lv (.int r :: rest)) : gz_V cS X G nL rem m pc lv st0 :=
  gz_callV2 hX cs_E (As := [.int x1]) (rest := rest) (q := (RX2, TX2, 8)) (ci := 2) (c := 1011) (ct_X2_takes (l := X.2.1) h) (lw_V q1221 q1223 qs32 q172 q1224) (n := 1) (by decide +kernel) hroom rfl rfl (by decide) hK hst hW hd (rem := rem) kk
/-! FirstSnuffer$Reader.product()LFirstSnuffer$Value; -/
def mP_X2_product_20 (X : gz_X) (G : gz_G) (zE : Nat × Nat) (c1 : Nat) (q : (Int32 × gM)) : Prop := gz_Va cS X G 3 zE q.2 20 [(0, .ref (gz_ad G 1011)), (1, .ref (gz_ad G c1)), (2, .int q.1)] []
noncomputable def mb_X2_product_20 (oR : gM → Option (Option Nat × gM)) (c1 : Nat) (x2 : Int32) (m : gM) : Option ((Int32 × gM) ⊕ (Option Nat × gM)) :=
  (if x2 = (0 : Int32) then some (Sum.inr (some c1, m)) else ((cf_X2_takes (42 : Int32) m).bind fun (r2, m3) => (if m3.2.2.2.2.2 = m.2.2.2.2.2 then (if r2 = (0 : Int32) then ((cf_X2_takes (47 : Int32) m3).bind fun (r7, m8) => (if m8.2.2.2.2.2 = m3.2.2.2.2.2 then (if r7 = (0 : Int32) then some (Sum.inl ((0 : Int32), m8)) else ((oR  m8).bind fun (o15, m13) => (if gZ m8 ≤ gZ m13 ∧ gW m8 ≤ gW m13 then gx_o o15 (fun r12 => (if gK m13 c1 = 11 then ((cf_X12_add c1 (47 : Int32) r12 m13).bind fun (_, m19) => (if gZ m13 ≤ gZ m19 ∧ gW m13 ≤ gW m19 then some (Sum.inl (x2, m19)) else none)) else none)) (some (Sum.inr (none, m13))) else none))) else none)) else ((oR  m3).bind fun (o25, m23) => (if gZ m3 ≤ gZ m23 ∧ gW m3 ≤ gW m23 then gx_o o25 (fun r22 => (if gK m23 c1 = 11 then ((cf_X12_add c1 (42 : Int32) r22 m23).bind fun (_, m29) => (if gZ m23 ≤ gZ m29 ∧ gW m23 ≤ gW m29 then some (Sum.inl (x2, m29)) else none)) else none)) (some (Sum.inr (none, m23))) else none))) else none)))
theorem wb_X2_product_20 {X : gz_X} {G : gz_G} {zE : Nat × Nat} {oR : gM → Option (Option Nat × gM)} {f n : Nat} (hX : gz_C cS X G cX2_product 3 RX2 (f + 1) (n + 40)) (h1 : 60 ≤ f) (h2 : 1500 ≤ n) (hO : cOA G X.2.1 f n oR) {c1 : Nat} {x2 : Int32}  {m : gM} {z : ((Int32 × gM) ⊕ (Option Nat × gM))} (h : mb_X2_product_20 oR c1 x2 m = some z) (hk : (Sum.elim (mP_X2_product_20 X G zE c1) (fun z : (Option Nat × gM) => gx_k (fun r => gz_kRa cS X G 3 zE cX2_product z.2 r) (∀ (pc : Nat) (lv : List (Nat × Value)), gz_VXa cS X G 3 zE z.2 pc lv) z.1)) z) : gz_Va cS X G 3 zE m 20 [(0, .ref (gz_ad G 1011)), (1, .ref (gz_ad G c1)), (2, .int x2)] [] := by
  unfold mb_X2_product_20 at h
  refine gz_Vs (fun _ kk => gz_iload_n (pc := 20) hX dX2_product_20 rfl 2 rfl kk) rfl ?_
  refine gz_Vif (μ1 := m) (μ2 := m) (fun _ k1 k2 => gz_if_eq (pc := 21) (tgt := 73) hX dX2_product_21 (by decide) k1 k2) (by first | exact Classical.em _ | exact (Classical.em _).symm) (fun g1 => ?_) (fun g1 => ?_)
  · replace h := gz_it' g1 h
    refine gz_Vs (fun _ kk => gz_aload_n (pc := 73) hX dX2_product_73 rfl 1 rfl kk) rfl ?_
    obtain rfl := Option.some.inj h
    exact hk _ _ dX2_product_74
  · replace h := gz_if' g1 h
    refine gz_Vs (fun _ kk => gz_aload_n (pc := 24) hX dX2_product_24 rfl 0 rfl kk) rfl ?_
    refine gz_Vs (fun _ kk => gz_bipush (pc := 25) (v := (42 : Int32)) hX dX2_product_25 (by decide) kk) rfl ?_
    obtain ⟨⟨r2, m3⟩, c4, h⟩ := gz_bd h
    obtain ⟨g5, h⟩ := gz_gu h
    refine gz_Vs (fun _ kk => cc_X2_258 (pc := 27) hX (fun h => cz_k h rfl) c4 ⟨by omega, by omega⟩ (rest := []) rfl (Nat.le_of_ble_eq_true rfl) dX2_product_27 kk) g5 ?_
    refine gz_Vif (μ1 := m) (μ2 := m) (fun _ k1 k2 => gz_if_eq (pc := 30) (tgt := 46) hX dX2_product_30 (by decide) k1 k2) (by first | exact Classical.em _ | exact (Classical.em _).symm) (fun g6 => ?_) (fun g6 => ?_)
    · replace h := gz_it' g6 h
      refine gz_Vs (fun _ kk => gz_aload_n (pc := 46) hX dX2_product_46 rfl 0 rfl kk) rfl ?_
      refine gz_Vs (fun _ kk => gz_bipush (pc := 47) (v := (47 : Int32)) hX dX2_product_47 (by decide) kk) rfl ?_
      obtain ⟨⟨r7, m8⟩, c9, h⟩ := gz_bd h
      obtain ⟨g10, h⟩ := gz_gu h
      refine gz_Vs (fun _ kk => cc_X2_258 (pc := 49) hX (fun h => cz_k h rfl) c9 ⟨by omega, by omega⟩ (rest := []) rfl (Nat.le_of_ble_eq_true rfl) dX2_product_49 kk) g10 ?_
      refine gz_Vif (μ1 := m) (μ2 := m) (fun _ k1 k2 => gz_if_eq (pc := 52) (tgt := 68) hX dX2_product_52 (by decide) k1 k2) (by first | exact Classical.em _ | exact (Classical.em _).symm) (fun g11 => ?_) (fun g11 => ?_)
      · replace h := gz_it' g11 h
        refine gz_Vs (fun _ kk => gz_iconst (pc := 68) (v := (0 : Int32)) hX dX2_product_68 (by decide) kk) rfl ?_
        refine gz_Vs (fun _ kk => gz_istore_n (pc := 69) (lw := [(2, .int (0 : Int32)), (0, .ref (gz_ad G 1011)), (1, .ref (gz_ad G c1))]) hX dX2_product_69 rfl (by decide) rfl kk) rfl ?_
        refine gz_Vs (fun _ kk => gz_goto (pc := 70) (tgt := 20) hX dX2_product_70 (by decide) kk) rfl ?_
        refine gz_Vs (fun _ kk => gz_sub (lw := [(0, .ref (gz_ad G 1011)), (1, .ref (gz_ad G c1)), (2, .int (0 : Int32))]) [1, 2, 0] rfl kk) rfl ?_
        obtain rfl := Option.some.inj h
        exact hk
      · replace h := gz_if' g11 h
        refine gz_Vs (fun _ kk => gz_aload_n (pc := 55) hX dX2_product_55 rfl 1 rfl kk) rfl ?_
        refine gz_Vs (fun _ kk => gz_bipush (pc := 56) (v := (47 : Int32)) hX dX2_product_56 (by decide) kk) rfl ?_
        refine gz_Vs (fun _ kk => gz_aload_n (pc := 58) hX dX2_product_58 rfl 0 rfl kk) rfl ?_
        obtain ⟨⟨o15, m13⟩, c14, h⟩ := gz_bd h
        obtain ⟨g16, h⟩ := gz_gu h
        cases o15 with
        | none =>
          replace h := gx_on h
          obtain rfl := Option.some.inj h
          exact gz_Vcx (k := gZ m13 - gZ m8) (n := gW m13 - gW m8) (fun _ kk => cc_X2_261ox (pc := 59) hX (fun h => cz_k h rfl) hO c14 ⟨by omega, by omega⟩ (rest := [.int (47 : Int32), .ref (gz_ad G c1)]) rfl (Nat.le_of_ble_eq_true rfl) dX2_product_59 kk) ⟨by have := g16.1; dsimp only [gZ] at *; omega, by have := g16.2; dsimp only [gW] at *; omega⟩ (hk _ _)
        | some r12 =>
          replace h := gx_os h
          refine gz_Vc (k := gZ m13 - gZ m8) (n := gW m13 - gW m8) (fun _ kk => cc_X2_261o (pc := 59) hX (fun h => cz_k h rfl) hO c14 ⟨by omega, by omega⟩ (rest := [.int (47 : Int32), .ref (gz_ad G c1)]) rfl (Nat.le_of_ble_eq_true rfl) dX2_product_59 kk) ⟨by have := g16.1; dsimp only [gZ] at *; omega, by have := g16.2; dsimp only [gW] at *; omega⟩ ?_
          obtain ⟨g17, h⟩ := gz_gu h
          obtain ⟨⟨⟨⟩, m19⟩, c20, h⟩ := gz_bd h
          obtain ⟨g21, h⟩ := gz_gu h
          refine gz_Vc (k := gZ m19 - gZ m13) (n := gW m19 - gW m13) (fun _ kk => cc_X2_255 (pc := 62) hX (fun _ => g17) c20 ⟨by omega, by omega⟩ (rest := []) rfl (Nat.le_of_ble_eq_true rfl) dX2_product_62 kk) ⟨by have := g21.1; dsimp only [gZ] at *; omega, by have := g21.2; dsimp only [gW] at *; omega⟩ ?_
          refine gz_Vs (fun _ kk => gz_goto (pc := 65) (tgt := 20) hX dX2_product_65 (by decide) kk) rfl ?_
          obtain rfl := Option.some.inj h
          exact hk
    · replace h := gz_if' g6 h
      refine gz_Vs (fun _ kk => gz_aload_n (pc := 33) hX dX2_product_33 rfl 1 rfl kk) rfl ?_
      refine gz_Vs (fun _ kk => gz_bipush (pc := 34) (v := (42 : Int32)) hX dX2_product_34 (by decide) kk) rfl ?_
      refine gz_Vs (fun _ kk => gz_aload_n (pc := 36) hX dX2_product_36 rfl 0 rfl kk) rfl ?_
      obtain ⟨⟨o25, m23⟩, c24, h⟩ := gz_bd h
      obtain ⟨g26, h⟩ := gz_gu h
      cases o25 with
      | none =>
        replace h := gx_on h
        obtain rfl := Option.some.inj h
        exact gz_Vcx (k := gZ m23 - gZ m3) (n := gW m23 - gW m3) (fun _ kk => cc_X2_261ox (pc := 37) hX (fun h => cz_k h rfl) hO c24 ⟨by omega, by omega⟩ (rest := [.int (42 : Int32), .ref (gz_ad G c1)]) rfl (Nat.le_of_ble_eq_true rfl) dX2_product_37 kk) ⟨by have := g26.1; dsimp only [gZ] at *; omega, by have := g26.2; dsimp only [gW] at *; omega⟩ (hk _ _)
      | some r22 =>
        replace h := gx_os h
        refine gz_Vc (k := gZ m23 - gZ m3) (n := gW m23 - gW m3) (fun _ kk => cc_X2_261o (pc := 37) hX (fun h => cz_k h rfl) hO c24 ⟨by omega, by omega⟩ (rest := [.int (42 : Int32), .ref (gz_ad G c1)]) rfl (Nat.le_of_ble_eq_true rfl) dX2_product_37 kk) ⟨by have := g26.1; dsimp only [gZ] at *; omega, by have := g26.2; dsimp only [gW] at *; omega⟩ ?_
        obtain ⟨g27, h⟩ := gz_gu h
        obtain ⟨⟨⟨⟩, m29⟩, c30, h⟩ := gz_bd h
        obtain ⟨g31, h⟩ := gz_gu h
        refine gz_Vc (k := gZ m29 - gZ m23) (n := gW m29 - gW m23) (fun _ kk => cc_X2_255 (pc := 40) hX (fun _ => g27) c30 ⟨by omega, by omega⟩ (rest := []) rfl (Nat.le_of_ble_eq_true rfl) dX2_product_40 kk) ⟨by have := g31.1; dsimp only [gZ] at *; omega, by have := g31.2; dsimp only [gW] at *; omega⟩ ?_
        refine gz_Vs (fun _ kk => gz_goto (pc := 43) (tgt := 20) hX dX2_product_43 (by decide) kk) rfl ?_
        obtain rfl := Option.some.inj h
        exact hk
noncomputable def ml_X2_product_20 (oR : gM → Option (Option Nat × gM)) (c1 : Nat) (x2 : Int32) (m : gM) : Option (Option Nat × gM) := gz_loop (fun q : (Int32 × gM) => mb_X2_product_20 oR c1 q.1 q.2) (x2, m)
theorem wl_X2_product_20 {X : gz_X} {G : gz_G} {zE : Nat × Nat} {oR : gM → Option (Option Nat × gM)} {f n : Nat} (hX : gz_C cS X G cX2_product 3 RX2 (f + 1) (n + 40)) (h1 : 60 ≤ f) (h2 : 1500 ≤ n) (hO : cOA G X.2.1 f n oR) {c1 : Nat} {x2 : Int32}  {m : gM} {z : (Option Nat × gM)} (h : ml_X2_product_20 oR c1 x2 m = some z) (hk : (fun z : (Option Nat × gM) => gx_k (fun r => gz_kRa cS X G 3 zE cX2_product z.2 r) (∀ (pc : Nat) (lv : List (Nat × Value)), gz_VXa cS X G 3 zE z.2 pc lv) z.1) z) : gz_Va cS X G 3 zE m 20 [(0, .ref (gz_ad G 1011)), (1, .ref (gz_ad G c1)), (2, .int x2)] [] := by
  have hp : mP_X2_product_20 X G zE c1 (x2, m) := gz_loop_ind (fun q z hz hkz => wb_X2_product_20 hX h1 h2 hO  hz hkz) h hk
  exact hp
noncomputable def cf_X2_product (oR : gM → Option (Option Nat × gM))  (m : gM) : Option (Option Nat × gM) :=
  (if gZ m ≠ 0 then gz_let (gz_al m (10 + 1) 0 2) fun m2 => ((cf_X12_init (gZ m) m2).bind fun (_, m4) => (if gZ m2 ≤ gZ m4 ∧ gW m2 ≤ gW m4 then ((oR  m4).bind fun (o10, m8) => (if gZ m4 ≤ gZ m8 ∧ gW m4 ≤ gW m8 then gx_o o10 (fun r7 => (if gK m8 (gZ m) = 11 then ((cf_X12_add (gZ m) (42 : Int32) r7 m8).bind fun (_, m14) => (if gZ m8 ≤ gZ m14 ∧ gW m8 ≤ gW m14 then (ml_X2_product_20 oR (gZ m) (1 : Int32) m14) else none)) else none)) (some (none, m8)) else none)) else none)) else none)
theorem wm_X2_product {X : gz_X} {G : gz_G} {zE : Nat × Nat} {oR : gM → Option (Option Nat × gM)} {f n : Nat} (hX : gz_C cS X G cX2_product 3 RX2 (f + 1) (n + 40)) (h1 : 60 ≤ f) (h2 : 1500 ≤ n) (hO : cOA G X.2.1 f n oR)   {m : gM} {z : (Option Nat × gM)} (h : cf_X2_product oR  m = some z) (hk : (fun z : (Option Nat × gM) => gx_k (fun r => gz_kRa cS X G 3 zE cX2_product z.2 r) (∀ (pc : Nat) (lv : List (Nat × Value)), gz_VXa cS X G 3 zE z.2 pc lv) z.1) z) : gz_Va cS X G 3 zE m 0 [(0, .ref (gz_ad G 1011))] [] := by
  unfold cf_X2_product at h
  obtain ⟨g1, h⟩ := gz_gu h
  obtain ⟨m2, em2, h⟩ := gz_lt h
  refine gz_Vn (fun _ kk => cn_X2_249 (pc := 0) hX g1 dX2_product_0 em2 kk) em2 ?_
  refine gz_Vs (fun _ kk => gz_dup (pc := 3) hX dX2_product_3 rfl kk) rfl ?_
  obtain ⟨⟨⟨⟩, m4⟩, c5, h⟩ := gz_bd h
  obtain ⟨g6, h⟩ := gz_gu h
  refine gz_Vc (k := gZ m4 - gZ m2) (n := gW m4 - gW m2) (fun _ kk => cc_X2_251 (pc := 4) hX c5 ⟨by omega, by omega⟩ (rest := [.ref (gz_ad G (gZ m))]) rfl (Nat.le_of_ble_eq_true rfl) dX2_product_4 kk) ⟨by have := g6.1; dsimp only [gZ] at *; omega, by have := g6.2; dsimp only [gW] at *; omega⟩ ?_
  refine gz_Vs (fun _ kk => gz_astore_n (pc := 7) (lw := [(1, .ref (gz_ad G (gZ m))), (0, .ref (gz_ad G 1011))]) hX dX2_product_7 rfl (by decide) rfl kk) rfl ?_
  refine gz_Vs (fun _ kk => gz_aload_n (pc := 8) hX dX2_product_8 rfl 0 rfl kk) rfl ?_
  refine gz_Vs (fun _ kk => gz_bipush (pc := 9) (v := (42 : Int32)) hX dX2_product_9 (by decide) kk) rfl ?_
  refine gz_Vs (fun _ kk => gz_aload_n (pc := 11) hX dX2_product_11 rfl 1 rfl kk) rfl ?_
  obtain ⟨⟨o10, m8⟩, c9, h⟩ := gz_bd h
  obtain ⟨g11, h⟩ := gz_gu h
  cases o10 with
  | none =>
    replace h := gx_on h
    obtain rfl := Option.some.inj h
    exact gz_Vcx (k := gZ m8 - gZ m4) (n := gW m8 - gW m4) (fun _ kk => cc_X2_261ox (pc := 12) hX (fun h => cz_k h rfl) hO c9 ⟨by omega, by omega⟩ (rest := [.int (42 : Int32), .ref (gz_ad G (gZ m))]) rfl (Nat.le_of_ble_eq_true rfl) dX2_product_12 kk) ⟨by have := g11.1; dsimp only [gZ] at *; omega, by have := g11.2; dsimp only [gW] at *; omega⟩ (hk _ _)
  | some r7 =>
    replace h := gx_os h
    refine gz_Vc (k := gZ m8 - gZ m4) (n := gW m8 - gW m4) (fun _ kk => cc_X2_261o (pc := 12) hX (fun h => cz_k h rfl) hO c9 ⟨by omega, by omega⟩ (rest := [.int (42 : Int32), .ref (gz_ad G (gZ m))]) rfl (Nat.le_of_ble_eq_true rfl) dX2_product_12 kk) ⟨by have := g11.1; dsimp only [gZ] at *; omega, by have := g11.2; dsimp only [gW] at *; omega⟩ ?_
    obtain ⟨g12, h⟩ := gz_gu h
    obtain ⟨⟨⟨⟩, m14⟩, c15, h⟩ := gz_bd h
    obtain ⟨g16, h⟩ := gz_gu h
    refine gz_Vc (k := gZ m14 - gZ m8) (n := gW m14 - gW m8) (fun _ kk => cc_X2_255 (pc := 15) hX (fun _ => g12) c15 ⟨by omega, by omega⟩ (rest := []) rfl (Nat.le_of_ble_eq_true rfl) dX2_product_15 kk) ⟨by have := g16.1; dsimp only [gZ] at *; omega, by have := g16.2; dsimp only [gW] at *; omega⟩ ?_
    refine gz_Vs (fun _ kk => gz_iconst (pc := 18) (v := (1 : Int32)) hX dX2_product_18 (by decide) kk) rfl ?_
    refine gz_Vs (fun _ kk => gz_istore_n (pc := 19) (lw := [(2, .int (1 : Int32)), (1, .ref (gz_ad G (gZ m))), (0, .ref (gz_ad G 1011))]) hX dX2_product_19 rfl (by decide) rfl kk) rfl ?_
    refine gz_Vs (fun _ kk => gz_sub (lw := [(0, .ref (gz_ad G 1011)), (1, .ref (gz_ad G (gZ m))), (2, .int (1 : Int32))]) [2, 1, 0] rfl kk) rfl ?_
    exact wl_X2_product_20 hX h1 h2 hO h hk
theorem ct_X2_product {G : gz_G} {l : Launch} {oR : gM → Option (Option Nat × gM)} {f n : Nat} (h1 : 60 ≤ f) (h2 : 1500 ≤ n) (hO : cOA G l f n oR)   {m m9 : gM} {o : Option Nat} (h : cf_X2_product oR  m = some (o, m9)) : gx_Met cS G l yX2_product cX2_product 3 (some (.object "FirstSnuffer$Value")) (mRc (f + 1) (n + 40) (gZ m9 - gZ m) (gW m9 - gW m)) [.ref (gz_ad G 1011)] m m9 (o.map (fun r => some (.ref (gz_ad G r)))) :=
  gx_ofR (Or.inl ⟨_, rfl⟩) (by decide +kernel) (Nat.le_of_ble_eq_true rfl) ⟨_, rfl, rfl⟩ (fun h => cz_k (c := 1012) (k := 3) h rfl) fun X e hX hk => (wm_X2_product (zE := m9.2.2.2.2.2) hX h1 h2 (e ▸ hO) h (gx_km (fun _ q pc lv hd => gz_Ve (q pc lv hd)) (fun q pc lv => gz_VXe (q pc lv)) hk)).2
theorem cn_X2_301 {X : gz_X} {G : gz_G} {cc : ByteArray} {nL fr lo pc : Nat} {rem : Nat × Nat} {m m9 : gM} {lv : List (Nat × Value)} {st : List Value} (hX : gz_C cS X G cc nL RX2 fr lo) (hz : gZ m ≠ 0) (hd : decode cc pc = .ok (.new 301, 3)) (hm : m9 = gz_al m (15 + 1) 0 2) (kk : gz_V cS X G nL rem m9 (pc + 3) lv (.ref (gz_ad G (gZ m)) :: st)) : gz_V cS X G nL (rem.1 + 1, rem.2 + 2) m pc lv st :=
  gz_new hX (C := RX18) (T := TX18) (N := 2) (ci := 15) rfl (by decide) in_X18 tyX18 tyX18_ok (by decide +kernel) q1229 q1230 q202 hz clc_al hd hm kk
theorem cc_X2_303 {X : gz_X} {G : gz_G} {cc : ByteArray} {nL fr lo pc : Nat} {rem : Nat × Nat} {lv : List (Nat × Value)} {rest st0 : List Value} (hX : gz_C cS X G cc nL RX2 fr lo) {c0 : Nat} {x1 : Int32} {m m9 : gM}  (h : cf_X18_init c0 x1 m = some ((), m9)) (hroom : 4 + 1 ≤ fr ∧ 8 + (2 + 11) + 81 ≤ lo) (hst : st0 = [.int x1, .ref (gz_ad G c0)] ++ rest) (hW : (rest.map fun v => v.category).sum ≤ 8) (hd : decode cc pc = .ok (.invokespecial 303, 3)) (kk : gz_V cS X G nL rem m9 (pc + 3) lv (rest)) : gz_V cS X G nL (rem.1 + (gZ m9 - gZ m), rem.2 + (gW m9 - gW m)) m pc lv st0 :=
  gz_callI hX cs_E (As := [.int x1]) (rest := rest) (c := c0) (ct_X18_init (l := X.2.1) h) q1233 q202 q1231 q1232 rfl (n := 1) (by decide +kernel) hroom rfl hst hW hd (rem := rem) kk
theorem cg_X2_306_15 {X : gz_X} {G : gz_G} {cc : ByteArray} {nL fr lo pc : Nat} {rem : Nat × Nat} {m : gM} {lv : List (Nat × Value)} {st : List Value} (hX : gz_C cS X G cc nL RX2 fr lo) {c : Nat} {v : Value} (hK : clc m.1 m.2.1 m.2.2.2.2.1 → m.1 c = 15 + 1) (hv : clc m.1 m.2.1 m.2.2.2.2.1 → gz_u (gz_ad G) m (ftC 15 0) c 0 = v) (hd : decode cc pc = .ok (.getfield 306, 3)) (kk : gz_V cS X G nL rem m (pc + 3) lv (v :: st)) : gz_V cS X G nL rem m pc lv (.ref (gz_ad G c) :: st) :=
  gz_getf hX (C := RX18) (T := TX18) (N := 2) (ci := 15) (k := 0) rfl (by decide) in_X18 (by decide) (Or.inr ⟨_, va_Nw.use rfl (cz_n (Z := cS) hX q1241 rfl)⟩) hd hK hv kk
theorem cc_X2_317o {X : gz_X} {G : gz_G} {cc : ByteArray} {nL fr lo pc : Nat} {rem : Nat × Nat} {lv : List (Nat × Value)} {rest st0 : List Value} (hX : gz_C cS X G cc nL RX2 fr lo)  {m m9 : gM} (hK : clc m.1 m.2.1 m.2.2.2.2.1 → m.1 1011 = 2 + 1)  {oR : gM → Option (Option Nat × gM)} {f n : Nat} (hO : cOF G X.2.1 f n oR) {r : Nat} (h : oR  m = some (some r, m9)) (hroom : f + 1 ≤ fr ∧ 8 + (3 + 11) + n ≤ lo) (hst : st0 = [.ref (gz_ad G 1011)] ++ rest) (hW : (rest.map fun v => v.category).sum ≤ 8) (hd : decode cc pc = .ok (.invokevirtual 317, 3)) (kk : gz_V cS X G nL rem m9 (pc + 3) lv (.ref (gz_ad G r) :: rest)) : gz_V cS X G nL (rem.1 + (gZ m9 - gZ m), rem.2 + (gW m9 - gW m)) m pc lv st0 :=
  gz_callX hX cs_E (As := []) (rest := rest) (q := (RX2, TX2, 8)) (ci := 2) (c := 1011) (hO _ _ _ h) (lw_V q1252 q1254 qs35 q172 q1255) (n := 0) (by decide +kernel) hroom rfl rfl (by decide) hK hst hW hd (rem := rem) (fun rv e => by obtain rfl := Option.some.inj e; exact kk) (fun e => by simp at e)
theorem cc_X2_317ox {X : gz_X} {G : gz_G} {cc : ByteArray} {nL fr lo pc : Nat} {rem : Nat × Nat} {lv : List (Nat × Value)} {rest st0 : List Value} (hX : gz_C cS X G cc nL RX2 fr lo)  {m m9 : gM} (hK : clc m.1 m.2.1 m.2.2.2.2.1 → m.1 1011 = 2 + 1)  {oR : gM → Option (Option Nat × gM)} {f n : Nat} (hO : cOF G X.2.1 f n oR) (h : oR  m = some (none, m9)) (hroom : f + 1 ≤ fr ∧ 8 + (3 + 11) + n ≤ lo) (hst : st0 = [.ref (gz_ad G 1011)] ++ rest) (hW : (rest.map fun v => v.category).sum ≤ 8) (hd : decode cc pc = .ok (.invokevirtual 317, 3)) (kk : gz_VX cS X G nL rem m9 pc lv) : gz_V cS X G nL (rem.1 + (gZ m9 - gZ m), rem.2 + (gW m9 - gW m)) m pc lv st0 :=
  gz_callX hX cs_E (As := []) (rest := rest) (q := (RX2, TX2, 8)) (ci := 2) (c := 1011) (hO _ _ _ h) (lw_V q1252 q1254 qs35 q172 q1255) (n := 0) (by decide +kernel) hroom rfl rfl (by decide) hK hst hW hd (rem := rem) (fun rv e => by simp at e) (fun _ => kk)
theorem cl_s_X2_320 {X : gz_X} {G : gz_G} {cc : ByteArray} {nL : Nat} {own : String} {fr lo : Nat} (hX : gz_C cS X G cc nL own fr lo) : vk_R RX2 320 "and" (gz_ad G 152) X.2.2.2.2.1 := (cz_s hX).1 _ (List.mem_of_getElem? (show cKs[46]? = some ("FirstSnuffer$Reader", 320, "and", 152) from rfl))
theorem cc_X2_314 {X : gz_X} {G : gz_G} {cc : ByteArray} {nL fr lo pc : Nat} {rem : Nat × Nat} {lv : List (Nat × Value)} {rest st0 : List Value} (hX : gz_C cS X G cc nL RX2 fr lo) {c1 : Nat} {m m9 : gM} (hK : clc m.1 m.2.1 m.2.2.2.2.1 → m.1 1011 = 2 + 1)  {r : Int32} (h : cf_X2_passes c1 m = some (some r, m9)) (hroom : 7 + 1 ≤ fr ∧ 8 + (3 + 11) + 154 ≤ lo) (hst : st0 = [.ref (gz_ad G c1), .ref (gz_ad G 1011)] ++ rest) (hW : (rest.map fun v => v.category).sum ≤ 8) (hd : decode cc pc = .ok (.invokevirtual 314, 3)) (kk : gz_V cS X G nL rem m9 (pc + 3) lv (.int r :: rest)) : gz_V cS X G nL (rem.1 + (gZ m9 - gZ m), rem.2 + (gW m9 - gW m)) m pc lv st0 :=
  gz_callX hX cs_E (As := [.ref (gz_ad G c1)]) (rest := rest) (q := (RX2, TX2, 8)) (ci := 2) (c := 1011) (ct_X2_passes (l := X.2.1) h) (lw_V q1257 q1259 qs36 q172 q1260) (n := 1) (by decide +kernel) hroom rfl rfl (by decide) hK hst hW hd (rem := rem) (fun rv e => by obtain rfl := Option.some.inj e; exact kk) (fun e => by simp at e)
theorem cc_X2_314x {X : gz_X} {G : gz_G} {cc : ByteArray} {nL fr lo pc : Nat} {rem : Nat × Nat} {lv : List (Nat × Value)} {rest st0 : List Value} (hX : gz_C cS X G cc nL RX2 fr lo) {c1 : Nat} {m m9 : gM} (hK : clc m.1 m.2.1 m.2.2.2.2.1 → m.1 1011 = 2 + 1)  (h : cf_X2_passes c1 m = some (none, m9)) (hroom : 7 + 1 ≤ fr ∧ 8 + (3 + 11) + 154 ≤ lo) (hst : st0 = [.ref (gz_ad G c1), .ref (gz_ad G 1011)] ++ rest) (hW : (rest.map fun v => v.category).sum ≤ 8) (hd : decode cc pc = .ok (.invokevirtual 314, 3)) (kk : gz_VX cS X G nL rem m9 pc lv) : gz_V cS X G nL (rem.1 + (gZ m9 - gZ m), rem.2 + (gW m9 - gW m)) m pc lv st0 :=
  gz_callX hX cs_E (As := [.ref (gz_ad G c1)]) (rest := rest) (q := (RX2, TX2, 8)) (ci := 2) (c := 1011) (ct_X2_passes (l := X.2.1) h) (lw_V q1257 q1259 qs36 q172 q1260) (n := 1) (by decide +kernel) hroom rfl rfl (by decide) hK hst hW hd (rem := rem) (fun rv e => by simp at e) (fun _ => kk)
/-! FirstSnuffer$Reader.both()LFirstSnuffer$Test; -/
def mP_X2_both_23 (X : gz_X) (G : gz_G) (zE : Nat × Nat) (c1 : Nat) (q : (gM)) : Prop := gz_Va cS X G 2 zE q 23 [(0, .ref (gz_ad G 1011)), (1, .ref (gz_ad G c1))] []
noncomputable def mb_X2_both_23 (oR : gM → Option (Option Nat × gM)) (c1 : Nat) (m : gM) : Option ((gM) ⊕ (Option Nat × gM)) :=
  ((cf_X2_passes 152 m).bind fun (o4, m2) => (if gZ m ≤ gZ m2 ∧ gW m ≤ gW m2 then gx_o o4 (fun r1 => (if r1 = (0 : Int32) then some (Sum.inr (some c1, m2)) else (if gK m2 c1 = 16 then gz_let (gP m2 c1 0) fun r8 => (if r8 ≠ 0 then ((oR  m2).bind fun (o13, m11) => (if gZ m2 ≤ gZ m11 ∧ gW m2 ≤ gW m11 then gx_o o13 (fun r10 => (if gK m11 r8 = 21 then ((cf_J2_add r8 r10 m11).bind fun (r16, m17) => (if gZ m11 ≤ gZ m17 ∧ gW m11 ≤ gW m17 then some (Sum.inl (m17)) else none)) else none)) (some (Sum.inr (none, m11))) else none)) else none) else none))) (some (Sum.inr (none, m2))) else none))
theorem wb_X2_both_23 {X : gz_X} {G : gz_G} {zE : Nat × Nat} {oR : gM → Option (Option Nat × gM)} {f n : Nat} (hX : gz_C cS X G cX2_both 2 RX2 (f + 1) (n + 40)) (h1 : 120 ≤ f) (h2 : 4000 ≤ n) (hO : cOF G X.2.1 f n oR) {c1 : Nat}  {m : gM} {z : ((gM) ⊕ (Option Nat × gM))} (h : mb_X2_both_23 oR c1 m = some z) (hk : (Sum.elim (mP_X2_both_23 X G zE c1) (fun z : (Option Nat × gM) => gx_k (fun r => gz_kRa cS X G 2 zE cX2_both z.2 r) (∀ (pc : Nat) (lv : List (Nat × Value)), gz_VXa cS X G 2 zE z.2 pc lv) z.1)) z) : gz_Va cS X G 2 zE m 23 [(0, .ref (gz_ad G 1011)), (1, .ref (gz_ad G c1))] [] := by
  unfold mb_X2_both_23 at h
  refine gz_Vs (fun _ kk => gz_aload_n (pc := 23) hX dX2_both_23 rfl 0 rfl kk) rfl ?_
  refine gz_Vs (fun _ kk => gz_ldcwS (pc := 24) (tx := "and") (c := 152) hX (cl_s_X2_320 hX) dX2_both_24 kk) rfl ?_
  obtain ⟨⟨o4, m2⟩, c3, h⟩ := gz_bd h
  obtain ⟨g5, h⟩ := gz_gu h
  cases o4 with
  | none =>
    replace h := gx_on h
    obtain rfl := Option.some.inj h
    exact gz_Vcx (k := gZ m2 - gZ m) (n := gW m2 - gW m) (fun _ kk => cc_X2_314x (pc := 27) hX (fun h => cz_k h rfl) c3 ⟨by omega, by omega⟩ (rest := []) rfl (Nat.le_of_ble_eq_true rfl) dX2_both_27 kk) ⟨by have := g5.1; dsimp only [gZ] at *; omega, by have := g5.2; dsimp only [gW] at *; omega⟩ (hk _ _)
  | some r1 =>
    replace h := gx_os h
    refine gz_Vc (k := gZ m2 - gZ m) (n := gW m2 - gW m) (fun _ kk => cc_X2_314 (pc := 27) hX (fun h => cz_k h rfl) c3 ⟨by omega, by omega⟩ (rest := []) rfl (Nat.le_of_ble_eq_true rfl) dX2_both_27 kk) ⟨by have := g5.1; dsimp only [gZ] at *; omega, by have := g5.2; dsimp only [gW] at *; omega⟩ ?_
    refine gz_Vif (μ1 := m) (μ2 := m) (fun _ k1 k2 => gz_if_eq (pc := 30) (tgt := 50) hX dX2_both_30 (by decide) k1 k2) (by first | exact Classical.em _ | exact (Classical.em _).symm) (fun g6 => ?_) (fun g6 => ?_)
    · replace h := gz_it' g6 h
      refine gz_Vs (fun _ kk => gz_aload_n (pc := 50) hX dX2_both_50 rfl 1 rfl kk) rfl ?_
      obtain rfl := Option.some.inj h
      exact hk _ _ dX2_both_51
    · replace h := gz_if' g6 h
      refine gz_Vs (fun _ kk => gz_aload_n (pc := 33) hX dX2_both_33 rfl 1 rfl kk) rfl ?_
      obtain ⟨g7, h⟩ := gz_gu h
      obtain ⟨r8, er8, h⟩ := gz_lt h
      obtain ⟨g9, h⟩ := gz_gu h
      refine gz_Vs (fun _ kk => cg_X2_306_15 (pc := 34) hX (c := c1) (v := .ref (gz_ad G r8)) (fun _ => g7) (fun _ => gz_rq er8 g9) dX2_both_34 kk) rfl ?_
      refine gz_Vs (fun _ kk => gz_aload_n (pc := 37) hX dX2_both_37 rfl 0 rfl kk) rfl ?_
      obtain ⟨⟨o13, m11⟩, c12, h⟩ := gz_bd h
      obtain ⟨g14, h⟩ := gz_gu h
      cases o13 with
      | none =>
        replace h := gx_on h
        obtain rfl := Option.some.inj h
        exact gz_Vcx (k := gZ m11 - gZ m2) (n := gW m11 - gW m2) (fun _ kk => cc_X2_317ox (pc := 38) hX (fun h => cz_k h rfl) hO c12 ⟨by omega, by omega⟩ (rest := [.ref (gz_ad G r8)]) rfl (Nat.le_of_ble_eq_true rfl) dX2_both_38 kk) ⟨by have := g14.1; dsimp only [gZ] at *; omega, by have := g14.2; dsimp only [gW] at *; omega⟩ (hk _ _)
      | some r10 =>
        replace h := gx_os h
        refine gz_Vc (k := gZ m11 - gZ m2) (n := gW m11 - gW m2) (fun _ kk => cc_X2_317o (pc := 38) hX (fun h => cz_k h rfl) hO c12 ⟨by omega, by omega⟩ (rest := [.ref (gz_ad G r8)]) rfl (Nat.le_of_ble_eq_true rfl) dX2_both_38 kk) ⟨by have := g14.1; dsimp only [gZ] at *; omega, by have := g14.2; dsimp only [gW] at *; omega⟩ ?_
        obtain ⟨g15, h⟩ := gz_gu h
        obtain ⟨⟨r16, m17⟩, c18, h⟩ := gz_bd h
        obtain ⟨g19, h⟩ := gz_gu h
        refine gz_Vc (k := gZ m17 - gZ m11) (n := gW m17 - gW m11) (fun _ kk => cc_X2_167 (pc := 41) hX (fun _ => g15) c18 ⟨by omega, by omega⟩ (rest := []) rfl (Nat.le_of_ble_eq_true rfl) dX2_both_41 kk) ⟨by have := g19.1; dsimp only [gZ] at *; omega, by have := g19.2; dsimp only [gW] at *; omega⟩ ?_
        refine gz_Vs (fun _ kk => gz_pop (pc := 46) hX dX2_both_46 rfl kk) rfl ?_
        refine gz_Vs (fun _ kk => gz_goto (pc := 47) (tgt := 23) hX dX2_both_47 (by decide) kk) rfl ?_
        obtain rfl := Option.some.inj h
        exact hk
noncomputable def ml_X2_both_23 (oR : gM → Option (Option Nat × gM)) (c1 : Nat) (m : gM) : Option (Option Nat × gM) := gz_loop (fun q : (gM) => mb_X2_both_23 oR c1 q) (m)
theorem wl_X2_both_23 {X : gz_X} {G : gz_G} {zE : Nat × Nat} {oR : gM → Option (Option Nat × gM)} {f n : Nat} (hX : gz_C cS X G cX2_both 2 RX2 (f + 1) (n + 40)) (h1 : 120 ≤ f) (h2 : 4000 ≤ n) (hO : cOF G X.2.1 f n oR) {c1 : Nat}  {m : gM} {z : (Option Nat × gM)} (h : ml_X2_both_23 oR c1 m = some z) (hk : (fun z : (Option Nat × gM) => gx_k (fun r => gz_kRa cS X G 2 zE cX2_both z.2 r) (∀ (pc : Nat) (lv : List (Nat × Value)), gz_VXa cS X G 2 zE z.2 pc lv) z.1) z) : gz_Va cS X G 2 zE m 23 [(0, .ref (gz_ad G 1011)), (1, .ref (gz_ad G c1))] [] := by
  have hp : mP_X2_both_23 X G zE c1 (m) := gz_loop_ind (fun q z hz hkz => wb_X2_both_23 hX h1 h2 hO  hz hkz) h hk
  exact hp
noncomputable def cf_X2_both (oR : gM → Option (Option Nat × gM))  (m : gM) : Option (Option Nat × gM) :=
  (if gZ m ≠ 0 then gz_let (gz_al m (15 + 1) 0 2) fun m2 => ((cf_X18_init (gZ m) (1 : Int32) m2).bind fun (_, m4) => (if gZ m2 ≤ gZ m4 ∧ gW m2 ≤ gW m4 then (if gK m4 (gZ m) = 16 then gz_let (gP m4 (gZ m) 0) fun r8 => (if r8 ≠ 0 then ((oR  m4).bind fun (o13, m11) => (if gZ m4 ≤ gZ m11 ∧ gW m4 ≤ gW m11 then gx_o o13 (fun r10 => (if gK m11 r8 = 21 then ((cf_J2_add r8 r10 m11).bind fun (r16, m17) => (if gZ m11 ≤ gZ m17 ∧ gW m11 ≤ gW m17 then (ml_X2_both_23 oR (gZ m) m17) else none)) else none)) (some (none, m11)) else none)) else none) else none) else none)) else none)
theorem wm_X2_both {X : gz_X} {G : gz_G} {zE : Nat × Nat} {oR : gM → Option (Option Nat × gM)} {f n : Nat} (hX : gz_C cS X G cX2_both 2 RX2 (f + 1) (n + 40)) (h1 : 120 ≤ f) (h2 : 4000 ≤ n) (hO : cOF G X.2.1 f n oR)   {m : gM} {z : (Option Nat × gM)} (h : cf_X2_both oR  m = some z) (hk : (fun z : (Option Nat × gM) => gx_k (fun r => gz_kRa cS X G 2 zE cX2_both z.2 r) (∀ (pc : Nat) (lv : List (Nat × Value)), gz_VXa cS X G 2 zE z.2 pc lv) z.1) z) : gz_Va cS X G 2 zE m 0 [(0, .ref (gz_ad G 1011))] [] := by
  unfold cf_X2_both at h
  obtain ⟨g1, h⟩ := gz_gu h
  obtain ⟨m2, em2, h⟩ := gz_lt h
  refine gz_Vn (fun _ kk => cn_X2_301 (pc := 0) hX g1 dX2_both_0 em2 kk) em2 ?_
  refine gz_Vs (fun _ kk => gz_dup (pc := 3) hX dX2_both_3 rfl kk) rfl ?_
  refine gz_Vs (fun _ kk => gz_iconst (pc := 4) (v := (1 : Int32)) hX dX2_both_4 (by decide) kk) rfl ?_
  obtain ⟨⟨⟨⟩, m4⟩, c5, h⟩ := gz_bd h
  obtain ⟨g6, h⟩ := gz_gu h
  refine gz_Vc (k := gZ m4 - gZ m2) (n := gW m4 - gW m2) (fun _ kk => cc_X2_303 (pc := 5) hX c5 ⟨by omega, by omega⟩ (rest := [.ref (gz_ad G (gZ m))]) rfl (Nat.le_of_ble_eq_true rfl) dX2_both_5 kk) ⟨by have := g6.1; dsimp only [gZ] at *; omega, by have := g6.2; dsimp only [gW] at *; omega⟩ ?_
  refine gz_Vs (fun _ kk => gz_astore_n (pc := 8) (lw := [(1, .ref (gz_ad G (gZ m))), (0, .ref (gz_ad G 1011))]) hX dX2_both_8 rfl (by decide) rfl kk) rfl ?_
  refine gz_Vs (fun _ kk => gz_aload_n (pc := 9) hX dX2_both_9 rfl 0 rfl kk) rfl ?_
  obtain ⟨g7, h⟩ := gz_gu h
  obtain ⟨r8, er8, h⟩ := gz_lt h
  obtain ⟨g9, h⟩ := gz_gu h
  refine gz_Vs (fun _ kk => cg_X2_306_15 (pc := 10) hX (c := (gZ m)) (v := .ref (gz_ad G r8)) (fun _ => g7) (fun _ => gz_rq er8 g9) dX2_both_10 kk) rfl ?_
  refine gz_Vs (fun _ kk => gz_aload_n (pc := 13) hX dX2_both_13 rfl 1 rfl kk) rfl ?_
  obtain ⟨⟨o13, m11⟩, c12, h⟩ := gz_bd h
  obtain ⟨g14, h⟩ := gz_gu h
  cases o13 with
  | none =>
    replace h := gx_on h
    obtain rfl := Option.some.inj h
    exact gz_Vcx (k := gZ m11 - gZ m4) (n := gW m11 - gW m4) (fun _ kk => cc_X2_317ox (pc := 14) hX (fun h => cz_k h rfl) hO c12 ⟨by omega, by omega⟩ (rest := [.ref (gz_ad G r8)]) rfl (Nat.le_of_ble_eq_true rfl) dX2_both_14 kk) ⟨by have := g14.1; dsimp only [gZ] at *; omega, by have := g14.2; dsimp only [gW] at *; omega⟩ (hk _ _)
  | some r10 =>
    replace h := gx_os h
    refine gz_Vc (k := gZ m11 - gZ m4) (n := gW m11 - gW m4) (fun _ kk => cc_X2_317o (pc := 14) hX (fun h => cz_k h rfl) hO c12 ⟨by omega, by omega⟩ (rest := [.ref (gz_ad G r8)]) rfl (Nat.le_of_ble_eq_true rfl) dX2_both_14 kk) ⟨by have := g14.1; dsimp only [gZ] at *; omega, by have := g14.2; dsimp only [gW] at *; omega⟩ ?_
    obtain ⟨g15, h⟩ := gz_gu h
    obtain ⟨⟨r16, m17⟩, c18, h⟩ := gz_bd h
    obtain ⟨g19, h⟩ := gz_gu h
    refine gz_Vc (k := gZ m17 - gZ m11) (n := gW m17 - gW m11) (fun _ kk => cc_X2_167 (pc := 17) hX (fun _ => g15) c18 ⟨by omega, by omega⟩ (rest := []) rfl (Nat.le_of_ble_eq_true rfl) dX2_both_17 kk) ⟨by have := g19.1; dsimp only [gZ] at *; omega, by have := g19.2; dsimp only [gW] at *; omega⟩ ?_
    refine gz_Vs (fun _ kk => gz_pop (pc := 22) hX dX2_both_22 rfl kk) rfl ?_
    refine gz_Vs (fun _ kk => gz_sub (lw := [(0, .ref (gz_ad G 1011)), (1, .ref (gz_ad G (gZ m)))]) [1, 0] rfl kk) rfl ?_
    exact wl_X2_both_23 hX h1 h2 hO h hk
theorem ct_X2_both {G : gz_G} {l : Launch} {oR : gM → Option (Option Nat × gM)} {f n : Nat} (h1 : 120 ≤ f) (h2 : 4000 ≤ n) (hO : cOF G l f n oR)   {m m9 : gM} {o : Option Nat} (h : cf_X2_both oR  m = some (o, m9)) : gx_Met cS G l yX2_both cX2_both 2 (some (.object "FirstSnuffer$Test")) (mRc (f + 1) (n + 40) (gZ m9 - gZ m) (gW m9 - gW m)) [.ref (gz_ad G 1011)] m m9 (o.map (fun r => some (.ref (gz_ad G r)))) :=
  gx_ofR (Or.inl ⟨_, rfl⟩) (by decide +kernel) (Nat.le_of_ble_eq_true rfl) ⟨_, rfl, rfl⟩ (fun h => cz_k (c := 1012) (k := 3) h rfl) fun X e hX hk => (wm_X2_both (zE := m9.2.2.2.2.2) hX h1 h2 (e ▸ hO) h (gx_km (fun _ q pc lv hd => gz_Ve (q pc lv hd)) (fun q pc lv => gz_VXe (q pc lv)) hk)).2
