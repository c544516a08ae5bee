set_option maxRecDepth 100000
/-! FirstSnuffer.go(I)I -/
noncomputable def mj_X0_go_61  (m : gM) : Option (Int32 × gM) :=
  ((cf_X0_refuses (2 : Int32) m).bind fun (r1, m2) => some (r1, m2))
theorem wb_X0_go_61 {X : gz_X} {G : gz_G} (hX : gz_C cS X G cX0_go 3 RX0 84 2806)   {m : gM} {z : (Int32 × gM)} (h : mj_X0_go_61  m = some z) (hk : (fun z : (Int32 × gM) => gz_kI cS X G 3 (0, 0) cX0_go z.2 z.1) z) : gz_V cS X G 3 (0, 0) m 61 [(0, .ref (gz_ad G 1000))] [] := by
  unfold mj_X0_go_61 at h
  refine gz_aload_n (pc := 61) hX dX0_go_61 rfl 0 rfl ?_
  refine gz_iconst (pc := 62) (v := (2 : Int32)) hX dX0_go_62 (by decide) ?_
  obtain ⟨⟨r1, m2⟩, c3, h⟩ := gz_bd h
  refine cc_X0_125 (pc := 63) hX (fun h => cz_k h rfl) c3 ⟨Nat.le_of_ble_eq_true rfl, Nat.le_of_ble_eq_true rfl⟩ (rest := []) rfl (Nat.le_of_ble_eq_true rfl) dX0_go_63 ?_
  obtain rfl := Option.some.inj h
  exact hk _ _ dX0_go_66
noncomputable def cf_X0_go (x1 : Int32) (m : gM) : Option (Int32 × gM) :=
  ((cf_X0_isHall x1 m).bind fun (r1, m2) => (if r1 = (0 : Int32) then (mj_X0_go_61  m2) else (if x1 = (gI m2 1027 2) then (mj_X0_go_61  m2) else ((cf_X0_wayBetween (gI m2 1027 2) x1 m2).bind fun (r6, m7) => (if r6 = (-1 : Int32) then (mj_X0_go_61  m7) else ((cf_X0_wayBetween (gI m7 1027 2) x1 m7).bind fun (r10, m11) => (if ((gI m7 1027 0) + r10) ≤ (999 : Int32) then ((cf_X0_remembers m11).bind fun (_, m15) => ((cf_X0_wayBetween (gI m15 1027 2) x1 m15).bind fun (r17, m18) => ((cf_X5_goesBy 1027 r17 m18).bind fun (r20, m21) => gz_let (gz_sI m21 1027 2 x1) fun m23 => some (r17, m23)))) else (mj_X0_go_61  m11))))))))
theorem wm_X0_go {X : gz_X} {G : gz_G} (hX : gz_C cS X G cX0_go 3 RX0 84 2806) {x1 : Int32}  {m : gM} {z : (Int32 × gM)} (h : cf_X0_go x1 m = some z) (hk : (fun z : (Int32 × gM) => gz_kI cS X G 3 (0, 0) cX0_go z.2 z.1) z) : gz_V cS X G 3 (0, 0) m 0 [(0, .ref (gz_ad G 1000)), (1, .int x1)] [] := by
  unfold cf_X0_go at h
  refine gz_aload_n (pc := 0) hX dX0_go_0 rfl 0 rfl ?_
  refine gz_iload_n (pc := 1) hX dX0_go_1 rfl 1 rfl ?_
  obtain ⟨⟨r1, m2⟩, c3, h⟩ := gz_bd h
  refine cc_X0_283 (pc := 2) hX (fun h => cz_k h rfl) c3 ⟨Nat.le_of_ble_eq_true rfl, Nat.le_of_ble_eq_true rfl⟩ (rest := []) rfl (Nat.le_of_ble_eq_true rfl) dX0_go_2 ?_
  refine gz_if_eq (pc := 5) (tgt := 61) hX dX0_go_5 (by decide) (fun g4 => ?_) (fun g4 => ?_)
  · replace h := gz_it' g4 h
    refine gz_sub (lw := [(0, .ref (gz_ad G 1000))]) [0] rfl ?_
    exact wb_X0_go_61 hX h hk
  · replace h := gz_if' g4 h
    refine gz_iload_n (pc := 8) hX dX0_go_8 rfl 1 rfl ?_
    refine gz_aload_n (pc := 9) hX dX0_go_9 rfl 0 rfl ?_
    refine cg_X0_74_0 (pc := 10) hX (c := 1000) (v := .ref (gz_ad G 1027)) (fun h => cz_k h rfl) (fun h => cz_f h (by decide) rfl (by decide) rfl) dX0_go_10 ?_
    refine cg_X0_214_5 (pc := 13) hX (c := 1027) (v := .int (gI m2 1027 2)) (fun h => cz_k h rfl) (fun _ => rfl) dX0_go_13 ?_
    refine gz_icmp_eq (pc := 16) (tgt := 61) hX dX0_go_16 (by decide) (fun g5 => ?_) (fun g5 => ?_)
    · replace h := gz_it' g5 h
      refine gz_sub (lw := [(0, .ref (gz_ad G 1000))]) [0] rfl ?_
      exact wb_X0_go_61 hX h hk
    · replace h := gz_if' g5 h
      refine gz_aload_n (pc := 19) hX dX0_go_19 rfl 0 rfl ?_
      refine gz_aload_n (pc := 20) hX dX0_go_20 rfl 0 rfl ?_
      refine cg_X0_74_0 (pc := 21) hX (c := 1000) (v := .ref (gz_ad G 1027)) (fun h => cz_k h rfl) (fun h => cz_f h (by decide) rfl (by decide) rfl) dX0_go_21 ?_
      refine cg_X0_214_5 (pc := 24) hX (c := 1027) (v := .int (gI m2 1027 2)) (fun h => cz_k h rfl) (fun _ => rfl) dX0_go_24 ?_
      refine gz_iload_n (pc := 27) hX dX0_go_27 rfl 1 rfl ?_
      obtain ⟨⟨r6, m7⟩, c8, h⟩ := gz_bd h
      refine cc_X0_286 (pc := 28) hX (fun h => cz_k h rfl) c8 ⟨Nat.le_of_ble_eq_true rfl, Nat.le_of_ble_eq_true rfl⟩ (rest := []) rfl (Nat.le_of_ble_eq_true rfl) dX0_go_28 ?_
      refine gz_iconst (pc := 31) (v := (-1 : Int32)) hX dX0_go_31 (by decide) ?_
      refine gz_icmp_eq (pc := 32) (tgt := 61) hX dX0_go_32 (by decide) (fun g9 => ?_) (fun g9 => ?_)
      · replace h := gz_it' g9 h
        refine gz_sub (lw := [(0, .ref (gz_ad G 1000))]) [0] rfl ?_
        exact wb_X0_go_61 hX h hk
      · replace h := gz_if' g9 h
        refine gz_aload_n (pc := 35) hX dX0_go_35 rfl 0 rfl ?_
        refine cg_X0_74_0 (pc := 36) hX (c := 1000) (v := .ref (gz_ad G 1027)) (fun h => cz_k h rfl) (fun h => cz_f h (by decide) rfl (by decide) rfl) dX0_go_36 ?_
        refine cg_X0_211_5 (pc := 39) hX (c := 1027) (v := .int (gI m7 1027 0)) (fun h => cz_k h rfl) (fun _ => rfl) dX0_go_39 ?_
        refine gz_aload_n (pc := 42) hX dX0_go_42 rfl 0 rfl ?_
        refine gz_aload_n (pc := 43) hX dX0_go_43 rfl 0 rfl ?_
        refine cg_X0_74_0 (pc := 44) hX (c := 1000) (v := .ref (gz_ad G 1027)) (fun h => cz_k h rfl) (fun h => cz_f h (by decide) rfl (by decide) rfl) dX0_go_44 ?_
        refine cg_X0_214_5 (pc := 47) hX (c := 1027) (v := .int (gI m7 1027 2)) (fun h => cz_k h rfl) (fun _ => rfl) dX0_go_47 ?_
        refine gz_iload_n (pc := 50) hX dX0_go_50 rfl 1 rfl ?_
        obtain ⟨⟨r10, m11⟩, c12, h⟩ := gz_bd h
        refine cc_X0_286 (pc := 51) hX (fun h => cz_k h rfl) c12 ⟨Nat.le_of_ble_eq_true rfl, Nat.le_of_ble_eq_true rfl⟩ (rest := [.int (gI m7 1027 0)]) rfl (Nat.le_of_ble_eq_true rfl) dX0_go_51 ?_
        refine gz_iadd (pc := 54) hX dX0_go_54 ?_
        refine gz_sipush (pc := 55) (v := (999 : Int32)) hX dX0_go_55 (by decide) ?_
        refine gz_icmp_le (pc := 58) (tgt := 67) hX dX0_go_58 (by decide) (fun g13 => ?_) (fun g13 => ?_)
        · replace h := gz_it' g13 h
          refine gz_aload_n (pc := 67) hX dX0_go_67 rfl 0 rfl ?_
          obtain ⟨⟨⟨⟩, m15⟩, c16, h⟩ := gz_bd h
          refine cc_X0_360 (pc := 68) hX (fun h => cz_k h rfl) c16 ⟨Nat.le_of_ble_eq_true rfl, Nat.le_of_ble_eq_true rfl⟩ (rest := []) rfl (Nat.le_of_ble_eq_true rfl) dX0_go_68 ?_
          refine gz_aload_n (pc := 71) hX dX0_go_71 rfl 0 rfl ?_
          refine gz_aload_n (pc := 72) hX dX0_go_72 rfl 0 rfl ?_
          refine cg_X0_74_0 (pc := 73) hX (c := 1000) (v := .ref (gz_ad G 1027)) (fun h => cz_k h rfl) (fun h => cz_f h (by decide) rfl (by decide) rfl) dX0_go_73 ?_
          refine cg_X0_214_5 (pc := 76) hX (c := 1027) (v := .int (gI m15 1027 2)) (fun h => cz_k h rfl) (fun _ => rfl) dX0_go_76 ?_
          refine gz_iload_n (pc := 79) hX dX0_go_79 rfl 1 rfl ?_
          obtain ⟨⟨r17, m18⟩, c19, h⟩ := gz_bd h
          refine cc_X0_286 (pc := 80) hX (fun h => cz_k h rfl) c19 ⟨Nat.le_of_ble_eq_true rfl, Nat.le_of_ble_eq_true rfl⟩ (rest := []) rfl (Nat.le_of_ble_eq_true rfl) dX0_go_80 ?_
          refine gz_istore_n (pc := 83) (lw := [(2, .int r17), (0, .ref (gz_ad G 1000)), (1, .int x1)]) hX dX0_go_83 rfl (by decide) rfl ?_
          refine gz_aload_n (pc := 84) hX dX0_go_84 rfl 1 rfl ?_
          refine cg_X0_74_0 (pc := 85) hX (c := 1000) (v := .ref (gz_ad G 1027)) (fun h => cz_k h rfl) (fun h => cz_f h (by decide) rfl (by decide) rfl) dX0_go_85 ?_
          refine gz_iload_n (pc := 88) hX dX0_go_88 rfl 0 rfl ?_
          obtain ⟨⟨r20, m21⟩, c22, h⟩ := gz_bd h
          refine cc_X0_298 (pc := 89) hX (fun h => cz_k h rfl) (by decide) c22 ⟨Nat.le_of_ble_eq_true rfl, Nat.le_of_ble_eq_true rfl⟩ (rest := []) rfl (Nat.le_of_ble_eq_true rfl) dX0_go_89 ?_
          refine gz_pop (pc := 92) hX dX0_go_92 rfl ?_
          refine gz_aload_n (pc := 93) hX dX0_go_93 rfl 1 rfl ?_
          refine cg_X0_74_0 (pc := 94) hX (c := 1000) (v := .ref (gz_ad G 1027)) (fun h => cz_k h rfl) (fun h => cz_f h (by decide) rfl (by decide) rfl) dX0_go_94 ?_
          refine gz_iload_n (pc := 97) hX dX0_go_97 rfl 2 rfl ?_
          obtain ⟨m23, em23, h⟩ := gz_lt h
          refine cp_X0_214_5 (pc := 98) hX (c := 1027) (fun h => cz_k h rfl) (Nat.le_of_ble_eq_true rfl) dX0_go_98 em23 ?_
          refine gz_iload_n (pc := 101) hX dX0_go_101 rfl 0 rfl ?_
          obtain rfl := Option.some.inj h
          exact hk _ _ dX0_go_102
        · replace h := gz_if' g13 h
          refine gz_sub (lw := [(0, .ref (gz_ad G 1000))]) [0] rfl ?_
          exact wb_X0_go_61 hX h hk
theorem ct_X0_go {G : gz_G} {l : Launch} {x1 : Int32}  {m m9 : gM} {r : Int32} (h : cf_X0_go x1 m = some (r, m9)) : gz_Met cS G l yX0_go cX0_go 3 (some .int) (mRm 84 2806) [.ref (gz_ad G 1000), .int x1] m m9 (some (.int r)) :=
  gz_ofI (by decide +kernel) (Nat.le_of_ble_eq_true rfl) fun X _ hX hk => wm_X0_go hX h hk
/-! FirstSnuffer.hours(I)I -/
noncomputable def cf_X0_hours (x1 : Int32) (m : gM) : Option (Int32 × gM) :=
  ((cf_X0_isAhead x1 (1 : Int32) (100 : Int32) m).bind fun (r1, m2) => (if r1 = (0 : Int32) then ((cf_X0_refuses (3 : Int32) m2).bind fun (r11, m12) => some (r11, m12)) else ((cf_X0_remembers m2).bind fun (_, m6) => ((cf_X5_goesBy 1027 x1 m6).bind fun (r8, m9) => some (r8, m9)))))
theorem wm_X0_hours {X : gz_X} {G : gz_G} (hX : gz_C cS X G cX0_hours 2 RX0 84 2806) {x1 : Int32}  {m : gM} {z : (Int32 × gM)} (h : cf_X0_hours x1 m = some z) (hk : (fun z : (Int32 × gM) => gz_kI cS X G 2 (0, 0) cX0_hours z.2 z.1) z) : gz_V cS X G 2 (0, 0) m 0 [(0, .ref (gz_ad G 1000)), (1, .int x1)] [] := by
  unfold cf_X0_hours at h
  refine gz_aload_n (pc := 0) hX dX0_hours_0 rfl 0 rfl ?_
  refine gz_iload_n (pc := 1) hX dX0_hours_1 rfl 1 rfl ?_
  refine gz_iconst (pc := 2) (v := (1 : Int32)) hX dX0_hours_2 (by decide) ?_
  refine gz_bipush (pc := 3) (v := (100 : Int32)) hX dX0_hours_3 (by decide) ?_
  obtain ⟨⟨r1, m2⟩, c3, h⟩ := gz_bd h
  refine cc_X0_291 (pc := 5) hX (fun h => cz_k h rfl) c3 ⟨Nat.le_of_ble_eq_true rfl, Nat.le_of_ble_eq_true rfl⟩ (rest := []) rfl (Nat.le_of_ble_eq_true rfl) dX0_hours_5 ?_
  refine gz_if_ne (pc := 8) (tgt := 17) hX dX0_hours_8 (by decide) (fun g4 => ?_) (fun g4 => ?_)
  · replace h := gz_if' g4 h
    refine gz_aload_n (pc := 17) hX dX0_hours_17 rfl 0 rfl ?_
    obtain ⟨⟨⟨⟩, m6⟩, c7, h⟩ := gz_bd h
    refine cc_X0_360 (pc := 18) hX (fun h => cz_k h rfl) c7 ⟨Nat.le_of_ble_eq_true rfl, Nat.le_of_ble_eq_true rfl⟩ (rest := []) rfl (Nat.le_of_ble_eq_true rfl) dX0_hours_18 ?_
    refine gz_aload_n (pc := 21) hX dX0_hours_21 rfl 0 rfl ?_
    refine cg_X0_74_0 (pc := 22) hX (c := 1000) (v := .ref (gz_ad G 1027)) (fun h => cz_k h rfl) (fun h => cz_f h (by decide) rfl (by decide) rfl) dX0_hours_22 ?_
    refine gz_iload_n (pc := 25) hX dX0_hours_25 rfl 1 rfl ?_
    obtain ⟨⟨r8, m9⟩, c10, h⟩ := gz_bd h
    refine cc_X0_298 (pc := 26) hX (fun h => cz_k h rfl) (by decide) c10 ⟨Nat.le_of_ble_eq_true rfl, Nat.le_of_ble_eq_true rfl⟩ (rest := []) rfl (Nat.le_of_ble_eq_true rfl) dX0_hours_26 ?_
    obtain rfl := Option.some.inj h
    exact hk _ _ dX0_hours_29
  · replace h := gz_it' g4 h
    refine gz_aload_n (pc := 11) hX dX0_hours_11 rfl 0 rfl ?_
    refine gz_iconst (pc := 12) (v := (3 : Int32)) hX dX0_hours_12 (by decide) ?_
    obtain ⟨⟨r11, m12⟩, c13, h⟩ := gz_bd h
    refine cc_X0_125 (pc := 13) hX (fun h => cz_k h rfl) c13 ⟨Nat.le_of_ble_eq_true rfl, Nat.le_of_ble_eq_true rfl⟩ (rest := []) rfl (Nat.le_of_ble_eq_true rfl) dX0_hours_13 ?_
    obtain rfl := Option.some.inj h
    exact hk _ _ dX0_hours_16
theorem ct_X0_hours {G : gz_G} {l : Launch} {x1 : Int32}  {m m9 : gM} {r : Int32} (h : cf_X0_hours x1 m = some (r, m9)) : gz_Met cS G l yX0_hours cX0_hours 2 (some .int) (mRm 84 2806) [.ref (gz_ad G 1000), .int x1] m m9 (some (.int r)) :=
  gz_ofI (by decide +kernel) (Nat.le_of_ble_eq_true rfl) fun X _ hX hk => wm_X0_hours hX h hk
theorem cc_X0_307 {X : gz_X} {G : gz_G} {cc : ByteArray} {nL fr lo pc : Nat} {rem : Nat × Nat} {lv : List (Nat × Value)} {rest st0 : List Value} (hX : gz_C cS X G cc nL RX0 fr lo) {x1 : Int32} {m m9 : gM} (hK : clc m.1 m.2.1 m.2.2.2.2.1 → m.1 1000 = 0 + 1)  {r : Int32} (h : cf_X0_goesOn x1 m = some (r, m9)) (hroom : 84 + 1 ≤ fr ∧ 8 + (2 + 11) + 2806 ≤ lo) (hst : st0 = [.int x1, .ref (gz_ad G 1000)] ++ rest) (hW : (rest.map fun v => v.category).sum ≤ 8) (hd : decode cc pc = .ok (.invokevirtual 307, 3)) (kk : gz_V cS X G nL rem m9 (pc + 3) lv (.int r :: rest)) : gz_V cS X G nL rem m pc lv st0 :=
  gz_callV2 hX cs_E (As := [.int x1]) (rest := rest) (q := (RX0, TX0, 28)) (ci := 0) (c := 1000) (ct_X0_goesOn (l := X.2.1) h) (lw_V q1568 q1570 qs56 q167 q1571) (n := 1) (by decide +kernel) hroom rfl rfl (by decide) hK hst hW hd (rem := rem) kk
/-! FirstSnuffer.reaches(I)Z -/
noncomputable def mj_X0_reaches_46  (m : gM) : Option (Int32 × gM) :=
  some ((0 : Int32), m)
theorem wb_X0_reaches_46 {X : gz_X} {G : gz_G} (hX : gz_C cS X G cX0_reaches 4 RX0 85 2827)   {m : gM} {z : (Int32 × gM)} (h : mj_X0_reaches_46  m = some z) (hk : (fun z : (Int32 × gM) => gz_kZ cS X G 4 (0, 0) cX0_reaches z.2 z.1) z) : gz_V cS X G 4 (0, 0) m 46 [(0, .ref (gz_ad G 1000))] [] := by
  unfold mj_X0_reaches_46 at h
  refine gz_iconst (pc := 46) (v := (0 : Int32)) hX dX0_reaches_46 (by decide) ?_
  obtain rfl := Option.some.inj h
  exact hk _ _ dX0_reaches_47 (Or.inl rfl)
def mP_X0_reaches_65 (X : gz_X) (G : gz_G) (q : (Int32 × Int32 × gM)) : Prop := gz_V cS X G 4 (0, 0) q.2.2 65 [(0, .ref (gz_ad G 1000)), (1, .int q.1), (3, .int q.2.1)] []
noncomputable def mj_X0_reaches_118  (m : gM) : Option (Int32 × gM) :=
  some ((1 : Int32), m)
theorem wb_X0_reaches_118 {X : gz_X} {G : gz_G} (hX : gz_C cS X G cX0_reaches 4 RX0 85 2827)   {m : gM} {z : (Int32 × gM)} (h : mj_X0_reaches_118  m = some z) (hk : (fun z : (Int32 × gM) => gz_kZ cS X G 4 (0, 0) cX0_reaches z.2 z.1) z) : gz_V cS X G 4 (0, 0) m 118 [(0, .ref (gz_ad G 1000))] [] := by
  unfold mj_X0_reaches_118 at h
  refine gz_iconst (pc := 118) (v := (1 : Int32)) hX dX0_reaches_118 (by decide) ?_
  obtain rfl := Option.some.inj h
  exact hk _ _ dX0_reaches_119 (Or.inr rfl)
noncomputable def mj_X0_reaches_90  (m : gM) : Option (Int32 × gM) :=
  some ((0 : Int32), m)
theorem wb_X0_reaches_90 {X : gz_X} {G : gz_G} (hX : gz_C cS X G cX0_reaches 4 RX0 85 2827)   {m : gM} {z : (Int32 × gM)} (h : mj_X0_reaches_90  m = some z) (hk : (fun z : (Int32 × gM) => gz_kZ cS X G 4 (0, 0) cX0_reaches z.2 z.1) z) : gz_V cS X G 4 (0, 0) m 90 [(0, .ref (gz_ad G 1000))] [] := by
  unfold mj_X0_reaches_90 at h
  refine gz_iconst (pc := 90) (v := (0 : Int32)) hX dX0_reaches_90 (by decide) ?_
  obtain rfl := Option.some.inj h
  exact hk _ _ dX0_reaches_91 (Or.inl rfl)
noncomputable def mb_X0_reaches_65 (x1 : Int32) (x3 : Int32) (m : gM) : Option ((Int32 × Int32 × gM) ⊕ (Int32 × gM)) :=
  ((cf_X5_isMinding 1073 x1 m).bind fun (r1, m2) => (if r1 = (0 : Int32) then ((cf_X5_isLit 1073 x1 m2).bind fun (r5, m6) => (if r5 = (0 : Int32) then (Option.map Sum.inr (mj_X0_reaches_118  m6)) else ((cf_X5_putsOut 1073 x1 m6).bind fun (r9, m10) => (Option.map Sum.inr (mj_X0_reaches_118  m10))))) else (if x3 = (20 : Int32) then (Option.map Sum.inr (mj_X0_reaches_90  m2)) else ((cf_X0_goesOn (1 : Int32) m2).bind fun (r13, m14) => (if r13 = (0 : Int32) then (Option.map Sum.inr (mj_X0_reaches_90  m14)) else gz_let (x3 + (1 : Int32)) fun y17 => some (Sum.inl (x1, y17, m14)))))))
theorem wb_X0_reaches_65 {X : gz_X} {G : gz_G} (hX : gz_C cS X G cX0_reaches 4 RX0 85 2827) {x1 : Int32} {x3 : Int32}  {m : gM} {z : ((Int32 × Int32 × gM) ⊕ (Int32 × gM))} (h : mb_X0_reaches_65 x1 x3 m = some z) (hk : (Sum.elim (mP_X0_reaches_65 X G) (fun z : (Int32 × gM) => gz_kZ cS X G 4 (0, 0) cX0_reaches z.2 z.1)) z) : gz_V cS X G 4 (0, 0) m 65 [(0, .ref (gz_ad G 1000)), (1, .int x1), (3, .int x3)] [] := by
  unfold mb_X0_reaches_65 at h
  refine gz_aload_n (pc := 65) hX dX0_reaches_65 rfl 0 rfl ?_
  refine cg_X0_78_0 (pc := 66) hX (c := 1000) (v := .ref (gz_ad G 1073)) (fun h => cz_k h rfl) (fun h => cz_f h (by decide) rfl (by decide) rfl) dX0_reaches_66 ?_
  refine gz_iload_n (pc := 69) hX dX0_reaches_69 rfl 1 rfl ?_
  obtain ⟨⟨r1, m2⟩, c3, h⟩ := gz_bd h
  refine cc_X0_260 (pc := 70) hX (fun h => cz_k h rfl) (by decide) c3 ⟨Nat.le_of_ble_eq_true rfl, Nat.le_of_ble_eq_true rfl⟩ (rest := []) rfl (Nat.le_of_ble_eq_true rfl) dX0_reaches_70 ?_
  refine gz_if_eq (pc := 73) (tgt := 98) hX dX0_reaches_73 (by decide) (fun g4 => ?_) (fun g4 => ?_)
  · replace h := gz_it' g4 h
    refine gz_aload_n (pc := 98) hX dX0_reaches_98 rfl 0 rfl ?_
    refine cg_X0_78_0 (pc := 99) hX (c := 1000) (v := .ref (gz_ad G 1073)) (fun h => cz_k h rfl) (fun h => cz_f h (by decide) rfl (by decide) rfl) dX0_reaches_99 ?_
    refine gz_iload_n (pc := 102) hX dX0_reaches_102 rfl 1 rfl ?_
    obtain ⟨⟨r5, m6⟩, c7, h⟩ := gz_bd h
    refine cc_X0_301 (pc := 103) hX (fun h => cz_k h rfl) (by decide) c7 ⟨Nat.le_of_ble_eq_true rfl, Nat.le_of_ble_eq_true rfl⟩ (rest := []) rfl (Nat.le_of_ble_eq_true rfl) dX0_reaches_103 ?_
    refine gz_if_eq (pc := 106) (tgt := 118) hX dX0_reaches_106 (by decide) (fun g8 => ?_) (fun g8 => ?_)
    · replace h := gz_it' g8 h
      refine gz_sub (lw := [(0, .ref (gz_ad G 1000))]) [0] rfl ?_
      obtain ⟨z0, hm0, rfl⟩ := gz_mp h
      exact wb_X0_reaches_118 hX hm0 hk
    · replace h := gz_if' g8 h
      refine gz_aload_n (pc := 109) hX dX0_reaches_109 rfl 0 rfl ?_
      refine cg_X0_78_0 (pc := 110) hX (c := 1000) (v := .ref (gz_ad G 1073)) (fun h => cz_k h rfl) (fun h => cz_f h (by decide) rfl (by decide) rfl) dX0_reaches_110 ?_
      refine gz_iload_n (pc := 113) hX dX0_reaches_113 rfl 1 rfl ?_
      obtain ⟨⟨r9, m10⟩, c11, h⟩ := gz_bd h
      refine cc_X0_310 (pc := 114) hX (fun h => cz_k h rfl) (by decide) c11 ⟨Nat.le_of_ble_eq_true rfl, Nat.le_of_ble_eq_true rfl⟩ (rest := []) rfl (Nat.le_of_ble_eq_true rfl) dX0_reaches_114 ?_
      refine gz_pop (pc := 117) hX dX0_reaches_117 rfl ?_
      refine gz_sub (lw := [(0, .ref (gz_ad G 1000))]) [0] rfl ?_
      obtain ⟨z0, hm0, rfl⟩ := gz_mp h
      exact wb_X0_reaches_118 hX hm0 hk
  · replace h := gz_if' g4 h
    refine gz_iload_n (pc := 76) hX dX0_reaches_76 rfl 2 rfl ?_
    refine gz_bipush (pc := 77) (v := (20 : Int32)) hX dX0_reaches_77 (by decide) ?_
    refine gz_icmp_eq (pc := 79) (tgt := 90) hX dX0_reaches_79 (by decide) (fun g12 => ?_) (fun g12 => ?_)
    · replace h := gz_it' g12 h
      refine gz_sub (lw := [(0, .ref (gz_ad G 1000))]) [0] rfl ?_
      obtain ⟨z0, hm0, rfl⟩ := gz_mp h
      exact wb_X0_reaches_90 hX hm0 hk
    · replace h := gz_if' g12 h
      refine gz_aload_n (pc := 82) hX dX0_reaches_82 rfl 0 rfl ?_
      refine gz_iconst (pc := 83) (v := (1 : Int32)) hX dX0_reaches_83 (by decide) ?_
      obtain ⟨⟨r13, m14⟩, c15, h⟩ := gz_bd h
      refine cc_X0_307 (pc := 84) hX (fun h => cz_k h rfl) c15 ⟨Nat.le_of_ble_eq_true rfl, Nat.le_of_ble_eq_true rfl⟩ (rest := []) rfl (Nat.le_of_ble_eq_true rfl) dX0_reaches_84 ?_
      refine gz_if_ne (pc := 87) (tgt := 92) hX dX0_reaches_87 (by decide) (fun g16 => ?_) (fun g16 => ?_)
      · replace h := gz_if' g16 h
        obtain ⟨y17, ey17, h⟩ := gz_lt h
        refine gz_iinc (pc := 92) (v := y17) (lw := [(3, .int y17), (0, .ref (gz_ad G 1000)), (1, .int x1)]) hX dX0_reaches_92 (k := 2) rfl (by rw [ey17]; rfl) (by decide) rfl ?_
        refine gz_goto (pc := 95) (tgt := 65) hX dX0_reaches_95 (by decide) ?_
        refine gz_sub (lw := [(0, .ref (gz_ad G 1000)), (1, .int x1), (3, .int y17)]) [1, 2, 0] rfl ?_
        obtain rfl := Option.some.inj h
        exact hk
      · replace h := gz_it' g16 h
        refine gz_sub (lw := [(0, .ref (gz_ad G 1000))]) [0] rfl ?_
        obtain ⟨z0, hm0, rfl⟩ := gz_mp h
        exact wb_X0_reaches_90 hX hm0 hk
noncomputable def ml_X0_reaches_65 (x1 : Int32) (x3 : Int32) (m : gM) : Option (Int32 × gM) := gz_loop (fun q : (Int32 × Int32 × gM) => mb_X0_reaches_65 q.1 q.2.1 q.2.2) (x1, x3, m)
theorem wl_X0_reaches_65 {X : gz_X} {G : gz_G} (hX : gz_C cS X G cX0_reaches 4 RX0 85 2827) {x1 : Int32} {x3 : Int32}  {m : gM} {z : (Int32 × gM)} (h : ml_X0_reaches_65 x1 x3 m = some z) (hk : (fun z : (Int32 × gM) => gz_kZ cS X G 4 (0, 0) cX0_reaches z.2 z.1) z) : gz_V cS X G 4 (0, 0) m 65 [(0, .ref (gz_ad G 1000)), (1, .int x1), (3, .int x3)] [] := by
  have hp : mP_X0_reaches_65 X G (x1, x3, m) := gz_loop_ind (fun q z hz hkz => wb_X0_reaches_65 hX  hz hkz) h hk
  exact hp
noncomputable def cf_X0_reaches (x1 : Int32) (m : gM) : Option (Int32 × gM) :=
  ((cf_X5_isLit 1073 x1 m).bind fun (r1, m2) => (if r1 = (0 : Int32) then some ((1 : Int32), m2) else ((cf_X0_thingOf x1 m2).bind fun (r5, m6) => (if gK m6 r5 = 9 then ((cf_X0_wayBetween (gI m2 1073 2) (gI m6 r5 1) m6).bind fun (r9, m10) => (if r9 = (-1 : Int32) then (mj_X0_reaches_46  m10) else ((cf_X0_goesOn r9 m10).bind fun (r13, m14) => (if r13 = (0 : Int32) then (mj_X0_reaches_46  m14) else ((cf_X0_thingOf x1 m14).bind fun (r17, m18) => (if gK m18 r17 = 9 then gz_let (gz_sI m18 1073 2 (gI m18 r17 1)) fun m21 => (ml_X0_reaches_65 x1 (0 : Int32) m21) else none)))))) else none))))
theorem wm_X0_reaches {X : gz_X} {G : gz_G} (hX : gz_C cS X G cX0_reaches 4 RX0 85 2827) {x1 : Int32}  {m : gM} {z : (Int32 × gM)} (h : cf_X0_reaches x1 m = some z) (hk : (fun z : (Int32 × gM) => gz_kZ cS X G 4 (0, 0) cX0_reaches z.2 z.1) z) : gz_V cS X G 4 (0, 0) m 0 [(0, .ref (gz_ad G 1000)), (1, .int x1)] [] := by
  unfold cf_X0_reaches at h
  refine gz_aload_n (pc := 0) hX dX0_reaches_0 rfl 0 rfl ?_
  refine cg_X0_78_0 (pc := 1) hX (c := 1000) (v := .ref (gz_ad G 1073)) (fun h => cz_k h rfl) (fun h => cz_f h (by decide) rfl (by decide) rfl) dX0_reaches_1 ?_
  refine gz_iload_n (pc := 4) hX dX0_reaches_4 rfl 1 rfl ?_
  obtain ⟨⟨r1, m2⟩, c3, h⟩ := gz_bd h
  refine cc_X0_301 (pc := 5) hX (fun h => cz_k h rfl) (by decide) c3 ⟨Nat.le_of_ble_eq_true rfl, Nat.le_of_ble_eq_true rfl⟩ (rest := []) rfl (Nat.le_of_ble_eq_true rfl) dX0_reaches_5 ?_
  refine gz_if_ne (pc := 8) (tgt := 13) hX dX0_reaches_8 (by decide) (fun g4 => ?_) (fun g4 => ?_)
  · replace h := gz_if' g4 h
    refine gz_aload_n (pc := 13) hX dX0_reaches_13 rfl 0 rfl ?_
    refine gz_aload_n (pc := 14) hX dX0_reaches_14 rfl 0 rfl ?_
    refine cg_X0_78_0 (pc := 15) hX (c := 1000) (v := .ref (gz_ad G 1073)) (fun h => cz_k h rfl) (fun h => cz_f h (by decide) rfl (by decide) rfl) dX0_reaches_15 ?_
    refine cg_X0_214_5 (pc := 18) hX (c := 1073) (v := .int (gI m2 1073 2)) (fun h => cz_k h rfl) (fun _ => rfl) dX0_reaches_18 ?_
    refine gz_aload_n (pc := 21) hX dX0_reaches_21 rfl 0 rfl ?_
    refine gz_iload_n (pc := 22) hX dX0_reaches_22 rfl 1 rfl ?_
    obtain ⟨⟨r5, m6⟩, c7, h⟩ := gz_bd h
    refine cc_X0_244 (pc := 23) hX (fun h => cz_k h rfl) c7 ⟨Nat.le_of_ble_eq_true rfl, Nat.le_of_ble_eq_true rfl⟩ (rest := [.int (gI m2 1073 2), .ref (gz_ad G 1000)]) rfl (Nat.le_of_ble_eq_true rfl) dX0_reaches_23 ?_
    obtain ⟨g8, h⟩ := gz_gu h
    refine cg_X0_248_8 (pc := 26) hX (c := r5) (v := .int (gI m6 r5 1)) (fun _ => g8) (fun _ => rfl) dX0_reaches_26 ?_
    obtain ⟨⟨r9, m10⟩, c11, h⟩ := gz_bd h
    refine cc_X0_286 (pc := 29) hX (fun h => cz_k h rfl) c11 ⟨Nat.le_of_ble_eq_true rfl, Nat.le_of_ble_eq_true rfl⟩ (rest := []) rfl (Nat.le_of_ble_eq_true rfl) dX0_reaches_29 ?_
    refine gz_istore_n (pc := 32) (lw := [(2, .int r9), (0, .ref (gz_ad G 1000)), (1, .int x1)]) hX dX0_reaches_32 rfl (by decide) rfl ?_
    refine gz_iload_n (pc := 33) hX dX0_reaches_33 rfl 0 rfl ?_
    refine gz_iconst (pc := 34) (v := (-1 : Int32)) hX dX0_reaches_34 (by decide) ?_
    refine gz_icmp_eq (pc := 35) (tgt := 46) hX dX0_reaches_35 (by decide) (fun g12 => ?_) (fun g12 => ?_)
    · replace h := gz_it' g12 h
      refine gz_sub (lw := [(0, .ref (gz_ad G 1000))]) [1] rfl ?_
      exact wb_X0_reaches_46 hX h hk
    · replace h := gz_if' g12 h
      refine gz_aload_n (pc := 38) hX dX0_reaches_38 rfl 1 rfl ?_
      refine gz_iload_n (pc := 39) hX dX0_reaches_39 rfl 0 rfl ?_
      obtain ⟨⟨r13, m14⟩, c15, h⟩ := gz_bd h
      refine cc_X0_307 (pc := 40) hX (fun h => cz_k h rfl) c15 ⟨Nat.le_of_ble_eq_true rfl, Nat.le_of_ble_eq_true rfl⟩ (rest := []) rfl (Nat.le_of_ble_eq_true rfl) dX0_reaches_40 ?_
      refine gz_if_ne (pc := 43) (tgt := 48) hX dX0_reaches_43 (by decide) (fun g16 => ?_) (fun g16 => ?_)
      · replace h := gz_if' g16 h
        refine gz_aload_n (pc := 48) hX dX0_reaches_48 rfl 1 rfl ?_
        refine cg_X0_78_0 (pc := 49) hX (c := 1000) (v := .ref (gz_ad G 1073)) (fun h => cz_k h rfl) (fun h => cz_f h (by decide) rfl (by decide) rfl) dX0_reaches_49 ?_
        refine gz_aload_n (pc := 52) hX dX0_reaches_52 rfl 1 rfl ?_
        refine gz_iload_n (pc := 53) hX dX0_reaches_53 rfl 2 rfl ?_
        obtain ⟨⟨r17, m18⟩, c19, h⟩ := gz_bd h
        refine cc_X0_244 (pc := 54) hX (fun h => cz_k h rfl) c19 ⟨Nat.le_of_ble_eq_true rfl, Nat.le_of_ble_eq_true rfl⟩ (rest := [.ref (gz_ad G 1073)]) rfl (Nat.le_of_ble_eq_true rfl) dX0_reaches_54 ?_
        obtain ⟨g20, h⟩ := gz_gu h
        refine cg_X0_248_8 (pc := 57) hX (c := r17) (v := .int (gI m18 r17 1)) (fun _ => g20) (fun _ => rfl) dX0_reaches_57 ?_
        obtain ⟨m21, em21, h⟩ := gz_lt h
        refine cp_X0_214_5 (pc := 60) hX (c := 1073) (fun h => cz_k h rfl) (Nat.le_of_ble_eq_true rfl) dX0_reaches_60 em21 ?_
        refine gz_iconst (pc := 63) (v := (0 : Int32)) hX dX0_reaches_63 (by decide) ?_
        refine gz_istore_n (pc := 64) (lw := [(3, .int (0 : Int32)), (2, .int r9), (0, .ref (gz_ad G 1000)), (1, .int x1)]) hX dX0_reaches_64 rfl (by decide) rfl ?_
        refine gz_sub (lw := [(0, .ref (gz_ad G 1000)), (1, .int x1), (3, .int (0 : Int32))]) [2, 3, 0] rfl ?_
        exact wl_X0_reaches_65 hX h hk
      · replace h := gz_it' g16 h
        refine gz_sub (lw := [(0, .ref (gz_ad G 1000))]) [1] rfl ?_
        exact wb_X0_reaches_46 hX h hk
  · replace h := gz_it' g4 h
    refine gz_iconst (pc := 11) (v := (1 : Int32)) hX dX0_reaches_11 (by decide) ?_
    obtain rfl := Option.some.inj h
    exact hk _ _ dX0_reaches_12 (Or.inr rfl)
theorem ct_X0_reaches {G : gz_G} {l : Launch} {x1 : Int32}  {m m9 : gM} {r : Int32} (h : cf_X0_reaches x1 m = some (r, m9)) : gz_Met cS G l yX0_reaches cX0_reaches 4 (some .boolean) (mRm 85 2827) [.ref (gz_ad G 1000), .int x1] m m9 (some (.int r)) :=
  gz_ofZ (by decide +kernel) (Nat.le_of_ble_eq_true rfl) fun X _ hX hk => wm_X0_reaches hX h hk
theorem cg_X0_316_0 {X : gz_X} {G : gz_G} {cc : ByteArray} {nL fr lo pc : Nat} {rem : Nat × Nat} {m : gM} {lv : List (Nat × Value)} {st : List Value} (hX : gz_C cS X G cc nL RX0 fr lo) {c : Nat} {v : Value} (hK : clc m.1 m.2.1 m.2.2.2.2.1 → m.1 c = 0 + 1) (hv : clc m.1 m.2.1 m.2.2.2.2.1 → gz_u (gz_ad G) m (ftC 0 14) c 14 = v) (hd : decode cc pc = .ok (.getfield 316, 3)) (kk : gz_V cS X G nL rem m (pc + 3) lv (v :: st)) : gz_V cS X G nL rem m pc lv (.ref (gz_ad G c) :: st) :=
  gz_getf hX (C := RX0) (T := TX0) (N := 28) (ci := 0) (k := 14) rfl (by decide) in_X0 (by decide) (Or.inl (hX.2.2.2.2.1 _ q516)) hd hK hv kk
theorem cp_X0_316_0 {X : gz_X} {G : gz_G} {cc : ByteArray} {nL fr lo pc : Nat} {rem : Nat × Nat} {m m9 : gM} {lv : List (Nat × Value)} {st : List Value} (hX : gz_C cS X G cc nL RX0 fr lo) {c : Nat} {x : Int32} (hK : clc m.1 m.2.1 m.2.2.2.2.1 → m.1 c = 0 + 1) (hw : 1000 ≤ c) (hd : decode cc pc = .ok (.putfield 316, 3)) (hm : m9 = gz_sI m c 14 x) (kk : gz_V cS X G nL rem m9 (pc + 3) lv st) : gz_V cS X G nL rem m pc lv (.int x :: .ref (gz_ad G c) :: st) := by
  subst hm
  exact gz_putf hX (C := RX0) (T := TX0) (N := 28) (ci := 0) (k := 14) (ty := .int) (μ' := gz_sI m c 14 x) rfl (by decide) in_X0 tyX0 tyX0_ok nmX0 (by decide) (Or.inl (hX.2.2.2.2.1 _ q516)) rfl rfl rfl rfl hd hK hw rfl rfl rfl (fun d tc j h => gz_sI_o d tc j h) (gz_sI_v (fun j => ftC 0 j) rfl) (fun h => h) kk
theorem cg_X0_87_0 {X : gz_X} {G : gz_G} {cc : ByteArray} {nL fr lo pc : Nat} {rem : Nat × Nat} {m : gM} {lv : List (Nat × Value)} {st : List Value} (hX : gz_C cS X G cc nL RX0 fr lo) {c : Nat} {v : Value} (hK : clc m.1 m.2.1 m.2.2.2.2.1 → m.1 c = 0 + 1) (hv : clc m.1 m.2.1 m.2.2.2.2.1 → gz_u (gz_ad G) m (ftC 0 13) c 13 = v) (hd : decode cc pc = .ok (.getfield 87, 3)) (kk : gz_V cS X G nL rem m (pc + 3) lv (v :: st)) : gz_V cS X G nL rem m pc lv (.ref (gz_ad G c) :: st) :=
  gz_getf hX (C := RX0) (T := TX0) (N := 28) (ci := 0) (k := 13) rfl (by decide) in_X0 (by decide) (Or.inl (hX.2.2.2.2.1 _ q515)) hd hK hv kk
theorem cg_X0_84_0 {X : gz_X} {G : gz_G} {cc : ByteArray} {nL fr lo pc : Nat} {rem : Nat × Nat} {m : gM} {lv : List (Nat × Value)} {st : List Value} (hX : gz_C cS X G cc nL RX0 fr lo) {c : Nat} {v : Value} (hK : clc m.1 m.2.1 m.2.2.2.2.1 → m.1 c = 0 + 1) (hv : clc m.1 m.2.1 m.2.2.2.2.1 → gz_u (gz_ad G) m (ftC 0 12) c 12 = v) (hd : decode cc pc = .ok (.getfield 84, 3)) (kk : gz_V cS X G nL rem m (pc + 3) lv (v :: st)) : gz_V cS X G nL rem m pc lv (.ref (gz_ad G c) :: st) :=
  gz_getf hX (C := RX0) (T := TX0) (N := 28) (ci := 0) (k := 12) rfl (by decide) in_X0 (by decide) (Or.inl (hX.2.2.2.2.1 _ q514)) hd hK hv kk
theorem cc_X0_313 {X : gz_X} {G : gz_G} {cc : ByteArray} {nL fr lo pc : Nat} {rem : Nat × Nat} {lv : List (Nat × Value)} {rest st0 : List Value} (hX : gz_C cS X G cc nL RX0 fr lo) {x1 : Int32} {m m9 : gM} (hK : clc m.1 m.2.1 m.2.2.2.2.1 → m.1 1000 = 0 + 1)  {r : Int32} (h : cf_X0_reaches x1 m = some (r, m9)) (hroom : 85 + 1 ≤ fr ∧ 8 + (4 + 11) + 2827 ≤ lo) (hst : st0 = [.int x1, .ref (gz_ad G 1000)] ++ rest) (hW : (rest.map fun v => v.category).sum ≤ 8) (hd : decode cc pc = .ok (.invokevirtual 313, 3)) (kk : gz_V cS X G nL rem m9 (pc + 3) lv (.int r :: rest)) : gz_V cS X G nL rem m pc lv st0 :=
  gz_callV2 hX cs_E (As := [.int x1]) (rest := rest) (q := (RX0, TX0, 28)) (ci := 0) (c := 1000) (ct_X0_reaches (l := X.2.1) h) (lw_V q1564 q1566 qs55 q167 q1567) (n := 1) (by decide +kernel) hroom rfl rfl (by decide) hK hst hW hd (rem := rem) kk
/-! FirstSnuffer.tries(I)V -/
def mP_X0_tries_14 (X : gz_X) (G : gz_G) (q : (Int32 × Int32 × gM)) : Prop := gz_V cS X G 3 (0, 0) q.2.2 14 [(0, .ref (gz_ad G 1000)), (1, .int q.1), (2, .int q.2.1)] []
def mP_X0_tries_83 (X : gz_X) (G : gz_G) (q : (Int32 × Int32 × gM)) : Prop := gz_V cS X G 3 (0, 0) q.2.2 83 [(0, .ref (gz_ad G 1000)), (1, .int q.1), (2, .int q.2.1)] []
noncomputable def mb_X0_tries_83 (x1 : Int32) (x2 : Int32) (m : gM) : Option ((Int32 × Int32 × gM) ⊕ (Unit × gM)) :=
  (if x1 ≤ x2 then some (Sum.inr ((), m)) else (if gz_in x2 (4) then (if gz_in x2 (4) then gz_let (gz_sI m 1120 (gz_ix x2) (gI m 1119 (gz_ix x2))) fun m4 => gz_let (x2 + (1 : Int32)) fun y5 => some (Sum.inl (x1, y5, m4)) else none) else none))
theorem wb_X0_tries_83 {X : gz_X} {G : gz_G} (hX : gz_C cS X G cX0_tries 3 RX0 86 2850) {x1 : Int32} {x2 : Int32}  {m : gM} {z : ((Int32 × Int32 × gM) ⊕ (Unit × gM))} (h : mb_X0_tries_83 x1 x2 m = some z) (hk : (Sum.elim (mP_X0_tries_83 X G) (fun z : (Unit × gM) => gz_kV cS X G 3 (0, 0) cX0_tries z.2)) z) : gz_V cS X G 3 (0, 0) m 83 [(0, .ref (gz_ad G 1000)), (1, .int x1), (2, .int x2)] [] := by
  unfold mb_X0_tries_83 at h
  refine gz_iload_n (pc := 83) hX dX0_tries_83 rfl 2 rfl ?_
  refine gz_iload_n (pc := 84) hX dX0_tries_84 rfl 1 rfl ?_
  refine gz_icmp_ge (pc := 85) (tgt := 106) hX dX0_tries_85 (by decide) (fun g1 => ?_) (fun g1 => ?_)
  · replace h := gz_it' g1 h
    obtain rfl := Option.some.inj h
    exact hk _ _ dX0_tries_106
  · replace h := gz_if' g1 h
    refine gz_aload_n (pc := 88) hX dX0_tries_88 rfl 0 rfl ?_
    refine cg_X0_87_0 (pc := 89) hX (c := 1000) (v := .ref (gz_ad G 1120)) (fun h => cz_k h rfl) (fun h => cz_f h (by decide) rfl (by decide) rfl) dX0_tries_89 ?_
    refine gz_iload_n (pc := 92) hX dX0_tries_92 rfl 2 rfl ?_
    refine gz_aload_n (pc := 93) hX dX0_tries_93 rfl 0 rfl ?_
    refine cg_X0_84_0 (pc := 94) hX (c := 1000) (v := .ref (gz_ad G 1119)) (fun h => cz_k h rfl) (fun h => cz_f h (by decide) rfl (by decide) rfl) dX0_tries_94 ?_
    refine gz_iload_n (pc := 97) hX dX0_tries_97 rfl 2 rfl ?_
    obtain ⟨g2, h⟩ := gz_gu h
    refine gz_iald2 (pc := 98) (c := 1119) (n := 4) hX rfl (fun h => cz_a h rfl (by decide) rfl) g2 dX0_tries_98 ?_
    obtain ⟨g3, h⟩ := gz_gu h
    obtain ⟨m4, em4, h⟩ := gz_lt h
    refine gz_iast2 (pc := 99) (c := 1120) (n := 4) hX rfl (fun h => cz_a h rfl (by decide) rfl) (Nat.le_of_ble_eq_true rfl) g3 dX0_tries_99 em4 ?_
    obtain ⟨y5, ey5, h⟩ := gz_lt h
    refine gz_iinc (pc := 100) (v := y5) (lw := [(2, .int y5), (0, .ref (gz_ad G 1000)), (1, .int x1)]) hX dX0_tries_100 (k := 2) rfl (by rw [ey5]; rfl) (by decide) rfl ?_
    refine gz_goto (pc := 103) (tgt := 83) hX dX0_tries_103 (by decide) ?_
    refine gz_sub (lw := [(0, .ref (gz_ad G 1000)), (1, .int x1), (2, .int y5)]) [1, 2, 0] rfl ?_
    obtain rfl := Option.some.inj h
    exact hk
noncomputable def ml_X0_tries_83 (x1 : Int32) (x2 : Int32) (m : gM) : Option (Unit × gM) := gz_loop (fun q : (Int32 × Int32 × gM) => mb_X0_tries_83 q.1 q.2.1 q.2.2) (x1, x2, m)
theorem wl_X0_tries_83 {X : gz_X} {G : gz_G} (hX : gz_C cS X G cX0_tries 3 RX0 86 2850) {x1 : Int32} {x2 : Int32}  {m : gM} {z : (Unit × gM)} (h : ml_X0_tries_83 x1 x2 m = some z) (hk : (fun z : (Unit × gM) => gz_kV cS X G 3 (0, 0) cX0_tries z.2) z) : gz_V cS X G 3 (0, 0) m 83 [(0, .ref (gz_ad G 1000)), (1, .int x1), (2, .int x2)] [] := by
  have hp : mP_X0_tries_83 X G (x1, x2, m) := gz_loop_ind (fun q z hz hkz => wb_X0_tries_83 hX  hz hkz) h hk
  exact hp
noncomputable def mb_X0_tries_14 (x1 : Int32) (x2 : Int32) (m : gM) : Option ((Int32 × Int32 × gM) ⊕ (Unit × gM)) :=
  (if x1 ≤ x2 then (if ((gI m 1073 0) - (gI m 1027 0)) < (gI m 1000 14) then gz_let (gz_sI m 1000 14 ((gI m 1073 0) - (gI m 1027 0))) fun m3 => (Option.map Sum.inr (ml_X0_tries_83 x1 (0 : Int32) m3)) else some (Sum.inr ((), m))) else (if gz_in x2 (4) then ((cf_X0_reaches (gI m 1119 (gz_ix x2)) m).bind fun (r5, m6) => (if r5 = (0 : Int32) then some (Sum.inr ((), m6)) else gz_let (x2 + (1 : Int32)) fun y9 => some (Sum.inl (x1, y9, m6)))) else none))
theorem wb_X0_tries_14 {X : gz_X} {G : gz_G} (hX : gz_C cS X G cX0_tries 3 RX0 86 2850) {x1 : Int32} {x2 : Int32}  {m : gM} {z : ((Int32 × Int32 × gM) ⊕ (Unit × gM))} (h : mb_X0_tries_14 x1 x2 m = some z) (hk : (Sum.elim (mP_X0_tries_14 X G) (fun z : (Unit × gM) => gz_kV cS X G 3 (0, 0) cX0_tries z.2)) z) : gz_V cS X G 3 (0, 0) m 14 [(0, .ref (gz_ad G 1000)), (1, .int x1), (2, .int x2)] [] := by
  unfold mb_X0_tries_14 at h
  refine gz_iload_n (pc := 14) hX dX0_tries_14 rfl 2 rfl ?_
  refine gz_iload_n (pc := 15) hX dX0_tries_15 rfl 1 rfl ?_
  refine gz_icmp_ge (pc := 16) (tgt := 39) hX dX0_tries_16 (by decide) (fun g1 => ?_) (fun g1 => ?_)
  · replace h := gz_it' g1 h
    refine gz_aload_n (pc := 39) hX dX0_tries_39 rfl 0 rfl ?_
    refine cg_X0_78_0 (pc := 40) hX (c := 1000) (v := .ref (gz_ad G 1073)) (fun h => cz_k h rfl) (fun h => cz_f h (by decide) rfl (by decide) rfl) dX0_tries_40 ?_
    refine cg_X0_211_5 (pc := 43) hX (c := 1073) (v := .int (gI m 1073 0)) (fun h => cz_k h rfl) (fun _ => rfl) dX0_tries_43 ?_
    refine gz_aload_n (pc := 46) hX dX0_tries_46 rfl 0 rfl ?_
    refine cg_X0_74_0 (pc := 47) hX (c := 1000) (v := .ref (gz_ad G 1027)) (fun h => cz_k h rfl) (fun h => cz_f h (by decide) rfl (by decide) rfl) dX0_tries_47 ?_
    refine cg_X0_211_5 (pc := 50) hX (c := 1027) (v := .int (gI m 1027 0)) (fun h => cz_k h rfl) (fun _ => rfl) dX0_tries_50 ?_
    refine gz_isub (pc := 53) hX dX0_tries_53 ?_
    refine gz_aload_n (pc := 54) hX dX0_tries_54 rfl 0 rfl ?_
    refine cg_X0_316_0 (pc := 55) hX (c := 1000) (v := .int (gI m 1000 14)) (fun h => cz_k h rfl) (fun _ => rfl) dX0_tries_55 ?_
    refine gz_icmp_lt (pc := 58) (tgt := 62) hX dX0_tries_58 (by decide) (fun g2 => ?_) (fun g2 => ?_)
    · replace h := gz_it' g2 h
      refine gz_aload_n (pc := 62) hX dX0_tries_62 rfl 0 rfl ?_
      refine gz_aload_n (pc := 63) hX dX0_tries_63 rfl 0 rfl ?_
      refine cg_X0_78_0 (pc := 64) hX (c := 1000) (v := .ref (gz_ad G 1073)) (fun h => cz_k h rfl) (fun h => cz_f h (by decide) rfl (by decide) rfl) dX0_tries_64 ?_
      refine cg_X0_211_5 (pc := 67) hX (c := 1073) (v := .int (gI m 1073 0)) (fun h => cz_k h rfl) (fun _ => rfl) dX0_tries_67 ?_
      refine gz_aload_n (pc := 70) hX dX0_tries_70 rfl 0 rfl ?_
      refine cg_X0_74_0 (pc := 71) hX (c := 1000) (v := .ref (gz_ad G 1027)) (fun h => cz_k h rfl) (fun h => cz_f h (by decide) rfl (by decide) rfl) dX0_tries_71 ?_
      refine cg_X0_211_5 (pc := 74) hX (c := 1027) (v := .int (gI m 1027 0)) (fun h => cz_k h rfl) (fun _ => rfl) dX0_tries_74 ?_
      refine gz_isub (pc := 77) hX dX0_tries_77 ?_
      obtain ⟨m3, em3, h⟩ := gz_lt h
      refine cp_X0_316_0 (pc := 78) hX (c := 1000) (fun h => cz_k h rfl) (Nat.le_of_ble_eq_true rfl) dX0_tries_78 em3 ?_
      refine gz_iconst (pc := 81) (v := (0 : Int32)) hX dX0_tries_81 (by decide) ?_
      refine gz_istore_n (pc := 82) (lw := [(2, .int (0 : Int32)), (0, .ref (gz_ad G 1000)), (1, .int x1)]) hX dX0_tries_82 rfl (by decide) rfl ?_
      refine gz_sub (lw := [(0, .ref (gz_ad G 1000)), (1, .int x1), (2, .int (0 : Int32))]) [1, 2, 0] rfl ?_
      obtain ⟨z0, hm0, rfl⟩ := gz_mp h
      exact wl_X0_tries_83 hX hm0 hk
    · replace h := gz_if' g2 h
      obtain rfl := Option.some.inj h
      exact hk _ _ dX0_tries_61
  · replace h := gz_if' g1 h
    refine gz_aload_n (pc := 19) hX dX0_tries_19 rfl 0 rfl ?_
    refine gz_aload_n (pc := 20) hX dX0_tries_20 rfl 0 rfl ?_
    refine cg_X0_84_0 (pc := 21) hX (c := 1000) (v := .ref (gz_ad G 1119)) (fun h => cz_k h rfl) (fun h => cz_f h (by decide) rfl (by decide) rfl) dX0_tries_21 ?_
    refine gz_iload_n (pc := 24) hX dX0_tries_24 rfl 2 rfl ?_
    obtain ⟨g4, h⟩ := gz_gu h
    refine gz_iald2 (pc := 25) (c := 1119) (n := 4) hX rfl (fun h => cz_a h rfl (by decide) rfl) g4 dX0_tries_25 ?_
    obtain ⟨⟨r5, m6⟩, c7, h⟩ := gz_bd h
    refine cc_X0_313 (pc := 26) hX (fun h => cz_k h rfl) c7 ⟨Nat.le_of_ble_eq_true rfl, Nat.le_of_ble_eq_true rfl⟩ (rest := []) rfl (Nat.le_of_ble_eq_true rfl) dX0_tries_26 ?_
    refine gz_if_ne (pc := 29) (tgt := 33) hX dX0_tries_29 (by decide) (fun g8 => ?_) (fun g8 => ?_)
    · replace h := gz_if' g8 h
      obtain ⟨y9, ey9, h⟩ := gz_lt h
      refine gz_iinc (pc := 33) (v := y9) (lw := [(2, .int y9), (0, .ref (gz_ad G 1000)), (1, .int x1)]) hX dX0_tries_33 (k := 2) rfl (by rw [ey9]; rfl) (by decide) rfl ?_
      refine gz_goto (pc := 36) (tgt := 14) hX dX0_tries_36 (by decide) ?_
      refine gz_sub (lw := [(0, .ref (gz_ad G 1000)), (1, .int x1), (2, .int y9)]) [1, 2, 0] rfl ?_
      obtain rfl := Option.some.inj h
      exact hk
    · replace h := gz_it' g8 h
      obtain rfl := Option.some.inj h
      exact hk _ _ dX0_tries_32
noncomputable def ml_X0_tries_14 (x1 : Int32) (x2 : Int32) (m : gM) : Option (Unit × gM) := gz_loop (fun q : (Int32 × Int32 × gM) => mb_X0_tries_14 q.1 q.2.1 q.2.2) (x1, x2, m)
theorem wl_X0_tries_14 {X : gz_X} {G : gz_G} (hX : gz_C cS X G cX0_tries 3 RX0 86 2850) {x1 : Int32} {x2 : Int32}  {m : gM} {z : (Unit × gM)} (h : ml_X0_tries_14 x1 x2 m = some z) (hk : (fun z : (Unit × gM) => gz_kV cS X G 3 (0, 0) cX0_tries z.2) z) : gz_V cS X G 3 (0, 0) m 14 [(0, .ref (gz_ad G 1000)), (1, .int x1), (2, .int x2)] [] := by
  have hp : mP_X0_tries_14 X G (x1, x2, m) := gz_loop_ind (fun q z hz hkz => wb_X0_tries_14 hX  hz hkz) h hk
  exact hp
noncomputable def cf_X0_tries (x1 : Int32) (m : gM) : Option (Unit × gM) :=
  ((cf_X5_copy 1073 1027 m).bind fun (r1, m2) => (if cSt r1 = true then (ml_X0_tries_14 x1 (0 : Int32) m2) else none))
theorem wm_X0_tries {X : gz_X} {G : gz_G} (hX : gz_C cS X G cX0_tries 3 RX0 86 2850) {x1 : Int32}  {m : gM} {z : (Unit × gM)} (h : cf_X0_tries x1 m = some z) (hk : (fun z : (Unit × gM) => gz_kV cS X G 3 (0, 0) cX0_tries z.2) z) : gz_V cS X G 3 (0, 0) m 0 [(0, .ref (gz_ad G 1000)), (1, .int x1)] [] := by
  unfold cf_X0_tries at h
  refine gz_aload_n (pc := 0) hX dX0_tries_0 rfl 0 rfl ?_
  refine cg_X0_78_0 (pc := 1) hX (c := 1000) (v := .ref (gz_ad G 1073)) (fun h => cz_k h rfl) (fun h => cz_f h (by decide) rfl (by decide) rfl) dX0_tries_1 ?_
  refine gz_aload_n (pc := 4) hX dX0_tries_4 rfl 0 rfl ?_
  refine cg_X0_74_0 (pc := 5) hX (c := 1000) (v := .ref (gz_ad G 1027)) (fun h => cz_k h rfl) (fun h => cz_f h (by decide) rfl (by decide) rfl) dX0_tries_5 ?_
  obtain ⟨⟨r1, m2⟩, c3, h⟩ := gz_bd h
  obtain ⟨g4, h⟩ := gz_gu h
  refine cc_X0_294 (pc := 8) hX (fun h => cz_k h rfl) (by decide) (by decide) c3 ⟨Nat.le_of_ble_eq_true rfl, Nat.le_of_ble_eq_true rfl⟩ (rest := []) rfl (Nat.le_of_ble_eq_true rfl) dX0_tries_8 ?_
  refine gz_pop (pc := 11) hX dX0_tries_11 rfl ?_
  refine gz_iconst (pc := 12) (v := (0 : Int32)) hX dX0_tries_12 (by decide) ?_
  refine gz_istore_n (pc := 13) (lw := [(2, .int (0 : Int32)), (0, .ref (gz_ad G 1000)), (1, .int x1)]) hX dX0_tries_13 rfl (by decide) rfl ?_
  refine gz_sub (lw := [(0, .ref (gz_ad G 1000)), (1, .int x1), (2, .int (0 : Int32))]) [1, 2, 0] rfl ?_
  exact wl_X0_tries_14 hX h hk
theorem ct_X0_tries {G : gz_G} {l : Launch} {x1 : Int32}  {m m9 : gM} (h : cf_X0_tries x1 m = some ((), m9)) : gz_Met cS G l yX0_tries cX0_tries 3 none (mRm 86 2850) [.ref (gz_ad G 1000), .int x1] m m9 none :=
  gz_ofV (by decide +kernel) (Nat.le_of_ble_eq_true rfl) fun X _ hX hk => wm_X0_tries hX h hk
theorem cc_X0_319 {X : gz_X} {G : gz_G} {cc : ByteArray} {nL fr lo pc : Nat} {rem : Nat × Nat} {lv : List (Nat × Value)} {rest st0 : List Value} (hX : gz_C cS X G cc nL RX0 fr lo) {x1 : Int32} {m m9 : gM} (hK : clc m.1 m.2.1 m.2.2.2.2.1 → m.1 1000 = 0 + 1)  (h : cf_X0_tries x1 m = some ((), m9)) (hroom : 86 + 1 ≤ fr ∧ 8 + (3 + 11) + 2850 ≤ lo) (hst : st0 = [.int x1, .ref (gz_ad G 1000)] ++ rest) (hW : (rest.map fun v => v.category).sum ≤ 8) (hd : decode cc pc = .ok (.invokevirtual 319, 3)) (kk : gz_V cS X G nL rem m9 (pc + 3) lv (rest)) : gz_V cS X G nL rem m pc lv st0 :=
  gz_callV2 hX cs_E (As := [.int x1]) (rest := rest) (q := (RX0, TX0, 28)) (ci := 0) (c := 1000) (ct_X0_tries (l := X.2.1) h) (lw_V q1560 q1562 qs54 q167 q1563) (n := 1) (by decide +kernel) hroom rfl rfl (by decide) hK hst hW hd (rem := rem) kk
def cOR (G : gz_G) (l : Launch) (f n : Nat) (oR : Int32 → Int32 → Int32 → gM → Option (Unit × gM)) : Prop := ∀ (a b c : Int32) (m m9 : gM), oR a b c m = some ((), m9) → gz_Met cS G l yX0_orders cX0_orders 5 none (mRm f n) [.ref (gz_ad G 1000), .int a, .int b, .int c] m m9 none
theorem cc_self {X : gz_X} {G : gz_G} {cc : ByteArray} {nL fr lo pc f n : Nat} {lv : List (Nat × Value)} {rest st0 : List Value} {oR : Int32 → Int32 → Int32 → gM → Option (Unit × gM)} (hX : gz_C cS X G cc nL RX0 fr lo) (hO : cOR G X.2.1 f n oR) {a b c : Int32} {m m9 : gM} (h : oR a b c m = some ((), m9)) (hroom : f + 1 ≤ fr ∧ 8 + (5 + 11) + n ≤ lo) (hst : st0 = [.int c, .int b, .int a, .ref (gz_ad G 1000)] ++ rest) (hW : (rest.map fun v => v.category).sum ≤ 8) (hd : decode cc pc = .ok (.invokevirtual 322, 3)) (kk : gz_V cS X G nL (0, 0) m9 (pc + 3) lv rest) : gz_V cS X G nL (0, 0) m pc lv st0 :=
  gz_callV2 hX cs_E (As := [.int a, .int b, .int c]) (rest := rest) (q := (RX0, TX0, 28)) (ci := 0) (c := 1000) (hO a b c m m9 h) (lw_V q1556 q1558 qs53 q167 q1559) (n := 3) (by decide +kernel) hroom rfl rfl (by decide) (fun h => cz_k h rfl) hst hW hd (rem := (0, 0)) kk
/-! FirstSnuffer.orders(III)V -/
def mP_X0_orders_14 (X : gz_X) (G : gz_G) (q : (Int32 × Int32 × Int32 × Int32 × gM)) : Prop := gz_V cS X G 5 (0, 0) q.2.2.2.2 14 [(0, .ref (gz_ad G 1000)), (1, .int q.1), (2, .int q.2.1), (3, .int q.2.2.1), (4, .int q.2.2.2.1)] []
noncomputable def mj_X0_orders_59 (oR : Int32 → Int32 → Int32 → gM → Option (Unit × gM)) (x1 : Int32) (x2 : Int32) (x3 : Int32) (x4 : Int32) (m : gM) : Option ((Int32 × Int32 × Int32 × Int32 × gM) ⊕ (Unit × gM)) :=
  gz_let (x4 + (1 : Int32)) fun y1 => some (Sum.inl (x1, x2, x3, y1, m))
theorem wb_X0_orders_59 {X : gz_X} {G : gz_G} {oR : Int32 → Int32 → Int32 → gM → Option (Unit × gM)} {f n : Nat} (hX : gz_C cS X G cX0_orders 5 RX0 (f + 1) (n + 40)) (h1 : 120 ≤ f) (h2 : 4000 ≤ n) (hO : cOR G X.2.1 f n oR) {x1 : Int32} {x2 : Int32} {x3 : Int32} {x4 : Int32}  {m : gM} {z : ((Int32 × Int32 × Int32 × Int32 × gM) ⊕ (Unit × gM))} (h : mj_X0_orders_59 oR x1 x2 x3 x4 m = some z) (hk : (Sum.elim (mP_X0_orders_14 X G) (fun z : (Unit × gM) => gz_kV cS X G 5 (0, 0) cX0_orders z.2)) z) : gz_V cS X G 5 (0, 0) m 59 [(0, .ref (gz_ad G 1000)), (1, .int x1), (2, .int x2), (3, .int x3), (4, .int x4)] [] := by
  unfold mj_X0_orders_59 at h
  obtain ⟨y1, ey1, h⟩ := gz_lt h
  refine gz_iinc (pc := 59) (v := y1) (lw := [(4, .int y1), (0, .ref (gz_ad G 1000)), (1, .int x1), (2, .int x2), (3, .int x3)]) hX dX0_orders_59 (k := 4) rfl (by rw [ey1]; rfl) (by decide) rfl ?_
  refine gz_goto (pc := 62) (tgt := 14) hX dX0_orders_62 (by decide) ?_
  refine gz_sub (lw := [(0, .ref (gz_ad G 1000)), (1, .int x1), (2, .int x2), (3, .int x3), (4, .int y1)]) [1, 2, 3, 4, 0] rfl ?_
  obtain rfl := Option.some.inj h
  exact hk
noncomputable def mb_X0_orders_14 (oR : Int32 → Int32 → Int32 → gM → Option (Unit × gM)) (x1 : Int32) (x2 : Int32) (x3 : Int32) (x4 : Int32) (m : gM) : Option ((Int32 × Int32 × Int32 × Int32 × gM) ⊕ (Unit × gM)) :=
  ((cf_X0_things m).bind fun (r1, m2) => (if r1 ≤ x4 then some (Sum.inr ((), m2)) else ((cf_X0_has x1 x4 m2).bind fun (r5, m6) => (if r5 = (0 : Int32) then (mj_X0_orders_59 oR x1 x2 x3 x4 m6) else (if gz_in x2 (4) then gz_let (gz_sI m6 1119 (gz_ix x2) x4) fun m10 => ((oR (x1 &&& (((1 : Int32) <<< (x4 &&& 31)) ^^^ (-1 : Int32))) (x2 + (1 : Int32)) x3 m10).bind fun (_, m12) => (mj_X0_orders_59 oR x1 x2 x3 x4 m12)) else none)))))
theorem wb_X0_orders_14 {X : gz_X} {G : gz_G} {oR : Int32 → Int32 → Int32 → gM → Option (Unit × gM)} {f n : Nat} (hX : gz_C cS X G cX0_orders 5 RX0 (f + 1) (n + 40)) (h1 : 120 ≤ f) (h2 : 4000 ≤ n) (hO : cOR G X.2.1 f n oR) {x1 : Int32} {x2 : Int32} {x3 : Int32} {x4 : Int32}  {m : gM} {z : ((Int32 × Int32 × Int32 × Int32 × gM) ⊕ (Unit × gM))} (h : mb_X0_orders_14 oR x1 x2 x3 x4 m = some z) (hk : (Sum.elim (mP_X0_orders_14 X G) (fun z : (Unit × gM) => gz_kV cS X G 5 (0, 0) cX0_orders z.2)) z) : gz_V cS X G 5 (0, 0) m 14 [(0, .ref (gz_ad G 1000)), (1, .int x1), (2, .int x2), (3, .int x3), (4, .int x4)] [] := by
  unfold mb_X0_orders_14 at h
  refine gz_iload (pc := 14) hX dX0_orders_14 4 rfl ?_
  refine gz_aload_n (pc := 16) hX dX0_orders_16 rfl 0 rfl ?_
  obtain ⟨⟨r1, m2⟩, c3, h⟩ := gz_bd h
  refine cc_X0_181 (pc := 17) hX (fun h => cz_k h rfl) c3 ⟨by omega, by omega⟩ (rest := [.int x4]) rfl (Nat.le_of_ble_eq_true rfl) dX0_orders_17 ?_
  refine gz_icmp_ge (pc := 20) (tgt := 65) hX dX0_orders_20 (by decide) (fun g4 => ?_) (fun g4 => ?_)
  · replace h := gz_it' g4 h
    obtain rfl := Option.some.inj h
    exact hk _ _ dX0_orders_65
  · replace h := gz_if' g4 h
    refine gz_iload_n (pc := 23) hX dX0_orders_23 rfl 1 rfl ?_
    refine gz_iload (pc := 24) hX dX0_orders_24 4 rfl ?_
    obtain ⟨⟨r5, m6⟩, c7, h⟩ := gz_bd h
    refine cc_X0_276 (pc := 26) hX c7 ⟨by omega, by omega⟩ (rest := []) rfl (Nat.le_of_ble_eq_true rfl) dX0_orders_26 ?_
    refine gz_if_ne (pc := 29) (tgt := 35) hX dX0_orders_29 (by decide) (fun g8 => ?_) (fun g8 => ?_)
    · replace h := gz_if' g8 h
      refine gz_aload_n (pc := 35) hX dX0_orders_35 rfl 0 rfl ?_
      refine cg_X0_84_0 (pc := 36) hX (c := 1000) (v := .ref (gz_ad G 1119)) (fun h => cz_k h rfl) (fun h => cz_f h (by decide) rfl (by decide) rfl) dX0_orders_36 ?_
      refine gz_iload_n (pc := 39) hX dX0_orders_39 rfl 2 rfl ?_
      refine gz_iload (pc := 40) hX dX0_orders_40 4 rfl ?_
      obtain ⟨g9, h⟩ := gz_gu h
      obtain ⟨m10, em10, h⟩ := gz_lt h
      refine gz_iast2 (pc := 42) (c := 1119) (n := 4) hX rfl (fun h => cz_a h rfl (by decide) rfl) (Nat.le_of_ble_eq_true rfl) g9 dX0_orders_42 em10 ?_
      refine gz_aload_n (pc := 43) hX dX0_orders_43 rfl 0 rfl ?_
      refine gz_iload_n (pc := 44) hX dX0_orders_44 rfl 1 rfl ?_
      refine gz_iconst (pc := 45) (v := (1 : Int32)) hX dX0_orders_45 (by decide) ?_
      refine gz_iload (pc := 46) hX dX0_orders_46 4 rfl ?_
      refine gz_ishl (pc := 48) hX dX0_orders_48 ?_
      refine gz_iconst (pc := 49) (v := (-1 : Int32)) hX dX0_orders_49 (by decide) ?_
      refine gz_ixor (pc := 50) hX dX0_orders_50 ?_
      refine gz_iand (pc := 51) hX dX0_orders_51 ?_
      refine gz_iload_n (pc := 52) hX dX0_orders_52 rfl 2 rfl ?_
      refine gz_iconst (pc := 53) (v := (1 : Int32)) hX dX0_orders_53 (by decide) ?_
      refine gz_iadd (pc := 54) hX dX0_orders_54 ?_
      refine gz_iload_n (pc := 55) hX dX0_orders_55 rfl 3 rfl ?_
      obtain ⟨⟨⟨⟩, m12⟩, c13, h⟩ := gz_bd h
      refine cc_self (pc := 56) hX hO c13 ⟨by omega, by omega⟩ (rest := []) rfl (Nat.le_of_ble_eq_true rfl) dX0_orders_56 ?_
      exact wb_X0_orders_59 hX h1 h2 hO h hk
    · replace h := gz_it' g8 h
      refine gz_goto (pc := 32) (tgt := 59) hX dX0_orders_32 (by decide) ?_
      exact wb_X0_orders_59 hX h1 h2 hO h hk
noncomputable def ml_X0_orders_14 (oR : Int32 → Int32 → Int32 → gM → Option (Unit × gM)) (x1 : Int32) (x2 : Int32) (x3 : Int32) (x4 : Int32) (m : gM) : Option (Unit × gM) := gz_loop (fun q : (Int32 × Int32 × Int32 × Int32 × gM) => mb_X0_orders_14 oR q.1 q.2.1 q.2.2.1 q.2.2.2.1 q.2.2.2.2) (x1, x2, x3, x4, m)
theorem wl_X0_orders_14 {X : gz_X} {G : gz_G} {oR : Int32 → Int32 → Int32 → gM → Option (Unit × gM)} {f n : Nat} (hX : gz_C cS X G cX0_orders 5 RX0 (f + 1) (n + 40)) (h1 : 120 ≤ f) (h2 : 4000 ≤ n) (hO : cOR G X.2.1 f n oR) {x1 : Int32} {x2 : Int32} {x3 : Int32} {x4 : Int32}  {m : gM} {z : (Unit × gM)} (h : ml_X0_orders_14 oR x1 x2 x3 x4 m = some z) (hk : (fun z : (Unit × gM) => gz_kV cS X G 5 (0, 0) cX0_orders z.2) z) : gz_V cS X G 5 (0, 0) m 14 [(0, .ref (gz_ad G 1000)), (1, .int x1), (2, .int x2), (3, .int x3), (4, .int x4)] [] := by
  have hp : mP_X0_orders_14 X G (x1, x2, x3, x4, m) := gz_loop_ind (fun q z hz hkz => wb_X0_orders_14 hX h1 h2 hO  hz hkz) h hk
  exact hp
noncomputable def cf_X0_orders (oR : Int32 → Int32 → Int32 → gM → Option (Unit × gM)) (x1 : Int32) (x2 : Int32) (x3 : Int32) (m : gM) : Option (Unit × gM) :=
  (if x2 = x3 then ((cf_X0_tries x3 m).bind fun (_, m3) => some ((), m3)) else (ml_X0_orders_14 oR x1 x2 x3 (0 : Int32) m))
theorem wm_X0_orders {X : gz_X} {G : gz_G} {oR : Int32 → Int32 → Int32 → gM → Option (Unit × gM)} {f n : Nat} (hX : gz_C cS X G cX0_orders 5 RX0 (f + 1) (n + 40)) (h1 : 120 ≤ f) (h2 : 4000 ≤ n) (hO : cOR G X.2.1 f n oR) {x1 : Int32} {x2 : Int32} {x3 : Int32}  {m : gM} {z : (Unit × gM)} (h : cf_X0_orders oR x1 x2 x3 m = some z) (hk : (fun z : (Unit × gM) => gz_kV cS X G 5 (0, 0) cX0_orders z.2) z) : gz_V cS X G 5 (0, 0) m 0 [(0, .ref (gz_ad G 1000)), (1, .int x1), (2, .int x2), (3, .int x3)] [] := by
  unfold cf_X0_orders at h
  refine gz_iload_n (pc := 0) hX dX0_orders_0 rfl 2 rfl ?_
  refine gz_iload_n (pc := 1) hX dX0_orders_1 rfl 3 rfl ?_
  refine gz_icmp_ne (pc := 2) (tgt := 11) hX dX0_orders_2 (by decide) (fun g1 => ?_) (fun g1 => ?_)
  · replace h := gz_if' g1 h
    refine gz_iconst (pc := 11) (v := (0 : Int32)) hX dX0_orders_11 (by decide) ?_
    refine gz_istore (pc := 12) (lw := [(4, .int (0 : Int32)), (0, .ref (gz_ad G 1000)), (1, .int x1), (2, .int x2), (3, .int x3)]) hX dX0_orders_12 (by decide) rfl ?_
    refine gz_sub (lw := [(0, .ref (gz_ad G 1000)), (1, .int x1), (2, .int x2), (3, .int x3), (4, .int (0 : Int32))]) [1, 2, 3, 4, 0] rfl ?_
    exact wl_X0_orders_14 hX h1 h2 hO h hk
  · replace h := gz_it' g1 h
    refine gz_aload_n (pc := 5) hX dX0_orders_5 rfl 0 rfl ?_
    refine gz_iload_n (pc := 6) hX dX0_orders_6 rfl 3 rfl ?_
    obtain ⟨⟨⟨⟩, m3⟩, c4, h⟩ := gz_bd h
    refine cc_X0_319 (pc := 7) hX (fun h => cz_k h rfl) c4 ⟨by omega, by omega⟩ (rest := []) rfl (Nat.le_of_ble_eq_true rfl) dX0_orders_7 ?_
    obtain rfl := Option.some.inj h
    exact hk _ _ dX0_orders_10
noncomputable def ceo : Nat → Int32 → Int32 → Int32 → gM → Option (Unit × gM)
  | 0 => fun _ _ _ _ => none
  | d + 1 => cf_X0_orders (ceo d)
theorem ceo_ok' {G : gz_G} {l : Launch} : ∀ d : Nat, cOR G l (120 + d) (4000 + 40 * d) (ceo d)
  | 0 => fun _ _ _ _ _ h => by simp [ceo] at h
  | d + 1 => by
    have ih := ceo_ok' (G := G) (l := l) d
    intro a b c m m9 h
    exact gz_ofV (rm := mRm (120 + d + 1) (4000 + 40 * d + 40)) (by decide +kernel) (Nat.le_of_ble_eq_true rfl) fun X e hX hk => wm_X0_orders hX (by omega) (by omega) (e ▸ ih) h hk
theorem ceo_ok {G : gz_G} {l : Launch} (d : Nat) {x1 x2 x3 : Int32} {m m9 : gM} (h : ceo d x1 x2 x3 m = some ((), m9)) : gz_Met cS G l yX0_orders cX0_orders 5 none (mRm (120 + d) (4000 + 40 * d)) [.ref (gz_ad G 1000), .int x1, .int x2, .int x3] m m9 none := ceo_ok' d x1 x2 x3 m m9 h
theorem cc_X0_322 {X : gz_X} {G : gz_G} {cc : ByteArray} {nL fr lo pc : Nat} {rem : Nat × Nat} {lv : List (Nat × Value)} {rest st0 : List Value} (hX : gz_C cS X G cc nL RX0 fr lo) {x1 : Int32} {x2 : Int32} {x3 : Int32} {m m9 : gM} (hK : clc m.1 m.2.1 m.2.2.2.2.1 → m.1 1000 = 0 + 1)  (h : ceo 6 x1 x2 x3 m = some ((), m9)) (hroom : 126 + 1 ≤ fr ∧ 8 + (5 + 11) + 4240 ≤ lo) (hst : st0 = [.int x3, .int x2, .int x1, .ref (gz_ad G 1000)] ++ rest) (hW : (rest.map fun v => v.category).sum ≤ 8) (hd : decode cc pc = .ok (.invokevirtual 322, 3)) (kk : gz_V cS X G nL rem m9 (pc + 3) lv (rest)) : gz_V cS X G nL rem m pc lv st0 :=
  gz_callV2 hX cs_E (As := [.int x1, .int x2, .int x3]) (rest := rest) (q := (RX0, TX0, 28)) (ci := 0) (c := 1000) (ceo_ok (l := X.2.1) 6 h) (lw_V q1556 q1558 qs53 q167 q1559) (n := 3) (by decide +kernel) hroom rfl rfl (by decide) hK hst hW hd (rem := rem) kk
/-! FirstSnuffer.round(II)I -/
noncomputable def mj_X0_round_36  (m : gM) : Option (Int32 × gM) :=
  some ((-1 : Int32), m)
theorem wb_X0_round_36 {X : gz_X} {G : gz_G} (hX : gz_C cS X G cX0_round 4 RX0 127 4264)   {m : gM} {z : (Int32 × gM)} (h : mj_X0_round_36  m = some z) (hk : (fun z : (Int32 × gM) => gz_kI cS X G 4 (0, 0) cX0_round z.2 z.1) z) : gz_V cS X G 4 (0, 0) m 36 [(0, .ref (gz_ad G 1000))] [] := by
  unfold mj_X0_round_36 at h
  refine gz_iconst (pc := 36) (v := (-1 : Int32)) hX dX0_round_36 (by decide) ?_
  obtain rfl := Option.some.inj h
  exact hk _ _ dX0_round_37
noncomputable def cf_X0_round (x1 : Int32) (x2 : Int32) (m : gM) : Option (Int32 × gM) :=
  (if x1 ≤ (0 : Int32) then (mj_X0_round_36  m) else ((cf_X0_things m).bind fun (r2, m3) => (if ((1 : Int32) <<< (r2 &&& 31)) ≤ x1 then (mj_X0_round_36  m3) else ((cf_X5_lit 1027 m3).bind fun (r6, m7) => (if (x1 &&& (r6 ^^^ (-1 : Int32))) = (0 : Int32) then ((cf_J16_bitCount x1 m7).bind fun (r10, m11) => (if r10 ≤ (4 : Int32) then ((cf_J16_bitCount x1 m11).bind fun (r14, m15) => ((cf_X0_is x2 (-1 : Int32) (r14 - (1 : Int32)) m15).bind fun (r17, m18) => (if r17 = (0 : Int32) then some ((-1 : Int32), m18) else gz_let (gz_sI m18 1000 14 (100000000 : Int32)) fun m21 => ((ceo 6 x1 (0 : Int32) r14 m21).bind fun (_, m23) => (if (gI m23 1000 14) = (100000000 : Int32) then some ((-1 : Int32), m23) else (if x2 = (-1 : Int32) then some ((gI m23 1000 14), m23) else (if gz_in x2 (4) then some ((gI m23 1120 (gz_ix x2)), m23) else none))))))) else (mj_X0_round_36  m11))) else (mj_X0_round_36  m7))))))
theorem wm_X0_round {X : gz_X} {G : gz_G} (hX : gz_C cS X G cX0_round 4 RX0 127 4264) {x1 : Int32} {x2 : Int32}  {m : gM} {z : (Int32 × gM)} (h : cf_X0_round x1 x2 m = some z) (hk : (fun z : (Int32 × gM) => gz_kI cS X G 4 (0, 0) cX0_round z.2 z.1) z) : gz_V cS X G 4 (0, 0) m 0 [(0, .ref (gz_ad G 1000)), (1, .int x1), (2, .int x2)] [] := by
  unfold cf_X0_round at h
  refine gz_iload_n (pc := 0) hX dX0_round_0 rfl 1 rfl ?_
  refine gz_if_le (pc := 1) (tgt := 36) hX dX0_round_1 (by decide) (fun g1 => ?_) (fun g1 => ?_)
  · replace h := gz_it' g1 h
    refine gz_sub (lw := [(0, .ref (gz_ad G 1000))]) [0] rfl ?_
    exact wb_X0_round_36 hX h hk
  · replace h := gz_if' g1 h
    refine gz_iload_n (pc := 4) hX dX0_round_4 rfl 1 rfl ?_
    refine gz_iconst (pc := 5) (v := (1 : Int32)) hX dX0_round_5 (by decide) ?_
    refine gz_aload_n (pc := 6) hX dX0_round_6 rfl 0 rfl ?_
    obtain ⟨⟨r2, m3⟩, c4, h⟩ := gz_bd h
    refine cc_X0_181 (pc := 7) hX (fun h => cz_k h rfl) c4 ⟨Nat.le_of_ble_eq_true rfl, Nat.le_of_ble_eq_true rfl⟩ (rest := [.int (1 : Int32), .int x1]) rfl (Nat.le_of_ble_eq_true rfl) dX0_round_7 ?_
    refine gz_ishl (pc := 10) hX dX0_round_10 ?_
    refine gz_icmp_ge (pc := 11) (tgt := 36) hX dX0_round_11 (by decide) (fun g5 => ?_) (fun g5 => ?_)
    · replace h := gz_it' g5 h
      refine gz_sub (lw := [(0, .ref (gz_ad G 1000))]) [0] rfl ?_
      exact wb_X0_round_36 hX h hk
    · replace h := gz_if' g5 h
      refine gz_iload_n (pc := 14) hX dX0_round_14 rfl 1 rfl ?_
      refine gz_aload_n (pc := 15) hX dX0_round_15 rfl 0 rfl ?_
      refine cg_X0_74_0 (pc := 16) hX (c := 1000) (v := .ref (gz_ad G 1027)) (fun h => cz_k h rfl) (fun h => cz_f h (by decide) rfl (by decide) rfl) dX0_round_16 ?_
      obtain ⟨⟨r6, m7⟩, c8, h⟩ := gz_bd h
      refine cc_X0_217 (pc := 19) hX (fun h => cz_k h rfl) (by decide) c8 ⟨Nat.le_of_ble_eq_true rfl, Nat.le_of_ble_eq_true rfl⟩ (rest := [.int x1]) rfl (Nat.le_of_ble_eq_true rfl) dX0_round_19 ?_
      refine gz_iconst (pc := 22) (v := (-1 : Int32)) hX dX0_round_22 (by decide) ?_
      refine gz_ixor (pc := 23) hX dX0_round_23 ?_
      refine gz_iand (pc := 24) hX dX0_round_24 ?_
      refine gz_if_ne (pc := 25) (tgt := 36) hX dX0_round_25 (by decide) (fun g9 => ?_) (fun g9 => ?_)
      · replace h := gz_if' g9 h
        refine gz_sub (lw := [(0, .ref (gz_ad G 1000))]) [0] rfl ?_
        exact wb_X0_round_36 hX h hk
      · replace h := gz_it' g9 h
        refine gz_iload_n (pc := 28) hX dX0_round_28 rfl 1 rfl ?_
        obtain ⟨⟨r10, m11⟩, c12, h⟩ := gz_bd h
        refine cc_X0_220 (pc := 29) hX c12 ⟨Nat.le_of_ble_eq_true rfl, Nat.le_of_ble_eq_true rfl⟩ (rest := []) rfl (Nat.le_of_ble_eq_true rfl) dX0_round_29 ?_
        refine gz_iconst (pc := 32) (v := (4 : Int32)) hX dX0_round_32 (by decide) ?_
        refine gz_icmp_le (pc := 33) (tgt := 38) hX dX0_round_33 (by decide) (fun g13 => ?_) (fun g13 => ?_)
        · replace h := gz_it' g13 h
          refine gz_iload_n (pc := 38) hX dX0_round_38 rfl 1 rfl ?_
          obtain ⟨⟨r14, m15⟩, c16, h⟩ := gz_bd h
          refine cc_X0_220 (pc := 39) hX c16 ⟨Nat.le_of_ble_eq_true rfl, Nat.le_of_ble_eq_true rfl⟩ (rest := []) rfl (Nat.le_of_ble_eq_true rfl) dX0_round_39 ?_
          refine gz_istore_n (pc := 42) (lw := [(3, .int r14), (0, .ref (gz_ad G 1000)), (1, .int x1), (2, .int x2)]) hX dX0_round_42 rfl (by decide) rfl ?_
          refine gz_iload_n (pc := 43) hX dX0_round_43 rfl 3 rfl ?_
          refine gz_iconst (pc := 44) (v := (-1 : Int32)) hX dX0_round_44 (by decide) ?_
          refine gz_iload_n (pc := 45) hX dX0_round_45 rfl 0 rfl ?_
          refine gz_iconst (pc := 46) (v := (1 : Int32)) hX dX0_round_46 (by decide) ?_
          refine gz_isub (pc := 47) hX dX0_round_47 ?_
          obtain ⟨⟨r17, m18⟩, c19, h⟩ := gz_bd h
          refine cc_X0_231 (pc := 48) hX c19 ⟨Nat.le_of_ble_eq_true rfl, Nat.le_of_ble_eq_true rfl⟩ (rest := []) rfl (Nat.le_of_ble_eq_true rfl) dX0_round_48 ?_
          refine gz_if_ne (pc := 51) (tgt := 56) hX dX0_round_51 (by decide) (fun g20 => ?_) (fun g20 => ?_)
          · replace h := gz_if' g20 h
            refine gz_aload_n (pc := 56) hX dX0_round_56 rfl 1 rfl ?_
            refine gz_ldc (pc := 57) (v := (100000000 : Int32)) hX q462 dX0_round_57 ?_
            obtain ⟨m21, em21, h⟩ := gz_lt h
            refine cp_X0_316_0 (pc := 59) hX (c := 1000) (fun h => cz_k h rfl) (Nat.le_of_ble_eq_true rfl) dX0_round_59 em21 ?_
            refine gz_aload_n (pc := 62) hX dX0_round_62 rfl 1 rfl ?_
            refine gz_iload_n (pc := 63) hX dX0_round_63 rfl 2 rfl ?_
            refine gz_iconst (pc := 64) (v := (0 : Int32)) hX dX0_round_64 (by decide) ?_
            refine gz_iload_n (pc := 65) hX dX0_round_65 rfl 0 rfl ?_
            obtain ⟨⟨⟨⟩, m23⟩, c24, h⟩ := gz_bd h
            refine cc_X0_322 (pc := 66) hX (fun h => cz_k h rfl) c24 ⟨Nat.le_of_ble_eq_true rfl, Nat.le_of_ble_eq_true rfl⟩ (rest := []) rfl (Nat.le_of_ble_eq_true rfl) dX0_round_66 ?_
            refine gz_aload_n (pc := 69) hX dX0_round_69 rfl 1 rfl ?_
            refine cg_X0_316_0 (pc := 70) hX (c := 1000) (v := .int (gI m23 1000 14)) (fun h => cz_k h rfl) (fun _ => rfl) dX0_round_70 ?_
            refine gz_ldc (pc := 73) (v := (100000000 : Int32)) hX q462 dX0_round_73 ?_
            refine gz_icmp_ne (pc := 75) (tgt := 82) hX dX0_round_75 (by decide) (fun g25 => ?_) (fun g25 => ?_)
            · replace h := gz_if' g25 h
              refine gz_iload_n (pc := 82) hX dX0_round_82 rfl 3 rfl ?_
              refine gz_iconst (pc := 83) (v := (-1 : Int32)) hX dX0_round_83 (by decide) ?_
              refine gz_icmp_ne (pc := 84) (tgt := 94) hX dX0_round_84 (by decide) (fun g26 => ?_) (fun g26 => ?_)
              · replace h := gz_if' g26 h
                refine gz_aload_n (pc := 94) hX dX0_round_94 rfl 1 rfl ?_
                refine cg_X0_87_0 (pc := 95) hX (c := 1000) (v := .ref (gz_ad G 1120)) (fun h => cz_k h rfl) (fun h => cz_f h (by decide) rfl (by decide) rfl) dX0_round_95 ?_
                refine gz_iload_n (pc := 98) hX dX0_round_98 rfl 3 rfl ?_
                obtain ⟨g27, h⟩ := gz_gu h
                refine gz_iald2 (pc := 99) (c := 1120) (n := 4) hX rfl (fun h => cz_a h rfl (by decide) rfl) g27 dX0_round_99 ?_
                obtain rfl := Option.some.inj h
                exact hk _ _ dX0_round_100
              · replace h := gz_it' g26 h
                refine gz_aload_n (pc := 87) hX dX0_round_87 rfl 1 rfl ?_
                refine cg_X0_316_0 (pc := 88) hX (c := 1000) (v := .int (gI m23 1000 14)) (fun h => cz_k h rfl) (fun _ => rfl) dX0_round_88 ?_
                refine gz_goto (pc := 91) (tgt := 100) hX dX0_round_91 (by decide) ?_
                obtain rfl := Option.some.inj h
                exact hk _ _ dX0_round_100
            · replace h := gz_it' g25 h
              refine gz_iconst (pc := 78) (v := (-1 : Int32)) hX dX0_round_78 (by decide) ?_
              refine gz_goto (pc := 79) (tgt := 100) hX dX0_round_79 (by decide) ?_
              obtain rfl := Option.some.inj h
              exact hk _ _ dX0_round_100
          · replace h := gz_it' g20 h
            refine gz_iconst (pc := 54) (v := (-1 : Int32)) hX dX0_round_54 (by decide) ?_
            obtain rfl := Option.some.inj h
            exact hk _ _ dX0_round_55
        · replace h := gz_if' g13 h
          refine gz_sub (lw := [(0, .ref (gz_ad G 1000))]) [0] rfl ?_
          exact wb_X0_round_36 hX h hk
theorem ct_X0_round {G : gz_G} {l : Launch} {x1 : Int32} {x2 : Int32}  {m m9 : gM} {r : Int32} (h : cf_X0_round x1 x2 m = some (r, m9)) : gz_Met cS G l yX0_round cX0_round 4 (some .int) (mRm 127 4264) [.ref (gz_ad G 1000), .int x1, .int x2] m m9 (some (.int r)) :=
  gz_ofI (by decide +kernel) (Nat.le_of_ble_eq_true rfl) fun X _ hX hk => wm_X0_round hX h hk
/-- the reader's atom, at most d deep -/
noncomputable def crA : Nat → gM → Option (Option Nat × gM)
  | 0 => fun _ => none
  | d + 1 => cf_X2_atom (crA d)
theorem crA_ok {G : gz_G} {l : Launch} : ∀ d : Nat, cOA G l (60 + 4 * d) (1500 + 160 * d) (crA d)
  | 0 => fun _ _ _ h => by simp [crA] at h
  | d + 1 => by
    have ih := crA_ok (G := G) (l := l) d
    intro m m9 o h
    have h9 := ct_X2_atom (l := l) (f := 60 + 4 * d) (n := 1500 + 160 * d) (by omega) (by omega) ih h
    have e1 : 60 + 4 * (d + 1) = 60 + 4 * d + 4 := by omega
    have e2 : 1500 + 160 * (d + 1) = 1500 + 160 * d + 160 := by omega
    rw [e1, e2]
    exact h9
theorem cl_s_X2_322 {X : gz_X} {G : gz_G} {cc : ByteArray} {nL : Nat} {own : String} {fr lo : Nat} (hX : gz_C cS X G cc nL own fr lo) : vk_R RX2 322 "not" (gz_ad G 154) X.2.2.2.2.1 := (cz_s hX).1 _ (List.mem_of_getElem? (show cKs[47]? = some ("FirstSnuffer$Reader", 322, "not", 154) from rfl))
theorem cl_s_X2_329 {X : gz_X} {G : gz_G} {cc : ByteArray} {nL : Nat} {own : String} {fr lo : Nat} (hX : gz_C cS X G cc nL own fr lo) : vk_R RX2 329 "all" (gz_ad G 156) X.2.2.2.2.1 := (cz_s hX).1 _ (List.mem_of_getElem? (show cKs[48]? = some ("FirstSnuffer$Reader", 329, "all", 156) from rfl))
theorem cc_X2_236 {X : gz_X} {G : gz_G} {cc : ByteArray} {nL fr lo pc : Nat} {rem : Nat × Nat} {lv : List (Nat × Value)} {rest st0 : List Value} (hX : gz_C cS X G cc nL RX2 fr lo)  {m m9 : gM} (hK : clc m.1 m.2.1 m.2.2.2.2.1 → m.1 1011 = 2 + 1)  {r : Nat} (h : cf_X2_sum (crA 8)  m = some (some r, m9)) (hroom : 94 + 1 ≤ fr ∧ 8 + (3 + 11) + 2860 ≤ lo) (hst : st0 = [.ref (gz_ad G 1011)] ++ rest) (hW : (rest.map fun v => v.category).sum ≤ 8) (hd : decode cc pc = .ok (.invokevirtual 236, 3)) (kk : gz_V cS X G nL rem m9 (pc + 3) lv (.ref (gz_ad G r) :: rest)) : gz_V cS X G nL (rem.1 + (gZ m9 - gZ m), rem.2 + (gW m9 - gW m)) m pc lv st0 :=
  gz_callX hX cs_E (As := []) (rest := rest) (q := (RX2, TX2, 8)) (ci := 2) (c := 1011) (ct_X2_sum (l := X.2.1) (f := 92) (n := 2780) (by decide) (by decide) (crA_ok 8) h) (lw_V q1030 q1032 qs25 q172 q1033) (n := 0) (by decide +kernel) hroom rfl rfl (by decide) hK hst hW hd (rem := rem) (fun rv e => by obtain rfl := Option.some.inj e; exact kk) (fun e => by simp at e)
theorem cc_X2_236x {X : gz_X} {G : gz_G} {cc : ByteArray} {nL fr lo pc : Nat} {rem : Nat × Nat} {lv : List (Nat × Value)} {rest st0 : List Value} (hX : gz_C cS X G cc nL RX2 fr lo)  {m m9 : gM} (hK : clc m.1 m.2.1 m.2.2.2.2.1 → m.1 1011 = 2 + 1)  (h : cf_X2_sum (crA 8)  m = some (none, m9)) (hroom : 94 + 1 ≤ fr ∧ 8 + (3 + 11) + 2860 ≤ lo) (hst : st0 = [.ref (gz_ad G 1011)] ++ rest) (hW : (rest.map fun v => v.category).sum ≤ 8) (hd : decode cc pc = .ok (.invokevirtual 236, 3)) (kk : gz_VX cS X G nL rem m9 pc lv) : gz_V cS X G nL (rem.1 + (gZ m9 - gZ m), rem.2 + (gW m9 - gW m)) m pc lv st0 :=
  gz_callX hX cs_E (As := []) (rest := rest) (q := (RX2, TX2, 8)) (ci := 2) (c := 1011) (ct_X2_sum (l := X.2.1) (f := 92) (n := 2780) (by decide) (by decide) (crA_ok 8) h) (lw_V q1030 q1032 qs25 q172 q1033) (n := 0) (by decide +kernel) hroom rfl rfl (by decide) hK hst hW hd (rem := rem) (fun rv e => by simp at e) (fun _ => kk)
theorem cn_X2_334 {X : gz_X} {G : gz_G} {cc : ByteArray} {nL fr lo pc : Nat} {rem : Nat × Nat} {m m9 : gM} {lv : List (Nat × Value)} {st : List Value} (hX : gz_C cS X G cc nL RX2 fr lo) (hz : gZ m ≠ 0) (hd : decode cc pc = .ok (.new 334, 3)) (hm : m9 = gz_al m (18 + 1) 0 3) (kk : gz_V cS X G nL rem m9 (pc + 3) lv (.ref (gz_ad G (gZ m)) :: st)) : gz_V cS X G nL (rem.1 + 1, rem.2 + 3) m pc lv st :=
  gz_new hX (C := RX21) (T := TX21) (N := 3) (ci := 18) rfl (by decide) in_X21 tyX21 tyX21_ok (by decide +kernel) q1279 q1280 q205 hz clc_al hd hm kk
theorem cc_X2_336 {X : gz_X} {G : gz_G} {cc : ByteArray} {nL fr lo pc : Nat} {rem : Nat × Nat} {lv : List (Nat × Value)} {rest st0 : List Value} (hX : gz_C cS X G cc nL RX2 fr lo) {c0 : Nat} {c1 : Nat} {x2 : Int32} {c3 : Nat} {m m9 : gM}  (h : cf_X21_init c0 c1 x2 c3 m = some ((), m9)) (hroom : 2 + 1 ≤ fr ∧ 8 + (4 + 11) + 40 ≤ lo) (hst : st0 = [.ref (gz_ad G c3), .int x2, .ref (gz_ad G c1), .ref (gz_ad G c0)] ++ rest) (hW : (rest.map fun v => v.category).sum ≤ 8) (hd : decode cc pc = .ok (.invokespecial 336, 3)) (kk : gz_V cS X G nL rem m9 (pc + 3) lv (rest)) : gz_V cS X G nL rem m pc lv st0 :=
  gz_callI hX cs_E (As := [.ref (gz_ad G c1), .int x2, .ref (gz_ad G c3)]) (rest := rest) (c := c0) (ct_X21_init (l := X.2.1) h) q1283 q205 q1281 q1282 rfl (n := 3) (by decide +kernel) hroom rfl hst hW hd (rem := rem) kk
theorem cn_X2_331 {X : gz_X} {G : gz_G} {cc : ByteArray} {nL fr lo pc : Nat} {rem : Nat × Nat} {m m9 : gM} {lv : List (Nat × Value)} {st : List Value} (hX : gz_C cS X G cc nL RX2 fr lo) (hz : gZ m ≠ 0) (hd : decode cc pc = .ok (.new 331, 3)) (hm : m9 = gz_al m (17 + 1) 0 0) (kk : gz_V cS X G nL rem m9 (pc + 3) lv (.ref (gz_ad G (gZ m)) :: st)) : gz_V cS X G nL (rem.1 + 1, rem.2 + 0) m pc lv st :=
  gz_new hX (C := RX20) (T := TX20) (N := 0) (ci := 17) rfl (by decide) in_X20 (fun _ => FieldType.int) (fun k h => absurd h (Nat.not_lt_zero k)) (by decide +kernel) q1272 q1273 q204 hz clc_al hd hm kk
theorem cc_X2_333 {X : gz_X} {G : gz_G} {cc : ByteArray} {nL fr lo pc : Nat} {rem : Nat × Nat} {lv : List (Nat × Value)} {rest st0 : List Value} (hX : gz_C cS X G cc nL RX2 fr lo) {c0 : Nat} {m m9 : gM}  (h : cf_X20_init c0 m = some ((), m9)) (hroom : 2 + 1 ≤ fr ∧ 8 + (1 + 11) + 40 ≤ lo) (hst : st0 = [.ref (gz_ad G c0)] ++ rest) (hW : (rest.map fun v => v.category).sum ≤ 8) (hd : decode cc pc = .ok (.invokespecial 333, 3)) (kk : gz_V cS X G nL rem m9 (pc + 3) lv (rest)) : gz_V cS X G nL rem m pc lv st0 :=
  gz_callIN hX cs_E (As := []) (rest := rest) (c := c0) (ct_X20_init (l := X.2.1) h) q1276 (cz_n (Z := cS) hX q1274 rfl) q204 q1275 rfl (n := 0) (by decide +kernel) hroom rfl hst hW hd (rem := rem) kk
theorem cn_X2_324 {X : gz_X} {G : gz_G} {cc : ByteArray} {nL fr lo pc : Nat} {rem : Nat × Nat} {m m9 : gM} {lv : List (Nat × Value)} {st : List Value} (hX : gz_C cS X G cc nL RX2 fr lo) (hz : gZ m ≠ 0) (hd : decode cc pc = .ok (.new 324, 3)) (hm : m9 = gz_al m (16 + 1) 0 1) (kk : gz_V cS X G nL rem m9 (pc + 3) lv (.ref (gz_ad G (gZ m)) :: st)) : gz_V cS X G nL (rem.1 + 1, rem.2 + 1) m pc lv st :=
  gz_new hX (C := RX19) (T := TX19) (N := 1) (ci := 16) rfl (by decide) in_X19 tyX19 tyX19_ok (by decide +kernel) q1261 q1262 q203 hz clc_al hd hm kk
theorem cc_X2_326 {X : gz_X} {G : gz_G} {cc : ByteArray} {nL fr lo pc : Nat} {rem : Nat × Nat} {lv : List (Nat × Value)} {rest st0 : List Value} (hX : gz_C cS X G cc nL RX2 fr lo) {c0 : Nat} {c1 : Nat} {m m9 : gM}  (h : cf_X19_init c0 c1 m = some ((), m9)) (hroom : 2 + 1 ≤ fr ∧ 8 + (2 + 11) + 40 ≤ lo) (hst : st0 = [.ref (gz_ad G c1), .ref (gz_ad G c0)] ++ rest) (hW : (rest.map fun v => v.category).sum ≤ 8) (hd : decode cc pc = .ok (.invokespecial 326, 3)) (kk : gz_V cS X G nL rem m9 (pc + 3) lv (rest)) : gz_V cS X G nL rem m pc lv st0 :=
  gz_callI hX cs_E (As := [.ref (gz_ad G c1)]) (rest := rest) (c := c0) (ct_X19_init (l := X.2.1) h) q1265 q203 q1263 q1264 rfl (n := 1) (by decide +kernel) hroom rfl hst hW hd (rem := rem) kk
theorem cc_X2_243i {X : gz_X} {G : gz_G} {cc : ByteArray} {nL fr lo pc : Nat} {rem : Nat × Nat} {lv : List (Nat × Value)} {rest st0 : List Value} (hX : gz_C cS X G cc nL RX2 fr lo)  {m m9 : gM} (hK : clc m.1 m.2.1 m.2.2.2.2.1 → m.1 1011 = 2 + 1)  {oR : gM → Option (Option Nat × gM)} {f n : Nat} (h1 : 120 ≤ f) (h2 : 4000 ≤ n) (hO : cOF G X.2.1 f n oR) {r : Nat} (h : cf_X2_test oR  m = some (some r, m9)) (hroom : (f + 2) + 1 ≤ fr ∧ 8 + (2 + 11) + (n + 80) ≤ lo) (hst : st0 = [.ref (gz_ad G 1011)] ++ rest) (hW : (rest.map fun v => v.category).sum ≤ 8) (hd : decode cc pc = .ok (.invokevirtual 243, 3)) (kk : gz_V cS X G nL rem m9 (pc + 3) lv (.ref (gz_ad G r) :: rest)) : gz_V cS X G nL (rem.1 + (gZ m9 - gZ m), rem.2 + (gW m9 - gW m)) m pc lv st0 :=
  gz_callX hX cs_E (As := []) (rest := rest) (q := (RX2, TX2, 8)) (ci := 2) (c := 1011) (ct_X2_test (l := X.2.1) h1 h2 hO h) (lw_V q1225 q1227 qs33 q172 q1228) (n := 0) (by decide +kernel) hroom rfl rfl (by decide) hK hst hW hd (rem := rem) (fun rv e => by obtain rfl := Option.some.inj e; exact kk) (fun e => by simp at e)
theorem cc_X2_243ix {X : gz_X} {G : gz_G} {cc : ByteArray} {nL fr lo pc : Nat} {rem : Nat × Nat} {lv : List (Nat × Value)} {rest st0 : List Value} (hX : gz_C cS X G cc nL RX2 fr lo)  {m m9 : gM} (hK : clc m.1 m.2.1 m.2.2.2.2.1 → m.1 1011 = 2 + 1)  {oR : gM → Option (Option Nat × gM)} {f n : Nat} (h1 : 120 ≤ f) (h2 : 4000 ≤ n) (hO : cOF G X.2.1 f n oR) (h : cf_X2_test oR  m = some (none, m9)) (hroom : (f + 2) + 1 ≤ fr ∧ 8 + (2 + 11) + (n + 80) ≤ lo) (hst : st0 = [.ref (gz_ad G 1011)] ++ rest) (hW : (rest.map fun v => v.category).sum ≤ 8) (hd : decode cc pc = .ok (.invokevirtual 243, 3)) (kk : gz_VX cS X G nL rem m9 pc lv) : gz_V cS X G nL (rem.1 + (gZ m9 - gZ m), rem.2 + (gW m9 - gW m)) m pc lv st0 :=
  gz_callX hX cs_E (As := []) (rest := rest) (q := (RX2, TX2, 8)) (ci := 2) (c := 1011) (ct_X2_test (l := X.2.1) h1 h2 hO h) (lw_V q1225 q1227 qs33 q172 q1228) (n := 0) (by decide +kernel) hroom rfl rfl (by decide) hK hst hW hd (rem := rem) (fun rv e => by simp at e) (fun _ => kk)
/-! FirstSnuffer$Reader.fact()LFirstSnuffer$Test; -/
noncomputable def mj_X2_fact_148 (oR : gM → Option (Option Nat × gM)) (c1 : Nat) (x2 : Int32) (m : gM) : Option (Option Nat × gM) :=
  gz_let (gz_sI m 1011 2 ((gI m 1011 2) + (1 : Int32))) fun m1 => (if gZ m1 ≠ 0 then gz_let (gz_al m1 (18 + 1) 0 3) fun m3 => ((cf_X2_sum (crA 8)  m3).bind fun (o7, m5) => (if gZ m3 ≤ gZ m5 ∧ gW m3 ≤ gW m5 then gx_o o7 (fun r4 => ((cf_X21_init (gZ m1) c1 x2 r4 m5).bind fun (_, m10) => (if m10.2.2.2.2.2 = m5.2.2.2.2.2 then some (some (gZ m1), m10) else none))) (some (none, m5)) else none)) else none)
theorem wb_X2_fact_148 {X : gz_X} {G : gz_G} {zE : Nat × Nat} {oR : gM → Option (Option Nat × gM)} {f n : Nat} (hX : gz_C cS X G cX2_fact 3 RX2 (f + 3) (n + 120)) (h1 : 120 ≤ f) (h2 : 4000 ≤ n) (hO : cOF G X.2.1 f n oR) {c1 : Nat} {x2 : Int32}  {m : gM} {z : (Option Nat × gM)} (h : mj_X2_fact_148 oR c1 x2 m = some z) (hk : (fun z : (Option Nat × gM) => gx_k (fun r => gz_kRa cS X G 3 zE cX2_fact z.2 r) (∀ (pc : Nat) (lv : List (Nat × Value)), gz_VXa cS X G 3 zE z.2 pc lv) z.1) z) : gz_Va cS X G 3 zE m 148 [(0, .ref (gz_ad G 1011)), (1, .ref (gz_ad G c1)), (2, .int x2)] [] := by
  unfold mj_X2_fact_148 at h
  refine gz_Vs (fun _ kk => gz_aload_n (pc := 148) hX dX2_fact_148 rfl 0 rfl kk) rfl ?_
  refine gz_Vs (fun _ kk => gz_dup (pc := 149) hX dX2_fact_149 rfl kk) rfl ?_
  refine gz_Vs (fun _ kk => cg_X2_36_2 (pc := 150) hX (c := 1011) (v := .int (gI m 1011 2)) (fun h => cz_k h rfl) (fun _ => rfl) dX2_fact_150 kk) rfl ?_
  refine gz_Vs (fun _ kk => gz_iconst (pc := 153) (v := (1 : Int32)) hX dX2_fact_153 (by decide) kk) rfl ?_
  refine gz_Vs (fun _ kk => gz_iadd (pc := 154) hX dX2_fact_154 kk) rfl ?_
  obtain ⟨m1, em1, h⟩ := gz_lt h
  refine gz_Vs (fun _ kk => cp_X2_36_2 (pc := 155) hX (c := 1011) (fun h => cz_k h rfl) (Nat.le_of_ble_eq_true rfl) dX2_fact_155 em1 kk) (by rw [em1]; rfl) ?_
  obtain ⟨g2, h⟩ := gz_gu h
  obtain ⟨m3, em3, h⟩ := gz_lt h
  refine gz_Vn (fun _ kk => cn_X2_334 (pc := 158) hX g2 dX2_fact_158 em3 kk) em3 ?_
  refine gz_Vs (fun _ kk => gz_dup (pc := 161) hX dX2_fact_161 rfl kk) rfl ?_
  refine gz_Vs (fun _ kk => gz_aload_n (pc := 162) hX dX2_fact_162 rfl 1 rfl kk) rfl ?_
  refine gz_Vs (fun _ kk => gz_iload_n (pc := 163) hX dX2_fact_163 rfl 2 rfl kk) rfl ?_
  refine gz_Vs (fun _ kk => gz_aload_n (pc := 164) hX dX2_fact_164 rfl 0 rfl kk) rfl ?_
  obtain ⟨⟨o7, m5⟩, c6, h⟩ := gz_bd h
  obtain ⟨g8, h⟩ := gz_gu h
  cases o7 with
  | none =>
    replace h := gx_on h
    obtain rfl := Option.some.inj h
    exact gz_Vcx (k := gZ m5 - gZ m3) (n := gW m5 - gW m3) (fun _ kk => cc_X2_236x (pc := 165) hX (fun h => cz_k h rfl) c6 ⟨by omega, by omega⟩ (rest := [.int x2, .ref (gz_ad G c1), .ref (gz_ad G (gZ m1)), .ref (gz_ad G (gZ m1))]) rfl (Nat.le_of_ble_eq_true rfl) dX2_fact_165 kk) ⟨by have := g8.1; dsimp only [gZ] at *; omega, by have := g8.2; dsimp only [gW] at *; omega⟩ (hk _ _)
  | some r4 =>
    replace h := gx_os h
    refine gz_Vc (k := gZ m5 - gZ m3) (n := gW m5 - gW m3) (fun _ kk => cc_X2_236 (pc := 165) hX (fun h => cz_k h rfl) c6 ⟨by omega, by omega⟩ (rest := [.int x2, .ref (gz_ad G c1), .ref (gz_ad G (gZ m1)), .ref (gz_ad G (gZ m1))]) rfl (Nat.le_of_ble_eq_true rfl) dX2_fact_165 kk) ⟨by have := g8.1; dsimp only [gZ] at *; omega, by have := g8.2; dsimp only [gW] at *; omega⟩ ?_
    obtain ⟨⟨⟨⟩, m10⟩, c11, h⟩ := gz_bd h
    obtain ⟨g12, h⟩ := gz_gu h
    refine gz_Vs (fun _ kk => cc_X2_336 (pc := 168) hX c11 ⟨by omega, by omega⟩ (rest := [.ref (gz_ad G (gZ m1))]) rfl (Nat.le_of_ble_eq_true rfl) dX2_fact_168 kk) g12 ?_
    obtain rfl := Option.some.inj h
    exact hk _ _ dX2_fact_171
noncomputable def cf_X2_fact (oR : gM → Option (Option Nat × gM))  (m : gM) : Option (Option Nat × gM) :=
  ((cf_X2_here m).bind fun (r1, m2) => (if m2.2.2.2.2.2 = m.2.2.2.2.2 then (if r1 = (91 : Int32) then ((cf_X2_opens (gI m2 1011 2) m2).bind fun (o61, m59) => (if gZ m2 ≤ gZ m59 ∧ gW m2 ≤ gW m59 then gx_o o61 (fun r58 => gz_let (gz_sI m59 1011 2 ((gI m59 1011 2) + (1 : Int32))) fun m63 => ((cf_X2_test oR  m63).bind fun (o67, m65) => (if gZ m63 ≤ gZ m65 ∧ gW m63 ≤ gW m65 then gx_o o67 (fun r64 => ((cf_X2_must (93 : Int32) m65).bind fun (o72, m70) => (if gZ m65 ≤ gZ m70 ∧ gW m65 ≤ gW m70 then gx_o o72 (fun r69 => gz_let (gz_sI m70 1011 4 ((gI m70 1011 4) - (1 : Int32))) fun m74 => some (some r64, m74)) (some (none, m70)) else none))) (some (none, m65)) else none))) (some (none, m59)) else none)) else ((cf_X2_passes 154 m2).bind fun (o9, m7) => (if gZ m2 ≤ gZ m7 ∧ gW m2 ≤ gW m7 then gx_o o9 (fun r6 => (if r6 = (0 : Int32) then ((cf_X2_passes 156 m7).bind fun (o15, m13) => (if gZ m7 ≤ gZ m13 ∧ gW m7 ≤ gW m13 then gx_o o15 (fun r12 => (if r12 = (0 : Int32) then ((cf_X2_sum (crA 8)  m13).bind fun (o21, m19) => (if gZ m13 ≤ gZ m19 ∧ gW m13 ≤ gW m19 then gx_o o21 (fun r18 => ((cf_X2_here m19).bind fun (r23, m24) => (if m24.2.2.2.2.2 = m19.2.2.2.2.2 then (if r23 = (60 : Int32) then (mj_X2_fact_148 oR r18 r23 m24) else (if r23 = (62 : Int32) then (mj_X2_fact_148 oR r18 r23 m24) else (if r23 = (61 : Int32) then (mj_X2_fact_148 oR r18 r23 m24) else ((cf_X2_wrong (1 : Int32) (gI m24 1011 2) m24).bind fun (r30, m31) => (if m31.2.2.2.2.2 = m24.2.2.2.2.2 then (if r30 = 1012 then some (none, m31) else none) else none))))) else none))) (some (none, m19)) else none)) else (if gZ m13 ≠ 0 then gz_let (gz_al m13 (17 + 1) 0 0) fun m36 => ((cf_X20_init (gZ m13) m36).bind fun (_, m38) => (if m38.2.2.2.2.2 = m36.2.2.2.2.2 then some (some (gZ m13), m38) else none)) else none))) (some (none, m13)) else none)) else ((cf_X2_opens (gI m7 1011 3) m7).bind fun (o44, m42) => (if gZ m7 ≤ gZ m42 ∧ gW m7 ≤ gW m42 then gx_o o44 (fun r41 => (if gZ m42 ≠ 0 then gz_let (gz_al m42 (16 + 1) 0 1) fun m47 => ((oR  m47).bind fun (o51, m49) => (if gZ m47 ≤ gZ m49 ∧ gW m47 ≤ gW m49 then gx_o o51 (fun r48 => ((cf_X19_init (gZ m42) r48 m49).bind fun (_, m54) => (if m54.2.2.2.2.2 = m49.2.2.2.2.2 then gz_let (gz_sI m54 1011 4 ((gI m54 1011 4) - (1 : Int32))) fun m57 => some (some (gZ m42), m57) else none))) (some (none, m49)) else none)) else none)) (some (none, m42)) else none)))) (some (none, m7)) else none))) else none))
theorem wm_X2_fact {X : gz_X} {G : gz_G} {zE : Nat × Nat} {oR : gM → Option (Option Nat × gM)} {f n : Nat} (hX : gz_C cS X G cX2_fact 3 RX2 (f + 3) (n + 120)) (h1 : 120 ≤ f) (h2 : 4000 ≤ n) (hO : cOF G X.2.1 f n oR)   {m : gM} {z : (Option Nat × gM)} (h : cf_X2_fact oR  m = some z) (hk : (fun z : (Option Nat × gM) => gx_k (fun r => gz_kRa cS X G 3 zE cX2_fact z.2 r) (∀ (pc : Nat) (lv : List (Nat × Value)), gz_VXa cS X G 3 zE z.2 pc lv) z.1) z) : gz_Va cS X G 3 zE m 0 [(0, .ref (gz_ad G 1011))] [] := by
  unfold cf_X2_fact at h
  refine gz_Vs (fun _ kk => gz_aload_n (pc := 0) hX dX2_fact_0 rfl 0 rfl kk) rfl ?_
  obtain ⟨⟨r1, m2⟩, c3, h⟩ := gz_bd h
  obtain ⟨g4, h⟩ := gz_gu h
  refine gz_Vs (fun _ kk => cc_X2_43 (pc := 1) hX (fun h => cz_k h rfl) c3 ⟨by omega, by omega⟩ (rest := []) rfl (Nat.le_of_ble_eq_true rfl) dX2_fact_1 kk) g4 ?_
  refine gz_Vs (fun _ kk => gz_bipush (pc := 4) (v := (91 : Int32)) hX dX2_fact_4 (by decide) kk) rfl ?_
  refine gz_Vif (μ1 := m) (μ2 := m) (fun _ k1 k2 => gz_icmp_ne (pc := 6) (tgt := 50) hX dX2_fact_6 (by decide) k1 k2) (by first | exact Classical.em _ | exact (Classical.em _).symm) (fun g5 => ?_) (fun g5 => ?_)
  · replace h := gz_if' g5 h
    refine gz_Vs (fun _ kk => gz_aload_n (pc := 50) hX dX2_fact_50 rfl 0 rfl kk) rfl ?_
    refine gz_Vs (fun _ kk => gz_ldcwS (pc := 51) (tx := "not") (c := 154) hX (cl_s_X2_322 hX) dX2_fact_51 kk) rfl ?_
    obtain ⟨⟨o9, m7⟩, c8, h⟩ := gz_bd h
    obtain ⟨g10, h⟩ := gz_gu h
    cases o9 with
    | none =>
      replace h := gx_on h
      obtain rfl := Option.some.inj h
      exact gz_Vcx (k := gZ m7 - gZ m2) (n := gW m7 - gW m2) (fun _ kk => cc_X2_314x (pc := 54) hX (fun h => cz_k h rfl) c8 ⟨by omega, by omega⟩ (rest := []) rfl (Nat.le_of_ble_eq_true rfl) dX2_fact_54 kk) ⟨by have := g10.1; dsimp only [gZ] at *; omega, by have := g10.2; dsimp only [gW] at *; omega⟩ (hk _ _)
    | some r6 =>
      replace h := gx_os h
      refine gz_Vc (k := gZ m7 - gZ m2) (n := gW m7 - gW m2) (fun _ kk => cc_X2_314 (pc := 54) hX (fun h => cz_k h rfl) c8 ⟨by omega, by omega⟩ (rest := []) rfl (Nat.le_of_ble_eq_true rfl) dX2_fact_54 kk) ⟨by have := g10.1; dsimp only [gZ] at *; omega, by have := g10.2; dsimp only [gW] at *; omega⟩ ?_
      refine gz_Vif (μ1 := m) (μ2 := m) (fun _ k1 k2 => gz_if_eq (pc := 57) (tgt := 92) hX dX2_fact_57 (by decide) k1 k2) (by first | exact Classical.em _ | exact (Classical.em _).symm) (fun g11 => ?_) (fun g11 => ?_)
      · replace h := gz_it' g11 h
        refine gz_Vs (fun _ kk => gz_aload_n (pc := 92) hX dX2_fact_92 rfl 0 rfl kk) rfl ?_
        refine gz_Vs (fun _ kk => gz_ldcwS (pc := 93) (tx := "all") (c := 156) hX (cl_s_X2_329 hX) dX2_fact_93 kk) rfl ?_
        obtain ⟨⟨o15, m13⟩, c14, h⟩ := gz_bd h
        obtain ⟨g16, h⟩ := gz_gu h
        cases o15 with
        | none =>
          replace h := gx_on h
          obtain rfl := Option.some.inj h
          exact gz_Vcx (k := gZ m13 - gZ m7) (n := gW m13 - gW m7) (fun _ kk => cc_X2_314x (pc := 96) hX (fun h => cz_k h rfl) c14 ⟨by omega, by omega⟩ (rest := []) rfl (Nat.le_of_ble_eq_true rfl) dX2_fact_96 kk) ⟨by have := g16.1; dsimp only [gZ] at *; omega, by have := g16.2; dsimp only [gW] at *; omega⟩ (hk _ _)
        | some r12 =>
          replace h := gx_os h
          refine gz_Vc (k := gZ m13 - gZ m7) (n := gW m13 - gW m7) (fun _ kk => cc_X2_314 (pc := 96) hX (fun h => cz_k h rfl) c14 ⟨by omega, by omega⟩ (rest := []) rfl (Nat.le_of_ble_eq_true rfl) dX2_fact_96 kk) ⟨by have := g16.1; dsimp only [gZ] at *; omega, by have := g16.2; dsimp only [gW] at *; omega⟩ ?_
          refine gz_Vif (μ1 := m) (μ2 := m) (fun _ k1 k2 => gz_if_eq (pc := 99) (tgt := 110) hX dX2_fact_99 (by decide) k1 k2) (by first | exact Classical.em _ | exact (Classical.em _).symm) (fun g17 => ?_) (fun g17 => ?_)
          · replace h := gz_it' g17 h
            refine gz_Vs (fun _ kk => gz_aload_n (pc := 110) hX dX2_fact_110 rfl 0 rfl kk) rfl ?_
            obtain ⟨⟨o21, m19⟩, c20, h⟩ := gz_bd h
            obtain ⟨g22, h⟩ := gz_gu h
            cases o21 with
            | none =>
              replace h := gx_on h
              obtain rfl := Option.some.inj h
              exact gz_Vcx (k := gZ m19 - gZ m13) (n := gW m19 - gW m13) (fun _ kk => cc_X2_236x (pc := 111) hX (fun h => cz_k h rfl) c20 ⟨by omega, by omega⟩ (rest := []) rfl (Nat.le_of_ble_eq_true rfl) dX2_fact_111 kk) ⟨by have := g22.1; dsimp only [gZ] at *; omega, by have := g22.2; dsimp only [gW] at *; omega⟩ (hk _ _)
            | some r18 =>
              replace h := gx_os h
              refine gz_Vc (k := gZ m19 - gZ m13) (n := gW m19 - gW m13) (fun _ kk => cc_X2_236 (pc := 111) hX (fun h => cz_k h rfl) c20 ⟨by omega, by omega⟩ (rest := []) rfl (Nat.le_of_ble_eq_true rfl) dX2_fact_111 kk) ⟨by have := g22.1; dsimp only [gZ] at *; omega, by have := g22.2; dsimp only [gW] at *; omega⟩ ?_
              refine gz_Vs (fun _ kk => gz_astore_n (pc := 114) (lw := [(1, .ref (gz_ad G r18)), (0, .ref (gz_ad G 1011))]) hX dX2_fact_114 rfl (by decide) rfl kk) rfl ?_
              refine gz_Vs (fun _ kk => gz_aload_n (pc := 115) hX dX2_fact_115 rfl 1 rfl kk) rfl ?_
              obtain ⟨⟨r23, m24⟩, c25, h⟩ := gz_bd h
              obtain ⟨g26, h⟩ := gz_gu h
              refine gz_Vs (fun _ kk => cc_X2_43 (pc := 116) hX (fun h => cz_k h rfl) c25 ⟨by omega, by omega⟩ (rest := []) rfl (Nat.le_of_ble_eq_true rfl) dX2_fact_116 kk) g26 ?_
              refine gz_Vs (fun _ kk => gz_istore_n (pc := 119) (lw := [(2, .int r23), (1, .ref (gz_ad G r18)), (0, .ref (gz_ad G 1011))]) hX dX2_fact_119 rfl (by decide) rfl kk) rfl ?_
              refine gz_Vs (fun _ kk => gz_iload_n (pc := 120) hX dX2_fact_120 rfl 0 rfl kk) rfl ?_
              refine gz_Vs (fun _ kk => gz_bipush (pc := 121) (v := (60 : Int32)) hX dX2_fact_121 (by decide) kk) rfl ?_
              refine gz_Vif (μ1 := m) (μ2 := m) (fun _ k1 k2 => gz_icmp_eq (pc := 123) (tgt := 148) hX dX2_fact_123 (by decide) k1 k2) (by first | exact Classical.em _ | exact (Classical.em _).symm) (fun g27 => ?_) (fun g27 => ?_)
              · replace h := gz_it' g27 h
                refine gz_Vs (fun _ kk => gz_sub (lw := [(0, .ref (gz_ad G 1011)), (1, .ref (gz_ad G r18)), (2, .int r23)]) [2, 1, 0] rfl kk) rfl ?_
                exact wb_X2_fact_148 hX h1 h2 hO h hk
              · replace h := gz_if' g27 h
                refine gz_Vs (fun _ kk => gz_iload_n (pc := 126) hX dX2_fact_126 rfl 0 rfl kk) rfl ?_
                refine gz_Vs (fun _ kk => gz_bipush (pc := 127) (v := (62 : Int32)) hX dX2_fact_127 (by decide) kk) rfl ?_
                refine gz_Vif (μ1 := m) (μ2 := m) (fun _ k1 k2 => gz_icmp_eq (pc := 129) (tgt := 148) hX dX2_fact_129 (by decide) k1 k2) (by first | exact Classical.em _ | exact (Classical.em _).symm) (fun g28 => ?_) (fun g28 => ?_)
                · replace h := gz_it' g28 h
                  refine gz_Vs (fun _ kk => gz_sub (lw := [(0, .ref (gz_ad G 1011)), (1, .ref (gz_ad G r18)), (2, .int r23)]) [2, 1, 0] rfl kk) rfl ?_
                  exact wb_X2_fact_148 hX h1 h2 hO h hk
                · replace h := gz_if' g28 h
                  refine gz_Vs (fun _ kk => gz_iload_n (pc := 132) hX dX2_fact_132 rfl 0 rfl kk) rfl ?_
                  refine gz_Vs (fun _ kk => gz_bipush (pc := 133) (v := (61 : Int32)) hX dX2_fact_133 (by decide) kk) rfl ?_
                  refine gz_Vif (μ1 := m) (μ2 := m) (fun _ k1 k2 => gz_icmp_eq (pc := 135) (tgt := 148) hX dX2_fact_135 (by decide) k1 k2) (by first | exact Classical.em _ | exact (Classical.em _).symm) (fun g29 => ?_) (fun g29 => ?_)
                  · replace h := gz_it' g29 h
                    refine gz_Vs (fun _ kk => gz_sub (lw := [(0, .ref (gz_ad G 1011)), (1, .ref (gz_ad G r18)), (2, .int r23)]) [2, 1, 0] rfl kk) rfl ?_
                    exact wb_X2_fact_148 hX h1 h2 hO h hk
                  · replace h := gz_if' g29 h
                    refine gz_Vs (fun _ kk => gz_aload_n (pc := 138) hX dX2_fact_138 rfl 2 rfl kk) rfl ?_
                    refine gz_Vs (fun _ kk => gz_iconst (pc := 139) (v := (1 : Int32)) hX dX2_fact_139 (by decide) kk) rfl ?_
                    refine gz_Vs (fun _ kk => gz_aload_n (pc := 140) hX dX2_fact_140 rfl 2 rfl kk) rfl ?_
                    refine gz_Vs (fun _ kk => cg_X2_36_2 (pc := 141) hX (c := 1011) (v := .int (gI m24 1011 2)) (fun h => cz_k h rfl) (fun _ => rfl) dX2_fact_141 kk) rfl ?_
                    obtain ⟨⟨r30, m31⟩, c32, h⟩ := gz_bd h
                    obtain ⟨g33, h⟩ := gz_gu h
                    refine gz_Vs (fun _ kk => cc_X2_47 (pc := 144) hX (fun h => cz_k h rfl) c32 ⟨by omega, by omega⟩ (rest := []) rfl (Nat.le_of_ble_eq_true rfl) dX2_fact_144 kk) g33 ?_
                    obtain ⟨g34, h⟩ := gz_gu h
                    subst g34
                    obtain rfl := Option.some.inj h
                    exact gz_athrowa hX dX2_fact_147 (hk _ _)
          · replace h := gz_if' g17 h
            obtain ⟨g35, h⟩ := gz_gu h
            obtain ⟨m36, em36, h⟩ := gz_lt h
            refine gz_Vn (fun _ kk => cn_X2_331 (pc := 102) hX g35 dX2_fact_102 em36 kk) em36 ?_
            refine gz_Vs (fun _ kk => gz_dup (pc := 105) hX dX2_fact_105 rfl kk) rfl ?_
            obtain ⟨⟨⟨⟩, m38⟩, c39, h⟩ := gz_bd h
            obtain ⟨g40, h⟩ := gz_gu h
            refine gz_Vs (fun _ kk => cc_X2_333 (pc := 106) hX c39 ⟨by omega, by omega⟩ (rest := [.ref (gz_ad G (gZ m13))]) rfl (Nat.le_of_ble_eq_true rfl) dX2_fact_106 kk) g40 ?_
            obtain rfl := Option.some.inj h
            exact hk _ _ dX2_fact_109
      · replace h := gz_if' g11 h
        refine gz_Vs (fun _ kk => gz_aload_n (pc := 60) hX dX2_fact_60 rfl 0 rfl kk) rfl ?_
        refine gz_Vs (fun _ kk => gz_aload_n (pc := 61) hX dX2_fact_61 rfl 0 rfl kk) rfl ?_
        refine gz_Vs (fun _ kk => cg_X2_61_2 (pc := 62) hX (c := 1011) (v := .int (gI m7 1011 3)) (fun h => cz_k h rfl) (fun _ => rfl) dX2_fact_62 kk) rfl ?_
        obtain ⟨⟨o44, m42⟩, c43, h⟩ := gz_bd h
        obtain ⟨g45, h⟩ := gz_gu h
        cases o44 with
        | none =>
          replace h := gx_on h
          obtain rfl := Option.some.inj h
          exact gz_Vcx (k := gZ m42 - gZ m7) (n := gW m42 - gW m7) (fun _ kk => cc_X2_264x (pc := 65) hX (fun h => cz_k h rfl) c43 ⟨by omega, by omega⟩ (rest := []) rfl (Nat.le_of_ble_eq_true rfl) dX2_fact_65 kk) ⟨by have := g45.1; dsimp only [gZ] at *; omega, by have := g45.2; dsimp only [gW] at *; omega⟩ (hk _ _)
        | some r41 =>
          replace h := gx_os h
          refine gz_Vc (k := gZ m42 - gZ m7) (n := gW m42 - gW m7) (fun _ kk => cc_X2_264 (pc := 65) hX (fun h => cz_k h rfl) c43 ⟨by omega, by omega⟩ (rest := []) rfl (Nat.le_of_ble_eq_true rfl) dX2_fact_65 kk) ⟨by have := g45.1; dsimp only [gZ] at *; omega, by have := g45.2; dsimp only [gW] at *; omega⟩ ?_
          obtain ⟨g46, h⟩ := gz_gu h
          obtain ⟨m47, em47, h⟩ := gz_lt h
          refine gz_Vn (fun _ kk => cn_X2_324 (pc := 68) hX g46 dX2_fact_68 em47 kk) em47 ?_
          refine gz_Vs (fun _ kk => gz_dup (pc := 71) hX dX2_fact_71 rfl kk) rfl ?_
          refine gz_Vs (fun _ kk => gz_aload_n (pc := 72) hX dX2_fact_72 rfl 0 rfl kk) rfl ?_
          obtain ⟨⟨o51, m49⟩, c50, h⟩ := gz_bd h
          obtain ⟨g52, h⟩ := gz_gu h
          cases o51 with
          | none =>
            replace h := gx_on h
            obtain rfl := Option.some.inj h
            exact gz_Vcx (k := gZ m49 - gZ m47) (n := gW m49 - gW m47) (fun _ kk => cc_X2_317ox (pc := 73) hX (fun h => cz_k h rfl) hO c50 ⟨by omega, by omega⟩ (rest := [.ref (gz_ad G (gZ m42)), .ref (gz_ad G (gZ m42))]) rfl (Nat.le_of_ble_eq_true rfl) dX2_fact_73 kk) ⟨by have := g52.1; dsimp only [gZ] at *; omega, by have := g52.2; dsimp only [gW] at *; omega⟩ (hk _ _)
          | some r48 =>
            replace h := gx_os h
            refine gz_Vc (k := gZ m49 - gZ m47) (n := gW m49 - gW m47) (fun _ kk => cc_X2_317o (pc := 73) hX (fun h => cz_k h rfl) hO c50 ⟨by omega, by omega⟩ (rest := [.ref (gz_ad G (gZ m42)), .ref (gz_ad G (gZ m42))]) rfl (Nat.le_of_ble_eq_true rfl) dX2_fact_73 kk) ⟨by have := g52.1; dsimp only [gZ] at *; omega, by have := g52.2; dsimp only [gW] at *; omega⟩ ?_
            obtain ⟨⟨⟨⟩, m54⟩, c55, h⟩ := gz_bd h
            obtain ⟨g56, h⟩ := gz_gu h
            refine gz_Vs (fun _ kk => cc_X2_326 (pc := 76) hX c55 ⟨by omega, by omega⟩ (rest := [.ref (gz_ad G (gZ m42))]) rfl (Nat.le_of_ble_eq_true rfl) dX2_fact_76 kk) g56 ?_
            refine gz_Vs (fun _ kk => gz_astore_n (pc := 79) (lw := [(1, .ref (gz_ad G (gZ m42))), (0, .ref (gz_ad G 1011))]) hX dX2_fact_79 rfl (by decide) rfl kk) rfl ?_
            refine gz_Vs (fun _ kk => gz_aload_n (pc := 80) hX dX2_fact_80 rfl 1 rfl kk) rfl ?_
            refine gz_Vs (fun _ kk => gz_dup (pc := 81) hX dX2_fact_81 rfl kk) rfl ?_
            refine gz_Vs (fun _ kk => cg_X2_119_2 (pc := 82) hX (c := 1011) (v := .int (gI m54 1011 4)) (fun h => cz_k h rfl) (fun _ => rfl) dX2_fact_82 kk) rfl ?_
            refine gz_Vs (fun _ kk => gz_iconst (pc := 85) (v := (1 : Int32)) hX dX2_fact_85 (by decide) kk) rfl ?_
            refine gz_Vs (fun _ kk => gz_isub (pc := 86) hX dX2_fact_86 kk) rfl ?_
            obtain ⟨m57, em57, h⟩ := gz_lt h
            refine gz_Vs (fun _ kk => cp_X2_119_2 (pc := 87) hX (c := 1011) (fun h => cz_k h rfl) (Nat.le_of_ble_eq_true rfl) dX2_fact_87 em57 kk) (by rw [em57]; rfl) ?_
            refine gz_Vs (fun _ kk => gz_aload_n (pc := 90) hX dX2_fact_90 rfl 0 rfl kk) rfl ?_
            obtain rfl := Option.some.inj h
            exact hk _ _ dX2_fact_91
  · replace h := gz_it' g5 h
    refine gz_Vs (fun _ kk => gz_aload_n (pc := 9) hX dX2_fact_9 rfl 0 rfl kk) rfl ?_
    refine gz_Vs (fun _ kk => gz_aload_n (pc := 10) hX dX2_fact_10 rfl 0 rfl kk) rfl ?_
    refine gz_Vs (fun _ kk => cg_X2_36_2 (pc := 11) hX (c := 1011) (v := .int (gI m2 1011 2)) (fun h => cz_k h rfl) (fun _ => rfl) dX2_fact_11 kk) rfl ?_
    obtain ⟨⟨o61, m59⟩, c60, h⟩ := gz_bd h
    obtain ⟨g62, h⟩ := gz_gu h
    cases o61 with
    | none =>
      replace h := gx_on h
      obtain rfl := Option.some.inj h
      exact gz_Vcx (k := gZ m59 - gZ m2) (n := gW m59 - gW m2) (fun _ kk => cc_X2_264x (pc := 14) hX (fun h => cz_k h rfl) c60 ⟨by omega, by omega⟩ (rest := []) rfl (Nat.le_of_ble_eq_true rfl) dX2_fact_14 kk) ⟨by have := g62.1; dsimp only [gZ] at *; omega, by have := g62.2; dsimp only [gW] at *; omega⟩ (hk _ _)
    | some r58 =>
      replace h := gx_os h
      refine gz_Vc (k := gZ m59 - gZ m2) (n := gW m59 - gW m2) (fun _ kk => cc_X2_264 (pc := 14) hX (fun h => cz_k h rfl) c60 ⟨by omega, by omega⟩ (rest := []) rfl (Nat.le_of_ble_eq_true rfl) dX2_fact_14 kk) ⟨by have := g62.1; dsimp only [gZ] at *; omega, by have := g62.2; dsimp only [gW] at *; omega⟩ ?_
      refine gz_Vs (fun _ kk => gz_aload_n (pc := 17) hX dX2_fact_17 rfl 0 rfl kk) rfl ?_
      refine gz_Vs (fun _ kk => gz_dup (pc := 18) hX dX2_fact_18 rfl kk) rfl ?_
      refine gz_Vs (fun _ kk => cg_X2_36_2 (pc := 19) hX (c := 1011) (v := .int (gI m59 1011 2)) (fun h => cz_k h rfl) (fun _ => rfl) dX2_fact_19 kk) rfl ?_
      refine gz_Vs (fun _ kk => gz_iconst (pc := 22) (v := (1 : Int32)) hX dX2_fact_22 (by decide) kk) rfl ?_
      refine gz_Vs (fun _ kk => gz_iadd (pc := 23) hX dX2_fact_23 kk) rfl ?_
      obtain ⟨m63, em63, h⟩ := gz_lt h
      refine gz_Vs (fun _ kk => cp_X2_36_2 (pc := 24) hX (c := 1011) (fun h => cz_k h rfl) (Nat.le_of_ble_eq_true rfl) dX2_fact_24 em63 kk) (by rw [em63]; rfl) ?_
      refine gz_Vs (fun _ kk => gz_aload_n (pc := 27) hX dX2_fact_27 rfl 0 rfl kk) rfl ?_
      obtain ⟨⟨o67, m65⟩, c66, h⟩ := gz_bd h
      obtain ⟨g68, h⟩ := gz_gu h
      cases o67 with
      | none =>
        replace h := gx_on h
        obtain rfl := Option.some.inj h
        exact gz_Vcx (k := gZ m65 - gZ m63) (n := gW m65 - gW m63) (fun _ kk => cc_X2_243ix (pc := 28) hX (fun h => cz_k h rfl) h1 h2 hO c66 ⟨by omega, by omega⟩ (rest := []) rfl (Nat.le_of_ble_eq_true rfl) dX2_fact_28 kk) ⟨by have := g68.1; dsimp only [gZ] at *; omega, by have := g68.2; dsimp only [gW] at *; omega⟩ (hk _ _)
      | some r64 =>
        replace h := gx_os h
        refine gz_Vc (k := gZ m65 - gZ m63) (n := gW m65 - gW m63) (fun _ kk => cc_X2_243i (pc := 28) hX (fun h => cz_k h rfl) h1 h2 hO c66 ⟨by omega, by omega⟩ (rest := []) rfl (Nat.le_of_ble_eq_true rfl) dX2_fact_28 kk) ⟨by have := g68.1; dsimp only [gZ] at *; omega, by have := g68.2; dsimp only [gW] at *; omega⟩ ?_
        refine gz_Vs (fun _ kk => gz_astore_n (pc := 31) (lw := [(1, .ref (gz_ad G r64)), (0, .ref (gz_ad G 1011))]) hX dX2_fact_31 rfl (by decide) rfl kk) rfl ?_
        refine gz_Vs (fun _ kk => gz_aload_n (pc := 32) hX dX2_fact_32 rfl 1 rfl kk) rfl ?_
        refine gz_Vs (fun _ kk => gz_bipush (pc := 33) (v := (93 : Int32)) hX dX2_fact_33 (by decide) kk) rfl ?_
        obtain ⟨⟨o72, m70⟩, c71, h⟩ := gz_bd h
        obtain ⟨g73, h⟩ := gz_gu h
        cases o72 with
        | none =>
          replace h := gx_on h
          obtain rfl := Option.some.inj h
          exact gz_Vcx (k := gZ m70 - gZ m65) (n := gW m70 - gW m65) (fun _ kk => cc_X2_137x (pc := 35) hX (fun h => cz_k h rfl) c71 ⟨by omega, by omega⟩ (rest := []) rfl (Nat.le_of_ble_eq_true rfl) dX2_fact_35 kk) ⟨by have := g73.1; dsimp only [gZ] at *; omega, by have := g73.2; dsimp only [gW] at *; omega⟩ (hk _ _)
        | some r69 =>
          replace h := gx_os h
          refine gz_Vc (k := gZ m70 - gZ m65) (n := gW m70 - gW m65) (fun _ kk => cc_X2_137 (pc := 35) hX (fun h => cz_k h rfl) c71 ⟨by omega, by omega⟩ (rest := []) rfl (Nat.le_of_ble_eq_true rfl) dX2_fact_35 kk) ⟨by have := g73.1; dsimp only [gZ] at *; omega, by have := g73.2; dsimp only [gW] at *; omega⟩ ?_
          refine gz_Vs (fun _ kk => gz_aload_n (pc := 38) hX dX2_fact_38 rfl 1 rfl kk) rfl ?_
          refine gz_Vs (fun _ kk => gz_dup (pc := 39) hX dX2_fact_39 rfl kk) rfl ?_
          refine gz_Vs (fun _ kk => cg_X2_119_2 (pc := 40) hX (c := 1011) (v := .int (gI m70 1011 4)) (fun h => cz_k h rfl) (fun _ => rfl) dX2_fact_40 kk) rfl ?_
          refine gz_Vs (fun _ kk => gz_iconst (pc := 43) (v := (1 : Int32)) hX dX2_fact_43 (by decide) kk) rfl ?_
          refine gz_Vs (fun _ kk => gz_isub (pc := 44) hX dX2_fact_44 kk) rfl ?_
          obtain ⟨m74, em74, h⟩ := gz_lt h
          refine gz_Vs (fun _ kk => cp_X2_119_2 (pc := 45) hX (c := 1011) (fun h => cz_k h rfl) (Nat.le_of_ble_eq_true rfl) dX2_fact_45 em74 kk) (by rw [em74]; rfl) ?_
          refine gz_Vs (fun _ kk => gz_aload_n (pc := 48) hX dX2_fact_48 rfl 0 rfl kk) rfl ?_
          obtain rfl := Option.some.inj h
          exact hk _ _ dX2_fact_49
theorem ct_X2_fact {G : gz_G} {l : Launch} {oR : gM → Option (Option Nat × gM)} {f n : Nat} (h1 : 120 ≤ f) (h2 : 4000 ≤ n) (hO : cOF G l f n oR)   {m m9 : gM} {o : Option Nat} (h : cf_X2_fact oR  m = some (o, m9)) : gx_Met cS G l yX2_fact cX2_fact 3 (some (.object "FirstSnuffer$Test")) (mRc (f + 3) (n + 120) (gZ m9 - gZ m) (gW m9 - gW m)) [.ref (gz_ad G 1011)] m m9 (o.map (fun r => some (.ref (gz_ad G r)))) :=
  gx_ofR (Or.inl ⟨_, rfl⟩) (by decide +kernel) (Nat.le_of_ble_eq_true rfl) ⟨_, rfl, rfl⟩ (fun h => cz_k (c := 1012) (k := 3) h rfl) fun X e hX hk => (wm_X2_fact (zE := m9.2.2.2.2.2) hX h1 h2 (e ▸ hO) h (gx_km (fun _ q pc lv hd => gz_Ve (q pc lv hd)) (fun q pc lv => gz_VXe (q pc lv)) hk)).2
/-- the reader's fact, at most d deep -/
noncomputable def crF : Nat → gM → Option (Option Nat × gM)
  | 0 => fun _ => none
  | d + 1 => cf_X2_fact (crF d)
theorem crF_ok {G : gz_G} {l : Launch} : ∀ d : Nat, cOF G l (120 + 3 * d) (4000 + 120 * d) (crF d)
  | 0 => fun _ _ _ h => by simp [crF] at h
  | d + 1 => by
    have ih := crF_ok (G := G) (l := l) d
    intro m m9 o h
    have h9 := ct_X2_fact (l := l) (f := 120 + 3 * d) (n := 4000 + 120 * d) (by omega) (by omega) ih h
    have e1 : 120 + 3 * (d + 1) = 120 + 3 * d + 3 := by omega
    have e2 : 4000 + 120 * (d + 1) = 4000 + 120 * d + 120 := by omega
    rw [e1, e2]
    exact h9
theorem cp_X2_226_2 {X : gz_X} {G : gz_G} {cc : ByteArray} {nL fr lo pc : Nat} {rem : Nat × Nat} {m m9 : gM} {lv : List (Nat × Value)} {st : List Value} (hX : gz_C cS X G cc nL RX2 fr lo) {c : Nat} {x : Int32} (hK : clc m.1 m.2.1 m.2.2.2.2.1 → m.1 c = 2 + 1) (hw : 1000 ≤ c) (hd : decode cc pc = .ok (.putfield 226, 3)) (hm : m9 = gz_sI m c 5 x) (kk : gz_V cS X G nL rem m9 (pc + 3) lv st) : gz_V cS X G nL rem m pc lv (.int x :: .ref (gz_ad G c) :: st) := by
  subst hm
  exact gz_putf hX (C := RX2) (T := TX2) (N := 8) (ci := 2) (k := 5) (ty := .int) (μ' := gz_sI m c 5 x) rfl (by decide) in_X2 tyX2 tyX2_ok nmX2 (by decide) (Or.inl (hX.2.2.2.2.1 _ q375)) rfl rfl rfl rfl hd hK hw rfl rfl rfl (fun d tc j h => gz_sI_o d tc j h) (gz_sI_v (fun j => ftC 2 j) rfl) (fun h => h) kk
theorem cg_X2_233_1 {X : gz_X} {G : gz_G} {cc : ByteArray} {nL fr lo pc : Nat} {rem : Nat × Nat} {m : gM} {lv : List (Nat × Value)} {st : List Value} (hX : gz_C cS X G cc nL RX2 fr lo) {c : Nat} {v : Value} (hK : clc m.1 m.2.1 m.2.2.2.2.1 → m.1 c = 1 + 1) (hv : clc m.1 m.2.1 m.2.2.2.2.1 → gz_u (gz_ad G) m (ftC 1 7) c 7 = v) (hd : decode cc pc = .ok (.getfield 233, 3)) (kk : gz_V cS X G nL rem m (pc + 3) lv (v :: st)) : gz_V cS X G nL rem m pc lv (.ref (gz_ad G c) :: st) :=
  gz_getf hX (C := RX1) (T := TX1) (N := 9) (ci := 1) (k := 7) rfl (by decide) in_X1 (by decide) (Or.inr ⟨_, va_Nw.use rfl (cz_n (Z := cS) hX q269 rfl)⟩) hd hK hv kk
theorem cp_X2_233_1 {X : gz_X} {G : gz_G} {cc : ByteArray} {nL fr lo pc : Nat} {rem : Nat × Nat} {m m9 : gM} {lv : List (Nat × Value)} {st : List Value} (hX : gz_C cS X G cc nL RX2 fr lo) {c : Nat} {r : Nat} (hK : clc m.1 m.2.1 m.2.2.2.2.1 → m.1 c = 1 + 1) (hw : 1000 ≤ c) (hs : sr c 7 = 0 ∧ r ≠ 0) (hd : decode cc pc = .ok (.putfield 233, 3)) (hm : m9 = gz_sP m c 7 r) (kk : gz_V cS X G nL rem m9 (pc + 3) lv st) : gz_V cS X G nL rem m pc lv (.ref (gz_ad G r) :: .ref (gz_ad G c) :: st) := by
  subst hm
  exact gz_putf hX (C := RX1) (T := TX1) (N := 9) (ci := 1) (k := 7) (μ' := gz_sP m c 7 r) (v := .ref (gz_ad G r)) rfl (by decide) in_X1 tyX1 tyX1_ok nmX1 (by decide) (Or.inr ⟨_, va_Nw.use rfl (cz_n (Z := cS) hX q269 rfl)⟩) rfl rfl rfl rfl hd hK hw rfl rfl rfl (fun d tc j h => gz_sP_o d tc j h) (by intro j; rw [← gz_rfp hs.2]; exact gz_sP_v (fun j => ftC 1 j) rfl j) (clc_sP hs.1) kk
theorem cg_X2_240_1 {X : gz_X} {G : gz_G} {cc : ByteArray} {nL fr lo pc : Nat} {rem : Nat × Nat} {m : gM} {lv : List (Nat × Value)} {st : List Value} (hX : gz_C cS X G cc nL RX2 fr lo) {c : Nat} {v : Value} (hK : clc m.1 m.2.1 m.2.2.2.2.1 → m.1 c = 1 + 1) (hv : clc m.1 m.2.1 m.2.2.2.2.1 → gz_u (gz_ad G) m (ftC 1 8) c 8 = v) (hd : decode cc pc = .ok (.getfield 240, 3)) (kk : gz_V cS X G nL rem m (pc + 3) lv (v :: st)) : gz_V cS X G nL rem m pc lv (.ref (gz_ad G c) :: st) :=
  gz_getf hX (C := RX1) (T := TX1) (N := 9) (ci := 1) (k := 8) rfl (by decide) in_X1 (by decide) (Or.inr ⟨_, va_Nw.use rfl (cz_n (Z := cS) hX q271 rfl)⟩) hd hK hv kk
theorem cc_X2_243 {X : gz_X} {G : gz_G} {cc : ByteArray} {nL fr lo pc : Nat} {rem : Nat × Nat} {lv : List (Nat × Value)} {rest st0 : List Value} (hX : gz_C cS X G cc nL RX2 fr lo)  {m m9 : gM} (hK : clc m.1 m.2.1 m.2.2.2.2.1 → m.1 1011 = 2 + 1)  {r : Nat} (h : cf_X2_test (crF 8)  m = some (some r, m9)) (hroom : 146 + 1 ≤ fr ∧ 8 + (2 + 11) + 5040 ≤ lo) (hst : st0 = [.ref (gz_ad G 1011)] ++ rest) (hW : (rest.map fun v => v.category).sum ≤ 8) (hd : decode cc pc = .ok (.invokevirtual 243, 3)) (kk : gz_V cS X G nL rem m9 (pc + 3) lv (.ref (gz_ad G r) :: rest)) : gz_V cS X G nL (rem.1 + (gZ m9 - gZ m), rem.2 + (gW m9 - gW m)) m pc lv st0 :=
  gz_callX hX cs_E (As := []) (rest := rest) (q := (RX2, TX2, 8)) (ci := 2) (c := 1011) (ct_X2_test (l := X.2.1) (f := 144) (n := 4960) (by decide) (by decide) (crF_ok 8) h) (lw_V q1225 q1227 qs33 q172 q1228) (n := 0) (by decide +kernel) hroom rfl rfl (by decide) hK hst hW hd (rem := rem) (fun rv e => by obtain rfl := Option.some.inj e; exact kk) (fun e => by simp at e)
theorem cc_X2_243x {X : gz_X} {G : gz_G} {cc : ByteArray} {nL fr lo pc : Nat} {rem : Nat × Nat} {lv : List (Nat × Value)} {rest st0 : List Value} (hX : gz_C cS X G cc nL RX2 fr lo)  {m m9 : gM} (hK : clc m.1 m.2.1 m.2.2.2.2.1 → m.1 1011 = 2 + 1)  (h : cf_X2_test (crF 8)  m = some (none, m9)) (hroom : 146 + 1 ≤ fr ∧ 8 + (2 + 11) + 5040 ≤ lo) (hst : st0 = [.ref (gz_ad G 1011)] ++ rest) (hW : (rest.map fun v => v.category).sum ≤ 8) (hd : decode cc pc = .ok (.invokevirtual 243, 3)) (kk : gz_VX cS X G nL rem m9 pc lv) : gz_V cS X G nL (rem.1 + (gZ m9 - gZ m), rem.2 + (gW m9 - gW m)) m pc lv st0 :=
  gz_callX hX cs_E (As := []) (rest := rest) (q := (RX2, TX2, 8)) (ci := 2) (c := 1011) (ct_X2_test (l := X.2.1) (f := 144) (n := 4960) (by decide) (by decide) (crF_ok 8) h) (lw_V q1225 q1227 qs33 q172 q1228) (n := 0) (by decide +kernel) hroom rfl rfl (by decide) hK hst hW hd (rem := rem) (fun rv e => by simp at e) (fun _ => kk)
theorem cp_X2_240_1 {X : gz_X} {G : gz_G} {cc : ByteArray} {nL fr lo pc : Nat} {rem : Nat × Nat} {m m9 : gM} {lv : List (Nat × Value)} {st : List Value} (hX : gz_C cS X G cc nL RX2 fr lo) {c : Nat} {r : Nat} (hK : clc m.1 m.2.1 m.2.2.2.2.1 → m.1 c = 1 + 1) (hw : 1000 ≤ c) (hs : sr c 8 = 0 ∧ r ≠ 0) (hd : decode cc pc = .ok (.putfield 240, 3)) (hm : m9 = gz_sP m c 8 r) (kk : gz_V cS X G nL rem m9 (pc + 3) lv st) : gz_V cS X G nL rem m pc lv (.ref (gz_ad G r) :: .ref (gz_ad G c) :: st) := by
  subst hm
  exact gz_putf hX (C := RX1) (T := TX1) (N := 9) (ci := 1) (k := 8) (μ' := gz_sP m c 8 r) (v := .ref (gz_ad G r)) rfl (by decide) in_X1 tyX1 tyX1_ok nmX1 (by decide) (Or.inr ⟨_, va_Nw.use rfl (cz_n (Z := cS) hX q271 rfl)⟩) rfl rfl rfl rfl hd hK hw rfl rfl rfl (fun d tc j h => gz_sP_o d tc j h) (by intro j; rw [← gz_rfp hs.2]; exact gz_sP_v (fun j => ftC 1 j) rfl j) (clc_sP hs.1) kk
theorem cp_X2_247_1 {X : gz_X} {G : gz_G} {cc : ByteArray} {nL fr lo pc : Nat} {rem : Nat × Nat} {m m9 : gM} {lv : List (Nat × Value)} {st : List Value} (hX : gz_C cS X G cc nL RX2 fr lo) {c : Nat} {x : Int32} (hK : clc m.1 m.2.1 m.2.2.2.2.1 → m.1 c = 1 + 1) (hw : 1000 ≤ c) (hd : decode cc pc = .ok (.putfield 247, 3)) (hm : m9 = gz_sI m c 2 x) (kk : gz_V cS X G nL rem m9 (pc + 3) lv st) : gz_V cS X G nL rem m pc lv (.int x :: .ref (gz_ad G c) :: st) := by
  subst hm
  exact gz_putf hX (C := RX1) (T := TX1) (N := 9) (ci := 1) (k := 2) (ty := .int) (μ' := gz_sI m c 2 x) rfl (by decide) in_X1 tyX1 tyX1_ok nmX1 (by decide) (Or.inr ⟨_, va_Nw.use rfl (cz_n (Z := cS) hX q254 rfl)⟩) rfl rfl rfl rfl hd hK hw rfl rfl rfl (fun d tc j h => gz_sI_o d tc j h) (gz_sI_v (fun j => ftC 1 j) rfl) (fun h => h) kk
theorem cl_s_X2_229 {X : gz_X} {G : gz_G} {cc : ByteArray} {nL : Nat} {own : String} {fr lo : Nat} (hX : gz_C cS X G cc nL own fr lo) : vk_R RX2 229 "minds" (gz_ad G 146) X.2.2.2.2.1 := (cz_s hX).1 _ (List.mem_of_getElem? (show cKs[41]? = some ("FirstSnuffer$Reader", 229, "minds", 146) from rfl))
theorem cl_s_X2_231 {X : gz_X} {G : gz_G} {cc : ByteArray} {nL : Nat} {own : String} {fr lo : Nat} (hX : gz_C cS X G cc nL own fr lo) : vk_R RX2 231 "draught" (gz_ad G 148) X.2.2.2.2.1 := (cz_s hX).1 _ (List.mem_of_getElem? (show cKs[42]? = some ("FirstSnuffer$Reader", 231, "draught", 148) from rfl))
/-! FirstSnuffer$Reader.more(Ljava/lang/String;I)V -/
noncomputable def mj_X2_more_136 (x2 : Int32) (s0 : Int32) (m : gM) : Option (Option Unit × gM) :=
  ((cf_X2_most s0 x2 m).bind fun (o4, m2) => (if gZ m ≤ gZ m2 ∧ gW m ≤ gW m2 then gx_o o4 (fun r1 => gz_let (gP m2 1011 6) fun r6 => (if r6 ≠ 0 then ((cf_X2_sum (crA 8)  m2).bind fun (o11, m9) => (if gZ m2 ≤ gZ m9 ∧ gW m2 ≤ gW m9 then gx_o o11 (fun r8 => (if gK m9 r6 = 2 then (if 1000 ≤ r6 then (if sr r6 7 = 0 ∧ r8 ≠ 0 then gz_let (gz_sP m9 r6 7 r8) fun m16 => some (some (), m16) else none) else none) else none)) (some (none, m9)) else none)) else none)) (some (none, m2)) else none))
theorem wb_X2_more_136 {X : gz_X} {G : gz_G} {zE : Nat × Nat} (hX : gz_C cS X G cX2_more 5 RX2 147 5061) {x2 : Int32} {s0 : Int32}  {m : gM} {z : (Option Unit × gM)} (h : mj_X2_more_136 x2 s0 m = some z) (hk : (fun z : (Option Unit × gM) => gx_k (fun _ => gz_kVa cS X G 5 zE cX2_more z.2) (∀ (pc : Nat) (lv : List (Nat × Value)), gz_VXa cS X G 5 zE z.2 pc lv) z.1) z) : gz_Va cS X G 5 zE m 136 [(0, .ref (gz_ad G 1011)), (2, .int x2)] [.int s0, .ref (gz_ad G 1011)] := by
  unfold mj_X2_more_136 at h
  refine gz_Vs (fun _ kk => gz_iload_n (pc := 136) hX dX2_more_136 rfl 1 rfl kk) rfl ?_
  obtain ⟨⟨o4, m2⟩, c3, h⟩ := gz_bd h
  obtain ⟨g5, h⟩ := gz_gu h
  cases o4 with
  | none =>
    replace h := gx_on h
    obtain rfl := Option.some.inj h
    exact gz_Vcx (k := gZ m2 - gZ m) (n := gW m2 - gW m) (fun _ kk => cc_X2_125x (pc := 137) hX (fun h => cz_k h rfl) c3 ⟨Nat.le_of_ble_eq_true rfl, Nat.le_of_ble_eq_true rfl⟩ (rest := []) rfl (Nat.le_of_ble_eq_true rfl) dX2_more_137 kk) ⟨by have := g5.1; dsimp only [gZ] at *; omega, by have := g5.2; dsimp only [gW] at *; omega⟩ (hk _ _)
  | some r1 =>
    replace h := gx_os h
    refine gz_Vc (k := gZ m2 - gZ m) (n := gW m2 - gW m) (fun _ kk => cc_X2_125 (pc := 137) hX (fun h => cz_k h rfl) c3 ⟨Nat.le_of_ble_eq_true rfl, Nat.le_of_ble_eq_true rfl⟩ (rest := []) rfl (Nat.le_of_ble_eq_true rfl) dX2_more_137 kk) ⟨by have := g5.1; dsimp only [gZ] at *; omega, by have := g5.2; dsimp only [gW] at *; omega⟩ ?_
    refine gz_Vs (fun _ kk => gz_aload_n (pc := 140) hX dX2_more_140 rfl 0 rfl kk) rfl ?_
    obtain ⟨r6, er6, h⟩ := gz_lt h
    obtain ⟨g7, h⟩ := gz_gu h
    refine gz_Vs (fun _ kk => cg_X2_103_2 (pc := 141) hX (c := 1011) (v := .ref (gz_ad G r6)) (fun h => cz_k h rfl) (fun _ => gz_rq er6 g7) dX2_more_141 kk) rfl ?_
    refine gz_Vs (fun _ kk => gz_aload_n (pc := 144) hX dX2_more_144 rfl 0 rfl kk) rfl ?_
    obtain ⟨⟨o11, m9⟩, c10, h⟩ := gz_bd h
    obtain ⟨g12, h⟩ := gz_gu h
    cases o11 with
    | none =>
      replace h := gx_on h
      obtain rfl := Option.some.inj h
      exact gz_Vcx (k := gZ m9 - gZ m2) (n := gW m9 - gW m2) (fun _ kk => cc_X2_236x (pc := 145) hX (fun h => cz_k h rfl) c10 ⟨Nat.le_of_ble_eq_true rfl, Nat.le_of_ble_eq_true rfl⟩ (rest := [.ref (gz_ad G r6)]) rfl (Nat.le_of_ble_eq_true rfl) dX2_more_145 kk) ⟨by have := g12.1; dsimp only [gZ] at *; omega, by have := g12.2; dsimp only [gW] at *; omega⟩ (hk _ _)
    | some r8 =>
      replace h := gx_os h
      refine gz_Vc (k := gZ m9 - gZ m2) (n := gW m9 - gW m2) (fun _ kk => cc_X2_236 (pc := 145) hX (fun h => cz_k h rfl) c10 ⟨Nat.le_of_ble_eq_true rfl, Nat.le_of_ble_eq_true rfl⟩ (rest := [.ref (gz_ad G r6)]) rfl (Nat.le_of_ble_eq_true rfl) dX2_more_145 kk) ⟨by have := g12.1; dsimp only [gZ] at *; omega, by have := g12.2; dsimp only [gW] at *; omega⟩ ?_
      obtain ⟨g13, h⟩ := gz_gu h
      obtain ⟨g14, h⟩ := gz_gu h
      obtain ⟨g15, h⟩ := gz_gu h
      obtain ⟨m16, em16, h⟩ := gz_lt h
      refine gz_Vs (fun _ kk => cp_X2_233_1 (pc := 148) hX (c := r6) (fun _ => g13) g14 g15 dX2_more_148 em16 kk) (by rw [em16]; rfl) ?_
      refine gz_Vs (fun _ kk => gz_goto (pc := 151) (tgt := 212) hX dX2_more_151 (by decide) kk) rfl ?_
      obtain rfl := Option.some.inj h
      exact hk _ _ dX2_more_212
noncomputable def mj_X2_more_170 (x2 : Int32) (s0 : Int32) (m : gM) : Option (Option Unit × gM) :=
  ((cf_X2_most s0 x2 m).bind fun (o4, m2) => (if gZ m ≤ gZ m2 ∧ gW m ≤ gW m2 then gx_o o4 (fun r1 => gz_let (gP m2 1011 6) fun r6 => (if r6 ≠ 0 then ((cf_X2_test (crF 8)  m2).bind fun (o11, m9) => (if gZ m2 ≤ gZ m9 ∧ gW m2 ≤ gW m9 then gx_o o11 (fun r8 => (if gK m9 r6 = 2 then (if 1000 ≤ r6 then (if sr r6 8 = 0 ∧ r8 ≠ 0 then gz_let (gz_sP m9 r6 8 r8) fun m16 => some (some (), m16) else none) else none) else none)) (some (none, m9)) else none)) else none)) (some (none, m2)) else none))
theorem wb_X2_more_170 {X : gz_X} {G : gz_G} {zE : Nat × Nat} (hX : gz_C cS X G cX2_more 5 RX2 147 5061) {x2 : Int32} {s0 : Int32}  {m : gM} {z : (Option Unit × gM)} (h : mj_X2_more_170 x2 s0 m = some z) (hk : (fun z : (Option Unit × gM) => gx_k (fun _ => gz_kVa cS X G 5 zE cX2_more z.2) (∀ (pc : Nat) (lv : List (Nat × Value)), gz_VXa cS X G 5 zE z.2 pc lv) z.1) z) : gz_Va cS X G 5 zE m 170 [(0, .ref (gz_ad G 1011)), (2, .int x2)] [.int s0, .ref (gz_ad G 1011)] := by
  unfold mj_X2_more_170 at h
  refine gz_Vs (fun _ kk => gz_iload_n (pc := 170) hX dX2_more_170 rfl 1 rfl kk) rfl ?_
  obtain ⟨⟨o4, m2⟩, c3, h⟩ := gz_bd h
  obtain ⟨g5, h⟩ := gz_gu h
  cases o4 with
  | none =>
    replace h := gx_on h
    obtain rfl := Option.some.inj h
    exact gz_Vcx (k := gZ m2 - gZ m) (n := gW m2 - gW m) (fun _ kk => cc_X2_125x (pc := 171) hX (fun h => cz_k h rfl) c3 ⟨Nat.le_of_ble_eq_true rfl, Nat.le_of_ble_eq_true rfl⟩ (rest := []) rfl (Nat.le_of_ble_eq_true rfl) dX2_more_171 kk) ⟨by have := g5.1; dsimp only [gZ] at *; omega, by have := g5.2; dsimp only [gW] at *; omega⟩ (hk _ _)
  | some r1 =>
    replace h := gx_os h
    refine gz_Vc (k := gZ m2 - gZ m) (n := gW m2 - gW m) (fun _ kk => cc_X2_125 (pc := 171) hX (fun h => cz_k h rfl) c3 ⟨Nat.le_of_ble_eq_true rfl, Nat.le_of_ble_eq_true rfl⟩ (rest := []) rfl (Nat.le_of_ble_eq_true rfl) dX2_more_171 kk) ⟨by have := g5.1; dsimp only [gZ] at *; omega, by have := g5.2; dsimp only [gW] at *; omega⟩ ?_
    refine gz_Vs (fun _ kk => gz_aload_n (pc := 174) hX dX2_more_174 rfl 0 rfl kk) rfl ?_
    obtain ⟨r6, er6, h⟩ := gz_lt h
    obtain ⟨g7, h⟩ := gz_gu h
    refine gz_Vs (fun _ kk => cg_X2_103_2 (pc := 175) hX (c := 1011) (v := .ref (gz_ad G r6)) (fun h => cz_k h rfl) (fun _ => gz_rq er6 g7) dX2_more_175 kk) rfl ?_
    refine gz_Vs (fun _ kk => gz_aload_n (pc := 178) hX dX2_more_178 rfl 0 rfl kk) rfl ?_
    obtain ⟨⟨o11, m9⟩, c10, h⟩ := gz_bd h
    obtain ⟨g12, h⟩ := gz_gu h
    cases o11 with
    | none =>
      replace h := gx_on h
      obtain rfl := Option.some.inj h
      exact gz_Vcx (k := gZ m9 - gZ m2) (n := gW m9 - gW m2) (fun _ kk => cc_X2_243x (pc := 179) hX (fun h => cz_k h rfl) c10 ⟨Nat.le_of_ble_eq_true rfl, Nat.le_of_ble_eq_true rfl⟩ (rest := [.ref (gz_ad G r6)]) rfl (Nat.le_of_ble_eq_true rfl) dX2_more_179 kk) ⟨by have := g12.1; dsimp only [gZ] at *; omega, by have := g12.2; dsimp only [gW] at *; omega⟩ (hk _ _)
    | some r8 =>
      replace h := gx_os h
      refine gz_Vc (k := gZ m9 - gZ m2) (n := gW m9 - gW m2) (fun _ kk => cc_X2_243 (pc := 179) hX (fun h => cz_k h rfl) c10 ⟨Nat.le_of_ble_eq_true rfl, Nat.le_of_ble_eq_true rfl⟩ (rest := [.ref (gz_ad G r6)]) rfl (Nat.le_of_ble_eq_true rfl) dX2_more_179 kk) ⟨by have := g12.1; dsimp only [gZ] at *; omega, by have := g12.2; dsimp only [gW] at *; omega⟩ ?_
      obtain ⟨g13, h⟩ := gz_gu h
      obtain ⟨g14, h⟩ := gz_gu h
      obtain ⟨g15, h⟩ := gz_gu h
      obtain ⟨m16, em16, h⟩ := gz_lt h
      refine gz_Vs (fun _ kk => cp_X2_240_1 (pc := 182) hX (c := r6) (fun _ => g13) g14 g15 dX2_more_182 em16 kk) (by rw [em16]; rfl) ?_
      refine gz_Vs (fun _ kk => gz_goto (pc := 185) (tgt := 212) hX dX2_more_185 (by decide) kk) rfl ?_
      obtain rfl := Option.some.inj h
      exact hk _ _ dX2_more_212
noncomputable def mj_X2_more_90 (x2 : Int32) (x4 : Int32) (m : gM) : Option (Option Unit × gM) :=
  (if x4 = (0 : Int32) then gz_let (gP m 1011 6) fun r2 => (if r2 ≠ 0 then (if gK m r2 = 2 then (if (gP m r2 7) = 0 then (mj_X2_more_136 x2 (0 : Int32) m) else (mj_X2_more_136 x2 (1 : Int32) m)) else none) else none) else (if x4 = (1 : Int32) then gz_let (gP m 1011 6) fun r7 => (if r7 ≠ 0 then (if gK m r7 = 2 then (if (gP m r7 8) = 0 then (mj_X2_more_170 x2 (0 : Int32) m) else (mj_X2_more_170 x2 (1 : Int32) m)) else none) else none) else (if x4 = (2 : Int32) then gz_let (gP m 1011 6) fun r12 => (if r12 ≠ 0 then ((cf_X2_number_2 (0 : Int32) (100 : Int32) m).bind fun (o17, m15) => (if gZ m ≤ gZ m15 ∧ gW m ≤ gW m15 then gx_o o17 (fun r14 => (if gK m15 r12 = 2 then (if 1000 ≤ r12 then gz_let (gz_sI m15 r12 2 r14) fun m21 => some (some (), m21) else none) else none)) (some (none, m15)) else none)) else none) else ((cf_X2_wrong (1 : Int32) x2 m).bind fun (r23, m24) => (if m24.2.2.2.2.2 = m.2.2.2.2.2 then (if r23 = 1012 then some (none, m24) else none) else none)))))
theorem wb_X2_more_90 {X : gz_X} {G : gz_G} {zE : Nat × Nat} (hX : gz_C cS X G cX2_more 5 RX2 147 5061) {x2 : Int32} {x4 : Int32}  {m : gM} {z : (Option Unit × gM)} (h : mj_X2_more_90 x2 x4 m = some z) (hk : (fun z : (Option Unit × gM) => gx_k (fun _ => gz_kVa cS X G 5 zE cX2_more z.2) (∀ (pc : Nat) (lv : List (Nat × Value)), gz_VXa cS X G 5 zE z.2 pc lv) z.1) z) : gz_Va cS X G 5 zE m 90 [(0, .ref (gz_ad G 1011)), (2, .int x2), (4, .int x4)] [] := by
  unfold mj_X2_more_90 at h
  refine gz_Vs (fun _ kk => gz_iload (pc := 90) hX dX2_more_90 2 rfl kk) rfl ?_
  by_cases g1 : x4 = (0 : Int32)
  · replace h := gz_it' g1 h
    refine gz_Vs (fun _ kk => gz_tsIn (pc := 92) (tgt := 120) (off := 28) (v := (0 : Int32)) hX g1 dX2_more_92 (by decide) (by decide) kk) rfl ?_
    refine gz_Vs (fun _ kk => gz_aload_n (pc := 120) hX dX2_more_120 rfl 0 rfl kk) rfl ?_
    refine gz_Vs (fun _ kk => gz_aload_n (pc := 121) hX dX2_more_121 rfl 0 rfl kk) rfl ?_
    obtain ⟨r2, er2, h⟩ := gz_lt h
    obtain ⟨g3, h⟩ := gz_gu h
    refine gz_Vs (fun _ kk => cg_X2_103_2 (pc := 122) hX (c := 1011) (v := .ref (gz_ad G r2)) (fun h => cz_k h rfl) (fun _ => gz_rq er2 g3) dX2_more_122 kk) rfl ?_
    obtain ⟨g4, h⟩ := gz_gu h
    refine gz_Vs (fun _ kk => cg_X2_233_1 (pc := 125) hX (c := r2) (v := gz_rf (gz_ad G) (gP m r2 7)) (fun _ => g4) (fun _ => rfl) dX2_more_125 kk) rfl ?_
    refine gz_Vif (μ1 := m) (μ2 := m) (fun _ k1 k2 => gz_ifnull (pc := 128) (tgt := 135) hX dX2_more_128 (by decide) k1 k2) (by first | exact Classical.em _ | exact (Classical.em _).symm) (fun g5 => ?_) (fun g5 => ?_)
    · replace h := gz_it' g5 h
      refine gz_Vs (fun _ kk => gz_iconst (pc := 135) (v := (0 : Int32)) hX dX2_more_135 (by decide) kk) rfl ?_
      refine gz_Vs (fun _ kk => gz_sub (lw := [(0, .ref (gz_ad G 1011)), (2, .int x2)]) [0, 1] rfl kk) rfl ?_
      exact wb_X2_more_136 hX h hk
    · replace h := gz_if' g5 h
      refine gz_Vs (fun _ kk => gz_iconst (pc := 131) (v := (1 : Int32)) hX dX2_more_131 (by decide) kk) rfl ?_
      refine gz_Vs (fun _ kk => gz_goto (pc := 132) (tgt := 136) hX dX2_more_132 (by decide) kk) rfl ?_
      refine gz_Vs (fun _ kk => gz_sub (lw := [(0, .ref (gz_ad G 1011)), (2, .int x2)]) [0, 1] rfl kk) rfl ?_
      exact wb_X2_more_136 hX h hk
  · replace h := gz_if' g1 h
    by_cases g6 : x4 = (1 : Int32)
    · replace h := gz_it' g6 h
      refine gz_Vs (fun _ kk => gz_tsIn (pc := 92) (tgt := 154) (off := 62) (v := (1 : Int32)) hX g6 dX2_more_92 (by decide) (by decide) kk) rfl ?_
      refine gz_Vs (fun _ kk => gz_aload_n (pc := 154) hX dX2_more_154 rfl 0 rfl kk) rfl ?_
      refine gz_Vs (fun _ kk => gz_aload_n (pc := 155) hX dX2_more_155 rfl 0 rfl kk) rfl ?_
      obtain ⟨r7, er7, h⟩ := gz_lt h
      obtain ⟨g8, h⟩ := gz_gu h
      refine gz_Vs (fun _ kk => cg_X2_103_2 (pc := 156) hX (c := 1011) (v := .ref (gz_ad G r7)) (fun h => cz_k h rfl) (fun _ => gz_rq er7 g8) dX2_more_156 kk) rfl ?_
      obtain ⟨g9, h⟩ := gz_gu h
      refine gz_Vs (fun _ kk => cg_X2_240_1 (pc := 159) hX (c := r7) (v := gz_rf (gz_ad G) (gP m r7 8)) (fun _ => g9) (fun _ => rfl) dX2_more_159 kk) rfl ?_
      refine gz_Vif (μ1 := m) (μ2 := m) (fun _ k1 k2 => gz_ifnull (pc := 162) (tgt := 169) hX dX2_more_162 (by decide) k1 k2) (by first | exact Classical.em _ | exact (Classical.em _).symm) (fun g10 => ?_) (fun g10 => ?_)
      · replace h := gz_it' g10 h
        refine gz_Vs (fun _ kk => gz_iconst (pc := 169) (v := (0 : Int32)) hX dX2_more_169 (by decide) kk) rfl ?_
        refine gz_Vs (fun _ kk => gz_sub (lw := [(0, .ref (gz_ad G 1011)), (2, .int x2)]) [0, 1] rfl kk) rfl ?_
        exact wb_X2_more_170 hX h hk
      · replace h := gz_if' g10 h
        refine gz_Vs (fun _ kk => gz_iconst (pc := 165) (v := (1 : Int32)) hX dX2_more_165 (by decide) kk) rfl ?_
        refine gz_Vs (fun _ kk => gz_goto (pc := 166) (tgt := 170) hX dX2_more_166 (by decide) kk) rfl ?_
        refine gz_Vs (fun _ kk => gz_sub (lw := [(0, .ref (gz_ad G 1011)), (2, .int x2)]) [0, 1] rfl kk) rfl ?_
        exact wb_X2_more_170 hX h hk
    · replace h := gz_if' g6 h
      by_cases g11 : x4 = (2 : Int32)
      · replace h := gz_it' g11 h
        refine gz_Vs (fun _ kk => gz_tsIn (pc := 92) (tgt := 188) (off := 96) (v := (2 : Int32)) hX g11 dX2_more_92 (by decide) (by decide) kk) rfl ?_
        refine gz_Vs (fun _ kk => gz_aload_n (pc := 188) hX dX2_more_188 rfl 0 rfl kk) rfl ?_
        obtain ⟨r12, er12, h⟩ := gz_lt h
        obtain ⟨g13, h⟩ := gz_gu h
        refine gz_Vs (fun _ kk => cg_X2_103_2 (pc := 189) hX (c := 1011) (v := .ref (gz_ad G r12)) (fun h => cz_k h rfl) (fun _ => gz_rq er12 g13) dX2_more_189 kk) rfl ?_
        refine gz_Vs (fun _ kk => gz_aload_n (pc := 192) hX dX2_more_192 rfl 0 rfl kk) rfl ?_
        refine gz_Vs (fun _ kk => gz_iconst (pc := 193) (v := (0 : Int32)) hX dX2_more_193 (by decide) kk) rfl ?_
        refine gz_Vs (fun _ kk => gz_bipush (pc := 194) (v := (100 : Int32)) hX dX2_more_194 (by decide) kk) rfl ?_
        obtain ⟨⟨o17, m15⟩, c16, h⟩ := gz_bd h
        obtain ⟨g18, h⟩ := gz_gu h
        cases o17 with
        | none =>
          replace h := gx_on h
          obtain rfl := Option.some.inj h
          exact gz_Vcx (k := gZ m15 - gZ m) (n := gW m15 - gW m) (fun _ kk => cc_X2_96x (pc := 196) hX (fun h => cz_k h rfl) c16 ⟨Nat.le_of_ble_eq_true rfl, Nat.le_of_ble_eq_true rfl⟩ (rest := [.ref (gz_ad G r12)]) rfl (Nat.le_of_ble_eq_true rfl) dX2_more_196 kk) ⟨by have := g18.1; dsimp only [gZ] at *; omega, by have := g18.2; dsimp only [gW] at *; omega⟩ (hk _ _)
        | some r14 =>
          replace h := gx_os h
          refine gz_Vc (k := gZ m15 - gZ m) (n := gW m15 - gW m) (fun _ kk => cc_X2_96 (pc := 196) hX (fun h => cz_k h rfl) c16 ⟨Nat.le_of_ble_eq_true rfl, Nat.le_of_ble_eq_true rfl⟩ (rest := [.ref (gz_ad G r12)]) rfl (Nat.le_of_ble_eq_true rfl) dX2_more_196 kk) ⟨by have := g18.1; dsimp only [gZ] at *; omega, by have := g18.2; dsimp only [gW] at *; omega⟩ ?_
          obtain ⟨g19, h⟩ := gz_gu h
          obtain ⟨g20, h⟩ := gz_gu h
          obtain ⟨m21, em21, h⟩ := gz_lt h
          refine gz_Vs (fun _ kk => cp_X2_247_1 (pc := 199) hX (c := r12) (fun _ => g19) g20 dX2_more_199 em21 kk) (by rw [em21]; rfl) ?_
          refine gz_Vs (fun _ kk => gz_goto (pc := 202) (tgt := 212) hX dX2_more_202 (by decide) kk) rfl ?_
          obtain rfl := Option.some.inj h
          exact hk _ _ dX2_more_212
      · replace h := gz_if' g11 h
        have ng1 := lv_neT g1 (a := 0) (by decide)
        have ng6 := lv_neT g6 (a := 1) (by decide)
        have ng11 := lv_neT g11 (a := 2) (by decide)
        refine gz_Vs (fun _ kk => gz_tsOut (pc := 92) (tgt := 205) hX dX2_more_92 (by omega) (by decide) kk) rfl ?_
        refine gz_Vs (fun _ kk => gz_aload_n (pc := 205) hX dX2_more_205 rfl 0 rfl kk) rfl ?_
        refine gz_Vs (fun _ kk => gz_iconst (pc := 206) (v := (1 : Int32)) hX dX2_more_206 (by decide) kk) rfl ?_
        refine gz_Vs (fun _ kk => gz_iload_n (pc := 207) hX dX2_more_207 rfl 1 rfl kk) rfl ?_
        obtain ⟨⟨r23, m24⟩, c25, h⟩ := gz_bd h
        obtain ⟨g26, h⟩ := gz_gu h
        refine gz_Vs (fun _ kk => cc_X2_47 (pc := 208) hX (fun h => cz_k h rfl) c25 ⟨Nat.le_of_ble_eq_true rfl, Nat.le_of_ble_eq_true rfl⟩ (rest := []) rfl (Nat.le_of_ble_eq_true rfl) dX2_more_208 kk) g26 ?_
        obtain ⟨g27, h⟩ := gz_gu h
        subst g27
        obtain rfl := Option.some.inj h
        exact gz_athrowa hX dX2_more_211 (hk _ _)
noncomputable def cf_X2_more (c1 : Nat) (x2 : Int32) (m : gM) : Option (Option Unit × gM) :=
  gz_let (gz_sI m 1011 5 (15 : Int32)) fun m1 => (if gK m1 c1 = 22 then ((cf_J9_hashCode c1 m1).bind fun (r3, m4) => (if m4.2.2.2.2.2 = m1.2.2.2.2.2 then (if r3 = (94103684 : Int32) then (if gK m4 c1 = 22 then ((cf_J9_equals c1 140 m4).bind fun (r9, m10) => (if m10.2.2.2.2.2 = m4.2.2.2.2.2 then (if r9 = (0 : Int32) then (mj_X2_more_90 x2 (-1 : Int32) m10) else (mj_X2_more_90 x2 (0 : Int32) m10)) else none)) else none) else (if r3 = (103900769 : Int32) then (if gK m4 c1 = 22 then ((cf_J9_equals c1 146 m4).bind fun (r16, m17) => (if m17.2.2.2.2.2 = m4.2.2.2.2.2 then (if r16 = (0 : Int32) then (mj_X2_more_90 x2 (-1 : Int32) m17) else (mj_X2_more_90 x2 (1 : Int32) m17)) else none)) else none) else (if r3 = (1912947505 : Int32) then (if gK m4 c1 = 22 then ((cf_J9_equals c1 148 m4).bind fun (r23, m24) => (if m24.2.2.2.2.2 = m4.2.2.2.2.2 then (if r23 = (0 : Int32) then (mj_X2_more_90 x2 (-1 : Int32) m24) else (mj_X2_more_90 x2 (2 : Int32) m24)) else none)) else none) else (mj_X2_more_90 x2 (-1 : Int32) m4)))) else none)) else none)
theorem wm_X2_more {X : gz_X} {G : gz_G} {zE : Nat × Nat} (hX : gz_C cS X G cX2_more 5 RX2 147 5061) {c1 : Nat} {x2 : Int32}  {m : gM} {z : (Option Unit × gM)} (h : cf_X2_more c1 x2 m = some z) (hk : (fun z : (Option Unit × gM) => gx_k (fun _ => gz_kVa cS X G 5 zE cX2_more z.2) (∀ (pc : Nat) (lv : List (Nat × Value)), gz_VXa cS X G 5 zE z.2 pc lv) z.1) z) : gz_Va cS X G 5 zE m 0 [(0, .ref (gz_ad G 1011)), (1, .ref (gz_ad G c1)), (2, .int x2)] [] := by
  unfold cf_X2_more at h
  refine gz_Vs (fun _ kk => gz_aload_n (pc := 0) hX dX2_more_0 rfl 0 rfl kk) rfl ?_
  refine gz_Vs (fun _ kk => gz_bipush (pc := 1) (v := (15 : Int32)) hX dX2_more_1 (by decide) kk) rfl ?_
  obtain ⟨m1, em1, h⟩ := gz_lt h
  refine gz_Vs (fun _ kk => cp_X2_226_2 (pc := 3) hX (c := 1011) (fun h => cz_k h rfl) (Nat.le_of_ble_eq_true rfl) dX2_more_3 em1 kk) (by rw [em1]; rfl) ?_
  refine gz_Vs (fun _ kk => gz_aload_n (pc := 6) hX dX2_more_6 rfl 1 rfl kk) rfl ?_
  refine gz_Vs (fun _ kk => gz_astore_n (pc := 7) (lw := [(3, .ref (gz_ad G c1)), (0, .ref (gz_ad G 1011)), (1, .ref (gz_ad G c1)), (2, .int x2)]) hX dX2_more_7 rfl (by decide) rfl kk) rfl ?_
  refine gz_Vs (fun _ kk => gz_iconst (pc := 8) (v := (-1 : Int32)) hX dX2_more_8 (by decide) kk) rfl ?_
  refine gz_Vs (fun _ kk => gz_istore (pc := 9) (lw := [(4, .int (-1 : Int32)), (3, .ref (gz_ad G c1)), (0, .ref (gz_ad G 1011)), (1, .ref (gz_ad G c1)), (2, .int x2)]) hX dX2_more_9 (by decide) rfl kk) rfl ?_
  refine gz_Vs (fun _ kk => gz_aload_n (pc := 11) hX dX2_more_11 rfl 1 rfl kk) rfl ?_
  obtain ⟨g2, h⟩ := gz_gu h
  obtain ⟨⟨r3, m4⟩, c5, h⟩ := gz_bd h
  obtain ⟨g6, h⟩ := gz_gu h
  refine gz_Vs (fun _ kk => cc_X2_199 (pc := 12) hX (fun _ => g2) c5 ⟨Nat.le_of_ble_eq_true rfl, Nat.le_of_ble_eq_true rfl⟩ (rest := []) rfl (Nat.le_of_ble_eq_true rfl) dX2_more_12 kk) g6 ?_
  by_cases g7 : r3 = (94103684 : Int32)
  · replace h := gz_it' g7 h
    refine gz_Vs (fun _ kk => gz_lsw (pc := 15) (tgt := 48) (off := 33) hX dX2_more_15 (by decide) (by rw [g7]; decide) (by decide) kk) rfl ?_
    refine gz_Vs (fun _ kk => gz_aload_n (pc := 48) hX dX2_more_48 rfl 1 rfl kk) rfl ?_
    refine gz_Vs (fun _ kk => gz_ldcS (pc := 49) (tx := "burns") (c := 140) hX (cl_s_X2_178 hX) dX2_more_49 kk) rfl ?_
    obtain ⟨g8, h⟩ := gz_gu h
    obtain ⟨⟨r9, m10⟩, c11, h⟩ := gz_bd h
    obtain ⟨g12, h⟩ := gz_gu h
    refine gz_Vs (fun _ kk => cc_X2_74 (pc := 51) hX (fun _ => g8) c11 ⟨Nat.le_of_ble_eq_true rfl, Nat.le_of_ble_eq_true rfl⟩ (rest := []) rfl (Nat.le_of_ble_eq_true rfl) dX2_more_51 kk) g12 ?_
    refine gz_Vif (μ1 := m) (μ2 := m) (fun _ k1 k2 => gz_if_eq (pc := 54) (tgt := 90) hX dX2_more_54 (by decide) k1 k2) (by first | exact Classical.em _ | exact (Classical.em _).symm) (fun g13 => ?_) (fun g13 => ?_)
    · replace h := gz_it' g13 h
      refine gz_Vs (fun _ kk => gz_sub (lw := [(0, .ref (gz_ad G 1011)), (2, .int x2), (4, .int (-1 : Int32))]) [2, 4, 0] rfl kk) rfl ?_
      exact wb_X2_more_90 hX h hk
    · replace h := gz_if' g13 h
      refine gz_Vs (fun _ kk => gz_iconst (pc := 57) (v := (0 : Int32)) hX dX2_more_57 (by decide) kk) rfl ?_
      refine gz_Vs (fun _ kk => gz_istore (pc := 58) (lw := [(4, .int (0 : Int32)), (3, .ref (gz_ad G c1)), (0, .ref (gz_ad G 1011)), (1, .ref (gz_ad G c1)), (2, .int x2)]) hX dX2_more_58 (by decide) rfl kk) rfl ?_
      refine gz_Vs (fun _ kk => gz_goto (pc := 60) (tgt := 90) hX dX2_more_60 (by decide) kk) rfl ?_
      refine gz_Vs (fun _ kk => gz_sub (lw := [(0, .ref (gz_ad G 1011)), (2, .int x2), (4, .int (0 : Int32))]) [2, 4, 0] rfl kk) rfl ?_
      exact wb_X2_more_90 hX h hk
  · replace h := gz_if' g7 h
    by_cases g14 : r3 = (103900769 : Int32)
    · replace h := gz_it' g14 h
      refine gz_Vs (fun _ kk => gz_lsw (pc := 15) (tgt := 63) (off := 48) hX dX2_more_15 (by decide) (by rw [g14]; decide) (by decide) kk) rfl ?_
      refine gz_Vs (fun _ kk => gz_aload_n (pc := 63) hX dX2_more_63 rfl 1 rfl kk) rfl ?_
      refine gz_Vs (fun _ kk => gz_ldcS (pc := 64) (tx := "minds") (c := 146) hX (cl_s_X2_229 hX) dX2_more_64 kk) rfl ?_
      obtain ⟨g15, h⟩ := gz_gu h
      obtain ⟨⟨r16, m17⟩, c18, h⟩ := gz_bd h
      obtain ⟨g19, h⟩ := gz_gu h
      refine gz_Vs (fun _ kk => cc_X2_74 (pc := 66) hX (fun _ => g15) c18 ⟨Nat.le_of_ble_eq_true rfl, Nat.le_of_ble_eq_true rfl⟩ (rest := []) rfl (Nat.le_of_ble_eq_true rfl) dX2_more_66 kk) g19 ?_
      refine gz_Vif (μ1 := m) (μ2 := m) (fun _ k1 k2 => gz_if_eq (pc := 69) (tgt := 90) hX dX2_more_69 (by decide) k1 k2) (by first | exact Classical.em _ | exact (Classical.em _).symm) (fun g20 => ?_) (fun g20 => ?_)
      · replace h := gz_it' g20 h
        refine gz_Vs (fun _ kk => gz_sub (lw := [(0, .ref (gz_ad G 1011)), (2, .int x2), (4, .int (-1 : Int32))]) [2, 4, 0] rfl kk) rfl ?_
        exact wb_X2_more_90 hX h hk
      · replace h := gz_if' g20 h
        refine gz_Vs (fun _ kk => gz_iconst (pc := 72) (v := (1 : Int32)) hX dX2_more_72 (by decide) kk) rfl ?_
        refine gz_Vs (fun _ kk => gz_istore (pc := 73) (lw := [(4, .int (1 : Int32)), (3, .ref (gz_ad G c1)), (0, .ref (gz_ad G 1011)), (1, .ref (gz_ad G c1)), (2, .int x2)]) hX dX2_more_73 (by decide) rfl kk) rfl ?_
        refine gz_Vs (fun _ kk => gz_goto (pc := 75) (tgt := 90) hX dX2_more_75 (by decide) kk) rfl ?_
        refine gz_Vs (fun _ kk => gz_sub (lw := [(0, .ref (gz_ad G 1011)), (2, .int x2), (4, .int (1 : Int32))]) [2, 4, 0] rfl kk) rfl ?_
        exact wb_X2_more_90 hX h hk
    · replace h := gz_if' g14 h
      by_cases g21 : r3 = (1912947505 : Int32)
      · replace h := gz_it' g21 h
        refine gz_Vs (fun _ kk => gz_lsw (pc := 15) (tgt := 78) (off := 63) hX dX2_more_15 (by decide) (by rw [g21]; decide) (by decide) kk) rfl ?_
        refine gz_Vs (fun _ kk => gz_aload_n (pc := 78) hX dX2_more_78 rfl 1 rfl kk) rfl ?_
        refine gz_Vs (fun _ kk => gz_ldcS (pc := 79) (tx := "draught") (c := 148) hX (cl_s_X2_231 hX) dX2_more_79 kk) rfl ?_
        obtain ⟨g22, h⟩ := gz_gu h
        obtain ⟨⟨r23, m24⟩, c25, h⟩ := gz_bd h
        obtain ⟨g26, h⟩ := gz_gu h
        refine gz_Vs (fun _ kk => cc_X2_74 (pc := 81) hX (fun _ => g22) c25 ⟨Nat.le_of_ble_eq_true rfl, Nat.le_of_ble_eq_true rfl⟩ (rest := []) rfl (Nat.le_of_ble_eq_true rfl) dX2_more_81 kk) g26 ?_
        refine gz_Vif (μ1 := m) (μ2 := m) (fun _ k1 k2 => gz_if_eq (pc := 84) (tgt := 90) hX dX2_more_84 (by decide) k1 k2) (by first | exact Classical.em _ | exact (Classical.em _).symm) (fun g27 => ?_) (fun g27 => ?_)
        · replace h := gz_it' g27 h
          refine gz_Vs (fun _ kk => gz_sub (lw := [(0, .ref (gz_ad G 1011)), (2, .int x2), (4, .int (-1 : Int32))]) [2, 4, 0] rfl kk) rfl ?_
          exact wb_X2_more_90 hX h hk
        · replace h := gz_if' g27 h
          refine gz_Vs (fun _ kk => gz_iconst (pc := 87) (v := (2 : Int32)) hX dX2_more_87 (by decide) kk) rfl ?_
          refine gz_Vs (fun _ kk => gz_istore (pc := 88) (lw := [(4, .int (2 : Int32)), (3, .ref (gz_ad G c1)), (0, .ref (gz_ad G 1011)), (1, .ref (gz_ad G c1)), (2, .int x2)]) hX dX2_more_88 (by decide) rfl kk) rfl ?_
          refine gz_Vs (fun _ kk => gz_sub (lw := [(0, .ref (gz_ad G 1011)), (2, .int x2), (4, .int (2 : Int32))]) [2, 4, 0] rfl kk) rfl ?_
          exact wb_X2_more_90 hX h hk
      · replace h := gz_if' g21 h
        refine gz_Vs (fun _ kk => gz_lsw (pc := 15) (tgt := 90) (off := 75) hX dX2_more_15 (by decide) ((lv_osw g7 (by decide)).trans ((lv_osw g14 (by decide)).trans ((lv_osw g21 (by decide)).trans rfl))) (by decide) kk) rfl ?_
        refine gz_Vs (fun _ kk => gz_sub (lw := [(0, .ref (gz_ad G 1011)), (2, .int x2), (4, .int (-1 : Int32))]) [2, 4, 0] rfl kk) rfl ?_
        exact wb_X2_more_90 hX h hk
theorem ct_X2_more {G : gz_G} {l : Launch} {c1 : Nat} {x2 : Int32}  {m m9 : gM} {o : Option Unit} (h : cf_X2_more c1 x2 m = some (o, m9)) : gx_Met cS G l yX2_more cX2_more 5 none (mRc 147 5061 (gZ m9 - gZ m) (gW m9 - gW m)) [.ref (gz_ad G 1011), .ref (gz_ad G c1), .int x2] m m9 (o.map (fun _ => none)) :=
  gx_ofV (by decide +kernel) (Nat.le_of_ble_eq_true rfl) ⟨_, rfl, rfl⟩ (fun h => cz_k (c := 1012) (k := 3) h rfl) fun X _ hX hk => (wm_X2_more (zE := m9.2.2.2.2.2) hX h (gx_km (fun _ q pc lv hd => gz_Ve (q pc lv hd)) (fun q pc lv => gz_VXe (q pc lv)) hk)).2
theorem cp_X2_29_2 {X : gz_X} {G : gz_G} {cc : ByteArray} {nL fr lo pc : Nat} {rem : Nat × Nat} {m m9 : gM} {lv : List (Nat × Value)} {st : List Value} (hX : gz_C cS X G cc nL RX2 fr lo) {c : Nat} {x : Int32} (hK : clc m.1 m.2.1 m.2.2.2.2.1 → m.1 c = 2 + 1) (hw : 1000 ≤ c) (hd : decode cc pc = .ok (.putfield 29, 3)) (hm : m9 = gz_sI m c 1 x) (kk : gz_V cS X G nL rem m9 (pc + 3) lv st) : gz_V cS X G nL rem m pc lv (.int x :: .ref (gz_ad G c) :: st) := by
  subst hm
  exact gz_putf hX (C := RX2) (T := TX2) (N := 8) (ci := 2) (k := 1) (ty := .int) (μ' := gz_sI m c 1 x) rfl (by decide) in_X2 tyX2 tyX2_ok nmX2 (by decide) (Or.inl (hX.2.2.2.2.1 _ q371)) rfl rfl rfl rfl hd hK hw rfl rfl rfl (fun d tc j h => gz_sI_o d tc j h) (gz_sI_v (fun j => ftC 2 j) rfl) (fun h => h) kk
theorem cs_X2_344 {X : gz_X} {G : gz_G} {cc : ByteArray} {nL fr lo pc : Nat} {rem : Nat × Nat} {m : gM} {lv : List (Nat × Value)} {st : List Value} (hX : gz_C cS X G cc nL RX2 fr lo) (hd : decode cc pc = .ok (.getstatic 344, 3)) (kk : gz_V cS X G nL rem m (pc + 3) lv (.ref (gz_ad G 13) :: st)) : gz_V cS X G nL rem m pc lv st := gz_gets hX ((cz_s hX).2.2.1 _ (List.mem_of_getElem? (show cSr[3]? = some ("FirstSnuffer", "TOLD_OF", "[Ljava/lang/String;", 13) from rfl))) (Or.inr ⟨_, va_Nw.use rfl (cz_n (Z := cS) hX q1700 rfl)⟩) hd kk
theorem cn_X2_347 {X : gz_X} {G : gz_G} {cc : ByteArray} {nL fr lo pc : Nat} {rem : Nat × Nat} {m m9 : gM} {lv : List (Nat × Value)} {st : List Value} (hX : gz_C cS X G cc nL RX2 fr lo) (hz : gZ m ≠ 0) (hd : decode cc pc = .ok (.new 347, 3)) (hm : m9 = gz_al m (19 + 1) 0 5) (kk : gz_V cS X G nL rem m9 (pc + 3) lv (.ref (gz_ad G (gZ m)) :: st)) : gz_V cS X G nL (rem.1 + 1, rem.2 + 5) m pc lv st :=
  gz_new hX (C := RX22) (T := TX22) (N := 5) (ci := 19) rfl (by decide) in_X22 tyX22 tyX22_ok (by decide +kernel) q1702 q1703 q207 hz clc_al hd hm kk
theorem cc_X2_349 {X : gz_X} {G : gz_G} {cc : ByteArray} {nL fr lo pc : Nat} {rem : Nat × Nat} {lv : List (Nat × Value)} {rest st0 : List Value} (hX : gz_C cS X G cc nL RX2 fr lo) {c0 : Nat} {x1 : Int32} {c2 : Nat} {c3 : Nat} {m m9 : gM}  (h : cf_X22_init c0 x1 c2 c3 m = some ((), m9)) (hroom : 1 + 1 ≤ fr ∧ 8 + (4 + 11) + 20 ≤ lo) (hst : st0 = [gz_rf (gz_ad G) c3, gz_rf (gz_ad G) c2, .int x1, .ref (gz_ad G c0)] ++ rest) (hW : (rest.map fun v => v.category).sum ≤ 8) (hd : decode cc pc = .ok (.invokespecial 349, 3)) (kk : gz_V cS X G nL rem m9 (pc + 3) lv (rest)) : gz_V cS X G nL rem m pc lv st0 :=
  gz_callI hX cs_E (As := [.int x1, gz_rf (gz_ad G) c2, gz_rf (gz_ad G) c3]) (rest := rest) (c := c0) (ct_X22_init (l := X.2.1) h) q1706 q207 q1704 q1705 rfl (n := 3) (by decide +kernel) hroom rfl hst hW hd (rem := rem) kk
/-! FirstSnuffer$Reader.question(I)LFirstSnuffer$Question; -/
noncomputable def mj_X2_question_81 (s0 : Nat) (m : gM) : Option (Option Nat × gM) :=
  ((cf_X2_here m).bind fun (r1, m2) => (if m2.2.2.2.2.2 = m.2.2.2.2.2 then (if r1 = (-1 : Int32) then some (some s0, m2) else ((cf_X2_wrong (1 : Int32) (gI m2 1011 2) m2).bind fun (r6, m7) => (if m7.2.2.2.2.2 = m2.2.2.2.2.2 then (if r6 = 1012 then some (none, m7) else none) else none))) else none))
theorem wb_X2_question_81 {X : gz_X} {G : gz_G} {zE : Nat × Nat} (hX : gz_C cS X G cX2_question 4 RX2 147 5061) {s0 : Nat}  {m : gM} {z : (Option Nat × gM)} (h : mj_X2_question_81 s0 m = some z) (hk : (fun z : (Option Nat × gM) => gx_k (fun r => gz_kRa cS X G 4 zE cX2_question z.2 r) (∀ (pc : Nat) (lv : List (Nat × Value)), gz_VXa cS X G 4 zE z.2 pc lv) z.1) z) : gz_Va cS X G 4 zE m 81 [(0, .ref (gz_ad G 1011))] [.ref (gz_ad G s0)] := by
  unfold mj_X2_question_81 at h
  refine gz_Vs (fun _ kk => gz_astore_n (pc := 81) (lw := [(3, .ref (gz_ad G s0)), (0, .ref (gz_ad G 1011))]) hX dX2_question_81 rfl (by decide) rfl kk) rfl ?_
  refine gz_Vs (fun _ kk => gz_aload_n (pc := 82) hX dX2_question_82 rfl 1 rfl kk) rfl ?_
  obtain ⟨⟨r1, m2⟩, c3, h⟩ := gz_bd h
  obtain ⟨g4, h⟩ := gz_gu h
  refine gz_Vs (fun _ kk => cc_X2_43 (pc := 83) hX (fun h => cz_k h rfl) c3 ⟨Nat.le_of_ble_eq_true rfl, Nat.le_of_ble_eq_true rfl⟩ (rest := []) rfl (Nat.le_of_ble_eq_true rfl) dX2_question_83 kk) g4 ?_
  refine gz_Vs (fun _ kk => gz_iconst (pc := 86) (v := (-1 : Int32)) hX dX2_question_86 (by decide) kk) rfl ?_
  refine gz_Vif (μ1 := m) (μ2 := m) (fun _ k1 k2 => gz_icmp_eq (pc := 87) (tgt := 100) hX dX2_question_87 (by decide) k1 k2) (by first | exact Classical.em _ | exact (Classical.em _).symm) (fun g5 => ?_) (fun g5 => ?_)
  · replace h := gz_it' g5 h
    refine gz_Vs (fun _ kk => gz_aload_n (pc := 100) hX dX2_question_100 rfl 0 rfl kk) rfl ?_
    obtain rfl := Option.some.inj h
    exact hk _ _ dX2_question_101
  · replace h := gz_if' g5 h
    refine gz_Vs (fun _ kk => gz_aload_n (pc := 90) hX dX2_question_90 rfl 1 rfl kk) rfl ?_
    refine gz_Vs (fun _ kk => gz_iconst (pc := 91) (v := (1 : Int32)) hX dX2_question_91 (by decide) kk) rfl ?_
    refine gz_Vs (fun _ kk => gz_aload_n (pc := 92) hX dX2_question_92 rfl 1 rfl kk) rfl ?_
    refine gz_Vs (fun _ kk => cg_X2_36_2 (pc := 93) hX (c := 1011) (v := .int (gI m2 1011 2)) (fun h => cz_k h rfl) (fun _ => rfl) dX2_question_93 kk) rfl ?_
    obtain ⟨⟨r6, m7⟩, c8, h⟩ := gz_bd h
    obtain ⟨g9, h⟩ := gz_gu h
    refine gz_Vs (fun _ kk => cc_X2_47 (pc := 96) hX (fun h => cz_k h rfl) c8 ⟨Nat.le_of_ble_eq_true rfl, Nat.le_of_ble_eq_true rfl⟩ (rest := []) rfl (Nat.le_of_ble_eq_true rfl) dX2_question_96 kk) g9 ?_
    obtain ⟨g10, h⟩ := gz_gu h
    subst g10
    obtain rfl := Option.some.inj h
    exact gz_athrowa hX dX2_question_99 (hk _ _)
noncomputable def cf_X2_question (x1 : Int32) (m : gM) : Option (Option Nat × gM) :=
  gz_let (gz_sI m 1011 1 x1) fun m1 => gz_let (gz_sI m1 1011 2 (0 : Int32)) fun m2 => gz_let (gz_sI m2 1011 4 (0 : Int32)) fun m3 => gz_let (gz_sI m3 1011 5 (123 : Int32)) fun m4 => ((cf_X2_word  m4).bind fun (o8, m6) => (if gZ m4 ≤ gZ m6 ∧ gW m4 ≤ gW m6 then gx_o o8 (fun r5 => ((cf_X0_find r5 13 m6).bind fun (r10, m11) => (if m11.2.2.2.2.2 = m6.2.2.2.2.2 then (if r10 = (-1 : Int32) then ((cf_X2_wrong (1 : Int32) (gI m11 1011 3) m11).bind fun (r40, m41) => (if m41.2.2.2.2.2 = m11.2.2.2.2.2 then (if r40 = 1012 then some (none, m41) else none) else none)) else (if (3 : Int32) ≤ r10 then (if gZ m11 ≠ 0 then gz_let (gz_al m11 (19 + 1) 0 5) fun m17 => ((cf_X2_sum (crA 8)  m17).bind fun (o21, m19) => (if gZ m17 ≤ gZ m19 ∧ gW m17 ≤ gW m19 then gx_o o21 (fun r18 => (if r18 ≠ 0 then ((cf_X22_init (gZ m11) r10 0 r18 m19).bind fun (_, m25) => (if m25.2.2.2.2.2 = m19.2.2.2.2.2 then (mj_X2_question_81 (gZ m11) m25) else none)) else none)) (some (none, m19)) else none)) else none) else (if gZ m11 ≠ 0 then gz_let (gz_al m11 (19 + 1) 0 5) fun m29 => ((cf_X2_test (crF 8)  m29).bind fun (o33, m31) => (if gZ m29 ≤ gZ m31 ∧ gW m29 ≤ gW m31 then gx_o o33 (fun r30 => (if r30 ≠ 0 then ((cf_X22_init (gZ m11) r10 r30 0 m31).bind fun (_, m37) => (if m37.2.2.2.2.2 = m31.2.2.2.2.2 then (mj_X2_question_81 (gZ m11) m37) else none)) else none)) (some (none, m31)) else none)) else none))) else none))) (some (none, m6)) else none))
theorem wm_X2_question {X : gz_X} {G : gz_G} {zE : Nat × Nat} (hX : gz_C cS X G cX2_question 4 RX2 147 5061) {x1 : Int32}  {m : gM} {z : (Option Nat × gM)} (h : cf_X2_question x1 m = some z) (hk : (fun z : (Option Nat × gM) => gx_k (fun r => gz_kRa cS X G 4 zE cX2_question z.2 r) (∀ (pc : Nat) (lv : List (Nat × Value)), gz_VXa cS X G 4 zE z.2 pc lv) z.1) z) : gz_Va cS X G 4 zE m 0 [(0, .ref (gz_ad G 1011)), (1, .int x1)] [] := by
  unfold cf_X2_question at h
  refine gz_Vs (fun _ kk => gz_aload_n (pc := 0) hX dX2_question_0 rfl 0 rfl kk) rfl ?_
  refine gz_Vs (fun _ kk => gz_iload_n (pc := 1) hX dX2_question_1 rfl 1 rfl kk) rfl ?_
  obtain ⟨m1, em1, h⟩ := gz_lt h
  refine gz_Vs (fun _ kk => cp_X2_29_2 (pc := 2) hX (c := 1011) (fun h => cz_k h rfl) (Nat.le_of_ble_eq_true rfl) dX2_question_2 em1 kk) (by rw [em1]; rfl) ?_
  refine gz_Vs (fun _ kk => gz_aload_n (pc := 5) hX dX2_question_5 rfl 0 rfl kk) rfl ?_
  refine gz_Vs (fun _ kk => gz_iconst (pc := 6) (v := (0 : Int32)) hX dX2_question_6 (by decide) kk) rfl ?_
  obtain ⟨m2, em2, h⟩ := gz_lt h
  refine gz_Vs (fun _ kk => cp_X2_36_2 (pc := 7) hX (c := 1011) (fun h => cz_k h rfl) (Nat.le_of_ble_eq_true rfl) dX2_question_7 em2 kk) (by rw [em2]; rfl) ?_
  refine gz_Vs (fun _ kk => gz_aload_n (pc := 10) hX dX2_question_10 rfl 0 rfl kk) rfl ?_
  refine gz_Vs (fun _ kk => gz_iconst (pc := 11) (v := (0 : Int32)) hX dX2_question_11 (by decide) kk) rfl ?_
  obtain ⟨m3, em3, h⟩ := gz_lt h
  refine gz_Vs (fun _ kk => cp_X2_119_2 (pc := 12) hX (c := 1011) (fun h => cz_k h rfl) (Nat.le_of_ble_eq_true rfl) dX2_question_12 em3 kk) (by rw [em3]; rfl) ?_
  refine gz_Vs (fun _ kk => gz_aload_n (pc := 15) hX dX2_question_15 rfl 0 rfl kk) rfl ?_
  refine gz_Vs (fun _ kk => gz_bipush (pc := 16) (v := (123 : Int32)) hX dX2_question_16 (by decide) kk) rfl ?_
  obtain ⟨m4, em4, h⟩ := gz_lt h
  refine gz_Vs (fun _ kk => cp_X2_226_2 (pc := 18) hX (c := 1011) (fun h => cz_k h rfl) (Nat.le_of_ble_eq_true rfl) dX2_question_18 em4 kk) (by rw [em4]; rfl) ?_
  refine gz_Vs (fun _ kk => gz_aload_n (pc := 21) hX dX2_question_21 rfl 0 rfl kk) rfl ?_
  obtain ⟨⟨o8, m6⟩, c7, h⟩ := gz_bd h
  obtain ⟨g9, h⟩ := gz_gu h
  cases o8 with
  | none =>
    replace h := gx_on h
    obtain rfl := Option.some.inj h
    exact gz_Vcx (k := gZ m6 - gZ m4) (n := gW m6 - gW m4) (fun _ kk => cc_X2_70x (pc := 22) hX (fun h => cz_k h rfl) c7 ⟨Nat.le_of_ble_eq_true rfl, Nat.le_of_ble_eq_true rfl⟩ (rest := []) rfl (Nat.le_of_ble_eq_true rfl) dX2_question_22 kk) ⟨by have := g9.1; dsimp only [gZ] at *; omega, by have := g9.2; dsimp only [gW] at *; omega⟩ (hk _ _)
  | some r5 =>
    replace h := gx_os h
    refine gz_Vc (k := gZ m6 - gZ m4) (n := gW m6 - gW m4) (fun _ kk => cc_X2_70 (pc := 22) hX (fun h => cz_k h rfl) c7 ⟨Nat.le_of_ble_eq_true rfl, Nat.le_of_ble_eq_true rfl⟩ (rest := []) rfl (Nat.le_of_ble_eq_true rfl) dX2_question_22 kk) ⟨by have := g9.1; dsimp only [gZ] at *; omega, by have := g9.2; dsimp only [gW] at *; omega⟩ ?_
    refine gz_Vs (fun _ kk => cs_X2_344 (pc := 25) hX dX2_question_25 kk) rfl ?_
    obtain ⟨⟨r10, m11⟩, c12, h⟩ := gz_bd h
    obtain ⟨g13, h⟩ := gz_gu h
    refine gz_Vs (fun _ kk => cc_X2_82 (pc := 28) hX c12 ⟨Nat.le_of_ble_eq_true rfl, Nat.le_of_ble_eq_true rfl⟩ (rest := []) rfl (Nat.le_of_ble_eq_true rfl) dX2_question_28 kk) g13 ?_
    refine gz_Vs (fun _ kk => gz_istore_n (pc := 31) (lw := [(2, .int r10), (0, .ref (gz_ad G 1011)), (1, .int x1)]) hX dX2_question_31 rfl (by decide) rfl kk) rfl ?_
    refine gz_Vs (fun _ kk => gz_iload_n (pc := 32) hX dX2_question_32 rfl 0 rfl kk) rfl ?_
    refine gz_Vs (fun _ kk => gz_iconst (pc := 33) (v := (-1 : Int32)) hX dX2_question_33 (by decide) kk) rfl ?_
    refine gz_Vif (μ1 := m) (μ2 := m) (fun _ k1 k2 => gz_icmp_ne (pc := 34) (tgt := 47) hX dX2_question_34 (by decide) k1 k2) (by first | exact Classical.em _ | exact (Classical.em _).symm) (fun g14 => ?_) (fun g14 => ?_)
    · replace h := gz_if' g14 h
      refine gz_Vs (fun _ kk => gz_iload_n (pc := 47) hX dX2_question_47 rfl 0 rfl kk) rfl ?_
      refine gz_Vs (fun _ kk => gz_iconst (pc := 48) (v := (3 : Int32)) hX dX2_question_48 (by decide) kk) rfl ?_
      refine gz_Vif (μ1 := m) (μ2 := m) (fun _ k1 k2 => gz_icmp_ge (pc := 49) (tgt := 68) hX dX2_question_49 (by decide) k1 k2) (by first | exact Classical.em _ | exact (Classical.em _).symm) (fun g15 => ?_) (fun g15 => ?_)
      · replace h := gz_it' g15 h
        obtain ⟨g16, h⟩ := gz_gu h
        obtain ⟨m17, em17, h⟩ := gz_lt h
        refine gz_Vn (fun _ kk => cn_X2_347 (pc := 68) hX g16 dX2_question_68 em17 kk) em17 ?_
        refine gz_Vs (fun _ kk => gz_dup (pc := 71) hX dX2_question_71 rfl kk) rfl ?_
        refine gz_Vs (fun _ kk => gz_iload_n (pc := 72) hX dX2_question_72 rfl 0 rfl kk) rfl ?_
        refine gz_Vs (fun _ kk => gz_null (pc := 73) hX dX2_question_73 kk) rfl ?_
        refine gz_Vs (fun _ kk => gz_aload_n (pc := 74) hX dX2_question_74 rfl 1 rfl kk) rfl ?_
        obtain ⟨⟨o21, m19⟩, c20, h⟩ := gz_bd h
        obtain ⟨g22, h⟩ := gz_gu h
        cases o21 with
        | none =>
          replace h := gx_on h
          obtain rfl := Option.some.inj h
          exact gz_Vcx (k := gZ m19 - gZ m17) (n := gW m19 - gW m17) (fun _ kk => cc_X2_236x (pc := 75) hX (fun h => cz_k h rfl) c20 ⟨Nat.le_of_ble_eq_true rfl, Nat.le_of_ble_eq_true rfl⟩ (rest := [.null, .int r10, .ref (gz_ad G (gZ m11)), .ref (gz_ad G (gZ m11))]) rfl (Nat.le_of_ble_eq_true rfl) dX2_question_75 kk) ⟨by have := g22.1; dsimp only [gZ] at *; omega, by have := g22.2; dsimp only [gW] at *; omega⟩ (hk _ _)
        | some r18 =>
          replace h := gx_os h
          refine gz_Vc (k := gZ m19 - gZ m17) (n := gW m19 - gW m17) (fun _ kk => cc_X2_236 (pc := 75) hX (fun h => cz_k h rfl) c20 ⟨Nat.le_of_ble_eq_true rfl, Nat.le_of_ble_eq_true rfl⟩ (rest := [.null, .int r10, .ref (gz_ad G (gZ m11)), .ref (gz_ad G (gZ m11))]) rfl (Nat.le_of_ble_eq_true rfl) dX2_question_75 kk) ⟨by have := g22.1; dsimp only [gZ] at *; omega, by have := g22.2; dsimp only [gW] at *; omega⟩ ?_
          obtain ⟨g23, h⟩ := gz_gu h
          obtain ⟨⟨⟨⟩, m25⟩, c26, h⟩ := gz_bd h
          obtain ⟨g27, h⟩ := gz_gu h
          refine gz_Vs (fun _ kk => cc_X2_349 (pc := 78) hX c26 ⟨Nat.le_of_ble_eq_true rfl, Nat.le_of_ble_eq_true rfl⟩ (rest := [.ref (gz_ad G (gZ m11))]) (by rw [gz_rfp g23]; rfl) (Nat.le_of_ble_eq_true rfl) dX2_question_78 kk) g27 ?_
          refine gz_Vs (fun _ kk => gz_sub (lw := [(0, .ref (gz_ad G 1011))]) [1] rfl kk) rfl ?_
          exact wb_X2_question_81 hX h hk
      · replace h := gz_if' g15 h
        obtain ⟨g28, h⟩ := gz_gu h
        obtain ⟨m29, em29, h⟩ := gz_lt h
        refine gz_Vn (fun _ kk => cn_X2_347 (pc := 52) hX g28 dX2_question_52 em29 kk) em29 ?_
        refine gz_Vs (fun _ kk => gz_dup (pc := 55) hX dX2_question_55 rfl kk) rfl ?_
        refine gz_Vs (fun _ kk => gz_iload_n (pc := 56) hX dX2_question_56 rfl 0 rfl kk) rfl ?_
        refine gz_Vs (fun _ kk => gz_aload_n (pc := 57) hX dX2_question_57 rfl 1 rfl kk) rfl ?_
        obtain ⟨⟨o33, m31⟩, c32, h⟩ := gz_bd h
        obtain ⟨g34, h⟩ := gz_gu h
        cases o33 with
        | none =>
          replace h := gx_on h
          obtain rfl := Option.some.inj h
          exact gz_Vcx (k := gZ m31 - gZ m29) (n := gW m31 - gW m29) (fun _ kk => cc_X2_243x (pc := 58) hX (fun h => cz_k h rfl) c32 ⟨Nat.le_of_ble_eq_true rfl, Nat.le_of_ble_eq_true rfl⟩ (rest := [.int r10, .ref (gz_ad G (gZ m11)), .ref (gz_ad G (gZ m11))]) rfl (Nat.le_of_ble_eq_true rfl) dX2_question_58 kk) ⟨by have := g34.1; dsimp only [gZ] at *; omega, by have := g34.2; dsimp only [gW] at *; omega⟩ (hk _ _)
        | some r30 =>
          replace h := gx_os h
          refine gz_Vc (k := gZ m31 - gZ m29) (n := gW m31 - gW m29) (fun _ kk => cc_X2_243 (pc := 58) hX (fun h => cz_k h rfl) c32 ⟨Nat.le_of_ble_eq_true rfl, Nat.le_of_ble_eq_true rfl⟩ (rest := [.int r10, .ref (gz_ad G (gZ m11)), .ref (gz_ad G (gZ m11))]) rfl (Nat.le_of_ble_eq_true rfl) dX2_question_58 kk) ⟨by have := g34.1; dsimp only [gZ] at *; omega, by have := g34.2; dsimp only [gW] at *; omega⟩ ?_
          refine gz_Vs (fun _ kk => gz_null (pc := 61) hX dX2_question_61 kk) rfl ?_
          obtain ⟨g35, h⟩ := gz_gu h
          obtain ⟨⟨⟨⟩, m37⟩, c38, h⟩ := gz_bd h
          obtain ⟨g39, h⟩ := gz_gu h
          refine gz_Vs (fun _ kk => cc_X2_349 (pc := 62) hX c38 ⟨Nat.le_of_ble_eq_true rfl, Nat.le_of_ble_eq_true rfl⟩ (rest := [.ref (gz_ad G (gZ m11))]) (by rw [gz_rfp g35]; rfl) (Nat.le_of_ble_eq_true rfl) dX2_question_62 kk) g39 ?_
          refine gz_Vs (fun _ kk => gz_goto (pc := 65) (tgt := 81) hX dX2_question_65 (by decide) kk) rfl ?_
          refine gz_Vs (fun _ kk => gz_sub (lw := [(0, .ref (gz_ad G 1011))]) [1] rfl kk) rfl ?_
          exact wb_X2_question_81 hX h hk
    · replace h := gz_it' g14 h
      refine gz_Vs (fun _ kk => gz_aload_n (pc := 37) hX dX2_question_37 rfl 1 rfl kk) rfl ?_
      refine gz_Vs (fun _ kk => gz_iconst (pc := 38) (v := (1 : Int32)) hX dX2_question_38 (by decide) kk) rfl ?_
      refine gz_Vs (fun _ kk => gz_aload_n (pc := 39) hX dX2_question_39 rfl 1 rfl kk) rfl ?_
      refine gz_Vs (fun _ kk => cg_X2_61_2 (pc := 40) hX (c := 1011) (v := .int (gI m11 1011 3)) (fun h => cz_k h rfl) (fun _ => rfl) dX2_question_40 kk) rfl ?_
      obtain ⟨⟨r40, m41⟩, c42, h⟩ := gz_bd h
      obtain ⟨g43, h⟩ := gz_gu h
      refine gz_Vs (fun _ kk => cc_X2_47 (pc := 43) hX (fun h => cz_k h rfl) c42 ⟨Nat.le_of_ble_eq_true rfl, Nat.le_of_ble_eq_true rfl⟩ (rest := []) rfl (Nat.le_of_ble_eq_true rfl) dX2_question_43 kk) g43 ?_
      obtain ⟨g44, h⟩ := gz_gu h
      subst g44
      obtain rfl := Option.some.inj h
      exact gz_athrowa hX dX2_question_46 (hk _ _)
theorem ct_X2_question {G : gz_G} {l : Launch} {x1 : Int32}  {m m9 : gM} {o : Option Nat} (h : cf_X2_question x1 m = some (o, m9)) : gx_Met cS G l yX2_question cX2_question 4 (some (.object "FirstSnuffer$Question")) (mRc 147 5061 (gZ m9 - gZ m) (gW m9 - gW m)) [.ref (gz_ad G 1011), .int x1] m m9 (o.map (fun r => some (.ref (gz_ad G r)))) :=
  gx_ofR (Or.inl ⟨_, rfl⟩) (by decide +kernel) (Nat.le_of_ble_eq_true rfl) ⟨_, rfl, rfl⟩ (fun h => cz_k (c := 1012) (k := 3) h rfl) fun X _ hX hk => (wm_X2_question (zE := m9.2.2.2.2.2) hX h (gx_km (fun _ q pc lv hd => gz_Ve (q pc lv hd)) (fun q pc lv => gz_VXe (q pc lv)) hk)).2
