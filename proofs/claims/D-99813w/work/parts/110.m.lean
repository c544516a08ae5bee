set_option maxRecDepth 100000
/-! on()Z -/
def mP_X6_on_67 (X : gz_X) (G : gz_G) (q : (Int32 × MM)) : Prop := gz_V mS X G 3 (0, 0) (mF q.2) 67 [(0, .ref (gz_ad G 2000)), (2, .int q.1)] []
def mP_X6_on_99 (X : gz_X) (G : gz_G) (q : (Int32 × MM)) : Prop := gz_V mS X G 3 (0, 0) (mF q.2) 99 [(0, .ref (gz_ad G 2000)), (2, .int q.1)] []
noncomputable def mb_X6_on_99 (x2 : Int32) (m : MM) : Option ((Int32 × MM) ⊕ (Int32 × MM)) :=
  ((mf_thingMany m).bind fun (r1, m2) => (if ((2 : Int32) * r1) ≤ x2 then (if gz_in (30 : Int32) (151) then gz_let (msI m2 1051 (gz_ix (30 : Int32)) (0 : Int32)) fun m6 => gz_let (msI m6 2000 68 (0 : Int32)) fun m7 => some (Sum.inr ((1 : Int32), m7)) else none) else ((mf_tieMany m2).bind fun (r8, m9) => (if gz_in (((3 : Int32) + r8) + x2) (1600) then (if gz_in ((14 : Int32) + x2) (151) then gz_let (msI m9 1051 (gz_ix ((14 : Int32) + x2)) (m9.1 1001 (gz_ix (((3 : Int32) + r8) + x2)))) fun m13 => gz_let (x2 + (1 : Int32)) fun y14 => some (Sum.inl (y14, m13)) else none) else none))))
theorem wb_X6_on_99 {X : gz_X} {G : gz_G} (hX : gz_C mS X G cX6_on 3 RX6 2 46) {x2 : Int32}  {m : MM} {z : ((Int32 × MM) ⊕ (Int32 × MM))} (h : mb_X6_on_99 x2 m = some z) (hk : (Sum.elim (mP_X6_on_99 X G) (fun z : (Int32 × MM) => gz_kZ mS X G 3 (0, 0) cX6_on (mF z.2) z.1)) z) : gz_V mS X G 3 (0, 0) (mF m) 99 [(0, .ref (gz_ad G 2000)), (2, .int x2)] [] := by
  unfold mb_X6_on_99 at h
  refine gz_iload_n (pc := 99) hX dX6_on_99 rfl 1 rfl ?_
  refine gz_iconst (pc := 100) (v := (2 : Int32)) hX dX6_on_100 (by decide) ?_
  refine gz_aload_n (pc := 101) hX dX6_on_101 rfl 0 rfl ?_
  obtain ⟨⟨r1, m2⟩, c3, h⟩ := gz_bd h
  refine mc_thingMany (pc := 102) hX c3 ⟨Nat.le_of_ble_eq_true rfl, Nat.le_of_ble_eq_true rfl⟩ (rest := [.int (2 : Int32), .int x2]) rfl (Nat.le_of_ble_eq_true rfl) dX6_on_102 ?_
  refine gz_imul (pc := 105) hX dX6_on_105 ?_
  refine gz_icmp_ge (pc := 106) (tgt := 137) hX dX6_on_106 (by decide) (fun g4 => ?_) (fun g4 => ?_)
  · replace h := gz_it' g4 h
    refine gz_aload_n (pc := 137) hX dX6_on_137 rfl 0 rfl ?_
    refine mg_50 (pc := 138) hX dX6_on_138 ?_
    refine gz_bipush (pc := 141) (v := (30 : Int32)) hX dX6_on_141 (by decide) ?_
    refine gz_iconst (pc := 143) (v := (0 : Int32)) hX dX6_on_143 (by decide) ?_
    obtain ⟨g5, h⟩ := gz_gu h
    obtain ⟨m6, em6, h⟩ := gz_lt h
    refine mz_iast (pc := 144) (c := 1051) (n := 151) hX rfl rfl g5 (Nat.le_of_ble_eq_true rfl) dX6_on_144 em6 ?_
    refine gz_aload_n (pc := 145) hX dX6_on_145 rfl 0 rfl ?_
    refine gz_iconst (pc := 146) (v := (0 : Int32)) hX dX6_on_146 (by decide) ?_
    obtain ⟨m7, em7, h⟩ := gz_lt h
    refine mp_68 (pc := 147) hX dX6_on_147 em7 ?_
    refine gz_iconst (pc := 150) (v := (1 : Int32)) hX dX6_on_150 (by decide) ?_
    obtain rfl := Option.some.inj h
    exact hk _ _ dX6_on_151 (Or.inr rfl)
  · replace h := gz_if' g4 h
    refine gz_aload_n (pc := 109) hX dX6_on_109 rfl 0 rfl ?_
    refine mg_50 (pc := 110) hX dX6_on_110 ?_
    refine gz_bipush (pc := 113) (v := (14 : Int32)) hX dX6_on_113 (by decide) ?_
    refine gz_iload_n (pc := 115) hX dX6_on_115 rfl 1 rfl ?_
    refine gz_iadd (pc := 116) hX dX6_on_116 ?_
    refine gz_aload_n (pc := 117) hX dX6_on_117 rfl 0 rfl ?_
    refine mg_0 (pc := 118) hX dX6_on_118 ?_
    refine gz_iconst (pc := 121) (v := (3 : Int32)) hX dX6_on_121 (by decide) ?_
    refine gz_aload_n (pc := 122) hX dX6_on_122 rfl 0 rfl ?_
    obtain ⟨⟨r8, m9⟩, c10, h⟩ := gz_bd h
    refine mc_tieMany (pc := 123) hX c10 ⟨Nat.le_of_ble_eq_true rfl, Nat.le_of_ble_eq_true rfl⟩ (rest := [.int (3 : Int32), .ref (gz_ad G 1001), .int ((14 : Int32) + x2), .ref (gz_ad G 1051)]) rfl (Nat.le_of_ble_eq_true rfl) dX6_on_123 ?_
    refine gz_iadd (pc := 126) hX dX6_on_126 ?_
    refine gz_iload_n (pc := 127) hX dX6_on_127 rfl 1 rfl ?_
    refine gz_iadd (pc := 128) hX dX6_on_128 ?_
    obtain ⟨g11, h⟩ := gz_gu h
    refine mz_iald (pc := 129) (c := 1001) (n := 1600) hX rfl rfl g11 dX6_on_129 ?_
    obtain ⟨g12, h⟩ := gz_gu h
    obtain ⟨m13, em13, h⟩ := gz_lt h
    refine mz_iast (pc := 130) (c := 1051) (n := 151) hX rfl rfl g12 (Nat.le_of_ble_eq_true rfl) dX6_on_130 em13 ?_
    obtain ⟨y14, ey14, h⟩ := gz_lt h
    refine gz_iinc (pc := 131) (v := y14) (lw := [(2, .int y14), (0, .ref (gz_ad G 2000))]) hX dX6_on_131 (k := 1) rfl (by rw [ey14]; rfl) (by decide) rfl ?_
    refine gz_goto (pc := 134) (tgt := 99) hX dX6_on_134 (by decide) ?_
    refine gz_sub (lw := [(0, .ref (gz_ad G 2000)), (2, .int y14)]) [1, 0] rfl ?_
    obtain rfl := Option.some.inj h
    exact hk
noncomputable def ml_X6_on_99 (x2 : Int32) (m : MM) : Option (Int32 × MM) := gz_loop (fun q : (Int32 × MM) => mb_X6_on_99 q.1 q.2) (x2, m)
theorem wl_X6_on_99 {X : gz_X} {G : gz_G} (hX : gz_C mS X G cX6_on 3 RX6 2 46) {x2 : Int32}  {m : MM} {z : (Int32 × MM)} (h : ml_X6_on_99 x2 m = some z) (hk : (fun z : (Int32 × MM) => gz_kZ mS X G 3 (0, 0) cX6_on (mF z.2) z.1) z) : gz_V mS X G 3 (0, 0) (mF m) 99 [(0, .ref (gz_ad G 2000)), (2, .int x2)] [] := by
  have hp : mP_X6_on_99 X G (x2, m) := gz_loop_ind (fun q z hz hkz => wb_X6_on_99 hX  hz hkz) h hk
  exact hp
noncomputable def mb_X6_on_67 (x2 : Int32) (m : MM) : Option ((Int32 × MM) ⊕ (Int32 × MM)) :=
  ((mf_tieMany m).bind fun (r1, m2) => (if r1 ≤ x2 then (Option.map Sum.inr (ml_X6_on_99 (0 : Int32) m2)) else (if gz_in ((3 : Int32) + x2) (1600) then (if gz_in ((2 : Int32) + x2) (151) then gz_let (msI m2 1051 (gz_ix ((2 : Int32) + x2)) (m2.1 1001 (gz_ix ((3 : Int32) + x2)))) fun m7 => gz_let (x2 + (1 : Int32)) fun y8 => some (Sum.inl (y8, m7)) else none) else none)))
theorem wb_X6_on_67 {X : gz_X} {G : gz_G} (hX : gz_C mS X G cX6_on 3 RX6 2 46) {x2 : Int32}  {m : MM} {z : ((Int32 × MM) ⊕ (Int32 × MM))} (h : mb_X6_on_67 x2 m = some z) (hk : (Sum.elim (mP_X6_on_67 X G) (fun z : (Int32 × MM) => gz_kZ mS X G 3 (0, 0) cX6_on (mF z.2) z.1)) z) : gz_V mS X G 3 (0, 0) (mF m) 67 [(0, .ref (gz_ad G 2000)), (2, .int x2)] [] := by
  unfold mb_X6_on_67 at h
  refine gz_iload_n (pc := 67) hX dX6_on_67 rfl 1 rfl ?_
  refine gz_aload_n (pc := 68) hX dX6_on_68 rfl 0 rfl ?_
  obtain ⟨⟨r1, m2⟩, c3, h⟩ := gz_bd h
  refine mc_tieMany (pc := 69) hX c3 ⟨Nat.le_of_ble_eq_true rfl, Nat.le_of_ble_eq_true rfl⟩ (rest := [.int x2]) rfl (Nat.le_of_ble_eq_true rfl) dX6_on_69 ?_
  refine gz_icmp_ge (pc := 72) (tgt := 97) hX dX6_on_72 (by decide) (fun g4 => ?_) (fun g4 => ?_)
  · replace h := gz_it' g4 h
    refine gz_iconst (pc := 97) (v := (0 : Int32)) hX dX6_on_97 (by decide) ?_
    refine gz_istore_n (pc := 98) (lw := [(2, .int (0 : Int32)), (0, .ref (gz_ad G 2000))]) hX dX6_on_98 rfl (by decide) rfl ?_
    refine gz_sub (lw := [(0, .ref (gz_ad G 2000)), (2, .int (0 : Int32))]) [1, 0] rfl ?_
    obtain ⟨z0, hm0, rfl⟩ := gz_mp h
    exact wl_X6_on_99 hX hm0 hk
  · replace h := gz_if' g4 h
    refine gz_aload_n (pc := 75) hX dX6_on_75 rfl 0 rfl ?_
    refine mg_50 (pc := 76) hX dX6_on_76 ?_
    refine gz_iconst (pc := 79) (v := (2 : Int32)) hX dX6_on_79 (by decide) ?_
    refine gz_iload_n (pc := 80) hX dX6_on_80 rfl 1 rfl ?_
    refine gz_iadd (pc := 81) hX dX6_on_81 ?_
    refine gz_aload_n (pc := 82) hX dX6_on_82 rfl 0 rfl ?_
    refine mg_0 (pc := 83) hX dX6_on_83 ?_
    refine gz_iconst (pc := 86) (v := (3 : Int32)) hX dX6_on_86 (by decide) ?_
    refine gz_iload_n (pc := 87) hX dX6_on_87 rfl 1 rfl ?_
    refine gz_iadd (pc := 88) hX dX6_on_88 ?_
    obtain ⟨g5, h⟩ := gz_gu h
    refine mz_iald (pc := 89) (c := 1001) (n := 1600) hX rfl rfl g5 dX6_on_89 ?_
    obtain ⟨g6, h⟩ := gz_gu h
    obtain ⟨m7, em7, h⟩ := gz_lt h
    refine mz_iast (pc := 90) (c := 1051) (n := 151) hX rfl rfl g6 (Nat.le_of_ble_eq_true rfl) dX6_on_90 em7 ?_
    obtain ⟨y8, ey8, h⟩ := gz_lt h
    refine gz_iinc (pc := 91) (v := y8) (lw := [(2, .int y8), (0, .ref (gz_ad G 2000))]) hX dX6_on_91 (k := 1) rfl (by rw [ey8]; rfl) (by decide) rfl ?_
    refine gz_goto (pc := 94) (tgt := 67) hX dX6_on_94 (by decide) ?_
    refine gz_sub (lw := [(0, .ref (gz_ad G 2000)), (2, .int y8)]) [1, 0] rfl ?_
    obtain rfl := Option.some.inj h
    exact hk
noncomputable def ml_X6_on_67 (x2 : Int32) (m : MM) : Option (Int32 × MM) := gz_loop (fun q : (Int32 × MM) => mb_X6_on_67 q.1 q.2) (x2, m)
theorem wl_X6_on_67 {X : gz_X} {G : gz_G} (hX : gz_C mS X G cX6_on 3 RX6 2 46) {x2 : Int32}  {m : MM} {z : (Int32 × MM)} (h : ml_X6_on_67 x2 m = some z) (hk : (fun z : (Int32 × MM) => gz_kZ mS X G 3 (0, 0) cX6_on (mF z.2) z.1) z) : gz_V mS X G 3 (0, 0) (mF m) 67 [(0, .ref (gz_ad G 2000)), (2, .int x2)] [] := by
  have hp : mP_X6_on_67 X G (x2, m) := gz_loop_ind (fun q z hz hkz => wb_X6_on_67 hX  hz hkz) h hk
  exact hp
noncomputable def mf_on  (m : MM) : Option (Int32 × MM) :=
  gz_let (msI m 2000 1 (0 : Int32)) fun m1 => ((mf_isImage (m.1 2000 1) m1).bind fun (r2, m3) => (if r2 = (0 : Int32) then (if gz_in (5 : Int32) (6) then (if gz_in (5 : Int32) (6) then gz_let (msI m3 1010 (gz_ix (5 : Int32)) ((m3.1 1010 (gz_ix (5 : Int32))) + (1 : Int32))) fun m15 => some ((0 : Int32), m15) else none) else none) else (if gz_in (0 : Int32) (1600) then (if gz_in (1 : Int32) (1600) then (if gz_in (0 : Int32) (151) then gz_let (msI m3 1051 (gz_ix (0 : Int32)) (((256 : Int32) * (m3.1 1001 (gz_ix (0 : Int32)))) + (m3.1 1001 (gz_ix (1 : Int32))))) fun m9 => (if gz_in (2 : Int32) (1600) then (if gz_in (1 : Int32) (151) then gz_let (msI m9 1051 (gz_ix (1 : Int32)) (m9.1 1001 (gz_ix (2 : Int32)))) fun m12 => (ml_X6_on_67 (0 : Int32) m12) else none) else none) else none) else none) else none)))
theorem wm_on {X : gz_X} {G : gz_G} (hX : gz_C mS X G cX6_on 3 RX6 2 46)   {m : MM} {z : (Int32 × MM)} (h : mf_on  m = some z) (hk : (fun z : (Int32 × MM) => gz_kZ mS X G 3 (0, 0) cX6_on (mF z.2) z.1) z) : gz_V mS X G 3 (0, 0) (mF m) 0 [(0, .ref (gz_ad G 2000))] [] := by
  unfold mf_on at h
  refine gz_aload_n (pc := 0) hX dX6_on_0 rfl 0 rfl ?_
  refine mg_1 (pc := 1) hX dX6_on_1 ?_
  refine gz_istore_n (pc := 4) (lw := [(1, .int (m.1 2000 1)), (0, .ref (gz_ad G 2000))]) hX dX6_on_4 rfl (by decide) rfl ?_
  refine gz_aload_n (pc := 5) hX dX6_on_5 rfl 1 rfl ?_
  refine gz_iconst (pc := 6) (v := (0 : Int32)) hX dX6_on_6 (by decide) ?_
  obtain ⟨m1, em1, h⟩ := gz_lt h
  refine mp_1 (pc := 7) hX dX6_on_7 em1 ?_
  refine gz_aload_n (pc := 10) hX dX6_on_10 rfl 1 rfl ?_
  refine gz_iload_n (pc := 11) hX dX6_on_11 rfl 0 rfl ?_
  obtain ⟨⟨r2, m3⟩, c4, h⟩ := gz_bd h
  refine mc_isImage (pc := 12) hX c4 ⟨Nat.le_of_ble_eq_true rfl, Nat.le_of_ble_eq_true rfl⟩ (rest := []) rfl (Nat.le_of_ble_eq_true rfl) dX6_on_12 ?_
  refine gz_if_ne (pc := 15) (tgt := 30) hX dX6_on_15 (by decide) (fun g5 => ?_) (fun g5 => ?_)
  · replace h := gz_if' g5 h
    refine gz_aload_n (pc := 30) hX dX6_on_30 rfl 1 rfl ?_
    refine mg_50 (pc := 31) hX dX6_on_31 ?_
    refine gz_iconst (pc := 34) (v := (0 : Int32)) hX dX6_on_34 (by decide) ?_
    refine gz_sipush (pc := 35) (v := (256 : Int32)) hX dX6_on_35 (by decide) ?_
    refine gz_aload_n (pc := 38) hX dX6_on_38 rfl 1 rfl ?_
    refine mg_0 (pc := 39) hX dX6_on_39 ?_
    refine gz_iconst (pc := 42) (v := (0 : Int32)) hX dX6_on_42 (by decide) ?_
    obtain ⟨g6, h⟩ := gz_gu h
    refine mz_iald (pc := 43) (c := 1001) (n := 1600) hX rfl rfl g6 dX6_on_43 ?_
    refine gz_imul (pc := 44) hX dX6_on_44 ?_
    refine gz_aload_n (pc := 45) hX dX6_on_45 rfl 1 rfl ?_
    refine mg_0 (pc := 46) hX dX6_on_46 ?_
    refine gz_iconst (pc := 49) (v := (1 : Int32)) hX dX6_on_49 (by decide) ?_
    obtain ⟨g7, h⟩ := gz_gu h
    refine mz_iald (pc := 50) (c := 1001) (n := 1600) hX rfl rfl g7 dX6_on_50 ?_
    refine gz_iadd (pc := 51) hX dX6_on_51 ?_
    obtain ⟨g8, h⟩ := gz_gu h
    obtain ⟨m9, em9, h⟩ := gz_lt h
    refine mz_iast (pc := 52) (c := 1051) (n := 151) hX rfl rfl g8 (Nat.le_of_ble_eq_true rfl) dX6_on_52 em9 ?_
    refine gz_aload_n (pc := 53) hX dX6_on_53 rfl 1 rfl ?_
    refine mg_50 (pc := 54) hX dX6_on_54 ?_
    refine gz_iconst (pc := 57) (v := (1 : Int32)) hX dX6_on_57 (by decide) ?_
    refine gz_aload_n (pc := 58) hX dX6_on_58 rfl 1 rfl ?_
    refine mg_0 (pc := 59) hX dX6_on_59 ?_
    refine gz_iconst (pc := 62) (v := (2 : Int32)) hX dX6_on_62 (by decide) ?_
    obtain ⟨g10, h⟩ := gz_gu h
    refine mz_iald (pc := 63) (c := 1001) (n := 1600) hX rfl rfl g10 dX6_on_63 ?_
    obtain ⟨g11, h⟩ := gz_gu h
    obtain ⟨m12, em12, h⟩ := gz_lt h
    refine mz_iast (pc := 64) (c := 1051) (n := 151) hX rfl rfl g11 (Nat.le_of_ble_eq_true rfl) dX6_on_64 em12 ?_
    refine gz_iconst (pc := 65) (v := (0 : Int32)) hX dX6_on_65 (by decide) ?_
    refine gz_istore_n (pc := 66) (lw := [(2, .int (0 : Int32)), (1, .int (m.1 2000 1)), (0, .ref (gz_ad G 2000))]) hX dX6_on_66 rfl (by decide) rfl ?_
    refine gz_sub (lw := [(0, .ref (gz_ad G 2000)), (2, .int (0 : Int32))]) [2, 0] rfl ?_
    exact wl_X6_on_67 hX h hk
  · replace h := gz_it' g5 h
    refine gz_aload_n (pc := 18) hX dX6_on_18 rfl 1 rfl ?_
    refine mg_9 (pc := 19) hX dX6_on_19 ?_
    refine gz_iconst (pc := 22) (v := (5 : Int32)) hX dX6_on_22 (by decide) ?_
    refine gz_dup2_11 (pc := 23) hX dX6_on_23 rfl rfl ?_
    obtain ⟨g13, h⟩ := gz_gu h
    refine mz_iald (pc := 24) (c := 1010) (n := 6) hX rfl rfl g13 dX6_on_24 ?_
    refine gz_iconst (pc := 25) (v := (1 : Int32)) hX dX6_on_25 (by decide) ?_
    refine gz_iadd (pc := 26) hX dX6_on_26 ?_
    obtain ⟨g14, h⟩ := gz_gu h
    obtain ⟨m15, em15, h⟩ := gz_lt h
    refine mz_iast (pc := 27) (c := 1010) (n := 6) hX rfl rfl g14 (Nat.le_of_ble_eq_true rfl) dX6_on_27 em15 ?_
    refine gz_iconst (pc := 28) (v := (0 : Int32)) hX dX6_on_28 (by decide) ?_
    obtain rfl := Option.some.inj h
    exact hk _ _ dX6_on_29 (Or.inl rfl)
theorem mt_on {G : gz_G} {l : Launch}   {m m9 : MM} {r : Int32} (h : mf_on  m = some (r, m9)) : gz_Met mS G l yX6_on cX6_on 3 (some .boolean) (mRm 2 46) [.ref (gz_ad G 2000)] (mF m) (mF m9) (some (.int r)) :=
  gz_ofZ (plainFor_of_name mz_plain) (Nat.le_of_ble_eq_true rfl) fun X _ hX hk => wm_on hX h hk
/-! status(I)I -/
noncomputable def mf_status (x1 : Int32) (m : MM) : Option (Int32 × MM) :=
  ((mf_isIn (x1.toInt64) (0 : Int64) (5 : Int64) m).bind fun (r1, m2) => (if r1 = (0 : Int32) then some ((-1 : Int32), m2) else (if gz_in x1 (6) then some ((m2.1 1010 (gz_ix x1)), m2) else none)))
theorem wm_status {X : gz_X} {G : gz_G} (hX : gz_C mS X G cX6_status 2 RX6 1 25) {x1 : Int32}  {m : MM} {z : (Int32 × MM)} (h : mf_status x1 m = some z) (hk : (fun z : (Int32 × MM) => gz_kI mS X G 2 (0, 0) cX6_status (mF z.2) z.1) z) : gz_V mS X G 2 (0, 0) (mF m) 0 [(0, .ref (gz_ad G 2000)), (1, .int x1)] [] := by
  unfold mf_status at h
  refine gz_iload_n (pc := 0) hX dX6_status_0 rfl 1 rfl ?_
  refine gz_i2l (pc := 1) hX dX6_status_1 ?_
  refine gz_lconst (pc := 2) (v := (0 : Int64)) hX dX6_status_2 (by decide) ?_
  refine gz_ldc2 (pc := 3) (v := (5 : Int64)) hX q2325 dX6_status_3 ?_
  obtain ⟨⟨r1, m2⟩, c3, h⟩ := gz_bd h
  refine mc_isIn (pc := 6) hX c3 ⟨Nat.le_of_ble_eq_true rfl, Nat.le_of_ble_eq_true rfl⟩ (rest := []) rfl (Nat.le_of_ble_eq_true rfl) dX6_status_6 ?_
  refine gz_if_eq (pc := 9) (tgt := 21) hX dX6_status_9 (by decide) (fun g4 => ?_) (fun g4 => ?_)
  · replace h := gz_it' g4 h
    refine gz_iconst (pc := 21) (v := (-1 : Int32)) hX dX6_status_21 (by decide) ?_
    obtain rfl := Option.some.inj h
    exact hk _ _ dX6_status_22
  · replace h := gz_if' g4 h
    refine gz_aload_n (pc := 12) hX dX6_status_12 rfl 0 rfl ?_
    refine mg_9 (pc := 13) hX dX6_status_13 ?_
    refine gz_iload_n (pc := 16) hX dX6_status_16 rfl 1 rfl ?_
    obtain ⟨g5, h⟩ := gz_gu h
    refine mz_iald (pc := 17) (c := 1010) (n := 6) hX rfl rfl g5 dX6_status_17 ?_
    refine gz_goto (pc := 18) (tgt := 22) hX dX6_status_18 (by decide) ?_
    obtain rfl := Option.some.inj h
    exact hk _ _ dX6_status_22
theorem mt_status {G : gz_G} {l : Launch} {x1 : Int32}  {m m9 : MM} {r : Int32} (h : mf_status x1 m = some (r, m9)) : gz_Met mS G l yX6_status cX6_status 2 (some .int) (mRm 1 25) [.ref (gz_ad G 2000), .int x1] (mF m) (mF m9) (some (.int r)) :=
  gz_ofI (plainFor_of_name mz_plain) (Nat.le_of_ble_eq_true rfl) fun X _ hX hk => wm_status hX h hk
