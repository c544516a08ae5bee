set_option maxRecDepth 100000
/-! codesTell(II)J -/
def mP_X6_codesTell_24 (X : gz_X) (G : gz_G) (q : (Int32 × Int32 × Int32 × MM)) : Prop := gz_V mS X G 5 (0, 0) (mF q.2.2.2) 24 [(0, .ref (gz_ad G 2000)), (1, .int q.1), (2, .int q.2.1), (3, .int q.2.2.1)] []
noncomputable def mj_X6_codesTell_149 (x1 : Int32) (x2 : Int32) (x3 : Int32) (m : MM) : Option ((Int32 × Int32 × Int32 × MM) ⊕ (Int64 × MM)) :=
  gz_let (x3 + (1 : Int32)) fun y1 => some (Sum.inl (x1, x2, y1, m))
theorem wb_X6_codesTell_149 {X : gz_X} {G : gz_G} (hX : gz_C mS X G cX6_codesTell 5 RX6 4 87) {x1 : Int32} {x2 : Int32} {x3 : Int32}  {m : MM} {z : ((Int32 × Int32 × Int32 × MM) ⊕ (Int64 × MM))} (h : mj_X6_codesTell_149 x1 x2 x3 m = some z) (hk : (Sum.elim (mP_X6_codesTell_24 X G) (fun z : (Int64 × MM) => gz_kL mS X G 5 (0, 0) cX6_codesTell (mF z.2) z.1)) z) : gz_V mS X G 5 (0, 0) (mF m) 149 [(0, .ref (gz_ad G 2000)), (1, .int x1), (2, .int x2), (3, .int x3)] [] := by
  unfold mj_X6_codesTell_149 at h
  obtain ⟨y1, ey1, h⟩ := gz_lt h
  refine gz_iinc (pc := 149) (v := y1) (lw := [(3, .int y1), (0, .ref (gz_ad G 2000)), (1, .int x1), (2, .int x2)]) hX dX6_codesTell_149 (k := 3) rfl (by rw [ey1]; rfl) (by decide) rfl ?_
  refine gz_goto (pc := 152) (tgt := 24) hX dX6_codesTell_152 (by decide) ?_
  refine gz_sub (lw := [(0, .ref (gz_ad G 2000)), (1, .int x1), (2, .int x2), (3, .int y1)]) [1, 2, 3, 0] rfl ?_
  obtain rfl := Option.some.inj h
  exact hk
noncomputable def mb_X6_codesTell_24 (x1 : Int32) (x2 : Int32) (x3 : Int32) (m : MM) : Option ((Int32 × Int32 × Int32 × MM) ⊕ (Int64 × MM)) :=
  (if gz_in ((2 : Int32) + x1) (4) then (if (m.1 1045 (gz_ix ((2 : Int32) + x1))) ≤ x3 then (if gz_in (0 : Int32) (1700) then some (Sum.inr ((m.2 1099 (gz_ix (0 : Int32))), m)) else none) else (if gz_in ((1600 : Int32) + x3) (3200) then gz_let ((m.1 1046 (gz_ix ((1600 : Int32) + x3)))) fun y5 => (if y5 < (1000 : Int32) then (if y5 < (40 : Int32) then (if y5 = (13 : Int32) then ((mf_qPuts (1 : Int64) m).bind fun (_, m17) => (mj_X6_codesTell_149 x1 x2 x3 m17)) else (if y5 = (12 : Int32) then (if gz_in ((m.1 2000 99) - (1 : Int32)) (1700) then (if gz_in ((m.1 2000 99) - (1 : Int32)) (1700) then gz_let (msL m 1099 (gz_ix ((m.1 2000 99) - (1 : Int32))) ((1 : Int64) - (m.2 1099 (gz_ix ((m.1 2000 99) - (1 : Int32)))))) fun m15 => (mj_X6_codesTell_149 x1 x2 x3 m15) else none) else none) else ((mf_qJoins y5 m).bind fun (_, m11) => (mj_X6_codesTell_149 x1 x2 x3 m11)))) else ((mf_qPartOf (y5 - (40 : Int32)) x2 m).bind fun (r19, m20) => ((mf_qPuts r19 m20).bind fun (_, m23) => (mj_X6_codesTell_149 x1 x2 x3 m23)))) else ((mf_qPuts ((y5 - (1000 : Int32)).toInt64) m).bind fun (_, m26) => (mj_X6_codesTell_149 x1 x2 x3 m26))) else none)) else none)
theorem wb_X6_codesTell_24 {X : gz_X} {G : gz_G} (hX : gz_C mS X G cX6_codesTell 5 RX6 4 87) {x1 : Int32} {x2 : Int32} {x3 : Int32}  {m : MM} {z : ((Int32 × Int32 × Int32 × MM) ⊕ (Int64 × MM))} (h : mb_X6_codesTell_24 x1 x2 x3 m = some z) (hk : (Sum.elim (mP_X6_codesTell_24 X G) (fun z : (Int64 × MM) => gz_kL mS X G 5 (0, 0) cX6_codesTell (mF z.2) z.1)) z) : gz_V mS X G 5 (0, 0) (mF m) 24 [(0, .ref (gz_ad G 2000)), (1, .int x1), (2, .int x2), (3, .int x3)] [] := by
  unfold mb_X6_codesTell_24 at h
  refine gz_iload_n (pc := 24) hX dX6_codesTell_24 rfl 3 rfl ?_
  refine gz_aload_n (pc := 25) hX dX6_codesTell_25 rfl 0 rfl ?_
  refine mg_44 (pc := 26) hX dX6_codesTell_26 ?_
  refine gz_iconst (pc := 29) (v := (2 : Int32)) hX dX6_codesTell_29 (by decide) ?_
  refine gz_iload_n (pc := 30) hX dX6_codesTell_30 rfl 1 rfl ?_
  refine gz_iadd (pc := 31) hX dX6_codesTell_31 ?_
  obtain ⟨g1, h⟩ := gz_gu h
  refine mz_iald (pc := 32) (c := 1045) (n := 4) hX rfl rfl g1 dX6_codesTell_32 ?_
  refine gz_icmp_ge (pc := 33) (tgt := 155) hX dX6_codesTell_33 (by decide) (fun g2 => ?_) (fun g2 => ?_)
  · replace h := gz_it' g2 h
    refine gz_aload_n (pc := 155) hX dX6_codesTell_155 rfl 0 rfl ?_
    refine mg_98 (pc := 156) hX dX6_codesTell_156 ?_
    refine gz_iconst (pc := 159) (v := (0 : Int32)) hX dX6_codesTell_159 (by decide) ?_
    obtain ⟨g3, h⟩ := gz_gu h
    refine mz_lald (pc := 160) (c := 1099) (n := 1700) hX rfl rfl g3 dX6_codesTell_160 ?_
    obtain rfl := Option.some.inj h
    exact hk _ _ dX6_codesTell_161
  · replace h := gz_if' g2 h
    refine gz_aload_n (pc := 36) hX dX6_codesTell_36 rfl 0 rfl ?_
    refine mg_45 (pc := 37) hX dX6_codesTell_37 ?_
    refine gz_sipush (pc := 40) (v := (1600 : Int32)) hX dX6_codesTell_40 (by decide) ?_
    refine gz_iload_n (pc := 43) hX dX6_codesTell_43 rfl 3 rfl ?_
    refine gz_iadd (pc := 44) hX dX6_codesTell_44 ?_
    obtain ⟨g4, h⟩ := gz_gu h
    refine mz_iald (pc := 45) (c := 1046) (n := 3200) hX rfl rfl g4 dX6_codesTell_45 ?_
    obtain ⟨y5, ey5, h⟩ := gz_lt h
    refine gz_topi ey5 ?_
    refine gz_istore (pc := 46) (lw := [(4, .int y5), (0, .ref (gz_ad G 2000)), (1, .int x1), (2, .int x2), (3, .int x3)]) hX dX6_codesTell_46 (by decide) rfl ?_
    refine gz_iload (pc := 48) hX dX6_codesTell_48 0 rfl ?_
    refine gz_sipush (pc := 50) (v := (1000 : Int32)) hX dX6_codesTell_50 (by decide) ?_
    refine gz_icmp_lt (pc := 53) (tgt := 70) hX dX6_codesTell_53 (by decide) (fun g6 => ?_) (fun g6 => ?_)
    · replace h := gz_it' g6 h
      refine gz_iload (pc := 70) hX dX6_codesTell_70 0 rfl ?_
      refine gz_bipush (pc := 72) (v := (40 : Int32)) hX dX6_codesTell_72 (by decide) ?_
      refine gz_icmp_lt (pc := 74) (tgt := 94) hX dX6_codesTell_74 (by decide) (fun g7 => ?_) (fun g7 => ?_)
      · replace h := gz_it' g7 h
        refine gz_iload (pc := 94) hX dX6_codesTell_94 0 rfl ?_
        refine gz_bipush (pc := 96) (v := (13 : Int32)) hX dX6_codesTell_96 (by decide) ?_
        refine gz_icmp_ne (pc := 98) (tgt := 109) hX dX6_codesTell_98 (by decide) (fun g8 => ?_) (fun g8 => ?_)
        · replace h := gz_if' g8 h
          refine gz_iload (pc := 109) hX dX6_codesTell_109 0 rfl ?_
          refine gz_bipush (pc := 111) (v := (12 : Int32)) hX dX6_codesTell_111 (by decide) ?_
          refine gz_icmp_ne (pc := 113) (tgt := 143) hX dX6_codesTell_113 (by decide) (fun g9 => ?_) (fun g9 => ?_)
          · replace h := gz_if' g9 h
            refine gz_aload_n (pc := 143) hX dX6_codesTell_143 rfl 1 rfl ?_
            refine gz_iload (pc := 144) hX dX6_codesTell_144 0 rfl ?_
            obtain ⟨⟨⟨⟩, m11⟩, c12, h⟩ := gz_bd h
            refine mc_qJoins (pc := 146) hX c12 ⟨Nat.le_of_ble_eq_true rfl, Nat.le_of_ble_eq_true rfl⟩ (rest := []) rfl (Nat.le_of_ble_eq_true rfl) dX6_codesTell_146 ?_
            refine gz_sub (lw := [(0, .ref (gz_ad G 2000)), (1, .int x1), (2, .int x2), (3, .int x3)]) [1, 2, 3, 4] rfl ?_
            exact wb_X6_codesTell_149 hX h hk
          · replace h := gz_it' g9 h
            refine gz_aload_n (pc := 116) hX dX6_codesTell_116 rfl 1 rfl ?_
            refine mg_98 (pc := 117) hX dX6_codesTell_117 ?_
            refine gz_aload_n (pc := 120) hX dX6_codesTell_120 rfl 1 rfl ?_
            refine mg_99 (pc := 121) hX dX6_codesTell_121 ?_
            refine gz_iconst (pc := 124) (v := (1 : Int32)) hX dX6_codesTell_124 (by decide) ?_
            refine gz_isub (pc := 125) hX dX6_codesTell_125 ?_
            refine gz_lconst (pc := 126) (v := (1 : Int64)) hX dX6_codesTell_126 (by decide) ?_
            refine gz_aload_n (pc := 127) hX dX6_codesTell_127 rfl 1 rfl ?_
            refine mg_98 (pc := 128) hX dX6_codesTell_128 ?_
            refine gz_aload_n (pc := 131) hX dX6_codesTell_131 rfl 1 rfl ?_
            refine mg_99 (pc := 132) hX dX6_codesTell_132 ?_
            refine gz_iconst (pc := 135) (v := (1 : Int32)) hX dX6_codesTell_135 (by decide) ?_
            refine gz_isub (pc := 136) hX dX6_codesTell_136 ?_
            obtain ⟨g13, h⟩ := gz_gu h
            refine mz_lald (pc := 137) (c := 1099) (n := 1700) hX rfl rfl g13 dX6_codesTell_137 ?_
            refine gz_lsub (pc := 138) hX dX6_codesTell_138 ?_
            obtain ⟨g14, h⟩ := gz_gu h
            obtain ⟨m15, em15, h⟩ := gz_lt h
            refine mz_last (pc := 139) (c := 1099) (n := 1700) hX rfl rfl g14 (Nat.le_of_ble_eq_true rfl) dX6_codesTell_139 em15 ?_
            refine gz_goto (pc := 140) (tgt := 149) hX dX6_codesTell_140 (by decide) ?_
            refine gz_sub (lw := [(0, .ref (gz_ad G 2000)), (1, .int x1), (2, .int x2), (3, .int x3)]) [1, 2, 3, 4] rfl ?_
            exact wb_X6_codesTell_149 hX h hk
        · replace h := gz_it' g8 h
          refine gz_aload_n (pc := 101) hX dX6_codesTell_101 rfl 1 rfl ?_
          refine gz_lconst (pc := 102) (v := (1 : Int64)) hX dX6_codesTell_102 (by decide) ?_
          obtain ⟨⟨⟨⟩, m17⟩, c18, h⟩ := gz_bd h
          refine mc_qPuts (pc := 103) hX c18 ⟨Nat.le_of_ble_eq_true rfl, Nat.le_of_ble_eq_true rfl⟩ (rest := []) rfl (Nat.le_of_ble_eq_true rfl) dX6_codesTell_103 ?_
          refine gz_goto (pc := 106) (tgt := 149) hX dX6_codesTell_106 (by decide) ?_
          refine gz_sub (lw := [(0, .ref (gz_ad G 2000)), (1, .int x1), (2, .int x2), (3, .int x3)]) [1, 2, 3, 4] rfl ?_
          exact wb_X6_codesTell_149 hX h hk
      · replace h := gz_if' g7 h
        refine gz_aload_n (pc := 77) hX dX6_codesTell_77 rfl 1 rfl ?_
        refine gz_aload_n (pc := 78) hX dX6_codesTell_78 rfl 1 rfl ?_
        refine gz_iload (pc := 79) hX dX6_codesTell_79 0 rfl ?_
        refine gz_bipush (pc := 81) (v := (40 : Int32)) hX dX6_codesTell_81 (by decide) ?_
        refine gz_isub (pc := 83) hX dX6_codesTell_83 ?_
        refine gz_iload_n (pc := 84) hX dX6_codesTell_84 rfl 3 rfl ?_
        obtain ⟨⟨r19, m20⟩, c21, h⟩ := gz_bd h
        refine mc_qPartOf (pc := 85) hX c21 ⟨Nat.le_of_ble_eq_true rfl, Nat.le_of_ble_eq_true rfl⟩ (rest := [.ref (gz_ad G 2000)]) rfl (Nat.le_of_ble_eq_true rfl) dX6_codesTell_85 ?_
        obtain ⟨⟨⟨⟩, m23⟩, c24, h⟩ := gz_bd h
        refine mc_qPuts (pc := 88) hX c24 ⟨Nat.le_of_ble_eq_true rfl, Nat.le_of_ble_eq_true rfl⟩ (rest := []) rfl (Nat.le_of_ble_eq_true rfl) dX6_codesTell_88 ?_
        refine gz_goto (pc := 91) (tgt := 149) hX dX6_codesTell_91 (by decide) ?_
        refine gz_sub (lw := [(0, .ref (gz_ad G 2000)), (1, .int x1), (2, .int x2), (3, .int x3)]) [1, 2, 3, 4] rfl ?_
        exact wb_X6_codesTell_149 hX h hk
    · replace h := gz_if' g6 h
      refine gz_aload_n (pc := 56) hX dX6_codesTell_56 rfl 1 rfl ?_
      refine gz_iload (pc := 57) hX dX6_codesTell_57 0 rfl ?_
      refine gz_sipush (pc := 59) (v := (1000 : Int32)) hX dX6_codesTell_59 (by decide) ?_
      refine gz_isub (pc := 62) hX dX6_codesTell_62 ?_
      refine gz_i2l (pc := 63) hX dX6_codesTell_63 ?_
      obtain ⟨⟨⟨⟩, m26⟩, c27, h⟩ := gz_bd h
      refine mc_qPuts (pc := 64) hX c27 ⟨Nat.le_of_ble_eq_true rfl, Nat.le_of_ble_eq_true rfl⟩ (rest := []) rfl (Nat.le_of_ble_eq_true rfl) dX6_codesTell_64 ?_
      refine gz_goto (pc := 67) (tgt := 149) hX dX6_codesTell_67 (by decide) ?_
      refine gz_sub (lw := [(0, .ref (gz_ad G 2000)), (1, .int x1), (2, .int x2), (3, .int x3)]) [1, 2, 3, 4] rfl ?_
      exact wb_X6_codesTell_149 hX h hk
noncomputable def ml_X6_codesTell_24 (x1 : Int32) (x2 : Int32) (x3 : Int32) (m : MM) : Option (Int64 × MM) := gz_loop (fun q : (Int32 × Int32 × Int32 × MM) => mb_X6_codesTell_24 q.1 q.2.1 q.2.2.1 q.2.2.2) (x1, x2, x3, m)
theorem wl_X6_codesTell_24 {X : gz_X} {G : gz_G} (hX : gz_C mS X G cX6_codesTell 5 RX6 4 87) {x1 : Int32} {x2 : Int32} {x3 : Int32}  {m : MM} {z : (Int64 × MM)} (h : ml_X6_codesTell_24 x1 x2 x3 m = some z) (hk : (fun z : (Int64 × MM) => gz_kL mS X G 5 (0, 0) cX6_codesTell (mF z.2) z.1) z) : gz_V mS X G 5 (0, 0) (mF m) 24 [(0, .ref (gz_ad G 2000)), (1, .int x1), (2, .int x2), (3, .int x3)] [] := by
  have hp : mP_X6_codesTell_24 X G (x1, x2, x3, m) := gz_loop_ind (fun q z hz hkz => wb_X6_codesTell_24 hX  hz hkz) h hk
  exact hp
noncomputable def mf_codesTell (x1 : Int32) (x2 : Int32) (m : MM) : Option (Int64 × MM) :=
  gz_let (msI m 2000 55 x2) fun m1 => gz_let (msI m1 2000 48 (0 : Int32)) fun m2 => gz_let (msI m2 2000 99 (0 : Int32)) fun m3 => (if gz_in ((2 : Int32) + x1) (4) then gz_let ((m3.1 1044 (gz_ix ((2 : Int32) + x1)))) fun y5 => (ml_X6_codesTell_24 x1 x2 y5 m3) else none)
theorem wm_codesTell {X : gz_X} {G : gz_G} (hX : gz_C mS X G cX6_codesTell 5 RX6 4 87) {x1 : Int32} {x2 : Int32}  {m : MM} {z : (Int64 × MM)} (h : mf_codesTell x1 x2 m = some z) (hk : (fun z : (Int64 × MM) => gz_kL mS X G 5 (0, 0) cX6_codesTell (mF z.2) z.1) z) : gz_V mS X G 5 (0, 0) (mF m) 0 [(0, .ref (gz_ad G 2000)), (1, .int x1), (2, .int x2)] [] := by
  unfold mf_codesTell at h
  refine gz_aload_n (pc := 0) hX dX6_codesTell_0 rfl 0 rfl ?_
  refine gz_iload_n (pc := 1) hX dX6_codesTell_1 rfl 2 rfl ?_
  obtain ⟨m1, em1, h⟩ := gz_lt h
  refine mp_55 (pc := 2) hX dX6_codesTell_2 em1 ?_
  refine gz_aload_n (pc := 5) hX dX6_codesTell_5 rfl 0 rfl ?_
  refine gz_iconst (pc := 6) (v := (0 : Int32)) hX dX6_codesTell_6 (by decide) ?_
  obtain ⟨m2, em2, h⟩ := gz_lt h
  refine mp_48 (pc := 7) hX dX6_codesTell_7 em2 ?_
  refine gz_aload_n (pc := 10) hX dX6_codesTell_10 rfl 0 rfl ?_
  refine gz_iconst (pc := 11) (v := (0 : Int32)) hX dX6_codesTell_11 (by decide) ?_
  obtain ⟨m3, em3, h⟩ := gz_lt h
  refine mp_99 (pc := 12) hX dX6_codesTell_12 em3 ?_
  refine gz_aload_n (pc := 15) hX dX6_codesTell_15 rfl 0 rfl ?_
  refine mg_43 (pc := 16) hX dX6_codesTell_16 ?_
  refine gz_iconst (pc := 19) (v := (2 : Int32)) hX dX6_codesTell_19 (by decide) ?_
  refine gz_iload_n (pc := 20) hX dX6_codesTell_20 rfl 1 rfl ?_
  refine gz_iadd (pc := 21) hX dX6_codesTell_21 ?_
  obtain ⟨g4, h⟩ := gz_gu h
  refine mz_iald (pc := 22) (c := 1044) (n := 4) hX rfl rfl g4 dX6_codesTell_22 ?_
  obtain ⟨y5, ey5, h⟩ := gz_lt h
  refine gz_topi ey5 ?_
  refine gz_istore_n (pc := 23) (lw := [(3, .int y5), (0, .ref (gz_ad G 2000)), (1, .int x1), (2, .int x2)]) hX dX6_codesTell_23 rfl (by decide) rfl ?_
  refine gz_sub (lw := [(0, .ref (gz_ad G 2000)), (1, .int x1), (2, .int x2), (3, .int y5)]) [1, 2, 3, 0] rfl ?_
  exact wl_X6_codesTell_24 hX h hk
theorem mt_codesTell {G : gz_G} {l : Launch} {x1 : Int32} {x2 : Int32}  {m m9 : MM} {r : Int64} (h : mf_codesTell x1 x2 m = some (r, m9)) : gz_Met mS G l yX6_codesTell cX6_codesTell 5 (some .long) (mRm 4 87) [.ref (gz_ad G 2000), .int x1, .int x2] (mF m) (mF m9) (some (.long r)) :=
  gz_ofL (plainFor_of_name mz_plain) (Nat.le_of_ble_eq_true rfl) fun X _ hX hk => wm_codesTell hX h hk
theorem mc_codesTell {X : gz_X} {G : gz_G} {cc : ByteArray} {nL fr lo pc : Nat} {lv : List (Nat × Value)} {rest st0 : List Value} (hX : gz_C mS X G cc nL RX6 fr lo) {x1 : Int32} {x2 : Int32}  {m m9 : MM} {r : Int64} (h : mf_codesTell x1 x2 m = some (r, m9)) (hroom : 4 + 1 ≤ fr ∧ 8 + (5 + 11) + 87 ≤ lo) (hst : st0 = [.int x2, .int x1, .ref (gz_ad G 2000)] ++ rest) (hW : (rest.map fun v => v.category).sum ≤ 8) (hd : decode cc pc = .ok (.invokevirtual 454, 3)) (kk : gz_V mS X G nL (0, 0) (mF m9) (pc + 3) lv (.long r :: rest)) : gz_V mS X G nL (0, 0) (mF m) pc lv st0 :=
  gz_callV hX mz_E (As := [.int x1, .int x2]) (rest := rest) (q := (RX6, TX6, 104)) (ci := 0) (c := 2000) (mt_codesTell (l := X.2.1) h) (lw_V q2354 q2356 qs124 q182 q2357) (n := 2) (by decide +kernel) hroom rfl rfl (by decide) rfl hst hW hd (rem := (0, 0)) kk
/-! doesMind(I)Z -/
noncomputable def mj_X6_doesMind_31  (m : MM) : Option (Int32 × MM) :=
  some ((0 : Int32), m)
theorem wb_X6_doesMind_31 {X : gz_X} {G : gz_G} (hX : gz_C mS X G cX6_doesMind 2 RX6 5 111)   {m : MM} {z : (Int32 × MM)} (h : mj_X6_doesMind_31  m = some z) (hk : (fun z : (Int32 × MM) => gz_kZ mS X G 2 (0, 0) cX6_doesMind (mF z.2) z.1) z) : gz_V mS X G 2 (0, 0) (mF m) 31 [(0, .ref (gz_ad G 2000))] [] := by
  unfold mj_X6_doesMind_31 at h
  refine gz_iconst (pc := 31) (v := (0 : Int32)) hX dX6_doesMind_31 (by decide) ?_
  obtain rfl := Option.some.inj h
  exact hk _ _ dX6_doesMind_32 (Or.inl rfl)
noncomputable def mf_doesMind (x1 : Int32) (m : MM) : Option (Int32 × MM) :=
  ((mf_doesBurn x1 m).bind fun (r1, m2) => (if r1 = (0 : Int32) then (mj_X6_doesMind_31  m2) else ((mf_isTold (1 : Int32) m2).bind fun (r5, m6) => (if r5 = (0 : Int32) then (mj_X6_doesMind_31  m6) else ((mf_codesTell (1 : Int32) x1 m6).bind fun (r9, m10) => (if r9 = (1 : Int64) then some ((1 : Int32), m10) else (mj_X6_doesMind_31  m10)))))))
theorem wm_doesMind {X : gz_X} {G : gz_G} (hX : gz_C mS X G cX6_doesMind 2 RX6 5 111) {x1 : Int32}  {m : MM} {z : (Int32 × MM)} (h : mf_doesMind x1 m = some z) (hk : (fun z : (Int32 × MM) => gz_kZ mS X G 2 (0, 0) cX6_doesMind (mF z.2) z.1) z) : gz_V mS X G 2 (0, 0) (mF m) 0 [(0, .ref (gz_ad G 2000)), (1, .int x1)] [] := by
  unfold mf_doesMind at h
  refine gz_aload_n (pc := 0) hX dX6_doesMind_0 rfl 0 rfl ?_
  refine gz_iload_n (pc := 1) hX dX6_doesMind_1 rfl 1 rfl ?_
  obtain ⟨⟨r1, m2⟩, c3, h⟩ := gz_bd h
  refine mc_doesBurn (pc := 2) hX c3 ⟨Nat.le_of_ble_eq_true rfl, Nat.le_of_ble_eq_true rfl⟩ (rest := []) rfl (Nat.le_of_ble_eq_true rfl) dX6_doesMind_2 ?_
  refine gz_if_eq (pc := 5) (tgt := 31) hX dX6_doesMind_5 (by decide) (fun g4 => ?_) (fun g4 => ?_)
  · replace h := gz_it' g4 h
    refine gz_sub (lw := [(0, .ref (gz_ad G 2000))]) [0] rfl ?_
    exact wb_X6_doesMind_31 hX h hk
  · replace h := gz_if' g4 h
    refine gz_aload_n (pc := 8) hX dX6_doesMind_8 rfl 0 rfl ?_
    refine gz_iconst (pc := 9) (v := (1 : Int32)) hX dX6_doesMind_9 (by decide) ?_
    obtain ⟨⟨r5, m6⟩, c7, h⟩ := gz_bd h
    refine mc_isTold (pc := 10) hX c7 ⟨Nat.le_of_ble_eq_true rfl, Nat.le_of_ble_eq_true rfl⟩ (rest := []) rfl (Nat.le_of_ble_eq_true rfl) dX6_doesMind_10 ?_
    refine gz_if_eq (pc := 13) (tgt := 31) hX dX6_doesMind_13 (by decide) (fun g8 => ?_) (fun g8 => ?_)
    · replace h := gz_it' g8 h
      refine gz_sub (lw := [(0, .ref (gz_ad G 2000))]) [0] rfl ?_
      exact wb_X6_doesMind_31 hX h hk
    · replace h := gz_if' g8 h
      refine gz_aload_n (pc := 16) hX dX6_doesMind_16 rfl 0 rfl ?_
      refine gz_iconst (pc := 17) (v := (1 : Int32)) hX dX6_doesMind_17 (by decide) ?_
      refine gz_iload_n (pc := 18) hX dX6_doesMind_18 rfl 1 rfl ?_
      obtain ⟨⟨r9, m10⟩, c11, h⟩ := gz_bd h
      refine mc_codesTell (pc := 19) hX c11 ⟨Nat.le_of_ble_eq_true rfl, Nat.le_of_ble_eq_true rfl⟩ (rest := []) rfl (Nat.le_of_ble_eq_true rfl) dX6_doesMind_19 ?_
      refine gz_lconst (pc := 22) (v := (1 : Int64)) hX dX6_doesMind_22 (by decide) ?_
      refine gz_lcmp_ne (pc := 23) (tgt := 31) hX dX6_doesMind_23 dX6_doesMind_24 (by decide) (fun g12 => ?_) (fun g12 => ?_)
      · replace h := gz_if' g12 h
        refine gz_sub (lw := [(0, .ref (gz_ad G 2000))]) [0] rfl ?_
        exact wb_X6_doesMind_31 hX h hk
      · replace h := gz_it' g12 h
        refine gz_iconst (pc := 27) (v := (1 : Int32)) hX dX6_doesMind_27 (by decide) ?_
        refine gz_goto (pc := 28) (tgt := 32) hX dX6_doesMind_28 (by decide) ?_
        obtain rfl := Option.some.inj h
        exact hk _ _ dX6_doesMind_32 (Or.inr rfl)
theorem mt_doesMind {G : gz_G} {l : Launch} {x1 : Int32}  {m m9 : MM} {r : Int32} (h : mf_doesMind x1 m = some (r, m9)) : gz_Met mS G l yX6_doesMind cX6_doesMind 2 (some .boolean) (mRm 5 111) [.ref (gz_ad G 2000), .int x1] (mF m) (mF m9) (some (.int r)) :=
  gz_ofZ (plainFor_of_name mz_plain) (Nat.le_of_ble_eq_true rfl) fun X _ hX hk => wm_doesMind hX h hk
theorem mc_doesMind {X : gz_X} {G : gz_G} {cc : ByteArray} {nL fr lo pc : Nat} {lv : List (Nat × Value)} {rest st0 : List Value} (hX : gz_C mS X G cc nL RX6 fr lo) {x1 : Int32}  {m m9 : MM} {r : Int32} (h : mf_doesMind x1 m = some (r, m9)) (hroom : 5 + 1 ≤ fr ∧ 8 + (2 + 11) + 111 ≤ lo) (hst : st0 = [.int x1, .ref (gz_ad G 2000)] ++ rest) (hW : (rest.map fun v => v.category).sum ≤ 8) (hd : decode cc pc = .ok (.invokevirtual 501, 3)) (kk : gz_V mS X G nL (0, 0) (mF m9) (pc + 3) lv (.int r :: rest)) : gz_V mS X G nL (0, 0) (mF m) pc lv st0 :=
  gz_callV hX mz_E (As := [.int x1]) (rest := rest) (q := (RX6, TX6, 104)) (ci := 0) (c := 2000) (mt_doesMind (l := X.2.1) h) (lw_V q2346 q2348 qs122 q182 q2349) (n := 1) (by decide +kernel) hroom rfl rfl (by decide) rfl hst hW hd (rem := (0, 0)) kk
/-! thing(II)I -/
noncomputable def mf_thing (x1 : Int32) (x2 : Int32) (m : MM) : Option (Int32 × MM) :=
  ((mf_isThing (x1.toInt64) m).bind fun (r1, m2) => (if r1 = (0 : Int32) then some ((-1 : Int32), m2) else (if x2 = (0 : Int32) then ((mf_hallOf x1 m2).bind fun (r6, m7) => some (r6, m7)) else (if x2 = (1 : Int32) then ((mf_heatOf x1 m2).bind fun (r10, m11) => some (r10, m11)) else (if x2 = (2 : Int32) then ((mf_strengthOf x1 m2).bind fun (r14, m15) => some (r14, m15)) else (if x2 = (3 : Int32) then ((mf_smellOf x1 m2).bind fun (r18, m19) => some (r18, m19)) else (if x2 = (4 : Int32) then ((mf_doesMind x1 m2).bind fun (r22, m23) => (if r22 = (0 : Int32) then some ((0 : Int32), m23) else some ((1 : Int32), m23))) else some ((-1 : Int32), m2))))))))
theorem wm_thing {X : gz_X} {G : gz_G} (hX : gz_C mS X G cX6_thing 3 RX6 6 132) {x1 : Int32} {x2 : Int32}  {m : MM} {z : (Int32 × MM)} (h : mf_thing x1 x2 m = some z) (hk : (fun z : (Int32 × MM) => gz_kI mS X G 3 (0, 0) cX6_thing (mF z.2) z.1) z) : gz_V mS X G 3 (0, 0) (mF m) 0 [(0, .ref (gz_ad G 2000)), (1, .int x1), (2, .int x2)] [] := by
  unfold mf_thing at h
  refine gz_aload_n (pc := 0) hX dX6_thing_0 rfl 0 rfl ?_
  refine gz_iload_n (pc := 1) hX dX6_thing_1 rfl 1 rfl ?_
  refine gz_i2l (pc := 2) hX dX6_thing_2 ?_
  obtain ⟨⟨r1, m2⟩, c3, h⟩ := gz_bd h
  refine mc_isThing (pc := 3) hX c3 ⟨Nat.le_of_ble_eq_true rfl, Nat.le_of_ble_eq_true rfl⟩ (rest := []) rfl (Nat.le_of_ble_eq_true rfl) dX6_thing_3 ?_
  refine gz_if_ne (pc := 6) (tgt := 11) hX dX6_thing_6 (by decide) (fun g4 => ?_) (fun g4 => ?_)
  · replace h := gz_if' g4 h
    refine gz_iload_n (pc := 11) hX dX6_thing_11 rfl 2 rfl ?_
    by_cases g5 : x2 = (0 : Int32)
    · replace h := gz_it' g5 h
      refine gz_tsIn (pc := 12) (tgt := 48) (off := 36) (v := (0 : Int32)) hX g5 dX6_thing_12 (by decide) (by decide) ?_
      refine gz_aload_n (pc := 48) hX dX6_thing_48 rfl 0 rfl ?_
      refine gz_iload_n (pc := 49) hX dX6_thing_49 rfl 1 rfl ?_
      obtain ⟨⟨r6, m7⟩, c8, h⟩ := gz_bd h
      refine mc_hallOf (pc := 50) hX c8 ⟨Nat.le_of_ble_eq_true rfl, Nat.le_of_ble_eq_true rfl⟩ (rest := []) rfl (Nat.le_of_ble_eq_true rfl) dX6_thing_50 ?_
      obtain rfl := Option.some.inj h
      exact hk _ _ dX6_thing_53
    · replace h := gz_if' g5 h
      by_cases g9 : x2 = (1 : Int32)
      · replace h := gz_it' g9 h
        refine gz_tsIn (pc := 12) (tgt := 54) (off := 42) (v := (1 : Int32)) hX g9 dX6_thing_12 (by decide) (by decide) ?_
        refine gz_aload_n (pc := 54) hX dX6_thing_54 rfl 0 rfl ?_
        refine gz_iload_n (pc := 55) hX dX6_thing_55 rfl 1 rfl ?_
        obtain ⟨⟨r10, m11⟩, c12, h⟩ := gz_bd h
        refine mc_heatOf (pc := 56) hX c12 ⟨Nat.le_of_ble_eq_true rfl, Nat.le_of_ble_eq_true rfl⟩ (rest := []) rfl (Nat.le_of_ble_eq_true rfl) dX6_thing_56 ?_
        obtain rfl := Option.some.inj h
        exact hk _ _ dX6_thing_59
      · replace h := gz_if' g9 h
        by_cases g13 : x2 = (2 : Int32)
        · replace h := gz_it' g13 h
          refine gz_tsIn (pc := 12) (tgt := 60) (off := 48) (v := (2 : Int32)) hX g13 dX6_thing_12 (by decide) (by decide) ?_
          refine gz_aload_n (pc := 60) hX dX6_thing_60 rfl 0 rfl ?_
          refine gz_iload_n (pc := 61) hX dX6_thing_61 rfl 1 rfl ?_
          obtain ⟨⟨r14, m15⟩, c16, h⟩ := gz_bd h
          refine mc_strengthOf (pc := 62) hX c16 ⟨Nat.le_of_ble_eq_true rfl, Nat.le_of_ble_eq_true rfl⟩ (rest := []) rfl (Nat.le_of_ble_eq_true rfl) dX6_thing_62 ?_
          obtain rfl := Option.some.inj h
          exact hk _ _ dX6_thing_65
        · replace h := gz_if' g13 h
          by_cases g17 : x2 = (3 : Int32)
          · replace h := gz_it' g17 h
            refine gz_tsIn (pc := 12) (tgt := 66) (off := 54) (v := (3 : Int32)) hX g17 dX6_thing_12 (by decide) (by decide) ?_
            refine gz_aload_n (pc := 66) hX dX6_thing_66 rfl 0 rfl ?_
            refine gz_iload_n (pc := 67) hX dX6_thing_67 rfl 1 rfl ?_
            obtain ⟨⟨r18, m19⟩, c20, h⟩ := gz_bd h
            refine mc_smellOf (pc := 68) hX c20 ⟨Nat.le_of_ble_eq_true rfl, Nat.le_of_ble_eq_true rfl⟩ (rest := []) rfl (Nat.le_of_ble_eq_true rfl) dX6_thing_68 ?_
            obtain rfl := Option.some.inj h
            exact hk _ _ dX6_thing_71
          · replace h := gz_if' g17 h
            by_cases g21 : x2 = (4 : Int32)
            · replace h := gz_it' g21 h
              refine gz_tsIn (pc := 12) (tgt := 72) (off := 60) (v := (4 : Int32)) hX g21 dX6_thing_12 (by decide) (by decide) ?_
              refine gz_aload_n (pc := 72) hX dX6_thing_72 rfl 0 rfl ?_
              refine gz_iload_n (pc := 73) hX dX6_thing_73 rfl 1 rfl ?_
              obtain ⟨⟨r22, m23⟩, c24, h⟩ := gz_bd h
              refine mc_doesMind (pc := 74) hX c24 ⟨Nat.le_of_ble_eq_true rfl, Nat.le_of_ble_eq_true rfl⟩ (rest := []) rfl (Nat.le_of_ble_eq_true rfl) dX6_thing_74 ?_
              refine gz_if_eq (pc := 77) (tgt := 84) hX dX6_thing_77 (by decide) (fun g25 => ?_) (fun g25 => ?_)
              · replace h := gz_it' g25 h
                refine gz_iconst (pc := 84) (v := (0 : Int32)) hX dX6_thing_84 (by decide) ?_
                obtain rfl := Option.some.inj h
                exact hk _ _ dX6_thing_85
              · replace h := gz_if' g25 h
                refine gz_iconst (pc := 80) (v := (1 : Int32)) hX dX6_thing_80 (by decide) ?_
                refine gz_goto (pc := 81) (tgt := 85) hX dX6_thing_81 (by decide) ?_
                obtain rfl := Option.some.inj h
                exact hk _ _ dX6_thing_85
            · replace h := gz_if' g21 h
              have ng5 := lv_neT g5 (a := 0) (by decide)
              have ng9 := lv_neT g9 (a := 1) (by decide)
              have ng13 := lv_neT g13 (a := 2) (by decide)
              have ng17 := lv_neT g17 (a := 3) (by decide)
              have ng21 := lv_neT g21 (a := 4) (by decide)
              refine gz_tsOut (pc := 12) (tgt := 86) hX dX6_thing_12 (by omega) (by decide) ?_
              refine gz_iconst (pc := 86) (v := (-1 : Int32)) hX dX6_thing_86 (by decide) ?_
              obtain rfl := Option.some.inj h
              exact hk _ _ dX6_thing_87
  · replace h := gz_it' g4 h
    refine gz_iconst (pc := 9) (v := (-1 : Int32)) hX dX6_thing_9 (by decide) ?_
    obtain rfl := Option.some.inj h
    exact hk _ _ dX6_thing_10
theorem mt_thing {G : gz_G} {l : Launch} {x1 : Int32} {x2 : Int32}  {m m9 : MM} {r : Int32} (h : mf_thing x1 x2 m = some (r, m9)) : gz_Met mS G l yX6_thing cX6_thing 3 (some .int) (mRm 6 132) [.ref (gz_ad G 2000), .int x1, .int x2] (mF m) (mF m9) (some (.int r)) :=
  gz_ofI (plainFor_of_name mz_plain) (Nat.le_of_ble_eq_true rfl) fun X _ hX hk => wm_thing hX h hk
/-! isTie(I)Z -/
noncomputable def mf_isTie (x1 : Int32) (m : MM) : Option (Int32 × MM) :=
  ((mf_tieMany m).bind fun (r1, m2) => ((mf_isIn (x1.toInt64) (0 : Int64) ((r1 - (1 : Int32)).toInt64) m2).bind fun (r4, m5) => (if r4 = 0 ∨ r4 = 1 then some (r4, m5) else none)))
theorem wm_isTie {X : gz_X} {G : gz_G} (hX : gz_C mS X G cX6_isTie 2 RX6 1 25) {x1 : Int32}  {m : MM} {z : (Int32 × MM)} (h : mf_isTie x1 m = some z) (hk : (fun z : (Int32 × MM) => gz_kZ mS X G 2 (0, 0) cX6_isTie (mF z.2) z.1) z) : gz_V mS X G 2 (0, 0) (mF m) 0 [(0, .ref (gz_ad G 2000)), (1, .int x1)] [] := by
  unfold mf_isTie at h
  refine gz_iload_n (pc := 0) hX dX6_isTie_0 rfl 1 rfl ?_
  refine gz_i2l (pc := 1) hX dX6_isTie_1 ?_
  refine gz_lconst (pc := 2) (v := (0 : Int64)) hX dX6_isTie_2 (by decide) ?_
  refine gz_aload_n (pc := 3) hX dX6_isTie_3 rfl 0 rfl ?_
  obtain ⟨⟨r1, m2⟩, c3, h⟩ := gz_bd h
  refine mc_tieMany (pc := 4) hX c3 ⟨Nat.le_of_ble_eq_true rfl, Nat.le_of_ble_eq_true rfl⟩ (rest := [.long (0 : Int64), .long (x1.toInt64)]) rfl (Nat.le_of_ble_eq_true rfl) dX6_isTie_4 ?_
  refine gz_iconst (pc := 7) (v := (1 : Int32)) hX dX6_isTie_7 (by decide) ?_
  refine gz_isub (pc := 8) hX dX6_isTie_8 ?_
  refine gz_i2l (pc := 9) hX dX6_isTie_9 ?_
  obtain ⟨⟨r4, m5⟩, c6, h⟩ := gz_bd h
  refine mc_isIn (pc := 10) hX c6 ⟨Nat.le_of_ble_eq_true rfl, Nat.le_of_ble_eq_true rfl⟩ (rest := []) rfl (Nat.le_of_ble_eq_true rfl) dX6_isTie_10 ?_
  obtain ⟨g7, h⟩ := gz_gu h
  obtain rfl := Option.some.inj h
  exact hk _ _ dX6_isTie_13 g7
theorem mt_isTie {G : gz_G} {l : Launch} {x1 : Int32}  {m m9 : MM} {r : Int32} (h : mf_isTie x1 m = some (r, m9)) : gz_Met mS G l yX6_isTie cX6_isTie 2 (some .boolean) (mRm 1 25) [.ref (gz_ad G 2000), .int x1] (mF m) (mF m9) (some (.int r)) :=
  gz_ofZ (plainFor_of_name mz_plain) (Nat.le_of_ble_eq_true rfl) fun X _ hX hk => wm_isTie hX h hk
theorem mc_isTie {X : gz_X} {G : gz_G} {cc : ByteArray} {nL fr lo pc : Nat} {lv : List (Nat × Value)} {rest st0 : List Value} (hX : gz_C mS X G cc nL RX6 fr lo) {x1 : Int32}  {m m9 : MM} {r : Int32} (h : mf_isTie x1 m = some (r, m9)) (hroom : 1 + 1 ≤ fr ∧ 8 + (2 + 11) + 25 ≤ lo) (hst : st0 = [.int x1, .ref (gz_ad G 2000)] ++ rest) (hW : (rest.map fun v => v.category).sum ≤ 8) (hd : decode cc pc = .ok (.invokevirtual 504, 3)) (kk : gz_V mS X G nL (0, 0) (mF m9) (pc + 3) lv (.int r :: rest)) : gz_V mS X G nL (0, 0) (mF m) pc lv st0 :=
  gz_callV hX mz_E (As := [.int x1]) (rest := rest) (q := (RX6, TX6, 104)) (ci := 0) (c := 2000) (mt_isTie (l := X.2.1) h) (lw_V q2386 q2388 qs129 q182 q2389) (n := 1) (by decide +kernel) hroom rfl rfl (by decide) rfl hst hW hd (rem := (0, 0)) kk
/-! fromOf(I)I -/
noncomputable def mf_fromOf (x1 : Int32) (m : MM) : Option (Int32 × MM) :=
  (if gz_in ((24 : Int32) + ((2 : Int32) * x1)) (48) then some ((m.1 1043 (gz_ix ((24 : Int32) + ((2 : Int32) * x1)))), m) else none)
theorem wm_fromOf {X : gz_X} {G : gz_G} (hX : gz_C mS X G cX6_fromOf 2 RX6 0 0) {x1 : Int32}  {m : MM} {z : (Int32 × MM)} (h : mf_fromOf x1 m = some z) (hk : (fun z : (Int32 × MM) => gz_kI mS X G 2 (0, 0) cX6_fromOf (mF z.2) z.1) z) : gz_V mS X G 2 (0, 0) (mF m) 0 [(0, .ref (gz_ad G 2000)), (1, .int x1)] [] := by
  unfold mf_fromOf at h
  refine gz_aload_n (pc := 0) hX dX6_fromOf_0 rfl 0 rfl ?_
  refine mg_42 (pc := 1) hX dX6_fromOf_1 ?_
  refine gz_bipush (pc := 4) (v := (24 : Int32)) hX dX6_fromOf_4 (by decide) ?_
  refine gz_iconst (pc := 6) (v := (2 : Int32)) hX dX6_fromOf_6 (by decide) ?_
  refine gz_iload_n (pc := 7) hX dX6_fromOf_7 rfl 1 rfl ?_
  refine gz_imul (pc := 8) hX dX6_fromOf_8 ?_
  refine gz_iadd (pc := 9) hX dX6_fromOf_9 ?_
  obtain ⟨g1, h⟩ := gz_gu h
  refine mz_iald (pc := 10) (c := 1043) (n := 48) hX rfl rfl g1 dX6_fromOf_10 ?_
  obtain rfl := Option.some.inj h
  exact hk _ _ dX6_fromOf_11
theorem mt_fromOf {G : gz_G} {l : Launch} {x1 : Int32}  {m m9 : MM} {r : Int32} (h : mf_fromOf x1 m = some (r, m9)) : gz_Met mS G l yX6_fromOf cX6_fromOf 2 (some .int) (mRm 0 0) [.ref (gz_ad G 2000), .int x1] (mF m) (mF m9) (some (.int r)) :=
  gz_ofI (plainFor_of_name mz_plain) (Nat.le_of_ble_eq_true rfl) fun X _ hX hk => wm_fromOf hX h hk
theorem mc_fromOf {X : gz_X} {G : gz_G} {cc : ByteArray} {nL fr lo pc : Nat} {lv : List (Nat × Value)} {rest st0 : List Value} (hX : gz_C mS X G cc nL RX6 fr lo) {x1 : Int32}  {m m9 : MM} {r : Int32} (h : mf_fromOf x1 m = some (r, m9)) (hroom : 0 + 1 ≤ fr ∧ 8 + (2 + 11) + 0 ≤ lo) (hst : st0 = [.int x1, .ref (gz_ad G 2000)] ++ rest) (hW : (rest.map fun v => v.category).sum ≤ 8) (hd : decode cc pc = .ok (.invokevirtual 428, 3)) (kk : gz_V mS X G nL (0, 0) (mF m9) (pc + 3) lv (.int r :: rest)) : gz_V mS X G nL (0, 0) (mF m) pc lv st0 :=
  gz_callV hX mz_E (As := [.int x1]) (rest := rest) (q := (RX6, TX6, 104)) (ci := 0) (c := 2000) (mt_fromOf (l := X.2.1) h) (lw_V q2390 q2392 qs130 q182 q2393) (n := 1) (by decide +kernel) hroom rfl rfl (by decide) rfl hst hW hd (rem := (0, 0)) kk
/-! toOf(I)I -/
noncomputable def mf_toOf (x1 : Int32) (m : MM) : Option (Int32 × MM) :=
  (if gz_in ((25 : Int32) + ((2 : Int32) * x1)) (48) then some ((m.1 1043 (gz_ix ((25 : Int32) + ((2 : Int32) * x1)))), m) else none)
theorem wm_toOf {X : gz_X} {G : gz_G} (hX : gz_C mS X G cX6_toOf 2 RX6 0 0) {x1 : Int32}  {m : MM} {z : (Int32 × MM)} (h : mf_toOf x1 m = some z) (hk : (fun z : (Int32 × MM) => gz_kI mS X G 2 (0, 0) cX6_toOf (mF z.2) z.1) z) : gz_V mS X G 2 (0, 0) (mF m) 0 [(0, .ref (gz_ad G 2000)), (1, .int x1)] [] := by
  unfold mf_toOf at h
  refine gz_aload_n (pc := 0) hX dX6_toOf_0 rfl 0 rfl ?_
  refine mg_42 (pc := 1) hX dX6_toOf_1 ?_
  refine gz_bipush (pc := 4) (v := (25 : Int32)) hX dX6_toOf_4 (by decide) ?_
  refine gz_iconst (pc := 6) (v := (2 : Int32)) hX dX6_toOf_6 (by decide) ?_
  refine gz_iload_n (pc := 7) hX dX6_toOf_7 rfl 1 rfl ?_
  refine gz_imul (pc := 8) hX dX6_toOf_8 ?_
  refine gz_iadd (pc := 9) hX dX6_toOf_9 ?_
  obtain ⟨g1, h⟩ := gz_gu h
  refine mz_iald (pc := 10) (c := 1043) (n := 48) hX rfl rfl g1 dX6_toOf_10 ?_
  obtain rfl := Option.some.inj h
  exact hk _ _ dX6_toOf_11
theorem mt_toOf {G : gz_G} {l : Launch} {x1 : Int32}  {m m9 : MM} {r : Int32} (h : mf_toOf x1 m = some (r, m9)) : gz_Met mS G l yX6_toOf cX6_toOf 2 (some .int) (mRm 0 0) [.ref (gz_ad G 2000), .int x1] (mF m) (mF m9) (some (.int r)) :=
  gz_ofI (plainFor_of_name mz_plain) (Nat.le_of_ble_eq_true rfl) fun X _ hX hk => wm_toOf hX h hk
theorem mc_toOf {X : gz_X} {G : gz_G} {cc : ByteArray} {nL fr lo pc : Nat} {lv : List (Nat × Value)} {rest st0 : List Value} (hX : gz_C mS X G cc nL RX6 fr lo) {x1 : Int32}  {m m9 : MM} {r : Int32} (h : mf_toOf x1 m = some (r, m9)) (hroom : 0 + 1 ≤ fr ∧ 8 + (2 + 11) + 0 ≤ lo) (hst : st0 = [.int x1, .ref (gz_ad G 2000)] ++ rest) (hW : (rest.map fun v => v.category).sum ≤ 8) (hd : decode cc pc = .ok (.invokevirtual 431, 3)) (kk : gz_V mS X G nL (0, 0) (mF m9) (pc + 3) lv (.int r :: rest)) : gz_V mS X G nL (0, 0) (mF m) pc lv st0 :=
  gz_callV hX mz_E (As := [.int x1]) (rest := rest) (q := (RX6, TX6, 104)) (ci := 0) (c := 2000) (mt_toOf (l := X.2.1) h) (lw_V q2394 q2396 qs131 q182 q2397) (n := 1) (by decide +kernel) hroom rfl rfl (by decide) rfl hst hW hd (rem := (0, 0)) kk
/-! tie(II)I -/
noncomputable def mf_tie (x1 : Int32) (x2 : Int32) (m : MM) : Option (Int32 × MM) :=
  ((mf_isTie x1 m).bind fun (r1, m2) => (if r1 = (0 : Int32) then some ((-1 : Int32), m2) else (if x2 = (0 : Int32) then ((mf_fromOf x1 m2).bind fun (r12, m13) => some (r12, m13)) else (if x2 = (1 : Int32) then ((mf_toOf x1 m2).bind fun (r9, m10) => some (r9, m10)) else (if x2 = (2 : Int32) then (if gz_in ((2 : Int32) + x1) (151) then some ((m2.1 1051 (gz_ix ((2 : Int32) + x1))), m2) else none) else some ((-1 : Int32), m2))))))
theorem wm_tie {X : gz_X} {G : gz_G} (hX : gz_C mS X G cX6_tie 3 RX6 2 46) {x1 : Int32} {x2 : Int32}  {m : MM} {z : (Int32 × MM)} (h : mf_tie x1 x2 m = some z) (hk : (fun z : (Int32 × MM) => gz_kI mS X G 3 (0, 0) cX6_tie (mF z.2) z.1) z) : gz_V mS X G 3 (0, 0) (mF m) 0 [(0, .ref (gz_ad G 2000)), (1, .int x1), (2, .int x2)] [] := by
  unfold mf_tie at h
  refine gz_aload_n (pc := 0) hX dX6_tie_0 rfl 0 rfl ?_
  refine gz_iload_n (pc := 1) hX dX6_tie_1 rfl 1 rfl ?_
  obtain ⟨⟨r1, m2⟩, c3, h⟩ := gz_bd h
  refine mc_isTie (pc := 2) hX c3 ⟨Nat.le_of_ble_eq_true rfl, Nat.le_of_ble_eq_true rfl⟩ (rest := []) rfl (Nat.le_of_ble_eq_true rfl) dX6_tie_2 ?_
  refine gz_if_ne (pc := 5) (tgt := 10) hX dX6_tie_5 (by decide) (fun g4 => ?_) (fun g4 => ?_)
  · replace h := gz_if' g4 h
    refine gz_iload_n (pc := 10) hX dX6_tie_10 rfl 2 rfl ?_
    refine gz_if_ne (pc := 11) (tgt := 22) hX dX6_tie_11 (by decide) (fun g5 => ?_) (fun g5 => ?_)
    · replace h := gz_if' g5 h
      refine gz_iload_n (pc := 22) hX dX6_tie_22 rfl 2 rfl ?_
      refine gz_iconst (pc := 23) (v := (1 : Int32)) hX dX6_tie_23 (by decide) ?_
      refine gz_icmp_ne (pc := 24) (tgt := 35) hX dX6_tie_24 (by decide) (fun g6 => ?_) (fun g6 => ?_)
      · replace h := gz_if' g6 h
        refine gz_iload_n (pc := 35) hX dX6_tie_35 rfl 2 rfl ?_
        refine gz_iconst (pc := 36) (v := (2 : Int32)) hX dX6_tie_36 (by decide) ?_
        refine gz_icmp_ne (pc := 37) (tgt := 51) hX dX6_tie_37 (by decide) (fun g7 => ?_) (fun g7 => ?_)
        · replace h := gz_if' g7 h
          refine gz_iconst (pc := 51) (v := (-1 : Int32)) hX dX6_tie_51 (by decide) ?_
          obtain rfl := Option.some.inj h
          exact hk _ _ dX6_tie_52
        · replace h := gz_it' g7 h
          refine gz_aload_n (pc := 40) hX dX6_tie_40 rfl 0 rfl ?_
          refine mg_50 (pc := 41) hX dX6_tie_41 ?_
          refine gz_iconst (pc := 44) (v := (2 : Int32)) hX dX6_tie_44 (by decide) ?_
          refine gz_iload_n (pc := 45) hX dX6_tie_45 rfl 1 rfl ?_
          refine gz_iadd (pc := 46) hX dX6_tie_46 ?_
          obtain ⟨g8, h⟩ := gz_gu h
          refine mz_iald (pc := 47) (c := 1051) (n := 151) hX rfl rfl g8 dX6_tie_47 ?_
          refine gz_goto (pc := 48) (tgt := 52) hX dX6_tie_48 (by decide) ?_
          obtain rfl := Option.some.inj h
          exact hk _ _ dX6_tie_52
      · replace h := gz_it' g6 h
        refine gz_aload_n (pc := 27) hX dX6_tie_27 rfl 0 rfl ?_
        refine gz_iload_n (pc := 28) hX dX6_tie_28 rfl 1 rfl ?_
        obtain ⟨⟨r9, m10⟩, c11, h⟩ := gz_bd h
        refine mc_toOf (pc := 29) hX c11 ⟨Nat.le_of_ble_eq_true rfl, Nat.le_of_ble_eq_true rfl⟩ (rest := []) rfl (Nat.le_of_ble_eq_true rfl) dX6_tie_29 ?_
        refine gz_goto (pc := 32) (tgt := 52) hX dX6_tie_32 (by decide) ?_
        obtain rfl := Option.some.inj h
        exact hk _ _ dX6_tie_52
    · replace h := gz_it' g5 h
      refine gz_aload_n (pc := 14) hX dX6_tie_14 rfl 0 rfl ?_
      refine gz_iload_n (pc := 15) hX dX6_tie_15 rfl 1 rfl ?_
      obtain ⟨⟨r12, m13⟩, c14, h⟩ := gz_bd h
      refine mc_fromOf (pc := 16) hX c14 ⟨Nat.le_of_ble_eq_true rfl, Nat.le_of_ble_eq_true rfl⟩ (rest := []) rfl (Nat.le_of_ble_eq_true rfl) dX6_tie_16 ?_
      refine gz_goto (pc := 19) (tgt := 52) hX dX6_tie_19 (by decide) ?_
      obtain rfl := Option.some.inj h
      exact hk _ _ dX6_tie_52
  · replace h := gz_it' g4 h
    refine gz_iconst (pc := 8) (v := (-1 : Int32)) hX dX6_tie_8 (by decide) ?_
    obtain rfl := Option.some.inj h
    exact hk _ _ dX6_tie_9
theorem mt_tie {G : gz_G} {l : Launch} {x1 : Int32} {x2 : Int32}  {m m9 : MM} {r : Int32} (h : mf_tie x1 x2 m = some (r, m9)) : gz_Met mS G l yX6_tie cX6_tie 3 (some .int) (mRm 2 46) [.ref (gz_ad G 2000), .int x1, .int x2] (mF m) (mF m9) (some (.int r)) :=
  gz_ofI (plainFor_of_name mz_plain) (Nat.le_of_ble_eq_true rfl) fun X _ hX hk => wm_tie hX h hk
/-! endsOf(I)I -/
def mP_X6_endsOf_6 (X : gz_X) (G : gz_G) (q : (Int32 × Int32 × Int32 × MM)) : Prop := gz_V mS X G 5 (0, 0) (mF q.2.2.2) 6 [(0, .ref (gz_ad G 2000)), (1, .int q.1), (2, .int q.2.1), (3, .int q.2.2.1)] []
def mP_X6_endsOf_16 (X : gz_X) (G : gz_G) (q : (Int32 × Int32 × Int32 × Int32 × MM)) : Prop := gz_V mS X G 5 (0, 0) (mF q.2.2.2.2) 16 [(0, .ref (gz_ad G 2000)), (1, .int q.1), (2, .int q.2.1), (3, .int q.2.2.1), (4, .int q.2.2.2.1)] []
noncomputable def mj_X6_endsOf_59 (x1 : Int32) (x2 : Int32) (x3 : Int32) (x4 : Int32) (m : MM) : Option ((Int32 × Int32 × Int32 × Int32 × MM) ⊕ ((Int32 × Int32 × Int32 × MM) ⊕ (Int32 × MM))) :=
  gz_let (x4 + (1 : Int32)) fun y1 => some (Sum.inl (x1, x2, x3, y1, m))
theorem wb_X6_endsOf_59 {X : gz_X} {G : gz_G} (hX : gz_C mS X G cX6_endsOf 5 RX6 1 21) {x1 : Int32} {x2 : Int32} {x3 : Int32} {x4 : Int32}  {m : MM} {z : ((Int32 × Int32 × Int32 × Int32 × MM) ⊕ ((Int32 × Int32 × Int32 × MM) ⊕ (Int32 × MM)))} (h : mj_X6_endsOf_59 x1 x2 x3 x4 m = some z) (hk : (Sum.elim (mP_X6_endsOf_16 X G) (Sum.elim (mP_X6_endsOf_6 X G) (fun z : (Int32 × MM) => gz_kI mS X G 5 (0, 0) cX6_endsOf (mF z.2) z.1))) z) : gz_V mS X G 5 (0, 0) (mF m) 59 [(0, .ref (gz_ad G 2000)), (1, .int x1), (2, .int x2), (3, .int x3), (4, .int x4)] [] := by
  unfold mj_X6_endsOf_59 at h
  obtain ⟨y1, ey1, h⟩ := gz_lt h
  refine gz_iinc (pc := 59) (v := y1) (lw := [(4, .int y1), (0, .ref (gz_ad G 2000)), (1, .int x1), (2, .int x2), (3, .int x3)]) hX dX6_endsOf_59 (k := 4) rfl (by rw [ey1]; rfl) (by decide) rfl ?_
  refine gz_goto (pc := 62) (tgt := 16) hX dX6_endsOf_62 (by decide) ?_
  refine gz_sub (lw := [(0, .ref (gz_ad G 2000)), (1, .int x1), (2, .int x2), (3, .int x3), (4, .int y1)]) [1, 2, 3, 4, 0] rfl ?_
  obtain rfl := Option.some.inj h
  exact hk
noncomputable def mb_X6_endsOf_16 (x1 : Int32) (x2 : Int32) (x3 : Int32) (x4 : Int32) (m : MM) : Option ((Int32 × Int32 × Int32 × Int32 × MM) ⊕ ((Int32 × Int32 × Int32 × MM) ⊕ (Int32 × MM))) :=
  ((mf_tieMany m).bind fun (r1, m2) => (if r1 ≤ x4 then some (Sum.inr (Sum.inl (x1, x2, x3, m2))) else ((mf_doesHold x4 m2).bind fun (r5, m6) => (if r5 = (0 : Int32) then (mj_X6_endsOf_59 x1 x2 x3 x4 m6) else ((mf_fromOf x4 m6).bind fun (r9, m10) => (if ((x2 >>> (r9 &&& 31)) &&& (1 : Int32)) = (1 : Int32) then ((mf_toOf x4 m10).bind fun (r13, m14) => gz_let ((x2 ||| ((1 : Int32) <<< (r13 &&& 31)))) fun y16 => (mj_X6_endsOf_59 x1 y16 x3 x4 m14)) else (mj_X6_endsOf_59 x1 x2 x3 x4 m10)))))))
theorem wb_X6_endsOf_16 {X : gz_X} {G : gz_G} (hX : gz_C mS X G cX6_endsOf 5 RX6 1 21) {x1 : Int32} {x2 : Int32} {x3 : Int32} {x4 : Int32}  {m : MM} {z : ((Int32 × Int32 × Int32 × Int32 × MM) ⊕ ((Int32 × Int32 × Int32 × MM) ⊕ (Int32 × MM)))} (h : mb_X6_endsOf_16 x1 x2 x3 x4 m = some z) (hk : (Sum.elim (mP_X6_endsOf_16 X G) (Sum.elim (mP_X6_endsOf_6 X G) (fun z : (Int32 × MM) => gz_kI mS X G 5 (0, 0) cX6_endsOf (mF z.2) z.1))) z) : gz_V mS X G 5 (0, 0) (mF m) 16 [(0, .ref (gz_ad G 2000)), (1, .int x1), (2, .int x2), (3, .int x3), (4, .int x4)] [] := by
  unfold mb_X6_endsOf_16 at h
  refine gz_iload (pc := 16) hX dX6_endsOf_16 4 rfl ?_
  refine gz_aload_n (pc := 18) hX dX6_endsOf_18 rfl 0 rfl ?_
  obtain ⟨⟨r1, m2⟩, c3, h⟩ := gz_bd h
  refine mc_tieMany (pc := 19) hX c3 ⟨Nat.le_of_ble_eq_true rfl, Nat.le_of_ble_eq_true rfl⟩ (rest := [.int x4]) rfl (Nat.le_of_ble_eq_true rfl) dX6_endsOf_19 ?_
  refine gz_icmp_ge (pc := 22) (tgt := 65) hX dX6_endsOf_22 (by decide) (fun g4 => ?_) (fun g4 => ?_)
  · replace h := gz_it' g4 h
    refine gz_goto (pc := 65) (tgt := 6) hX dX6_endsOf_65 (by decide) ?_
    refine gz_sub (lw := [(0, .ref (gz_ad G 2000)), (1, .int x1), (2, .int x2), (3, .int x3)]) [0, 1, 2, 3] rfl ?_
    obtain rfl := Option.some.inj h
    exact hk
  · replace h := gz_if' g4 h
    refine gz_aload_n (pc := 25) hX dX6_endsOf_25 rfl 0 rfl ?_
    refine gz_iload (pc := 26) hX dX6_endsOf_26 4 rfl ?_
    obtain ⟨⟨r5, m6⟩, c7, h⟩ := gz_bd h
    refine mc_doesHold (pc := 28) hX c7 ⟨Nat.le_of_ble_eq_true rfl, Nat.le_of_ble_eq_true rfl⟩ (rest := []) rfl (Nat.le_of_ble_eq_true rfl) dX6_endsOf_28 ?_
    refine gz_if_eq (pc := 31) (tgt := 59) hX dX6_endsOf_31 (by decide) (fun g8 => ?_) (fun g8 => ?_)
    · replace h := gz_it' g8 h
      exact wb_X6_endsOf_59 hX h hk
    · replace h := gz_if' g8 h
      refine gz_iload_n (pc := 34) hX dX6_endsOf_34 rfl 2 rfl ?_
      refine gz_aload_n (pc := 35) hX dX6_endsOf_35 rfl 0 rfl ?_
      refine gz_iload (pc := 36) hX dX6_endsOf_36 4 rfl ?_
      obtain ⟨⟨r9, m10⟩, c11, h⟩ := gz_bd h
      refine mc_fromOf (pc := 38) hX c11 ⟨Nat.le_of_ble_eq_true rfl, Nat.le_of_ble_eq_true rfl⟩ (rest := [.int x2]) rfl (Nat.le_of_ble_eq_true rfl) dX6_endsOf_38 ?_
      refine gz_ishr (pc := 41) hX dX6_endsOf_41 ?_
      refine gz_iconst (pc := 42) (v := (1 : Int32)) hX dX6_endsOf_42 (by decide) ?_
      refine gz_iand (pc := 43) hX dX6_endsOf_43 ?_
      refine gz_iconst (pc := 44) (v := (1 : Int32)) hX dX6_endsOf_44 (by decide) ?_
      refine gz_icmp_ne (pc := 45) (tgt := 59) hX dX6_endsOf_45 (by decide) (fun g12 => ?_) (fun g12 => ?_)
      · replace h := gz_if' g12 h
        exact wb_X6_endsOf_59 hX h hk
      · replace h := gz_it' g12 h
        refine gz_iload_n (pc := 48) hX dX6_endsOf_48 rfl 2 rfl ?_
        refine gz_iconst (pc := 49) (v := (1 : Int32)) hX dX6_endsOf_49 (by decide) ?_
        refine gz_aload_n (pc := 50) hX dX6_endsOf_50 rfl 0 rfl ?_
        refine gz_iload (pc := 51) hX dX6_endsOf_51 4 rfl ?_
        obtain ⟨⟨r13, m14⟩, c15, h⟩ := gz_bd h
        refine mc_toOf (pc := 53) hX c15 ⟨Nat.le_of_ble_eq_true rfl, Nat.le_of_ble_eq_true rfl⟩ (rest := [.int (1 : Int32), .int x2]) rfl (Nat.le_of_ble_eq_true rfl) dX6_endsOf_53 ?_
        refine gz_ishl (pc := 56) hX dX6_endsOf_56 ?_
        refine gz_ior (pc := 57) hX dX6_endsOf_57 ?_
        obtain ⟨y16, ey16, h⟩ := gz_lt h
        refine gz_topi ey16 ?_
        refine gz_istore_n (pc := 58) (lw := [(2, .int y16), (0, .ref (gz_ad G 2000)), (1, .int x1), (3, .int x3), (4, .int x4)]) hX dX6_endsOf_58 rfl (by decide) rfl ?_
        refine gz_sub (lw := [(0, .ref (gz_ad G 2000)), (1, .int x1), (2, .int y16), (3, .int x3), (4, .int x4)]) [1, 2, 0, 3, 4] rfl ?_
        exact wb_X6_endsOf_59 hX h hk
noncomputable def ml_X6_endsOf_16 (x1 : Int32) (x2 : Int32) (x3 : Int32) (x4 : Int32) (m : MM) : Option ((Int32 × Int32 × Int32 × MM) ⊕ (Int32 × MM)) := gz_loop (fun q : (Int32 × Int32 × Int32 × Int32 × MM) => mb_X6_endsOf_16 q.1 q.2.1 q.2.2.1 q.2.2.2.1 q.2.2.2.2) (x1, x2, x3, x4, m)
theorem wl_X6_endsOf_16 {X : gz_X} {G : gz_G} (hX : gz_C mS X G cX6_endsOf 5 RX6 1 21) {x1 : Int32} {x2 : Int32} {x3 : Int32} {x4 : Int32}  {m : MM} {z : ((Int32 × Int32 × Int32 × MM) ⊕ (Int32 × MM))} (h : ml_X6_endsOf_16 x1 x2 x3 x4 m = some z) (hk : (Sum.elim (mP_X6_endsOf_6 X G) (fun z : (Int32 × MM) => gz_kI mS X G 5 (0, 0) cX6_endsOf (mF z.2) z.1)) z) : gz_V mS X G 5 (0, 0) (mF m) 16 [(0, .ref (gz_ad G 2000)), (1, .int x1), (2, .int x2), (3, .int x3), (4, .int x4)] [] := by
  have hp : mP_X6_endsOf_16 X G (x1, x2, x3, x4, m) := gz_loop_ind (fun q z hz hkz => wb_X6_endsOf_16 hX  hz hkz) h hk
  exact hp
noncomputable def mb_X6_endsOf_6 (x1 : Int32) (x2 : Int32) (x3 : Int32) (m : MM) : Option ((Int32 × Int32 × Int32 × MM) ⊕ (Int32 × MM)) :=
  (if x2 = x3 then some (Sum.inr ((x2 &&& (((1 : Int32) <<< (x1 &&& 31)) ^^^ (-1 : Int32))), m)) else (ml_X6_endsOf_16 x1 x2 x2 (0 : Int32) m))
theorem wb_X6_endsOf_6 {X : gz_X} {G : gz_G} (hX : gz_C mS X G cX6_endsOf 5 RX6 1 21) {x1 : Int32} {x2 : Int32} {x3 : Int32}  {m : MM} {z : ((Int32 × Int32 × Int32 × MM) ⊕ (Int32 × MM))} (h : mb_X6_endsOf_6 x1 x2 x3 m = some z) (hk : (Sum.elim (mP_X6_endsOf_6 X G) (fun z : (Int32 × MM) => gz_kI mS X G 5 (0, 0) cX6_endsOf (mF z.2) z.1)) z) : gz_V mS X G 5 (0, 0) (mF m) 6 [(0, .ref (gz_ad G 2000)), (1, .int x1), (2, .int x2), (3, .int x3)] [] := by
  unfold mb_X6_endsOf_6 at h
  refine gz_iload_n (pc := 6) hX dX6_endsOf_6 rfl 2 rfl ?_
  refine gz_iload_n (pc := 7) hX dX6_endsOf_7 rfl 3 rfl ?_
  refine gz_icmp_eq (pc := 8) (tgt := 68) hX dX6_endsOf_8 (by decide) (fun g1 => ?_) (fun g1 => ?_)
  · replace h := gz_it' g1 h
    refine gz_iload_n (pc := 68) hX dX6_endsOf_68 rfl 2 rfl ?_
    refine gz_iconst (pc := 69) (v := (1 : Int32)) hX dX6_endsOf_69 (by decide) ?_
    refine gz_iload_n (pc := 70) hX dX6_endsOf_70 rfl 1 rfl ?_
    refine gz_ishl (pc := 71) hX dX6_endsOf_71 ?_
    refine gz_iconst (pc := 72) (v := (-1 : Int32)) hX dX6_endsOf_72 (by decide) ?_
    refine gz_ixor (pc := 73) hX dX6_endsOf_73 ?_
    refine gz_iand (pc := 74) hX dX6_endsOf_74 ?_
    obtain rfl := Option.some.inj h
    exact hk _ _ dX6_endsOf_75
  · replace h := gz_if' g1 h
    refine gz_iload_n (pc := 11) hX dX6_endsOf_11 rfl 2 rfl ?_
    refine gz_istore_n (pc := 12) (lw := [(3, .int x2), (0, .ref (gz_ad G 2000)), (1, .int x1), (2, .int x2)]) hX dX6_endsOf_12 rfl (by decide) rfl ?_
    refine gz_iconst (pc := 13) (v := (0 : Int32)) hX dX6_endsOf_13 (by decide) ?_
    refine gz_istore (pc := 14) (lw := [(4, .int (0 : Int32)), (3, .int x2), (0, .ref (gz_ad G 2000)), (1, .int x1), (2, .int x2)]) hX dX6_endsOf_14 (by decide) rfl ?_
    refine gz_sub (lw := [(0, .ref (gz_ad G 2000)), (1, .int x1), (2, .int x2), (3, .int x2), (4, .int (0 : Int32))]) [2, 3, 4, 1, 0] rfl ?_
    exact wl_X6_endsOf_16 hX h hk
noncomputable def ml_X6_endsOf_6 (x1 : Int32) (x2 : Int32) (x3 : Int32) (m : MM) : Option (Int32 × MM) := gz_loop (fun q : (Int32 × Int32 × Int32 × MM) => mb_X6_endsOf_6 q.1 q.2.1 q.2.2.1 q.2.2.2) (x1, x2, x3, m)
theorem wl_X6_endsOf_6 {X : gz_X} {G : gz_G} (hX : gz_C mS X G cX6_endsOf 5 RX6 1 21) {x1 : Int32} {x2 : Int32} {x3 : Int32}  {m : MM} {z : (Int32 × MM)} (h : ml_X6_endsOf_6 x1 x2 x3 m = some z) (hk : (fun z : (Int32 × MM) => gz_kI mS X G 5 (0, 0) cX6_endsOf (mF z.2) z.1) z) : gz_V mS X G 5 (0, 0) (mF m) 6 [(0, .ref (gz_ad G 2000)), (1, .int x1), (2, .int x2), (3, .int x3)] [] := by
  have hp : mP_X6_endsOf_6 X G (x1, x2, x3, m) := gz_loop_ind (fun q z hz hkz => wb_X6_endsOf_6 hX  hz hkz) h hk
  exact hp
noncomputable def mf_endsOf (x1 : Int32) (m : MM) : Option (Int32 × MM) :=
  gz_let (((1 : Int32) <<< (x1 &&& 31))) fun y1 => (ml_X6_endsOf_6 x1 y1 (0 : Int32) m)
theorem wm_endsOf {X : gz_X} {G : gz_G} (hX : gz_C mS X G cX6_endsOf 5 RX6 1 21) {x1 : Int32}  {m : MM} {z : (Int32 × MM)} (h : mf_endsOf x1 m = some z) (hk : (fun z : (Int32 × MM) => gz_kI mS X G 5 (0, 0) cX6_endsOf (mF z.2) z.1) z) : gz_V mS X G 5 (0, 0) (mF m) 0 [(0, .ref (gz_ad G 2000)), (1, .int x1)] [] := by
  unfold mf_endsOf at h
  refine gz_iconst (pc := 0) (v := (1 : Int32)) hX dX6_endsOf_0 (by decide) ?_
  refine gz_iload_n (pc := 1) hX dX6_endsOf_1 rfl 1 rfl ?_
  refine gz_ishl (pc := 2) hX dX6_endsOf_2 ?_
  obtain ⟨y1, ey1, h⟩ := gz_lt h
  refine gz_topi ey1 ?_
  refine gz_istore_n (pc := 3) (lw := [(2, .int y1), (0, .ref (gz_ad G 2000)), (1, .int x1)]) hX dX6_endsOf_3 rfl (by decide) rfl ?_
  refine gz_iconst (pc := 4) (v := (0 : Int32)) hX dX6_endsOf_4 (by decide) ?_
  refine gz_istore_n (pc := 5) (lw := [(3, .int (0 : Int32)), (2, .int y1), (0, .ref (gz_ad G 2000)), (1, .int x1)]) hX dX6_endsOf_5 rfl (by decide) rfl ?_
  refine gz_sub (lw := [(0, .ref (gz_ad G 2000)), (1, .int x1), (2, .int y1), (3, .int (0 : Int32))]) [2, 3, 1, 0] rfl ?_
  exact wl_X6_endsOf_6 hX h hk
theorem mt_endsOf {G : gz_G} {l : Launch} {x1 : Int32}  {m m9 : MM} {r : Int32} (h : mf_endsOf x1 m = some (r, m9)) : gz_Met mS G l yX6_endsOf cX6_endsOf 5 (some .int) (mRm 1 21) [.ref (gz_ad G 2000), .int x1] (mF m) (mF m9) (some (.int r)) :=
  gz_ofI (plainFor_of_name mz_plain) (Nat.le_of_ble_eq_true rfl) fun X _ hX hk => wm_endsOf hX h hk
theorem mc_endsOf {X : gz_X} {G : gz_G} {cc : ByteArray} {nL fr lo pc : Nat} {lv : List (Nat × Value)} {rest st0 : List Value} (hX : gz_C mS X G cc nL RX6 fr lo) {x1 : Int32}  {m m9 : MM} {r : Int32} (h : mf_endsOf x1 m = some (r, m9)) (hroom : 1 + 1 ≤ fr ∧ 8 + (5 + 11) + 21 ≤ lo) (hst : st0 = [.int x1, .ref (gz_ad G 2000)] ++ rest) (hW : (rest.map fun v => v.category).sum ≤ 8) (hd : decode cc pc = .ok (.invokevirtual 507, 3)) (kk : gz_V mS X G nL (0, 0) (mF m9) (pc + 3) lv (.int r :: rest)) : gz_V mS X G nL (0, 0) (mF m) pc lv st0 :=
  gz_callV hX mz_E (As := [.int x1]) (rest := rest) (q := (RX6, TX6, 104)) (ci := 0) (c := 2000) (mt_endsOf (l := X.2.1) h) (lw_V q2402 q2404 qs132 q182 q2405) (n := 1) (by decide +kernel) hroom rfl rfl (by decide) rfl hst hW hd (rem := (0, 0)) kk
/-! ends(I)I -/
noncomputable def mf_ends (x1 : Int32) (m : MM) : Option (Int32 × MM) :=
  ((mf_isThing (x1.toInt64) m).bind fun (r1, m2) => (if r1 = (0 : Int32) then some ((-1 : Int32), m2) else ((mf_endsOf x1 m2).bind fun (r5, m6) => some (r5, m6))))
theorem wm_ends {X : gz_X} {G : gz_G} (hX : gz_C mS X G cX6_ends 2 RX6 2 47) {x1 : Int32}  {m : MM} {z : (Int32 × MM)} (h : mf_ends x1 m = some z) (hk : (fun z : (Int32 × MM) => gz_kI mS X G 2 (0, 0) cX6_ends (mF z.2) z.1) z) : gz_V mS X G 2 (0, 0) (mF m) 0 [(0, .ref (gz_ad G 2000)), (1, .int x1)] [] := by
  unfold mf_ends at h
  refine gz_aload_n (pc := 0) hX dX6_ends_0 rfl 0 rfl ?_
  refine gz_iload_n (pc := 1) hX dX6_ends_1 rfl 1 rfl ?_
  refine gz_i2l (pc := 2) hX dX6_ends_2 ?_
  obtain ⟨⟨r1, m2⟩, c3, h⟩ := gz_bd h
  refine mc_isThing (pc := 3) hX c3 ⟨Nat.le_of_ble_eq_true rfl, Nat.le_of_ble_eq_true rfl⟩ (rest := []) rfl (Nat.le_of_ble_eq_true rfl) dX6_ends_3 ?_
  refine gz_if_eq (pc := 6) (tgt := 17) hX dX6_ends_6 (by decide) (fun g4 => ?_) (fun g4 => ?_)
  · replace h := gz_it' g4 h
    refine gz_iconst (pc := 17) (v := (-1 : Int32)) hX dX6_ends_17 (by decide) ?_
    obtain rfl := Option.some.inj h
    exact hk _ _ dX6_ends_18
  · replace h := gz_if' g4 h
    refine gz_aload_n (pc := 9) hX dX6_ends_9 rfl 0 rfl ?_
    refine gz_iload_n (pc := 10) hX dX6_ends_10 rfl 1 rfl ?_
    obtain ⟨⟨r5, m6⟩, c7, h⟩ := gz_bd h
    refine mc_endsOf (pc := 11) hX c7 ⟨Nat.le_of_ble_eq_true rfl, Nat.le_of_ble_eq_true rfl⟩ (rest := []) rfl (Nat.le_of_ble_eq_true rfl) dX6_ends_11 ?_
    refine gz_goto (pc := 14) (tgt := 18) hX dX6_ends_14 (by decide) ?_
    obtain rfl := Option.some.inj h
    exact hk _ _ dX6_ends_18
theorem mt_ends {G : gz_G} {l : Launch} {x1 : Int32}  {m m9 : MM} {r : Int32} (h : mf_ends x1 m = some (r, m9)) : gz_Met mS G l yX6_ends cX6_ends 2 (some .int) (mRm 2 47) [.ref (gz_ad G 2000), .int x1] (mF m) (mF m9) (some (.int r)) :=
  gz_ofI (plainFor_of_name mz_plain) (Nat.le_of_ble_eq_true rfl) fun X _ hX hk => wm_ends hX h hk
/-! isHall(J)Z -/
noncomputable def mf_isHall (x1 : Int64) (m : MM) : Option (Int32 × MM) :=
  ((mf_hallMany m).bind fun (r1, m2) => ((mf_isIn x1 (0 : Int64) ((r1 - (1 : Int32)).toInt64) m2).bind fun (r4, m5) => (if r4 = 0 ∨ r4 = 1 then some (r4, m5) else none)))
theorem wm_isHall {X : gz_X} {G : gz_G} (hX : gz_C mS X G cX6_isHall 3 RX6 1 25) {x1 : Int64}  {m : MM} {z : (Int32 × MM)} (h : mf_isHall x1 m = some z) (hk : (fun z : (Int32 × MM) => gz_kZ mS X G 3 (0, 0) cX6_isHall (mF z.2) z.1) z) : gz_V mS X G 3 (0, 0) (mF m) 0 [(0, .ref (gz_ad G 2000)), (1, .long x1)] [] := by
  unfold mf_isHall at h
  refine gz_lload_n (pc := 0) hX dX6_isHall_0 rfl 1 rfl ?_
  refine gz_lconst (pc := 1) (v := (0 : Int64)) hX dX6_isHall_1 (by decide) ?_
  refine gz_aload_n (pc := 2) hX dX6_isHall_2 rfl 0 rfl ?_
  obtain ⟨⟨r1, m2⟩, c3, h⟩ := gz_bd h
  refine mc_hallMany (pc := 3) hX c3 ⟨Nat.le_of_ble_eq_true rfl, Nat.le_of_ble_eq_true rfl⟩ (rest := [.long (0 : Int64), .long x1]) rfl (Nat.le_of_ble_eq_true rfl) dX6_isHall_3 ?_
  refine gz_iconst (pc := 6) (v := (1 : Int32)) hX dX6_isHall_6 (by decide) ?_
  refine gz_isub (pc := 7) hX dX6_isHall_7 ?_
  refine gz_i2l (pc := 8) hX dX6_isHall_8 ?_
  obtain ⟨⟨r4, m5⟩, c6, h⟩ := gz_bd h
  refine mc_isIn (pc := 9) hX c6 ⟨Nat.le_of_ble_eq_true rfl, Nat.le_of_ble_eq_true rfl⟩ (rest := []) rfl (Nat.le_of_ble_eq_true rfl) dX6_isHall_9 ?_
  obtain ⟨g7, h⟩ := gz_gu h
  obtain rfl := Option.some.inj h
  exact hk _ _ dX6_isHall_12 g7
theorem mt_isHall {G : gz_G} {l : Launch} {x1 : Int64}  {m m9 : MM} {r : Int32} (h : mf_isHall x1 m = some (r, m9)) : gz_Met mS G l yX6_isHall cX6_isHall 3 (some .boolean) (mRm 1 25) [.ref (gz_ad G 2000), .long x1] (mF m) (mF m9) (some (.int r)) :=
  gz_ofZ (plainFor_of_name mz_plain) (Nat.le_of_ble_eq_true rfl) fun X _ hX hk => wm_isHall hX h hk
theorem mc_isHall {X : gz_X} {G : gz_G} {cc : ByteArray} {nL fr lo pc : Nat} {lv : List (Nat × Value)} {rest st0 : List Value} (hX : gz_C mS X G cc nL RX6 fr lo) {x1 : Int64}  {m m9 : MM} {r : Int32} (h : mf_isHall x1 m = some (r, m9)) (hroom : 1 + 1 ≤ fr ∧ 8 + (3 + 11) + 25 ≤ lo) (hst : st0 = [.long x1, .ref (gz_ad G 2000)] ++ rest) (hW : (rest.map fun v => v.category).sum ≤ 8) (hd : decode cc pc = .ok (.invokevirtual 510, 3)) (kk : gz_V mS X G nL (0, 0) (mF m9) (pc + 3) lv (.int r :: rest)) : gz_V mS X G nL (0, 0) (mF m) pc lv st0 :=
  gz_callV hX mz_E (As := [.long x1]) (rest := rest) (q := (RX6, TX6, 104)) (ci := 0) (c := 2000) (mt_isHall (l := X.2.1) h) (lw_V q2410 q2412 qs133 q182 q2413) (n := 1) (by decide +kernel) hroom rfl rfl (by decide) rfl hst hW hd (rem := (0, 0)) kk
/-! way(II)I -/
noncomputable def mj_X6_way_32  (m : MM) : Option (Int32 × MM) :=
  some ((-1 : Int32), m)
theorem wb_X6_way_32 {X : gz_X} {G : gz_G} (hX : gz_C mS X G cX6_way 3 RX6 2 47)   {m : MM} {z : (Int32 × MM)} (h : mj_X6_way_32  m = some z) (hk : (fun z : (Int32 × MM) => gz_kI mS X G 3 (0, 0) cX6_way (mF z.2) z.1) z) : gz_V mS X G 3 (0, 0) (mF m) 32 [(0, .ref (gz_ad G 2000))] [] := by
  unfold mj_X6_way_32 at h
  refine gz_iconst (pc := 32) (v := (-1 : Int32)) hX dX6_way_32 (by decide) ?_
  obtain rfl := Option.some.inj h
  exact hk _ _ dX6_way_33
noncomputable def mf_way (x1 : Int32) (x2 : Int32) (m : MM) : Option (Int32 × MM) :=
  ((mf_isHall (x1.toInt64) m).bind fun (r1, m2) => (if r1 = (0 : Int32) then (mj_X6_way_32  m2) else ((mf_isHall (x2.toInt64) m2).bind fun (r5, m6) => (if r5 = (0 : Int32) then (mj_X6_way_32  m6) else (if gz_in (((8 : Int32) * x1) + x2) (64) then some ((m6.1 1050 (gz_ix (((8 : Int32) * x1) + x2))), m6) else none)))))
theorem wm_way {X : gz_X} {G : gz_G} (hX : gz_C mS X G cX6_way 3 RX6 2 47) {x1 : Int32} {x2 : Int32}  {m : MM} {z : (Int32 × MM)} (h : mf_way x1 x2 m = some z) (hk : (fun z : (Int32 × MM) => gz_kI mS X G 3 (0, 0) cX6_way (mF z.2) z.1) z) : gz_V mS X G 3 (0, 0) (mF m) 0 [(0, .ref (gz_ad G 2000)), (1, .int x1), (2, .int x2)] [] := by
  unfold mf_way at h
  refine gz_aload_n (pc := 0) hX dX6_way_0 rfl 0 rfl ?_
  refine gz_iload_n (pc := 1) hX dX6_way_1 rfl 1 rfl ?_
  refine gz_i2l (pc := 2) hX dX6_way_2 ?_
  obtain ⟨⟨r1, m2⟩, c3, h⟩ := gz_bd h
  refine mc_isHall (pc := 3) hX c3 ⟨Nat.le_of_ble_eq_true rfl, Nat.le_of_ble_eq_true rfl⟩ (rest := []) rfl (Nat.le_of_ble_eq_true rfl) dX6_way_3 ?_
  refine gz_if_eq (pc := 6) (tgt := 32) hX dX6_way_6 (by decide) (fun g4 => ?_) (fun g4 => ?_)
  · replace h := gz_it' g4 h
    refine gz_sub (lw := [(0, .ref (gz_ad G 2000))]) [0] rfl ?_
    exact wb_X6_way_32 hX h hk
  · replace h := gz_if' g4 h
    refine gz_aload_n (pc := 9) hX dX6_way_9 rfl 0 rfl ?_
    refine gz_iload_n (pc := 10) hX dX6_way_10 rfl 2 rfl ?_
    refine gz_i2l (pc := 11) hX dX6_way_11 ?_
    obtain ⟨⟨r5, m6⟩, c7, h⟩ := gz_bd h
    refine mc_isHall (pc := 12) hX c7 ⟨Nat.le_of_ble_eq_true rfl, Nat.le_of_ble_eq_true rfl⟩ (rest := []) rfl (Nat.le_of_ble_eq_true rfl) dX6_way_12 ?_
    refine gz_if_eq (pc := 15) (tgt := 32) hX dX6_way_15 (by decide) (fun g8 => ?_) (fun g8 => ?_)
    · replace h := gz_it' g8 h
      refine gz_sub (lw := [(0, .ref (gz_ad G 2000))]) [0] rfl ?_
      exact wb_X6_way_32 hX h hk
    · replace h := gz_if' g8 h
      refine gz_aload_n (pc := 18) hX dX6_way_18 rfl 0 rfl ?_
      refine mg_49 (pc := 19) hX dX6_way_19 ?_
      refine gz_bipush (pc := 22) (v := (8 : Int32)) hX dX6_way_22 (by decide) ?_
      refine gz_iload_n (pc := 24) hX dX6_way_24 rfl 1 rfl ?_
      refine gz_imul (pc := 25) hX dX6_way_25 ?_
      refine gz_iload_n (pc := 26) hX dX6_way_26 rfl 2 rfl ?_
      refine gz_iadd (pc := 27) hX dX6_way_27 ?_
      obtain ⟨g9, h⟩ := gz_gu h
      refine mz_iald (pc := 28) (c := 1050) (n := 64) hX rfl rfl g9 dX6_way_28 ?_
      refine gz_goto (pc := 29) (tgt := 33) hX dX6_way_29 (by decide) ?_
      obtain rfl := Option.some.inj h
      exact hk _ _ dX6_way_33
theorem mt_way {G : gz_G} {l : Launch} {x1 : Int32} {x2 : Int32}  {m m9 : MM} {r : Int32} (h : mf_way x1 x2 m = some (r, m9)) : gz_Met mS G l yX6_way cX6_way 3 (some .int) (mRm 2 47) [.ref (gz_ad G 2000), .int x1, .int x2] (mF m) (mF m9) (some (.int r)) :=
  gz_ofI (plainFor_of_name mz_plain) (Nat.le_of_ble_eq_true rfl) fun X _ hX hk => wm_way hX h hk
/-! kept(II)I -/
noncomputable def mj_X6_kept_47  (m : MM) : Option (Int32 × MM) :=
  some ((-1 : Int32), m)
theorem wb_X6_kept_47 {X : gz_X} {G : gz_G} (hX : gz_C mS X G cX6_kept 3 RX6 1 25)   {m : MM} {z : (Int32 × MM)} (h : mj_X6_kept_47  m = some z) (hk : (fun z : (Int32 × MM) => gz_kI mS X G 3 (0, 0) cX6_kept (mF z.2) z.1) z) : gz_V mS X G 3 (0, 0) (mF m) 47 [(0, .ref (gz_ad G 2000))] [] := by
  unfold mj_X6_kept_47 at h
  refine gz_iconst (pc := 47) (v := (-1 : Int32)) hX dX6_kept_47 (by decide) ?_
  obtain rfl := Option.some.inj h
  exact hk _ _ dX6_kept_48
noncomputable def mf_kept (x1 : Int32) (x2 : Int32) (m : MM) : Option (Int32 × MM) :=
  (if gz_in (30 : Int32) (151) then ((mf_isIn (x1.toInt64) (0 : Int64) (((m.1 1051 (gz_ix (30 : Int32))) - (1 : Int32)).toInt64) m).bind fun (r2, m3) => (if r2 = (0 : Int32) then (mj_X6_kept_47  m3) else ((mf_isIn (x2.toInt64) (0 : Int64) (2 : Int64) m3).bind fun (r6, m7) => (if r6 = (0 : Int32) then (mj_X6_kept_47  m7) else (if gz_in (((31 : Int32) + ((3 : Int32) * x1)) + x2) (151) then some ((m7.1 1051 (gz_ix (((31 : Int32) + ((3 : Int32) * x1)) + x2))), m7) else none))))) else none)
theorem wm_kept {X : gz_X} {G : gz_G} (hX : gz_C mS X G cX6_kept 3 RX6 1 25) {x1 : Int32} {x2 : Int32}  {m : MM} {z : (Int32 × MM)} (h : mf_kept x1 x2 m = some z) (hk : (fun z : (Int32 × MM) => gz_kI mS X G 3 (0, 0) cX6_kept (mF z.2) z.1) z) : gz_V mS X G 3 (0, 0) (mF m) 0 [(0, .ref (gz_ad G 2000)), (1, .int x1), (2, .int x2)] [] := by
  unfold mf_kept at h
  refine gz_iload_n (pc := 0) hX dX6_kept_0 rfl 1 rfl ?_
  refine gz_i2l (pc := 1) hX dX6_kept_1 ?_
  refine gz_lconst (pc := 2) (v := (0 : Int64)) hX dX6_kept_2 (by decide) ?_
  refine gz_aload_n (pc := 3) hX dX6_kept_3 rfl 0 rfl ?_
  refine mg_50 (pc := 4) hX dX6_kept_4 ?_
  refine gz_bipush (pc := 7) (v := (30 : Int32)) hX dX6_kept_7 (by decide) ?_
  obtain ⟨g1, h⟩ := gz_gu h
  refine mz_iald (pc := 9) (c := 1051) (n := 151) hX rfl rfl g1 dX6_kept_9 ?_
  refine gz_iconst (pc := 10) (v := (1 : Int32)) hX dX6_kept_10 (by decide) ?_
  refine gz_isub (pc := 11) hX dX6_kept_11 ?_
  refine gz_i2l (pc := 12) hX dX6_kept_12 ?_
  obtain ⟨⟨r2, m3⟩, c4, h⟩ := gz_bd h
  refine mc_isIn (pc := 13) hX c4 ⟨Nat.le_of_ble_eq_true rfl, Nat.le_of_ble_eq_true rfl⟩ (rest := []) rfl (Nat.le_of_ble_eq_true rfl) dX6_kept_13 ?_
  refine gz_if_eq (pc := 16) (tgt := 47) hX dX6_kept_16 (by decide) (fun g5 => ?_) (fun g5 => ?_)
  · replace h := gz_it' g5 h
    refine gz_sub (lw := [(0, .ref (gz_ad G 2000))]) [0] rfl ?_
    exact wb_X6_kept_47 hX h hk
  · replace h := gz_if' g5 h
    refine gz_iload_n (pc := 19) hX dX6_kept_19 rfl 2 rfl ?_
    refine gz_i2l (pc := 20) hX dX6_kept_20 ?_
    refine gz_lconst (pc := 21) (v := (0 : Int64)) hX dX6_kept_21 (by decide) ?_
    refine gz_ldc2 (pc := 22) (v := (2 : Int64)) hX q2418 dX6_kept_22 ?_
    obtain ⟨⟨r6, m7⟩, c8, h⟩ := gz_bd h
    refine mc_isIn (pc := 25) hX c8 ⟨Nat.le_of_ble_eq_true rfl, Nat.le_of_ble_eq_true rfl⟩ (rest := []) rfl (Nat.le_of_ble_eq_true rfl) dX6_kept_25 ?_
    refine gz_if_eq (pc := 28) (tgt := 47) hX dX6_kept_28 (by decide) (fun g9 => ?_) (fun g9 => ?_)
    · replace h := gz_it' g9 h
      refine gz_sub (lw := [(0, .ref (gz_ad G 2000))]) [0] rfl ?_
      exact wb_X6_kept_47 hX h hk
    · replace h := gz_if' g9 h
      refine gz_aload_n (pc := 31) hX dX6_kept_31 rfl 0 rfl ?_
      refine mg_50 (pc := 32) hX dX6_kept_32 ?_
      refine gz_bipush (pc := 35) (v := (31 : Int32)) hX dX6_kept_35 (by decide) ?_
      refine gz_iconst (pc := 37) (v := (3 : Int32)) hX dX6_kept_37 (by decide) ?_
      refine gz_iload_n (pc := 38) hX dX6_kept_38 rfl 1 rfl ?_
      refine gz_imul (pc := 39) hX dX6_kept_39 ?_
      refine gz_iadd (pc := 40) hX dX6_kept_40 ?_
      refine gz_iload_n (pc := 41) hX dX6_kept_41 rfl 2 rfl ?_
      refine gz_iadd (pc := 42) hX dX6_kept_42 ?_
      obtain ⟨g10, h⟩ := gz_gu h
      refine mz_iald (pc := 43) (c := 1051) (n := 151) hX rfl rfl g10 dX6_kept_43 ?_
      refine gz_goto (pc := 44) (tgt := 48) hX dX6_kept_44 (by decide) ?_
      obtain rfl := Option.some.inj h
      exact hk _ _ dX6_kept_48
theorem mt_kept {G : gz_G} {l : Launch} {x1 : Int32} {x2 : Int32}  {m m9 : MM} {r : Int32} (h : mf_kept x1 x2 m = some (r, m9)) : gz_Met mS G l yX6_kept cX6_kept 3 (some .int) (mRm 1 25) [.ref (gz_ad G 2000), .int x1, .int x2] (mF m) (mF m9) (some (.int r)) :=
  gz_ofI (plainFor_of_name mz_plain) (Nat.le_of_ble_eq_true rfl) fun X _ hX hk => wm_kept hX h hk
/-! isAhead(III)Z -/
noncomputable def mj_X6_isAhead_30  (m : MM) : Option (Int32 × MM) :=
  some ((0 : Int32), m)
theorem wb_X6_isAhead_30 {X : gz_X} {G : gz_G} (hX : gz_C mS X G cX6_isAhead 4 RX6 1 25)   {m : MM} {z : (Int32 × MM)} (h : mj_X6_isAhead_30  m = some z) (hk : (fun z : (Int32 × MM) => gz_kZ mS X G 4 (0, 0) cX6_isAhead (mF z.2) z.1) z) : gz_V mS X G 4 (0, 0) (mF m) 30 [(0, .ref (gz_ad G 2000))] [] := by
  unfold mj_X6_isAhead_30 at h
  refine gz_iconst (pc := 30) (v := (0 : Int32)) hX dX6_isAhead_30 (by decide) ?_
  obtain rfl := Option.some.inj h
  exact hk _ _ dX6_isAhead_31 (Or.inl rfl)
noncomputable def mf_isAhead (x1 : Int32) (x2 : Int32) (x3 : Int32) (m : MM) : Option (Int32 × MM) :=
  ((mf_isIn (x1.toInt64) (x2.toInt64) (x3.toInt64) m).bind fun (r1, m2) => (if r1 = (0 : Int32) then (mj_X6_isAhead_30  m2) else (if gz_in (0 : Int32) (151) then (if (999 : Int32) < ((m2.1 1051 (gz_ix (0 : Int32))) + x1) then (mj_X6_isAhead_30  m2) else some ((1 : Int32), m2)) else none)))
theorem wm_isAhead {X : gz_X} {G : gz_G} (hX : gz_C mS X G cX6_isAhead 4 RX6 1 25) {x1 : Int32} {x2 : Int32} {x3 : Int32}  {m : MM} {z : (Int32 × MM)} (h : mf_isAhead x1 x2 x3 m = some z) (hk : (fun z : (Int32 × MM) => gz_kZ mS X G 4 (0, 0) cX6_isAhead (mF z.2) z.1) z) : gz_V mS X G 4 (0, 0) (mF m) 0 [(0, .ref (gz_ad G 2000)), (1, .int x1), (2, .int x2), (3, .int x3)] [] := by
  unfold mf_isAhead at h
  refine gz_iload_n (pc := 0) hX dX6_isAhead_0 rfl 1 rfl ?_
  refine gz_i2l (pc := 1) hX dX6_isAhead_1 ?_
  refine gz_iload_n (pc := 2) hX dX6_isAhead_2 rfl 2 rfl ?_
  refine gz_i2l (pc := 3) hX dX6_isAhead_3 ?_
  refine gz_iload_n (pc := 4) hX dX6_isAhead_4 rfl 3 rfl ?_
  refine gz_i2l (pc := 5) hX dX6_isAhead_5 ?_
  obtain ⟨⟨r1, m2⟩, c3, h⟩ := gz_bd h
  refine mc_isIn (pc := 6) hX c3 ⟨Nat.le_of_ble_eq_true rfl, Nat.le_of_ble_eq_true rfl⟩ (rest := []) rfl (Nat.le_of_ble_eq_true rfl) dX6_isAhead_6 ?_
  refine gz_if_eq (pc := 9) (tgt := 30) hX dX6_isAhead_9 (by decide) (fun g4 => ?_) (fun g4 => ?_)
  · replace h := gz_it' g4 h
    refine gz_sub (lw := [(0, .ref (gz_ad G 2000))]) [0] rfl ?_
    exact wb_X6_isAhead_30 hX h hk
  · replace h := gz_if' g4 h
    refine gz_aload_n (pc := 12) hX dX6_isAhead_12 rfl 0 rfl ?_
    refine mg_50 (pc := 13) hX dX6_isAhead_13 ?_
    refine gz_iconst (pc := 16) (v := (0 : Int32)) hX dX6_isAhead_16 (by decide) ?_
    obtain ⟨g5, h⟩ := gz_gu h
    refine mz_iald (pc := 17) (c := 1051) (n := 151) hX rfl rfl g5 dX6_isAhead_17 ?_
    refine gz_iload_n (pc := 18) hX dX6_isAhead_18 rfl 1 rfl ?_
    refine gz_iadd (pc := 19) hX dX6_isAhead_19 ?_
    refine gz_sipush (pc := 20) (v := (999 : Int32)) hX dX6_isAhead_20 (by decide) ?_
    refine gz_icmp_gt (pc := 23) (tgt := 30) hX dX6_isAhead_23 (by decide) (fun g6 => ?_) (fun g6 => ?_)
    · replace h := gz_it' g6 h
      refine gz_sub (lw := [(0, .ref (gz_ad G 2000))]) [0] rfl ?_
      exact wb_X6_isAhead_30 hX h hk
    · replace h := gz_if' g6 h
      refine gz_iconst (pc := 26) (v := (1 : Int32)) hX dX6_isAhead_26 (by decide) ?_
      refine gz_goto (pc := 27) (tgt := 31) hX dX6_isAhead_27 (by decide) ?_
      obtain rfl := Option.some.inj h
      exact hk _ _ dX6_isAhead_31 (Or.inr rfl)
theorem mt_isAhead {G : gz_G} {l : Launch} {x1 : Int32} {x2 : Int32} {x3 : Int32}  {m m9 : MM} {r : Int32} (h : mf_isAhead x1 x2 x3 m = some (r, m9)) : gz_Met mS G l yX6_isAhead cX6_isAhead 4 (some .boolean) (mRm 1 25) [.ref (gz_ad G 2000), .int x1, .int x2, .int x3] (mF m) (mF m9) (some (.int r)) :=
  gz_ofZ (plainFor_of_name mz_plain) (Nat.le_of_ble_eq_true rfl) fun X _ hX hk => wm_isAhead hX h hk
theorem mc_isAhead {X : gz_X} {G : gz_G} {cc : ByteArray} {nL fr lo pc : Nat} {lv : List (Nat × Value)} {rest st0 : List Value} (hX : gz_C mS X G cc nL RX6 fr lo) {x1 : Int32} {x2 : Int32} {x3 : Int32}  {m m9 : MM} {r : Int32} (h : mf_isAhead x1 x2 x3 m = some (r, m9)) (hroom : 1 + 1 ≤ fr ∧ 8 + (4 + 11) + 25 ≤ lo) (hst : st0 = [.int x3, .int x2, .int x1, .ref (gz_ad G 2000)] ++ rest) (hW : (rest.map fun v => v.category).sum ≤ 8) (hd : decode cc pc = .ok (.invokevirtual 515, 3)) (kk : gz_V mS X G nL (0, 0) (mF m9) (pc + 3) lv (.int r :: rest)) : gz_V mS X G nL (0, 0) (mF m) pc lv st0 :=
  gz_callV hX mz_E (As := [.int x1, .int x2, .int x3]) (rest := rest) (q := (RX6, TX6, 104)) (ci := 0) (c := 2000) (mt_isAhead (l := X.2.1) h) (lw_V q2423 q2425 qs134 q182 q2426) (n := 3) (by decide +kernel) hroom rfl rfl (by decide) rfl hst hW hd (rem := (0, 0)) kk
/-! putsAside()V -/
def mP_X6_putsAside_7 (X : gz_X) (G : gz_G) (q : (Int32 × MM)) : Prop := gz_V mS X G 2 (0, 0) (mF q.2) 7 [(0, .ref (gz_ad G 2000)), (1, .int q.1)] []
noncomputable def mb_X6_putsAside_7 (x1 : Int32) (m : MM) : Option ((Int32 × MM) ⊕ (Unit × MM)) :=
  (if (30 : Int32) ≤ x1 then some (Sum.inr ((), m)) else (if gz_in x1 (151) then (if gz_in x1 (30) then gz_let (msI m 1052 (gz_ix x1) (m.1 1051 (gz_ix x1))) fun m4 => gz_let (x1 + (1 : Int32)) fun y5 => some (Sum.inl (y5, m4)) else none) else none))
theorem wb_X6_putsAside_7 {X : gz_X} {G : gz_G} (hX : gz_C mS X G cX6_putsAside 2 RX6 0 0) {x1 : Int32}  {m : MM} {z : ((Int32 × MM) ⊕ (Unit × MM))} (h : mb_X6_putsAside_7 x1 m = some z) (hk : (Sum.elim (mP_X6_putsAside_7 X G) (fun z : (Unit × MM) => gz_kV mS X G 2 (0, 0) cX6_putsAside (mF z.2))) z) : gz_V mS X G 2 (0, 0) (mF m) 7 [(0, .ref (gz_ad G 2000)), (1, .int x1)] [] := by
  unfold mb_X6_putsAside_7 at h
  refine gz_iload_n (pc := 7) hX dX6_putsAside_7 rfl 1 rfl ?_
  refine gz_bipush (pc := 8) (v := (30 : Int32)) hX dX6_putsAside_8 (by decide) ?_
  refine gz_icmp_ge (pc := 10) (tgt := 31) hX dX6_putsAside_10 (by decide) (fun g1 => ?_) (fun g1 => ?_)
  · replace h := gz_it' g1 h
    obtain rfl := Option.some.inj h
    exact hk _ _ dX6_putsAside_31
  · replace h := gz_if' g1 h
    refine gz_aload_n (pc := 13) hX dX6_putsAside_13 rfl 0 rfl ?_
    refine mg_51 (pc := 14) hX dX6_putsAside_14 ?_
    refine gz_iload_n (pc := 17) hX dX6_putsAside_17 rfl 1 rfl ?_
    refine gz_aload_n (pc := 18) hX dX6_putsAside_18 rfl 0 rfl ?_
    refine mg_50 (pc := 19) hX dX6_putsAside_19 ?_
    refine gz_iload_n (pc := 22) hX dX6_putsAside_22 rfl 1 rfl ?_
    obtain ⟨g2, h⟩ := gz_gu h
    refine mz_iald (pc := 23) (c := 1051) (n := 151) hX rfl rfl g2 dX6_putsAside_23 ?_
    obtain ⟨g3, h⟩ := gz_gu h
    obtain ⟨m4, em4, h⟩ := gz_lt h
    refine mz_iast (pc := 24) (c := 1052) (n := 30) hX rfl rfl g3 (Nat.le_of_ble_eq_true rfl) dX6_putsAside_24 em4 ?_
    obtain ⟨y5, ey5, h⟩ := gz_lt h
    refine gz_iinc (pc := 25) (v := y5) (lw := [(1, .int y5), (0, .ref (gz_ad G 2000))]) hX dX6_putsAside_25 (k := 1) rfl (by rw [ey5]; rfl) (by decide) rfl ?_
    refine gz_goto (pc := 28) (tgt := 7) hX dX6_putsAside_28 (by decide) ?_
    refine gz_sub (lw := [(0, .ref (gz_ad G 2000)), (1, .int y5)]) [1, 0] rfl ?_
    obtain rfl := Option.some.inj h
    exact hk
noncomputable def ml_X6_putsAside_7 (x1 : Int32) (m : MM) : Option (Unit × MM) := gz_loop (fun q : (Int32 × MM) => mb_X6_putsAside_7 q.1 q.2) (x1, m)
theorem wl_X6_putsAside_7 {X : gz_X} {G : gz_G} (hX : gz_C mS X G cX6_putsAside 2 RX6 0 0) {x1 : Int32}  {m : MM} {z : (Unit × MM)} (h : ml_X6_putsAside_7 x1 m = some z) (hk : (fun z : (Unit × MM) => gz_kV mS X G 2 (0, 0) cX6_putsAside (mF z.2)) z) : gz_V mS X G 2 (0, 0) (mF m) 7 [(0, .ref (gz_ad G 2000)), (1, .int x1)] [] := by
  have hp : mP_X6_putsAside_7 X G (x1, m) := gz_loop_ind (fun q z hz hkz => wb_X6_putsAside_7 hX  hz hkz) h hk
  exact hp
noncomputable def mf_putsAside  (m : MM) : Option (Unit × MM) :=
  gz_let (msI m 2000 56 (1 : Int32)) fun m1 => (ml_X6_putsAside_7 (0 : Int32) m1)
theorem wm_putsAside {X : gz_X} {G : gz_G} (hX : gz_C mS X G cX6_putsAside 2 RX6 0 0)   {m : MM} {z : (Unit × MM)} (h : mf_putsAside  m = some z) (hk : (fun z : (Unit × MM) => gz_kV mS X G 2 (0, 0) cX6_putsAside (mF z.2)) z) : gz_V mS X G 2 (0, 0) (mF m) 0 [(0, .ref (gz_ad G 2000))] [] := by
  unfold mf_putsAside at h
  refine gz_aload_n (pc := 0) hX dX6_putsAside_0 rfl 0 rfl ?_
  refine gz_iconst (pc := 1) (v := (1 : Int32)) hX dX6_putsAside_1 (by decide) ?_
  obtain ⟨m1, em1, h⟩ := gz_lt h
  refine mp_56 (pc := 2) hX dX6_putsAside_2 (Or.inr rfl) em1 ?_
  refine gz_iconst (pc := 5) (v := (0 : Int32)) hX dX6_putsAside_5 (by decide) ?_
  refine gz_istore_n (pc := 6) (lw := [(1, .int (0 : Int32)), (0, .ref (gz_ad G 2000))]) hX dX6_putsAside_6 rfl (by decide) rfl ?_
  refine gz_sub (lw := [(0, .ref (gz_ad G 2000)), (1, .int (0 : Int32))]) [1, 0] rfl ?_
  exact wl_X6_putsAside_7 hX h hk
theorem mt_putsAside {G : gz_G} {l : Launch}   {m m9 : MM} (h : mf_putsAside  m = some ((), m9)) : gz_Met mS G l yX6_putsAside cX6_putsAside 2 none (mRm 0 0) [.ref (gz_ad G 2000)] (mF m) (mF m9) none :=
  gz_ofV (plainFor_of_name mz_plain) (Nat.le_of_ble_eq_true rfl) fun X _ hX hk => wm_putsAside hX h hk
theorem mc_putsAside {X : gz_X} {G : gz_G} {cc : ByteArray} {nL fr lo pc : Nat} {lv : List (Nat × Value)} {rest st0 : List Value} (hX : gz_C mS X G cc nL RX6 fr lo)   {m m9 : MM} (h : mf_putsAside  m = some ((), m9)) (hroom : 0 + 1 ≤ fr ∧ 8 + (2 + 11) + 0 ≤ lo) (hst : st0 = [.ref (gz_ad G 2000)] ++ rest) (hW : (rest.map fun v => v.category).sum ≤ 8) (hd : decode cc pc = .ok (.invokevirtual 518, 3)) (kk : gz_V mS X G nL (0, 0) (mF m9) (pc + 3) lv (rest)) : gz_V mS X G nL (0, 0) (mF m) pc lv st0 :=
  gz_callV hX mz_E (As := []) (rest := rest) (q := (RX6, TX6, 104)) (ci := 0) (c := 2000) (mt_putsAside (l := X.2.1) h) (lw_V q2427 q2429 qs135 q182 q2430) (n := 0) (by decide +kernel) hroom rfl rfl (by decide) rfl hst hW hd (rem := (0, 0)) kk
/-! cut(J)I -/
noncomputable def mf_cut (x0 : Int64) (m : MM) : Option (Int32 × MM) :=
  (if (0 : Int64) ≤ x0 then (if x0 ≤ (99 : Int64) then some ((x0.toInt32), m) else some ((99 : Int32), m)) else some ((0 : Int32), m))
theorem wm_cut {X : gz_X} {G : gz_G} (hX : gz_C mS X G cX6_cut 2 RX6 0 0) {x0 : Int64}  {m : MM} {z : (Int32 × MM)} (h : mf_cut x0 m = some z) (hk : (fun z : (Int32 × MM) => gz_kI mS X G 2 (0, 0) cX6_cut (mF z.2) z.1) z) : gz_V mS X G 2 (0, 0) (mF m) 0 [(0, .long x0)] [] := by
  unfold mf_cut at h
  refine gz_lload_n (pc := 0) hX dX6_cut_0 rfl 0 rfl ?_
  refine gz_lconst (pc := 1) (v := (0 : Int64)) hX dX6_cut_1 (by decide) ?_
  refine gz_lcmp_ge (pc := 2) (tgt := 10) hX dX6_cut_2 dX6_cut_3 (by decide) (fun g1 => ?_) (fun g1 => ?_)
  · replace h := gz_it' g1 h
    refine gz_lload_n (pc := 10) hX dX6_cut_10 rfl 0 rfl ?_
    refine gz_ldc2 (pc := 11) (v := (99 : Int64)) hX q2442 dX6_cut_11 ?_
    refine gz_lcmp_le (pc := 14) (tgt := 23) hX dX6_cut_14 dX6_cut_15 (by decide) (fun g2 => ?_) (fun g2 => ?_)
    · replace h := gz_it' g2 h
      refine gz_lload_n (pc := 23) hX dX6_cut_23 rfl 0 rfl ?_
      refine gz_l2i (pc := 24) hX dX6_cut_24 ?_
      obtain rfl := Option.some.inj h
      exact hk _ _ dX6_cut_25
    · replace h := gz_if' g2 h
      refine gz_bipush (pc := 18) (v := (99 : Int32)) hX dX6_cut_18 (by decide) ?_
      refine gz_goto (pc := 20) (tgt := 25) hX dX6_cut_20 (by decide) ?_
      obtain rfl := Option.some.inj h
      exact hk _ _ dX6_cut_25
  · replace h := gz_if' g1 h
    refine gz_iconst (pc := 6) (v := (0 : Int32)) hX dX6_cut_6 (by decide) ?_
    refine gz_goto (pc := 7) (tgt := 25) hX dX6_cut_7 (by decide) ?_
    obtain rfl := Option.some.inj h
    exact hk _ _ dX6_cut_25
theorem mt_cut {G : gz_G} {l : Launch} {x0 : Int64}  {m m9 : MM} {r : Int32} (h : mf_cut x0 m = some (r, m9)) : gz_Met mS G l yX6_cut cX6_cut 2 (some .int) (mRm 0 0) [.long x0] (mF m) (mF m9) (some (.int r)) :=
  gz_ofI (plainFor_of_name mz_plain) (Nat.le_of_ble_eq_true rfl) fun X _ hX hk => wm_cut hX h hk
theorem mc_cut {X : gz_X} {G : gz_G} {cc : ByteArray} {nL fr lo pc : Nat} {lv : List (Nat × Value)} {rest st0 : List Value} (hX : gz_C mS X G cc nL RX6 fr lo) {x0 : Int64}  {m m9 : MM} {r : Int32} (h : mf_cut x0 m = some (r, m9)) (hroom : 0 + 1 ≤ fr ∧ 8 + (2 + 11) + 0 ≤ lo) (hst : st0 = [.long x0] ++ rest) (hW : (rest.map fun v => v.category).sum ≤ 8) (hd : decode cc pc = .ok (.invokestatic 464, 3)) (kk : gz_V mS X G nL (0, 0) (mF m9) (pc + 3) lv (.int r :: rest)) : gz_V mS X G nL (0, 0) (mF m) pc lv st0 :=
  gz_callS hX mz_E (As := [.long x0]) (rest := rest) (mt_cut (l := X.2.1) h) (lw_S q2439 q2440 q182 q2441) (n := 1) (by decide +kernel) hroom rfl hst hW hd (rem := (0, 0)) kk
/-! isKept(II)V -/
noncomputable def mj_X6_isKept_64 (x1 : Int32) (x2 : Int32) (m : MM) : Option (Unit × MM) :=
  (if gz_in (30 : Int32) (151) then gz_let ((((31 : Int32) + ((3 : Int32) * (m.1 1051 (gz_ix (30 : Int32))))) - (3 : Int32))) fun y2 => (if gz_in (0 : Int32) (151) then (if gz_in y2 (151) then gz_let (msI m 1051 (gz_ix y2) (m.1 1051 (gz_ix (0 : Int32)))) fun m5 => (if gz_in (y2 + (1 : Int32)) (151) then gz_let (msI m5 1051 (gz_ix (y2 + (1 : Int32))) x1) fun m7 => (if gz_in (y2 + (2 : Int32)) (151) then gz_let (msI m7 1051 (gz_ix (y2 + (2 : Int32))) x2) fun m9 => some ((), m9) else none) else none) else none) else none) else none)
theorem wb_X6_isKept_64 {X : gz_X} {G : gz_G} (hX : gz_C mS X G cX6_isKept 4 RX6 0 0) {x1 : Int32} {x2 : Int32}  {m : MM} {z : (Unit × MM)} (h : mj_X6_isKept_64 x1 x2 m = some z) (hk : (fun z : (Unit × MM) => gz_kV mS X G 4 (0, 0) cX6_isKept (mF z.2)) z) : gz_V mS X G 4 (0, 0) (mF m) 64 [(0, .ref (gz_ad G 2000)), (1, .int x1), (2, .int x2)] [] := by
  unfold mj_X6_isKept_64 at h
  refine gz_bipush (pc := 64) (v := (31 : Int32)) hX dX6_isKept_64 (by decide) ?_
  refine gz_iconst (pc := 66) (v := (3 : Int32)) hX dX6_isKept_66 (by decide) ?_
  refine gz_aload_n (pc := 67) hX dX6_isKept_67 rfl 0 rfl ?_
  refine mg_50 (pc := 68) hX dX6_isKept_68 ?_
  refine gz_bipush (pc := 71) (v := (30 : Int32)) hX dX6_isKept_71 (by decide) ?_
  obtain ⟨g1, h⟩ := gz_gu h
  refine mz_iald (pc := 73) (c := 1051) (n := 151) hX rfl rfl g1 dX6_isKept_73 ?_
  refine gz_imul (pc := 74) hX dX6_isKept_74 ?_
  refine gz_iadd (pc := 75) hX dX6_isKept_75 ?_
  refine gz_iconst (pc := 76) (v := (3 : Int32)) hX dX6_isKept_76 (by decide) ?_
  refine gz_isub (pc := 77) hX dX6_isKept_77 ?_
  obtain ⟨y2, ey2, h⟩ := gz_lt h
  refine gz_topi ey2 ?_
  refine gz_istore_n (pc := 78) (lw := [(3, .int y2), (0, .ref (gz_ad G 2000)), (1, .int x1), (2, .int x2)]) hX dX6_isKept_78 rfl (by decide) rfl ?_
  refine gz_aload_n (pc := 79) hX dX6_isKept_79 rfl 1 rfl ?_
  refine mg_50 (pc := 80) hX dX6_isKept_80 ?_
  refine gz_iload_n (pc := 83) hX dX6_isKept_83 rfl 0 rfl ?_
  refine gz_aload_n (pc := 84) hX dX6_isKept_84 rfl 1 rfl ?_
  refine mg_50 (pc := 85) hX dX6_isKept_85 ?_
  refine gz_iconst (pc := 88) (v := (0 : Int32)) hX dX6_isKept_88 (by decide) ?_
  obtain ⟨g3, h⟩ := gz_gu h
  refine mz_iald (pc := 89) (c := 1051) (n := 151) hX rfl rfl g3 dX6_isKept_89 ?_
  obtain ⟨g4, h⟩ := gz_gu h
  obtain ⟨m5, em5, h⟩ := gz_lt h
  refine mz_iast (pc := 90) (c := 1051) (n := 151) hX rfl rfl g4 (Nat.le_of_ble_eq_true rfl) dX6_isKept_90 em5 ?_
  refine gz_aload_n (pc := 91) hX dX6_isKept_91 rfl 1 rfl ?_
  refine mg_50 (pc := 92) hX dX6_isKept_92 ?_
  refine gz_iload_n (pc := 95) hX dX6_isKept_95 rfl 0 rfl ?_
  refine gz_iconst (pc := 96) (v := (1 : Int32)) hX dX6_isKept_96 (by decide) ?_
  refine gz_iadd (pc := 97) hX dX6_isKept_97 ?_
  refine gz_iload_n (pc := 98) hX dX6_isKept_98 rfl 2 rfl ?_
  obtain ⟨g6, h⟩ := gz_gu h
  obtain ⟨m7, em7, h⟩ := gz_lt h
  refine mz_iast (pc := 99) (c := 1051) (n := 151) hX rfl rfl g6 (Nat.le_of_ble_eq_true rfl) dX6_isKept_99 em7 ?_
  refine gz_aload_n (pc := 100) hX dX6_isKept_100 rfl 1 rfl ?_
  refine mg_50 (pc := 101) hX dX6_isKept_101 ?_
  refine gz_iload_n (pc := 104) hX dX6_isKept_104 rfl 0 rfl ?_
  refine gz_iconst (pc := 105) (v := (2 : Int32)) hX dX6_isKept_105 (by decide) ?_
  refine gz_iadd (pc := 106) hX dX6_isKept_106 ?_
  refine gz_iload_n (pc := 107) hX dX6_isKept_107 rfl 3 rfl ?_
  obtain ⟨g8, h⟩ := gz_gu h
  obtain ⟨m9, em9, h⟩ := gz_lt h
  refine mz_iast (pc := 108) (c := 1051) (n := 151) hX rfl rfl g8 (Nat.le_of_ble_eq_true rfl) dX6_isKept_108 em9 ?_
  obtain rfl := Option.some.inj h
  exact hk _ _ dX6_isKept_109
def mP_X6_isKept_23 (X : gz_X) (G : gz_G) (q : (Int32 × Int32 × Int32 × MM)) : Prop := gz_V mS X G 4 (0, 0) (mF q.2.2.2) 23 [(0, .ref (gz_ad G 2000)), (1, .int q.1), (2, .int q.2.1), (3, .int q.2.2.1)] []
noncomputable def mb_X6_isKept_23 (x1 : Int32) (x2 : Int32) (x3 : Int32) (m : MM) : Option ((Int32 × Int32 × Int32 × MM) ⊕ (Unit × MM)) :=
  (if (148 : Int32) ≤ x3 then (Option.map Sum.inr (mj_X6_isKept_64 x1 x2 m)) else (if gz_in (x3 + (3 : Int32)) (151) then (if gz_in x3 (151) then gz_let (msI m 1051 (gz_ix x3) (m.1 1051 (gz_ix (x3 + (3 : Int32))))) fun m4 => gz_let (x3 + (1 : Int32)) fun y5 => some (Sum.inl (x1, x2, y5, m4)) else none) else none))
theorem wb_X6_isKept_23 {X : gz_X} {G : gz_G} (hX : gz_C mS X G cX6_isKept 4 RX6 0 0) {x1 : Int32} {x2 : Int32} {x3 : Int32}  {m : MM} {z : ((Int32 × Int32 × Int32 × MM) ⊕ (Unit × MM))} (h : mb_X6_isKept_23 x1 x2 x3 m = some z) (hk : (Sum.elim (mP_X6_isKept_23 X G) (fun z : (Unit × MM) => gz_kV mS X G 4 (0, 0) cX6_isKept (mF z.2))) z) : gz_V mS X G 4 (0, 0) (mF m) 23 [(0, .ref (gz_ad G 2000)), (1, .int x1), (2, .int x2), (3, .int x3)] [] := by
  unfold mb_X6_isKept_23 at h
  refine gz_iload_n (pc := 23) hX dX6_isKept_23 rfl 3 rfl ?_
  refine gz_sipush (pc := 24) (v := (148 : Int32)) hX dX6_isKept_24 (by decide) ?_
  refine gz_icmp_ge (pc := 27) (tgt := 50) hX dX6_isKept_27 (by decide) (fun g1 => ?_) (fun g1 => ?_)
  · replace h := gz_it' g1 h
    refine gz_goto (pc := 50) (tgt := 64) hX dX6_isKept_50 (by decide) ?_
    refine gz_sub (lw := [(0, .ref (gz_ad G 2000)), (1, .int x1), (2, .int x2)]) [0, 1, 2] rfl ?_
    obtain ⟨z0, hm0, rfl⟩ := gz_mp h
    exact wb_X6_isKept_64 hX hm0 hk
  · replace h := gz_if' g1 h
    refine gz_aload_n (pc := 30) hX dX6_isKept_30 rfl 0 rfl ?_
    refine mg_50 (pc := 31) hX dX6_isKept_31 ?_
    refine gz_iload_n (pc := 34) hX dX6_isKept_34 rfl 3 rfl ?_
    refine gz_aload_n (pc := 35) hX dX6_isKept_35 rfl 0 rfl ?_
    refine mg_50 (pc := 36) hX dX6_isKept_36 ?_
    refine gz_iload_n (pc := 39) hX dX6_isKept_39 rfl 3 rfl ?_
    refine gz_iconst (pc := 40) (v := (3 : Int32)) hX dX6_isKept_40 (by decide) ?_
    refine gz_iadd (pc := 41) hX dX6_isKept_41 ?_
    obtain ⟨g2, h⟩ := gz_gu h
    refine mz_iald (pc := 42) (c := 1051) (n := 151) hX rfl rfl g2 dX6_isKept_42 ?_
    obtain ⟨g3, h⟩ := gz_gu h
    obtain ⟨m4, em4, h⟩ := gz_lt h
    refine mz_iast (pc := 43) (c := 1051) (n := 151) hX rfl rfl g3 (Nat.le_of_ble_eq_true rfl) dX6_isKept_43 em4 ?_
    obtain ⟨y5, ey5, h⟩ := gz_lt h
    refine gz_iinc (pc := 44) (v := y5) (lw := [(3, .int y5), (0, .ref (gz_ad G 2000)), (1, .int x1), (2, .int x2)]) hX dX6_isKept_44 (k := 3) rfl (by rw [ey5]; rfl) (by decide) rfl ?_
    refine gz_goto (pc := 47) (tgt := 23) hX dX6_isKept_47 (by decide) ?_
    refine gz_sub (lw := [(0, .ref (gz_ad G 2000)), (1, .int x1), (2, .int x2), (3, .int y5)]) [1, 2, 3, 0] rfl ?_
    obtain rfl := Option.some.inj h
    exact hk
noncomputable def ml_X6_isKept_23 (x1 : Int32) (x2 : Int32) (x3 : Int32) (m : MM) : Option (Unit × MM) := gz_loop (fun q : (Int32 × Int32 × Int32 × MM) => mb_X6_isKept_23 q.1 q.2.1 q.2.2.1 q.2.2.2) (x1, x2, x3, m)
theorem wl_X6_isKept_23 {X : gz_X} {G : gz_G} (hX : gz_C mS X G cX6_isKept 4 RX6 0 0) {x1 : Int32} {x2 : Int32} {x3 : Int32}  {m : MM} {z : (Unit × MM)} (h : ml_X6_isKept_23 x1 x2 x3 m = some z) (hk : (fun z : (Unit × MM) => gz_kV mS X G 4 (0, 0) cX6_isKept (mF z.2)) z) : gz_V mS X G 4 (0, 0) (mF m) 23 [(0, .ref (gz_ad G 2000)), (1, .int x1), (2, .int x2), (3, .int x3)] [] := by
  have hp : mP_X6_isKept_23 X G (x1, x2, x3, m) := gz_loop_ind (fun q z hz hkz => wb_X6_isKept_23 hX  hz hkz) h hk
  exact hp
noncomputable def mf_isKept (x1 : Int32) (x2 : Int32) (m : MM) : Option (Unit × MM) :=
  (if (m.1 2000 56) = (0 : Int32) then (if gz_in (30 : Int32) (151) then (if (m.1 1051 (gz_ix (30 : Int32))) = (40 : Int32) then (ml_X6_isKept_23 x1 x2 (31 : Int32) m) else (if gz_in (30 : Int32) (151) then (if gz_in (30 : Int32) (151) then gz_let (msI m 1051 (gz_ix (30 : Int32)) ((m.1 1051 (gz_ix (30 : Int32))) + (1 : Int32))) fun m6 => (mj_X6_isKept_64 x1 x2 m6) else none) else none)) else none) else some ((), m))
theorem wm_isKept {X : gz_X} {G : gz_G} (hX : gz_C mS X G cX6_isKept 4 RX6 0 0) {x1 : Int32} {x2 : Int32}  {m : MM} {z : (Unit × MM)} (h : mf_isKept x1 x2 m = some z) (hk : (fun z : (Unit × MM) => gz_kV mS X G 4 (0, 0) cX6_isKept (mF z.2)) z) : gz_V mS X G 4 (0, 0) (mF m) 0 [(0, .ref (gz_ad G 2000)), (1, .int x1), (2, .int x2)] [] := by
  unfold mf_isKept at h
  refine gz_aload_n (pc := 0) hX dX6_isKept_0 rfl 0 rfl ?_
  refine mg_56 (pc := 1) hX dX6_isKept_1 ?_
  refine gz_if_eq (pc := 4) (tgt := 8) hX dX6_isKept_4 (by decide) (fun g1 => ?_) (fun g1 => ?_)
  · replace h := gz_it' g1 h
    refine gz_aload_n (pc := 8) hX dX6_isKept_8 rfl 0 rfl ?_
    refine mg_50 (pc := 9) hX dX6_isKept_9 ?_
    refine gz_bipush (pc := 12) (v := (30 : Int32)) hX dX6_isKept_12 (by decide) ?_
    obtain ⟨g2, h⟩ := gz_gu h
    refine mz_iald (pc := 14) (c := 1051) (n := 151) hX rfl rfl g2 dX6_isKept_14 ?_
    refine gz_bipush (pc := 15) (v := (40 : Int32)) hX dX6_isKept_15 (by decide) ?_
    refine gz_icmp_ne (pc := 17) (tgt := 53) hX dX6_isKept_17 (by decide) (fun g3 => ?_) (fun g3 => ?_)
    · replace h := gz_if' g3 h
      refine gz_aload_n (pc := 53) hX dX6_isKept_53 rfl 0 rfl ?_
      refine mg_50 (pc := 54) hX dX6_isKept_54 ?_
      refine gz_bipush (pc := 57) (v := (30 : Int32)) hX dX6_isKept_57 (by decide) ?_
      refine gz_dup2_11 (pc := 59) hX dX6_isKept_59 rfl rfl ?_
      obtain ⟨g4, h⟩ := gz_gu h
      refine mz_iald (pc := 60) (c := 1051) (n := 151) hX rfl rfl g4 dX6_isKept_60 ?_
      refine gz_iconst (pc := 61) (v := (1 : Int32)) hX dX6_isKept_61 (by decide) ?_
      refine gz_iadd (pc := 62) hX dX6_isKept_62 ?_
      obtain ⟨g5, h⟩ := gz_gu h
      obtain ⟨m6, em6, h⟩ := gz_lt h
      refine mz_iast (pc := 63) (c := 1051) (n := 151) hX rfl rfl g5 (Nat.le_of_ble_eq_true rfl) dX6_isKept_63 em6 ?_
      exact wb_X6_isKept_64 hX h hk
    · replace h := gz_it' g3 h
      refine gz_bipush (pc := 20) (v := (31 : Int32)) hX dX6_isKept_20 (by decide) ?_
      refine gz_istore_n (pc := 22) (lw := [(3, .int (31 : Int32)), (0, .ref (gz_ad G 2000)), (1, .int x1), (2, .int x2)]) hX dX6_isKept_22 rfl (by decide) rfl ?_
      refine gz_sub (lw := [(0, .ref (gz_ad G 2000)), (1, .int x1), (2, .int x2), (3, .int (31 : Int32))]) [1, 2, 3, 0] rfl ?_
      exact wl_X6_isKept_23 hX h hk
  · replace h := gz_if' g1 h
    obtain rfl := Option.some.inj h
    exact hk _ _ dX6_isKept_7
theorem mt_isKept {G : gz_G} {l : Launch} {x1 : Int32} {x2 : Int32}  {m m9 : MM} (h : mf_isKept x1 x2 m = some ((), m9)) : gz_Met mS G l yX6_isKept cX6_isKept 4 none (mRm 0 0) [.ref (gz_ad G 2000), .int x1, .int x2] (mF m) (mF m9) none :=
  gz_ofV (plainFor_of_name mz_plain) (Nat.le_of_ble_eq_true rfl) fun X _ hX hk => wm_isKept hX h hk
theorem mc_isKept {X : gz_X} {G : gz_G} {cc : ByteArray} {nL fr lo pc : Nat} {lv : List (Nat × Value)} {rest st0 : List Value} (hX : gz_C mS X G cc nL RX6 fr lo) {x1 : Int32} {x2 : Int32}  {m m9 : MM} (h : mf_isKept x1 x2 m = some ((), m9)) (hroom : 0 + 1 ≤ fr ∧ 8 + (4 + 11) + 0 ≤ lo) (hst : st0 = [.int x2, .int x1, .ref (gz_ad G 2000)] ++ rest) (hW : (rest.map fun v => v.category).sum ≤ 8) (hd : decode cc pc = .ok (.invokevirtual 461, 3)) (kk : gz_V mS X G nL (0, 0) (mF m9) (pc + 3) lv (rest)) : gz_V mS X G nL (0, 0) (mF m) pc lv st0 :=
  gz_callV hX mz_E (As := [.int x1, .int x2]) (rest := rest) (q := (RX6, TX6, 104)) (ci := 0) (c := 2000) (mt_isKept (l := X.2.1) h) (lw_V q2447 q2449 qs139 q182 q2450) (n := 2) (by decide +kernel) hroom rfl rfl (by decide) rfl hst hW hd (rem := (0, 0)) kk
/-! goesOut(II)V -/
noncomputable def mf_goesOut (x1 : Int32) (x2 : Int32) (m : MM) : Option (Unit × MM) :=
  (if gz_in ((14 : Int32) + ((2 : Int32) * x1)) (151) then gz_let (msI m 1051 (gz_ix ((14 : Int32) + ((2 : Int32) * x1))) (0 : Int32)) fun m2 => (if gz_in ((15 : Int32) + ((2 : Int32) * x1)) (151) then gz_let (msI m2 1051 (gz_ix ((15 : Int32) + ((2 : Int32) * x1))) (0 : Int32)) fun m4 => ((mf_isKept x1 x2 m4).bind fun (_, m6) => some ((), m6)) else none) else none)
theorem wm_goesOut {X : gz_X} {G : gz_G} (hX : gz_C mS X G cX6_goesOut 3 RX6 1 23) {x1 : Int32} {x2 : Int32}  {m : MM} {z : (Unit × MM)} (h : mf_goesOut x1 x2 m = some z) (hk : (fun z : (Unit × MM) => gz_kV mS X G 3 (0, 0) cX6_goesOut (mF z.2)) z) : gz_V mS X G 3 (0, 0) (mF m) 0 [(0, .ref (gz_ad G 2000)), (1, .int x1), (2, .int x2)] [] := by
  unfold mf_goesOut at h
  refine gz_aload_n (pc := 0) hX dX6_goesOut_0 rfl 0 rfl ?_
  refine mg_50 (pc := 1) hX dX6_goesOut_1 ?_
  refine gz_bipush (pc := 4) (v := (14 : Int32)) hX dX6_goesOut_4 (by decide) ?_
  refine gz_iconst (pc := 6) (v := (2 : Int32)) hX dX6_goesOut_6 (by decide) ?_
  refine gz_iload_n (pc := 7) hX dX6_goesOut_7 rfl 1 rfl ?_
  refine gz_imul (pc := 8) hX dX6_goesOut_8 ?_
  refine gz_iadd (pc := 9) hX dX6_goesOut_9 ?_
  refine gz_iconst (pc := 10) (v := (0 : Int32)) hX dX6_goesOut_10 (by decide) ?_
  obtain ⟨g1, h⟩ := gz_gu h
  obtain ⟨m2, em2, h⟩ := gz_lt h
  refine mz_iast (pc := 11) (c := 1051) (n := 151) hX rfl rfl g1 (Nat.le_of_ble_eq_true rfl) dX6_goesOut_11 em2 ?_
  refine gz_aload_n (pc := 12) hX dX6_goesOut_12 rfl 0 rfl ?_
  refine mg_50 (pc := 13) hX dX6_goesOut_13 ?_
  refine gz_bipush (pc := 16) (v := (15 : Int32)) hX dX6_goesOut_16 (by decide) ?_
  refine gz_iconst (pc := 18) (v := (2 : Int32)) hX dX6_goesOut_18 (by decide) ?_
  refine gz_iload_n (pc := 19) hX dX6_goesOut_19 rfl 1 rfl ?_
  refine gz_imul (pc := 20) hX dX6_goesOut_20 ?_
  refine gz_iadd (pc := 21) hX dX6_goesOut_21 ?_
  refine gz_iconst (pc := 22) (v := (0 : Int32)) hX dX6_goesOut_22 (by decide) ?_
  obtain ⟨g3, h⟩ := gz_gu h
  obtain ⟨m4, em4, h⟩ := gz_lt h
  refine mz_iast (pc := 23) (c := 1051) (n := 151) hX rfl rfl g3 (Nat.le_of_ble_eq_true rfl) dX6_goesOut_23 em4 ?_
  refine gz_aload_n (pc := 24) hX dX6_goesOut_24 rfl 0 rfl ?_
  refine gz_iload_n (pc := 25) hX dX6_goesOut_25 rfl 1 rfl ?_
  refine gz_iload_n (pc := 26) hX dX6_goesOut_26 rfl 2 rfl ?_
  obtain ⟨⟨⟨⟩, m6⟩, c7, h⟩ := gz_bd h
  refine mc_isKept (pc := 27) hX c7 ⟨Nat.le_of_ble_eq_true rfl, Nat.le_of_ble_eq_true rfl⟩ (rest := []) rfl (Nat.le_of_ble_eq_true rfl) dX6_goesOut_27 ?_
  obtain rfl := Option.some.inj h
  exact hk _ _ dX6_goesOut_30
theorem mt_goesOut {G : gz_G} {l : Launch} {x1 : Int32} {x2 : Int32}  {m m9 : MM} (h : mf_goesOut x1 x2 m = some ((), m9)) : gz_Met mS G l yX6_goesOut cX6_goesOut 3 none (mRm 1 23) [.ref (gz_ad G 2000), .int x1, .int x2] (mF m) (mF m9) none :=
  gz_ofV (plainFor_of_name mz_plain) (Nat.le_of_ble_eq_true rfl) fun X _ hX hk => wm_goesOut hX h hk
theorem mc_goesOut {X : gz_X} {G : gz_G} {cc : ByteArray} {nL fr lo pc : Nat} {lv : List (Nat × Value)} {rest st0 : List Value} (hX : gz_C mS X G cc nL RX6 fr lo) {x1 : Int32} {x2 : Int32}  {m m9 : MM} (h : mf_goesOut x1 x2 m = some ((), m9)) (hroom : 1 + 1 ≤ fr ∧ 8 + (3 + 11) + 23 ≤ lo) (hst : st0 = [.int x2, .int x1, .ref (gz_ad G 2000)] ++ rest) (hW : (rest.map fun v => v.category).sum ≤ 8) (hd : decode cc pc = .ok (.invokevirtual 471, 3)) (kk : gz_V mS X G nL (0, 0) (mF m9) (pc + 3) lv (rest)) : gz_V mS X G nL (0, 0) (mF m) pc lv st0 :=
  gz_callV hX mz_E (As := [.int x1, .int x2]) (rest := rest) (q := (RX6, TX6, 104)) (ci := 0) (c := 2000) (mt_goesOut (l := X.2.1) h) (lw_V q2443 q2445 qs138 q182 q2446) (n := 2) (by decide +kernel) hroom rfl rfl (by decide) rfl hst hW hd (rem := (0, 0)) kk
/-! hourGoes()V -/
def mP_X6_hourGoes_2 (X : gz_X) (G : gz_G) (q : (Int32 × MM)) : Prop := gz_V mS X G 2 (0, 0) (mF q.2) 2 [(0, .ref (gz_ad G 2000)), (1, .int q.1)] []
def mP_X6_hourGoes_64 (X : gz_X) (G : gz_G) (q : (Int32 × MM)) : Prop := gz_V mS X G 2 (0, 0) (mF q.2) 64 [(0, .ref (gz_ad G 2000)), (1, .int q.1)] []
noncomputable def mj_X6_hourGoes_155 (x1 : Int32) (m : MM) : Option ((Int32 × MM) ⊕ (Unit × MM)) :=
  gz_let (x1 + (1 : Int32)) fun y1 => some (Sum.inl (y1, m))
theorem wb_X6_hourGoes_155 {X : gz_X} {G : gz_G} (hX : gz_C mS X G cX6_hourGoes 2 RX6 5 111) {x1 : Int32}  {m : MM} {z : ((Int32 × MM) ⊕ (Unit × MM))} (h : mj_X6_hourGoes_155 x1 m = some z) (hk : (Sum.elim (mP_X6_hourGoes_64 X G) (fun z : (Unit × MM) => gz_kV mS X G 2 (0, 0) cX6_hourGoes (mF z.2))) z) : gz_V mS X G 2 (0, 0) (mF m) 155 [(0, .ref (gz_ad G 2000)), (1, .int x1)] [] := by
  unfold mj_X6_hourGoes_155 at h
  obtain ⟨y1, ey1, h⟩ := gz_lt h
  refine gz_iinc (pc := 155) (v := y1) (lw := [(1, .int y1), (0, .ref (gz_ad G 2000))]) hX dX6_hourGoes_155 (k := 1) rfl (by rw [ey1]; rfl) (by decide) rfl ?_
  refine gz_goto (pc := 158) (tgt := 64) hX dX6_hourGoes_158 (by decide) ?_
  refine gz_sub (lw := [(0, .ref (gz_ad G 2000)), (1, .int y1)]) [1, 0] rfl ?_
  obtain rfl := Option.some.inj h
  exact hk
noncomputable def mb_X6_hourGoes_64 (x1 : Int32) (m : MM) : Option ((Int32 × MM) ⊕ (Unit × MM)) :=
  ((mf_thingMany m).bind fun (r1, m2) => (if r1 ≤ x1 then (if gz_in (0 : Int32) (151) then (if gz_in (0 : Int32) (151) then gz_let (msI m2 1051 (gz_ix (0 : Int32)) ((m2.1 1051 (gz_ix (0 : Int32))) + (1 : Int32))) fun m7 => some (Sum.inr ((), m7)) else none) else none) else (if gz_in x1 (8) then (if (m2.1 1059 (gz_ix x1)) = (-1 : Int32) then ((mf_smellOf x1 m2).bind fun (r19, m20) => (if (99 : Int32) ≤ r19 then (mj_X6_hourGoes_155 x1 m20) else (if gz_in ((15 : Int32) + ((2 : Int32) * x1)) (151) then (if gz_in ((15 : Int32) + ((2 : Int32) * x1)) (151) then gz_let (msI m20 1051 (gz_ix ((15 : Int32) + ((2 : Int32) * x1))) ((m20.1 1051 (gz_ix ((15 : Int32) + ((2 : Int32) * x1)))) + (1 : Int32))) fun m25 => (mj_X6_hourGoes_155 x1 m25) else none) else none))) else (if gz_in x1 (8) then (if (m2.1 1059 (gz_ix x1)) = (0 : Int32) then ((mf_goesOut x1 (0 : Int32) m2).bind fun (_, m16) => gz_let (msI m16 2000 57 ((m16.1 2000 57) + (1 : Int32))) fun m18 => (mj_X6_hourGoes_155 x1 m18)) else (if gz_in x1 (8) then (if gz_in ((14 : Int32) + ((2 : Int32) * x1)) (151) then gz_let (msI m2 1051 (gz_ix ((14 : Int32) + ((2 : Int32) * x1))) (m2.1 1059 (gz_ix x1))) fun m14 => (mj_X6_hourGoes_155 x1 m14) else none) else none)) else none)) else none)))
theorem wb_X6_hourGoes_64 {X : gz_X} {G : gz_G} (hX : gz_C mS X G cX6_hourGoes 2 RX6 5 111) {x1 : Int32}  {m : MM} {z : ((Int32 × MM) ⊕ (Unit × MM))} (h : mb_X6_hourGoes_64 x1 m = some z) (hk : (Sum.elim (mP_X6_hourGoes_64 X G) (fun z : (Unit × MM) => gz_kV mS X G 2 (0, 0) cX6_hourGoes (mF z.2))) z) : gz_V mS X G 2 (0, 0) (mF m) 64 [(0, .ref (gz_ad G 2000)), (1, .int x1)] [] := by
  unfold mb_X6_hourGoes_64 at h
  refine gz_iload_n (pc := 64) hX dX6_hourGoes_64 rfl 1 rfl ?_
  refine gz_aload_n (pc := 65) hX dX6_hourGoes_65 rfl 0 rfl ?_
  obtain ⟨⟨r1, m2⟩, c3, h⟩ := gz_bd h
  refine mc_thingMany (pc := 66) hX c3 ⟨Nat.le_of_ble_eq_true rfl, Nat.le_of_ble_eq_true rfl⟩ (rest := [.int x1]) rfl (Nat.le_of_ble_eq_true rfl) dX6_hourGoes_66 ?_
  refine gz_icmp_ge (pc := 69) (tgt := 161) hX dX6_hourGoes_69 (by decide) (fun g4 => ?_) (fun g4 => ?_)
  · replace h := gz_it' g4 h
    refine gz_aload_n (pc := 161) hX dX6_hourGoes_161 rfl 0 rfl ?_
    refine mg_50 (pc := 162) hX dX6_hourGoes_162 ?_
    refine gz_iconst (pc := 165) (v := (0 : Int32)) hX dX6_hourGoes_165 (by decide) ?_
    refine gz_dup2_11 (pc := 166) hX dX6_hourGoes_166 rfl rfl ?_
    obtain ⟨g5, h⟩ := gz_gu h
    refine mz_iald (pc := 167) (c := 1051) (n := 151) hX rfl rfl g5 dX6_hourGoes_167 ?_
    refine gz_iconst (pc := 168) (v := (1 : Int32)) hX dX6_hourGoes_168 (by decide) ?_
    refine gz_iadd (pc := 169) hX dX6_hourGoes_169 ?_
    obtain ⟨g6, h⟩ := gz_gu h
    obtain ⟨m7, em7, h⟩ := gz_lt h
    refine mz_iast (pc := 170) (c := 1051) (n := 151) hX rfl rfl g6 (Nat.le_of_ble_eq_true rfl) dX6_hourGoes_170 em7 ?_
    obtain rfl := Option.some.inj h
    exact hk _ _ dX6_hourGoes_171
  · replace h := gz_if' g4 h
    refine gz_aload_n (pc := 72) hX dX6_hourGoes_72 rfl 0 rfl ?_
    refine mg_58 (pc := 73) hX dX6_hourGoes_73 ?_
    refine gz_iload_n (pc := 76) hX dX6_hourGoes_76 rfl 1 rfl ?_
    obtain ⟨g8, h⟩ := gz_gu h
    refine mz_iald (pc := 77) (c := 1059) (n := 8) hX rfl rfl g8 dX6_hourGoes_77 ?_
    refine gz_iconst (pc := 78) (v := (-1 : Int32)) hX dX6_hourGoes_78 (by decide) ?_
    refine gz_icmp_ne (pc := 79) (tgt := 110) hX dX6_hourGoes_79 (by decide) (fun g9 => ?_) (fun g9 => ?_)
    · replace h := gz_if' g9 h
      refine gz_aload_n (pc := 110) hX dX6_hourGoes_110 rfl 0 rfl ?_
      refine mg_58 (pc := 111) hX dX6_hourGoes_111 ?_
      refine gz_iload_n (pc := 114) hX dX6_hourGoes_114 rfl 1 rfl ?_
      obtain ⟨g10, h⟩ := gz_gu h
      refine mz_iald (pc := 115) (c := 1059) (n := 8) hX rfl rfl g10 dX6_hourGoes_115 ?_
      refine gz_if_ne (pc := 116) (tgt := 138) hX dX6_hourGoes_116 (by decide) (fun g11 => ?_) (fun g11 => ?_)
      · replace h := gz_if' g11 h
        refine gz_aload_n (pc := 138) hX dX6_hourGoes_138 rfl 0 rfl ?_
        refine mg_50 (pc := 139) hX dX6_hourGoes_139 ?_
        refine gz_bipush (pc := 142) (v := (14 : Int32)) hX dX6_hourGoes_142 (by decide) ?_
        refine gz_iconst (pc := 144) (v := (2 : Int32)) hX dX6_hourGoes_144 (by decide) ?_
        refine gz_iload_n (pc := 145) hX dX6_hourGoes_145 rfl 1 rfl ?_
        refine gz_imul (pc := 146) hX dX6_hourGoes_146 ?_
        refine gz_iadd (pc := 147) hX dX6_hourGoes_147 ?_
        refine gz_aload_n (pc := 148) hX dX6_hourGoes_148 rfl 0 rfl ?_
        refine mg_58 (pc := 149) hX dX6_hourGoes_149 ?_
        refine gz_iload_n (pc := 152) hX dX6_hourGoes_152 rfl 1 rfl ?_
        obtain ⟨g12, h⟩ := gz_gu h
        refine mz_iald (pc := 153) (c := 1059) (n := 8) hX rfl rfl g12 dX6_hourGoes_153 ?_
        obtain ⟨g13, h⟩ := gz_gu h
        obtain ⟨m14, em14, h⟩ := gz_lt h
        refine mz_iast (pc := 154) (c := 1051) (n := 151) hX rfl rfl g13 (Nat.le_of_ble_eq_true rfl) dX6_hourGoes_154 em14 ?_
        exact wb_X6_hourGoes_155 hX h hk
      · replace h := gz_it' g11 h
        refine gz_aload_n (pc := 119) hX dX6_hourGoes_119 rfl 0 rfl ?_
        refine gz_iload_n (pc := 120) hX dX6_hourGoes_120 rfl 1 rfl ?_
        refine gz_iconst (pc := 121) (v := (0 : Int32)) hX dX6_hourGoes_121 (by decide) ?_
        obtain ⟨⟨⟨⟩, m16⟩, c17, h⟩ := gz_bd h
        refine mc_goesOut (pc := 122) hX c17 ⟨Nat.le_of_ble_eq_true rfl, Nat.le_of_ble_eq_true rfl⟩ (rest := []) rfl (Nat.le_of_ble_eq_true rfl) dX6_hourGoes_122 ?_
        refine gz_aload_n (pc := 125) hX dX6_hourGoes_125 rfl 0 rfl ?_
        refine gz_dup (pc := 126) hX dX6_hourGoes_126 rfl ?_
        refine mg_57 (pc := 127) hX dX6_hourGoes_127 ?_
        refine gz_iconst (pc := 130) (v := (1 : Int32)) hX dX6_hourGoes_130 (by decide) ?_
        refine gz_iadd (pc := 131) hX dX6_hourGoes_131 ?_
        obtain ⟨m18, em18, h⟩ := gz_lt h
        refine mp_57 (pc := 132) hX dX6_hourGoes_132 em18 ?_
        refine gz_goto (pc := 135) (tgt := 155) hX dX6_hourGoes_135 (by decide) ?_
        exact wb_X6_hourGoes_155 hX h hk
    · replace h := gz_it' g9 h
      refine gz_aload_n (pc := 82) hX dX6_hourGoes_82 rfl 0 rfl ?_
      refine gz_iload_n (pc := 83) hX dX6_hourGoes_83 rfl 1 rfl ?_
      obtain ⟨⟨r19, m20⟩, c21, h⟩ := gz_bd h
      refine mc_smellOf (pc := 84) hX c21 ⟨Nat.le_of_ble_eq_true rfl, Nat.le_of_ble_eq_true rfl⟩ (rest := []) rfl (Nat.le_of_ble_eq_true rfl) dX6_hourGoes_84 ?_
      refine gz_bipush (pc := 87) (v := (99 : Int32)) hX dX6_hourGoes_87 (by decide) ?_
      refine gz_icmp_ge (pc := 89) (tgt := 155) hX dX6_hourGoes_89 (by decide) (fun g22 => ?_) (fun g22 => ?_)
      · replace h := gz_it' g22 h
        exact wb_X6_hourGoes_155 hX h hk
      · replace h := gz_if' g22 h
        refine gz_aload_n (pc := 92) hX dX6_hourGoes_92 rfl 0 rfl ?_
        refine mg_50 (pc := 93) hX dX6_hourGoes_93 ?_
        refine gz_bipush (pc := 96) (v := (15 : Int32)) hX dX6_hourGoes_96 (by decide) ?_
        refine gz_iconst (pc := 98) (v := (2 : Int32)) hX dX6_hourGoes_98 (by decide) ?_
        refine gz_iload_n (pc := 99) hX dX6_hourGoes_99 rfl 1 rfl ?_
        refine gz_imul (pc := 100) hX dX6_hourGoes_100 ?_
        refine gz_iadd (pc := 101) hX dX6_hourGoes_101 ?_
        refine gz_dup2_11 (pc := 102) hX dX6_hourGoes_102 rfl rfl ?_
        obtain ⟨g23, h⟩ := gz_gu h
        refine mz_iald (pc := 103) (c := 1051) (n := 151) hX rfl rfl g23 dX6_hourGoes_103 ?_
        refine gz_iconst (pc := 104) (v := (1 : Int32)) hX dX6_hourGoes_104 (by decide) ?_
        refine gz_iadd (pc := 105) hX dX6_hourGoes_105 ?_
        obtain ⟨g24, h⟩ := gz_gu h
        obtain ⟨m25, em25, h⟩ := gz_lt h
        refine mz_iast (pc := 106) (c := 1051) (n := 151) hX rfl rfl g24 (Nat.le_of_ble_eq_true rfl) dX6_hourGoes_106 em25 ?_
        refine gz_goto (pc := 107) (tgt := 155) hX dX6_hourGoes_107 (by decide) ?_
        exact wb_X6_hourGoes_155 hX h hk
noncomputable def ml_X6_hourGoes_64 (x1 : Int32) (m : MM) : Option (Unit × MM) := gz_loop (fun q : (Int32 × MM) => mb_X6_hourGoes_64 q.1 q.2) (x1, m)
theorem wl_X6_hourGoes_64 {X : gz_X} {G : gz_G} (hX : gz_C mS X G cX6_hourGoes 2 RX6 5 111) {x1 : Int32}  {m : MM} {z : (Unit × MM)} (h : ml_X6_hourGoes_64 x1 m = some z) (hk : (fun z : (Unit × MM) => gz_kV mS X G 2 (0, 0) cX6_hourGoes (mF z.2)) z) : gz_V mS X G 2 (0, 0) (mF m) 64 [(0, .ref (gz_ad G 2000)), (1, .int x1)] [] := by
  have hp : mP_X6_hourGoes_64 X G (x1, m) := gz_loop_ind (fun q z hz hkz => wb_X6_hourGoes_64 hX  hz hkz) h hk
  exact hp
noncomputable def mj_X6_hourGoes_55 (x1 : Int32) (s0 : Int32) (s1 : Int32) (m : MM) : Option ((Int32 × MM) ⊕ (Unit × MM)) :=
  (if gz_in s1 (8) then gz_let (msI m 1059 (gz_ix s1) s0) fun m2 => gz_let (x1 + (1 : Int32)) fun y3 => some (Sum.inl (y3, m2)) else none)
theorem wb_X6_hourGoes_55 {X : gz_X} {G : gz_G} (hX : gz_C mS X G cX6_hourGoes 2 RX6 5 111) {x1 : Int32} {s0 : Int32} {s1 : Int32}  {m : MM} {z : ((Int32 × MM) ⊕ (Unit × MM))} (h : mj_X6_hourGoes_55 x1 s0 s1 m = some z) (hk : (Sum.elim (mP_X6_hourGoes_2 X G) (fun z : (Unit × MM) => gz_kV mS X G 2 (0, 0) cX6_hourGoes (mF z.2))) z) : gz_V mS X G 2 (0, 0) (mF m) 55 [(0, .ref (gz_ad G 2000)), (1, .int x1)] [.int s0, .int s1, .ref (gz_ad G 1059)] := by
  unfold mj_X6_hourGoes_55 at h
  obtain ⟨g1, h⟩ := gz_gu h
  obtain ⟨m2, em2, h⟩ := gz_lt h
  refine mz_iast (pc := 55) (c := 1059) (n := 8) hX rfl rfl g1 (Nat.le_of_ble_eq_true rfl) dX6_hourGoes_55 em2 ?_
  obtain ⟨y3, ey3, h⟩ := gz_lt h
  refine gz_iinc (pc := 56) (v := y3) (lw := [(1, .int y3), (0, .ref (gz_ad G 2000))]) hX dX6_hourGoes_56 (k := 1) rfl (by rw [ey3]; rfl) (by decide) rfl ?_
  refine gz_goto (pc := 59) (tgt := 2) hX dX6_hourGoes_59 (by decide) ?_
  refine gz_sub (lw := [(0, .ref (gz_ad G 2000)), (1, .int y3)]) [1, 0] rfl ?_
  obtain rfl := Option.some.inj h
  exact hk
noncomputable def mj_X6_hourGoes_52 (x1 : Int32) (s0 : Int64) (s1 : Int32) (m : MM) : Option ((Int32 × MM) ⊕ (Unit × MM)) :=
  ((mf_cut s0 m).bind fun (r1, m2) => (mj_X6_hourGoes_55 x1 r1 s1 m2))
theorem wb_X6_hourGoes_52 {X : gz_X} {G : gz_G} (hX : gz_C mS X G cX6_hourGoes 2 RX6 5 111) {x1 : Int32} {s0 : Int64} {s1 : Int32}  {m : MM} {z : ((Int32 × MM) ⊕ (Unit × MM))} (h : mj_X6_hourGoes_52 x1 s0 s1 m = some z) (hk : (Sum.elim (mP_X6_hourGoes_2 X G) (fun z : (Unit × MM) => gz_kV mS X G 2 (0, 0) cX6_hourGoes (mF z.2))) z) : gz_V mS X G 2 (0, 0) (mF m) 52 [(0, .ref (gz_ad G 2000)), (1, .int x1)] [.long s0, .int s1, .ref (gz_ad G 1059)] := by
  unfold mj_X6_hourGoes_52 at h
  obtain ⟨⟨r1, m2⟩, c3, h⟩ := gz_bd h
  refine mc_cut (pc := 52) hX c3 ⟨Nat.le_of_ble_eq_true rfl, Nat.le_of_ble_eq_true rfl⟩ (rest := [.int s1, .ref (gz_ad G 1059)]) rfl (Nat.le_of_ble_eq_true rfl) dX6_hourGoes_52 ?_
  exact wb_X6_hourGoes_55 hX h hk
noncomputable def mb_X6_hourGoes_2 (x1 : Int32) (m : MM) : Option ((Int32 × MM) ⊕ (Unit × MM)) :=
  ((mf_thingMany m).bind fun (r1, m2) => (if r1 ≤ x1 then (Option.map Sum.inr (ml_X6_hourGoes_64 (0 : Int32) m2)) else ((mf_doesBurn x1 m2).bind fun (r5, m6) => (if r5 = (0 : Int32) then (mj_X6_hourGoes_55 x1 (-1 : Int32) x1 m6) else ((mf_isTold (0 : Int32) m6).bind fun (r9, m10) => (if r9 = (0 : Int32) then ((mf_strengthOf x1 m10).bind fun (r13, m14) => (mj_X6_hourGoes_52 x1 ((r13 - (1 : Int32)).toInt64) x1 m14)) else ((mf_codesTell (0 : Int32) x1 m10).bind fun (r16, m17) => (mj_X6_hourGoes_52 x1 r16 x1 m17))))))))
theorem wb_X6_hourGoes_2 {X : gz_X} {G : gz_G} (hX : gz_C mS X G cX6_hourGoes 2 RX6 5 111) {x1 : Int32}  {m : MM} {z : ((Int32 × MM) ⊕ (Unit × MM))} (h : mb_X6_hourGoes_2 x1 m = some z) (hk : (Sum.elim (mP_X6_hourGoes_2 X G) (fun z : (Unit × MM) => gz_kV mS X G 2 (0, 0) cX6_hourGoes (mF z.2))) z) : gz_V mS X G 2 (0, 0) (mF m) 2 [(0, .ref (gz_ad G 2000)), (1, .int x1)] [] := by
  unfold mb_X6_hourGoes_2 at h
  refine gz_iload_n (pc := 2) hX dX6_hourGoes_2 rfl 1 rfl ?_
  refine gz_aload_n (pc := 3) hX dX6_hourGoes_3 rfl 0 rfl ?_
  obtain ⟨⟨r1, m2⟩, c3, h⟩ := gz_bd h
  refine mc_thingMany (pc := 4) hX c3 ⟨Nat.le_of_ble_eq_true rfl, Nat.le_of_ble_eq_true rfl⟩ (rest := [.int x1]) rfl (Nat.le_of_ble_eq_true rfl) dX6_hourGoes_4 ?_
  refine gz_icmp_ge (pc := 7) (tgt := 62) hX dX6_hourGoes_7 (by decide) (fun g4 => ?_) (fun g4 => ?_)
  · replace h := gz_it' g4 h
    refine gz_iconst (pc := 62) (v := (0 : Int32)) hX dX6_hourGoes_62 (by decide) ?_
    refine gz_istore_n (pc := 63) (lw := [(1, .int (0 : Int32)), (0, .ref (gz_ad G 2000))]) hX dX6_hourGoes_63 rfl (by decide) rfl ?_
    refine gz_sub (lw := [(0, .ref (gz_ad G 2000)), (1, .int (0 : Int32))]) [1, 0] rfl ?_
    obtain ⟨z0, hm0, rfl⟩ := gz_mp h
    exact wl_X6_hourGoes_64 hX hm0 hk
  · replace h := gz_if' g4 h
    refine gz_aload_n (pc := 10) hX dX6_hourGoes_10 rfl 0 rfl ?_
    refine mg_58 (pc := 11) hX dX6_hourGoes_11 ?_
    refine gz_iload_n (pc := 14) hX dX6_hourGoes_14 rfl 1 rfl ?_
    refine gz_aload_n (pc := 15) hX dX6_hourGoes_15 rfl 0 rfl ?_
    refine gz_iload_n (pc := 16) hX dX6_hourGoes_16 rfl 1 rfl ?_
    obtain ⟨⟨r5, m6⟩, c7, h⟩ := gz_bd h
    refine mc_doesBurn (pc := 17) hX c7 ⟨Nat.le_of_ble_eq_true rfl, Nat.le_of_ble_eq_true rfl⟩ (rest := [.int x1, .ref (gz_ad G 1059)]) rfl (Nat.le_of_ble_eq_true rfl) dX6_hourGoes_17 ?_
    refine gz_if_ne (pc := 20) (tgt := 27) hX dX6_hourGoes_20 (by decide) (fun g8 => ?_) (fun g8 => ?_)
    · replace h := gz_if' g8 h
      refine gz_aload_n (pc := 27) hX dX6_hourGoes_27 rfl 0 rfl ?_
      refine gz_iconst (pc := 28) (v := (0 : Int32)) hX dX6_hourGoes_28 (by decide) ?_
      obtain ⟨⟨r9, m10⟩, c11, h⟩ := gz_bd h
      refine mc_isTold (pc := 29) hX c11 ⟨Nat.le_of_ble_eq_true rfl, Nat.le_of_ble_eq_true rfl⟩ (rest := [.int x1, .ref (gz_ad G 1059)]) rfl (Nat.le_of_ble_eq_true rfl) dX6_hourGoes_29 ?_
      refine gz_if_eq (pc := 32) (tgt := 44) hX dX6_hourGoes_32 (by decide) (fun g12 => ?_) (fun g12 => ?_)
      · replace h := gz_it' g12 h
        refine gz_aload_n (pc := 44) hX dX6_hourGoes_44 rfl 0 rfl ?_
        refine gz_iload_n (pc := 45) hX dX6_hourGoes_45 rfl 1 rfl ?_
        obtain ⟨⟨r13, m14⟩, c15, h⟩ := gz_bd h
        refine mc_strengthOf (pc := 46) hX c15 ⟨Nat.le_of_ble_eq_true rfl, Nat.le_of_ble_eq_true rfl⟩ (rest := [.int x1, .ref (gz_ad G 1059)]) rfl (Nat.le_of_ble_eq_true rfl) dX6_hourGoes_46 ?_
        refine gz_iconst (pc := 49) (v := (1 : Int32)) hX dX6_hourGoes_49 (by decide) ?_
        refine gz_isub (pc := 50) hX dX6_hourGoes_50 ?_
        refine gz_i2l (pc := 51) hX dX6_hourGoes_51 ?_
        exact wb_X6_hourGoes_52 hX h hk
      · replace h := gz_if' g12 h
        refine gz_aload_n (pc := 35) hX dX6_hourGoes_35 rfl 0 rfl ?_
        refine gz_iconst (pc := 36) (v := (0 : Int32)) hX dX6_hourGoes_36 (by decide) ?_
        refine gz_iload_n (pc := 37) hX dX6_hourGoes_37 rfl 1 rfl ?_
        obtain ⟨⟨r16, m17⟩, c18, h⟩ := gz_bd h
        refine mc_codesTell (pc := 38) hX c18 ⟨Nat.le_of_ble_eq_true rfl, Nat.le_of_ble_eq_true rfl⟩ (rest := [.int x1, .ref (gz_ad G 1059)]) rfl (Nat.le_of_ble_eq_true rfl) dX6_hourGoes_38 ?_
        refine gz_goto (pc := 41) (tgt := 52) hX dX6_hourGoes_41 (by decide) ?_
        exact wb_X6_hourGoes_52 hX h hk
    · replace h := gz_it' g8 h
      refine gz_iconst (pc := 23) (v := (-1 : Int32)) hX dX6_hourGoes_23 (by decide) ?_
      refine gz_goto (pc := 24) (tgt := 55) hX dX6_hourGoes_24 (by decide) ?_
      exact wb_X6_hourGoes_55 hX h hk
noncomputable def ml_X6_hourGoes_2 (x1 : Int32) (m : MM) : Option (Unit × MM) := gz_loop (fun q : (Int32 × MM) => mb_X6_hourGoes_2 q.1 q.2) (x1, m)
theorem wl_X6_hourGoes_2 {X : gz_X} {G : gz_G} (hX : gz_C mS X G cX6_hourGoes 2 RX6 5 111) {x1 : Int32}  {m : MM} {z : (Unit × MM)} (h : ml_X6_hourGoes_2 x1 m = some z) (hk : (fun z : (Unit × MM) => gz_kV mS X G 2 (0, 0) cX6_hourGoes (mF z.2)) z) : gz_V mS X G 2 (0, 0) (mF m) 2 [(0, .ref (gz_ad G 2000)), (1, .int x1)] [] := by
  have hp : mP_X6_hourGoes_2 X G (x1, m) := gz_loop_ind (fun q z hz hkz => wb_X6_hourGoes_2 hX  hz hkz) h hk
  exact hp
noncomputable def mf_hourGoes  (m : MM) : Option (Unit × MM) :=
  (ml_X6_hourGoes_2 (0 : Int32) m)
theorem wm_hourGoes {X : gz_X} {G : gz_G} (hX : gz_C mS X G cX6_hourGoes 2 RX6 5 111)   {m : MM} {z : (Unit × MM)} (h : mf_hourGoes  m = some z) (hk : (fun z : (Unit × MM) => gz_kV mS X G 2 (0, 0) cX6_hourGoes (mF z.2)) z) : gz_V mS X G 2 (0, 0) (mF m) 0 [(0, .ref (gz_ad G 2000))] [] := by
  unfold mf_hourGoes at h
  refine gz_iconst (pc := 0) (v := (0 : Int32)) hX dX6_hourGoes_0 (by decide) ?_
  refine gz_istore_n (pc := 1) (lw := [(1, .int (0 : Int32)), (0, .ref (gz_ad G 2000))]) hX dX6_hourGoes_1 rfl (by decide) rfl ?_
  refine gz_sub (lw := [(0, .ref (gz_ad G 2000)), (1, .int (0 : Int32))]) [1, 0] rfl ?_
  exact wl_X6_hourGoes_2 hX h hk
theorem mt_hourGoes {G : gz_G} {l : Launch}   {m m9 : MM} (h : mf_hourGoes  m = some ((), m9)) : gz_Met mS G l yX6_hourGoes cX6_hourGoes 2 none (mRm 5 111) [.ref (gz_ad G 2000)] (mF m) (mF m9) none :=
  gz_ofV (plainFor_of_name mz_plain) (Nat.le_of_ble_eq_true rfl) fun X _ hX hk => wm_hourGoes hX h hk
theorem mc_hourGoes {X : gz_X} {G : gz_G} {cc : ByteArray} {nL fr lo pc : Nat} {lv : List (Nat × Value)} {rest st0 : List Value} (hX : gz_C mS X G cc nL RX6 fr lo)   {m m9 : MM} (h : mf_hourGoes  m = some ((), m9)) (hroom : 5 + 1 ≤ fr ∧ 8 + (2 + 11) + 111 ≤ lo) (hst : st0 = [.ref (gz_ad G 2000)] ++ rest) (hW : (rest.map fun v => v.category).sum ≤ 8) (hd : decode cc pc = .ok (.invokevirtual 477, 3)) (kk : gz_V mS X G nL (0, 0) (mF m9) (pc + 3) lv (rest)) : gz_V mS X G nL (0, 0) (mF m) pc lv st0 :=
  gz_callV hX mz_E (As := []) (rest := rest) (q := (RX6, TX6, 104)) (ci := 0) (c := 2000) (mt_hourGoes (l := X.2.1) h) (lw_V q2435 q2437 qs137 q182 q2438) (n := 0) (by decide +kernel) hroom rfl rfl (by decide) rfl hst hW hd (rem := (0, 0)) kk
/-! hoursGo(I)V -/
def mP_X6_hoursGo_7 (X : gz_X) (G : gz_G) (q : (Int32 × Int32 × MM)) : Prop := gz_V mS X G 3 (0, 0) (mF q.2.2) 7 [(0, .ref (gz_ad G 2000)), (1, .int q.1), (2, .int q.2.1)] []
noncomputable def mb_X6_hoursGo_7 (x1 : Int32) (x2 : Int32) (m : MM) : Option ((Int32 × Int32 × MM) ⊕ (Unit × MM)) :=
  (if x1 ≤ x2 then some (Sum.inr ((), m)) else ((mf_hourGoes m).bind fun (_, m3) => gz_let (x2 + (1 : Int32)) fun y5 => some (Sum.inl (x1, y5, m3))))
theorem wb_X6_hoursGo_7 {X : gz_X} {G : gz_G} (hX : gz_C mS X G cX6_hoursGo 3 RX6 6 132) {x1 : Int32} {x2 : Int32}  {m : MM} {z : ((Int32 × Int32 × MM) ⊕ (Unit × MM))} (h : mb_X6_hoursGo_7 x1 x2 m = some z) (hk : (Sum.elim (mP_X6_hoursGo_7 X G) (fun z : (Unit × MM) => gz_kV mS X G 3 (0, 0) cX6_hoursGo (mF z.2))) z) : gz_V mS X G 3 (0, 0) (mF m) 7 [(0, .ref (gz_ad G 2000)), (1, .int x1), (2, .int x2)] [] := by
  unfold mb_X6_hoursGo_7 at h
  refine gz_iload_n (pc := 7) hX dX6_hoursGo_7 rfl 2 rfl ?_
  refine gz_iload_n (pc := 8) hX dX6_hoursGo_8 rfl 1 rfl ?_
  refine gz_icmp_ge (pc := 9) (tgt := 22) hX dX6_hoursGo_9 (by decide) (fun g1 => ?_) (fun g1 => ?_)
  · replace h := gz_it' g1 h
    obtain rfl := Option.some.inj h
    exact hk _ _ dX6_hoursGo_22
  · replace h := gz_if' g1 h
    refine gz_aload_n (pc := 12) hX dX6_hoursGo_12 rfl 0 rfl ?_
    obtain ⟨⟨⟨⟩, m3⟩, c4, h⟩ := gz_bd h
    refine mc_hourGoes (pc := 13) hX c4 ⟨Nat.le_of_ble_eq_true rfl, Nat.le_of_ble_eq_true rfl⟩ (rest := []) rfl (Nat.le_of_ble_eq_true rfl) dX6_hoursGo_13 ?_
    obtain ⟨y5, ey5, h⟩ := gz_lt h
    refine gz_iinc (pc := 16) (v := y5) (lw := [(2, .int y5), (0, .ref (gz_ad G 2000)), (1, .int x1)]) hX dX6_hoursGo_16 (k := 2) rfl (by rw [ey5]; rfl) (by decide) rfl ?_
    refine gz_goto (pc := 19) (tgt := 7) hX dX6_hoursGo_19 (by decide) ?_
    refine gz_sub (lw := [(0, .ref (gz_ad G 2000)), (1, .int x1), (2, .int y5)]) [1, 2, 0] rfl ?_
    obtain rfl := Option.some.inj h
    exact hk
noncomputable def ml_X6_hoursGo_7 (x1 : Int32) (x2 : Int32) (m : MM) : Option (Unit × MM) := gz_loop (fun q : (Int32 × Int32 × MM) => mb_X6_hoursGo_7 q.1 q.2.1 q.2.2) (x1, x2, m)
theorem wl_X6_hoursGo_7 {X : gz_X} {G : gz_G} (hX : gz_C mS X G cX6_hoursGo 3 RX6 6 132) {x1 : Int32} {x2 : Int32}  {m : MM} {z : (Unit × MM)} (h : ml_X6_hoursGo_7 x1 x2 m = some z) (hk : (fun z : (Unit × MM) => gz_kV mS X G 3 (0, 0) cX6_hoursGo (mF z.2)) z) : gz_V mS X G 3 (0, 0) (mF m) 7 [(0, .ref (gz_ad G 2000)), (1, .int x1), (2, .int x2)] [] := by
  have hp : mP_X6_hoursGo_7 X G (x1, x2, m) := gz_loop_ind (fun q z hz hkz => wb_X6_hoursGo_7 hX  hz hkz) h hk
  exact hp
noncomputable def mf_hoursGo (x1 : Int32) (m : MM) : Option (Unit × MM) :=
  gz_let (msI m 2000 57 (0 : Int32)) fun m1 => (ml_X6_hoursGo_7 x1 (0 : Int32) m1)
theorem wm_hoursGo {X : gz_X} {G : gz_G} (hX : gz_C mS X G cX6_hoursGo 3 RX6 6 132) {x1 : Int32}  {m : MM} {z : (Unit × MM)} (h : mf_hoursGo x1 m = some z) (hk : (fun z : (Unit × MM) => gz_kV mS X G 3 (0, 0) cX6_hoursGo (mF z.2)) z) : gz_V mS X G 3 (0, 0) (mF m) 0 [(0, .ref (gz_ad G 2000)), (1, .int x1)] [] := by
  unfold mf_hoursGo at h
  refine gz_aload_n (pc := 0) hX dX6_hoursGo_0 rfl 0 rfl ?_
  refine gz_iconst (pc := 1) (v := (0 : Int32)) hX dX6_hoursGo_1 (by decide) ?_
  obtain ⟨m1, em1, h⟩ := gz_lt h
  refine mp_57 (pc := 2) hX dX6_hoursGo_2 em1 ?_
  refine gz_iconst (pc := 5) (v := (0 : Int32)) hX dX6_hoursGo_5 (by decide) ?_
  refine gz_istore_n (pc := 6) (lw := [(2, .int (0 : Int32)), (0, .ref (gz_ad G 2000)), (1, .int x1)]) hX dX6_hoursGo_6 rfl (by decide) rfl ?_
  refine gz_sub (lw := [(0, .ref (gz_ad G 2000)), (1, .int x1), (2, .int (0 : Int32))]) [1, 2, 0] rfl ?_
  exact wl_X6_hoursGo_7 hX h hk
theorem mt_hoursGo {G : gz_G} {l : Launch} {x1 : Int32}  {m m9 : MM} (h : mf_hoursGo x1 m = some ((), m9)) : gz_Met mS G l yX6_hoursGo cX6_hoursGo 3 none (mRm 6 132) [.ref (gz_ad G 2000), .int x1] (mF m) (mF m9) none :=
  gz_ofV (plainFor_of_name mz_plain) (Nat.le_of_ble_eq_true rfl) fun X _ hX hk => wm_hoursGo hX h hk
theorem mc_hoursGo {X : gz_X} {G : gz_G} {cc : ByteArray} {nL fr lo pc : Nat} {lv : List (Nat × Value)} {rest st0 : List Value} (hX : gz_C mS X G cc nL RX6 fr lo) {x1 : Int32}  {m m9 : MM} (h : mf_hoursGo x1 m = some ((), m9)) (hroom : 6 + 1 ≤ fr ∧ 8 + (3 + 11) + 132 ≤ lo) (hst : st0 = [.int x1, .ref (gz_ad G 2000)] ++ rest) (hW : (rest.map fun v => v.category).sum ≤ 8) (hd : decode cc pc = .ok (.invokevirtual 521, 3)) (kk : gz_V mS X G nL (0, 0) (mF m9) (pc + 3) lv (rest)) : gz_V mS X G nL (0, 0) (mF m) pc lv st0 :=
  gz_callV hX mz_E (As := [.int x1]) (rest := rest) (q := (RX6, TX6, 104)) (ci := 0) (c := 2000) (mt_hoursGo (l := X.2.1) h) (lw_V q2431 q2433 qs136 q182 q2434) (n := 1) (by decide +kernel) hroom rfl rfl (by decide) rfl hst hW hd (rem := (0, 0)) kk
/-! triesAnew()V -/
def mP_X6_triesAnew_2 (X : gz_X) (G : gz_G) (q : (Int32 × MM)) : Prop := gz_V mS X G 2 (0, 0) (mF q.2) 2 [(0, .ref (gz_ad G 2000)), (1, .int q.1)] []
noncomputable def mb_X6_triesAnew_2 (x1 : Int32) (m : MM) : Option ((Int32 × MM) ⊕ (Unit × MM)) :=
  (if (30 : Int32) ≤ x1 then some (Sum.inr ((), m)) else (if gz_in x1 (30) then (if gz_in x1 (151) then gz_let (msI m 1051 (gz_ix x1) (m.1 1052 (gz_ix x1))) fun m4 => gz_let (x1 + (1 : Int32)) fun y5 => some (Sum.inl (y5, m4)) else none) else none))
theorem wb_X6_triesAnew_2 {X : gz_X} {G : gz_G} (hX : gz_C mS X G cX6_triesAnew 2 RX6 0 0) {x1 : Int32}  {m : MM} {z : ((Int32 × MM) ⊕ (Unit × MM))} (h : mb_X6_triesAnew_2 x1 m = some z) (hk : (Sum.elim (mP_X6_triesAnew_2 X G) (fun z : (Unit × MM) => gz_kV mS X G 2 (0, 0) cX6_triesAnew (mF z.2))) z) : gz_V mS X G 2 (0, 0) (mF m) 2 [(0, .ref (gz_ad G 2000)), (1, .int x1)] [] := by
  unfold mb_X6_triesAnew_2 at h
  refine gz_iload_n (pc := 2) hX dX6_triesAnew_2 rfl 1 rfl ?_
  refine gz_bipush (pc := 3) (v := (30 : Int32)) hX dX6_triesAnew_3 (by decide) ?_
  refine gz_icmp_ge (pc := 5) (tgt := 26) hX dX6_triesAnew_5 (by decide) (fun g1 => ?_) (fun g1 => ?_)
  · replace h := gz_it' g1 h
    obtain rfl := Option.some.inj h
    exact hk _ _ dX6_triesAnew_26
  · replace h := gz_if' g1 h
    refine gz_aload_n (pc := 8) hX dX6_triesAnew_8 rfl 0 rfl ?_
    refine mg_50 (pc := 9) hX dX6_triesAnew_9 ?_
    refine gz_iload_n (pc := 12) hX dX6_triesAnew_12 rfl 1 rfl ?_
    refine gz_aload_n (pc := 13) hX dX6_triesAnew_13 rfl 0 rfl ?_
    refine mg_51 (pc := 14) hX dX6_triesAnew_14 ?_
    refine gz_iload_n (pc := 17) hX dX6_triesAnew_17 rfl 1 rfl ?_
    obtain ⟨g2, h⟩ := gz_gu h
    refine mz_iald (pc := 18) (c := 1052) (n := 30) hX rfl rfl g2 dX6_triesAnew_18 ?_
    obtain ⟨g3, h⟩ := gz_gu h
    obtain ⟨m4, em4, h⟩ := gz_lt h
    refine mz_iast (pc := 19) (c := 1051) (n := 151) hX rfl rfl g3 (Nat.le_of_ble_eq_true rfl) dX6_triesAnew_19 em4 ?_
    obtain ⟨y5, ey5, h⟩ := gz_lt h
    refine gz_iinc (pc := 20) (v := y5) (lw := [(1, .int y5), (0, .ref (gz_ad G 2000))]) hX dX6_triesAnew_20 (k := 1) rfl (by rw [ey5]; rfl) (by decide) rfl ?_
    refine gz_goto (pc := 23) (tgt := 2) hX dX6_triesAnew_23 (by decide) ?_
    refine gz_sub (lw := [(0, .ref (gz_ad G 2000)), (1, .int y5)]) [1, 0] rfl ?_
    obtain rfl := Option.some.inj h
    exact hk
noncomputable def ml_X6_triesAnew_2 (x1 : Int32) (m : MM) : Option (Unit × MM) := gz_loop (fun q : (Int32 × MM) => mb_X6_triesAnew_2 q.1 q.2) (x1, m)
theorem wl_X6_triesAnew_2 {X : gz_X} {G : gz_G} (hX : gz_C mS X G cX6_triesAnew 2 RX6 0 0) {x1 : Int32}  {m : MM} {z : (Unit × MM)} (h : ml_X6_triesAnew_2 x1 m = some z) (hk : (fun z : (Unit × MM) => gz_kV mS X G 2 (0, 0) cX6_triesAnew (mF z.2)) z) : gz_V mS X G 2 (0, 0) (mF m) 2 [(0, .ref (gz_ad G 2000)), (1, .int x1)] [] := by
  have hp : mP_X6_triesAnew_2 X G (x1, m) := gz_loop_ind (fun q z hz hkz => wb_X6_triesAnew_2 hX  hz hkz) h hk
  exact hp
noncomputable def mf_triesAnew  (m : MM) : Option (Unit × MM) :=
  (ml_X6_triesAnew_2 (0 : Int32) m)
theorem wm_triesAnew {X : gz_X} {G : gz_G} (hX : gz_C mS X G cX6_triesAnew 2 RX6 0 0)   {m : MM} {z : (Unit × MM)} (h : mf_triesAnew  m = some z) (hk : (fun z : (Unit × MM) => gz_kV mS X G 2 (0, 0) cX6_triesAnew (mF z.2)) z) : gz_V mS X G 2 (0, 0) (mF m) 0 [(0, .ref (gz_ad G 2000))] [] := by
  unfold mf_triesAnew at h
  refine gz_iconst (pc := 0) (v := (0 : Int32)) hX dX6_triesAnew_0 (by decide) ?_
  refine gz_istore_n (pc := 1) (lw := [(1, .int (0 : Int32)), (0, .ref (gz_ad G 2000))]) hX dX6_triesAnew_1 rfl (by decide) rfl ?_
  refine gz_sub (lw := [(0, .ref (gz_ad G 2000)), (1, .int (0 : Int32))]) [1, 0] rfl ?_
  exact wl_X6_triesAnew_2 hX h hk
theorem mt_triesAnew {G : gz_G} {l : Launch}   {m m9 : MM} (h : mf_triesAnew  m = some ((), m9)) : gz_Met mS G l yX6_triesAnew cX6_triesAnew 2 none (mRm 0 0) [.ref (gz_ad G 2000)] (mF m) (mF m9) none :=
  gz_ofV (plainFor_of_name mz_plain) (Nat.le_of_ble_eq_true rfl) fun X _ hX hk => wm_triesAnew hX h hk
theorem mc_triesAnew {X : gz_X} {G : gz_G} {cc : ByteArray} {nL fr lo pc : Nat} {lv : List (Nat × Value)} {rest st0 : List Value} (hX : gz_C mS X G cc nL RX6 fr lo)   {m m9 : MM} (h : mf_triesAnew  m = some ((), m9)) (hroom : 0 + 1 ≤ fr ∧ 8 + (2 + 11) + 0 ≤ lo) (hst : st0 = [.ref (gz_ad G 2000)] ++ rest) (hW : (rest.map fun v => v.category).sum ≤ 8) (hd : decode cc pc = .ok (.invokevirtual 480, 3)) (kk : gz_V mS X G nL (0, 0) (mF m9) (pc + 3) lv (rest)) : gz_V mS X G nL (0, 0) (mF m) pc lv st0 :=
  gz_callV hX mz_E (As := []) (rest := rest) (q := (RX6, TX6, 104)) (ci := 0) (c := 2000) (mt_triesAnew (l := X.2.1) h) (lw_V q2455 q2457 qs141 q182 q2458) (n := 0) (by decide +kernel) hroom rfl rfl (by decide) rfl hst hW hd (rem := (0, 0)) kk
