set_option maxRecDepth 100000
/-! household()I -/
def mP_X6_household_40 (X : gz_X) (G : gz_G) (q : (Int32 × MM)) : Prop := gz_V mS X G 2 (0, 0) (mF q.2) 40 [(0, .ref (gz_ad G 2000)), (1, .int q.1)] []
def mP_X6_household_61 (X : gz_X) (G : gz_G) (q : (Int32 × MM)) : Prop := gz_V mS X G 2 (0, 0) (mF q.2) 61 [(0, .ref (gz_ad G 2000)), (1, .int q.1)] []
def mP_X6_household_84 (X : gz_X) (G : gz_G) (q : (MM)) : Prop := gz_V mS X G 2 (0, 0) (mF q) 84 [(0, .ref (gz_ad G 2000))] []
noncomputable def mj_X6_household_106  (m : MM) : Option (Int32 × MM) :=
  gz_let (msI m 2000 7 (m.1 2000 5)) fun m1 => gz_let (msI m1 2000 8 (m1.1 2000 6)) fun m2 => (if (m2.1 2000 5) = (0 : Int32) then ((mf_stands m2).bind fun (_, m5) => some ((m5.1 2000 47), m5)) else (if gz_in (1 : Int32) (6) then (if gz_in (1 : Int32) (6) then gz_let (msI m2 1010 (gz_ix (1 : Int32)) ((m2.1 1010 (gz_ix (1 : Int32))) + (1 : Int32))) fun m9 => some ((-1 : Int32), m9) else none) else none))
theorem wb_X6_household_106 {X : gz_X} {G : gz_G} (hX : gz_C mS X G cX6_household 2 RX6 11 240)   {m : MM} {z : (Int32 × MM)} (h : mj_X6_household_106  m = some z) (hk : (fun z : (Int32 × MM) => gz_kI mS X G 2 (0, 0) cX6_household (mF z.2) z.1) z) : gz_V mS X G 2 (0, 0) (mF m) 106 [(0, .ref (gz_ad G 2000))] [] := by
  unfold mj_X6_household_106 at h
  refine gz_aload_n (pc := 106) hX dX6_household_106 rfl 0 rfl ?_
  refine gz_aload_n (pc := 107) hX dX6_household_107 rfl 0 rfl ?_
  refine mg_5 (pc := 108) hX dX6_household_108 ?_
  obtain ⟨m1, em1, h⟩ := gz_lt h
  refine mp_7 (pc := 111) hX dX6_household_111 em1 ?_
  refine gz_aload_n (pc := 114) hX dX6_household_114 rfl 0 rfl ?_
  refine gz_aload_n (pc := 115) hX dX6_household_115 rfl 0 rfl ?_
  refine mg_6 (pc := 116) hX dX6_household_116 ?_
  obtain ⟨m2, em2, h⟩ := gz_lt h
  refine mp_8 (pc := 119) hX dX6_household_119 em2 ?_
  refine gz_aload_n (pc := 122) hX dX6_household_122 rfl 0 rfl ?_
  refine mg_5 (pc := 123) hX dX6_household_123 ?_
  refine gz_if_eq (pc := 126) (tgt := 141) hX dX6_household_126 (by decide) (fun g3 => ?_) (fun g3 => ?_)
  · replace h := gz_it' g3 h
    refine gz_aload_n (pc := 141) hX dX6_household_141 rfl 0 rfl ?_
    obtain ⟨⟨⟨⟩, m5⟩, c6, h⟩ := gz_bd h
    refine mc_stands (pc := 142) hX c6 ⟨Nat.le_of_ble_eq_true rfl, Nat.le_of_ble_eq_true rfl⟩ (rest := []) rfl (Nat.le_of_ble_eq_true rfl) dX6_household_142 ?_
    refine gz_aload_n (pc := 145) hX dX6_household_145 rfl 0 rfl ?_
    refine mg_47 (pc := 146) hX dX6_household_146 ?_
    obtain rfl := Option.some.inj h
    exact hk _ _ dX6_household_149
  · replace h := gz_if' g3 h
    refine gz_aload_n (pc := 129) hX dX6_household_129 rfl 0 rfl ?_
    refine mg_9 (pc := 130) hX dX6_household_130 ?_
    refine gz_iconst (pc := 133) (v := (1 : Int32)) hX dX6_household_133 (by decide) ?_
    refine gz_dup2_11 (pc := 134) hX dX6_household_134 rfl rfl ?_
    obtain ⟨g7, h⟩ := gz_gu h
    refine mz_iald (pc := 135) (c := 1010) (n := 6) hX rfl rfl g7 dX6_household_135 ?_
    refine gz_iconst (pc := 136) (v := (1 : Int32)) hX dX6_household_136 (by decide) ?_
    refine gz_iadd (pc := 137) hX dX6_household_137 ?_
    obtain ⟨g8, h⟩ := gz_gu h
    obtain ⟨m9, em9, h⟩ := gz_lt h
    refine mz_iast (pc := 138) (c := 1010) (n := 6) hX rfl rfl g8 (Nat.le_of_ble_eq_true rfl) dX6_household_138 em9 ?_
    refine gz_iconst (pc := 139) (v := (-1 : Int32)) hX dX6_household_139 (by decide) ?_
    obtain rfl := Option.some.inj h
    exact hk _ _ dX6_household_140
noncomputable def mb_X6_household_84  (m : MM) : Option ((MM) ⊕ (Int32 × MM)) :=
  (if (m.1 2000 5) = (0 : Int32) then ((mf_look m).bind fun (r2, m3) => (if r2 = (-1 : Int32) then (Option.map Sum.inr (mj_X6_household_106  m3)) else ((mf_statementTold m3).bind fun (_, m7) => some (Sum.inl (m7))))) else (Option.map Sum.inr (mj_X6_household_106  m)))
theorem wb_X6_household_84 {X : gz_X} {G : gz_G} (hX : gz_C mS X G cX6_household 2 RX6 11 240)   {m : MM} {z : ((MM) ⊕ (Int32 × MM))} (h : mb_X6_household_84  m = some z) (hk : (Sum.elim (mP_X6_household_84 X G) (fun z : (Int32 × MM) => gz_kI mS X G 2 (0, 0) cX6_household (mF z.2) z.1)) z) : gz_V mS X G 2 (0, 0) (mF m) 84 [(0, .ref (gz_ad G 2000))] [] := by
  unfold mb_X6_household_84 at h
  refine gz_aload_n (pc := 84) hX dX6_household_84 rfl 0 rfl ?_
  refine mg_5 (pc := 85) hX dX6_household_85 ?_
  refine gz_if_ne (pc := 88) (tgt := 106) hX dX6_household_88 (by decide) (fun g1 => ?_) (fun g1 => ?_)
  · replace h := gz_if' g1 h
    obtain ⟨z0, hm0, rfl⟩ := gz_mp h
    exact wb_X6_household_106 hX hm0 hk
  · replace h := gz_it' g1 h
    refine gz_aload_n (pc := 91) hX dX6_household_91 rfl 0 rfl ?_
    obtain ⟨⟨r2, m3⟩, c4, h⟩ := gz_bd h
    refine mc_look (pc := 92) hX c4 ⟨Nat.le_of_ble_eq_true rfl, Nat.le_of_ble_eq_true rfl⟩ (rest := []) rfl (Nat.le_of_ble_eq_true rfl) dX6_household_92 ?_
    refine gz_iconst (pc := 95) (v := (-1 : Int32)) hX dX6_household_95 (by decide) ?_
    refine gz_icmp_eq (pc := 96) (tgt := 106) hX dX6_household_96 (by decide) (fun g5 => ?_) (fun g5 => ?_)
    · replace h := gz_it' g5 h
      obtain ⟨z0, hm0, rfl⟩ := gz_mp h
      exact wb_X6_household_106 hX hm0 hk
    · replace h := gz_if' g5 h
      refine gz_aload_n (pc := 99) hX dX6_household_99 rfl 0 rfl ?_
      obtain ⟨⟨⟨⟩, m7⟩, c8, h⟩ := gz_bd h
      refine mc_statementTold (pc := 100) hX c8 ⟨Nat.le_of_ble_eq_true rfl, Nat.le_of_ble_eq_true rfl⟩ (rest := []) rfl (Nat.le_of_ble_eq_true rfl) dX6_household_100 ?_
      refine gz_goto (pc := 103) (tgt := 84) hX dX6_household_103 (by decide) ?_
      obtain rfl := Option.some.inj h
      exact hk
noncomputable def ml_X6_household_84  (m : MM) : Option (Int32 × MM) := gz_loop (fun q : (MM) => mb_X6_household_84  q) (m)
theorem wl_X6_household_84 {X : gz_X} {G : gz_G} (hX : gz_C mS X G cX6_household 2 RX6 11 240)   {m : MM} {z : (Int32 × MM)} (h : ml_X6_household_84  m = some z) (hk : (fun z : (Int32 × MM) => gz_kI mS X G 2 (0, 0) cX6_household (mF z.2) z.1) z) : gz_V mS X G 2 (0, 0) (mF m) 84 [(0, .ref (gz_ad G 2000))] [] := by
  have hp : mP_X6_household_84 X G (m) := gz_loop_ind (fun q z hz hkz => wb_X6_household_84 hX  hz hkz) h hk
  exact hp
noncomputable def mb_X6_household_61 (x1 : Int32) (m : MM) : Option ((Int32 × MM) ⊕ (Int32 × MM)) :=
  (if (2 : Int32) ≤ x1 then gz_let (msI m 2000 47 (0 : Int32)) fun m2 => (Option.map Sum.inr (ml_X6_household_84  m2)) else (if gz_in x1 (4) then gz_let (msI m 1044 (gz_ix x1) (-1 : Int32)) fun m4 => gz_let (x1 + (1 : Int32)) fun y5 => some (Sum.inl (y5, m4)) else none))
theorem wb_X6_household_61 {X : gz_X} {G : gz_G} (hX : gz_C mS X G cX6_household 2 RX6 11 240) {x1 : Int32}  {m : MM} {z : ((Int32 × MM) ⊕ (Int32 × MM))} (h : mb_X6_household_61 x1 m = some z) (hk : (Sum.elim (mP_X6_household_61 X G) (fun z : (Int32 × MM) => gz_kI mS X G 2 (0, 0) cX6_household (mF z.2) z.1)) z) : gz_V mS X G 2 (0, 0) (mF m) 61 [(0, .ref (gz_ad G 2000)), (1, .int x1)] [] := by
  unfold mb_X6_household_61 at h
  refine gz_iload_n (pc := 61) hX dX6_household_61 rfl 1 rfl ?_
  refine gz_iconst (pc := 62) (v := (2 : Int32)) hX dX6_household_62 (by decide) ?_
  refine gz_icmp_ge (pc := 63) (tgt := 79) hX dX6_household_63 (by decide) (fun g1 => ?_) (fun g1 => ?_)
  · replace h := gz_it' g1 h
    refine gz_aload_n (pc := 79) hX dX6_household_79 rfl 0 rfl ?_
    refine gz_iconst (pc := 80) (v := (0 : Int32)) hX dX6_household_80 (by decide) ?_
    obtain ⟨m2, em2, h⟩ := gz_lt h
    refine mp_47 (pc := 81) hX dX6_household_81 em2 ?_
    refine gz_sub (lw := [(0, .ref (gz_ad G 2000))]) [0] rfl ?_
    obtain ⟨z0, hm0, rfl⟩ := gz_mp h
    exact wl_X6_household_84 hX hm0 hk
  · replace h := gz_if' g1 h
    refine gz_aload_n (pc := 66) hX dX6_household_66 rfl 0 rfl ?_
    refine mg_43 (pc := 67) hX dX6_household_67 ?_
    refine gz_iload_n (pc := 70) hX dX6_household_70 rfl 1 rfl ?_
    refine gz_iconst (pc := 71) (v := (-1 : Int32)) hX dX6_household_71 (by decide) ?_
    obtain ⟨g3, h⟩ := gz_gu h
    obtain ⟨m4, em4, h⟩ := gz_lt h
    refine mz_iast (pc := 72) (c := 1044) (n := 4) hX rfl rfl g3 (Nat.le_of_ble_eq_true rfl) dX6_household_72 em4 ?_
    obtain ⟨y5, ey5, h⟩ := gz_lt h
    refine gz_iinc (pc := 73) (v := y5) (lw := [(1, .int y5), (0, .ref (gz_ad G 2000))]) hX dX6_household_73 (k := 1) rfl (by rw [ey5]; rfl) (by decide) rfl ?_
    refine gz_goto (pc := 76) (tgt := 61) hX dX6_household_76 (by decide) ?_
    refine gz_sub (lw := [(0, .ref (gz_ad G 2000)), (1, .int y5)]) [1, 0] rfl ?_
    obtain rfl := Option.some.inj h
    exact hk
noncomputable def ml_X6_household_61 (x1 : Int32) (m : MM) : Option (Int32 × MM) := gz_loop (fun q : (Int32 × MM) => mb_X6_household_61 q.1 q.2) (x1, m)
theorem wl_X6_household_61 {X : gz_X} {G : gz_G} (hX : gz_C mS X G cX6_household 2 RX6 11 240) {x1 : Int32}  {m : MM} {z : (Int32 × MM)} (h : ml_X6_household_61 x1 m = some z) (hk : (fun z : (Int32 × MM) => gz_kI mS X G 2 (0, 0) cX6_household (mF z.2) z.1) z) : gz_V mS X G 2 (0, 0) (mF m) 61 [(0, .ref (gz_ad G 2000)), (1, .int x1)] [] := by
  have hp : mP_X6_household_61 X G (x1, m) := gz_loop_ind (fun q z hz hkz => wb_X6_household_61 hX  hz hkz) h hk
  exact hp
noncomputable def mb_X6_household_40 (x1 : Int32) (m : MM) : Option ((Int32 × MM) ⊕ (Int32 × MM)) :=
  (if (6 : Int32) ≤ x1 then (Option.map Sum.inr (ml_X6_household_61 (0 : Int32) m)) else (if gz_in x1 (12) then gz_let (msI m 1038 (gz_ix x1) (0 : Int32)) fun m3 => gz_let (x1 + (1 : Int32)) fun y4 => some (Sum.inl (y4, m3)) else none))
theorem wb_X6_household_40 {X : gz_X} {G : gz_G} (hX : gz_C mS X G cX6_household 2 RX6 11 240) {x1 : Int32}  {m : MM} {z : ((Int32 × MM) ⊕ (Int32 × MM))} (h : mb_X6_household_40 x1 m = some z) (hk : (Sum.elim (mP_X6_household_40 X G) (fun z : (Int32 × MM) => gz_kI mS X G 2 (0, 0) cX6_household (mF z.2) z.1)) z) : gz_V mS X G 2 (0, 0) (mF m) 40 [(0, .ref (gz_ad G 2000)), (1, .int x1)] [] := by
  unfold mb_X6_household_40 at h
  refine gz_iload_n (pc := 40) hX dX6_household_40 rfl 1 rfl ?_
  refine gz_bipush (pc := 41) (v := (6 : Int32)) hX dX6_household_41 (by decide) ?_
  refine gz_icmp_ge (pc := 43) (tgt := 59) hX dX6_household_43 (by decide) (fun g1 => ?_) (fun g1 => ?_)
  · replace h := gz_it' g1 h
    refine gz_iconst (pc := 59) (v := (0 : Int32)) hX dX6_household_59 (by decide) ?_
    refine gz_istore_n (pc := 60) (lw := [(1, .int (0 : Int32)), (0, .ref (gz_ad G 2000))]) hX dX6_household_60 rfl (by decide) rfl ?_
    refine gz_sub (lw := [(0, .ref (gz_ad G 2000)), (1, .int (0 : Int32))]) [1, 0] rfl ?_
    obtain ⟨z0, hm0, rfl⟩ := gz_mp h
    exact wl_X6_household_61 hX hm0 hk
  · replace h := gz_if' g1 h
    refine gz_aload_n (pc := 46) hX dX6_household_46 rfl 0 rfl ?_
    refine mg_37 (pc := 47) hX dX6_household_47 ?_
    refine gz_iload_n (pc := 50) hX dX6_household_50 rfl 1 rfl ?_
    refine gz_iconst (pc := 51) (v := (0 : Int32)) hX dX6_household_51 (by decide) ?_
    obtain ⟨g2, h⟩ := gz_gu h
    obtain ⟨m3, em3, h⟩ := gz_lt h
    refine mz_iast (pc := 52) (c := 1038) (n := 12) hX rfl rfl g2 (Nat.le_of_ble_eq_true rfl) dX6_household_52 em3 ?_
    obtain ⟨y4, ey4, h⟩ := gz_lt h
    refine gz_iinc (pc := 53) (v := y4) (lw := [(1, .int y4), (0, .ref (gz_ad G 2000))]) hX dX6_household_53 (k := 1) rfl (by rw [ey4]; rfl) (by decide) rfl ?_
    refine gz_goto (pc := 56) (tgt := 40) hX dX6_household_56 (by decide) ?_
    refine gz_sub (lw := [(0, .ref (gz_ad G 2000)), (1, .int y4)]) [1, 0] rfl ?_
    obtain rfl := Option.some.inj h
    exact hk
noncomputable def ml_X6_household_40 (x1 : Int32) (m : MM) : Option (Int32 × MM) := gz_loop (fun q : (Int32 × MM) => mb_X6_household_40 q.1 q.2) (x1, m)
theorem wl_X6_household_40 {X : gz_X} {G : gz_G} (hX : gz_C mS X G cX6_household 2 RX6 11 240) {x1 : Int32}  {m : MM} {z : (Int32 × MM)} (h : ml_X6_household_40 x1 m = some z) (hk : (fun z : (Int32 × MM) => gz_kI mS X G 2 (0, 0) cX6_household (mF z.2) z.1) z) : gz_V mS X G 2 (0, 0) (mF m) 40 [(0, .ref (gz_ad G 2000)), (1, .int x1)] [] := by
  have hp : mP_X6_household_40 X G (x1, m) := gz_loop_ind (fun q z hz hkz => wb_X6_household_40 hX  hz hkz) h hk
  exact hp
noncomputable def mf_household  (m : MM) : Option (Int32 × MM) :=
  gz_let (msI m 2000 3 (m.1 2000 1)) fun m1 => gz_let (msI m1 2000 1 (0 : Int32)) fun m2 => gz_let (msI m2 2000 2 (0 : Int32)) fun m3 => gz_let (msI m3 2000 4 (-1 : Int32)) fun m4 => gz_let (msI m4 2000 5 (0 : Int32)) fun m5 => gz_let (msI m5 2000 6 (-1 : Int32)) fun m6 => gz_let (msI m6 2000 46 (0 : Int32)) fun m7 => (ml_X6_household_40 (0 : Int32) m7)
theorem wm_household {X : gz_X} {G : gz_G} (hX : gz_C mS X G cX6_household 2 RX6 11 240)   {m : MM} {z : (Int32 × MM)} (h : mf_household  m = some z) (hk : (fun z : (Int32 × MM) => gz_kI mS X G 2 (0, 0) cX6_household (mF z.2) z.1) z) : gz_V mS X G 2 (0, 0) (mF m) 0 [(0, .ref (gz_ad G 2000))] [] := by
  unfold mf_household at h
  refine gz_aload_n (pc := 0) hX dX6_household_0 rfl 0 rfl ?_
  refine gz_aload_n (pc := 1) hX dX6_household_1 rfl 0 rfl ?_
  refine mg_1 (pc := 2) hX dX6_household_2 ?_
  obtain ⟨m1, em1, h⟩ := gz_lt h
  refine mp_3 (pc := 5) hX dX6_household_5 em1 ?_
  refine gz_aload_n (pc := 8) hX dX6_household_8 rfl 0 rfl ?_
  refine gz_iconst (pc := 9) (v := (0 : Int32)) hX dX6_household_9 (by decide) ?_
  obtain ⟨m2, em2, h⟩ := gz_lt h
  refine mp_1 (pc := 10) hX dX6_household_10 em2 ?_
  refine gz_aload_n (pc := 13) hX dX6_household_13 rfl 0 rfl ?_
  refine gz_iconst (pc := 14) (v := (0 : Int32)) hX dX6_household_14 (by decide) ?_
  obtain ⟨m3, em3, h⟩ := gz_lt h
  refine mp_2 (pc := 15) hX dX6_household_15 em3 ?_
  refine gz_aload_n (pc := 18) hX dX6_household_18 rfl 0 rfl ?_
  refine gz_iconst (pc := 19) (v := (-1 : Int32)) hX dX6_household_19 (by decide) ?_
  obtain ⟨m4, em4, h⟩ := gz_lt h
  refine mp_4 (pc := 20) hX dX6_household_20 em4 ?_
  refine gz_aload_n (pc := 23) hX dX6_household_23 rfl 0 rfl ?_
  refine gz_iconst (pc := 24) (v := (0 : Int32)) hX dX6_household_24 (by decide) ?_
  obtain ⟨m5, em5, h⟩ := gz_lt h
  refine mp_5 (pc := 25) hX dX6_household_25 em5 ?_
  refine gz_aload_n (pc := 28) hX dX6_household_28 rfl 0 rfl ?_
  refine gz_iconst (pc := 29) (v := (-1 : Int32)) hX dX6_household_29 (by decide) ?_
  obtain ⟨m6, em6, h⟩ := gz_lt h
  refine mp_6 (pc := 30) hX dX6_household_30 em6 ?_
  refine gz_aload_n (pc := 33) hX dX6_household_33 rfl 0 rfl ?_
  refine gz_iconst (pc := 34) (v := (0 : Int32)) hX dX6_household_34 (by decide) ?_
  obtain ⟨m7, em7, h⟩ := gz_lt h
  refine mp_46 (pc := 35) hX dX6_household_35 em7 ?_
  refine gz_iconst (pc := 38) (v := (0 : Int32)) hX dX6_household_38 (by decide) ?_
  refine gz_istore_n (pc := 39) (lw := [(1, .int (0 : Int32)), (0, .ref (gz_ad G 2000))]) hX dX6_household_39 rfl (by decide) rfl ?_
  refine gz_sub (lw := [(0, .ref (gz_ad G 2000)), (1, .int (0 : Int32))]) [1, 0] rfl ?_
  exact wl_X6_household_40 hX h hk
theorem mt_household {G : gz_G} {l : Launch}   {m m9 : MM} {r : Int32} (h : mf_household  m = some (r, m9)) : gz_Met mS G l yX6_household cX6_household 2 (some .int) (mRm 11 240) [.ref (gz_ad G 2000)] (mF m) (mF m9) (some (.int r)) :=
  gz_ofI (plainFor_of_name mz_plain) (Nat.le_of_ble_eq_true rfl) fun X _ hX hk => wm_household hX h hk
/-! fault(I)I -/
noncomputable def mf_fault (x1 : Int32) (m : MM) : Option (Int32 × MM) :=
  (if x1 = (0 : Int32) then some ((m.1 2000 7), m) else (if x1 = (1 : Int32) then some ((m.1 2000 8), m) else some ((-1 : Int32), m)))
theorem wm_fault {X : gz_X} {G : gz_G} (hX : gz_C mS X G cX6_fault 2 RX6 0 0) {x1 : Int32}  {m : MM} {z : (Int32 × MM)} (h : mf_fault x1 m = some z) (hk : (fun z : (Int32 × MM) => gz_kI mS X G 2 (0, 0) cX6_fault (mF z.2) z.1) z) : gz_V mS X G 2 (0, 0) (mF m) 0 [(0, .ref (gz_ad G 2000)), (1, .int x1)] [] := by
  unfold mf_fault at h
  refine gz_iload_n (pc := 0) hX dX6_fault_0 rfl 1 rfl ?_
  refine gz_if_ne (pc := 1) (tgt := 11) hX dX6_fault_1 (by decide) (fun g1 => ?_) (fun g1 => ?_)
  · replace h := gz_if' g1 h
    refine gz_iload_n (pc := 11) hX dX6_fault_11 rfl 1 rfl ?_
    refine gz_iconst (pc := 12) (v := (1 : Int32)) hX dX6_fault_12 (by decide) ?_
    refine gz_icmp_ne (pc := 13) (tgt := 23) hX dX6_fault_13 (by decide) (fun g2 => ?_) (fun g2 => ?_)
    · replace h := gz_if' g2 h
      refine gz_iconst (pc := 23) (v := (-1 : Int32)) hX dX6_fault_23 (by decide) ?_
      obtain rfl := Option.some.inj h
      exact hk _ _ dX6_fault_24
    · replace h := gz_it' g2 h
      refine gz_aload_n (pc := 16) hX dX6_fault_16 rfl 0 rfl ?_
      refine mg_8 (pc := 17) hX dX6_fault_17 ?_
      refine gz_goto (pc := 20) (tgt := 24) hX dX6_fault_20 (by decide) ?_
      obtain rfl := Option.some.inj h
      exact hk _ _ dX6_fault_24
  · replace h := gz_it' g1 h
    refine gz_aload_n (pc := 4) hX dX6_fault_4 rfl 0 rfl ?_
    refine mg_7 (pc := 5) hX dX6_fault_5 ?_
    refine gz_goto (pc := 8) (tgt := 24) hX dX6_fault_8 (by decide) ?_
    obtain rfl := Option.some.inj h
    exact hk _ _ dX6_fault_24
theorem mt_fault {G : gz_G} {l : Launch} {x1 : Int32}  {m m9 : MM} {r : Int32} (h : mf_fault x1 m = some (r, m9)) : gz_Met mS G l yX6_fault cX6_fault 2 (some .int) (mRm 0 0) [.ref (gz_ad G 2000), .int x1] (mF m) (mF m9) (some (.int r)) :=
  gz_ofI (plainFor_of_name mz_plain) (Nat.le_of_ble_eq_true rfl) fun X _ hX hk => wm_fault hX h hk
/-! hallMany()I -/
noncomputable def mf_hallMany  (m : MM) : Option (Int32 × MM) :=
  (if gz_in (6 : Int32) (12) then some ((m.1 1038 (gz_ix (6 : Int32))), m) else none)
theorem wm_hallMany {X : gz_X} {G : gz_G} (hX : gz_C mS X G cX6_hallMany 1 RX6 0 0)   {m : MM} {z : (Int32 × MM)} (h : mf_hallMany  m = some z) (hk : (fun z : (Int32 × MM) => gz_kI mS X G 1 (0, 0) cX6_hallMany (mF z.2) z.1) z) : gz_V mS X G 1 (0, 0) (mF m) 0 [(0, .ref (gz_ad G 2000))] [] := by
  unfold mf_hallMany at h
  refine gz_aload_n (pc := 0) hX dX6_hallMany_0 rfl 0 rfl ?_
  refine mg_37 (pc := 1) hX dX6_hallMany_1 ?_
  refine gz_bipush (pc := 4) (v := (6 : Int32)) hX dX6_hallMany_4 (by decide) ?_
  obtain ⟨g1, h⟩ := gz_gu h
  refine mz_iald (pc := 6) (c := 1038) (n := 12) hX rfl rfl g1 dX6_hallMany_6 ?_
  obtain rfl := Option.some.inj h
  exact hk _ _ dX6_hallMany_7
theorem mt_hallMany {G : gz_G} {l : Launch}   {m m9 : MM} {r : Int32} (h : mf_hallMany  m = some (r, m9)) : gz_Met mS G l yX6_hallMany cX6_hallMany 1 (some .int) (mRm 0 0) [.ref (gz_ad G 2000)] (mF m) (mF m9) (some (.int r)) :=
  gz_ofI (plainFor_of_name mz_plain) (Nat.le_of_ble_eq_true rfl) fun X _ hX hk => wm_hallMany hX h hk
theorem mc_hallMany {X : gz_X} {G : gz_G} {cc : ByteArray} {nL fr lo pc : Nat} {lv : List (Nat × Value)} {rest st0 : List Value} (hX : gz_C mS X G cc nL RX6 fr lo)   {m m9 : MM} {r : Int32} (h : mf_hallMany  m = some (r, m9)) (hroom : 0 + 1 ≤ fr ∧ 8 + (1 + 11) + 0 ≤ lo) (hst : st0 = [.ref (gz_ad G 2000)] ++ rest) (hW : (rest.map fun v => v.category).sum ≤ 8) (hd : decode cc pc = .ok (.invokevirtual 403, 3)) (kk : gz_V mS X G nL (0, 0) (mF m9) (pc + 3) lv (.int r :: rest)) : gz_V mS X G nL (0, 0) (mF m) pc lv st0 :=
  gz_callV hX mz_E (As := []) (rest := rest) (q := (RX6, TX6, 104)) (ci := 0) (c := 2000) (mt_hallMany (l := X.2.1) h) (lw_V q2286 q2288 qs110 q182 q2289) (n := 0) (by decide +kernel) hroom rfl rfl (by decide) rfl hst hW hd (rem := (0, 0)) kk
/-! thingMany()I -/
noncomputable def mf_thingMany  (m : MM) : Option (Int32 × MM) :=
  (if gz_in (7 : Int32) (12) then some ((m.1 1038 (gz_ix (7 : Int32))), m) else none)
theorem wm_thingMany {X : gz_X} {G : gz_G} (hX : gz_C mS X G cX6_thingMany 1 RX6 0 0)   {m : MM} {z : (Int32 × MM)} (h : mf_thingMany  m = some z) (hk : (fun z : (Int32 × MM) => gz_kI mS X G 1 (0, 0) cX6_thingMany (mF z.2) z.1) z) : gz_V mS X G 1 (0, 0) (mF m) 0 [(0, .ref (gz_ad G 2000))] [] := by
  unfold mf_thingMany at h
  refine gz_aload_n (pc := 0) hX dX6_thingMany_0 rfl 0 rfl ?_
  refine mg_37 (pc := 1) hX dX6_thingMany_1 ?_
  refine gz_bipush (pc := 4) (v := (7 : Int32)) hX dX6_thingMany_4 (by decide) ?_
  obtain ⟨g1, h⟩ := gz_gu h
  refine mz_iald (pc := 6) (c := 1038) (n := 12) hX rfl rfl g1 dX6_thingMany_6 ?_
  obtain rfl := Option.some.inj h
  exact hk _ _ dX6_thingMany_7
theorem mt_thingMany {G : gz_G} {l : Launch}   {m m9 : MM} {r : Int32} (h : mf_thingMany  m = some (r, m9)) : gz_Met mS G l yX6_thingMany cX6_thingMany 1 (some .int) (mRm 0 0) [.ref (gz_ad G 2000)] (mF m) (mF m9) (some (.int r)) :=
  gz_ofI (plainFor_of_name mz_plain) (Nat.le_of_ble_eq_true rfl) fun X _ hX hk => wm_thingMany hX h hk
theorem mc_thingMany {X : gz_X} {G : gz_G} {cc : ByteArray} {nL fr lo pc : Nat} {lv : List (Nat × Value)} {rest st0 : List Value} (hX : gz_C mS X G cc nL RX6 fr lo)   {m m9 : MM} {r : Int32} (h : mf_thingMany  m = some (r, m9)) (hroom : 0 + 1 ≤ fr ∧ 8 + (1 + 11) + 0 ≤ lo) (hst : st0 = [.ref (gz_ad G 2000)] ++ rest) (hW : (rest.map fun v => v.category).sum ≤ 8) (hd : decode cc pc = .ok (.invokevirtual 406, 3)) (kk : gz_V mS X G nL (0, 0) (mF m9) (pc + 3) lv (.int r :: rest)) : gz_V mS X G nL (0, 0) (mF m) pc lv st0 :=
  gz_callV hX mz_E (As := []) (rest := rest) (q := (RX6, TX6, 104)) (ci := 0) (c := 2000) (mt_thingMany (l := X.2.1) h) (lw_V q2290 q2292 qs111 q182 q2293) (n := 0) (by decide +kernel) hroom rfl rfl (by decide) rfl hst hW hd (rem := (0, 0)) kk
/-! tieMany()I -/
noncomputable def mf_tieMany  (m : MM) : Option (Int32 × MM) :=
  (if gz_in (9 : Int32) (12) then some ((m.1 1038 (gz_ix (9 : Int32))), m) else none)
theorem wm_tieMany {X : gz_X} {G : gz_G} (hX : gz_C mS X G cX6_tieMany 1 RX6 0 0)   {m : MM} {z : (Int32 × MM)} (h : mf_tieMany  m = some z) (hk : (fun z : (Int32 × MM) => gz_kI mS X G 1 (0, 0) cX6_tieMany (mF z.2) z.1) z) : gz_V mS X G 1 (0, 0) (mF m) 0 [(0, .ref (gz_ad G 2000))] [] := by
  unfold mf_tieMany at h
  refine gz_aload_n (pc := 0) hX dX6_tieMany_0 rfl 0 rfl ?_
  refine mg_37 (pc := 1) hX dX6_tieMany_1 ?_
  refine gz_bipush (pc := 4) (v := (9 : Int32)) hX dX6_tieMany_4 (by decide) ?_
  obtain ⟨g1, h⟩ := gz_gu h
  refine mz_iald (pc := 6) (c := 1038) (n := 12) hX rfl rfl g1 dX6_tieMany_6 ?_
  obtain rfl := Option.some.inj h
  exact hk _ _ dX6_tieMany_7
theorem mt_tieMany {G : gz_G} {l : Launch}   {m m9 : MM} {r : Int32} (h : mf_tieMany  m = some (r, m9)) : gz_Met mS G l yX6_tieMany cX6_tieMany 1 (some .int) (mRm 0 0) [.ref (gz_ad G 2000)] (mF m) (mF m9) (some (.int r)) :=
  gz_ofI (plainFor_of_name mz_plain) (Nat.le_of_ble_eq_true rfl) fun X _ hX hk => wm_tieMany hX h hk
theorem mc_tieMany {X : gz_X} {G : gz_G} {cc : ByteArray} {nL fr lo pc : Nat} {lv : List (Nat × Value)} {rest st0 : List Value} (hX : gz_C mS X G cc nL RX6 fr lo)   {m m9 : MM} {r : Int32} (h : mf_tieMany  m = some (r, m9)) (hroom : 0 + 1 ≤ fr ∧ 8 + (1 + 11) + 0 ≤ lo) (hst : st0 = [.ref (gz_ad G 2000)] ++ rest) (hW : (rest.map fun v => v.category).sum ≤ 8) (hd : decode cc pc = .ok (.invokevirtual 422, 3)) (kk : gz_V mS X G nL (0, 0) (mF m9) (pc + 3) lv (.int r :: rest)) : gz_V mS X G nL (0, 0) (mF m) pc lv st0 :=
  gz_callV hX mz_E (As := []) (rest := rest) (q := (RX6, TX6, 104)) (ci := 0) (c := 2000) (mt_tieMany (l := X.2.1) h) (lw_V q2294 q2296 qs112 q182 q2297) (n := 0) (by decide +kernel) hroom rfl rfl (by decide) rfl hst hW hd (rem := (0, 0)) kk
/-! strengthOf(I)I -/
noncomputable def mf_strengthOf (x1 : Int32) (m : MM) : Option (Int32 × MM) :=
  (if gz_in ((14 : Int32) + ((2 : Int32) * x1)) (151) then some ((m.1 1051 (gz_ix ((14 : Int32) + ((2 : Int32) * x1)))), m) else none)
theorem wm_strengthOf {X : gz_X} {G : gz_G} (hX : gz_C mS X G cX6_strengthOf 2 RX6 0 0) {x1 : Int32}  {m : MM} {z : (Int32 × MM)} (h : mf_strengthOf x1 m = some z) (hk : (fun z : (Int32 × MM) => gz_kI mS X G 2 (0, 0) cX6_strengthOf (mF z.2) z.1) z) : gz_V mS X G 2 (0, 0) (mF m) 0 [(0, .ref (gz_ad G 2000)), (1, .int x1)] [] := by
  unfold mf_strengthOf at h
  refine gz_aload_n (pc := 0) hX dX6_strengthOf_0 rfl 0 rfl ?_
  refine mg_50 (pc := 1) hX dX6_strengthOf_1 ?_
  refine gz_bipush (pc := 4) (v := (14 : Int32)) hX dX6_strengthOf_4 (by decide) ?_
  refine gz_iconst (pc := 6) (v := (2 : Int32)) hX dX6_strengthOf_6 (by decide) ?_
  refine gz_iload_n (pc := 7) hX dX6_strengthOf_7 rfl 1 rfl ?_
  refine gz_imul (pc := 8) hX dX6_strengthOf_8 ?_
  refine gz_iadd (pc := 9) hX dX6_strengthOf_9 ?_
  obtain ⟨g1, h⟩ := gz_gu h
  refine mz_iald (pc := 10) (c := 1051) (n := 151) hX rfl rfl g1 dX6_strengthOf_10 ?_
  obtain rfl := Option.some.inj h
  exact hk _ _ dX6_strengthOf_11
theorem mt_strengthOf {G : gz_G} {l : Launch} {x1 : Int32}  {m m9 : MM} {r : Int32} (h : mf_strengthOf x1 m = some (r, m9)) : gz_Met mS G l yX6_strengthOf cX6_strengthOf 2 (some .int) (mRm 0 0) [.ref (gz_ad G 2000), .int x1] (mF m) (mF m9) (some (.int r)) :=
  gz_ofI (plainFor_of_name mz_plain) (Nat.le_of_ble_eq_true rfl) fun X _ hX hk => wm_strengthOf hX h hk
theorem mc_strengthOf {X : gz_X} {G : gz_G} {cc : ByteArray} {nL fr lo pc : Nat} {lv : List (Nat × Value)} {rest st0 : List Value} (hX : gz_C mS X G cc nL RX6 fr lo) {x1 : Int32}  {m m9 : MM} {r : Int32} (h : mf_strengthOf x1 m = some (r, m9)) (hroom : 0 + 1 ≤ fr ∧ 8 + (2 + 11) + 0 ≤ lo) (hst : st0 = [.int x1, .ref (gz_ad G 2000)] ++ rest) (hW : (rest.map fun v => v.category).sum ≤ 8) (hd : decode cc pc = .ok (.invokevirtual 412, 3)) (kk : gz_V mS X G nL (0, 0) (mF m9) (pc + 3) lv (.int r :: rest)) : gz_V mS X G nL (0, 0) (mF m) pc lv st0 :=
  gz_callV hX mz_E (As := [.int x1]) (rest := rest) (q := (RX6, TX6, 104)) (ci := 0) (c := 2000) (mt_strengthOf (l := X.2.1) h) (lw_V q2306 q2308 qs115 q182 q2309) (n := 1) (by decide +kernel) hroom rfl rfl (by decide) rfl hst hW hd (rem := (0, 0)) kk
/-! doesBurn(I)Z -/
noncomputable def mf_doesBurn (x1 : Int32) (m : MM) : Option (Int32 × MM) :=
  ((mf_strengthOf x1 m).bind fun (r1, m2) => (if r1 ≤ (0 : Int32) then some ((0 : Int32), m2) else some ((1 : Int32), m2)))
theorem wm_doesBurn {X : gz_X} {G : gz_G} (hX : gz_C mS X G cX6_doesBurn 2 RX6 1 21) {x1 : Int32}  {m : MM} {z : (Int32 × MM)} (h : mf_doesBurn x1 m = some z) (hk : (fun z : (Int32 × MM) => gz_kZ mS X G 2 (0, 0) cX6_doesBurn (mF z.2) z.1) z) : gz_V mS X G 2 (0, 0) (mF m) 0 [(0, .ref (gz_ad G 2000)), (1, .int x1)] [] := by
  unfold mf_doesBurn at h
  refine gz_aload_n (pc := 0) hX dX6_doesBurn_0 rfl 0 rfl ?_
  refine gz_iload_n (pc := 1) hX dX6_doesBurn_1 rfl 1 rfl ?_
  obtain ⟨⟨r1, m2⟩, c3, h⟩ := gz_bd h
  refine mc_strengthOf (pc := 2) hX c3 ⟨Nat.le_of_ble_eq_true rfl, Nat.le_of_ble_eq_true rfl⟩ (rest := []) rfl (Nat.le_of_ble_eq_true rfl) dX6_doesBurn_2 ?_
  refine gz_if_le (pc := 5) (tgt := 12) hX dX6_doesBurn_5 (by decide) (fun g4 => ?_) (fun g4 => ?_)
  · replace h := gz_it' g4 h
    refine gz_iconst (pc := 12) (v := (0 : Int32)) hX dX6_doesBurn_12 (by decide) ?_
    obtain rfl := Option.some.inj h
    exact hk _ _ dX6_doesBurn_13 (Or.inl rfl)
  · replace h := gz_if' g4 h
    refine gz_iconst (pc := 8) (v := (1 : Int32)) hX dX6_doesBurn_8 (by decide) ?_
    refine gz_goto (pc := 9) (tgt := 13) hX dX6_doesBurn_9 (by decide) ?_
    obtain rfl := Option.some.inj h
    exact hk _ _ dX6_doesBurn_13 (Or.inr rfl)
theorem mt_doesBurn {G : gz_G} {l : Launch} {x1 : Int32}  {m m9 : MM} {r : Int32} (h : mf_doesBurn x1 m = some (r, m9)) : gz_Met mS G l yX6_doesBurn cX6_doesBurn 2 (some .boolean) (mRm 1 21) [.ref (gz_ad G 2000), .int x1] (mF m) (mF m9) (some (.int r)) :=
  gz_ofZ (plainFor_of_name mz_plain) (Nat.le_of_ble_eq_true rfl) fun X _ hX hk => wm_doesBurn hX h hk
theorem mc_doesBurn {X : gz_X} {G : gz_G} {cc : ByteArray} {nL fr lo pc : Nat} {lv : List (Nat × Value)} {rest st0 : List Value} (hX : gz_C mS X G cc nL RX6 fr lo) {x1 : Int32}  {m m9 : MM} {r : Int32} (h : mf_doesBurn x1 m = some (r, m9)) (hroom : 1 + 1 ≤ fr ∧ 8 + (2 + 11) + 21 ≤ lo) (hst : st0 = [.int x1, .ref (gz_ad G 2000)] ++ rest) (hW : (rest.map fun v => v.category).sum ≤ 8) (hd : decode cc pc = .ok (.invokevirtual 416, 3)) (kk : gz_V mS X G nL (0, 0) (mF m9) (pc + 3) lv (.int r :: rest)) : gz_V mS X G nL (0, 0) (mF m) pc lv st0 :=
  gz_callV hX mz_E (As := [.int x1]) (rest := rest) (q := (RX6, TX6, 104)) (ci := 0) (c := 2000) (mt_doesBurn (l := X.2.1) h) (lw_V q2302 q2304 qs114 q182 q2305) (n := 1) (by decide +kernel) hroom rfl rfl (by decide) rfl hst hW hd (rem := (0, 0)) kk
/-! burningSet()I -/
def mP_X6_burningSet_4 (X : gz_X) (G : gz_G) (q : (Int32 × Int32 × MM)) : Prop := gz_V mS X G 3 (0, 0) (mF q.2.2) 4 [(0, .ref (gz_ad G 2000)), (1, .int q.1), (2, .int q.2.1)] []
noncomputable def mj_X6_burningSet_26 (x1 : Int32) (x2 : Int32) (m : MM) : Option ((Int32 × Int32 × MM) ⊕ (Int32 × MM)) :=
  gz_let (x2 + (1 : Int32)) fun y1 => some (Sum.inl (x1, y1, m))
theorem wb_X6_burningSet_26 {X : gz_X} {G : gz_G} (hX : gz_C mS X G cX6_burningSet 3 RX6 2 42) {x1 : Int32} {x2 : Int32}  {m : MM} {z : ((Int32 × Int32 × MM) ⊕ (Int32 × MM))} (h : mj_X6_burningSet_26 x1 x2 m = some z) (hk : (Sum.elim (mP_X6_burningSet_4 X G) (fun z : (Int32 × MM) => gz_kI mS X G 3 (0, 0) cX6_burningSet (mF z.2) z.1)) z) : gz_V mS X G 3 (0, 0) (mF m) 26 [(0, .ref (gz_ad G 2000)), (1, .int x1), (2, .int x2)] [] := by
  unfold mj_X6_burningSet_26 at h
  obtain ⟨y1, ey1, h⟩ := gz_lt h
  refine gz_iinc (pc := 26) (v := y1) (lw := [(2, .int y1), (0, .ref (gz_ad G 2000)), (1, .int x1)]) hX dX6_burningSet_26 (k := 2) rfl (by rw [ey1]; rfl) (by decide) rfl ?_
  refine gz_goto (pc := 29) (tgt := 4) hX dX6_burningSet_29 (by decide) ?_
  refine gz_sub (lw := [(0, .ref (gz_ad G 2000)), (1, .int x1), (2, .int y1)]) [1, 2, 0] rfl ?_
  obtain rfl := Option.some.inj h
  exact hk
noncomputable def mb_X6_burningSet_4 (x1 : Int32) (x2 : Int32) (m : MM) : Option ((Int32 × Int32 × MM) ⊕ (Int32 × MM)) :=
  ((mf_thingMany m).bind fun (r1, m2) => (if r1 ≤ x2 then some (Sum.inr (x1, m2)) else ((mf_doesBurn x2 m2).bind fun (r5, m6) => (if r5 = (0 : Int32) then (mj_X6_burningSet_26 x1 x2 m6) else gz_let ((x1 ||| ((1 : Int32) <<< (x2 &&& 31)))) fun y9 => (mj_X6_burningSet_26 y9 x2 m6)))))
theorem wb_X6_burningSet_4 {X : gz_X} {G : gz_G} (hX : gz_C mS X G cX6_burningSet 3 RX6 2 42) {x1 : Int32} {x2 : Int32}  {m : MM} {z : ((Int32 × Int32 × MM) ⊕ (Int32 × MM))} (h : mb_X6_burningSet_4 x1 x2 m = some z) (hk : (Sum.elim (mP_X6_burningSet_4 X G) (fun z : (Int32 × MM) => gz_kI mS X G 3 (0, 0) cX6_burningSet (mF z.2) z.1)) z) : gz_V mS X G 3 (0, 0) (mF m) 4 [(0, .ref (gz_ad G 2000)), (1, .int x1), (2, .int x2)] [] := by
  unfold mb_X6_burningSet_4 at h
  refine gz_iload_n (pc := 4) hX dX6_burningSet_4 rfl 2 rfl ?_
  refine gz_aload_n (pc := 5) hX dX6_burningSet_5 rfl 0 rfl ?_
  obtain ⟨⟨r1, m2⟩, c3, h⟩ := gz_bd h
  refine mc_thingMany (pc := 6) hX c3 ⟨Nat.le_of_ble_eq_true rfl, Nat.le_of_ble_eq_true rfl⟩ (rest := [.int x2]) rfl (Nat.le_of_ble_eq_true rfl) dX6_burningSet_6 ?_
  refine gz_icmp_ge (pc := 9) (tgt := 32) hX dX6_burningSet_9 (by decide) (fun g4 => ?_) (fun g4 => ?_)
  · replace h := gz_it' g4 h
    refine gz_iload_n (pc := 32) hX dX6_burningSet_32 rfl 1 rfl ?_
    obtain rfl := Option.some.inj h
    exact hk _ _ dX6_burningSet_33
  · replace h := gz_if' g4 h
    refine gz_aload_n (pc := 12) hX dX6_burningSet_12 rfl 0 rfl ?_
    refine gz_iload_n (pc := 13) hX dX6_burningSet_13 rfl 2 rfl ?_
    obtain ⟨⟨r5, m6⟩, c7, h⟩ := gz_bd h
    refine mc_doesBurn (pc := 14) hX c7 ⟨Nat.le_of_ble_eq_true rfl, Nat.le_of_ble_eq_true rfl⟩ (rest := []) rfl (Nat.le_of_ble_eq_true rfl) dX6_burningSet_14 ?_
    refine gz_if_eq (pc := 17) (tgt := 26) hX dX6_burningSet_17 (by decide) (fun g8 => ?_) (fun g8 => ?_)
    · replace h := gz_it' g8 h
      exact wb_X6_burningSet_26 hX h hk
    · replace h := gz_if' g8 h
      refine gz_iload_n (pc := 20) hX dX6_burningSet_20 rfl 1 rfl ?_
      refine gz_iconst (pc := 21) (v := (1 : Int32)) hX dX6_burningSet_21 (by decide) ?_
      refine gz_iload_n (pc := 22) hX dX6_burningSet_22 rfl 2 rfl ?_
      refine gz_ishl (pc := 23) hX dX6_burningSet_23 ?_
      refine gz_ior (pc := 24) hX dX6_burningSet_24 ?_
      obtain ⟨y9, ey9, h⟩ := gz_lt h
      refine gz_topi ey9 ?_
      refine gz_istore_n (pc := 25) (lw := [(1, .int y9), (0, .ref (gz_ad G 2000)), (2, .int x2)]) hX dX6_burningSet_25 rfl (by decide) rfl ?_
      refine gz_sub (lw := [(0, .ref (gz_ad G 2000)), (1, .int y9), (2, .int x2)]) [1, 0, 2] rfl ?_
      exact wb_X6_burningSet_26 hX h hk
noncomputable def ml_X6_burningSet_4 (x1 : Int32) (x2 : Int32) (m : MM) : Option (Int32 × MM) := gz_loop (fun q : (Int32 × Int32 × MM) => mb_X6_burningSet_4 q.1 q.2.1 q.2.2) (x1, x2, m)
theorem wl_X6_burningSet_4 {X : gz_X} {G : gz_G} (hX : gz_C mS X G cX6_burningSet 3 RX6 2 42) {x1 : Int32} {x2 : Int32}  {m : MM} {z : (Int32 × MM)} (h : ml_X6_burningSet_4 x1 x2 m = some z) (hk : (fun z : (Int32 × MM) => gz_kI mS X G 3 (0, 0) cX6_burningSet (mF z.2) z.1) z) : gz_V mS X G 3 (0, 0) (mF m) 4 [(0, .ref (gz_ad G 2000)), (1, .int x1), (2, .int x2)] [] := by
  have hp : mP_X6_burningSet_4 X G (x1, x2, m) := gz_loop_ind (fun q z hz hkz => wb_X6_burningSet_4 hX  hz hkz) h hk
  exact hp
noncomputable def mf_burningSet  (m : MM) : Option (Int32 × MM) :=
  (ml_X6_burningSet_4 (0 : Int32) (0 : Int32) m)
theorem wm_burningSet {X : gz_X} {G : gz_G} (hX : gz_C mS X G cX6_burningSet 3 RX6 2 42)   {m : MM} {z : (Int32 × MM)} (h : mf_burningSet  m = some z) (hk : (fun z : (Int32 × MM) => gz_kI mS X G 3 (0, 0) cX6_burningSet (mF z.2) z.1) z) : gz_V mS X G 3 (0, 0) (mF m) 0 [(0, .ref (gz_ad G 2000))] [] := by
  unfold mf_burningSet at h
  refine gz_iconst (pc := 0) (v := (0 : Int32)) hX dX6_burningSet_0 (by decide) ?_
  refine gz_istore_n (pc := 1) (lw := [(1, .int (0 : Int32)), (0, .ref (gz_ad G 2000))]) hX dX6_burningSet_1 rfl (by decide) rfl ?_
  refine gz_iconst (pc := 2) (v := (0 : Int32)) hX dX6_burningSet_2 (by decide) ?_
  refine gz_istore_n (pc := 3) (lw := [(2, .int (0 : Int32)), (1, .int (0 : Int32)), (0, .ref (gz_ad G 2000))]) hX dX6_burningSet_3 rfl (by decide) rfl ?_
  refine gz_sub (lw := [(0, .ref (gz_ad G 2000)), (1, .int (0 : Int32)), (2, .int (0 : Int32))]) [2, 1, 0] rfl ?_
  exact wl_X6_burningSet_4 hX h hk
theorem mt_burningSet {G : gz_G} {l : Launch}   {m m9 : MM} {r : Int32} (h : mf_burningSet  m = some (r, m9)) : gz_Met mS G l yX6_burningSet cX6_burningSet 3 (some .int) (mRm 2 42) [.ref (gz_ad G 2000)] (mF m) (mF m9) (some (.int r)) :=
  gz_ofI (plainFor_of_name mz_plain) (Nat.le_of_ble_eq_true rfl) fun X _ hX hk => wm_burningSet hX h hk
theorem mc_burningSet {X : gz_X} {G : gz_G} {cc : ByteArray} {nL fr lo pc : Nat} {lv : List (Nat × Value)} {rest st0 : List Value} (hX : gz_C mS X G cc nL RX6 fr lo)   {m m9 : MM} {r : Int32} (h : mf_burningSet  m = some (r, m9)) (hroom : 2 + 1 ≤ fr ∧ 8 + (3 + 11) + 42 ≤ lo) (hst : st0 = [.ref (gz_ad G 2000)] ++ rest) (hW : (rest.map fun v => v.category).sum ≤ 8) (hd : decode cc pc = .ok (.invokevirtual 483, 3)) (kk : gz_V mS X G nL (0, 0) (mF m9) (pc + 3) lv (.int r :: rest)) : gz_V mS X G nL (0, 0) (mF m) pc lv st0 :=
  gz_callV hX mz_E (As := []) (rest := rest) (q := (RX6, TX6, 104)) (ci := 0) (c := 2000) (mt_burningSet (l := X.2.1) h) (lw_V q2298 q2300 qs113 q182 q2301) (n := 0) (by decide +kernel) hroom rfl rfl (by decide) rfl hst hW hd (rem := (0, 0)) kk
/-! bits(I)I -/
def mP_X6_bits_4 (X : gz_X) (G : gz_G) (q : (Int32 × Int32 × MM)) : Prop := gz_V mS X G 3 (0, 0) (mF q.2.2) 4 [(1, .int q.1), (2, .int q.2.1)] []
noncomputable def mb_X6_bits_4 (x1 : Int32) (x2 : Int32) (m : MM) : Option ((Int32 × Int32 × MM) ⊕ (Int32 × MM)) :=
  (if x2 = (0 : Int32) then some (Sum.inr (x1, m)) else gz_let (x1 + (1 : Int32)) fun y2 => gz_let ((x2 &&& (x2 - (1 : Int32)))) fun y3 => some (Sum.inl (y2, y3, m)))
theorem wb_X6_bits_4 {X : gz_X} {G : gz_G} (hX : gz_C mS X G cX6_bits 3 RX6 0 0) {x1 : Int32} {x2 : Int32}  {m : MM} {z : ((Int32 × Int32 × MM) ⊕ (Int32 × MM))} (h : mb_X6_bits_4 x1 x2 m = some z) (hk : (Sum.elim (mP_X6_bits_4 X G) (fun z : (Int32 × MM) => gz_kI mS X G 3 (0, 0) cX6_bits (mF z.2) z.1)) z) : gz_V mS X G 3 (0, 0) (mF m) 4 [(1, .int x1), (2, .int x2)] [] := by
  unfold mb_X6_bits_4 at h
  refine gz_iload_n (pc := 4) hX dX6_bits_4 rfl 1 rfl ?_
  refine gz_if_eq (pc := 5) (tgt := 20) hX dX6_bits_5 (by decide) (fun g1 => ?_) (fun g1 => ?_)
  · replace h := gz_it' g1 h
    refine gz_iload_n (pc := 20) hX dX6_bits_20 rfl 0 rfl ?_
    obtain rfl := Option.some.inj h
    exact hk _ _ dX6_bits_21
  · replace h := gz_if' g1 h
    obtain ⟨y2, ey2, h⟩ := gz_lt h
    refine gz_iinc (pc := 8) (v := y2) (lw := [(1, .int y2), (2, .int x2)]) hX dX6_bits_8 (k := 0) rfl (by rw [ey2]; rfl) (by decide) rfl ?_
    refine gz_iload_n (pc := 11) hX dX6_bits_11 rfl 1 rfl ?_
    refine gz_iload_n (pc := 12) hX dX6_bits_12 rfl 1 rfl ?_
    refine gz_iconst (pc := 13) (v := (1 : Int32)) hX dX6_bits_13 (by decide) ?_
    refine gz_isub (pc := 14) hX dX6_bits_14 ?_
    refine gz_iand (pc := 15) hX dX6_bits_15 ?_
    obtain ⟨y3, ey3, h⟩ := gz_lt h
    refine gz_topi ey3 ?_
    refine gz_istore_n (pc := 16) (lw := [(2, .int y3), (1, .int y2)]) hX dX6_bits_16 rfl (by decide) rfl ?_
    refine gz_goto (pc := 17) (tgt := 4) hX dX6_bits_17 (by decide) ?_
    refine gz_sub (lw := [(1, .int y2), (2, .int y3)]) [1, 0] rfl ?_
    obtain rfl := Option.some.inj h
    exact hk
noncomputable def ml_X6_bits_4 (x1 : Int32) (x2 : Int32) (m : MM) : Option (Int32 × MM) := gz_loop (fun q : (Int32 × Int32 × MM) => mb_X6_bits_4 q.1 q.2.1 q.2.2) (x1, x2, m)
theorem wl_X6_bits_4 {X : gz_X} {G : gz_G} (hX : gz_C mS X G cX6_bits 3 RX6 0 0) {x1 : Int32} {x2 : Int32}  {m : MM} {z : (Int32 × MM)} (h : ml_X6_bits_4 x1 x2 m = some z) (hk : (fun z : (Int32 × MM) => gz_kI mS X G 3 (0, 0) cX6_bits (mF z.2) z.1) z) : gz_V mS X G 3 (0, 0) (mF m) 4 [(1, .int x1), (2, .int x2)] [] := by
  have hp : mP_X6_bits_4 X G (x1, x2, m) := gz_loop_ind (fun q z hz hkz => wb_X6_bits_4 hX  hz hkz) h hk
  exact hp
noncomputable def mf_bits (x0 : Int32) (m : MM) : Option (Int32 × MM) :=
  (ml_X6_bits_4 (0 : Int32) x0 m)
theorem wm_bits {X : gz_X} {G : gz_G} (hX : gz_C mS X G cX6_bits 3 RX6 0 0) {x0 : Int32}  {m : MM} {z : (Int32 × MM)} (h : mf_bits x0 m = some z) (hk : (fun z : (Int32 × MM) => gz_kI mS X G 3 (0, 0) cX6_bits (mF z.2) z.1) z) : gz_V mS X G 3 (0, 0) (mF m) 0 [(0, .int x0)] [] := by
  unfold mf_bits at h
  refine gz_iconst (pc := 0) (v := (0 : Int32)) hX dX6_bits_0 (by decide) ?_
  refine gz_istore_n (pc := 1) (lw := [(1, .int (0 : Int32)), (0, .int x0)]) hX dX6_bits_1 rfl (by decide) rfl ?_
  refine gz_iload_n (pc := 2) hX dX6_bits_2 rfl 1 rfl ?_
  refine gz_istore_n (pc := 3) (lw := [(2, .int x0), (1, .int (0 : Int32)), (0, .int x0)]) hX dX6_bits_3 rfl (by decide) rfl ?_
  refine gz_sub (lw := [(1, .int (0 : Int32)), (2, .int x0)]) [1, 0] rfl ?_
  exact wl_X6_bits_4 hX h hk
theorem mt_bits {G : gz_G} {l : Launch} {x0 : Int32}  {m m9 : MM} {r : Int32} (h : mf_bits x0 m = some (r, m9)) : gz_Met mS G l yX6_bits cX6_bits 3 (some .int) (mRm 0 0) [.int x0] (mF m) (mF m9) (some (.int r)) :=
  gz_ofI (plainFor_of_name mz_plain) (Nat.le_of_ble_eq_true rfl) fun X _ hX hk => wm_bits hX h hk
theorem mc_bits {X : gz_X} {G : gz_G} {cc : ByteArray} {nL fr lo pc : Nat} {lv : List (Nat × Value)} {rest st0 : List Value} (hX : gz_C mS X G cc nL RX6 fr lo) {x0 : Int32}  {m m9 : MM} {r : Int32} (h : mf_bits x0 m = some (r, m9)) (hroom : 0 + 1 ≤ fr ∧ 8 + (3 + 11) + 0 ≤ lo) (hst : st0 = [.int x0] ++ rest) (hW : (rest.map fun v => v.category).sum ≤ 8) (hd : decode cc pc = .ok (.invokestatic 486, 3)) (kk : gz_V mS X G nL (0, 0) (mF m9) (pc + 3) lv (.int r :: rest)) : gz_V mS X G nL (0, 0) (mF m) pc lv st0 :=
  gz_callS hX mz_E (As := [.int x0]) (rest := rest) (mt_bits (l := X.2.1) h) (lw_S q2310 q2311 q182 q2312) (n := 1) (by decide +kernel) hroom rfl hst hW hd (rem := (0, 0)) kk
/-! doesHold(I)Z -/
noncomputable def mf_doesHold (x1 : Int32) (m : MM) : Option (Int32 × MM) :=
  (if gz_in ((2 : Int32) + x1) (151) then (if (m.1 1051 (gz_ix ((2 : Int32) + x1))) = (1 : Int32) then some ((1 : Int32), m) else some ((0 : Int32), m)) else none)
theorem wm_doesHold {X : gz_X} {G : gz_G} (hX : gz_C mS X G cX6_doesHold 2 RX6 0 0) {x1 : Int32}  {m : MM} {z : (Int32 × MM)} (h : mf_doesHold x1 m = some z) (hk : (fun z : (Int32 × MM) => gz_kZ mS X G 2 (0, 0) cX6_doesHold (mF z.2) z.1) z) : gz_V mS X G 2 (0, 0) (mF m) 0 [(0, .ref (gz_ad G 2000)), (1, .int x1)] [] := by
  unfold mf_doesHold at h
  refine gz_aload_n (pc := 0) hX dX6_doesHold_0 rfl 0 rfl ?_
  refine mg_50 (pc := 1) hX dX6_doesHold_1 ?_
  refine gz_iconst (pc := 4) (v := (2 : Int32)) hX dX6_doesHold_4 (by decide) ?_
  refine gz_iload_n (pc := 5) hX dX6_doesHold_5 rfl 1 rfl ?_
  refine gz_iadd (pc := 6) hX dX6_doesHold_6 ?_
  obtain ⟨g1, h⟩ := gz_gu h
  refine mz_iald (pc := 7) (c := 1051) (n := 151) hX rfl rfl g1 dX6_doesHold_7 ?_
  refine gz_iconst (pc := 8) (v := (1 : Int32)) hX dX6_doesHold_8 (by decide) ?_
  refine gz_icmp_ne (pc := 9) (tgt := 16) hX dX6_doesHold_9 (by decide) (fun g2 => ?_) (fun g2 => ?_)
  · replace h := gz_if' g2 h
    refine gz_iconst (pc := 16) (v := (0 : Int32)) hX dX6_doesHold_16 (by decide) ?_
    obtain rfl := Option.some.inj h
    exact hk _ _ dX6_doesHold_17 (Or.inl rfl)
  · replace h := gz_it' g2 h
    refine gz_iconst (pc := 12) (v := (1 : Int32)) hX dX6_doesHold_12 (by decide) ?_
    refine gz_goto (pc := 13) (tgt := 17) hX dX6_doesHold_13 (by decide) ?_
    obtain rfl := Option.some.inj h
    exact hk _ _ dX6_doesHold_17 (Or.inr rfl)
theorem mt_doesHold {G : gz_G} {l : Launch} {x1 : Int32}  {m m9 : MM} {r : Int32} (h : mf_doesHold x1 m = some (r, m9)) : gz_Met mS G l yX6_doesHold cX6_doesHold 2 (some .boolean) (mRm 0 0) [.ref (gz_ad G 2000), .int x1] (mF m) (mF m9) (some (.int r)) :=
  gz_ofZ (plainFor_of_name mz_plain) (Nat.le_of_ble_eq_true rfl) fun X _ hX hk => wm_doesHold hX h hk
theorem mc_doesHold {X : gz_X} {G : gz_G} {cc : ByteArray} {nL fr lo pc : Nat} {lv : List (Nat × Value)} {rest st0 : List Value} (hX : gz_C mS X G cc nL RX6 fr lo) {x1 : Int32}  {m m9 : MM} {r : Int32} (h : mf_doesHold x1 m = some (r, m9)) (hroom : 0 + 1 ≤ fr ∧ 8 + (2 + 11) + 0 ≤ lo) (hst : st0 = [.int x1, .ref (gz_ad G 2000)] ++ rest) (hW : (rest.map fun v => v.category).sum ≤ 8) (hd : decode cc pc = .ok (.invokevirtual 425, 3)) (kk : gz_V mS X G nL (0, 0) (mF m9) (pc + 3) lv (.int r :: rest)) : gz_V mS X G nL (0, 0) (mF m) pc lv st0 :=
  gz_callV hX mz_E (As := [.int x1]) (rest := rest) (q := (RX6, TX6, 104)) (ci := 0) (c := 2000) (mt_doesHold (l := X.2.1) h) (lw_V q2317 q2319 qs117 q182 q2320) (n := 1) (by decide +kernel) hroom rfl rfl (by decide) rfl hst hW hd (rem := (0, 0)) kk
/-! holdMany()I -/
def mP_X6_holdMany_4 (X : gz_X) (G : gz_G) (q : (Int32 × Int32 × MM)) : Prop := gz_V mS X G 3 (0, 0) (mF q.2.2) 4 [(0, .ref (gz_ad G 2000)), (1, .int q.1), (2, .int q.2.1)] []
noncomputable def mj_X6_holdMany_23 (x1 : Int32) (x2 : Int32) (m : MM) : Option ((Int32 × Int32 × MM) ⊕ (Int32 × MM)) :=
  gz_let (x2 + (1 : Int32)) fun y1 => some (Sum.inl (x1, y1, m))
theorem wb_X6_holdMany_23 {X : gz_X} {G : gz_G} (hX : gz_C mS X G cX6_holdMany 3 RX6 1 21) {x1 : Int32} {x2 : Int32}  {m : MM} {z : ((Int32 × Int32 × MM) ⊕ (Int32 × MM))} (h : mj_X6_holdMany_23 x1 x2 m = some z) (hk : (Sum.elim (mP_X6_holdMany_4 X G) (fun z : (Int32 × MM) => gz_kI mS X G 3 (0, 0) cX6_holdMany (mF z.2) z.1)) z) : gz_V mS X G 3 (0, 0) (mF m) 23 [(0, .ref (gz_ad G 2000)), (1, .int x1), (2, .int x2)] [] := by
  unfold mj_X6_holdMany_23 at h
  obtain ⟨y1, ey1, h⟩ := gz_lt h
  refine gz_iinc (pc := 23) (v := y1) (lw := [(2, .int y1), (0, .ref (gz_ad G 2000)), (1, .int x1)]) hX dX6_holdMany_23 (k := 2) rfl (by rw [ey1]; rfl) (by decide) rfl ?_
  refine gz_goto (pc := 26) (tgt := 4) hX dX6_holdMany_26 (by decide) ?_
  refine gz_sub (lw := [(0, .ref (gz_ad G 2000)), (1, .int x1), (2, .int y1)]) [1, 2, 0] rfl ?_
  obtain rfl := Option.some.inj h
  exact hk
noncomputable def mb_X6_holdMany_4 (x1 : Int32) (x2 : Int32) (m : MM) : Option ((Int32 × Int32 × MM) ⊕ (Int32 × MM)) :=
  ((mf_tieMany m).bind fun (r1, m2) => (if r1 ≤ x2 then some (Sum.inr (x1, m2)) else ((mf_doesHold x2 m2).bind fun (r5, m6) => (if r5 = (0 : Int32) then (mj_X6_holdMany_23 x1 x2 m6) else gz_let (x1 + (1 : Int32)) fun y9 => (mj_X6_holdMany_23 y9 x2 m6)))))
theorem wb_X6_holdMany_4 {X : gz_X} {G : gz_G} (hX : gz_C mS X G cX6_holdMany 3 RX6 1 21) {x1 : Int32} {x2 : Int32}  {m : MM} {z : ((Int32 × Int32 × MM) ⊕ (Int32 × MM))} (h : mb_X6_holdMany_4 x1 x2 m = some z) (hk : (Sum.elim (mP_X6_holdMany_4 X G) (fun z : (Int32 × MM) => gz_kI mS X G 3 (0, 0) cX6_holdMany (mF z.2) z.1)) z) : gz_V mS X G 3 (0, 0) (mF m) 4 [(0, .ref (gz_ad G 2000)), (1, .int x1), (2, .int x2)] [] := by
  unfold mb_X6_holdMany_4 at h
  refine gz_iload_n (pc := 4) hX dX6_holdMany_4 rfl 2 rfl ?_
  refine gz_aload_n (pc := 5) hX dX6_holdMany_5 rfl 0 rfl ?_
  obtain ⟨⟨r1, m2⟩, c3, h⟩ := gz_bd h
  refine mc_tieMany (pc := 6) hX c3 ⟨Nat.le_of_ble_eq_true rfl, Nat.le_of_ble_eq_true rfl⟩ (rest := [.int x2]) rfl (Nat.le_of_ble_eq_true rfl) dX6_holdMany_6 ?_
  refine gz_icmp_ge (pc := 9) (tgt := 29) hX dX6_holdMany_9 (by decide) (fun g4 => ?_) (fun g4 => ?_)
  · replace h := gz_it' g4 h
    refine gz_iload_n (pc := 29) hX dX6_holdMany_29 rfl 1 rfl ?_
    obtain rfl := Option.some.inj h
    exact hk _ _ dX6_holdMany_30
  · replace h := gz_if' g4 h
    refine gz_aload_n (pc := 12) hX dX6_holdMany_12 rfl 0 rfl ?_
    refine gz_iload_n (pc := 13) hX dX6_holdMany_13 rfl 2 rfl ?_
    obtain ⟨⟨r5, m6⟩, c7, h⟩ := gz_bd h
    refine mc_doesHold (pc := 14) hX c7 ⟨Nat.le_of_ble_eq_true rfl, Nat.le_of_ble_eq_true rfl⟩ (rest := []) rfl (Nat.le_of_ble_eq_true rfl) dX6_holdMany_14 ?_
    refine gz_if_eq (pc := 17) (tgt := 23) hX dX6_holdMany_17 (by decide) (fun g8 => ?_) (fun g8 => ?_)
    · replace h := gz_it' g8 h
      exact wb_X6_holdMany_23 hX h hk
    · replace h := gz_if' g8 h
      obtain ⟨y9, ey9, h⟩ := gz_lt h
      refine gz_iinc (pc := 20) (v := y9) (lw := [(1, .int y9), (0, .ref (gz_ad G 2000)), (2, .int x2)]) hX dX6_holdMany_20 (k := 1) rfl (by rw [ey9]; rfl) (by decide) rfl ?_
      refine gz_sub (lw := [(0, .ref (gz_ad G 2000)), (1, .int y9), (2, .int x2)]) [1, 0, 2] rfl ?_
      exact wb_X6_holdMany_23 hX h hk
noncomputable def ml_X6_holdMany_4 (x1 : Int32) (x2 : Int32) (m : MM) : Option (Int32 × MM) := gz_loop (fun q : (Int32 × Int32 × MM) => mb_X6_holdMany_4 q.1 q.2.1 q.2.2) (x1, x2, m)
theorem wl_X6_holdMany_4 {X : gz_X} {G : gz_G} (hX : gz_C mS X G cX6_holdMany 3 RX6 1 21) {x1 : Int32} {x2 : Int32}  {m : MM} {z : (Int32 × MM)} (h : ml_X6_holdMany_4 x1 x2 m = some z) (hk : (fun z : (Int32 × MM) => gz_kI mS X G 3 (0, 0) cX6_holdMany (mF z.2) z.1) z) : gz_V mS X G 3 (0, 0) (mF m) 4 [(0, .ref (gz_ad G 2000)), (1, .int x1), (2, .int x2)] [] := by
  have hp : mP_X6_holdMany_4 X G (x1, x2, m) := gz_loop_ind (fun q z hz hkz => wb_X6_holdMany_4 hX  hz hkz) h hk
  exact hp
noncomputable def mf_holdMany  (m : MM) : Option (Int32 × MM) :=
  (ml_X6_holdMany_4 (0 : Int32) (0 : Int32) m)
theorem wm_holdMany {X : gz_X} {G : gz_G} (hX : gz_C mS X G cX6_holdMany 3 RX6 1 21)   {m : MM} {z : (Int32 × MM)} (h : mf_holdMany  m = some z) (hk : (fun z : (Int32 × MM) => gz_kI mS X G 3 (0, 0) cX6_holdMany (mF z.2) z.1) z) : gz_V mS X G 3 (0, 0) (mF m) 0 [(0, .ref (gz_ad G 2000))] [] := by
  unfold mf_holdMany at h
  refine gz_iconst (pc := 0) (v := (0 : Int32)) hX dX6_holdMany_0 (by decide) ?_
  refine gz_istore_n (pc := 1) (lw := [(1, .int (0 : Int32)), (0, .ref (gz_ad G 2000))]) hX dX6_holdMany_1 rfl (by decide) rfl ?_
  refine gz_iconst (pc := 2) (v := (0 : Int32)) hX dX6_holdMany_2 (by decide) ?_
  refine gz_istore_n (pc := 3) (lw := [(2, .int (0 : Int32)), (1, .int (0 : Int32)), (0, .ref (gz_ad G 2000))]) hX dX6_holdMany_3 rfl (by decide) rfl ?_
  refine gz_sub (lw := [(0, .ref (gz_ad G 2000)), (1, .int (0 : Int32)), (2, .int (0 : Int32))]) [2, 1, 0] rfl ?_
  exact wl_X6_holdMany_4 hX h hk
theorem mt_holdMany {G : gz_G} {l : Launch}   {m m9 : MM} {r : Int32} (h : mf_holdMany  m = some (r, m9)) : gz_Met mS G l yX6_holdMany cX6_holdMany 3 (some .int) (mRm 1 21) [.ref (gz_ad G 2000)] (mF m) (mF m9) (some (.int r)) :=
  gz_ofI (plainFor_of_name mz_plain) (Nat.le_of_ble_eq_true rfl) fun X _ hX hk => wm_holdMany hX h hk
theorem mc_holdMany {X : gz_X} {G : gz_G} {cc : ByteArray} {nL fr lo pc : Nat} {lv : List (Nat × Value)} {rest st0 : List Value} (hX : gz_C mS X G cc nL RX6 fr lo)   {m m9 : MM} {r : Int32} (h : mf_holdMany  m = some (r, m9)) (hroom : 1 + 1 ≤ fr ∧ 8 + (3 + 11) + 21 ≤ lo) (hst : st0 = [.ref (gz_ad G 2000)] ++ rest) (hW : (rest.map fun v => v.category).sum ≤ 8) (hd : decode cc pc = .ok (.invokevirtual 489, 3)) (kk : gz_V mS X G nL (0, 0) (mF m9) (pc + 3) lv (.int r :: rest)) : gz_V mS X G nL (0, 0) (mF m) pc lv st0 :=
  gz_callV hX mz_E (As := []) (rest := rest) (q := (RX6, TX6, 104)) (ci := 0) (c := 2000) (mt_holdMany (l := X.2.1) h) (lw_V q2313 q2315 qs116 q182 q2316) (n := 0) (by decide +kernel) hroom rfl rfl (by decide) rfl hst hW hd (rem := (0, 0)) kk
/-! has(I)I -/
noncomputable def mf_has (x1 : Int32) (m : MM) : Option (Int32 × MM) :=
  (if x1 = (0 : Int32) then ((mf_hallMany m).bind fun (r2, m3) => some (r2, m3)) else (if x1 = (1 : Int32) then (if gz_in (8 : Int32) (12) then some ((m.1 1038 (gz_ix (8 : Int32))), m) else none) else (if x1 = (2 : Int32) then ((mf_thingMany m).bind fun (r8, m9) => some (r8, m9)) else (if x1 = (3 : Int32) then ((mf_tieMany m).bind fun (r12, m13) => some (r12, m13)) else (if x1 = (4 : Int32) then (if gz_in (0 : Int32) (151) then some ((m.1 1051 (gz_ix (0 : Int32))), m) else none) else (if x1 = (5 : Int32) then (if gz_in (1 : Int32) (151) then some ((m.1 1051 (gz_ix (1 : Int32))), m) else none) else (if x1 = (6 : Int32) then ((mf_burningSet m).bind fun (r20, m21) => ((mf_bits r20 m21).bind fun (r23, m24) => some (r23, m24))) else (if x1 = (7 : Int32) then ((mf_holdMany m).bind fun (r27, m28) => some (r27, m28)) else (if x1 = (8 : Int32) then (if gz_in (30 : Int32) (151) then some ((m.1 1051 (gz_ix (30 : Int32))), m) else none) else (if x1 = (9 : Int32) then some ((m.1 2000 64), m) else (if x1 = (10 : Int32) then some ((m.1 2000 68), m) else some ((-1 : Int32), m))))))))))))
theorem wm_has {X : gz_X} {G : gz_G} (hX : gz_C mS X G cX6_has 2 RX6 3 64) {x1 : Int32}  {m : MM} {z : (Int32 × MM)} (h : mf_has x1 m = some z) (hk : (fun z : (Int32 × MM) => gz_kI mS X G 2 (0, 0) cX6_has (mF z.2) z.1) z) : gz_V mS X G 2 (0, 0) (mF m) 0 [(0, .ref (gz_ad G 2000)), (1, .int x1)] [] := by
  unfold mf_has at h
  refine gz_iload_n (pc := 0) hX dX6_has_0 rfl 1 rfl ?_
  by_cases g1 : x1 = (0 : Int32)
  · replace h := gz_it' g1 h
    refine gz_tsIn (pc := 1) (tgt := 60) (off := 59) (v := (0 : Int32)) hX g1 dX6_has_1 (by decide) (by decide) ?_
    refine gz_aload_n (pc := 60) hX dX6_has_60 rfl 0 rfl ?_
    obtain ⟨⟨r2, m3⟩, c4, h⟩ := gz_bd h
    refine mc_hallMany (pc := 61) hX c4 ⟨Nat.le_of_ble_eq_true rfl, Nat.le_of_ble_eq_true rfl⟩ (rest := []) rfl (Nat.le_of_ble_eq_true rfl) dX6_has_61 ?_
    obtain rfl := Option.some.inj h
    exact hk _ _ dX6_has_64
  · replace h := gz_if' g1 h
    by_cases g5 : x1 = (1 : Int32)
    · replace h := gz_it' g5 h
      refine gz_tsIn (pc := 1) (tgt := 65) (off := 64) (v := (1 : Int32)) hX g5 dX6_has_1 (by decide) (by decide) ?_
      refine gz_aload_n (pc := 65) hX dX6_has_65 rfl 0 rfl ?_
      refine mg_37 (pc := 66) hX dX6_has_66 ?_
      refine gz_bipush (pc := 69) (v := (8 : Int32)) hX dX6_has_69 (by decide) ?_
      obtain ⟨g6, h⟩ := gz_gu h
      refine mz_iald (pc := 71) (c := 1038) (n := 12) hX rfl rfl g6 dX6_has_71 ?_
      obtain rfl := Option.some.inj h
      exact hk _ _ dX6_has_72
    · replace h := gz_if' g5 h
      by_cases g7 : x1 = (2 : Int32)
      · replace h := gz_it' g7 h
        refine gz_tsIn (pc := 1) (tgt := 73) (off := 72) (v := (2 : Int32)) hX g7 dX6_has_1 (by decide) (by decide) ?_
        refine gz_aload_n (pc := 73) hX dX6_has_73 rfl 0 rfl ?_
        obtain ⟨⟨r8, m9⟩, c10, h⟩ := gz_bd h
        refine mc_thingMany (pc := 74) hX c10 ⟨Nat.le_of_ble_eq_true rfl, Nat.le_of_ble_eq_true rfl⟩ (rest := []) rfl (Nat.le_of_ble_eq_true rfl) dX6_has_74 ?_
        obtain rfl := Option.some.inj h
        exact hk _ _ dX6_has_77
      · replace h := gz_if' g7 h
        by_cases g11 : x1 = (3 : Int32)
        · replace h := gz_it' g11 h
          refine gz_tsIn (pc := 1) (tgt := 78) (off := 77) (v := (3 : Int32)) hX g11 dX6_has_1 (by decide) (by decide) ?_
          refine gz_aload_n (pc := 78) hX dX6_has_78 rfl 0 rfl ?_
          obtain ⟨⟨r12, m13⟩, c14, h⟩ := gz_bd h
          refine mc_tieMany (pc := 79) hX c14 ⟨Nat.le_of_ble_eq_true rfl, Nat.le_of_ble_eq_true rfl⟩ (rest := []) rfl (Nat.le_of_ble_eq_true rfl) dX6_has_79 ?_
          obtain rfl := Option.some.inj h
          exact hk _ _ dX6_has_82
        · replace h := gz_if' g11 h
          by_cases g15 : x1 = (4 : Int32)
          · replace h := gz_it' g15 h
            refine gz_tsIn (pc := 1) (tgt := 83) (off := 82) (v := (4 : Int32)) hX g15 dX6_has_1 (by decide) (by decide) ?_
            refine gz_aload_n (pc := 83) hX dX6_has_83 rfl 0 rfl ?_
            refine mg_50 (pc := 84) hX dX6_has_84 ?_
            refine gz_iconst (pc := 87) (v := (0 : Int32)) hX dX6_has_87 (by decide) ?_
            obtain ⟨g16, h⟩ := gz_gu h
            refine mz_iald (pc := 88) (c := 1051) (n := 151) hX rfl rfl g16 dX6_has_88 ?_
            obtain rfl := Option.some.inj h
            exact hk _ _ dX6_has_89
          · replace h := gz_if' g15 h
            by_cases g17 : x1 = (5 : Int32)
            · replace h := gz_it' g17 h
              refine gz_tsIn (pc := 1) (tgt := 90) (off := 89) (v := (5 : Int32)) hX g17 dX6_has_1 (by decide) (by decide) ?_
              refine gz_aload_n (pc := 90) hX dX6_has_90 rfl 0 rfl ?_
              refine mg_50 (pc := 91) hX dX6_has_91 ?_
              refine gz_iconst (pc := 94) (v := (1 : Int32)) hX dX6_has_94 (by decide) ?_
              obtain ⟨g18, h⟩ := gz_gu h
              refine mz_iald (pc := 95) (c := 1051) (n := 151) hX rfl rfl g18 dX6_has_95 ?_
              obtain rfl := Option.some.inj h
              exact hk _ _ dX6_has_96
            · replace h := gz_if' g17 h
              by_cases g19 : x1 = (6 : Int32)
              · replace h := gz_it' g19 h
                refine gz_tsIn (pc := 1) (tgt := 97) (off := 96) (v := (6 : Int32)) hX g19 dX6_has_1 (by decide) (by decide) ?_
                refine gz_aload_n (pc := 97) hX dX6_has_97 rfl 0 rfl ?_
                obtain ⟨⟨r20, m21⟩, c22, h⟩ := gz_bd h
                refine mc_burningSet (pc := 98) hX c22 ⟨Nat.le_of_ble_eq_true rfl, Nat.le_of_ble_eq_true rfl⟩ (rest := []) rfl (Nat.le_of_ble_eq_true rfl) dX6_has_98 ?_
                obtain ⟨⟨r23, m24⟩, c25, h⟩ := gz_bd h
                refine mc_bits (pc := 101) hX c25 ⟨Nat.le_of_ble_eq_true rfl, Nat.le_of_ble_eq_true rfl⟩ (rest := []) rfl (Nat.le_of_ble_eq_true rfl) dX6_has_101 ?_
                obtain rfl := Option.some.inj h
                exact hk _ _ dX6_has_104
              · replace h := gz_if' g19 h
                by_cases g26 : x1 = (7 : Int32)
                · replace h := gz_it' g26 h
                  refine gz_tsIn (pc := 1) (tgt := 105) (off := 104) (v := (7 : Int32)) hX g26 dX6_has_1 (by decide) (by decide) ?_
                  refine gz_aload_n (pc := 105) hX dX6_has_105 rfl 0 rfl ?_
                  obtain ⟨⟨r27, m28⟩, c29, h⟩ := gz_bd h
                  refine mc_holdMany (pc := 106) hX c29 ⟨Nat.le_of_ble_eq_true rfl, Nat.le_of_ble_eq_true rfl⟩ (rest := []) rfl (Nat.le_of_ble_eq_true rfl) dX6_has_106 ?_
                  obtain rfl := Option.some.inj h
                  exact hk _ _ dX6_has_109
                · replace h := gz_if' g26 h
                  by_cases g30 : x1 = (8 : Int32)
                  · replace h := gz_it' g30 h
                    refine gz_tsIn (pc := 1) (tgt := 110) (off := 109) (v := (8 : Int32)) hX g30 dX6_has_1 (by decide) (by decide) ?_
                    refine gz_aload_n (pc := 110) hX dX6_has_110 rfl 0 rfl ?_
                    refine mg_50 (pc := 111) hX dX6_has_111 ?_
                    refine gz_bipush (pc := 114) (v := (30 : Int32)) hX dX6_has_114 (by decide) ?_
                    obtain ⟨g31, h⟩ := gz_gu h
                    refine mz_iald (pc := 116) (c := 1051) (n := 151) hX rfl rfl g31 dX6_has_116 ?_
                    obtain rfl := Option.some.inj h
                    exact hk _ _ dX6_has_117
                  · replace h := gz_if' g30 h
                    by_cases g32 : x1 = (9 : Int32)
                    · replace h := gz_it' g32 h
                      refine gz_tsIn (pc := 1) (tgt := 118) (off := 117) (v := (9 : Int32)) hX g32 dX6_has_1 (by decide) (by decide) ?_
                      refine gz_aload_n (pc := 118) hX dX6_has_118 rfl 0 rfl ?_
                      refine mg_64 (pc := 119) hX dX6_has_119 ?_
                      obtain rfl := Option.some.inj h
                      exact hk _ _ dX6_has_122
                    · replace h := gz_if' g32 h
                      by_cases g33 : x1 = (10 : Int32)
                      · replace h := gz_it' g33 h
                        refine gz_tsIn (pc := 1) (tgt := 123) (off := 122) (v := (10 : Int32)) hX g33 dX6_has_1 (by decide) (by decide) ?_
                        refine gz_aload_n (pc := 123) hX dX6_has_123 rfl 0 rfl ?_
                        refine mg_68 (pc := 124) hX dX6_has_124 ?_
                        obtain rfl := Option.some.inj h
                        exact hk _ _ dX6_has_127
                      · replace h := gz_if' g33 h
                        have ng1 := lv_neT g1 (a := 0) (by decide)
                        have ng5 := lv_neT g5 (a := 1) (by decide)
                        have ng7 := lv_neT g7 (a := 2) (by decide)
                        have ng11 := lv_neT g11 (a := 3) (by decide)
                        have ng15 := lv_neT g15 (a := 4) (by decide)
                        have ng17 := lv_neT g17 (a := 5) (by decide)
                        have ng19 := lv_neT g19 (a := 6) (by decide)
                        have ng26 := lv_neT g26 (a := 7) (by decide)
                        have ng30 := lv_neT g30 (a := 8) (by decide)
                        have ng32 := lv_neT g32 (a := 9) (by decide)
                        have ng33 := lv_neT g33 (a := 10) (by decide)
                        refine gz_tsOut (pc := 1) (tgt := 128) hX dX6_has_1 (by omega) (by decide) ?_
                        refine gz_iconst (pc := 128) (v := (-1 : Int32)) hX dX6_has_128 (by decide) ?_
                        obtain rfl := Option.some.inj h
                        exact hk _ _ dX6_has_129
theorem mt_has {G : gz_G} {l : Launch} {x1 : Int32}  {m m9 : MM} {r : Int32} (h : mf_has x1 m = some (r, m9)) : gz_Met mS G l yX6_has cX6_has 2 (some .int) (mRm 3 64) [.ref (gz_ad G 2000), .int x1] (mF m) (mF m9) (some (.int r)) :=
  gz_ofI (plainFor_of_name mz_plain) (Nat.le_of_ble_eq_true rfl) fun X _ hX hk => wm_has hX h hk
/-! letter(III)I -/
noncomputable def mj_X6_letter_43  (m : MM) : Option (Int32 × MM) :=
  some ((-1 : Int32), m)
theorem wb_X6_letter_43 {X : gz_X} {G : gz_G} (hX : gz_C mS X G cX6_letter 9 RX6 1 25)   {m : MM} {z : (Int32 × MM)} (h : mj_X6_letter_43  m = some z) (hk : (fun z : (Int32 × MM) => gz_kI mS X G 9 (0, 0) cX6_letter (mF z.2) z.1) z) : gz_V mS X G 9 (0, 0) (mF m) 43 [(0, .ref (gz_ad G 2000))] [] := by
  unfold mj_X6_letter_43 at h
  refine gz_iconst (pc := 43) (v := (-1 : Int32)) hX dX6_letter_43 (by decide) ?_
  obtain rfl := Option.some.inj h
  exact hk _ _ dX6_letter_44
def mP_X6_letter_68 (X : gz_X) (G : gz_G) (q : (Int32 × Int64 × Int32 × Int64 × MM)) : Prop := gz_V mS X G 9 (0, 0) (mF q.2.2.2.2) 68 [(0, .ref (gz_ad G 2000)), (3, .int q.1), (4, .long q.2.1), (6, .int q.2.2.1), (7, .long q.2.2.2.1)] []
def mP_X6_letter_103 (X : gz_X) (G : gz_G) (q : (Int32 × Int64 × Int32 × MM)) : Prop := gz_V mS X G 9 (0, 0) (mF q.2.2.2) 103 [(0, .ref (gz_ad G 2000)), (3, .int q.1), (4, .long q.2.1), (7, .int q.2.2.1)] []
noncomputable def mb_X6_letter_103 (x3 : Int32) (x4 : Int64) (x7 : Int32) (m : MM) : Option ((Int32 × Int64 × Int32 × MM) ⊕ (Int32 × MM)) :=
  (if x7 ≤ x3 then some (Sum.inr (((x4 - x4 / (27 : Int64) * (27 : Int64)).toInt32), m)) else gz_let ((x4 / (27 : Int64))) fun y2 => gz_let (x7 + (-1 : Int32)) fun y3 => some (Sum.inl (x3, y2, y3, m)))
theorem wb_X6_letter_103 {X : gz_X} {G : gz_G} (hX : gz_C mS X G cX6_letter 9 RX6 1 25) {x3 : Int32} {x4 : Int64} {x7 : Int32}  {m : MM} {z : ((Int32 × Int64 × Int32 × MM) ⊕ (Int32 × MM))} (h : mb_X6_letter_103 x3 x4 x7 m = some z) (hk : (Sum.elim (mP_X6_letter_103 X G) (fun z : (Int32 × MM) => gz_kI mS X G 9 (0, 0) cX6_letter (mF z.2) z.1)) z) : gz_V mS X G 9 (0, 0) (mF m) 103 [(0, .ref (gz_ad G 2000)), (3, .int x3), (4, .long x4), (7, .int x7)] [] := by
  unfold mb_X6_letter_103 at h
  refine gz_iload (pc := 103) hX dX6_letter_103 3 rfl ?_
  refine gz_iload_n (pc := 105) hX dX6_letter_105 rfl 1 rfl ?_
  refine gz_icmp_le (pc := 106) (tgt := 123) hX dX6_letter_106 (by decide) (fun g1 => ?_) (fun g1 => ?_)
  · replace h := gz_it' g1 h
    refine gz_lload (pc := 123) hX dX6_letter_123 2 rfl ?_
    refine gz_ldc2 (pc := 125) (v := (27 : Int64)) hX q2139 dX6_letter_125 ?_
    refine gz_lrem (pc := 128) hX dX6_letter_128 (by decide) ?_
    refine gz_l2i (pc := 129) hX dX6_letter_129 ?_
    obtain rfl := Option.some.inj h
    exact hk _ _ dX6_letter_130
  · replace h := gz_if' g1 h
    refine gz_lload (pc := 109) hX dX6_letter_109 2 rfl ?_
    refine gz_ldc2 (pc := 111) (v := (27 : Int64)) hX q2139 dX6_letter_111 ?_
    refine gz_ldiv (pc := 114) hX dX6_letter_114 (by decide) ?_
    obtain ⟨y2, ey2, h⟩ := gz_lt h
    refine gz_topl ey2 ?_
    refine gz_lstore (pc := 115) (lw := [(4, .long y2), (0, .ref (gz_ad G 2000)), (3, .int x3), (7, .int x7)]) hX dX6_letter_115 (by decide) rfl ?_
    obtain ⟨y3, ey3, h⟩ := gz_lt h
    refine gz_iinc (pc := 117) (v := y3) (lw := [(7, .int y3), (4, .long y2), (0, .ref (gz_ad G 2000)), (3, .int x3)]) hX dX6_letter_117 (k := 3) rfl (by rw [ey3]; rfl) (by decide) rfl ?_
    refine gz_goto (pc := 120) (tgt := 103) hX dX6_letter_120 (by decide) ?_
    refine gz_sub (lw := [(0, .ref (gz_ad G 2000)), (3, .int x3), (4, .long y2), (7, .int y3)]) [2, 3, 1, 0] rfl ?_
    obtain rfl := Option.some.inj h
    exact hk
noncomputable def ml_X6_letter_103 (x3 : Int32) (x4 : Int64) (x7 : Int32) (m : MM) : Option (Int32 × MM) := gz_loop (fun q : (Int32 × Int64 × Int32 × MM) => mb_X6_letter_103 q.1 q.2.1 q.2.2.1 q.2.2.2) (x3, x4, x7, m)
theorem wl_X6_letter_103 {X : gz_X} {G : gz_G} (hX : gz_C mS X G cX6_letter 9 RX6 1 25) {x3 : Int32} {x4 : Int64} {x7 : Int32}  {m : MM} {z : (Int32 × MM)} (h : ml_X6_letter_103 x3 x4 x7 m = some z) (hk : (fun z : (Int32 × MM) => gz_kI mS X G 9 (0, 0) cX6_letter (mF z.2) z.1) z) : gz_V mS X G 9 (0, 0) (mF m) 103 [(0, .ref (gz_ad G 2000)), (3, .int x3), (4, .long x4), (7, .int x7)] [] := by
  have hp : mP_X6_letter_103 X G (x3, x4, x7, m) := gz_loop_ind (fun q z hz hkz => wb_X6_letter_103 hX  hz hkz) h hk
  exact hp
noncomputable def mb_X6_letter_68 (x3 : Int32) (x4 : Int64) (x6 : Int32) (x7 : Int64) (m : MM) : Option ((Int32 × Int64 × Int32 × Int64 × MM) ⊕ (Int32 × MM)) :=
  (if x7 ≤ (0 : Int64) then (if x3 < x6 then gz_let ((x6 - (1 : Int32))) fun y3 => (Option.map Sum.inr (ml_X6_letter_103 x3 x4 y3 m)) else some (Sum.inr ((0 : Int32), m))) else gz_let (x6 + (1 : Int32)) fun y4 => gz_let ((x7 / (27 : Int64))) fun y5 => some (Sum.inl (x3, x4, y4, y5, m)))
theorem wb_X6_letter_68 {X : gz_X} {G : gz_G} (hX : gz_C mS X G cX6_letter 9 RX6 1 25) {x3 : Int32} {x4 : Int64} {x6 : Int32} {x7 : Int64}  {m : MM} {z : ((Int32 × Int64 × Int32 × Int64 × MM) ⊕ (Int32 × MM))} (h : mb_X6_letter_68 x3 x4 x6 x7 m = some z) (hk : (Sum.elim (mP_X6_letter_68 X G) (fun z : (Int32 × MM) => gz_kI mS X G 9 (0, 0) cX6_letter (mF z.2) z.1)) z) : gz_V mS X G 9 (0, 0) (mF m) 68 [(0, .ref (gz_ad G 2000)), (3, .int x3), (4, .long x4), (6, .int x6), (7, .long x7)] [] := by
  unfold mb_X6_letter_68 at h
  refine gz_lload (pc := 68) hX dX6_letter_68 4 rfl ?_
  refine gz_lconst (pc := 70) (v := (0 : Int64)) hX dX6_letter_70 (by decide) ?_
  refine gz_lcmp_le (pc := 71) (tgt := 89) hX dX6_letter_71 dX6_letter_72 (by decide) (fun g1 => ?_) (fun g1 => ?_)
  · replace h := gz_it' g1 h
    refine gz_iload_n (pc := 89) hX dX6_letter_89 rfl 1 rfl ?_
    refine gz_iload (pc := 90) hX dX6_letter_90 3 rfl ?_
    refine gz_icmp_lt (pc := 92) (tgt := 97) hX dX6_letter_92 (by decide) (fun g2 => ?_) (fun g2 => ?_)
    · replace h := gz_it' g2 h
      refine gz_iload (pc := 97) hX dX6_letter_97 3 rfl ?_
      refine gz_iconst (pc := 99) (v := (1 : Int32)) hX dX6_letter_99 (by decide) ?_
      refine gz_isub (pc := 100) hX dX6_letter_100 ?_
      obtain ⟨y3, ey3, h⟩ := gz_lt h
      refine gz_topi ey3 ?_
      refine gz_istore (pc := 101) (lw := [(7, .int y3), (0, .ref (gz_ad G 2000)), (3, .int x3), (4, .long x4), (6, .int x6)]) hX dX6_letter_101 (by decide) rfl ?_
      refine gz_sub (lw := [(0, .ref (gz_ad G 2000)), (3, .int x3), (4, .long x4), (7, .int y3)]) [1, 2, 3, 0] rfl ?_
      obtain ⟨z0, hm0, rfl⟩ := gz_mp h
      exact wl_X6_letter_103 hX hm0 hk
    · replace h := gz_if' g2 h
      refine gz_iconst (pc := 95) (v := (0 : Int32)) hX dX6_letter_95 (by decide) ?_
      obtain rfl := Option.some.inj h
      exact hk _ _ dX6_letter_96
  · replace h := gz_if' g1 h
    obtain ⟨y4, ey4, h⟩ := gz_lt h
    refine gz_iinc (pc := 75) (v := y4) (lw := [(6, .int y4), (0, .ref (gz_ad G 2000)), (3, .int x3), (4, .long x4), (7, .long x7)]) hX dX6_letter_75 (k := 3) rfl (by rw [ey4]; rfl) (by decide) rfl ?_
    refine gz_lload (pc := 78) hX dX6_letter_78 4 rfl ?_
    refine gz_ldc2 (pc := 80) (v := (27 : Int64)) hX q2139 dX6_letter_80 ?_
    refine gz_ldiv (pc := 83) hX dX6_letter_83 (by decide) ?_
    obtain ⟨y5, ey5, h⟩ := gz_lt h
    refine gz_topl ey5 ?_
    refine gz_lstore (pc := 84) (lw := [(7, .long y5), (6, .int y4), (0, .ref (gz_ad G 2000)), (3, .int x3), (4, .long x4)]) hX dX6_letter_84 (by decide) rfl ?_
    refine gz_goto (pc := 86) (tgt := 68) hX dX6_letter_86 (by decide) ?_
    refine gz_sub (lw := [(0, .ref (gz_ad G 2000)), (3, .int x3), (4, .long x4), (6, .int y4), (7, .long y5)]) [2, 3, 4, 1, 0] rfl ?_
    obtain rfl := Option.some.inj h
    exact hk
noncomputable def ml_X6_letter_68 (x3 : Int32) (x4 : Int64) (x6 : Int32) (x7 : Int64) (m : MM) : Option (Int32 × MM) := gz_loop (fun q : (Int32 × Int64 × Int32 × Int64 × MM) => mb_X6_letter_68 q.1 q.2.1 q.2.2.1 q.2.2.2.1 q.2.2.2.2) (x3, x4, x6, x7, m)
theorem wl_X6_letter_68 {X : gz_X} {G : gz_G} (hX : gz_C mS X G cX6_letter 9 RX6 1 25) {x3 : Int32} {x4 : Int64} {x6 : Int32} {x7 : Int64}  {m : MM} {z : (Int32 × MM)} (h : ml_X6_letter_68 x3 x4 x6 x7 m = some z) (hk : (fun z : (Int32 × MM) => gz_kI mS X G 9 (0, 0) cX6_letter (mF z.2) z.1) z) : gz_V mS X G 9 (0, 0) (mF m) 68 [(0, .ref (gz_ad G 2000)), (3, .int x3), (4, .long x4), (6, .int x6), (7, .long x7)] [] := by
  have hp : mP_X6_letter_68 X G (x3, x4, x6, x7, m) := gz_loop_ind (fun q z hz hkz => wb_X6_letter_68 hX  hz hkz) h hk
  exact hp
noncomputable def mf_letter (x1 : Int32) (x2 : Int32) (x3 : Int32) (m : MM) : Option (Int32 × MM) :=
  ((mf_isIn (x1.toInt64) (0 : Int64) (1 : Int64) m).bind fun (r1, m2) => (if r1 = (0 : Int32) then (mj_X6_letter_43  m2) else (if gz_in ((6 : Int32) + x1) (12) then ((mf_isIn (x2.toInt64) (0 : Int64) (((m2.1 1038 (gz_ix ((6 : Int32) + x1))) - (1 : Int32)).toInt64) m2).bind fun (r6, m7) => (if r6 = (0 : Int32) then (mj_X6_letter_43  m7) else ((mf_isIn (x3.toInt64) (0 : Int64) (5 : Int64) m7).bind fun (r10, m11) => (if r10 = (0 : Int32) then (mj_X6_letter_43  m11) else (if gz_in (((16 : Int32) + ((8 : Int32) * x1)) + x2) (32) then gz_let ((m11.2 1039 (gz_ix (((16 : Int32) + ((8 : Int32) * x1)) + x2)))) fun y15 => (ml_X6_letter_68 x3 y15 (0 : Int32) y15 m11) else none))))) else none)))
theorem wm_letter {X : gz_X} {G : gz_G} (hX : gz_C mS X G cX6_letter 9 RX6 1 25) {x1 : Int32} {x2 : Int32} {x3 : Int32}  {m : MM} {z : (Int32 × MM)} (h : mf_letter x1 x2 x3 m = some z) (hk : (fun z : (Int32 × MM) => gz_kI mS X G 9 (0, 0) cX6_letter (mF z.2) z.1) z) : gz_V mS X G 9 (0, 0) (mF m) 0 [(0, .ref (gz_ad G 2000)), (1, .int x1), (2, .int x2), (3, .int x3)] [] := by
  unfold mf_letter at h
  refine gz_iload_n (pc := 0) hX dX6_letter_0 rfl 1 rfl ?_
  refine gz_i2l (pc := 1) hX dX6_letter_1 ?_
  refine gz_lconst (pc := 2) (v := (0 : Int64)) hX dX6_letter_2 (by decide) ?_
  refine gz_lconst (pc := 3) (v := (1 : Int64)) hX dX6_letter_3 (by decide) ?_
  obtain ⟨⟨r1, m2⟩, c3, h⟩ := gz_bd h
  refine mc_isIn (pc := 4) hX c3 ⟨Nat.le_of_ble_eq_true rfl, Nat.le_of_ble_eq_true rfl⟩ (rest := []) rfl (Nat.le_of_ble_eq_true rfl) dX6_letter_4 ?_
  refine gz_if_eq (pc := 7) (tgt := 43) hX dX6_letter_7 (by decide) (fun g4 => ?_) (fun g4 => ?_)
  · replace h := gz_it' g4 h
    refine gz_sub (lw := [(0, .ref (gz_ad G 2000))]) [0] rfl ?_
    exact wb_X6_letter_43 hX h hk
  · replace h := gz_if' g4 h
    refine gz_iload_n (pc := 10) hX dX6_letter_10 rfl 2 rfl ?_
    refine gz_i2l (pc := 11) hX dX6_letter_11 ?_
    refine gz_lconst (pc := 12) (v := (0 : Int64)) hX dX6_letter_12 (by decide) ?_
    refine gz_aload_n (pc := 13) hX dX6_letter_13 rfl 0 rfl ?_
    refine mg_37 (pc := 14) hX dX6_letter_14 ?_
    refine gz_bipush (pc := 17) (v := (6 : Int32)) hX dX6_letter_17 (by decide) ?_
    refine gz_iload_n (pc := 19) hX dX6_letter_19 rfl 1 rfl ?_
    refine gz_iadd (pc := 20) hX dX6_letter_20 ?_
    obtain ⟨g5, h⟩ := gz_gu h
    refine mz_iald (pc := 21) (c := 1038) (n := 12) hX rfl rfl g5 dX6_letter_21 ?_
    refine gz_iconst (pc := 22) (v := (1 : Int32)) hX dX6_letter_22 (by decide) ?_
    refine gz_isub (pc := 23) hX dX6_letter_23 ?_
    refine gz_i2l (pc := 24) hX dX6_letter_24 ?_
    obtain ⟨⟨r6, m7⟩, c8, h⟩ := gz_bd h
    refine mc_isIn (pc := 25) hX c8 ⟨Nat.le_of_ble_eq_true rfl, Nat.le_of_ble_eq_true rfl⟩ (rest := []) rfl (Nat.le_of_ble_eq_true rfl) dX6_letter_25 ?_
    refine gz_if_eq (pc := 28) (tgt := 43) hX dX6_letter_28 (by decide) (fun g9 => ?_) (fun g9 => ?_)
    · replace h := gz_it' g9 h
      refine gz_sub (lw := [(0, .ref (gz_ad G 2000))]) [0] rfl ?_
      exact wb_X6_letter_43 hX h hk
    · replace h := gz_if' g9 h
      refine gz_iload_n (pc := 31) hX dX6_letter_31 rfl 3 rfl ?_
      refine gz_i2l (pc := 32) hX dX6_letter_32 ?_
      refine gz_lconst (pc := 33) (v := (0 : Int64)) hX dX6_letter_33 (by decide) ?_
      refine gz_ldc2 (pc := 34) (v := (5 : Int64)) hX q2325 dX6_letter_34 ?_
      obtain ⟨⟨r10, m11⟩, c12, h⟩ := gz_bd h
      refine mc_isIn (pc := 37) hX c12 ⟨Nat.le_of_ble_eq_true rfl, Nat.le_of_ble_eq_true rfl⟩ (rest := []) rfl (Nat.le_of_ble_eq_true rfl) dX6_letter_37 ?_
      refine gz_if_ne (pc := 40) (tgt := 45) hX dX6_letter_40 (by decide) (fun g13 => ?_) (fun g13 => ?_)
      · replace h := gz_if' g13 h
        refine gz_aload_n (pc := 45) hX dX6_letter_45 rfl 0 rfl ?_
        refine mg_38 (pc := 46) hX dX6_letter_46 ?_
        refine gz_bipush (pc := 49) (v := (16 : Int32)) hX dX6_letter_49 (by decide) ?_
        refine gz_bipush (pc := 51) (v := (8 : Int32)) hX dX6_letter_51 (by decide) ?_
        refine gz_iload_n (pc := 53) hX dX6_letter_53 rfl 1 rfl ?_
        refine gz_imul (pc := 54) hX dX6_letter_54 ?_
        refine gz_iadd (pc := 55) hX dX6_letter_55 ?_
        refine gz_iload_n (pc := 56) hX dX6_letter_56 rfl 2 rfl ?_
        refine gz_iadd (pc := 57) hX dX6_letter_57 ?_
        obtain ⟨g14, h⟩ := gz_gu h
        refine mz_lald (pc := 58) (c := 1039) (n := 32) hX rfl rfl g14 dX6_letter_58 ?_
        obtain ⟨y15, ey15, h⟩ := gz_lt h
        refine gz_topl ey15 ?_
        refine gz_lstore (pc := 59) (lw := [(4, .long y15), (0, .ref (gz_ad G 2000)), (1, .int x1), (2, .int x2), (3, .int x3)]) hX dX6_letter_59 (by decide) rfl ?_
        refine gz_iconst (pc := 61) (v := (0 : Int32)) hX dX6_letter_61 (by decide) ?_
        refine gz_istore (pc := 62) (lw := [(6, .int (0 : Int32)), (4, .long y15), (0, .ref (gz_ad G 2000)), (1, .int x1), (2, .int x2), (3, .int x3)]) hX dX6_letter_62 (by decide) rfl ?_
        refine gz_lload (pc := 64) hX dX6_letter_64 1 rfl ?_
        refine gz_lstore (pc := 66) (lw := [(7, .long y15), (6, .int (0 : Int32)), (4, .long y15), (0, .ref (gz_ad G 2000)), (1, .int x1), (2, .int x2), (3, .int x3)]) hX dX6_letter_66 (by decide) rfl ?_
        refine gz_sub (lw := [(0, .ref (gz_ad G 2000)), (3, .int x3), (4, .long y15), (6, .int (0 : Int32)), (7, .long y15)]) [3, 6, 2, 1, 0] rfl ?_
        exact wl_X6_letter_68 hX h hk
      · replace h := gz_it' g13 h
        refine gz_sub (lw := [(0, .ref (gz_ad G 2000))]) [0] rfl ?_
        exact wb_X6_letter_43 hX h hk
theorem mt_letter {G : gz_G} {l : Launch} {x1 : Int32} {x2 : Int32} {x3 : Int32}  {m m9 : MM} {r : Int32} (h : mf_letter x1 x2 x3 m = some (r, m9)) : gz_Met mS G l yX6_letter cX6_letter 9 (some .int) (mRm 1 25) [.ref (gz_ad G 2000), .int x1, .int x2, .int x3] (mF m) (mF m9) (some (.int r)) :=
  gz_ofI (plainFor_of_name mz_plain) (Nat.le_of_ble_eq_true rfl) fun X _ hX hk => wm_letter hX h hk
/-! isThing(J)Z -/
noncomputable def mf_isThing (x1 : Int64) (m : MM) : Option (Int32 × MM) :=
  ((mf_thingMany m).bind fun (r1, m2) => ((mf_isIn x1 (0 : Int64) ((r1 - (1 : Int32)).toInt64) m2).bind fun (r4, m5) => (if r4 = 0 ∨ r4 = 1 then some (r4, m5) else none)))
theorem wm_isThing {X : gz_X} {G : gz_G} (hX : gz_C mS X G cX6_isThing 3 RX6 1 25) {x1 : Int64}  {m : MM} {z : (Int32 × MM)} (h : mf_isThing x1 m = some z) (hk : (fun z : (Int32 × MM) => gz_kZ mS X G 3 (0, 0) cX6_isThing (mF z.2) z.1) z) : gz_V mS X G 3 (0, 0) (mF m) 0 [(0, .ref (gz_ad G 2000)), (1, .long x1)] [] := by
  unfold mf_isThing at h
  refine gz_lload_n (pc := 0) hX dX6_isThing_0 rfl 1 rfl ?_
  refine gz_lconst (pc := 1) (v := (0 : Int64)) hX dX6_isThing_1 (by decide) ?_
  refine gz_aload_n (pc := 2) hX dX6_isThing_2 rfl 0 rfl ?_
  obtain ⟨⟨r1, m2⟩, c3, h⟩ := gz_bd h
  refine mc_thingMany (pc := 3) hX c3 ⟨Nat.le_of_ble_eq_true rfl, Nat.le_of_ble_eq_true rfl⟩ (rest := [.long (0 : Int64), .long x1]) rfl (Nat.le_of_ble_eq_true rfl) dX6_isThing_3 ?_
  refine gz_iconst (pc := 6) (v := (1 : Int32)) hX dX6_isThing_6 (by decide) ?_
  refine gz_isub (pc := 7) hX dX6_isThing_7 ?_
  refine gz_i2l (pc := 8) hX dX6_isThing_8 ?_
  obtain ⟨⟨r4, m5⟩, c6, h⟩ := gz_bd h
  refine mc_isIn (pc := 9) hX c6 ⟨Nat.le_of_ble_eq_true rfl, Nat.le_of_ble_eq_true rfl⟩ (rest := []) rfl (Nat.le_of_ble_eq_true rfl) dX6_isThing_9 ?_
  obtain ⟨g7, h⟩ := gz_gu h
  obtain rfl := Option.some.inj h
  exact hk _ _ dX6_isThing_12 g7
theorem mt_isThing {G : gz_G} {l : Launch} {x1 : Int64}  {m m9 : MM} {r : Int32} (h : mf_isThing x1 m = some (r, m9)) : gz_Met mS G l yX6_isThing cX6_isThing 3 (some .boolean) (mRm 1 25) [.ref (gz_ad G 2000), .long x1] (mF m) (mF m9) (some (.int r)) :=
  gz_ofZ (plainFor_of_name mz_plain) (Nat.le_of_ble_eq_true rfl) fun X _ hX hk => wm_isThing hX h hk
theorem mc_isThing {X : gz_X} {G : gz_G} {cc : ByteArray} {nL fr lo pc : Nat} {lv : List (Nat × Value)} {rest st0 : List Value} (hX : gz_C mS X G cc nL RX6 fr lo) {x1 : Int64}  {m m9 : MM} {r : Int32} (h : mf_isThing x1 m = some (r, m9)) (hroom : 1 + 1 ≤ fr ∧ 8 + (3 + 11) + 25 ≤ lo) (hst : st0 = [.long x1, .ref (gz_ad G 2000)] ++ rest) (hW : (rest.map fun v => v.category).sum ≤ 8) (hd : decode cc pc = .ok (.invokevirtual 494, 3)) (kk : gz_V mS X G nL (0, 0) (mF m9) (pc + 3) lv (.int r :: rest)) : gz_V mS X G nL (0, 0) (mF m) pc lv st0 :=
  gz_callV hX mz_E (As := [.long x1]) (rest := rest) (q := (RX6, TX6, 104)) (ci := 0) (c := 2000) (mt_isThing (l := X.2.1) h) (lw_V q2330 q2332 qs118 q182 q2333) (n := 1) (by decide +kernel) hroom rfl rfl (by decide) rfl hst hW hd (rem := (0, 0)) kk
/-! hallOf(I)I -/
noncomputable def mf_hallOf (x1 : Int32) (m : MM) : Option (Int32 × MM) :=
  (if gz_in ((16 : Int32) + ((2 : Int32) * x1)) (32) then some ((m.1 1041 (gz_ix ((16 : Int32) + ((2 : Int32) * x1)))), m) else none)
theorem wm_hallOf {X : gz_X} {G : gz_G} (hX : gz_C mS X G cX6_hallOf 2 RX6 0 0) {x1 : Int32}  {m : MM} {z : (Int32 × MM)} (h : mf_hallOf x1 m = some z) (hk : (fun z : (Int32 × MM) => gz_kI mS X G 2 (0, 0) cX6_hallOf (mF z.2) z.1) z) : gz_V mS X G 2 (0, 0) (mF m) 0 [(0, .ref (gz_ad G 2000)), (1, .int x1)] [] := by
  unfold mf_hallOf at h
  refine gz_aload_n (pc := 0) hX dX6_hallOf_0 rfl 0 rfl ?_
  refine mg_40 (pc := 1) hX dX6_hallOf_1 ?_
  refine gz_bipush (pc := 4) (v := (16 : Int32)) hX dX6_hallOf_4 (by decide) ?_
  refine gz_iconst (pc := 6) (v := (2 : Int32)) hX dX6_hallOf_6 (by decide) ?_
  refine gz_iload_n (pc := 7) hX dX6_hallOf_7 rfl 1 rfl ?_
  refine gz_imul (pc := 8) hX dX6_hallOf_8 ?_
  refine gz_iadd (pc := 9) hX dX6_hallOf_9 ?_
  obtain ⟨g1, h⟩ := gz_gu h
  refine mz_iald (pc := 10) (c := 1041) (n := 32) hX rfl rfl g1 dX6_hallOf_10 ?_
  obtain rfl := Option.some.inj h
  exact hk _ _ dX6_hallOf_11
theorem mt_hallOf {G : gz_G} {l : Launch} {x1 : Int32}  {m m9 : MM} {r : Int32} (h : mf_hallOf x1 m = some (r, m9)) : gz_Met mS G l yX6_hallOf cX6_hallOf 2 (some .int) (mRm 0 0) [.ref (gz_ad G 2000), .int x1] (mF m) (mF m9) (some (.int r)) :=
  gz_ofI (plainFor_of_name mz_plain) (Nat.le_of_ble_eq_true rfl) fun X _ hX hk => wm_hallOf hX h hk
theorem mc_hallOf {X : gz_X} {G : gz_G} {cc : ByteArray} {nL fr lo pc : Nat} {lv : List (Nat × Value)} {rest st0 : List Value} (hX : gz_C mS X G cc nL RX6 fr lo) {x1 : Int32}  {m m9 : MM} {r : Int32} (h : mf_hallOf x1 m = some (r, m9)) (hroom : 0 + 1 ≤ fr ∧ 8 + (2 + 11) + 0 ≤ lo) (hst : st0 = [.int x1, .ref (gz_ad G 2000)] ++ rest) (hW : (rest.map fun v => v.category).sum ≤ 8) (hd : decode cc pc = .ok (.invokevirtual 419, 3)) (kk : gz_V mS X G nL (0, 0) (mF m9) (pc + 3) lv (.int r :: rest)) : gz_V mS X G nL (0, 0) (mF m) pc lv st0 :=
  gz_callV hX mz_E (As := [.int x1]) (rest := rest) (q := (RX6, TX6, 104)) (ci := 0) (c := 2000) (mt_hallOf (l := X.2.1) h) (lw_V q2334 q2336 qs119 q182 q2337) (n := 1) (by decide +kernel) hroom rfl rfl (by decide) rfl hst hW hd (rem := (0, 0)) kk
/-! heatOf(I)I -/
noncomputable def mf_heatOf (x1 : Int32) (m : MM) : Option (Int32 × MM) :=
  (if x1 = (m.1 2000 52) then some ((m.1 2000 53), m) else (if gz_in ((17 : Int32) + ((2 : Int32) * x1)) (32) then some ((m.1 1041 (gz_ix ((17 : Int32) + ((2 : Int32) * x1)))), m) else none))
theorem wm_heatOf {X : gz_X} {G : gz_G} (hX : gz_C mS X G cX6_heatOf 2 RX6 0 0) {x1 : Int32}  {m : MM} {z : (Int32 × MM)} (h : mf_heatOf x1 m = some z) (hk : (fun z : (Int32 × MM) => gz_kI mS X G 2 (0, 0) cX6_heatOf (mF z.2) z.1) z) : gz_V mS X G 2 (0, 0) (mF m) 0 [(0, .ref (gz_ad G 2000)), (1, .int x1)] [] := by
  unfold mf_heatOf at h
  refine gz_iload_n (pc := 0) hX dX6_heatOf_0 rfl 1 rfl ?_
  refine gz_aload_n (pc := 1) hX dX6_heatOf_1 rfl 0 rfl ?_
  refine mg_52 (pc := 2) hX dX6_heatOf_2 ?_
  refine gz_icmp_ne (pc := 5) (tgt := 15) hX dX6_heatOf_5 (by decide) (fun g1 => ?_) (fun g1 => ?_)
  · replace h := gz_if' g1 h
    refine gz_aload_n (pc := 15) hX dX6_heatOf_15 rfl 0 rfl ?_
    refine mg_40 (pc := 16) hX dX6_heatOf_16 ?_
    refine gz_bipush (pc := 19) (v := (17 : Int32)) hX dX6_heatOf_19 (by decide) ?_
    refine gz_iconst (pc := 21) (v := (2 : Int32)) hX dX6_heatOf_21 (by decide) ?_
    refine gz_iload_n (pc := 22) hX dX6_heatOf_22 rfl 1 rfl ?_
    refine gz_imul (pc := 23) hX dX6_heatOf_23 ?_
    refine gz_iadd (pc := 24) hX dX6_heatOf_24 ?_
    obtain ⟨g2, h⟩ := gz_gu h
    refine mz_iald (pc := 25) (c := 1041) (n := 32) hX rfl rfl g2 dX6_heatOf_25 ?_
    obtain rfl := Option.some.inj h
    exact hk _ _ dX6_heatOf_26
  · replace h := gz_it' g1 h
    refine gz_aload_n (pc := 8) hX dX6_heatOf_8 rfl 0 rfl ?_
    refine mg_53 (pc := 9) hX dX6_heatOf_9 ?_
    refine gz_goto (pc := 12) (tgt := 26) hX dX6_heatOf_12 (by decide) ?_
    obtain rfl := Option.some.inj h
    exact hk _ _ dX6_heatOf_26
theorem mt_heatOf {G : gz_G} {l : Launch} {x1 : Int32}  {m m9 : MM} {r : Int32} (h : mf_heatOf x1 m = some (r, m9)) : gz_Met mS G l yX6_heatOf cX6_heatOf 2 (some .int) (mRm 0 0) [.ref (gz_ad G 2000), .int x1] (mF m) (mF m9) (some (.int r)) :=
  gz_ofI (plainFor_of_name mz_plain) (Nat.le_of_ble_eq_true rfl) fun X _ hX hk => wm_heatOf hX h hk
theorem mc_heatOf {X : gz_X} {G : gz_G} {cc : ByteArray} {nL fr lo pc : Nat} {lv : List (Nat × Value)} {rest st0 : List Value} (hX : gz_C mS X G cc nL RX6 fr lo) {x1 : Int32}  {m m9 : MM} {r : Int32} (h : mf_heatOf x1 m = some (r, m9)) (hroom : 0 + 1 ≤ fr ∧ 8 + (2 + 11) + 0 ≤ lo) (hst : st0 = [.int x1, .ref (gz_ad G 2000)] ++ rest) (hW : (rest.map fun v => v.category).sum ≤ 8) (hd : decode cc pc = .ok (.invokevirtual 498, 3)) (kk : gz_V mS X G nL (0, 0) (mF m9) (pc + 3) lv (.int r :: rest)) : gz_V mS X G nL (0, 0) (mF m) pc lv st0 :=
  gz_callV hX mz_E (As := [.int x1]) (rest := rest) (q := (RX6, TX6, 104)) (ci := 0) (c := 2000) (mt_heatOf (l := X.2.1) h) (lw_V q2338 q2340 qs120 q182 q2341) (n := 1) (by decide +kernel) hroom rfl rfl (by decide) rfl hst hW hd (rem := (0, 0)) kk
/-! smellOf(I)I -/
noncomputable def mf_smellOf (x1 : Int32) (m : MM) : Option (Int32 × MM) :=
  (if gz_in ((15 : Int32) + ((2 : Int32) * x1)) (151) then some ((m.1 1051 (gz_ix ((15 : Int32) + ((2 : Int32) * x1)))), m) else none)
theorem wm_smellOf {X : gz_X} {G : gz_G} (hX : gz_C mS X G cX6_smellOf 2 RX6 0 0) {x1 : Int32}  {m : MM} {z : (Int32 × MM)} (h : mf_smellOf x1 m = some z) (hk : (fun z : (Int32 × MM) => gz_kI mS X G 2 (0, 0) cX6_smellOf (mF z.2) z.1) z) : gz_V mS X G 2 (0, 0) (mF m) 0 [(0, .ref (gz_ad G 2000)), (1, .int x1)] [] := by
  unfold mf_smellOf at h
  refine gz_aload_n (pc := 0) hX dX6_smellOf_0 rfl 0 rfl ?_
  refine mg_50 (pc := 1) hX dX6_smellOf_1 ?_
  refine gz_bipush (pc := 4) (v := (15 : Int32)) hX dX6_smellOf_4 (by decide) ?_
  refine gz_iconst (pc := 6) (v := (2 : Int32)) hX dX6_smellOf_6 (by decide) ?_
  refine gz_iload_n (pc := 7) hX dX6_smellOf_7 rfl 1 rfl ?_
  refine gz_imul (pc := 8) hX dX6_smellOf_8 ?_
  refine gz_iadd (pc := 9) hX dX6_smellOf_9 ?_
  obtain ⟨g1, h⟩ := gz_gu h
  refine mz_iald (pc := 10) (c := 1051) (n := 151) hX rfl rfl g1 dX6_smellOf_10 ?_
  obtain rfl := Option.some.inj h
  exact hk _ _ dX6_smellOf_11
theorem mt_smellOf {G : gz_G} {l : Launch} {x1 : Int32}  {m m9 : MM} {r : Int32} (h : mf_smellOf x1 m = some (r, m9)) : gz_Met mS G l yX6_smellOf cX6_smellOf 2 (some .int) (mRm 0 0) [.ref (gz_ad G 2000), .int x1] (mF m) (mF m9) (some (.int r)) :=
  gz_ofI (plainFor_of_name mz_plain) (Nat.le_of_ble_eq_true rfl) fun X _ hX hk => wm_smellOf hX h hk
theorem mc_smellOf {X : gz_X} {G : gz_G} {cc : ByteArray} {nL fr lo pc : Nat} {lv : List (Nat × Value)} {rest st0 : List Value} (hX : gz_C mS X G cc nL RX6 fr lo) {x1 : Int32}  {m m9 : MM} {r : Int32} (h : mf_smellOf x1 m = some (r, m9)) (hroom : 0 + 1 ≤ fr ∧ 8 + (2 + 11) + 0 ≤ lo) (hst : st0 = [.int x1, .ref (gz_ad G 2000)] ++ rest) (hW : (rest.map fun v => v.category).sum ≤ 8) (hd : decode cc pc = .ok (.invokevirtual 468, 3)) (kk : gz_V mS X G nL (0, 0) (mF m9) (pc + 3) lv (.int r :: rest)) : gz_V mS X G nL (0, 0) (mF m) pc lv st0 :=
  gz_callV hX mz_E (As := [.int x1]) (rest := rest) (q := (RX6, TX6, 104)) (ci := 0) (c := 2000) (mt_smellOf (l := X.2.1) h) (lw_V q2342 q2344 qs121 q182 q2345) (n := 1) (by decide +kernel) hroom rfl rfl (by decide) rfl hst hW hd (rem := (0, 0)) kk
/-! isTold(I)Z -/
noncomputable def mf_isTold (x1 : Int32) (m : MM) : Option (Int32 × MM) :=
  (if gz_in ((2 : Int32) + x1) (4) then (if (m.1 1044 (gz_ix ((2 : Int32) + x1))) = (-1 : Int32) then some ((0 : Int32), m) else some ((1 : Int32), m)) else none)
theorem wm_isTold {X : gz_X} {G : gz_G} (hX : gz_C mS X G cX6_isTold 2 RX6 0 0) {x1 : Int32}  {m : MM} {z : (Int32 × MM)} (h : mf_isTold x1 m = some z) (hk : (fun z : (Int32 × MM) => gz_kZ mS X G 2 (0, 0) cX6_isTold (mF z.2) z.1) z) : gz_V mS X G 2 (0, 0) (mF m) 0 [(0, .ref (gz_ad G 2000)), (1, .int x1)] [] := by
  unfold mf_isTold at h
  refine gz_aload_n (pc := 0) hX dX6_isTold_0 rfl 0 rfl ?_
  refine mg_43 (pc := 1) hX dX6_isTold_1 ?_
  refine gz_iconst (pc := 4) (v := (2 : Int32)) hX dX6_isTold_4 (by decide) ?_
  refine gz_iload_n (pc := 5) hX dX6_isTold_5 rfl 1 rfl ?_
  refine gz_iadd (pc := 6) hX dX6_isTold_6 ?_
  obtain ⟨g1, h⟩ := gz_gu h
  refine mz_iald (pc := 7) (c := 1044) (n := 4) hX rfl rfl g1 dX6_isTold_7 ?_
  refine gz_iconst (pc := 8) (v := (-1 : Int32)) hX dX6_isTold_8 (by decide) ?_
  refine gz_icmp_eq (pc := 9) (tgt := 16) hX dX6_isTold_9 (by decide) (fun g2 => ?_) (fun g2 => ?_)
  · replace h := gz_it' g2 h
    refine gz_iconst (pc := 16) (v := (0 : Int32)) hX dX6_isTold_16 (by decide) ?_
    obtain rfl := Option.some.inj h
    exact hk _ _ dX6_isTold_17 (Or.inl rfl)
  · replace h := gz_if' g2 h
    refine gz_iconst (pc := 12) (v := (1 : Int32)) hX dX6_isTold_12 (by decide) ?_
    refine gz_goto (pc := 13) (tgt := 17) hX dX6_isTold_13 (by decide) ?_
    obtain rfl := Option.some.inj h
    exact hk _ _ dX6_isTold_17 (Or.inr rfl)
theorem mt_isTold {G : gz_G} {l : Launch} {x1 : Int32}  {m m9 : MM} {r : Int32} (h : mf_isTold x1 m = some (r, m9)) : gz_Met mS G l yX6_isTold cX6_isTold 2 (some .boolean) (mRm 0 0) [.ref (gz_ad G 2000), .int x1] (mF m) (mF m9) (some (.int r)) :=
  gz_ofZ (plainFor_of_name mz_plain) (Nat.le_of_ble_eq_true rfl) fun X _ hX hk => wm_isTold hX h hk
theorem mc_isTold {X : gz_X} {G : gz_G} {cc : ByteArray} {nL fr lo pc : Nat} {lv : List (Nat × Value)} {rest st0 : List Value} (hX : gz_C mS X G cc nL RX6 fr lo) {x1 : Int32}  {m m9 : MM} {r : Int32} (h : mf_isTold x1 m = some (r, m9)) (hroom : 0 + 1 ≤ fr ∧ 8 + (2 + 11) + 0 ≤ lo) (hst : st0 = [.int x1, .ref (gz_ad G 2000)] ++ rest) (hW : (rest.map fun v => v.category).sum ≤ 8) (hd : decode cc pc = .ok (.invokevirtual 451, 3)) (kk : gz_V mS X G nL (0, 0) (mF m9) (pc + 3) lv (.int r :: rest)) : gz_V mS X G nL (0, 0) (mF m) pc lv st0 :=
  gz_callV hX mz_E (As := [.int x1]) (rest := rest) (q := (RX6, TX6, 104)) (ci := 0) (c := 2000) (mt_isTold (l := X.2.1) h) (lw_V q2350 q2352 qs123 q182 q2353) (n := 1) (by decide +kernel) hroom rfl rfl (by decide) rfl hst hW hd (rem := (0, 0)) kk
/-! qPuts(J)V -/
noncomputable def mf_qPuts (x1 : Int64) (m : MM) : Option (Unit × MM) :=
  (if gz_in (m.1 2000 99) (1700) then gz_let (msL m 1099 (gz_ix (m.1 2000 99)) x1) fun m2 => gz_let (msI m2 2000 99 ((m2.1 2000 99) + (1 : Int32))) fun m3 => some ((), m3) else none)
theorem wm_qPuts {X : gz_X} {G : gz_G} (hX : gz_C mS X G cX6_qPuts 3 RX6 0 0) {x1 : Int64}  {m : MM} {z : (Unit × MM)} (h : mf_qPuts x1 m = some z) (hk : (fun z : (Unit × MM) => gz_kV mS X G 3 (0, 0) cX6_qPuts (mF z.2)) z) : gz_V mS X G 3 (0, 0) (mF m) 0 [(0, .ref (gz_ad G 2000)), (1, .long x1)] [] := by
  unfold mf_qPuts at h
  refine gz_aload_n (pc := 0) hX dX6_qPuts_0 rfl 0 rfl ?_
  refine mg_98 (pc := 1) hX dX6_qPuts_1 ?_
  refine gz_aload_n (pc := 4) hX dX6_qPuts_4 rfl 0 rfl ?_
  refine mg_99 (pc := 5) hX dX6_qPuts_5 ?_
  refine gz_lload_n (pc := 8) hX dX6_qPuts_8 rfl 1 rfl ?_
  obtain ⟨g1, h⟩ := gz_gu h
  obtain ⟨m2, em2, h⟩ := gz_lt h
  refine mz_last (pc := 9) (c := 1099) (n := 1700) hX rfl rfl g1 (Nat.le_of_ble_eq_true rfl) dX6_qPuts_9 em2 ?_
  refine gz_aload_n (pc := 10) hX dX6_qPuts_10 rfl 0 rfl ?_
  refine gz_dup (pc := 11) hX dX6_qPuts_11 rfl ?_
  refine mg_99 (pc := 12) hX dX6_qPuts_12 ?_
  refine gz_iconst (pc := 15) (v := (1 : Int32)) hX dX6_qPuts_15 (by decide) ?_
  refine gz_iadd (pc := 16) hX dX6_qPuts_16 ?_
  obtain ⟨m3, em3, h⟩ := gz_lt h
  refine mp_99 (pc := 17) hX dX6_qPuts_17 em3 ?_
  obtain rfl := Option.some.inj h
  exact hk _ _ dX6_qPuts_20
theorem mt_qPuts {G : gz_G} {l : Launch} {x1 : Int64}  {m m9 : MM} (h : mf_qPuts x1 m = some ((), m9)) : gz_Met mS G l yX6_qPuts cX6_qPuts 3 none (mRm 0 0) [.ref (gz_ad G 2000), .long x1] (mF m) (mF m9) none :=
  gz_ofV (plainFor_of_name mz_plain) (Nat.le_of_ble_eq_true rfl) fun X _ hX hk => wm_qPuts hX h hk
theorem mc_qPuts {X : gz_X} {G : gz_G} {cc : ByteArray} {nL fr lo pc : Nat} {lv : List (Nat × Value)} {rest st0 : List Value} (hX : gz_C mS X G cc nL RX6 fr lo) {x1 : Int64}  {m m9 : MM} (h : mf_qPuts x1 m = some ((), m9)) (hroom : 0 + 1 ≤ fr ∧ 8 + (3 + 11) + 0 ≤ lo) (hst : st0 = [.long x1, .ref (gz_ad G 2000)] ++ rest) (hW : (rest.map fun v => v.category).sum ≤ 8) (hd : decode cc pc = .ok (.invokevirtual 440, 3)) (kk : gz_V mS X G nL (0, 0) (mF m9) (pc + 3) lv (rest)) : gz_V mS X G nL (0, 0) (mF m) pc lv st0 :=
  gz_callV hX mz_E (As := [.long x1]) (rest := rest) (q := (RX6, TX6, 104)) (ci := 0) (c := 2000) (mt_qPuts (l := X.2.1) h) (lw_V q2358 q2360 qs125 q182 q2361) (n := 1) (by decide +kernel) hroom rfl rfl (by decide) rfl hst hW hd (rem := (0, 0)) kk
/-! nearTo(I)I -/
def mP_X6_nearTo_4 (X : gz_X) (G : gz_G) (q : (Int32 × Int32 × Int32 × MM)) : Prop := gz_V mS X G 4 (0, 0) (mF q.2.2.2) 4 [(0, .ref (gz_ad G 2000)), (1, .int q.1), (2, .int q.2.1), (3, .int q.2.2.1)] []
noncomputable def mj_X6_nearTo_41 (x1 : Int32) (x2 : Int32) (x3 : Int32) (m : MM) : Option ((Int32 × Int32 × Int32 × MM) ⊕ (Int32 × MM)) :=
  gz_let (x3 + (1 : Int32)) fun y1 => some (Sum.inl (x1, x2, y1, m))
theorem wb_X6_nearTo_41 {X : gz_X} {G : gz_G} (hX : gz_C mS X G cX6_nearTo 4 RX6 2 42) {x1 : Int32} {x2 : Int32} {x3 : Int32}  {m : MM} {z : ((Int32 × Int32 × Int32 × MM) ⊕ (Int32 × MM))} (h : mj_X6_nearTo_41 x1 x2 x3 m = some z) (hk : (Sum.elim (mP_X6_nearTo_4 X G) (fun z : (Int32 × MM) => gz_kI mS X G 4 (0, 0) cX6_nearTo (mF z.2) z.1)) z) : gz_V mS X G 4 (0, 0) (mF m) 41 [(0, .ref (gz_ad G 2000)), (1, .int x1), (2, .int x2), (3, .int x3)] [] := by
  unfold mj_X6_nearTo_41 at h
  obtain ⟨y1, ey1, h⟩ := gz_lt h
  refine gz_iinc (pc := 41) (v := y1) (lw := [(3, .int y1), (0, .ref (gz_ad G 2000)), (1, .int x1), (2, .int x2)]) hX dX6_nearTo_41 (k := 3) rfl (by rw [ey1]; rfl) (by decide) rfl ?_
  refine gz_goto (pc := 44) (tgt := 4) hX dX6_nearTo_44 (by decide) ?_
  refine gz_sub (lw := [(0, .ref (gz_ad G 2000)), (1, .int x1), (2, .int x2), (3, .int y1)]) [1, 2, 3, 0] rfl ?_
  obtain rfl := Option.some.inj h
  exact hk
noncomputable def mb_X6_nearTo_4 (x1 : Int32) (x2 : Int32) (x3 : Int32) (m : MM) : Option ((Int32 × Int32 × Int32 × MM) ⊕ (Int32 × MM)) :=
  ((mf_thingMany m).bind fun (r1, m2) => (if r1 ≤ x3 then some (Sum.inr (x2, m2)) else (if x3 = x1 then (mj_X6_nearTo_41 x1 x2 x3 m2) else ((mf_doesBurn x3 m2).bind fun (r6, m7) => (if r6 = (0 : Int32) then (mj_X6_nearTo_41 x1 x2 x3 m7) else ((mf_hallOf x3 m7).bind fun (r10, m11) => ((mf_hallOf x1 m11).bind fun (r13, m14) => (if r10 = r13 then gz_let (x2 + (1 : Int32)) fun y17 => (mj_X6_nearTo_41 x1 y17 x3 m14) else (mj_X6_nearTo_41 x1 x2 x3 m14)))))))))
theorem wb_X6_nearTo_4 {X : gz_X} {G : gz_G} (hX : gz_C mS X G cX6_nearTo 4 RX6 2 42) {x1 : Int32} {x2 : Int32} {x3 : Int32}  {m : MM} {z : ((Int32 × Int32 × Int32 × MM) ⊕ (Int32 × MM))} (h : mb_X6_nearTo_4 x1 x2 x3 m = some z) (hk : (Sum.elim (mP_X6_nearTo_4 X G) (fun z : (Int32 × MM) => gz_kI mS X G 4 (0, 0) cX6_nearTo (mF z.2) z.1)) z) : gz_V mS X G 4 (0, 0) (mF m) 4 [(0, .ref (gz_ad G 2000)), (1, .int x1), (2, .int x2), (3, .int x3)] [] := by
  unfold mb_X6_nearTo_4 at h
  refine gz_iload_n (pc := 4) hX dX6_nearTo_4 rfl 3 rfl ?_
  refine gz_aload_n (pc := 5) hX dX6_nearTo_5 rfl 0 rfl ?_
  obtain ⟨⟨r1, m2⟩, c3, h⟩ := gz_bd h
  refine mc_thingMany (pc := 6) hX c3 ⟨Nat.le_of_ble_eq_true rfl, Nat.le_of_ble_eq_true rfl⟩ (rest := [.int x3]) rfl (Nat.le_of_ble_eq_true rfl) dX6_nearTo_6 ?_
  refine gz_icmp_ge (pc := 9) (tgt := 47) hX dX6_nearTo_9 (by decide) (fun g4 => ?_) (fun g4 => ?_)
  · replace h := gz_it' g4 h
    refine gz_iload_n (pc := 47) hX dX6_nearTo_47 rfl 2 rfl ?_
    obtain rfl := Option.some.inj h
    exact hk _ _ dX6_nearTo_48
  · replace h := gz_if' g4 h
    refine gz_iload_n (pc := 12) hX dX6_nearTo_12 rfl 3 rfl ?_
    refine gz_iload_n (pc := 13) hX dX6_nearTo_13 rfl 1 rfl ?_
    refine gz_icmp_eq (pc := 14) (tgt := 41) hX dX6_nearTo_14 (by decide) (fun g5 => ?_) (fun g5 => ?_)
    · replace h := gz_it' g5 h
      exact wb_X6_nearTo_41 hX h hk
    · replace h := gz_if' g5 h
      refine gz_aload_n (pc := 17) hX dX6_nearTo_17 rfl 0 rfl ?_
      refine gz_iload_n (pc := 18) hX dX6_nearTo_18 rfl 3 rfl ?_
      obtain ⟨⟨r6, m7⟩, c8, h⟩ := gz_bd h
      refine mc_doesBurn (pc := 19) hX c8 ⟨Nat.le_of_ble_eq_true rfl, Nat.le_of_ble_eq_true rfl⟩ (rest := []) rfl (Nat.le_of_ble_eq_true rfl) dX6_nearTo_19 ?_
      refine gz_if_eq (pc := 22) (tgt := 41) hX dX6_nearTo_22 (by decide) (fun g9 => ?_) (fun g9 => ?_)
      · replace h := gz_it' g9 h
        exact wb_X6_nearTo_41 hX h hk
      · replace h := gz_if' g9 h
        refine gz_aload_n (pc := 25) hX dX6_nearTo_25 rfl 0 rfl ?_
        refine gz_iload_n (pc := 26) hX dX6_nearTo_26 rfl 3 rfl ?_
        obtain ⟨⟨r10, m11⟩, c12, h⟩ := gz_bd h
        refine mc_hallOf (pc := 27) hX c12 ⟨Nat.le_of_ble_eq_true rfl, Nat.le_of_ble_eq_true rfl⟩ (rest := []) rfl (Nat.le_of_ble_eq_true rfl) dX6_nearTo_27 ?_
        refine gz_aload_n (pc := 30) hX dX6_nearTo_30 rfl 0 rfl ?_
        refine gz_iload_n (pc := 31) hX dX6_nearTo_31 rfl 1 rfl ?_
        obtain ⟨⟨r13, m14⟩, c15, h⟩ := gz_bd h
        refine mc_hallOf (pc := 32) hX c15 ⟨Nat.le_of_ble_eq_true rfl, Nat.le_of_ble_eq_true rfl⟩ (rest := [.int r10]) rfl (Nat.le_of_ble_eq_true rfl) dX6_nearTo_32 ?_
        refine gz_icmp_ne (pc := 35) (tgt := 41) hX dX6_nearTo_35 (by decide) (fun g16 => ?_) (fun g16 => ?_)
        · replace h := gz_if' g16 h
          exact wb_X6_nearTo_41 hX h hk
        · replace h := gz_it' g16 h
          obtain ⟨y17, ey17, h⟩ := gz_lt h
          refine gz_iinc (pc := 38) (v := y17) (lw := [(2, .int y17), (0, .ref (gz_ad G 2000)), (1, .int x1), (3, .int x3)]) hX dX6_nearTo_38 (k := 2) rfl (by rw [ey17]; rfl) (by decide) rfl ?_
          refine gz_sub (lw := [(0, .ref (gz_ad G 2000)), (1, .int x1), (2, .int y17), (3, .int x3)]) [1, 2, 0, 3] rfl ?_
          exact wb_X6_nearTo_41 hX h hk
noncomputable def ml_X6_nearTo_4 (x1 : Int32) (x2 : Int32) (x3 : Int32) (m : MM) : Option (Int32 × MM) := gz_loop (fun q : (Int32 × Int32 × Int32 × MM) => mb_X6_nearTo_4 q.1 q.2.1 q.2.2.1 q.2.2.2) (x1, x2, x3, m)
theorem wl_X6_nearTo_4 {X : gz_X} {G : gz_G} (hX : gz_C mS X G cX6_nearTo 4 RX6 2 42) {x1 : Int32} {x2 : Int32} {x3 : Int32}  {m : MM} {z : (Int32 × MM)} (h : ml_X6_nearTo_4 x1 x2 x3 m = some z) (hk : (fun z : (Int32 × MM) => gz_kI mS X G 4 (0, 0) cX6_nearTo (mF z.2) z.1) z) : gz_V mS X G 4 (0, 0) (mF m) 4 [(0, .ref (gz_ad G 2000)), (1, .int x1), (2, .int x2), (3, .int x3)] [] := by
  have hp : mP_X6_nearTo_4 X G (x1, x2, x3, m) := gz_loop_ind (fun q z hz hkz => wb_X6_nearTo_4 hX  hz hkz) h hk
  exact hp
noncomputable def mf_nearTo (x1 : Int32) (m : MM) : Option (Int32 × MM) :=
  (ml_X6_nearTo_4 x1 (0 : Int32) (0 : Int32) m)
theorem wm_nearTo {X : gz_X} {G : gz_G} (hX : gz_C mS X G cX6_nearTo 4 RX6 2 42) {x1 : Int32}  {m : MM} {z : (Int32 × MM)} (h : mf_nearTo x1 m = some z) (hk : (fun z : (Int32 × MM) => gz_kI mS X G 4 (0, 0) cX6_nearTo (mF z.2) z.1) z) : gz_V mS X G 4 (0, 0) (mF m) 0 [(0, .ref (gz_ad G 2000)), (1, .int x1)] [] := by
  unfold mf_nearTo at h
  refine gz_iconst (pc := 0) (v := (0 : Int32)) hX dX6_nearTo_0 (by decide) ?_
  refine gz_istore_n (pc := 1) (lw := [(2, .int (0 : Int32)), (0, .ref (gz_ad G 2000)), (1, .int x1)]) hX dX6_nearTo_1 rfl (by decide) rfl ?_
  refine gz_iconst (pc := 2) (v := (0 : Int32)) hX dX6_nearTo_2 (by decide) ?_
  refine gz_istore_n (pc := 3) (lw := [(3, .int (0 : Int32)), (2, .int (0 : Int32)), (0, .ref (gz_ad G 2000)), (1, .int x1)]) hX dX6_nearTo_3 rfl (by decide) rfl ?_
  refine gz_sub (lw := [(0, .ref (gz_ad G 2000)), (1, .int x1), (2, .int (0 : Int32)), (3, .int (0 : Int32))]) [2, 3, 1, 0] rfl ?_
  exact wl_X6_nearTo_4 hX h hk
theorem mt_nearTo {G : gz_G} {l : Launch} {x1 : Int32}  {m m9 : MM} {r : Int32} (h : mf_nearTo x1 m = some (r, m9)) : gz_Met mS G l yX6_nearTo cX6_nearTo 4 (some .int) (mRm 2 42) [.ref (gz_ad G 2000), .int x1] (mF m) (mF m9) (some (.int r)) :=
  gz_ofI (plainFor_of_name mz_plain) (Nat.le_of_ble_eq_true rfl) fun X _ hX hk => wm_nearTo hX h hk
theorem mc_nearTo {X : gz_X} {G : gz_G} {cc : ByteArray} {nL fr lo pc : Nat} {lv : List (Nat × Value)} {rest st0 : List Value} (hX : gz_C mS X G cc nL RX6 fr lo) {x1 : Int32}  {m m9 : MM} {r : Int32} (h : mf_nearTo x1 m = some (r, m9)) (hroom : 2 + 1 ≤ fr ∧ 8 + (4 + 11) + 42 ≤ lo) (hst : st0 = [.int x1, .ref (gz_ad G 2000)] ++ rest) (hW : (rest.map fun v => v.category).sum ≤ 8) (hd : decode cc pc = .ok (.invokevirtual 660, 3)) (kk : gz_V mS X G nL (0, 0) (mF m9) (pc + 3) lv (.int r :: rest)) : gz_V mS X G nL (0, 0) (mF m) pc lv st0 :=
  gz_callV hX mz_E (As := [.int x1]) (rest := rest) (q := (RX6, TX6, 104)) (ci := 0) (c := 2000) (mt_nearTo (l := X.2.1) h) (lw_V q2366 q2368 qs127 q182 q2369) (n := 1) (by decide +kernel) hroom rfl rfl (by decide) rfl hst hW hd (rem := (0, 0)) kk
/-! qPartOf(II)J -/
noncomputable def mf_qPartOf (x1 : Int32) (x2 : Int32) (m : MM) : Option (Int64 × MM) :=
  (if x1 = (0 : Int32) then ((mf_strengthOf (m.1 2000 55) m).bind fun (r2, m3) => some ((r2.toInt64), m3)) else (if x1 = (1 : Int32) then ((mf_heatOf (m.1 2000 55) m).bind fun (r6, m7) => some ((r6.toInt64), m7)) else (if x1 = (2 : Int32) then ((mf_nearTo (m.1 2000 55) m).bind fun (r10, m11) => some ((r10.toInt64), m11)) else (if x1 = (3 : Int32) then (if gz_in (0 : Int32) (151) then some (((m.1 1051 (gz_ix (0 : Int32))).toInt64), m) else none) else (if x1 = (4 : Int32) then some (((m.1 2000 55).toInt64), m) else (if x1 = (5 : Int32) then ((mf_hallOf (m.1 2000 55) m).bind fun (r17, m18) => some ((r17.toInt64), m18)) else ((mf_smellOf (m.1 2000 55) m).bind fun (r21, m22) => some ((r21.toInt64), m22))))))))
theorem wm_qPartOf {X : gz_X} {G : gz_G} (hX : gz_C mS X G cX6_qPartOf 3 RX6 3 65) {x1 : Int32} {x2 : Int32}  {m : MM} {z : (Int64 × MM)} (h : mf_qPartOf x1 x2 m = some z) (hk : (fun z : (Int64 × MM) => gz_kL mS X G 3 (0, 0) cX6_qPartOf (mF z.2) z.1) z) : gz_V mS X G 3 (0, 0) (mF m) 0 [(0, .ref (gz_ad G 2000)), (1, .int x1), (2, .int x2)] [] := by
  unfold mf_qPartOf at h
  refine gz_iload_n (pc := 0) hX dX6_qPartOf_0 rfl 1 rfl ?_
  by_cases g1 : x1 = (0 : Int32)
  · replace h := gz_it' g1 h
    refine gz_tsIn (pc := 1) (tgt := 40) (off := 39) (v := (0 : Int32)) hX g1 dX6_qPartOf_1 (by decide) (by decide) ?_
    refine gz_aload_n (pc := 40) hX dX6_qPartOf_40 rfl 0 rfl ?_
    refine gz_aload_n (pc := 41) hX dX6_qPartOf_41 rfl 0 rfl ?_
    refine mg_55 (pc := 42) hX dX6_qPartOf_42 ?_
    obtain ⟨⟨r2, m3⟩, c4, h⟩ := gz_bd h
    refine mc_strengthOf (pc := 45) hX c4 ⟨Nat.le_of_ble_eq_true rfl, Nat.le_of_ble_eq_true rfl⟩ (rest := []) rfl (Nat.le_of_ble_eq_true rfl) dX6_qPartOf_45 ?_
    refine gz_i2l (pc := 48) hX dX6_qPartOf_48 ?_
    obtain rfl := Option.some.inj h
    exact hk _ _ dX6_qPartOf_49
  · replace h := gz_if' g1 h
    by_cases g5 : x1 = (1 : Int32)
    · replace h := gz_it' g5 h
      refine gz_tsIn (pc := 1) (tgt := 50) (off := 49) (v := (1 : Int32)) hX g5 dX6_qPartOf_1 (by decide) (by decide) ?_
      refine gz_aload_n (pc := 50) hX dX6_qPartOf_50 rfl 0 rfl ?_
      refine gz_aload_n (pc := 51) hX dX6_qPartOf_51 rfl 0 rfl ?_
      refine mg_55 (pc := 52) hX dX6_qPartOf_52 ?_
      obtain ⟨⟨r6, m7⟩, c8, h⟩ := gz_bd h
      refine mc_heatOf (pc := 55) hX c8 ⟨Nat.le_of_ble_eq_true rfl, Nat.le_of_ble_eq_true rfl⟩ (rest := []) rfl (Nat.le_of_ble_eq_true rfl) dX6_qPartOf_55 ?_
      refine gz_i2l (pc := 58) hX dX6_qPartOf_58 ?_
      obtain rfl := Option.some.inj h
      exact hk _ _ dX6_qPartOf_59
    · replace h := gz_if' g5 h
      by_cases g9 : x1 = (2 : Int32)
      · replace h := gz_it' g9 h
        refine gz_tsIn (pc := 1) (tgt := 60) (off := 59) (v := (2 : Int32)) hX g9 dX6_qPartOf_1 (by decide) (by decide) ?_
        refine gz_aload_n (pc := 60) hX dX6_qPartOf_60 rfl 0 rfl ?_
        refine gz_aload_n (pc := 61) hX dX6_qPartOf_61 rfl 0 rfl ?_
        refine mg_55 (pc := 62) hX dX6_qPartOf_62 ?_
        obtain ⟨⟨r10, m11⟩, c12, h⟩ := gz_bd h
        refine mc_nearTo (pc := 65) hX c12 ⟨Nat.le_of_ble_eq_true rfl, Nat.le_of_ble_eq_true rfl⟩ (rest := []) rfl (Nat.le_of_ble_eq_true rfl) dX6_qPartOf_65 ?_
        refine gz_i2l (pc := 68) hX dX6_qPartOf_68 ?_
        obtain rfl := Option.some.inj h
        exact hk _ _ dX6_qPartOf_69
      · replace h := gz_if' g9 h
        by_cases g13 : x1 = (3 : Int32)
        · replace h := gz_it' g13 h
          refine gz_tsIn (pc := 1) (tgt := 70) (off := 69) (v := (3 : Int32)) hX g13 dX6_qPartOf_1 (by decide) (by decide) ?_
          refine gz_aload_n (pc := 70) hX dX6_qPartOf_70 rfl 0 rfl ?_
          refine mg_50 (pc := 71) hX dX6_qPartOf_71 ?_
          refine gz_iconst (pc := 74) (v := (0 : Int32)) hX dX6_qPartOf_74 (by decide) ?_
          obtain ⟨g14, h⟩ := gz_gu h
          refine mz_iald (pc := 75) (c := 1051) (n := 151) hX rfl rfl g14 dX6_qPartOf_75 ?_
          refine gz_i2l (pc := 76) hX dX6_qPartOf_76 ?_
          obtain rfl := Option.some.inj h
          exact hk _ _ dX6_qPartOf_77
        · replace h := gz_if' g13 h
          by_cases g15 : x1 = (4 : Int32)
          · replace h := gz_it' g15 h
            refine gz_tsIn (pc := 1) (tgt := 78) (off := 77) (v := (4 : Int32)) hX g15 dX6_qPartOf_1 (by decide) (by decide) ?_
            refine gz_aload_n (pc := 78) hX dX6_qPartOf_78 rfl 0 rfl ?_
            refine mg_55 (pc := 79) hX dX6_qPartOf_79 ?_
            refine gz_i2l (pc := 82) hX dX6_qPartOf_82 ?_
            obtain rfl := Option.some.inj h
            exact hk _ _ dX6_qPartOf_83
          · replace h := gz_if' g15 h
            by_cases g16 : x1 = (5 : Int32)
            · replace h := gz_it' g16 h
              refine gz_tsIn (pc := 1) (tgt := 84) (off := 83) (v := (5 : Int32)) hX g16 dX6_qPartOf_1 (by decide) (by decide) ?_
              refine gz_aload_n (pc := 84) hX dX6_qPartOf_84 rfl 0 rfl ?_
              refine gz_aload_n (pc := 85) hX dX6_qPartOf_85 rfl 0 rfl ?_
              refine mg_55 (pc := 86) hX dX6_qPartOf_86 ?_
              obtain ⟨⟨r17, m18⟩, c19, h⟩ := gz_bd h
              refine mc_hallOf (pc := 89) hX c19 ⟨Nat.le_of_ble_eq_true rfl, Nat.le_of_ble_eq_true rfl⟩ (rest := []) rfl (Nat.le_of_ble_eq_true rfl) dX6_qPartOf_89 ?_
              refine gz_i2l (pc := 92) hX dX6_qPartOf_92 ?_
              obtain rfl := Option.some.inj h
              exact hk _ _ dX6_qPartOf_93
            · replace h := gz_if' g16 h
              have ng1 := lv_neT g1 (a := 0) (by decide)
              have ng5 := lv_neT g5 (a := 1) (by decide)
              have ng9 := lv_neT g9 (a := 2) (by decide)
              have ng13 := lv_neT g13 (a := 3) (by decide)
              have ng15 := lv_neT g15 (a := 4) (by decide)
              have ng16 := lv_neT g16 (a := 5) (by decide)
              refine gz_tsOut (pc := 1) (tgt := 94) hX dX6_qPartOf_1 (by omega) (by decide) ?_
              refine gz_aload_n (pc := 94) hX dX6_qPartOf_94 rfl 0 rfl ?_
              refine gz_aload_n (pc := 95) hX dX6_qPartOf_95 rfl 0 rfl ?_
              refine mg_55 (pc := 96) hX dX6_qPartOf_96 ?_
              obtain ⟨⟨r21, m22⟩, c23, h⟩ := gz_bd h
              refine mc_smellOf (pc := 99) hX c23 ⟨Nat.le_of_ble_eq_true rfl, Nat.le_of_ble_eq_true rfl⟩ (rest := []) rfl (Nat.le_of_ble_eq_true rfl) dX6_qPartOf_99 ?_
              refine gz_i2l (pc := 102) hX dX6_qPartOf_102 ?_
              obtain rfl := Option.some.inj h
              exact hk _ _ dX6_qPartOf_103
theorem mt_qPartOf {G : gz_G} {l : Launch} {x1 : Int32} {x2 : Int32}  {m m9 : MM} {r : Int64} (h : mf_qPartOf x1 x2 m = some (r, m9)) : gz_Met mS G l yX6_qPartOf cX6_qPartOf 3 (some .long) (mRm 3 65) [.ref (gz_ad G 2000), .int x1, .int x2] (mF m) (mF m9) (some (.long r)) :=
  gz_ofL (plainFor_of_name mz_plain) (Nat.le_of_ble_eq_true rfl) fun X _ hX hk => wm_qPartOf hX h hk
theorem mc_qPartOf {X : gz_X} {G : gz_G} {cc : ByteArray} {nL fr lo pc : Nat} {lv : List (Nat × Value)} {rest st0 : List Value} (hX : gz_C mS X G cc nL RX6 fr lo) {x1 : Int32} {x2 : Int32}  {m m9 : MM} {r : Int64} (h : mf_qPartOf x1 x2 m = some (r, m9)) (hroom : 3 + 1 ≤ fr ∧ 8 + (3 + 11) + 65 ≤ lo) (hst : st0 = [.int x2, .int x1, .ref (gz_ad G 2000)] ++ rest) (hW : (rest.map fun v => v.category).sum ≤ 8) (hd : decode cc pc = .ok (.invokevirtual 444, 3)) (kk : gz_V mS X G nL (0, 0) (mF m9) (pc + 3) lv (.long r :: rest)) : gz_V mS X G nL (0, 0) (mF m) pc lv st0 :=
  gz_callV hX mz_E (As := [.int x1, .int x2]) (rest := rest) (q := (RX6, TX6, 104)) (ci := 0) (c := 2000) (mt_qPartOf (l := X.2.1) h) (lw_V q2362 q2364 qs126 q182 q2365) (n := 2) (by decide +kernel) hroom rfl rfl (by decide) rfl hst hW hd (rem := (0, 0)) kk
/-! qClip(J)J -/
noncomputable def mf_qClip (x0 : Int64) (m : MM) : Option (Int64 × MM) :=
  (if x0 ≤ (1000000 : Int64) then (if (-1000000 : Int64) ≤ x0 then some (x0, m) else some ((-1000000 : Int64), m)) else some ((1000000 : Int64), m))
theorem wm_qClip {X : gz_X} {G : gz_G} (hX : gz_C mS X G cX6_qClip 2 RX6 0 0) {x0 : Int64}  {m : MM} {z : (Int64 × MM)} (h : mf_qClip x0 m = some z) (hk : (fun z : (Int64 × MM) => gz_kL mS X G 2 (0, 0) cX6_qClip (mF z.2) z.1) z) : gz_V mS X G 2 (0, 0) (mF m) 0 [(0, .long x0)] [] := by
  unfold mf_qClip at h
  refine gz_lload_n (pc := 0) hX dX6_qClip_0 rfl 0 rfl ?_
  refine gz_ldc2 (pc := 1) (v := (1000000 : Int64)) hX q2377 dX6_qClip_1 ?_
  refine gz_lcmp_le (pc := 4) (tgt := 14) hX dX6_qClip_4 dX6_qClip_5 (by decide) (fun g1 => ?_) (fun g1 => ?_)
  · replace h := gz_it' g1 h
    refine gz_lload_n (pc := 14) hX dX6_qClip_14 rfl 0 rfl ?_
    refine gz_ldc2 (pc := 15) (v := (-1000000 : Int64)) hX q2378 dX6_qClip_15 ?_
    refine gz_lcmp_ge (pc := 18) (tgt := 28) hX dX6_qClip_18 dX6_qClip_19 (by decide) (fun g2 => ?_) (fun g2 => ?_)
    · replace h := gz_it' g2 h
      refine gz_lload_n (pc := 28) hX dX6_qClip_28 rfl 0 rfl ?_
      obtain rfl := Option.some.inj h
      exact hk _ _ dX6_qClip_29
    · replace h := gz_if' g2 h
      refine gz_ldc2 (pc := 22) (v := (-1000000 : Int64)) hX q2378 dX6_qClip_22 ?_
      refine gz_goto (pc := 25) (tgt := 29) hX dX6_qClip_25 (by decide) ?_
      obtain rfl := Option.some.inj h
      exact hk _ _ dX6_qClip_29
  · replace h := gz_if' g1 h
    refine gz_ldc2 (pc := 8) (v := (1000000 : Int64)) hX q2377 dX6_qClip_8 ?_
    refine gz_goto (pc := 11) (tgt := 29) hX dX6_qClip_11 (by decide) ?_
    obtain rfl := Option.some.inj h
    exact hk _ _ dX6_qClip_29
theorem mt_qClip {G : gz_G} {l : Launch} {x0 : Int64}  {m m9 : MM} {r : Int64} (h : mf_qClip x0 m = some (r, m9)) : gz_Met mS G l yX6_qClip cX6_qClip 2 (some .long) (mRm 0 0) [.long x0] (mF m) (mF m9) (some (.long r)) :=
  gz_ofL (plainFor_of_name mz_plain) (Nat.le_of_ble_eq_true rfl) fun X _ hX hk => wm_qClip hX h hk
theorem mc_qClip {X : gz_X} {G : gz_G} {cc : ByteArray} {nL fr lo pc : Nat} {lv : List (Nat × Value)} {rest st0 : List Value} (hX : gz_C mS X G cc nL RX6 fr lo) {x0 : Int64}  {m m9 : MM} {r : Int64} (h : mf_qClip x0 m = some (r, m9)) (hroom : 0 + 1 ≤ fr ∧ 8 + (2 + 11) + 0 ≤ lo) (hst : st0 = [.long x0] ++ rest) (hW : (rest.map fun v => v.category).sum ≤ 8) (hd : decode cc pc = .ok (.invokestatic 652, 3)) (kk : gz_V mS X G nL (0, 0) (mF m9) (pc + 3) lv (.long r :: rest)) : gz_V mS X G nL (0, 0) (mF m) pc lv st0 :=
  gz_callS hX mz_E (As := [.long x0]) (rest := rest) (mt_qClip (l := X.2.1) h) (lw_S q2374 q2375 q182 q2376) (n := 1) (by decide +kernel) hroom rfl hst hW hd (rem := (0, 0)) kk
/-! qFloor(JJ)J -/
noncomputable def mj_X6_qFloor_53 (x4 : Int64) (m : MM) : Option (Int64 × MM) :=
  some (x4, m)
theorem wb_X6_qFloor_53 {X : gz_X} {G : gz_G} (hX : gz_C mS X G cX6_qFloor 6 RX6 0 0) {x4 : Int64}  {m : MM} {z : (Int64 × MM)} (h : mj_X6_qFloor_53 x4 m = some z) (hk : (fun z : (Int64 × MM) => gz_kL mS X G 6 (0, 0) cX6_qFloor (mF z.2) z.1) z) : gz_V mS X G 6 (0, 0) (mF m) 53 [(4, .long x4)] [] := by
  unfold mj_X6_qFloor_53 at h
  refine gz_lload (pc := 53) hX dX6_qFloor_53 0 rfl ?_
  obtain rfl := Option.some.inj h
  exact hk _ _ dX6_qFloor_55
noncomputable def mj_X6_qFloor_43 (x4 : Int64) (s0 : Int32) (s1 : Int32) (m : MM) : Option (Int64 × MM) :=
  (if s1 = s0 then (mj_X6_qFloor_53 x4 m) else some ((x4 - (1 : Int64)), m))
theorem wb_X6_qFloor_43 {X : gz_X} {G : gz_G} (hX : gz_C mS X G cX6_qFloor 6 RX6 0 0) {x4 : Int64} {s0 : Int32} {s1 : Int32}  {m : MM} {z : (Int64 × MM)} (h : mj_X6_qFloor_43 x4 s0 s1 m = some z) (hk : (fun z : (Int64 × MM) => gz_kL mS X G 6 (0, 0) cX6_qFloor (mF z.2) z.1) z) : gz_V mS X G 6 (0, 0) (mF m) 43 [(4, .long x4)] [.int s0, .int s1] := by
  unfold mj_X6_qFloor_43 at h
  refine gz_icmp_eq (pc := 43) (tgt := 53) hX dX6_qFloor_43 (by decide) (fun g1 => ?_) (fun g1 => ?_)
  · replace h := gz_it' g1 h
    exact wb_X6_qFloor_53 hX h hk
  · replace h := gz_if' g1 h
    refine gz_lload (pc := 46) hX dX6_qFloor_46 0 rfl ?_
    refine gz_lconst (pc := 48) (v := (1 : Int64)) hX dX6_qFloor_48 (by decide) ?_
    refine gz_lsub (pc := 49) hX dX6_qFloor_49 ?_
    refine gz_goto (pc := 50) (tgt := 55) hX dX6_qFloor_50 (by decide) ?_
    obtain rfl := Option.some.inj h
    exact hk _ _ dX6_qFloor_55
noncomputable def mj_X6_qFloor_32 (x2 : Int64) (x4 : Int64) (s0 : Int32) (m : MM) : Option (Int64 × MM) :=
  (if (0 : Int64) ≤ x2 then (mj_X6_qFloor_43 x4 (0 : Int32) s0 m) else (mj_X6_qFloor_43 x4 (1 : Int32) s0 m))
theorem wb_X6_qFloor_32 {X : gz_X} {G : gz_G} (hX : gz_C mS X G cX6_qFloor 6 RX6 0 0) {x2 : Int64} {x4 : Int64} {s0 : Int32}  {m : MM} {z : (Int64 × MM)} (h : mj_X6_qFloor_32 x2 x4 s0 m = some z) (hk : (fun z : (Int64 × MM) => gz_kL mS X G 6 (0, 0) cX6_qFloor (mF z.2) z.1) z) : gz_V mS X G 6 (0, 0) (mF m) 32 [(2, .long x2), (4, .long x4)] [.int s0] := by
  unfold mj_X6_qFloor_32 at h
  refine gz_lload_n (pc := 32) hX dX6_qFloor_32 rfl 0 rfl ?_
  refine gz_lconst (pc := 33) (v := (0 : Int64)) hX dX6_qFloor_33 (by decide) ?_
  refine gz_lcmp_ge (pc := 34) (tgt := 42) hX dX6_qFloor_34 dX6_qFloor_35 (by decide) (fun g1 => ?_) (fun g1 => ?_)
  · replace h := gz_it' g1 h
    refine gz_iconst (pc := 42) (v := (0 : Int32)) hX dX6_qFloor_42 (by decide) ?_
    refine gz_sub (lw := [(4, .long x4)]) [1] rfl ?_
    exact wb_X6_qFloor_43 hX h hk
  · replace h := gz_if' g1 h
    refine gz_iconst (pc := 38) (v := (1 : Int32)) hX dX6_qFloor_38 (by decide) ?_
    refine gz_goto (pc := 39) (tgt := 43) hX dX6_qFloor_39 (by decide) ?_
    refine gz_sub (lw := [(4, .long x4)]) [1] rfl ?_
    exact wb_X6_qFloor_43 hX h hk
noncomputable def mf_qFloor (x0 : Int64) (x2 : Int64) (m : MM) : Option (Int64 × MM) :=
  (if x2 = (0 : Int64) then some ((0 : Int64), m) else (if ¬ x2 = 0 then gz_let ((x0 / x2)) fun y3 => (if ¬ x2 = 0 then (if (x0 - x0 / x2 * x2) = (0 : Int64) then (mj_X6_qFloor_53 y3 m) else (if (0 : Int64) ≤ x0 then (mj_X6_qFloor_32 x2 y3 (0 : Int32) m) else (mj_X6_qFloor_32 x2 y3 (1 : Int32) m))) else none) else none))
theorem wm_qFloor {X : gz_X} {G : gz_G} (hX : gz_C mS X G cX6_qFloor 6 RX6 0 0) {x0 : Int64} {x2 : Int64}  {m : MM} {z : (Int64 × MM)} (h : mf_qFloor x0 x2 m = some z) (hk : (fun z : (Int64 × MM) => gz_kL mS X G 6 (0, 0) cX6_qFloor (mF z.2) z.1) z) : gz_V mS X G 6 (0, 0) (mF m) 0 [(0, .long x0), (2, .long x2)] [] := by
  unfold mf_qFloor at h
  refine gz_lload_n (pc := 0) hX dX6_qFloor_0 rfl 1 rfl ?_
  refine gz_lconst (pc := 1) (v := (0 : Int64)) hX dX6_qFloor_1 (by decide) ?_
  refine gz_lcmp_ne (pc := 2) (tgt := 8) hX dX6_qFloor_2 dX6_qFloor_3 (by decide) (fun g1 => ?_) (fun g1 => ?_)
  · replace h := gz_if' g1 h
    refine gz_lload_n (pc := 8) hX dX6_qFloor_8 rfl 0 rfl ?_
    refine gz_lload_n (pc := 9) hX dX6_qFloor_9 rfl 1 rfl ?_
    obtain ⟨g2, h⟩ := gz_gu h
    refine gz_ldiv (pc := 10) hX dX6_qFloor_10 g2 ?_
    obtain ⟨y3, ey3, h⟩ := gz_lt h
    refine gz_topl ey3 ?_
    refine gz_lstore (pc := 11) (lw := [(4, .long y3), (0, .long x0), (2, .long x2)]) hX dX6_qFloor_11 (by decide) rfl ?_
    refine gz_lload_n (pc := 13) hX dX6_qFloor_13 rfl 1 rfl ?_
    refine gz_lload_n (pc := 14) hX dX6_qFloor_14 rfl 2 rfl ?_
    obtain ⟨g4, h⟩ := gz_gu h
    refine gz_lrem (pc := 15) hX dX6_qFloor_15 g4 ?_
    refine gz_lconst (pc := 16) (v := (0 : Int64)) hX dX6_qFloor_16 (by decide) ?_
    refine gz_lcmp_eq (pc := 17) (tgt := 53) hX dX6_qFloor_17 dX6_qFloor_18 (by decide) (fun g5 => ?_) (fun g5 => ?_)
    · replace h := gz_it' g5 h
      refine gz_sub (lw := [(4, .long y3)]) [0] rfl ?_
      exact wb_X6_qFloor_53 hX h hk
    · replace h := gz_if' g5 h
      refine gz_lload_n (pc := 21) hX dX6_qFloor_21 rfl 1 rfl ?_
      refine gz_lconst (pc := 22) (v := (0 : Int64)) hX dX6_qFloor_22 (by decide) ?_
      refine gz_lcmp_ge (pc := 23) (tgt := 31) hX dX6_qFloor_23 dX6_qFloor_24 (by decide) (fun g6 => ?_) (fun g6 => ?_)
      · replace h := gz_it' g6 h
        refine gz_iconst (pc := 31) (v := (0 : Int32)) hX dX6_qFloor_31 (by decide) ?_
        refine gz_sub (lw := [(2, .long x2), (4, .long y3)]) [2, 0] rfl ?_
        exact wb_X6_qFloor_32 hX h hk
      · replace h := gz_if' g6 h
        refine gz_iconst (pc := 27) (v := (1 : Int32)) hX dX6_qFloor_27 (by decide) ?_
        refine gz_goto (pc := 28) (tgt := 32) hX dX6_qFloor_28 (by decide) ?_
        refine gz_sub (lw := [(2, .long x2), (4, .long y3)]) [2, 0] rfl ?_
        exact wb_X6_qFloor_32 hX h hk
  · replace h := gz_it' g1 h
    refine gz_lconst (pc := 6) (v := (0 : Int64)) hX dX6_qFloor_6 (by decide) ?_
    obtain rfl := Option.some.inj h
    exact hk _ _ dX6_qFloor_7
theorem mt_qFloor {G : gz_G} {l : Launch} {x0 : Int64} {x2 : Int64}  {m m9 : MM} {r : Int64} (h : mf_qFloor x0 x2 m = some (r, m9)) : gz_Met mS G l yX6_qFloor cX6_qFloor 6 (some .long) (mRm 0 0) [.long x0, .long x2] (mF m) (mF m9) (some (.long r)) :=
  gz_ofL (plainFor_of_name mz_plain) (Nat.le_of_ble_eq_true rfl) fun X _ hX hk => wm_qFloor hX h hk
theorem mc_qFloor {X : gz_X} {G : gz_G} {cc : ByteArray} {nL fr lo pc : Nat} {lv : List (Nat × Value)} {rest st0 : List Value} (hX : gz_C mS X G cc nL RX6 fr lo) {x0 : Int64} {x2 : Int64}  {m m9 : MM} {r : Int64} (h : mf_qFloor x0 x2 m = some (r, m9)) (hroom : 0 + 1 ≤ fr ∧ 8 + (6 + 11) + 0 ≤ lo) (hst : st0 = [.long x2, .long x0] ++ rest) (hW : (rest.map fun v => v.category).sum ≤ 8) (hd : decode cc pc = .ok (.invokestatic 656, 3)) (kk : gz_V mS X G nL (0, 0) (mF m9) (pc + 3) lv (.long r :: rest)) : gz_V mS X G nL (0, 0) (mF m) pc lv st0 :=
  gz_callS hX mz_E (As := [.long x0, .long x2]) (rest := rest) (mt_qFloor (l := X.2.1) h) (lw_S q2379 q2380 q182 q2381) (n := 2) (by decide +kernel) hroom rfl hst hW hd (rem := (0, 0)) kk
/-! qJoins(I)V -/
noncomputable def mj_X6_qJoins_161 (s0 : Int64) (m : MM) : Option (Unit × MM) :=
  ((mf_qPuts s0 m).bind fun (_, m2) => some ((), m2))
theorem wb_X6_qJoins_161 {X : gz_X} {G : gz_G} (hX : gz_C mS X G cX6_qJoins 6 RX6 1 25) {s0 : Int64}  {m : MM} {z : (Unit × MM)} (h : mj_X6_qJoins_161 s0 m = some z) (hk : (fun z : (Unit × MM) => gz_kV mS X G 6 (0, 0) cX6_qJoins (mF z.2)) z) : gz_V mS X G 6 (0, 0) (mF m) 161 [(0, .ref (gz_ad G 2000))] [.long s0, .ref (gz_ad G 2000)] := by
  unfold mj_X6_qJoins_161 at h
  obtain ⟨⟨⟨⟩, m2⟩, c3, h⟩ := gz_bd h
  refine mc_qPuts (pc := 161) hX c3 ⟨Nat.le_of_ble_eq_true rfl, Nat.le_of_ble_eq_true rfl⟩ (rest := []) rfl (Nat.le_of_ble_eq_true rfl) dX6_qJoins_161 ?_
  refine gz_goto (pc := 164) (tgt := 273) hX dX6_qJoins_164 (by decide) ?_
  obtain rfl := Option.some.inj h
  exact hk _ _ dX6_qJoins_273
noncomputable def mj_X6_qJoins_181 (s0 : Int64) (m : MM) : Option (Unit × MM) :=
  ((mf_qPuts s0 m).bind fun (_, m2) => some ((), m2))
theorem wb_X6_qJoins_181 {X : gz_X} {G : gz_G} (hX : gz_C mS X G cX6_qJoins 6 RX6 1 25) {s0 : Int64}  {m : MM} {z : (Unit × MM)} (h : mj_X6_qJoins_181 s0 m = some z) (hk : (fun z : (Unit × MM) => gz_kV mS X G 6 (0, 0) cX6_qJoins (mF z.2)) z) : gz_V mS X G 6 (0, 0) (mF m) 181 [(0, .ref (gz_ad G 2000))] [.long s0, .ref (gz_ad G 2000)] := by
  unfold mj_X6_qJoins_181 at h
  obtain ⟨⟨⟨⟩, m2⟩, c3, h⟩ := gz_bd h
  refine mc_qPuts (pc := 181) hX c3 ⟨Nat.le_of_ble_eq_true rfl, Nat.le_of_ble_eq_true rfl⟩ (rest := []) rfl (Nat.le_of_ble_eq_true rfl) dX6_qJoins_181 ?_
  refine gz_goto (pc := 184) (tgt := 273) hX dX6_qJoins_184 (by decide) ?_
  obtain rfl := Option.some.inj h
  exact hk _ _ dX6_qJoins_273
noncomputable def mj_X6_qJoins_200 (s0 : Int64) (m : MM) : Option (Unit × MM) :=
  ((mf_qPuts s0 m).bind fun (_, m2) => some ((), m2))
theorem wb_X6_qJoins_200 {X : gz_X} {G : gz_G} (hX : gz_C mS X G cX6_qJoins 6 RX6 1 25) {s0 : Int64}  {m : MM} {z : (Unit × MM)} (h : mj_X6_qJoins_200 s0 m = some z) (hk : (fun z : (Unit × MM) => gz_kV mS X G 6 (0, 0) cX6_qJoins (mF z.2)) z) : gz_V mS X G 6 (0, 0) (mF m) 200 [(0, .ref (gz_ad G 2000))] [.long s0, .ref (gz_ad G 2000)] := by
  unfold mj_X6_qJoins_200 at h
  obtain ⟨⟨⟨⟩, m2⟩, c3, h⟩ := gz_bd h
  refine mc_qPuts (pc := 200) hX c3 ⟨Nat.le_of_ble_eq_true rfl, Nat.le_of_ble_eq_true rfl⟩ (rest := []) rfl (Nat.le_of_ble_eq_true rfl) dX6_qJoins_200 ?_
  refine gz_goto (pc := 203) (tgt := 273) hX dX6_qJoins_203 (by decide) ?_
  obtain rfl := Option.some.inj h
  exact hk _ _ dX6_qJoins_273
noncomputable def mj_X6_qJoins_219 (s0 : Int64) (m : MM) : Option (Unit × MM) :=
  ((mf_qPuts s0 m).bind fun (_, m2) => some ((), m2))
theorem wb_X6_qJoins_219 {X : gz_X} {G : gz_G} (hX : gz_C mS X G cX6_qJoins 6 RX6 1 25) {s0 : Int64}  {m : MM} {z : (Unit × MM)} (h : mj_X6_qJoins_219 s0 m = some z) (hk : (fun z : (Unit × MM) => gz_kV mS X G 6 (0, 0) cX6_qJoins (mF z.2)) z) : gz_V mS X G 6 (0, 0) (mF m) 219 [(0, .ref (gz_ad G 2000))] [.long s0, .ref (gz_ad G 2000)] := by
  unfold mj_X6_qJoins_219 at h
  obtain ⟨⟨⟨⟩, m2⟩, c3, h⟩ := gz_bd h
  refine mc_qPuts (pc := 219) hX c3 ⟨Nat.le_of_ble_eq_true rfl, Nat.le_of_ble_eq_true rfl⟩ (rest := []) rfl (Nat.le_of_ble_eq_true rfl) dX6_qJoins_219 ?_
  refine gz_goto (pc := 222) (tgt := 273) hX dX6_qJoins_222 (by decide) ?_
  obtain rfl := Option.some.inj h
  exact hk _ _ dX6_qJoins_273
noncomputable def mj_X6_qJoins_238 (s0 : Int64) (m : MM) : Option (Unit × MM) :=
  ((mf_qPuts s0 m).bind fun (_, m2) => some ((), m2))
theorem wb_X6_qJoins_238 {X : gz_X} {G : gz_G} (hX : gz_C mS X G cX6_qJoins 6 RX6 1 25) {s0 : Int64}  {m : MM} {z : (Unit × MM)} (h : mj_X6_qJoins_238 s0 m = some z) (hk : (fun z : (Unit × MM) => gz_kV mS X G 6 (0, 0) cX6_qJoins (mF z.2)) z) : gz_V mS X G 6 (0, 0) (mF m) 238 [(0, .ref (gz_ad G 2000))] [.long s0, .ref (gz_ad G 2000)] := by
  unfold mj_X6_qJoins_238 at h
  obtain ⟨⟨⟨⟩, m2⟩, c3, h⟩ := gz_bd h
  refine mc_qPuts (pc := 238) hX c3 ⟨Nat.le_of_ble_eq_true rfl, Nat.le_of_ble_eq_true rfl⟩ (rest := []) rfl (Nat.le_of_ble_eq_true rfl) dX6_qJoins_238 ?_
  refine gz_goto (pc := 241) (tgt := 273) hX dX6_qJoins_241 (by decide) ?_
  obtain rfl := Option.some.inj h
  exact hk _ _ dX6_qJoins_273
noncomputable def mj_X6_qJoins_270 (s0 : Int64) (m : MM) : Option (Unit × MM) :=
  ((mf_qPuts s0 m).bind fun (_, m2) => some ((), m2))
theorem wb_X6_qJoins_270 {X : gz_X} {G : gz_G} (hX : gz_C mS X G cX6_qJoins 6 RX6 1 25) {s0 : Int64}  {m : MM} {z : (Unit × MM)} (h : mj_X6_qJoins_270 s0 m = some z) (hk : (fun z : (Unit × MM) => gz_kV mS X G 6 (0, 0) cX6_qJoins (mF z.2)) z) : gz_V mS X G 6 (0, 0) (mF m) 270 [(0, .ref (gz_ad G 2000))] [.long s0, .ref (gz_ad G 2000)] := by
  unfold mj_X6_qJoins_270 at h
  obtain ⟨⟨⟨⟩, m2⟩, c3, h⟩ := gz_bd h
  refine mc_qPuts (pc := 270) hX c3 ⟨Nat.le_of_ble_eq_true rfl, Nat.le_of_ble_eq_true rfl⟩ (rest := []) rfl (Nat.le_of_ble_eq_true rfl) dX6_qJoins_270 ?_
  obtain rfl := Option.some.inj h
  exact hk _ _ dX6_qJoins_273
noncomputable def mf_qJoins (x1 : Int32) (m : MM) : Option (Unit × MM) :=
  (if gz_in ((m.1 2000 99) - (1 : Int32)) (1700) then gz_let ((m.2 1099 (gz_ix ((m.1 2000 99) - (1 : Int32))))) fun y2 => (if gz_in ((m.1 2000 99) - (2 : Int32)) (1700) then gz_let ((m.2 1099 (gz_ix ((m.1 2000 99) - (2 : Int32))))) fun y4 => gz_let (msI m 2000 99 ((m.1 2000 99) - (2 : Int32))) fun m5 => (if x1 = (1 : Int32) then ((mf_qClip (y4 + y2) m5).bind fun (r7, m8) => ((mf_qPuts r7 m8).bind fun (_, m11) => some ((), m11))) else (if x1 = (2 : Int32) then ((mf_qClip (y4 - y2) m5).bind fun (r14, m15) => ((mf_qPuts r14 m15).bind fun (_, m18) => some ((), m18))) else (if x1 = (3 : Int32) then ((mf_qClip (y4 * y2) m5).bind fun (r21, m22) => ((mf_qPuts r21 m22).bind fun (_, m25) => some ((), m25))) else (if x1 = (4 : Int32) then ((mf_qFloor y4 y2 m5).bind fun (r28, m29) => ((mf_qPuts r28 m29).bind fun (_, m32) => some ((), m32))) else (if x1 = (5 : Int32) then (if y2 ≤ y4 then (mj_X6_qJoins_161 y2 m5) else (mj_X6_qJoins_161 y4 m5)) else (if x1 = (6 : Int32) then (if y4 ≤ y2 then (mj_X6_qJoins_181 y2 m5) else (mj_X6_qJoins_181 y4 m5)) else (if x1 = (7 : Int32) then (if y2 ≤ y4 then (mj_X6_qJoins_200 (0 : Int64) m5) else (mj_X6_qJoins_200 (1 : Int64) m5)) else (if x1 = (8 : Int32) then (if y4 ≤ y2 then (mj_X6_qJoins_219 (0 : Int64) m5) else (mj_X6_qJoins_219 (1 : Int64) m5)) else (if x1 = (9 : Int32) then (if y4 = y2 then (mj_X6_qJoins_238 (1 : Int64) m5) else (mj_X6_qJoins_238 (0 : Int64) m5)) else (if x1 = (10 : Int32) then ((mf_qPuts (y4 * y2) m5).bind fun (_, m46) => some ((), m46)) else (if (y4 + y2) ≤ (0 : Int64) then (mj_X6_qJoins_270 (0 : Int64) m5) else (mj_X6_qJoins_270 (1 : Int64) m5)))))))))))) else none) else none)
theorem wm_qJoins {X : gz_X} {G : gz_G} (hX : gz_C mS X G cX6_qJoins 6 RX6 1 25) {x1 : Int32}  {m : MM} {z : (Unit × MM)} (h : mf_qJoins x1 m = some z) (hk : (fun z : (Unit × MM) => gz_kV mS X G 6 (0, 0) cX6_qJoins (mF z.2)) z) : gz_V mS X G 6 (0, 0) (mF m) 0 [(0, .ref (gz_ad G 2000)), (1, .int x1)] [] := by
  unfold mf_qJoins at h
  refine gz_aload_n (pc := 0) hX dX6_qJoins_0 rfl 0 rfl ?_
  refine mg_98 (pc := 1) hX dX6_qJoins_1 ?_
  refine gz_aload_n (pc := 4) hX dX6_qJoins_4 rfl 0 rfl ?_
  refine mg_99 (pc := 5) hX dX6_qJoins_5 ?_
  refine gz_iconst (pc := 8) (v := (1 : Int32)) hX dX6_qJoins_8 (by decide) ?_
  refine gz_isub (pc := 9) hX dX6_qJoins_9 ?_
  obtain ⟨g1, h⟩ := gz_gu h
  refine mz_lald (pc := 10) (c := 1099) (n := 1700) hX rfl rfl g1 dX6_qJoins_10 ?_
  obtain ⟨y2, ey2, h⟩ := gz_lt h
  refine gz_topl ey2 ?_
  refine gz_lstore_n (pc := 11) (lw := [(2, .long y2), (0, .ref (gz_ad G 2000)), (1, .int x1)]) hX dX6_qJoins_11 rfl (by decide) rfl ?_
  refine gz_aload_n (pc := 12) hX dX6_qJoins_12 rfl 1 rfl ?_
  refine mg_98 (pc := 13) hX dX6_qJoins_13 ?_
  refine gz_aload_n (pc := 16) hX dX6_qJoins_16 rfl 1 rfl ?_
  refine mg_99 (pc := 17) hX dX6_qJoins_17 ?_
  refine gz_iconst (pc := 20) (v := (2 : Int32)) hX dX6_qJoins_20 (by decide) ?_
  refine gz_isub (pc := 21) hX dX6_qJoins_21 ?_
  obtain ⟨g3, h⟩ := gz_gu h
  refine mz_lald (pc := 22) (c := 1099) (n := 1700) hX rfl rfl g3 dX6_qJoins_22 ?_
  obtain ⟨y4, ey4, h⟩ := gz_lt h
  refine gz_topl ey4 ?_
  refine gz_lstore (pc := 23) (lw := [(4, .long y4), (2, .long y2), (0, .ref (gz_ad G 2000)), (1, .int x1)]) hX dX6_qJoins_23 (by decide) rfl ?_
  refine gz_aload_n (pc := 25) hX dX6_qJoins_25 rfl 2 rfl ?_
  refine gz_dup (pc := 26) hX dX6_qJoins_26 rfl ?_
  refine mg_99 (pc := 27) hX dX6_qJoins_27 ?_
  refine gz_iconst (pc := 30) (v := (2 : Int32)) hX dX6_qJoins_30 (by decide) ?_
  refine gz_isub (pc := 31) hX dX6_qJoins_31 ?_
  obtain ⟨m5, em5, h⟩ := gz_lt h
  refine mp_99 (pc := 32) hX dX6_qJoins_32 em5 ?_
  refine gz_iload_n (pc := 35) hX dX6_qJoins_35 rfl 3 rfl ?_
  by_cases g6 : x1 = (1 : Int32)
  · replace h := gz_it' g6 h
    refine gz_tsIn (pc := 36) (tgt := 92) (off := 56) (v := (1 : Int32)) hX g6 dX6_qJoins_36 (by decide) (by decide) ?_
    refine gz_aload_n (pc := 92) hX dX6_qJoins_92 rfl 2 rfl ?_
    refine gz_lload (pc := 93) hX dX6_qJoins_93 0 rfl ?_
    refine gz_lload_n (pc := 95) hX dX6_qJoins_95 rfl 1 rfl ?_
    refine gz_ladd (pc := 96) hX dX6_qJoins_96 ?_
    obtain ⟨⟨r7, m8⟩, c9, h⟩ := gz_bd h
    refine mc_qClip (pc := 97) hX c9 ⟨Nat.le_of_ble_eq_true rfl, Nat.le_of_ble_eq_true rfl⟩ (rest := [.ref (gz_ad G 2000)]) rfl (Nat.le_of_ble_eq_true rfl) dX6_qJoins_97 ?_
    obtain ⟨⟨⟨⟩, m11⟩, c12, h⟩ := gz_bd h
    refine mc_qPuts (pc := 100) hX c12 ⟨Nat.le_of_ble_eq_true rfl, Nat.le_of_ble_eq_true rfl⟩ (rest := []) rfl (Nat.le_of_ble_eq_true rfl) dX6_qJoins_100 ?_
    refine gz_goto (pc := 103) (tgt := 273) hX dX6_qJoins_103 (by decide) ?_
    obtain rfl := Option.some.inj h
    exact hk _ _ dX6_qJoins_273
  · replace h := gz_if' g6 h
    by_cases g13 : x1 = (2 : Int32)
    · replace h := gz_it' g13 h
      refine gz_tsIn (pc := 36) (tgt := 106) (off := 70) (v := (2 : Int32)) hX g13 dX6_qJoins_36 (by decide) (by decide) ?_
      refine gz_aload_n (pc := 106) hX dX6_qJoins_106 rfl 2 rfl ?_
      refine gz_lload (pc := 107) hX dX6_qJoins_107 0 rfl ?_
      refine gz_lload_n (pc := 109) hX dX6_qJoins_109 rfl 1 rfl ?_
      refine gz_lsub (pc := 110) hX dX6_qJoins_110 ?_
      obtain ⟨⟨r14, m15⟩, c16, h⟩ := gz_bd h
      refine mc_qClip (pc := 111) hX c16 ⟨Nat.le_of_ble_eq_true rfl, Nat.le_of_ble_eq_true rfl⟩ (rest := [.ref (gz_ad G 2000)]) rfl (Nat.le_of_ble_eq_true rfl) dX6_qJoins_111 ?_
      obtain ⟨⟨⟨⟩, m18⟩, c19, h⟩ := gz_bd h
      refine mc_qPuts (pc := 114) hX c19 ⟨Nat.le_of_ble_eq_true rfl, Nat.le_of_ble_eq_true rfl⟩ (rest := []) rfl (Nat.le_of_ble_eq_true rfl) dX6_qJoins_114 ?_
      refine gz_goto (pc := 117) (tgt := 273) hX dX6_qJoins_117 (by decide) ?_
      obtain rfl := Option.some.inj h
      exact hk _ _ dX6_qJoins_273
    · replace h := gz_if' g13 h
      by_cases g20 : x1 = (3 : Int32)
      · replace h := gz_it' g20 h
        refine gz_tsIn (pc := 36) (tgt := 120) (off := 84) (v := (3 : Int32)) hX g20 dX6_qJoins_36 (by decide) (by decide) ?_
        refine gz_aload_n (pc := 120) hX dX6_qJoins_120 rfl 2 rfl ?_
        refine gz_lload (pc := 121) hX dX6_qJoins_121 0 rfl ?_
        refine gz_lload_n (pc := 123) hX dX6_qJoins_123 rfl 1 rfl ?_
        refine gz_lmul (pc := 124) hX dX6_qJoins_124 ?_
        obtain ⟨⟨r21, m22⟩, c23, h⟩ := gz_bd h
        refine mc_qClip (pc := 125) hX c23 ⟨Nat.le_of_ble_eq_true rfl, Nat.le_of_ble_eq_true rfl⟩ (rest := [.ref (gz_ad G 2000)]) rfl (Nat.le_of_ble_eq_true rfl) dX6_qJoins_125 ?_
        obtain ⟨⟨⟨⟩, m25⟩, c26, h⟩ := gz_bd h
        refine mc_qPuts (pc := 128) hX c26 ⟨Nat.le_of_ble_eq_true rfl, Nat.le_of_ble_eq_true rfl⟩ (rest := []) rfl (Nat.le_of_ble_eq_true rfl) dX6_qJoins_128 ?_
        refine gz_goto (pc := 131) (tgt := 273) hX dX6_qJoins_131 (by decide) ?_
        obtain rfl := Option.some.inj h
        exact hk _ _ dX6_qJoins_273
      · replace h := gz_if' g20 h
        by_cases g27 : x1 = (4 : Int32)
        · replace h := gz_it' g27 h
          refine gz_tsIn (pc := 36) (tgt := 134) (off := 98) (v := (4 : Int32)) hX g27 dX6_qJoins_36 (by decide) (by decide) ?_
          refine gz_aload_n (pc := 134) hX dX6_qJoins_134 rfl 2 rfl ?_
          refine gz_lload (pc := 135) hX dX6_qJoins_135 0 rfl ?_
          refine gz_lload_n (pc := 137) hX dX6_qJoins_137 rfl 1 rfl ?_
          obtain ⟨⟨r28, m29⟩, c30, h⟩ := gz_bd h
          refine mc_qFloor (pc := 138) hX c30 ⟨Nat.le_of_ble_eq_true rfl, Nat.le_of_ble_eq_true rfl⟩ (rest := [.ref (gz_ad G 2000)]) rfl (Nat.le_of_ble_eq_true rfl) dX6_qJoins_138 ?_
          obtain ⟨⟨⟨⟩, m32⟩, c33, h⟩ := gz_bd h
          refine mc_qPuts (pc := 141) hX c33 ⟨Nat.le_of_ble_eq_true rfl, Nat.le_of_ble_eq_true rfl⟩ (rest := []) rfl (Nat.le_of_ble_eq_true rfl) dX6_qJoins_141 ?_
          refine gz_goto (pc := 144) (tgt := 273) hX dX6_qJoins_144 (by decide) ?_
          obtain rfl := Option.some.inj h
          exact hk _ _ dX6_qJoins_273
        · replace h := gz_if' g27 h
          by_cases g34 : x1 = (5 : Int32)
          · replace h := gz_it' g34 h
            refine gz_tsIn (pc := 36) (tgt := 147) (off := 111) (v := (5 : Int32)) hX g34 dX6_qJoins_36 (by decide) (by decide) ?_
            refine gz_aload_n (pc := 147) hX dX6_qJoins_147 rfl 2 rfl ?_
            refine gz_lload (pc := 148) hX dX6_qJoins_148 0 rfl ?_
            refine gz_lload_n (pc := 150) hX dX6_qJoins_150 rfl 1 rfl ?_
            refine gz_lcmp_ge (pc := 151) (tgt := 160) hX dX6_qJoins_151 dX6_qJoins_152 (by decide) (fun g35 => ?_) (fun g35 => ?_)
            · replace h := gz_it' g35 h
              refine gz_lload_n (pc := 160) hX dX6_qJoins_160 rfl 1 rfl ?_
              refine gz_sub (lw := [(0, .ref (gz_ad G 2000))]) [2] rfl ?_
              exact wb_X6_qJoins_161 hX h hk
            · replace h := gz_if' g35 h
              refine gz_lload (pc := 155) hX dX6_qJoins_155 0 rfl ?_
              refine gz_goto (pc := 157) (tgt := 161) hX dX6_qJoins_157 (by decide) ?_
              refine gz_sub (lw := [(0, .ref (gz_ad G 2000))]) [2] rfl ?_
              exact wb_X6_qJoins_161 hX h hk
          · replace h := gz_if' g34 h
            by_cases g36 : x1 = (6 : Int32)
            · replace h := gz_it' g36 h
              refine gz_tsIn (pc := 36) (tgt := 167) (off := 131) (v := (6 : Int32)) hX g36 dX6_qJoins_36 (by decide) (by decide) ?_
              refine gz_aload_n (pc := 167) hX dX6_qJoins_167 rfl 2 rfl ?_
              refine gz_lload (pc := 168) hX dX6_qJoins_168 0 rfl ?_
              refine gz_lload_n (pc := 170) hX dX6_qJoins_170 rfl 1 rfl ?_
              refine gz_lcmp_le (pc := 171) (tgt := 180) hX dX6_qJoins_171 dX6_qJoins_172 (by decide) (fun g37 => ?_) (fun g37 => ?_)
              · replace h := gz_it' g37 h
                refine gz_lload_n (pc := 180) hX dX6_qJoins_180 rfl 1 rfl ?_
                refine gz_sub (lw := [(0, .ref (gz_ad G 2000))]) [2] rfl ?_
                exact wb_X6_qJoins_181 hX h hk
              · replace h := gz_if' g37 h
                refine gz_lload (pc := 175) hX dX6_qJoins_175 0 rfl ?_
                refine gz_goto (pc := 177) (tgt := 181) hX dX6_qJoins_177 (by decide) ?_
                refine gz_sub (lw := [(0, .ref (gz_ad G 2000))]) [2] rfl ?_
                exact wb_X6_qJoins_181 hX h hk
            · replace h := gz_if' g36 h
              by_cases g38 : x1 = (7 : Int32)
              · replace h := gz_it' g38 h
                refine gz_tsIn (pc := 36) (tgt := 187) (off := 151) (v := (7 : Int32)) hX g38 dX6_qJoins_36 (by decide) (by decide) ?_
                refine gz_aload_n (pc := 187) hX dX6_qJoins_187 rfl 2 rfl ?_
                refine gz_lload (pc := 188) hX dX6_qJoins_188 0 rfl ?_
                refine gz_lload_n (pc := 190) hX dX6_qJoins_190 rfl 1 rfl ?_
                refine gz_lcmp_ge (pc := 191) (tgt := 199) hX dX6_qJoins_191 dX6_qJoins_192 (by decide) (fun g39 => ?_) (fun g39 => ?_)
                · replace h := gz_it' g39 h
                  refine gz_lconst (pc := 199) (v := (0 : Int64)) hX dX6_qJoins_199 (by decide) ?_
                  refine gz_sub (lw := [(0, .ref (gz_ad G 2000))]) [2] rfl ?_
                  exact wb_X6_qJoins_200 hX h hk
                · replace h := gz_if' g39 h
                  refine gz_lconst (pc := 195) (v := (1 : Int64)) hX dX6_qJoins_195 (by decide) ?_
                  refine gz_goto (pc := 196) (tgt := 200) hX dX6_qJoins_196 (by decide) ?_
                  refine gz_sub (lw := [(0, .ref (gz_ad G 2000))]) [2] rfl ?_
                  exact wb_X6_qJoins_200 hX h hk
              · replace h := gz_if' g38 h
                by_cases g40 : x1 = (8 : Int32)
                · replace h := gz_it' g40 h
                  refine gz_tsIn (pc := 36) (tgt := 206) (off := 170) (v := (8 : Int32)) hX g40 dX6_qJoins_36 (by decide) (by decide) ?_
                  refine gz_aload_n (pc := 206) hX dX6_qJoins_206 rfl 2 rfl ?_
                  refine gz_lload (pc := 207) hX dX6_qJoins_207 0 rfl ?_
                  refine gz_lload_n (pc := 209) hX dX6_qJoins_209 rfl 1 rfl ?_
                  refine gz_lcmp_le (pc := 210) (tgt := 218) hX dX6_qJoins_210 dX6_qJoins_211 (by decide) (fun g41 => ?_) (fun g41 => ?_)
                  · replace h := gz_it' g41 h
                    refine gz_lconst (pc := 218) (v := (0 : Int64)) hX dX6_qJoins_218 (by decide) ?_
                    refine gz_sub (lw := [(0, .ref (gz_ad G 2000))]) [2] rfl ?_
                    exact wb_X6_qJoins_219 hX h hk
                  · replace h := gz_if' g41 h
                    refine gz_lconst (pc := 214) (v := (1 : Int64)) hX dX6_qJoins_214 (by decide) ?_
                    refine gz_goto (pc := 215) (tgt := 219) hX dX6_qJoins_215 (by decide) ?_
                    refine gz_sub (lw := [(0, .ref (gz_ad G 2000))]) [2] rfl ?_
                    exact wb_X6_qJoins_219 hX h hk
                · replace h := gz_if' g40 h
                  by_cases g42 : x1 = (9 : Int32)
                  · replace h := gz_it' g42 h
                    refine gz_tsIn (pc := 36) (tgt := 225) (off := 189) (v := (9 : Int32)) hX g42 dX6_qJoins_36 (by decide) (by decide) ?_
                    refine gz_aload_n (pc := 225) hX dX6_qJoins_225 rfl 2 rfl ?_
                    refine gz_lload (pc := 226) hX dX6_qJoins_226 0 rfl ?_
                    refine gz_lload_n (pc := 228) hX dX6_qJoins_228 rfl 1 rfl ?_
                    refine gz_lcmp_ne (pc := 229) (tgt := 237) hX dX6_qJoins_229 dX6_qJoins_230 (by decide) (fun g43 => ?_) (fun g43 => ?_)
                    · replace h := gz_if' g43 h
                      refine gz_lconst (pc := 237) (v := (0 : Int64)) hX dX6_qJoins_237 (by decide) ?_
                      refine gz_sub (lw := [(0, .ref (gz_ad G 2000))]) [2] rfl ?_
                      exact wb_X6_qJoins_238 hX h hk
                    · replace h := gz_it' g43 h
                      refine gz_lconst (pc := 233) (v := (1 : Int64)) hX dX6_qJoins_233 (by decide) ?_
                      refine gz_goto (pc := 234) (tgt := 238) hX dX6_qJoins_234 (by decide) ?_
                      refine gz_sub (lw := [(0, .ref (gz_ad G 2000))]) [2] rfl ?_
                      exact wb_X6_qJoins_238 hX h hk
                  · replace h := gz_if' g42 h
                    by_cases g44 : x1 = (10 : Int32)
                    · replace h := gz_it' g44 h
                      refine gz_tsIn (pc := 36) (tgt := 244) (off := 208) (v := (10 : Int32)) hX g44 dX6_qJoins_36 (by decide) (by decide) ?_
                      refine gz_aload_n (pc := 244) hX dX6_qJoins_244 rfl 2 rfl ?_
                      refine gz_lload (pc := 245) hX dX6_qJoins_245 0 rfl ?_
                      refine gz_lload_n (pc := 247) hX dX6_qJoins_247 rfl 1 rfl ?_
                      refine gz_lmul (pc := 248) hX dX6_qJoins_248 ?_
                      obtain ⟨⟨⟨⟩, m46⟩, c47, h⟩ := gz_bd h
                      refine mc_qPuts (pc := 249) hX c47 ⟨Nat.le_of_ble_eq_true rfl, Nat.le_of_ble_eq_true rfl⟩ (rest := []) rfl (Nat.le_of_ble_eq_true rfl) dX6_qJoins_249 ?_
                      refine gz_goto (pc := 252) (tgt := 273) hX dX6_qJoins_252 (by decide) ?_
                      obtain rfl := Option.some.inj h
                      exact hk _ _ dX6_qJoins_273
                    · replace h := gz_if' g44 h
                      have ng6 := lv_neT g6 (a := 1) (by decide)
                      have ng13 := lv_neT g13 (a := 2) (by decide)
                      have ng20 := lv_neT g20 (a := 3) (by decide)
                      have ng27 := lv_neT g27 (a := 4) (by decide)
                      have ng34 := lv_neT g34 (a := 5) (by decide)
                      have ng36 := lv_neT g36 (a := 6) (by decide)
                      have ng38 := lv_neT g38 (a := 7) (by decide)
                      have ng40 := lv_neT g40 (a := 8) (by decide)
                      have ng42 := lv_neT g42 (a := 9) (by decide)
                      have ng44 := lv_neT g44 (a := 10) (by decide)
                      refine gz_tsOut (pc := 36) (tgt := 255) hX dX6_qJoins_36 (by omega) (by decide) ?_
                      refine gz_aload_n (pc := 255) hX dX6_qJoins_255 rfl 2 rfl ?_
                      refine gz_lload (pc := 256) hX dX6_qJoins_256 0 rfl ?_
                      refine gz_lload_n (pc := 258) hX dX6_qJoins_258 rfl 1 rfl ?_
                      refine gz_ladd (pc := 259) hX dX6_qJoins_259 ?_
                      refine gz_lconst (pc := 260) (v := (0 : Int64)) hX dX6_qJoins_260 (by decide) ?_
                      refine gz_lcmp_le (pc := 261) (tgt := 269) hX dX6_qJoins_261 dX6_qJoins_262 (by decide) (fun g49 => ?_) (fun g49 => ?_)
                      · replace h := gz_it' g49 h
                        refine gz_lconst (pc := 269) (v := (0 : Int64)) hX dX6_qJoins_269 (by decide) ?_
                        refine gz_sub (lw := [(0, .ref (gz_ad G 2000))]) [2] rfl ?_
                        exact wb_X6_qJoins_270 hX h hk
                      · replace h := gz_if' g49 h
                        refine gz_lconst (pc := 265) (v := (1 : Int64)) hX dX6_qJoins_265 (by decide) ?_
                        refine gz_goto (pc := 266) (tgt := 270) hX dX6_qJoins_266 (by decide) ?_
                        refine gz_sub (lw := [(0, .ref (gz_ad G 2000))]) [2] rfl ?_
                        exact wb_X6_qJoins_270 hX h hk
theorem mt_qJoins {G : gz_G} {l : Launch} {x1 : Int32}  {m m9 : MM} (h : mf_qJoins x1 m = some ((), m9)) : gz_Met mS G l yX6_qJoins cX6_qJoins 6 none (mRm 1 25) [.ref (gz_ad G 2000), .int x1] (mF m) (mF m9) none :=
  gz_ofV (plainFor_of_name mz_plain) (Nat.le_of_ble_eq_true rfl) fun X _ hX hk => wm_qJoins hX h hk
theorem mc_qJoins {X : gz_X} {G : gz_G} {cc : ByteArray} {nL fr lo pc : Nat} {lv : List (Nat × Value)} {rest st0 : List Value} (hX : gz_C mS X G cc nL RX6 fr lo) {x1 : Int32}  {m m9 : MM} (h : mf_qJoins x1 m = some ((), m9)) (hroom : 1 + 1 ≤ fr ∧ 8 + (6 + 11) + 25 ≤ lo) (hst : st0 = [.int x1, .ref (gz_ad G 2000)] ++ rest) (hW : (rest.map fun v => v.category).sum ≤ 8) (hd : decode cc pc = .ok (.invokevirtual 448, 3)) (kk : gz_V mS X G nL (0, 0) (mF m9) (pc + 3) lv (rest)) : gz_V mS X G nL (0, 0) (mF m) pc lv st0 :=
  gz_callV hX mz_E (As := [.int x1]) (rest := rest) (q := (RX6, TX6, 104)) (ci := 0) (c := 2000) (mt_qJoins (l := X.2.1) h) (lw_V q2370 q2372 qs128 q182 q2373) (n := 1) (by decide +kernel) hroom rfl rfl (by decide) rfl hst hW hd (rem := (0, 0)) kk
