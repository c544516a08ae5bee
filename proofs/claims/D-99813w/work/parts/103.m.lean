set_option maxRecDepth 100000
/-! qGoesOnTest()Z -/
def mP_X6_qGoesOnTest_0 (X : gz_X) (G : gz_G) (q : (MM)) : Prop := gz_V mS X G 1 (0, 0) (mF q) 0 [(0, .ref (gz_ad G 2000))] []
noncomputable def mj_X6_qGoesOnTest_208  (m : MM) : Option (Int32 × MM) :=
  some ((0 : Int32), m)
theorem wb_X6_qGoesOnTest_208 {X : gz_X} {G : gz_G} (hX : gz_C mS X G cX6_qGoesOnTest 1 RX6 3 64)   {m : MM} {z : (Int32 × MM)} (h : mj_X6_qGoesOnTest_208  m = some z) (hk : (fun z : (Int32 × MM) => gz_kZ mS X G 1 (0, 0) cX6_qGoesOnTest (mF z.2) z.1) z) : gz_V mS X G 1 (0, 0) (mF m) 208 [(0, .ref (gz_ad G 2000))] [] := by
  unfold mj_X6_qGoesOnTest_208 at h
  refine gz_iconst (pc := 208) (v := (0 : Int32)) hX dX6_qGoesOnTest_208 (by decide) ?_
  obtain rfl := Option.some.inj h
  exact hk _ _ dX6_qGoesOnTest_209 (Or.inl rfl)
def mP_X6_qGoesOnTest_137 (X : gz_X) (G : gz_G) (q : (MM)) : Prop := gz_V mS X G 1 (0, 0) (mF q) 137 [(0, .ref (gz_ad G 2000))] []
noncomputable def mj_X6_qGoesOnTest_155  (m : MM) : Option ((MM) ⊕ (Int32 × MM)) :=
  ((mf_qDrops m).bind fun (_, m2) => some (Sum.inl (m2)))
theorem wb_X6_qGoesOnTest_155 {X : gz_X} {G : gz_G} (hX : gz_C mS X G cX6_qGoesOnTest 1 RX6 3 64)   {m : MM} {z : ((MM) ⊕ (Int32 × MM))} (h : mj_X6_qGoesOnTest_155  m = some z) (hk : (Sum.elim (mP_X6_qGoesOnTest_137 X G) (fun z : (Int32 × MM) => gz_kZ mS X G 1 (0, 0) cX6_qGoesOnTest (mF z.2) z.1)) z) : gz_V mS X G 1 (0, 0) (mF m) 155 [(0, .ref (gz_ad G 2000))] [] := by
  unfold mj_X6_qGoesOnTest_155 at h
  refine gz_aload_n (pc := 155) hX dX6_qGoesOnTest_155 rfl 0 rfl ?_
  obtain ⟨⟨⟨⟩, m2⟩, c3, h⟩ := gz_bd h
  refine mc_qDrops (pc := 156) hX c3 ⟨Nat.le_of_ble_eq_true rfl, Nat.le_of_ble_eq_true rfl⟩ (rest := []) rfl (Nat.le_of_ble_eq_true rfl) dX6_qGoesOnTest_156 ?_
  refine gz_goto (pc := 159) (tgt := 137) hX dX6_qGoesOnTest_159 (by decide) ?_
  obtain rfl := Option.some.inj h
  exact hk
noncomputable def mb_X6_qGoesOnTest_137  (m : MM) : Option ((MM) ⊕ (Int32 × MM)) :=
  ((mf_qIsOn (10 : Int32) m).bind fun (r1, m2) => (if r1 = (0 : Int32) then ((mf_qIsOn (11 : Int32) m2).bind fun (r5, m6) => (if r5 = (0 : Int32) then (if gz_in (m6.1 2000 95) (1700) then gz_let (msI m6 1095 (gz_ix (m6.1 2000 95)) (11 : Int32)) fun m10 => gz_let (msI m10 2000 95 ((m10.1 2000 95) + (1 : Int32))) fun m11 => some (Sum.inr ((1 : Int32), m11)) else none) else (mj_X6_qGoesOnTest_155  m6))) else (mj_X6_qGoesOnTest_155  m2)))
theorem wb_X6_qGoesOnTest_137 {X : gz_X} {G : gz_G} (hX : gz_C mS X G cX6_qGoesOnTest 1 RX6 3 64)   {m : MM} {z : ((MM) ⊕ (Int32 × MM))} (h : mb_X6_qGoesOnTest_137  m = some z) (hk : (Sum.elim (mP_X6_qGoesOnTest_137 X G) (fun z : (Int32 × MM) => gz_kZ mS X G 1 (0, 0) cX6_qGoesOnTest (mF z.2) z.1)) z) : gz_V mS X G 1 (0, 0) (mF m) 137 [(0, .ref (gz_ad G 2000))] [] := by
  unfold mb_X6_qGoesOnTest_137 at h
  refine gz_aload_n (pc := 137) hX dX6_qGoesOnTest_137 rfl 0 rfl ?_
  refine gz_bipush (pc := 138) (v := (10 : Int32)) hX dX6_qGoesOnTest_138 (by decide) ?_
  obtain ⟨⟨r1, m2⟩, c3, h⟩ := gz_bd h
  refine mc_qIsOn (pc := 140) hX c3 ⟨Nat.le_of_ble_eq_true rfl, Nat.le_of_ble_eq_true rfl⟩ (rest := []) rfl (Nat.le_of_ble_eq_true rfl) dX6_qGoesOnTest_140 ?_
  refine gz_if_ne (pc := 143) (tgt := 155) hX dX6_qGoesOnTest_143 (by decide) (fun g4 => ?_) (fun g4 => ?_)
  · replace h := gz_if' g4 h
    exact wb_X6_qGoesOnTest_155 hX h hk
  · replace h := gz_it' g4 h
    refine gz_aload_n (pc := 146) hX dX6_qGoesOnTest_146 rfl 0 rfl ?_
    refine gz_bipush (pc := 147) (v := (11 : Int32)) hX dX6_qGoesOnTest_147 (by decide) ?_
    obtain ⟨⟨r5, m6⟩, c7, h⟩ := gz_bd h
    refine mc_qIsOn (pc := 149) hX c7 ⟨Nat.le_of_ble_eq_true rfl, Nat.le_of_ble_eq_true rfl⟩ (rest := []) rfl (Nat.le_of_ble_eq_true rfl) dX6_qGoesOnTest_149 ?_
    refine gz_if_eq (pc := 152) (tgt := 162) hX dX6_qGoesOnTest_152 (by decide) (fun g8 => ?_) (fun g8 => ?_)
    · replace h := gz_it' g8 h
      refine gz_aload_n (pc := 162) hX dX6_qGoesOnTest_162 rfl 0 rfl ?_
      refine mg_94 (pc := 163) hX dX6_qGoesOnTest_163 ?_
      refine gz_aload_n (pc := 166) hX dX6_qGoesOnTest_166 rfl 0 rfl ?_
      refine mg_95 (pc := 167) hX dX6_qGoesOnTest_167 ?_
      refine gz_bipush (pc := 170) (v := (11 : Int32)) hX dX6_qGoesOnTest_170 (by decide) ?_
      obtain ⟨g9, h⟩ := gz_gu h
      obtain ⟨m10, em10, h⟩ := gz_lt h
      refine mz_iast (pc := 172) (c := 1095) (n := 1700) hX rfl rfl g9 (Nat.le_of_ble_eq_true rfl) dX6_qGoesOnTest_172 em10 ?_
      refine gz_aload_n (pc := 173) hX dX6_qGoesOnTest_173 rfl 0 rfl ?_
      refine gz_dup (pc := 174) hX dX6_qGoesOnTest_174 rfl ?_
      refine mg_95 (pc := 175) hX dX6_qGoesOnTest_175 ?_
      refine gz_iconst (pc := 178) (v := (1 : Int32)) hX dX6_qGoesOnTest_178 (by decide) ?_
      refine gz_iadd (pc := 179) hX dX6_qGoesOnTest_179 ?_
      obtain ⟨m11, em11, h⟩ := gz_lt h
      refine mp_95 (pc := 180) hX dX6_qGoesOnTest_180 em11 ?_
      refine gz_iconst (pc := 183) (v := (1 : Int32)) hX dX6_qGoesOnTest_183 (by decide) ?_
      obtain rfl := Option.some.inj h
      exact hk _ _ dX6_qGoesOnTest_184 (Or.inr rfl)
    · replace h := gz_if' g8 h
      exact wb_X6_qGoesOnTest_155 hX h hk
noncomputable def ml_X6_qGoesOnTest_137  (m : MM) : Option (Int32 × MM) := gz_loop (fun q : (MM) => mb_X6_qGoesOnTest_137  q) (m)
theorem wl_X6_qGoesOnTest_137 {X : gz_X} {G : gz_G} (hX : gz_C mS X G cX6_qGoesOnTest 1 RX6 3 64)   {m : MM} {z : (Int32 × MM)} (h : ml_X6_qGoesOnTest_137  m = some z) (hk : (fun z : (Int32 × MM) => gz_kZ mS X G 1 (0, 0) cX6_qGoesOnTest (mF z.2) z.1) z) : gz_V mS X G 1 (0, 0) (mF m) 137 [(0, .ref (gz_ad G 2000))] [] := by
  have hp : mP_X6_qGoesOnTest_137 X G (m) := gz_loop_ind (fun q z hz hkz => wb_X6_qGoesOnTest_137 hX  hz hkz) h hk
  exact hp
def mP_X6_qGoesOnTest_87 (X : gz_X) (G : gz_G) (q : (MM)) : Prop := gz_V mS X G 1 (0, 0) (mF q) 87 [(0, .ref (gz_ad G 2000))] []
noncomputable def mb_X6_qGoesOnTest_87  (m : MM) : Option ((MM) ⊕ (Int32 × MM)) :=
  ((mf_qIsOn (10 : Int32) m).bind fun (r1, m2) => (if r1 = (0 : Int32) then (if gz_in (m2.1 2000 95) (1700) then gz_let (msI m2 1095 (gz_ix (m2.1 2000 95)) (10 : Int32)) fun m6 => gz_let (msI m6 2000 95 ((m6.1 2000 95) + (1 : Int32))) fun m7 => some (Sum.inr ((1 : Int32), m7)) else none) else ((mf_qDrops m2).bind fun (_, m9) => some (Sum.inl (m9)))))
theorem wb_X6_qGoesOnTest_87 {X : gz_X} {G : gz_G} (hX : gz_C mS X G cX6_qGoesOnTest 1 RX6 3 64)   {m : MM} {z : ((MM) ⊕ (Int32 × MM))} (h : mb_X6_qGoesOnTest_87  m = some z) (hk : (Sum.elim (mP_X6_qGoesOnTest_87 X G) (fun z : (Int32 × MM) => gz_kZ mS X G 1 (0, 0) cX6_qGoesOnTest (mF z.2) z.1)) z) : gz_V mS X G 1 (0, 0) (mF m) 87 [(0, .ref (gz_ad G 2000))] [] := by
  unfold mb_X6_qGoesOnTest_87 at h
  refine gz_aload_n (pc := 87) hX dX6_qGoesOnTest_87 rfl 0 rfl ?_
  refine gz_bipush (pc := 88) (v := (10 : Int32)) hX dX6_qGoesOnTest_88 (by decide) ?_
  obtain ⟨⟨r1, m2⟩, c3, h⟩ := gz_bd h
  refine mc_qIsOn (pc := 90) hX c3 ⟨Nat.le_of_ble_eq_true rfl, Nat.le_of_ble_eq_true rfl⟩ (rest := []) rfl (Nat.le_of_ble_eq_true rfl) dX6_qGoesOnTest_90 ?_
  refine gz_if_eq (pc := 93) (tgt := 103) hX dX6_qGoesOnTest_93 (by decide) (fun g4 => ?_) (fun g4 => ?_)
  · replace h := gz_it' g4 h
    refine gz_aload_n (pc := 103) hX dX6_qGoesOnTest_103 rfl 0 rfl ?_
    refine mg_94 (pc := 104) hX dX6_qGoesOnTest_104 ?_
    refine gz_aload_n (pc := 107) hX dX6_qGoesOnTest_107 rfl 0 rfl ?_
    refine mg_95 (pc := 108) hX dX6_qGoesOnTest_108 ?_
    refine gz_bipush (pc := 111) (v := (10 : Int32)) hX dX6_qGoesOnTest_111 (by decide) ?_
    obtain ⟨g5, h⟩ := gz_gu h
    obtain ⟨m6, em6, h⟩ := gz_lt h
    refine mz_iast (pc := 113) (c := 1095) (n := 1700) hX rfl rfl g5 (Nat.le_of_ble_eq_true rfl) dX6_qGoesOnTest_113 em6 ?_
    refine gz_aload_n (pc := 114) hX dX6_qGoesOnTest_114 rfl 0 rfl ?_
    refine gz_dup (pc := 115) hX dX6_qGoesOnTest_115 rfl ?_
    refine mg_95 (pc := 116) hX dX6_qGoesOnTest_116 ?_
    refine gz_iconst (pc := 119) (v := (1 : Int32)) hX dX6_qGoesOnTest_119 (by decide) ?_
    refine gz_iadd (pc := 120) hX dX6_qGoesOnTest_120 ?_
    obtain ⟨m7, em7, h⟩ := gz_lt h
    refine mp_95 (pc := 121) hX dX6_qGoesOnTest_121 em7 ?_
    refine gz_iconst (pc := 124) (v := (1 : Int32)) hX dX6_qGoesOnTest_124 (by decide) ?_
    obtain rfl := Option.some.inj h
    exact hk _ _ dX6_qGoesOnTest_125 (Or.inr rfl)
  · replace h := gz_if' g4 h
    refine gz_aload_n (pc := 96) hX dX6_qGoesOnTest_96 rfl 0 rfl ?_
    obtain ⟨⟨⟨⟩, m9⟩, c10, h⟩ := gz_bd h
    refine mc_qDrops (pc := 97) hX c10 ⟨Nat.le_of_ble_eq_true rfl, Nat.le_of_ble_eq_true rfl⟩ (rest := []) rfl (Nat.le_of_ble_eq_true rfl) dX6_qGoesOnTest_97 ?_
    refine gz_goto (pc := 100) (tgt := 87) hX dX6_qGoesOnTest_100 (by decide) ?_
    obtain rfl := Option.some.inj h
    exact hk
noncomputable def ml_X6_qGoesOnTest_87  (m : MM) : Option (Int32 × MM) := gz_loop (fun q : (MM) => mb_X6_qGoesOnTest_87  q) (m)
theorem wl_X6_qGoesOnTest_87 {X : gz_X} {G : gz_G} (hX : gz_C mS X G cX6_qGoesOnTest 1 RX6 3 64)   {m : MM} {z : (Int32 × MM)} (h : ml_X6_qGoesOnTest_87  m = some z) (hk : (fun z : (Int32 × MM) => gz_kZ mS X G 1 (0, 0) cX6_qGoesOnTest (mF z.2) z.1) z) : gz_V mS X G 1 (0, 0) (mF m) 87 [(0, .ref (gz_ad G 2000))] [] := by
  have hp : mP_X6_qGoesOnTest_87 X G (m) := gz_loop_ind (fun q z hz hkz => wb_X6_qGoesOnTest_87 hX  hz hkz) h hk
  exact hp
noncomputable def mj_X6_qGoesOnTest_76  (m : MM) : Option (Int32 × MM) :=
  ((mf_takes 1079 m).bind fun (r1, m2) => (if r1 = (0 : Int32) then ((mf_takes 1080 m2).bind fun (r5, m6) => (if r5 = (0 : Int32) then (if (m6.1 2000 5) = (0 : Int32) then ((mf_qHasSquare m6).bind fun (r10, m11) => (if r10 = (0 : Int32) then (mj_X6_qGoesOnTest_208  m11) else ((mf_fail (1 : Int32) (m11.1 2000 2) m11).bind fun (_, m15) => (mj_X6_qGoesOnTest_208  m15)))) else (mj_X6_qGoesOnTest_208  m6)) else (ml_X6_qGoesOnTest_137  m6))) else (ml_X6_qGoesOnTest_87  m2)))
theorem wb_X6_qGoesOnTest_76 {X : gz_X} {G : gz_G} (hX : gz_C mS X G cX6_qGoesOnTest 1 RX6 3 64)   {m : MM} {z : (Int32 × MM)} (h : mj_X6_qGoesOnTest_76  m = some z) (hk : (fun z : (Int32 × MM) => gz_kZ mS X G 1 (0, 0) cX6_qGoesOnTest (mF z.2) z.1) z) : gz_V mS X G 1 (0, 0) (mF m) 76 [(0, .ref (gz_ad G 2000))] [] := by
  unfold mj_X6_qGoesOnTest_76 at h
  refine gz_aload_n (pc := 76) hX dX6_qGoesOnTest_76 rfl 0 rfl ?_
  refine gz_aload_n (pc := 77) hX dX6_qGoesOnTest_77 rfl 0 rfl ?_
  refine mg_78 (pc := 78) hX dX6_qGoesOnTest_78 ?_
  obtain ⟨⟨r1, m2⟩, c3, h⟩ := gz_bd h
  refine mc_takes (pc := 81) hX rfl c3 ⟨Nat.le_of_ble_eq_true rfl, Nat.le_of_ble_eq_true rfl⟩ (rest := []) rfl (Nat.le_of_ble_eq_true rfl) dX6_qGoesOnTest_81 ?_
  refine gz_if_eq (pc := 84) (tgt := 126) hX dX6_qGoesOnTest_84 (by decide) (fun g4 => ?_) (fun g4 => ?_)
  · replace h := gz_it' g4 h
    refine gz_aload_n (pc := 126) hX dX6_qGoesOnTest_126 rfl 0 rfl ?_
    refine gz_aload_n (pc := 127) hX dX6_qGoesOnTest_127 rfl 0 rfl ?_
    refine mg_79 (pc := 128) hX dX6_qGoesOnTest_128 ?_
    obtain ⟨⟨r5, m6⟩, c7, h⟩ := gz_bd h
    refine mc_takes (pc := 131) hX rfl c7 ⟨Nat.le_of_ble_eq_true rfl, Nat.le_of_ble_eq_true rfl⟩ (rest := []) rfl (Nat.le_of_ble_eq_true rfl) dX6_qGoesOnTest_131 ?_
    refine gz_if_eq (pc := 134) (tgt := 185) hX dX6_qGoesOnTest_134 (by decide) (fun g8 => ?_) (fun g8 => ?_)
    · replace h := gz_it' g8 h
      refine gz_aload_n (pc := 185) hX dX6_qGoesOnTest_185 rfl 0 rfl ?_
      refine mg_5 (pc := 186) hX dX6_qGoesOnTest_186 ?_
      refine gz_if_ne (pc := 189) (tgt := 208) hX dX6_qGoesOnTest_189 (by decide) (fun g9 => ?_) (fun g9 => ?_)
      · replace h := gz_if' g9 h
        exact wb_X6_qGoesOnTest_208 hX h hk
      · replace h := gz_it' g9 h
        refine gz_aload_n (pc := 192) hX dX6_qGoesOnTest_192 rfl 0 rfl ?_
        obtain ⟨⟨r10, m11⟩, c12, h⟩ := gz_bd h
        refine mc_qHasSquare (pc := 193) hX c12 ⟨Nat.le_of_ble_eq_true rfl, Nat.le_of_ble_eq_true rfl⟩ (rest := []) rfl (Nat.le_of_ble_eq_true rfl) dX6_qGoesOnTest_193 ?_
        refine gz_if_eq (pc := 196) (tgt := 208) hX dX6_qGoesOnTest_196 (by decide) (fun g13 => ?_) (fun g13 => ?_)
        · replace h := gz_it' g13 h
          exact wb_X6_qGoesOnTest_208 hX h hk
        · replace h := gz_if' g13 h
          refine gz_aload_n (pc := 199) hX dX6_qGoesOnTest_199 rfl 0 rfl ?_
          refine gz_iconst (pc := 200) (v := (1 : Int32)) hX dX6_qGoesOnTest_200 (by decide) ?_
          refine gz_aload_n (pc := 201) hX dX6_qGoesOnTest_201 rfl 0 rfl ?_
          refine mg_2 (pc := 202) hX dX6_qGoesOnTest_202 ?_
          obtain ⟨⟨⟨⟩, m15⟩, c16, h⟩ := gz_bd h
          refine mc_fail (pc := 205) hX c16 ⟨Nat.le_of_ble_eq_true rfl, Nat.le_of_ble_eq_true rfl⟩ (rest := []) rfl (Nat.le_of_ble_eq_true rfl) dX6_qGoesOnTest_205 ?_
          exact wb_X6_qGoesOnTest_208 hX h hk
    · replace h := gz_if' g8 h
      exact wl_X6_qGoesOnTest_137 hX h hk
  · replace h := gz_if' g4 h
    exact wl_X6_qGoesOnTest_87 hX h hk
def mP_X6_qGoesOnTest_33 (X : gz_X) (G : gz_G) (q : (MM)) : Prop := gz_V mS X G 1 (0, 0) (mF q) 33 [(0, .ref (gz_ad G 2000))] []
noncomputable def mb_X6_qGoesOnTest_33  (m : MM) : Option ((MM) ⊕ ((MM) ⊕ (Int32 × MM))) :=
  ((mf_qIsOn (25 : Int32) m).bind fun (r1, m2) => (if r1 = (0 : Int32) then ((mf_qDrops m2).bind fun (_, m11) => some (Sum.inl (m11))) else gz_let (msI m2 2000 95 ((m2.1 2000 95) - (1 : Int32))) fun m5 => gz_let (msI m5 2000 96 ((m5.1 2000 96) - (1 : Int32))) fun m6 => ((mf_qDropsNots m6).bind fun (_, m8) => some (Sum.inr (Sum.inl (m8))))))
theorem wb_X6_qGoesOnTest_33 {X : gz_X} {G : gz_G} (hX : gz_C mS X G cX6_qGoesOnTest 1 RX6 3 64)   {m : MM} {z : ((MM) ⊕ ((MM) ⊕ (Int32 × MM)))} (h : mb_X6_qGoesOnTest_33  m = some z) (hk : (Sum.elim (mP_X6_qGoesOnTest_33 X G) (Sum.elim (mP_X6_qGoesOnTest_0 X G) (fun z : (Int32 × MM) => gz_kZ mS X G 1 (0, 0) cX6_qGoesOnTest (mF z.2) z.1))) z) : gz_V mS X G 1 (0, 0) (mF m) 33 [(0, .ref (gz_ad G 2000))] [] := by
  unfold mb_X6_qGoesOnTest_33 at h
  refine gz_aload_n (pc := 33) hX dX6_qGoesOnTest_33 rfl 0 rfl ?_
  refine gz_bipush (pc := 34) (v := (25 : Int32)) hX dX6_qGoesOnTest_34 (by decide) ?_
  obtain ⟨⟨r1, m2⟩, c3, h⟩ := gz_bd h
  refine mc_qIsOn (pc := 36) hX c3 ⟨Nat.le_of_ble_eq_true rfl, Nat.le_of_ble_eq_true rfl⟩ (rest := []) rfl (Nat.le_of_ble_eq_true rfl) dX6_qGoesOnTest_36 ?_
  refine gz_if_ne (pc := 39) (tgt := 49) hX dX6_qGoesOnTest_39 (by decide) (fun g4 => ?_) (fun g4 => ?_)
  · replace h := gz_if' g4 h
    refine gz_aload_n (pc := 49) hX dX6_qGoesOnTest_49 rfl 0 rfl ?_
    refine gz_dup (pc := 50) hX dX6_qGoesOnTest_50 rfl ?_
    refine mg_95 (pc := 51) hX dX6_qGoesOnTest_51 ?_
    refine gz_iconst (pc := 54) (v := (1 : Int32)) hX dX6_qGoesOnTest_54 (by decide) ?_
    refine gz_isub (pc := 55) hX dX6_qGoesOnTest_55 ?_
    obtain ⟨m5, em5, h⟩ := gz_lt h
    refine mp_95 (pc := 56) hX dX6_qGoesOnTest_56 em5 ?_
    refine gz_aload_n (pc := 59) hX dX6_qGoesOnTest_59 rfl 0 rfl ?_
    refine gz_dup (pc := 60) hX dX6_qGoesOnTest_60 rfl ?_
    refine mg_96 (pc := 61) hX dX6_qGoesOnTest_61 ?_
    refine gz_iconst (pc := 64) (v := (1 : Int32)) hX dX6_qGoesOnTest_64 (by decide) ?_
    refine gz_isub (pc := 65) hX dX6_qGoesOnTest_65 ?_
    obtain ⟨m6, em6, h⟩ := gz_lt h
    refine mp_96 (pc := 66) hX dX6_qGoesOnTest_66 em6 ?_
    refine gz_aload_n (pc := 69) hX dX6_qGoesOnTest_69 rfl 0 rfl ?_
    obtain ⟨⟨⟨⟩, m8⟩, c9, h⟩ := gz_bd h
    refine mc_qDropsNots (pc := 70) hX c9 ⟨Nat.le_of_ble_eq_true rfl, Nat.le_of_ble_eq_true rfl⟩ (rest := []) rfl (Nat.le_of_ble_eq_true rfl) dX6_qGoesOnTest_70 ?_
    refine gz_goto (pc := 73) (tgt := 0) hX dX6_qGoesOnTest_73 (by decide) ?_
    obtain rfl := Option.some.inj h
    exact hk
  · replace h := gz_it' g4 h
    refine gz_aload_n (pc := 42) hX dX6_qGoesOnTest_42 rfl 0 rfl ?_
    obtain ⟨⟨⟨⟩, m11⟩, c12, h⟩ := gz_bd h
    refine mc_qDrops (pc := 43) hX c12 ⟨Nat.le_of_ble_eq_true rfl, Nat.le_of_ble_eq_true rfl⟩ (rest := []) rfl (Nat.le_of_ble_eq_true rfl) dX6_qGoesOnTest_43 ?_
    refine gz_goto (pc := 46) (tgt := 33) hX dX6_qGoesOnTest_46 (by decide) ?_
    obtain rfl := Option.some.inj h
    exact hk
noncomputable def ml_X6_qGoesOnTest_33  (m : MM) : Option ((MM) ⊕ (Int32 × MM)) := gz_loop (fun q : (MM) => mb_X6_qGoesOnTest_33  q) (m)
theorem wl_X6_qGoesOnTest_33 {X : gz_X} {G : gz_G} (hX : gz_C mS X G cX6_qGoesOnTest 1 RX6 3 64)   {m : MM} {z : ((MM) ⊕ (Int32 × MM))} (h : ml_X6_qGoesOnTest_33  m = some z) (hk : (Sum.elim (mP_X6_qGoesOnTest_0 X G) (fun z : (Int32 × MM) => gz_kZ mS X G 1 (0, 0) cX6_qGoesOnTest (mF z.2) z.1)) z) : gz_V mS X G 1 (0, 0) (mF m) 33 [(0, .ref (gz_ad G 2000))] [] := by
  have hp : mP_X6_qGoesOnTest_33 X G (m) := gz_loop_ind (fun q z hz hkz => wb_X6_qGoesOnTest_33 hX  hz hkz) h hk
  exact hp
noncomputable def mb_X6_qGoesOnTest_0  (m : MM) : Option ((MM) ⊕ (Int32 × MM)) :=
  (if (m.1 2000 5) = (0 : Int32) then ((mf_look m).bind fun (r2, m3) => (if r2 = (93 : Int32) then ((mf_qHasSquare m3).bind fun (r6, m7) => (if r6 = (0 : Int32) then (Option.map Sum.inr (mj_X6_qGoesOnTest_76  m7)) else gz_let (msI m7 2000 2 ((m7.1 2000 2) + (1 : Int32))) fun m10 => (ml_X6_qGoesOnTest_33  m10))) else (Option.map Sum.inr (mj_X6_qGoesOnTest_76  m3)))) else (Option.map Sum.inr (mj_X6_qGoesOnTest_76  m)))
theorem wb_X6_qGoesOnTest_0 {X : gz_X} {G : gz_G} (hX : gz_C mS X G cX6_qGoesOnTest 1 RX6 3 64)   {m : MM} {z : ((MM) ⊕ (Int32 × MM))} (h : mb_X6_qGoesOnTest_0  m = some z) (hk : (Sum.elim (mP_X6_qGoesOnTest_0 X G) (fun z : (Int32 × MM) => gz_kZ mS X G 1 (0, 0) cX6_qGoesOnTest (mF z.2) z.1)) z) : gz_V mS X G 1 (0, 0) (mF m) 0 [(0, .ref (gz_ad G 2000))] [] := by
  unfold mb_X6_qGoesOnTest_0 at h
  refine gz_aload_n (pc := 0) hX dX6_qGoesOnTest_0 rfl 0 rfl ?_
  refine mg_5 (pc := 1) hX dX6_qGoesOnTest_1 ?_
  refine gz_if_ne (pc := 4) (tgt := 76) hX dX6_qGoesOnTest_4 (by decide) (fun g1 => ?_) (fun g1 => ?_)
  · replace h := gz_if' g1 h
    obtain ⟨z0, hm0, rfl⟩ := gz_mp h
    exact wb_X6_qGoesOnTest_76 hX hm0 hk
  · replace h := gz_it' g1 h
    refine gz_aload_n (pc := 7) hX dX6_qGoesOnTest_7 rfl 0 rfl ?_
    obtain ⟨⟨r2, m3⟩, c4, h⟩ := gz_bd h
    refine mc_look (pc := 8) hX c4 ⟨Nat.le_of_ble_eq_true rfl, Nat.le_of_ble_eq_true rfl⟩ (rest := []) rfl (Nat.le_of_ble_eq_true rfl) dX6_qGoesOnTest_8 ?_
    refine gz_bipush (pc := 11) (v := (93 : Int32)) hX dX6_qGoesOnTest_11 (by decide) ?_
    refine gz_icmp_ne (pc := 13) (tgt := 76) hX dX6_qGoesOnTest_13 (by decide) (fun g5 => ?_) (fun g5 => ?_)
    · replace h := gz_if' g5 h
      obtain ⟨z0, hm0, rfl⟩ := gz_mp h
      exact wb_X6_qGoesOnTest_76 hX hm0 hk
    · replace h := gz_it' g5 h
      refine gz_aload_n (pc := 16) hX dX6_qGoesOnTest_16 rfl 0 rfl ?_
      obtain ⟨⟨r6, m7⟩, c8, h⟩ := gz_bd h
      refine mc_qHasSquare (pc := 17) hX c8 ⟨Nat.le_of_ble_eq_true rfl, Nat.le_of_ble_eq_true rfl⟩ (rest := []) rfl (Nat.le_of_ble_eq_true rfl) dX6_qGoesOnTest_17 ?_
      refine gz_if_eq (pc := 20) (tgt := 76) hX dX6_qGoesOnTest_20 (by decide) (fun g9 => ?_) (fun g9 => ?_)
      · replace h := gz_it' g9 h
        obtain ⟨z0, hm0, rfl⟩ := gz_mp h
        exact wb_X6_qGoesOnTest_76 hX hm0 hk
      · replace h := gz_if' g9 h
        refine gz_aload_n (pc := 23) hX dX6_qGoesOnTest_23 rfl 0 rfl ?_
        refine gz_dup (pc := 24) hX dX6_qGoesOnTest_24 rfl ?_
        refine mg_2 (pc := 25) hX dX6_qGoesOnTest_25 ?_
        refine gz_iconst (pc := 28) (v := (1 : Int32)) hX dX6_qGoesOnTest_28 (by decide) ?_
        refine gz_iadd (pc := 29) hX dX6_qGoesOnTest_29 ?_
        obtain ⟨m10, em10, h⟩ := gz_lt h
        refine mp_2 (pc := 30) hX dX6_qGoesOnTest_30 em10 ?_
        exact wl_X6_qGoesOnTest_33 hX h hk
noncomputable def ml_X6_qGoesOnTest_0  (m : MM) : Option (Int32 × MM) := gz_loop (fun q : (MM) => mb_X6_qGoesOnTest_0  q) (m)
theorem wl_X6_qGoesOnTest_0 {X : gz_X} {G : gz_G} (hX : gz_C mS X G cX6_qGoesOnTest 1 RX6 3 64)   {m : MM} {z : (Int32 × MM)} (h : ml_X6_qGoesOnTest_0  m = some z) (hk : (fun z : (Int32 × MM) => gz_kZ mS X G 1 (0, 0) cX6_qGoesOnTest (mF z.2) z.1) z) : gz_V mS X G 1 (0, 0) (mF m) 0 [(0, .ref (gz_ad G 2000))] [] := by
  have hp : mP_X6_qGoesOnTest_0 X G (m) := gz_loop_ind (fun q z hz hkz => wb_X6_qGoesOnTest_0 hX  hz hkz) h hk
  exact hp
noncomputable def mf_qGoesOnTest  (m : MM) : Option (Int32 × MM) :=
  (ml_X6_qGoesOnTest_0  m)
theorem wm_qGoesOnTest {X : gz_X} {G : gz_G} (hX : gz_C mS X G cX6_qGoesOnTest 1 RX6 3 64)   {m : MM} {z : (Int32 × MM)} (h : mf_qGoesOnTest  m = some z) (hk : (fun z : (Int32 × MM) => gz_kZ mS X G 1 (0, 0) cX6_qGoesOnTest (mF z.2) z.1) z) : gz_V mS X G 1 (0, 0) (mF m) 0 [(0, .ref (gz_ad G 2000))] [] := by
  unfold mf_qGoesOnTest at h
  exact wl_X6_qGoesOnTest_0 hX h hk
theorem mt_qGoesOnTest {G : gz_G} {l : Launch}   {m m9 : MM} {r : Int32} (h : mf_qGoesOnTest  m = some (r, m9)) : gz_Met mS G l yX6_qGoesOnTest cX6_qGoesOnTest 1 (some .boolean) (mRm 3 64) [.ref (gz_ad G 2000)] (mF m) (mF m9) (some (.int r)) :=
  gz_ofZ (plainFor_of_name mz_plain) (Nat.le_of_ble_eq_true rfl) fun X _ hX hk => wm_qGoesOnTest hX h hk
theorem mc_qGoesOnTest {X : gz_X} {G : gz_G} {cc : ByteArray} {nL fr lo pc : Nat} {lv : List (Nat × Value)} {rest st0 : List Value} (hX : gz_C mS X G cc nL RX6 fr lo)   {m m9 : MM} {r : Int32} (h : mf_qGoesOnTest  m = some (r, m9)) (hroom : 3 + 1 ≤ fr ∧ 8 + (1 + 11) + 64 ≤ lo) (hst : st0 = [.ref (gz_ad G 2000)] ++ rest) (hW : (rest.map fun v => v.category).sum ≤ 8) (hd : decode cc pc = .ok (.invokevirtual 642, 3)) (kk : gz_V mS X G nL (0, 0) (mF m9) (pc + 3) lv (.int r :: rest)) : gz_V mS X G nL (0, 0) (mF m) pc lv st0 :=
  gz_callV hX mz_E (As := []) (rest := rest) (q := (RX6, TX6, 104)) (ci := 0) (c := 2000) (mt_qGoesOnTest (l := X.2.1) h) (lw_V q2258 q2260 qs105 q182 q2261) (n := 0) (by decide +kernel) hroom rfl rfl (by decide) rfl hst hW hd (rem := (0, 0)) kk
/-! qTest()V -/
def mP_X6_qTest_2 (X : gz_X) (G : gz_G) (q : (Int32 × MM)) : Prop := gz_V mS X G 3 (0, 0) (mF q.2) 2 [(0, .ref (gz_ad G 2000)), (1, .int q.1)] []
def mP_X6_qTest_110 (X : gz_X) (G : gz_G) (q : (MM)) : Prop := gz_V mS X G 3 (0, 0) (mF q) 110 [(0, .ref (gz_ad G 2000))] []
noncomputable def mb_X6_qTest_110  (m : MM) : Option ((MM) ⊕ (Unit × MM)) :=
  (if (m.1 2000 5) = (0 : Int32) then (if (m.1 2000 95) ≤ (0 : Int32) then some (Sum.inr ((), m)) else ((mf_qDrops m).bind fun (_, m4) => some (Sum.inl (m4)))) else some (Sum.inr ((), m)))
theorem wb_X6_qTest_110 {X : gz_X} {G : gz_G} (hX : gz_C mS X G cX6_qTest 3 RX6 8 174)   {m : MM} {z : ((MM) ⊕ (Unit × MM))} (h : mb_X6_qTest_110  m = some z) (hk : (Sum.elim (mP_X6_qTest_110 X G) (fun z : (Unit × MM) => gz_kV mS X G 3 (0, 0) cX6_qTest (mF z.2))) z) : gz_V mS X G 3 (0, 0) (mF m) 110 [(0, .ref (gz_ad G 2000))] [] := by
  unfold mb_X6_qTest_110 at h
  refine gz_aload_n (pc := 110) hX dX6_qTest_110 rfl 0 rfl ?_
  refine mg_5 (pc := 111) hX dX6_qTest_111 ?_
  refine gz_if_ne (pc := 114) (tgt := 131) hX dX6_qTest_114 (by decide) (fun g1 => ?_) (fun g1 => ?_)
  · replace h := gz_if' g1 h
    obtain rfl := Option.some.inj h
    exact hk _ _ dX6_qTest_131
  · replace h := gz_it' g1 h
    refine gz_aload_n (pc := 117) hX dX6_qTest_117 rfl 0 rfl ?_
    refine mg_95 (pc := 118) hX dX6_qTest_118 ?_
    refine gz_if_le (pc := 121) (tgt := 131) hX dX6_qTest_121 (by decide) (fun g2 => ?_) (fun g2 => ?_)
    · replace h := gz_it' g2 h
      obtain rfl := Option.some.inj h
      exact hk _ _ dX6_qTest_131
    · replace h := gz_if' g2 h
      refine gz_aload_n (pc := 124) hX dX6_qTest_124 rfl 0 rfl ?_
      obtain ⟨⟨⟨⟩, m4⟩, c5, h⟩ := gz_bd h
      refine mc_qDrops (pc := 125) hX c5 ⟨Nat.le_of_ble_eq_true rfl, Nat.le_of_ble_eq_true rfl⟩ (rest := []) rfl (Nat.le_of_ble_eq_true rfl) dX6_qTest_125 ?_
      refine gz_goto (pc := 128) (tgt := 110) hX dX6_qTest_128 (by decide) ?_
      obtain rfl := Option.some.inj h
      exact hk
noncomputable def ml_X6_qTest_110  (m : MM) : Option (Unit × MM) := gz_loop (fun q : (MM) => mb_X6_qTest_110  q) (m)
theorem wl_X6_qTest_110 {X : gz_X} {G : gz_G} (hX : gz_C mS X G cX6_qTest 3 RX6 8 174)   {m : MM} {z : (Unit × MM)} (h : ml_X6_qTest_110  m = some z) (hk : (fun z : (Unit × MM) => gz_kV mS X G 3 (0, 0) cX6_qTest (mF z.2)) z) : gz_V mS X G 3 (0, 0) (mF m) 110 [(0, .ref (gz_ad G 2000))] [] := by
  have hp : mP_X6_qTest_110 X G (m) := gz_loop_ind (fun q z hz hkz => wb_X6_qTest_110 hX  hz hkz) h hk
  exact hp
noncomputable def mj_X6_qTest_106 (s0 : Int32) (m : MM) : Option ((Int32 × MM) ⊕ (Unit × MM)) :=
  some (Sum.inl (s0, m))
theorem wb_X6_qTest_106 {X : gz_X} {G : gz_G} (hX : gz_C mS X G cX6_qTest 3 RX6 8 174) {s0 : Int32}  {m : MM} {z : ((Int32 × MM) ⊕ (Unit × MM))} (h : mj_X6_qTest_106 s0 m = some z) (hk : (Sum.elim (mP_X6_qTest_2 X G) (fun z : (Unit × MM) => gz_kV mS X G 3 (0, 0) cX6_qTest (mF z.2))) z) : gz_V mS X G 3 (0, 0) (mF m) 106 [(0, .ref (gz_ad G 2000))] [.int s0] := by
  unfold mj_X6_qTest_106 at h
  refine gz_istore_n (pc := 106) (lw := [(1, .int s0), (0, .ref (gz_ad G 2000))]) hX dX6_qTest_106 rfl (by decide) rfl ?_
  refine gz_goto (pc := 107) (tgt := 2) hX dX6_qTest_107 (by decide) ?_
  refine gz_sub (lw := [(0, .ref (gz_ad G 2000)), (1, .int s0)]) [1, 0] rfl ?_
  obtain rfl := Option.some.inj h
  exact hk
noncomputable def mj_X6_qTest_105  (m : MM) : Option ((Int32 × MM) ⊕ (Unit × MM)) :=
  (mj_X6_qTest_106 (0 : Int32) m)
theorem wb_X6_qTest_105 {X : gz_X} {G : gz_G} (hX : gz_C mS X G cX6_qTest 3 RX6 8 174)   {m : MM} {z : ((Int32 × MM) ⊕ (Unit × MM))} (h : mj_X6_qTest_105  m = some z) (hk : (Sum.elim (mP_X6_qTest_2 X G) (fun z : (Unit × MM) => gz_kV mS X G 3 (0, 0) cX6_qTest (mF z.2))) z) : gz_V mS X G 3 (0, 0) (mF m) 105 [(0, .ref (gz_ad G 2000))] [] := by
  unfold mj_X6_qTest_105 at h
  refine gz_iconst (pc := 105) (v := (0 : Int32)) hX dX6_qTest_105 (by decide) ?_
  exact wb_X6_qTest_106 hX h hk
noncomputable def mb_X6_qTest_2 (x1 : Int32) (m : MM) : Option ((Int32 × MM) ⊕ (Unit × MM)) :=
  (if x1 = (0 : Int32) then (Option.map Sum.inr (ml_X6_qTest_110  m)) else (if (m.1 2000 5) = (0 : Int32) then ((mf_look m).bind fun (r3, m4) => (if r3 = (91 : Int32) then ((mf_qOpens (25 : Int32) (m4.1 2000 2) m4).bind fun (_, m29) => gz_let (msI m29 2000 2 ((m29.1 2000 2) + (1 : Int32))) fun m31 => some (Sum.inl (x1, m31))) else ((mf_isHere 1078 m4).bind fun (r7, m8) => (if r7 = (0 : Int32) then ((mf_qFact m8).bind fun (_, m12) => ((mf_qDropsNots m12).bind fun (_, m15) => (if (m15.1 2000 5) = (0 : Int32) then ((mf_qGoesOnTest m15).bind fun (r18, m19) => (if r18 = (0 : Int32) then (mj_X6_qTest_105  m19) else (mj_X6_qTest_106 (1 : Int32) m19))) else (mj_X6_qTest_105  m15)))) else ((mf_qOpens (12 : Int32) (m8.1 2000 2) m8).bind fun (_, m23) => ((mf_asks 1078 m23).bind fun (_, m26) => some (Sum.inl (x1, m26)))))))) else (Option.map Sum.inr (ml_X6_qTest_110  m))))
theorem wb_X6_qTest_2 {X : gz_X} {G : gz_G} (hX : gz_C mS X G cX6_qTest 3 RX6 8 174) {x1 : Int32}  {m : MM} {z : ((Int32 × MM) ⊕ (Unit × MM))} (h : mb_X6_qTest_2 x1 m = some z) (hk : (Sum.elim (mP_X6_qTest_2 X G) (fun z : (Unit × MM) => gz_kV mS X G 3 (0, 0) cX6_qTest (mF z.2))) z) : gz_V mS X G 3 (0, 0) (mF m) 2 [(0, .ref (gz_ad G 2000)), (1, .int x1)] [] := by
  unfold mb_X6_qTest_2 at h
  refine gz_iload_n (pc := 2) hX dX6_qTest_2 rfl 1 rfl ?_
  refine gz_if_eq (pc := 3) (tgt := 110) hX dX6_qTest_3 (by decide) (fun g1 => ?_) (fun g1 => ?_)
  · replace h := gz_it' g1 h
    refine gz_sub (lw := [(0, .ref (gz_ad G 2000))]) [0] rfl ?_
    obtain ⟨z0, hm0, rfl⟩ := gz_mp h
    exact wl_X6_qTest_110 hX hm0 hk
  · replace h := gz_if' g1 h
    refine gz_aload_n (pc := 6) hX dX6_qTest_6 rfl 0 rfl ?_
    refine mg_5 (pc := 7) hX dX6_qTest_7 ?_
    refine gz_if_ne (pc := 10) (tgt := 110) hX dX6_qTest_10 (by decide) (fun g2 => ?_) (fun g2 => ?_)
    · replace h := gz_if' g2 h
      refine gz_sub (lw := [(0, .ref (gz_ad G 2000))]) [0] rfl ?_
      obtain ⟨z0, hm0, rfl⟩ := gz_mp h
      exact wl_X6_qTest_110 hX hm0 hk
    · replace h := gz_it' g2 h
      refine gz_aload_n (pc := 13) hX dX6_qTest_13 rfl 0 rfl ?_
      obtain ⟨⟨r3, m4⟩, c5, h⟩ := gz_bd h
      refine mc_look (pc := 14) hX c5 ⟨Nat.le_of_ble_eq_true rfl, Nat.le_of_ble_eq_true rfl⟩ (rest := []) rfl (Nat.le_of_ble_eq_true rfl) dX6_qTest_14 ?_
      refine gz_istore_n (pc := 17) (lw := [(2, .int r3), (0, .ref (gz_ad G 2000)), (1, .int x1)]) hX dX6_qTest_17 rfl (by decide) rfl ?_
      refine gz_iload_n (pc := 18) hX dX6_qTest_18 rfl 0 rfl ?_
      refine gz_bipush (pc := 19) (v := (91 : Int32)) hX dX6_qTest_19 (by decide) ?_
      refine gz_icmp_ne (pc := 21) (tgt := 47) hX dX6_qTest_21 (by decide) (fun g6 => ?_) (fun g6 => ?_)
      · replace h := gz_if' g6 h
        refine gz_aload_n (pc := 47) hX dX6_qTest_47 rfl 1 rfl ?_
        refine gz_aload_n (pc := 48) hX dX6_qTest_48 rfl 1 rfl ?_
        refine mg_77 (pc := 49) hX dX6_qTest_49 ?_
        obtain ⟨⟨r7, m8⟩, c9, h⟩ := gz_bd h
        refine mc_isHere (pc := 52) hX rfl c9 ⟨Nat.le_of_ble_eq_true rfl, Nat.le_of_ble_eq_true rfl⟩ (rest := []) rfl (Nat.le_of_ble_eq_true rfl) dX6_qTest_52 ?_
        refine gz_if_eq (pc := 55) (tgt := 79) hX dX6_qTest_55 (by decide) (fun g10 => ?_) (fun g10 => ?_)
        · replace h := gz_it' g10 h
          refine gz_aload_n (pc := 79) hX dX6_qTest_79 rfl 1 rfl ?_
          obtain ⟨⟨⟨⟩, m12⟩, c13, h⟩ := gz_bd h
          refine mc_qFact (pc := 80) hX c13 ⟨Nat.le_of_ble_eq_true rfl, Nat.le_of_ble_eq_true rfl⟩ (rest := []) rfl (Nat.le_of_ble_eq_true rfl) dX6_qTest_80 ?_
          refine gz_aload_n (pc := 83) hX dX6_qTest_83 rfl 1 rfl ?_
          obtain ⟨⟨⟨⟩, m15⟩, c16, h⟩ := gz_bd h
          refine mc_qDropsNots (pc := 84) hX c16 ⟨Nat.le_of_ble_eq_true rfl, Nat.le_of_ble_eq_true rfl⟩ (rest := []) rfl (Nat.le_of_ble_eq_true rfl) dX6_qTest_84 ?_
          refine gz_aload_n (pc := 87) hX dX6_qTest_87 rfl 1 rfl ?_
          refine mg_5 (pc := 88) hX dX6_qTest_88 ?_
          refine gz_if_ne (pc := 91) (tgt := 105) hX dX6_qTest_91 (by decide) (fun g17 => ?_) (fun g17 => ?_)
          · replace h := gz_if' g17 h
            refine gz_sub (lw := [(0, .ref (gz_ad G 2000))]) [1] rfl ?_
            exact wb_X6_qTest_105 hX h hk
          · replace h := gz_it' g17 h
            refine gz_aload_n (pc := 94) hX dX6_qTest_94 rfl 1 rfl ?_
            obtain ⟨⟨r18, m19⟩, c20, h⟩ := gz_bd h
            refine mc_qGoesOnTest (pc := 95) hX c20 ⟨Nat.le_of_ble_eq_true rfl, Nat.le_of_ble_eq_true rfl⟩ (rest := []) rfl (Nat.le_of_ble_eq_true rfl) dX6_qTest_95 ?_
            refine gz_if_eq (pc := 98) (tgt := 105) hX dX6_qTest_98 (by decide) (fun g21 => ?_) (fun g21 => ?_)
            · replace h := gz_it' g21 h
              refine gz_sub (lw := [(0, .ref (gz_ad G 2000))]) [1] rfl ?_
              exact wb_X6_qTest_105 hX h hk
            · replace h := gz_if' g21 h
              refine gz_iconst (pc := 101) (v := (1 : Int32)) hX dX6_qTest_101 (by decide) ?_
              refine gz_goto (pc := 102) (tgt := 106) hX dX6_qTest_102 (by decide) ?_
              refine gz_sub (lw := [(0, .ref (gz_ad G 2000))]) [1] rfl ?_
              exact wb_X6_qTest_106 hX h hk
        · replace h := gz_if' g10 h
          refine gz_aload_n (pc := 58) hX dX6_qTest_58 rfl 1 rfl ?_
          refine gz_bipush (pc := 59) (v := (12 : Int32)) hX dX6_qTest_59 (by decide) ?_
          refine gz_aload_n (pc := 61) hX dX6_qTest_61 rfl 1 rfl ?_
          refine mg_2 (pc := 62) hX dX6_qTest_62 ?_
          obtain ⟨⟨⟨⟩, m23⟩, c24, h⟩ := gz_bd h
          refine mc_qOpens (pc := 65) hX c24 ⟨Nat.le_of_ble_eq_true rfl, Nat.le_of_ble_eq_true rfl⟩ (rest := []) rfl (Nat.le_of_ble_eq_true rfl) dX6_qTest_65 ?_
          refine gz_aload_n (pc := 68) hX dX6_qTest_68 rfl 1 rfl ?_
          refine gz_aload_n (pc := 69) hX dX6_qTest_69 rfl 1 rfl ?_
          refine mg_77 (pc := 70) hX dX6_qTest_70 ?_
          obtain ⟨⟨⟨⟩, m26⟩, c27, h⟩ := gz_bd h
          refine mc_asks (pc := 73) hX rfl c27 ⟨Nat.le_of_ble_eq_true rfl, Nat.le_of_ble_eq_true rfl⟩ (rest := []) rfl (Nat.le_of_ble_eq_true rfl) dX6_qTest_73 ?_
          refine gz_goto (pc := 76) (tgt := 2) hX dX6_qTest_76 (by decide) ?_
          refine gz_sub (lw := [(0, .ref (gz_ad G 2000)), (1, .int x1)]) [1, 2] rfl ?_
          obtain rfl := Option.some.inj h
          exact hk
      · replace h := gz_it' g6 h
        refine gz_aload_n (pc := 24) hX dX6_qTest_24 rfl 1 rfl ?_
        refine gz_bipush (pc := 25) (v := (25 : Int32)) hX dX6_qTest_25 (by decide) ?_
        refine gz_aload_n (pc := 27) hX dX6_qTest_27 rfl 1 rfl ?_
        refine mg_2 (pc := 28) hX dX6_qTest_28 ?_
        obtain ⟨⟨⟨⟩, m29⟩, c30, h⟩ := gz_bd h
        refine mc_qOpens (pc := 31) hX c30 ⟨Nat.le_of_ble_eq_true rfl, Nat.le_of_ble_eq_true rfl⟩ (rest := []) rfl (Nat.le_of_ble_eq_true rfl) dX6_qTest_31 ?_
        refine gz_aload_n (pc := 34) hX dX6_qTest_34 rfl 1 rfl ?_
        refine gz_dup (pc := 35) hX dX6_qTest_35 rfl ?_
        refine mg_2 (pc := 36) hX dX6_qTest_36 ?_
        refine gz_iconst (pc := 39) (v := (1 : Int32)) hX dX6_qTest_39 (by decide) ?_
        refine gz_iadd (pc := 40) hX dX6_qTest_40 ?_
        obtain ⟨m31, em31, h⟩ := gz_lt h
        refine mp_2 (pc := 41) hX dX6_qTest_41 em31 ?_
        refine gz_goto (pc := 44) (tgt := 2) hX dX6_qTest_44 (by decide) ?_
        refine gz_sub (lw := [(0, .ref (gz_ad G 2000)), (1, .int x1)]) [1, 2] rfl ?_
        obtain rfl := Option.some.inj h
        exact hk
noncomputable def ml_X6_qTest_2 (x1 : Int32) (m : MM) : Option (Unit × MM) := gz_loop (fun q : (Int32 × MM) => mb_X6_qTest_2 q.1 q.2) (x1, m)
theorem wl_X6_qTest_2 {X : gz_X} {G : gz_G} (hX : gz_C mS X G cX6_qTest 3 RX6 8 174) {x1 : Int32}  {m : MM} {z : (Unit × MM)} (h : ml_X6_qTest_2 x1 m = some z) (hk : (fun z : (Unit × MM) => gz_kV mS X G 3 (0, 0) cX6_qTest (mF z.2)) z) : gz_V mS X G 3 (0, 0) (mF m) 2 [(0, .ref (gz_ad G 2000)), (1, .int x1)] [] := by
  have hp : mP_X6_qTest_2 X G (x1, m) := gz_loop_ind (fun q z hz hkz => wb_X6_qTest_2 hX  hz hkz) h hk
  exact hp
noncomputable def mf_qTest  (m : MM) : Option (Unit × MM) :=
  (ml_X6_qTest_2 (1 : Int32) m)
theorem wm_qTest {X : gz_X} {G : gz_G} (hX : gz_C mS X G cX6_qTest 3 RX6 8 174)   {m : MM} {z : (Unit × MM)} (h : mf_qTest  m = some z) (hk : (fun z : (Unit × MM) => gz_kV mS X G 3 (0, 0) cX6_qTest (mF z.2)) z) : gz_V mS X G 3 (0, 0) (mF m) 0 [(0, .ref (gz_ad G 2000))] [] := by
  unfold mf_qTest at h
  refine gz_iconst (pc := 0) (v := (1 : Int32)) hX dX6_qTest_0 (by decide) ?_
  refine gz_istore_n (pc := 1) (lw := [(1, .int (1 : Int32)), (0, .ref (gz_ad G 2000))]) hX dX6_qTest_1 rfl (by decide) rfl ?_
  refine gz_sub (lw := [(0, .ref (gz_ad G 2000)), (1, .int (1 : Int32))]) [1, 0] rfl ?_
  exact wl_X6_qTest_2 hX h hk
theorem mt_qTest {G : gz_G} {l : Launch}   {m m9 : MM} (h : mf_qTest  m = some ((), m9)) : gz_Met mS G l yX6_qTest cX6_qTest 3 none (mRm 8 174) [.ref (gz_ad G 2000)] (mF m) (mF m9) none :=
  gz_ofV (plainFor_of_name mz_plain) (Nat.le_of_ble_eq_true rfl) fun X _ hX hk => wm_qTest hX h hk
theorem mc_qTest {X : gz_X} {G : gz_G} {cc : ByteArray} {nL fr lo pc : Nat} {lv : List (Nat × Value)} {rest st0 : List Value} (hX : gz_C mS X G cc nL RX6 fr lo)   {m m9 : MM} (h : mf_qTest  m = some ((), m9)) (hroom : 8 + 1 ≤ fr ∧ 8 + (3 + 11) + 174 ≤ lo) (hst : st0 = [.ref (gz_ad G 2000)] ++ rest) (hW : (rest.map fun v => v.category).sum ≤ 8) (hd : decode cc pc = .ok (.invokevirtual 350, 3)) (kk : gz_V mS X G nL (0, 0) (mF m9) (pc + 3) lv (rest)) : gz_V mS X G nL (0, 0) (mF m) pc lv st0 :=
  gz_callV hX mz_E (As := []) (rest := rest) (q := (RX6, TX6, 104)) (ci := 0) (c := 2000) (mt_qTest (l := X.2.1) h) (lw_V q2179 q2181 qs86 q182 q2182) (n := 0) (by decide +kernel) hroom rfl rfl (by decide) rfl hst hW hd (rem := (0, 0)) kk
/-! codesTold(II)V -/
def mP_X6_codesTold_92 (X : gz_X) (G : gz_G) (q : (Int32 × Int32 × MM)) : Prop := gz_V mS X G 4 (0, 0) (mF q.2.2) 92 [(0, .ref (gz_ad G 2000)), (1, .int q.1), (3, .int q.2.1)] []
noncomputable def mb_X6_codesTold_92 (x1 : Int32) (x3 : Int32) (m : MM) : Option ((Int32 × Int32 × MM) ⊕ (Unit × MM)) :=
  (if (m.1 2000 93) ≤ x3 then (if gz_in x1 (4) then gz_let (msI m 1045 (gz_ix x1) (m.1 2000 46)) fun m3 => some (Sum.inr ((), m3)) else none) else (if gz_in x3 (1700) then (if gz_in (m.1 2000 46) (3200) then gz_let (msI m 1046 (gz_ix (m.1 2000 46)) (m.1 1093 (gz_ix x3))) fun m6 => gz_let (msI m6 2000 46 ((m6.1 2000 46) + (1 : Int32))) fun m7 => gz_let (x3 + (1 : Int32)) fun y8 => some (Sum.inl (x1, y8, m7)) else none) else none))
theorem wb_X6_codesTold_92 {X : gz_X} {G : gz_G} (hX : gz_C mS X G cX6_codesTold 4 RX6 9 196) {x1 : Int32} {x3 : Int32}  {m : MM} {z : ((Int32 × Int32 × MM) ⊕ (Unit × MM))} (h : mb_X6_codesTold_92 x1 x3 m = some z) (hk : (Sum.elim (mP_X6_codesTold_92 X G) (fun z : (Unit × MM) => gz_kV mS X G 4 (0, 0) cX6_codesTold (mF z.2))) z) : gz_V mS X G 4 (0, 0) (mF m) 92 [(0, .ref (gz_ad G 2000)), (1, .int x1), (3, .int x3)] [] := by
  unfold mb_X6_codesTold_92 at h
  refine gz_iload_n (pc := 92) hX dX6_codesTold_92 rfl 2 rfl ?_
  refine gz_aload_n (pc := 93) hX dX6_codesTold_93 rfl 0 rfl ?_
  refine mg_93 (pc := 94) hX dX6_codesTold_94 ?_
  refine gz_icmp_ge (pc := 97) (tgt := 131) hX dX6_codesTold_97 (by decide) (fun g1 => ?_) (fun g1 => ?_)
  · replace h := gz_it' g1 h
    refine gz_aload_n (pc := 131) hX dX6_codesTold_131 rfl 0 rfl ?_
    refine mg_44 (pc := 132) hX dX6_codesTold_132 ?_
    refine gz_iload_n (pc := 135) hX dX6_codesTold_135 rfl 1 rfl ?_
    refine gz_aload_n (pc := 136) hX dX6_codesTold_136 rfl 0 rfl ?_
    refine mg_46 (pc := 137) hX dX6_codesTold_137 ?_
    obtain ⟨g2, h⟩ := gz_gu h
    obtain ⟨m3, em3, h⟩ := gz_lt h
    refine mz_iast (pc := 140) (c := 1045) (n := 4) hX rfl rfl g2 (Nat.le_of_ble_eq_true rfl) dX6_codesTold_140 em3 ?_
    obtain rfl := Option.some.inj h
    exact hk _ _ dX6_codesTold_141
  · replace h := gz_if' g1 h
    refine gz_aload_n (pc := 100) hX dX6_codesTold_100 rfl 0 rfl ?_
    refine mg_45 (pc := 101) hX dX6_codesTold_101 ?_
    refine gz_aload_n (pc := 104) hX dX6_codesTold_104 rfl 0 rfl ?_
    refine mg_46 (pc := 105) hX dX6_codesTold_105 ?_
    refine gz_aload_n (pc := 108) hX dX6_codesTold_108 rfl 0 rfl ?_
    refine mg_92 (pc := 109) hX dX6_codesTold_109 ?_
    refine gz_iload_n (pc := 112) hX dX6_codesTold_112 rfl 2 rfl ?_
    obtain ⟨g4, h⟩ := gz_gu h
    refine mz_iald (pc := 113) (c := 1093) (n := 1700) hX rfl rfl g4 dX6_codesTold_113 ?_
    obtain ⟨g5, h⟩ := gz_gu h
    obtain ⟨m6, em6, h⟩ := gz_lt h
    refine mz_iast (pc := 114) (c := 1046) (n := 3200) hX rfl rfl g5 (Nat.le_of_ble_eq_true rfl) dX6_codesTold_114 em6 ?_
    refine gz_aload_n (pc := 115) hX dX6_codesTold_115 rfl 0 rfl ?_
    refine gz_dup (pc := 116) hX dX6_codesTold_116 rfl ?_
    refine mg_46 (pc := 117) hX dX6_codesTold_117 ?_
    refine gz_iconst (pc := 120) (v := (1 : Int32)) hX dX6_codesTold_120 (by decide) ?_
    refine gz_iadd (pc := 121) hX dX6_codesTold_121 ?_
    obtain ⟨m7, em7, h⟩ := gz_lt h
    refine mp_46 (pc := 122) hX dX6_codesTold_122 em7 ?_
    obtain ⟨y8, ey8, h⟩ := gz_lt h
    refine gz_iinc (pc := 125) (v := y8) (lw := [(3, .int y8), (0, .ref (gz_ad G 2000)), (1, .int x1)]) hX dX6_codesTold_125 (k := 2) rfl (by rw [ey8]; rfl) (by decide) rfl ?_
    refine gz_goto (pc := 128) (tgt := 92) hX dX6_codesTold_128 (by decide) ?_
    refine gz_sub (lw := [(0, .ref (gz_ad G 2000)), (1, .int x1), (3, .int y8)]) [1, 2, 0] rfl ?_
    obtain rfl := Option.some.inj h
    exact hk
noncomputable def ml_X6_codesTold_92 (x1 : Int32) (x3 : Int32) (m : MM) : Option (Unit × MM) := gz_loop (fun q : (Int32 × Int32 × MM) => mb_X6_codesTold_92 q.1 q.2.1 q.2.2) (x1, x3, m)
theorem wl_X6_codesTold_92 {X : gz_X} {G : gz_G} (hX : gz_C mS X G cX6_codesTold 4 RX6 9 196) {x1 : Int32} {x3 : Int32}  {m : MM} {z : (Unit × MM)} (h : ml_X6_codesTold_92 x1 x3 m = some z) (hk : (fun z : (Unit × MM) => gz_kV mS X G 4 (0, 0) cX6_codesTold (mF z.2)) z) : gz_V mS X G 4 (0, 0) (mF m) 92 [(0, .ref (gz_ad G 2000)), (1, .int x1), (3, .int x3)] [] := by
  have hp : mP_X6_codesTold_92 X G (x1, x3, m) := gz_loop_ind (fun q z hz hkz => wb_X6_codesTold_92 hX  hz hkz) h hk
  exact hp
noncomputable def mj_X6_codesTold_72 (x1 : Int32) (m : MM) : Option (Unit × MM) :=
  (if (m.1 2000 5) = (0 : Int32) then (if gz_in x1 (4) then gz_let (msI m 1044 (gz_ix x1) (m.1 2000 46)) fun m3 => (ml_X6_codesTold_92 x1 (0 : Int32) m3) else none) else some ((), m))
theorem wb_X6_codesTold_72 {X : gz_X} {G : gz_G} (hX : gz_C mS X G cX6_codesTold 4 RX6 9 196) {x1 : Int32}  {m : MM} {z : (Unit × MM)} (h : mj_X6_codesTold_72 x1 m = some z) (hk : (fun z : (Unit × MM) => gz_kV mS X G 4 (0, 0) cX6_codesTold (mF z.2)) z) : gz_V mS X G 4 (0, 0) (mF m) 72 [(0, .ref (gz_ad G 2000)), (1, .int x1)] [] := by
  unfold mj_X6_codesTold_72 at h
  refine gz_aload_n (pc := 72) hX dX6_codesTold_72 rfl 0 rfl ?_
  refine mg_5 (pc := 73) hX dX6_codesTold_73 ?_
  refine gz_if_eq (pc := 76) (tgt := 80) hX dX6_codesTold_76 (by decide) (fun g1 => ?_) (fun g1 => ?_)
  · replace h := gz_it' g1 h
    refine gz_aload_n (pc := 80) hX dX6_codesTold_80 rfl 0 rfl ?_
    refine mg_43 (pc := 81) hX dX6_codesTold_81 ?_
    refine gz_iload_n (pc := 84) hX dX6_codesTold_84 rfl 1 rfl ?_
    refine gz_aload_n (pc := 85) hX dX6_codesTold_85 rfl 0 rfl ?_
    refine mg_46 (pc := 86) hX dX6_codesTold_86 ?_
    obtain ⟨g2, h⟩ := gz_gu h
    obtain ⟨m3, em3, h⟩ := gz_lt h
    refine mz_iast (pc := 89) (c := 1044) (n := 4) hX rfl rfl g2 (Nat.le_of_ble_eq_true rfl) dX6_codesTold_89 em3 ?_
    refine gz_iconst (pc := 90) (v := (0 : Int32)) hX dX6_codesTold_90 (by decide) ?_
    refine gz_istore_n (pc := 91) (lw := [(3, .int (0 : Int32)), (0, .ref (gz_ad G 2000)), (1, .int x1)]) hX dX6_codesTold_91 rfl (by decide) rfl ?_
    refine gz_sub (lw := [(0, .ref (gz_ad G 2000)), (1, .int x1), (3, .int (0 : Int32))]) [1, 2, 0] rfl ?_
    exact wl_X6_codesTold_92 hX h hk
  · replace h := gz_if' g1 h
    obtain rfl := Option.some.inj h
    exact hk _ _ dX6_codesTold_79
noncomputable def mj_X6_codesTold_23 (x1 : Int32) (m : MM) : Option (Unit × MM) :=
  (if (m.1 2000 5) = (0 : Int32) then gz_let (msI m 2000 48 (0 : Int32)) fun m2 => gz_let (msI m2 2000 93 (0 : Int32)) fun m3 => gz_let (msI m3 2000 95 (0 : Int32)) fun m4 => gz_let (msI m4 2000 96 (0 : Int32)) fun m5 => gz_let (msI m5 2000 97 (0 : Int32)) fun m6 => (if x1 = (1 : Int32) then ((mf_qTest m6).bind fun (_, m12) => (mj_X6_codesTold_72 x1 m12)) else ((mf_qSums m6).bind fun (_, m9) => (mj_X6_codesTold_72 x1 m9))) else some ((), m))
theorem wb_X6_codesTold_23 {X : gz_X} {G : gz_G} (hX : gz_C mS X G cX6_codesTold 4 RX6 9 196) {x1 : Int32}  {m : MM} {z : (Unit × MM)} (h : mj_X6_codesTold_23 x1 m = some z) (hk : (fun z : (Unit × MM) => gz_kV mS X G 4 (0, 0) cX6_codesTold (mF z.2)) z) : gz_V mS X G 4 (0, 0) (mF m) 23 [(0, .ref (gz_ad G 2000)), (1, .int x1)] [] := by
  unfold mj_X6_codesTold_23 at h
  refine gz_aload_n (pc := 23) hX dX6_codesTold_23 rfl 0 rfl ?_
  refine mg_5 (pc := 24) hX dX6_codesTold_24 ?_
  refine gz_if_eq (pc := 27) (tgt := 31) hX dX6_codesTold_27 (by decide) (fun g1 => ?_) (fun g1 => ?_)
  · replace h := gz_it' g1 h
    refine gz_aload_n (pc := 31) hX dX6_codesTold_31 rfl 0 rfl ?_
    refine gz_iconst (pc := 32) (v := (0 : Int32)) hX dX6_codesTold_32 (by decide) ?_
    obtain ⟨m2, em2, h⟩ := gz_lt h
    refine mp_48 (pc := 33) hX dX6_codesTold_33 em2 ?_
    refine gz_aload_n (pc := 36) hX dX6_codesTold_36 rfl 0 rfl ?_
    refine gz_iconst (pc := 37) (v := (0 : Int32)) hX dX6_codesTold_37 (by decide) ?_
    obtain ⟨m3, em3, h⟩ := gz_lt h
    refine mp_93 (pc := 38) hX dX6_codesTold_38 em3 ?_
    refine gz_aload_n (pc := 41) hX dX6_codesTold_41 rfl 0 rfl ?_
    refine gz_iconst (pc := 42) (v := (0 : Int32)) hX dX6_codesTold_42 (by decide) ?_
    obtain ⟨m4, em4, h⟩ := gz_lt h
    refine mp_95 (pc := 43) hX dX6_codesTold_43 em4 ?_
    refine gz_aload_n (pc := 46) hX dX6_codesTold_46 rfl 0 rfl ?_
    refine gz_iconst (pc := 47) (v := (0 : Int32)) hX dX6_codesTold_47 (by decide) ?_
    obtain ⟨m5, em5, h⟩ := gz_lt h
    refine mp_96 (pc := 48) hX dX6_codesTold_48 em5 ?_
    refine gz_aload_n (pc := 51) hX dX6_codesTold_51 rfl 0 rfl ?_
    refine gz_iconst (pc := 52) (v := (0 : Int32)) hX dX6_codesTold_52 (by decide) ?_
    obtain ⟨m6, em6, h⟩ := gz_lt h
    refine mp_97 (pc := 53) hX dX6_codesTold_53 em6 ?_
    refine gz_iload_n (pc := 56) hX dX6_codesTold_56 rfl 1 rfl ?_
    refine gz_iconst (pc := 57) (v := (1 : Int32)) hX dX6_codesTold_57 (by decide) ?_
    refine gz_icmp_ne (pc := 58) (tgt := 68) hX dX6_codesTold_58 (by decide) (fun g7 => ?_) (fun g7 => ?_)
    · replace h := gz_if' g7 h
      refine gz_aload_n (pc := 68) hX dX6_codesTold_68 rfl 0 rfl ?_
      obtain ⟨⟨⟨⟩, m9⟩, c10, h⟩ := gz_bd h
      refine mc_qSums (pc := 69) hX c10 ⟨Nat.le_of_ble_eq_true rfl, Nat.le_of_ble_eq_true rfl⟩ (rest := []) rfl (Nat.le_of_ble_eq_true rfl) dX6_codesTold_69 ?_
      exact wb_X6_codesTold_72 hX h hk
    · replace h := gz_it' g7 h
      refine gz_aload_n (pc := 61) hX dX6_codesTold_61 rfl 0 rfl ?_
      obtain ⟨⟨⟨⟩, m12⟩, c13, h⟩ := gz_bd h
      refine mc_qTest (pc := 62) hX c13 ⟨Nat.le_of_ble_eq_true rfl, Nat.le_of_ble_eq_true rfl⟩ (rest := []) rfl (Nat.le_of_ble_eq_true rfl) dX6_codesTold_62 ?_
      refine gz_goto (pc := 65) (tgt := 72) hX dX6_codesTold_65 (by decide) ?_
      exact wb_X6_codesTold_72 hX h hk
  · replace h := gz_if' g1 h
    obtain rfl := Option.some.inj h
    exact hk _ _ dX6_codesTold_30
noncomputable def mf_codesTold (x1 : Int32) (x2 : Int32) (m : MM) : Option (Unit × MM) :=
  (if (m.1 2000 5) = (0 : Int32) then (if gz_in x1 (4) then (if (m.1 1044 (gz_ix x1)) = (-1 : Int32) then (mj_X6_codesTold_23 x1 m) else ((mf_fail (5 : Int32) x2 m).bind fun (_, m5) => (mj_X6_codesTold_23 x1 m5))) else none) else (mj_X6_codesTold_23 x1 m))
theorem wm_codesTold {X : gz_X} {G : gz_G} (hX : gz_C mS X G cX6_codesTold 4 RX6 9 196) {x1 : Int32} {x2 : Int32}  {m : MM} {z : (Unit × MM)} (h : mf_codesTold x1 x2 m = some z) (hk : (fun z : (Unit × MM) => gz_kV mS X G 4 (0, 0) cX6_codesTold (mF z.2)) z) : gz_V mS X G 4 (0, 0) (mF m) 0 [(0, .ref (gz_ad G 2000)), (1, .int x1), (2, .int x2)] [] := by
  unfold mf_codesTold at h
  refine gz_aload_n (pc := 0) hX dX6_codesTold_0 rfl 0 rfl ?_
  refine mg_5 (pc := 1) hX dX6_codesTold_1 ?_
  refine gz_if_ne (pc := 4) (tgt := 23) hX dX6_codesTold_4 (by decide) (fun g1 => ?_) (fun g1 => ?_)
  · replace h := gz_if' g1 h
    refine gz_sub (lw := [(0, .ref (gz_ad G 2000)), (1, .int x1)]) [0, 1] rfl ?_
    exact wb_X6_codesTold_23 hX h hk
  · replace h := gz_it' g1 h
    refine gz_aload_n (pc := 7) hX dX6_codesTold_7 rfl 0 rfl ?_
    refine mg_43 (pc := 8) hX dX6_codesTold_8 ?_
    refine gz_iload_n (pc := 11) hX dX6_codesTold_11 rfl 1 rfl ?_
    obtain ⟨g2, h⟩ := gz_gu h
    refine mz_iald (pc := 12) (c := 1044) (n := 4) hX rfl rfl g2 dX6_codesTold_12 ?_
    refine gz_iconst (pc := 13) (v := (-1 : Int32)) hX dX6_codesTold_13 (by decide) ?_
    refine gz_icmp_eq (pc := 14) (tgt := 23) hX dX6_codesTold_14 (by decide) (fun g3 => ?_) (fun g3 => ?_)
    · replace h := gz_it' g3 h
      refine gz_sub (lw := [(0, .ref (gz_ad G 2000)), (1, .int x1)]) [0, 1] rfl ?_
      exact wb_X6_codesTold_23 hX h hk
    · replace h := gz_if' g3 h
      refine gz_aload_n (pc := 17) hX dX6_codesTold_17 rfl 0 rfl ?_
      refine gz_iconst (pc := 18) (v := (5 : Int32)) hX dX6_codesTold_18 (by decide) ?_
      refine gz_iload_n (pc := 19) hX dX6_codesTold_19 rfl 2 rfl ?_
      obtain ⟨⟨⟨⟩, m5⟩, c6, h⟩ := gz_bd h
      refine mc_fail (pc := 20) hX c6 ⟨Nat.le_of_ble_eq_true rfl, Nat.le_of_ble_eq_true rfl⟩ (rest := []) rfl (Nat.le_of_ble_eq_true rfl) dX6_codesTold_20 ?_
      refine gz_sub (lw := [(0, .ref (gz_ad G 2000)), (1, .int x1)]) [0, 1] rfl ?_
      exact wb_X6_codesTold_23 hX h hk
theorem mt_codesTold {G : gz_G} {l : Launch} {x1 : Int32} {x2 : Int32}  {m m9 : MM} (h : mf_codesTold x1 x2 m = some ((), m9)) : gz_Met mS G l yX6_codesTold cX6_codesTold 4 none (mRm 9 196) [.ref (gz_ad G 2000), .int x1, .int x2] (mF m) (mF m9) none :=
  gz_ofV (plainFor_of_name mz_plain) (Nat.le_of_ble_eq_true rfl) fun X _ hX hk => wm_codesTold hX h hk
theorem mc_codesTold {X : gz_X} {G : gz_G} {cc : ByteArray} {nL fr lo pc : Nat} {lv : List (Nat × Value)} {rest st0 : List Value} (hX : gz_C mS X G cc nL RX6 fr lo) {x1 : Int32} {x2 : Int32}  {m m9 : MM} (h : mf_codesTold x1 x2 m = some ((), m9)) (hroom : 9 + 1 ≤ fr ∧ 8 + (4 + 11) + 196 ≤ lo) (hst : st0 = [.int x2, .int x1, .ref (gz_ad G 2000)] ++ rest) (hW : (rest.map fun v => v.category).sum ≤ 8) (hd : decode cc pc = .ok (.invokevirtual 375, 3)) (kk : gz_V mS X G nL (0, 0) (mF m9) (pc + 3) lv (rest)) : gz_V mS X G nL (0, 0) (mF m) pc lv st0 :=
  gz_callV hX mz_E (As := [.int x1, .int x2]) (rest := rest) (q := (RX6, TX6, 104)) (ci := 0) (c := 2000) (mt_codesTold (l := X.2.1) h) (lw_V q2175 q2177 qs85 q182 q2178) (n := 2) (by decide +kernel) hroom rfl rfl (by decide) rfl hst hW hd (rem := (0, 0)) kk
/-! statementTold()V -/
noncomputable def mj_X6_statementTold_184  (m : MM) : Option (Unit × MM) :=
  ((mf_asksSign (59 : Int32) m).bind fun (_, m2) => gz_let (msI m2 2000 47 ((m2.1 2000 47) + (1 : Int32))) fun m4 => some ((), m4))
theorem wb_X6_statementTold_184 {X : gz_X} {G : gz_G} (hX : gz_C mS X G cX6_statementTold 2 RX6 10 219)   {m : MM} {z : (Unit × MM)} (h : mj_X6_statementTold_184  m = some z) (hk : (fun z : (Unit × MM) => gz_kV mS X G 2 (0, 0) cX6_statementTold (mF z.2)) z) : gz_V mS X G 2 (0, 0) (mF m) 184 [(0, .ref (gz_ad G 2000))] [] := by
  unfold mj_X6_statementTold_184 at h
  refine gz_aload_n (pc := 184) hX dX6_statementTold_184 rfl 0 rfl ?_
  refine gz_bipush (pc := 185) (v := (59 : Int32)) hX dX6_statementTold_185 (by decide) ?_
  obtain ⟨⟨⟨⟩, m2⟩, c3, h⟩ := gz_bd h
  refine mc_asksSign (pc := 187) hX c3 ⟨Nat.le_of_ble_eq_true rfl, Nat.le_of_ble_eq_true rfl⟩ (rest := []) rfl (Nat.le_of_ble_eq_true rfl) dX6_statementTold_187 ?_
  refine gz_aload_n (pc := 190) hX dX6_statementTold_190 rfl 0 rfl ?_
  refine gz_dup (pc := 191) hX dX6_statementTold_191 rfl ?_
  refine mg_47 (pc := 192) hX dX6_statementTold_192 ?_
  refine gz_iconst (pc := 195) (v := (1 : Int32)) hX dX6_statementTold_195 (by decide) ?_
  refine gz_iadd (pc := 196) hX dX6_statementTold_196 ?_
  obtain ⟨m4, em4, h⟩ := gz_lt h
  refine mp_47 (pc := 197) hX dX6_statementTold_197 em4 ?_
  obtain rfl := Option.some.inj h
  exact hk _ _ dX6_statementTold_200
noncomputable def mf_statementTold  (m : MM) : Option (Unit × MM) :=
  (if (m.1 2000 47) = (60 : Int32) then ((mf_fail (5 : Int32) (m.1 2000 2) m).bind fun (_, m62) => some ((), m62)) else ((mf_takes 1012 m).bind fun (r2, m3) => (if r2 = (0 : Int32) then ((mf_takes 1013 m3).bind fun (r6, m7) => (if r6 = (0 : Int32) then ((mf_takes 1016 m7).bind fun (r10, m11) => (if r10 = (0 : Int32) then ((mf_takes 1020 m11).bind fun (r14, m15) => (if r14 = (0 : Int32) then ((mf_takes 1021 m15).bind fun (r18, m19) => (if r18 = (0 : Int32) then ((mf_takes 1018 m19).bind fun (r22, m23) => (if r22 = (0 : Int32) then ((mf_takes 1022 m23).bind fun (r26, m27) => (if r26 = (0 : Int32) then ((mf_asks 1023 m27).bind fun (_, m31) => ((mf_number (0 : Int32) (100 : Int32) m31).bind fun (r33, m34) => (if gz_in (5 : Int32) (12) then gz_let (msI m34 1038 (gz_ix (5 : Int32)) r33) fun m37 => (mj_X6_statementTold_184  m37) else none))) else ((mf_codesTold (1 : Int32) (m.1 2000 2) m27).bind fun (_, m39) => (mj_X6_statementTold_184  m39)))) else ((mf_codesTold (0 : Int32) (m.1 2000 2) m23).bind fun (_, m42) => (mj_X6_statementTold_184  m42)))) else ((mf_named (0 : Int32) (-1 : Int32) m19).bind fun (r44, m45) => (if gz_in (4 : Int32) (12) then gz_let (msI m45 1038 (gz_ix (4 : Int32)) r44) fun m48 => (mj_X6_statementTold_184  m48) else none)))) else ((mf_tieTold (m.1 2000 2) m15).bind fun (_, m50) => (mj_X6_statementTold_184  m50)))) else ((mf_thingTold (m.1 2000 2) m11).bind fun (_, m53) => (mj_X6_statementTold_184  m53)))) else ((mf_doorTold (m.1 2000 2) m7).bind fun (_, m56) => (mj_X6_statementTold_184  m56)))) else ((mf_hallTold (m.1 2000 2) m3).bind fun (_, m59) => (mj_X6_statementTold_184  m59)))))
theorem wm_statementTold {X : gz_X} {G : gz_G} (hX : gz_C mS X G cX6_statementTold 2 RX6 10 219)   {m : MM} {z : (Unit × MM)} (h : mf_statementTold  m = some z) (hk : (fun z : (Unit × MM) => gz_kV mS X G 2 (0, 0) cX6_statementTold (mF z.2)) z) : gz_V mS X G 2 (0, 0) (mF m) 0 [(0, .ref (gz_ad G 2000))] [] := by
  unfold mf_statementTold at h
  refine gz_aload_n (pc := 0) hX dX6_statementTold_0 rfl 0 rfl ?_
  refine mg_2 (pc := 1) hX dX6_statementTold_1 ?_
  refine gz_istore_n (pc := 4) (lw := [(1, .int (m.1 2000 2)), (0, .ref (gz_ad G 2000))]) hX dX6_statementTold_4 rfl (by decide) rfl ?_
  refine gz_aload_n (pc := 5) hX dX6_statementTold_5 rfl 1 rfl ?_
  refine mg_47 (pc := 6) hX dX6_statementTold_6 ?_
  refine gz_bipush (pc := 9) (v := (60 : Int32)) hX dX6_statementTold_9 (by decide) ?_
  refine gz_icmp_ne (pc := 11) (tgt := 21) hX dX6_statementTold_11 (by decide) (fun g1 => ?_) (fun g1 => ?_)
  · replace h := gz_if' g1 h
    refine gz_aload_n (pc := 21) hX dX6_statementTold_21 rfl 1 rfl ?_
    refine gz_aload_n (pc := 22) hX dX6_statementTold_22 rfl 1 rfl ?_
    refine mg_11 (pc := 23) hX dX6_statementTold_23 ?_
    obtain ⟨⟨r2, m3⟩, c4, h⟩ := gz_bd h
    refine mc_takes (pc := 26) hX rfl c4 ⟨Nat.le_of_ble_eq_true rfl, Nat.le_of_ble_eq_true rfl⟩ (rest := []) rfl (Nat.le_of_ble_eq_true rfl) dX6_statementTold_26 ?_
    refine gz_if_eq (pc := 29) (tgt := 40) hX dX6_statementTold_29 (by decide) (fun g5 => ?_) (fun g5 => ?_)
    · replace h := gz_it' g5 h
      refine gz_aload_n (pc := 40) hX dX6_statementTold_40 rfl 1 rfl ?_
      refine gz_aload_n (pc := 41) hX dX6_statementTold_41 rfl 1 rfl ?_
      refine mg_12 (pc := 42) hX dX6_statementTold_42 ?_
      obtain ⟨⟨r6, m7⟩, c8, h⟩ := gz_bd h
      refine mc_takes (pc := 45) hX rfl c8 ⟨Nat.le_of_ble_eq_true rfl, Nat.le_of_ble_eq_true rfl⟩ (rest := []) rfl (Nat.le_of_ble_eq_true rfl) dX6_statementTold_45 ?_
      refine gz_if_eq (pc := 48) (tgt := 59) hX dX6_statementTold_48 (by decide) (fun g9 => ?_) (fun g9 => ?_)
      · replace h := gz_it' g9 h
        refine gz_aload_n (pc := 59) hX dX6_statementTold_59 rfl 1 rfl ?_
        refine gz_aload_n (pc := 60) hX dX6_statementTold_60 rfl 1 rfl ?_
        refine mg_15 (pc := 61) hX dX6_statementTold_61 ?_
        obtain ⟨⟨r10, m11⟩, c12, h⟩ := gz_bd h
        refine mc_takes (pc := 64) hX rfl c12 ⟨Nat.le_of_ble_eq_true rfl, Nat.le_of_ble_eq_true rfl⟩ (rest := []) rfl (Nat.le_of_ble_eq_true rfl) dX6_statementTold_64 ?_
        refine gz_if_eq (pc := 67) (tgt := 78) hX dX6_statementTold_67 (by decide) (fun g13 => ?_) (fun g13 => ?_)
        · replace h := gz_it' g13 h
          refine gz_aload_n (pc := 78) hX dX6_statementTold_78 rfl 1 rfl ?_
          refine gz_aload_n (pc := 79) hX dX6_statementTold_79 rfl 1 rfl ?_
          refine mg_19 (pc := 80) hX dX6_statementTold_80 ?_
          obtain ⟨⟨r14, m15⟩, c16, h⟩ := gz_bd h
          refine mc_takes (pc := 83) hX rfl c16 ⟨Nat.le_of_ble_eq_true rfl, Nat.le_of_ble_eq_true rfl⟩ (rest := []) rfl (Nat.le_of_ble_eq_true rfl) dX6_statementTold_83 ?_
          refine gz_if_eq (pc := 86) (tgt := 97) hX dX6_statementTold_86 (by decide) (fun g17 => ?_) (fun g17 => ?_)
          · replace h := gz_it' g17 h
            refine gz_aload_n (pc := 97) hX dX6_statementTold_97 rfl 1 rfl ?_
            refine gz_aload_n (pc := 98) hX dX6_statementTold_98 rfl 1 rfl ?_
            refine mg_20 (pc := 99) hX dX6_statementTold_99 ?_
            obtain ⟨⟨r18, m19⟩, c20, h⟩ := gz_bd h
            refine mc_takes (pc := 102) hX rfl c20 ⟨Nat.le_of_ble_eq_true rfl, Nat.le_of_ble_eq_true rfl⟩ (rest := []) rfl (Nat.le_of_ble_eq_true rfl) dX6_statementTold_102 ?_
            refine gz_if_eq (pc := 105) (tgt := 123) hX dX6_statementTold_105 (by decide) (fun g21 => ?_) (fun g21 => ?_)
            · replace h := gz_it' g21 h
              refine gz_aload_n (pc := 123) hX dX6_statementTold_123 rfl 1 rfl ?_
              refine gz_aload_n (pc := 124) hX dX6_statementTold_124 rfl 1 rfl ?_
              refine mg_17 (pc := 125) hX dX6_statementTold_125 ?_
              obtain ⟨⟨r22, m23⟩, c24, h⟩ := gz_bd h
              refine mc_takes (pc := 128) hX rfl c24 ⟨Nat.le_of_ble_eq_true rfl, Nat.le_of_ble_eq_true rfl⟩ (rest := []) rfl (Nat.le_of_ble_eq_true rfl) dX6_statementTold_128 ?_
              refine gz_if_eq (pc := 131) (tgt := 143) hX dX6_statementTold_131 (by decide) (fun g25 => ?_) (fun g25 => ?_)
              · replace h := gz_it' g25 h
                refine gz_aload_n (pc := 143) hX dX6_statementTold_143 rfl 1 rfl ?_
                refine gz_aload_n (pc := 144) hX dX6_statementTold_144 rfl 1 rfl ?_
                refine mg_21 (pc := 145) hX dX6_statementTold_145 ?_
                obtain ⟨⟨r26, m27⟩, c28, h⟩ := gz_bd h
                refine mc_takes (pc := 148) hX rfl c28 ⟨Nat.le_of_ble_eq_true rfl, Nat.le_of_ble_eq_true rfl⟩ (rest := []) rfl (Nat.le_of_ble_eq_true rfl) dX6_statementTold_148 ?_
                refine gz_if_eq (pc := 151) (tgt := 163) hX dX6_statementTold_151 (by decide) (fun g29 => ?_) (fun g29 => ?_)
                · replace h := gz_it' g29 h
                  refine gz_aload_n (pc := 163) hX dX6_statementTold_163 rfl 1 rfl ?_
                  refine gz_aload_n (pc := 164) hX dX6_statementTold_164 rfl 1 rfl ?_
                  refine mg_22 (pc := 165) hX dX6_statementTold_165 ?_
                  obtain ⟨⟨⟨⟩, m31⟩, c32, h⟩ := gz_bd h
                  refine mc_asks (pc := 168) hX rfl c32 ⟨Nat.le_of_ble_eq_true rfl, Nat.le_of_ble_eq_true rfl⟩ (rest := []) rfl (Nat.le_of_ble_eq_true rfl) dX6_statementTold_168 ?_
                  refine gz_aload_n (pc := 171) hX dX6_statementTold_171 rfl 1 rfl ?_
                  refine mg_37 (pc := 172) hX dX6_statementTold_172 ?_
                  refine gz_iconst (pc := 175) (v := (5 : Int32)) hX dX6_statementTold_175 (by decide) ?_
                  refine gz_aload_n (pc := 176) hX dX6_statementTold_176 rfl 1 rfl ?_
                  refine gz_iconst (pc := 177) (v := (0 : Int32)) hX dX6_statementTold_177 (by decide) ?_
                  refine gz_bipush (pc := 178) (v := (100 : Int32)) hX dX6_statementTold_178 (by decide) ?_
                  obtain ⟨⟨r33, m34⟩, c35, h⟩ := gz_bd h
                  refine mc_number (pc := 180) hX c35 ⟨Nat.le_of_ble_eq_true rfl, Nat.le_of_ble_eq_true rfl⟩ (rest := [.int (5 : Int32), .ref (gz_ad G 1038)]) rfl (Nat.le_of_ble_eq_true rfl) dX6_statementTold_180 ?_
                  obtain ⟨g36, h⟩ := gz_gu h
                  obtain ⟨m37, em37, h⟩ := gz_lt h
                  refine mz_iast (pc := 183) (c := 1038) (n := 12) hX rfl rfl g36 (Nat.le_of_ble_eq_true rfl) dX6_statementTold_183 em37 ?_
                  refine gz_sub (lw := [(0, .ref (gz_ad G 2000))]) [1] rfl ?_
                  exact wb_X6_statementTold_184 hX h hk
                · replace h := gz_if' g29 h
                  refine gz_aload_n (pc := 154) hX dX6_statementTold_154 rfl 1 rfl ?_
                  refine gz_iconst (pc := 155) (v := (1 : Int32)) hX dX6_statementTold_155 (by decide) ?_
                  refine gz_iload_n (pc := 156) hX dX6_statementTold_156 rfl 0 rfl ?_
                  obtain ⟨⟨⟨⟩, m39⟩, c40, h⟩ := gz_bd h
                  refine mc_codesTold (pc := 157) hX c40 ⟨Nat.le_of_ble_eq_true rfl, Nat.le_of_ble_eq_true rfl⟩ (rest := []) rfl (Nat.le_of_ble_eq_true rfl) dX6_statementTold_157 ?_
                  refine gz_goto (pc := 160) (tgt := 184) hX dX6_statementTold_160 (by decide) ?_
                  refine gz_sub (lw := [(0, .ref (gz_ad G 2000))]) [1] rfl ?_
                  exact wb_X6_statementTold_184 hX h hk
              · replace h := gz_if' g25 h
                refine gz_aload_n (pc := 134) hX dX6_statementTold_134 rfl 1 rfl ?_
                refine gz_iconst (pc := 135) (v := (0 : Int32)) hX dX6_statementTold_135 (by decide) ?_
                refine gz_iload_n (pc := 136) hX dX6_statementTold_136 rfl 0 rfl ?_
                obtain ⟨⟨⟨⟩, m42⟩, c43, h⟩ := gz_bd h
                refine mc_codesTold (pc := 137) hX c43 ⟨Nat.le_of_ble_eq_true rfl, Nat.le_of_ble_eq_true rfl⟩ (rest := []) rfl (Nat.le_of_ble_eq_true rfl) dX6_statementTold_137 ?_
                refine gz_goto (pc := 140) (tgt := 184) hX dX6_statementTold_140 (by decide) ?_
                refine gz_sub (lw := [(0, .ref (gz_ad G 2000))]) [1] rfl ?_
                exact wb_X6_statementTold_184 hX h hk
            · replace h := gz_if' g21 h
              refine gz_aload_n (pc := 108) hX dX6_statementTold_108 rfl 1 rfl ?_
              refine mg_37 (pc := 109) hX dX6_statementTold_109 ?_
              refine gz_iconst (pc := 112) (v := (4 : Int32)) hX dX6_statementTold_112 (by decide) ?_
              refine gz_aload_n (pc := 113) hX dX6_statementTold_113 rfl 1 rfl ?_
              refine gz_iconst (pc := 114) (v := (0 : Int32)) hX dX6_statementTold_114 (by decide) ?_
              refine gz_iconst (pc := 115) (v := (-1 : Int32)) hX dX6_statementTold_115 (by decide) ?_
              obtain ⟨⟨r44, m45⟩, c46, h⟩ := gz_bd h
              refine mc_named (pc := 116) hX c46 ⟨Nat.le_of_ble_eq_true rfl, Nat.le_of_ble_eq_true rfl⟩ (rest := [.int (4 : Int32), .ref (gz_ad G 1038)]) rfl (Nat.le_of_ble_eq_true rfl) dX6_statementTold_116 ?_
              obtain ⟨g47, h⟩ := gz_gu h
              obtain ⟨m48, em48, h⟩ := gz_lt h
              refine mz_iast (pc := 119) (c := 1038) (n := 12) hX rfl rfl g47 (Nat.le_of_ble_eq_true rfl) dX6_statementTold_119 em48 ?_
              refine gz_goto (pc := 120) (tgt := 184) hX dX6_statementTold_120 (by decide) ?_
              refine gz_sub (lw := [(0, .ref (gz_ad G 2000))]) [1] rfl ?_
              exact wb_X6_statementTold_184 hX h hk
          · replace h := gz_if' g17 h
            refine gz_aload_n (pc := 89) hX dX6_statementTold_89 rfl 1 rfl ?_
            refine gz_iload_n (pc := 90) hX dX6_statementTold_90 rfl 0 rfl ?_
            obtain ⟨⟨⟨⟩, m50⟩, c51, h⟩ := gz_bd h
            refine mc_tieTold (pc := 91) hX c51 ⟨Nat.le_of_ble_eq_true rfl, Nat.le_of_ble_eq_true rfl⟩ (rest := []) rfl (Nat.le_of_ble_eq_true rfl) dX6_statementTold_91 ?_
            refine gz_goto (pc := 94) (tgt := 184) hX dX6_statementTold_94 (by decide) ?_
            refine gz_sub (lw := [(0, .ref (gz_ad G 2000))]) [1] rfl ?_
            exact wb_X6_statementTold_184 hX h hk
        · replace h := gz_if' g13 h
          refine gz_aload_n (pc := 70) hX dX6_statementTold_70 rfl 1 rfl ?_
          refine gz_iload_n (pc := 71) hX dX6_statementTold_71 rfl 0 rfl ?_
          obtain ⟨⟨⟨⟩, m53⟩, c54, h⟩ := gz_bd h
          refine mc_thingTold (pc := 72) hX c54 ⟨Nat.le_of_ble_eq_true rfl, Nat.le_of_ble_eq_true rfl⟩ (rest := []) rfl (Nat.le_of_ble_eq_true rfl) dX6_statementTold_72 ?_
          refine gz_goto (pc := 75) (tgt := 184) hX dX6_statementTold_75 (by decide) ?_
          refine gz_sub (lw := [(0, .ref (gz_ad G 2000))]) [1] rfl ?_
          exact wb_X6_statementTold_184 hX h hk
      · replace h := gz_if' g9 h
        refine gz_aload_n (pc := 51) hX dX6_statementTold_51 rfl 1 rfl ?_
        refine gz_iload_n (pc := 52) hX dX6_statementTold_52 rfl 0 rfl ?_
        obtain ⟨⟨⟨⟩, m56⟩, c57, h⟩ := gz_bd h
        refine mc_doorTold (pc := 53) hX c57 ⟨Nat.le_of_ble_eq_true rfl, Nat.le_of_ble_eq_true rfl⟩ (rest := []) rfl (Nat.le_of_ble_eq_true rfl) dX6_statementTold_53 ?_
        refine gz_goto (pc := 56) (tgt := 184) hX dX6_statementTold_56 (by decide) ?_
        refine gz_sub (lw := [(0, .ref (gz_ad G 2000))]) [1] rfl ?_
        exact wb_X6_statementTold_184 hX h hk
    · replace h := gz_if' g5 h
      refine gz_aload_n (pc := 32) hX dX6_statementTold_32 rfl 1 rfl ?_
      refine gz_iload_n (pc := 33) hX dX6_statementTold_33 rfl 0 rfl ?_
      obtain ⟨⟨⟨⟩, m59⟩, c60, h⟩ := gz_bd h
      refine mc_hallTold (pc := 34) hX c60 ⟨Nat.le_of_ble_eq_true rfl, Nat.le_of_ble_eq_true rfl⟩ (rest := []) rfl (Nat.le_of_ble_eq_true rfl) dX6_statementTold_34 ?_
      refine gz_goto (pc := 37) (tgt := 184) hX dX6_statementTold_37 (by decide) ?_
      refine gz_sub (lw := [(0, .ref (gz_ad G 2000))]) [1] rfl ?_
      exact wb_X6_statementTold_184 hX h hk
  · replace h := gz_it' g1 h
    refine gz_aload_n (pc := 14) hX dX6_statementTold_14 rfl 1 rfl ?_
    refine gz_iconst (pc := 15) (v := (5 : Int32)) hX dX6_statementTold_15 (by decide) ?_
    refine gz_iload_n (pc := 16) hX dX6_statementTold_16 rfl 0 rfl ?_
    obtain ⟨⟨⟨⟩, m62⟩, c63, h⟩ := gz_bd h
    refine mc_fail (pc := 17) hX c63 ⟨Nat.le_of_ble_eq_true rfl, Nat.le_of_ble_eq_true rfl⟩ (rest := []) rfl (Nat.le_of_ble_eq_true rfl) dX6_statementTold_17 ?_
    obtain rfl := Option.some.inj h
    exact hk _ _ dX6_statementTold_20
theorem mt_statementTold {G : gz_G} {l : Launch}   {m m9 : MM} (h : mf_statementTold  m = some ((), m9)) : gz_Met mS G l yX6_statementTold cX6_statementTold 2 none (mRm 10 219) [.ref (gz_ad G 2000)] (mF m) (mF m9) none :=
  gz_ofV (plainFor_of_name mz_plain) (Nat.le_of_ble_eq_true rfl) fun X _ hX hk => wm_statementTold hX h hk
theorem mc_statementTold {X : gz_X} {G : gz_G} {cc : ByteArray} {nL fr lo pc : Nat} {lv : List (Nat × Value)} {rest st0 : List Value} (hX : gz_C mS X G cc nL RX6 fr lo)   {m m9 : MM} (h : mf_statementTold  m = some ((), m9)) (hroom : 10 + 1 ≤ fr ∧ 8 + (2 + 11) + 219 ≤ lo) (hst : st0 = [.ref (gz_ad G 2000)] ++ rest) (hW : (rest.map fun v => v.category).sum ≤ 8) (hd : decode cc pc = .ok (.invokevirtual 381, 3)) (kk : gz_V mS X G nL (0, 0) (mF m9) (pc + 3) lv (rest)) : gz_V mS X G nL (0, 0) (mF m) pc lv st0 :=
  gz_callV hX mz_E (As := []) (rest := rest) (q := (RX6, TX6, 104)) (ci := 0) (c := 2000) (mt_statementTold (l := X.2.1) h) (lw_V q2100 q2102 qs69 q182 q2103) (n := 0) (by decide +kernel) hroom rfl rfl (by decide) rfl hst hW hd (rem := (0, 0)) kk
/-! isShorter(IIII)Z -/
noncomputable def mj_X6_isShorter_48  (m : MM) : Option (Int32 × MM) :=
  some ((0 : Int32), m)
theorem wb_X6_isShorter_48 {X : gz_X} {G : gz_G} (hX : gz_C mS X G cX6_isShorter 7 RX6 0 0)   {m : MM} {z : (Int32 × MM)} (h : mj_X6_isShorter_48  m = some z) (hk : (fun z : (Int32 × MM) => gz_kZ mS X G 7 (0, 0) cX6_isShorter (mF z.2) z.1) z) : gz_V mS X G 7 (0, 0) (mF m) 48 [(0, .ref (gz_ad G 2000))] [] := by
  unfold mj_X6_isShorter_48 at h
  refine gz_iconst (pc := 48) (v := (0 : Int32)) hX dX6_isShorter_48 (by decide) ?_
  obtain rfl := Option.some.inj h
  exact hk _ _ dX6_isShorter_49 (Or.inl rfl)
noncomputable def mj_X6_isShorter_50 (x1 : Int32) (x3 : Int32) (x4 : Int32) (x5 : Int32) (m : MM) : Option (Int32 × MM) :=
  (if gz_in (((8 : Int32) * x1) + x3) (64) then gz_let (msI m 1050 (gz_ix (((8 : Int32) * x1) + x3)) (x5 + x4)) fun m2 => some ((1 : Int32), m2) else none)
theorem wb_X6_isShorter_50 {X : gz_X} {G : gz_G} (hX : gz_C mS X G cX6_isShorter 7 RX6 0 0) {x1 : Int32} {x3 : Int32} {x4 : Int32} {x5 : Int32}  {m : MM} {z : (Int32 × MM)} (h : mj_X6_isShorter_50 x1 x3 x4 x5 m = some z) (hk : (fun z : (Int32 × MM) => gz_kZ mS X G 7 (0, 0) cX6_isShorter (mF z.2) z.1) z) : gz_V mS X G 7 (0, 0) (mF m) 50 [(0, .ref (gz_ad G 2000)), (1, .int x1), (3, .int x3), (4, .int x4), (5, .int x5)] [] := by
  unfold mj_X6_isShorter_50 at h
  refine gz_aload_n (pc := 50) hX dX6_isShorter_50 rfl 0 rfl ?_
  refine mg_49 (pc := 51) hX dX6_isShorter_51 ?_
  refine gz_bipush (pc := 54) (v := (8 : Int32)) hX dX6_isShorter_54 (by decide) ?_
  refine gz_iload_n (pc := 56) hX dX6_isShorter_56 rfl 1 rfl ?_
  refine gz_imul (pc := 57) hX dX6_isShorter_57 ?_
  refine gz_iload_n (pc := 58) hX dX6_isShorter_58 rfl 2 rfl ?_
  refine gz_iadd (pc := 59) hX dX6_isShorter_59 ?_
  refine gz_iload (pc := 60) hX dX6_isShorter_60 4 rfl ?_
  refine gz_iload (pc := 62) hX dX6_isShorter_62 3 rfl ?_
  refine gz_iadd (pc := 64) hX dX6_isShorter_64 ?_
  obtain ⟨g1, h⟩ := gz_gu h
  obtain ⟨m2, em2, h⟩ := gz_lt h
  refine mz_iast (pc := 65) (c := 1050) (n := 64) hX rfl rfl g1 (Nat.le_of_ble_eq_true rfl) dX6_isShorter_65 em2 ?_
  refine gz_iconst (pc := 66) (v := (1 : Int32)) hX dX6_isShorter_66 (by decide) ?_
  obtain rfl := Option.some.inj h
  exact hk _ _ dX6_isShorter_67 (Or.inr rfl)
noncomputable def mf_isShorter (x1 : Int32) (x2 : Int32) (x3 : Int32) (x4 : Int32) (m : MM) : Option (Int32 × MM) :=
  (if gz_in (((8 : Int32) * x1) + x2) (64) then gz_let ((m.1 1050 (gz_ix (((8 : Int32) * x1) + x2)))) fun y2 => (if gz_in (((8 : Int32) * x1) + x3) (64) then gz_let ((m.1 1050 (gz_ix (((8 : Int32) * x1) + x3)))) fun y4 => (if y2 = (-1 : Int32) then (mj_X6_isShorter_48  m) else (if y4 = (-1 : Int32) then (mj_X6_isShorter_50 x1 x3 x4 y2 m) else (if (y2 + x4) < y4 then (mj_X6_isShorter_50 x1 x3 x4 y2 m) else (mj_X6_isShorter_48  m)))) else none) else none)
theorem wm_isShorter {X : gz_X} {G : gz_G} (hX : gz_C mS X G cX6_isShorter 7 RX6 0 0) {x1 : Int32} {x2 : Int32} {x3 : Int32} {x4 : Int32}  {m : MM} {z : (Int32 × MM)} (h : mf_isShorter x1 x2 x3 x4 m = some z) (hk : (fun z : (Int32 × MM) => gz_kZ mS X G 7 (0, 0) cX6_isShorter (mF z.2) z.1) z) : gz_V mS X G 7 (0, 0) (mF m) 0 [(0, .ref (gz_ad G 2000)), (1, .int x1), (2, .int x2), (3, .int x3), (4, .int x4)] [] := by
  unfold mf_isShorter at h
  refine gz_aload_n (pc := 0) hX dX6_isShorter_0 rfl 0 rfl ?_
  refine mg_49 (pc := 1) hX dX6_isShorter_1 ?_
  refine gz_bipush (pc := 4) (v := (8 : Int32)) hX dX6_isShorter_4 (by decide) ?_
  refine gz_iload_n (pc := 6) hX dX6_isShorter_6 rfl 1 rfl ?_
  refine gz_imul (pc := 7) hX dX6_isShorter_7 ?_
  refine gz_iload_n (pc := 8) hX dX6_isShorter_8 rfl 2 rfl ?_
  refine gz_iadd (pc := 9) hX dX6_isShorter_9 ?_
  obtain ⟨g1, h⟩ := gz_gu h
  refine mz_iald (pc := 10) (c := 1050) (n := 64) hX rfl rfl g1 dX6_isShorter_10 ?_
  obtain ⟨y2, ey2, h⟩ := gz_lt h
  refine gz_topi ey2 ?_
  refine gz_istore (pc := 11) (lw := [(5, .int y2), (0, .ref (gz_ad G 2000)), (1, .int x1), (2, .int x2), (3, .int x3), (4, .int x4)]) hX dX6_isShorter_11 (by decide) rfl ?_
  refine gz_aload_n (pc := 13) hX dX6_isShorter_13 rfl 1 rfl ?_
  refine mg_49 (pc := 14) hX dX6_isShorter_14 ?_
  refine gz_bipush (pc := 17) (v := (8 : Int32)) hX dX6_isShorter_17 (by decide) ?_
  refine gz_iload_n (pc := 19) hX dX6_isShorter_19 rfl 2 rfl ?_
  refine gz_imul (pc := 20) hX dX6_isShorter_20 ?_
  refine gz_iload_n (pc := 21) hX dX6_isShorter_21 rfl 4 rfl ?_
  refine gz_iadd (pc := 22) hX dX6_isShorter_22 ?_
  obtain ⟨g3, h⟩ := gz_gu h
  refine mz_iald (pc := 23) (c := 1050) (n := 64) hX rfl rfl g3 dX6_isShorter_23 ?_
  obtain ⟨y4, ey4, h⟩ := gz_lt h
  refine gz_topi ey4 ?_
  refine gz_istore (pc := 24) (lw := [(6, .int y4), (5, .int y2), (0, .ref (gz_ad G 2000)), (1, .int x1), (2, .int x2), (3, .int x3), (4, .int x4)]) hX dX6_isShorter_24 (by decide) rfl ?_
  refine gz_iload (pc := 26) hX dX6_isShorter_26 1 rfl ?_
  refine gz_iconst (pc := 28) (v := (-1 : Int32)) hX dX6_isShorter_28 (by decide) ?_
  refine gz_icmp_eq (pc := 29) (tgt := 48) hX dX6_isShorter_29 (by decide) (fun g5 => ?_) (fun g5 => ?_)
  · replace h := gz_it' g5 h
    refine gz_sub (lw := [(0, .ref (gz_ad G 2000))]) [2] rfl ?_
    exact wb_X6_isShorter_48 hX h hk
  · replace h := gz_if' g5 h
    refine gz_iload (pc := 32) hX dX6_isShorter_32 0 rfl ?_
    refine gz_iconst (pc := 34) (v := (-1 : Int32)) hX dX6_isShorter_34 (by decide) ?_
    refine gz_icmp_eq (pc := 35) (tgt := 50) hX dX6_isShorter_35 (by decide) (fun g6 => ?_) (fun g6 => ?_)
    · replace h := gz_it' g6 h
      refine gz_sub (lw := [(0, .ref (gz_ad G 2000)), (1, .int x1), (3, .int x3), (4, .int x4), (5, .int y2)]) [2, 3, 5, 6, 1] rfl ?_
      exact wb_X6_isShorter_50 hX h hk
    · replace h := gz_if' g6 h
      refine gz_iload (pc := 38) hX dX6_isShorter_38 0 rfl ?_
      refine gz_iload (pc := 40) hX dX6_isShorter_40 1 rfl ?_
      refine gz_iload (pc := 42) hX dX6_isShorter_42 6 rfl ?_
      refine gz_iadd (pc := 44) hX dX6_isShorter_44 ?_
      refine gz_icmp_gt (pc := 45) (tgt := 50) hX dX6_isShorter_45 (by decide) (fun g7 => ?_) (fun g7 => ?_)
      · replace h := gz_it' g7 h
        refine gz_sub (lw := [(0, .ref (gz_ad G 2000)), (1, .int x1), (3, .int x3), (4, .int x4), (5, .int y2)]) [2, 3, 5, 6, 1] rfl ?_
        exact wb_X6_isShorter_50 hX h hk
      · replace h := gz_if' g7 h
        refine gz_sub (lw := [(0, .ref (gz_ad G 2000))]) [2] rfl ?_
        exact wb_X6_isShorter_48 hX h hk
theorem mt_isShorter {G : gz_G} {l : Launch} {x1 : Int32} {x2 : Int32} {x3 : Int32} {x4 : Int32}  {m m9 : MM} {r : Int32} (h : mf_isShorter x1 x2 x3 x4 m = some (r, m9)) : gz_Met mS G l yX6_isShorter cX6_isShorter 7 (some .boolean) (mRm 0 0) [.ref (gz_ad G 2000), .int x1, .int x2, .int x3, .int x4] (mF m) (mF m9) (some (.int r)) :=
  gz_ofZ (plainFor_of_name mz_plain) (Nat.le_of_ble_eq_true rfl) fun X _ hX hk => wm_isShorter hX h hk
theorem mc_isShorter {X : gz_X} {G : gz_G} {cc : ByteArray} {nL fr lo pc : Nat} {lv : List (Nat × Value)} {rest st0 : List Value} (hX : gz_C mS X G cc nL RX6 fr lo) {x1 : Int32} {x2 : Int32} {x3 : Int32} {x4 : Int32}  {m m9 : MM} {r : Int32} (h : mf_isShorter x1 x2 x3 x4 m = some (r, m9)) (hroom : 0 + 1 ≤ fr ∧ 8 + (7 + 11) + 0 ≤ lo) (hst : st0 = [.int x4, .int x3, .int x2, .int x1, .ref (gz_ad G 2000)] ++ rest) (hW : (rest.map fun v => v.category).sum ≤ 8) (hd : decode cc pc = .ok (.invokevirtual 399, 3)) (kk : gz_V mS X G nL (0, 0) (mF m9) (pc + 3) lv (.int r :: rest)) : gz_V mS X G nL (0, 0) (mF m) pc lv st0 :=
  gz_callV hX mz_E (As := [.int x1, .int x2, .int x3, .int x4]) (rest := rest) (q := (RX6, TX6, 104)) (ci := 0) (c := 2000) (mt_isShorter (l := X.2.1) h) (lw_V q2274 q2276 qs109 q182 q2277) (n := 4) (by decide +kernel) hroom rfl rfl (by decide) rfl hst hW hd (rem := (0, 0)) kk
/-! laysWays()V -/
def mP_X6_laysWays_2 (X : gz_X) (G : gz_G) (q : (Int32 × MM)) : Prop := gz_V mS X G 5 (0, 0) (mF q.2) 2 [(0, .ref (gz_ad G 2000)), (1, .int q.1)] []
def mP_X6_laysWays_38 (X : gz_X) (G : gz_G) (q : (Int32 × MM)) : Prop := gz_V mS X G 5 (0, 0) (mF q.2) 38 [(0, .ref (gz_ad G 2000)), (1, .int q.1)] []
def mP_X6_laysWays_46 (X : gz_X) (G : gz_G) (q : (Int32 × Int32 × MM)) : Prop := gz_V mS X G 5 (0, 0) (mF q.2.2) 46 [(0, .ref (gz_ad G 2000)), (1, .int q.1), (2, .int q.2.1)] []
def mP_X6_laysWays_54 (X : gz_X) (G : gz_G) (q : (Int32 × Int32 × Int32 × MM)) : Prop := gz_V mS X G 5 (0, 0) (mF q.2.2.2) 54 [(0, .ref (gz_ad G 2000)), (1, .int q.1), (2, .int q.2.1), (3, .int q.2.2.1)] []
noncomputable def mj_X6_laysWays_136 (x1 : Int32) (x2 : Int32) (x3 : Int32) (m : MM) : Option ((Int32 × Int32 × Int32 × MM) ⊕ ((Int32 × Int32 × MM) ⊕ ((Int32 × MM) ⊕ (Unit × MM)))) :=
  gz_let (x3 + (1 : Int32)) fun y1 => some (Sum.inl (x1, x2, y1, m))
theorem wb_X6_laysWays_136 {X : gz_X} {G : gz_G} (hX : gz_C mS X G cX6_laysWays 5 RX6 1 26) {x1 : Int32} {x2 : Int32} {x3 : Int32}  {m : MM} {z : ((Int32 × Int32 × Int32 × MM) ⊕ ((Int32 × Int32 × MM) ⊕ ((Int32 × MM) ⊕ (Unit × MM))))} (h : mj_X6_laysWays_136 x1 x2 x3 m = some z) (hk : (Sum.elim (mP_X6_laysWays_54 X G) (Sum.elim (mP_X6_laysWays_46 X G) (Sum.elim (mP_X6_laysWays_38 X G) (fun z : (Unit × MM) => gz_kV mS X G 5 (0, 0) cX6_laysWays (mF z.2))))) z) : gz_V mS X G 5 (0, 0) (mF m) 136 [(0, .ref (gz_ad G 2000)), (1, .int x1), (2, .int x2), (3, .int x3)] [] := by
  unfold mj_X6_laysWays_136 at h
  obtain ⟨y1, ey1, h⟩ := gz_lt h
  refine gz_iinc (pc := 136) (v := y1) (lw := [(3, .int y1), (0, .ref (gz_ad G 2000)), (1, .int x1), (2, .int x2)]) hX dX6_laysWays_136 (k := 3) rfl (by rw [ey1]; rfl) (by decide) rfl ?_
  refine gz_goto (pc := 139) (tgt := 54) hX dX6_laysWays_139 (by decide) ?_
  refine gz_sub (lw := [(0, .ref (gz_ad G 2000)), (1, .int x1), (2, .int x2), (3, .int y1)]) [1, 2, 3, 0] rfl ?_
  obtain rfl := Option.some.inj h
  exact hk
noncomputable def mj_X6_laysWays_106 (x1 : Int32) (x2 : Int32) (x3 : Int32) (x4 : Int32) (m : MM) : Option ((Int32 × Int32 × Int32 × MM) ⊕ ((Int32 × Int32 × MM) ⊕ ((Int32 × MM) ⊕ (Unit × MM)))) :=
  (if gz_in (((3 : Int32) * x3) + (1 : Int32)) (36) then (if gz_in ((3 : Int32) * x3) (36) then ((mf_isShorter x1 (m.1 1040 (gz_ix (((3 : Int32) * x3) + (1 : Int32)))) (m.1 1040 (gz_ix ((3 : Int32) * x3))) x4 m).bind fun (r3, m4) => (if r3 = (0 : Int32) then (mj_X6_laysWays_136 x1 x2 x3 m4) else (mj_X6_laysWays_136 x1 (1 : Int32) x3 m4))) else none) else none)
theorem wb_X6_laysWays_106 {X : gz_X} {G : gz_G} (hX : gz_C mS X G cX6_laysWays 5 RX6 1 26) {x1 : Int32} {x2 : Int32} {x3 : Int32} {x4 : Int32}  {m : MM} {z : ((Int32 × Int32 × Int32 × MM) ⊕ ((Int32 × Int32 × MM) ⊕ ((Int32 × MM) ⊕ (Unit × MM))))} (h : mj_X6_laysWays_106 x1 x2 x3 x4 m = some z) (hk : (Sum.elim (mP_X6_laysWays_54 X G) (Sum.elim (mP_X6_laysWays_46 X G) (Sum.elim (mP_X6_laysWays_38 X G) (fun z : (Unit × MM) => gz_kV mS X G 5 (0, 0) cX6_laysWays (mF z.2))))) z) : gz_V mS X G 5 (0, 0) (mF m) 106 [(0, .ref (gz_ad G 2000)), (1, .int x1), (2, .int x2), (3, .int x3), (4, .int x4)] [] := by
  unfold mj_X6_laysWays_106 at h
  refine gz_aload_n (pc := 106) hX dX6_laysWays_106 rfl 0 rfl ?_
  refine gz_iload_n (pc := 107) hX dX6_laysWays_107 rfl 1 rfl ?_
  refine gz_aload_n (pc := 108) hX dX6_laysWays_108 rfl 0 rfl ?_
  refine mg_39 (pc := 109) hX dX6_laysWays_109 ?_
  refine gz_iconst (pc := 112) (v := (3 : Int32)) hX dX6_laysWays_112 (by decide) ?_
  refine gz_iload_n (pc := 113) hX dX6_laysWays_113 rfl 3 rfl ?_
  refine gz_imul (pc := 114) hX dX6_laysWays_114 ?_
  refine gz_iconst (pc := 115) (v := (1 : Int32)) hX dX6_laysWays_115 (by decide) ?_
  refine gz_iadd (pc := 116) hX dX6_laysWays_116 ?_
  obtain ⟨g1, h⟩ := gz_gu h
  refine mz_iald (pc := 117) (c := 1040) (n := 36) hX rfl rfl g1 dX6_laysWays_117 ?_
  refine gz_aload_n (pc := 118) hX dX6_laysWays_118 rfl 0 rfl ?_
  refine mg_39 (pc := 119) hX dX6_laysWays_119 ?_
  refine gz_iconst (pc := 122) (v := (3 : Int32)) hX dX6_laysWays_122 (by decide) ?_
  refine gz_iload_n (pc := 123) hX dX6_laysWays_123 rfl 3 rfl ?_
  refine gz_imul (pc := 124) hX dX6_laysWays_124 ?_
  obtain ⟨g2, h⟩ := gz_gu h
  refine mz_iald (pc := 125) (c := 1040) (n := 36) hX rfl rfl g2 dX6_laysWays_125 ?_
  refine gz_iload (pc := 126) hX dX6_laysWays_126 4 rfl ?_
  obtain ⟨⟨r3, m4⟩, c5, h⟩ := gz_bd h
  refine mc_isShorter (pc := 128) hX c5 ⟨Nat.le_of_ble_eq_true rfl, Nat.le_of_ble_eq_true rfl⟩ (rest := []) rfl (Nat.le_of_ble_eq_true rfl) dX6_laysWays_128 ?_
  refine gz_if_eq (pc := 131) (tgt := 136) hX dX6_laysWays_131 (by decide) (fun g6 => ?_) (fun g6 => ?_)
  · replace h := gz_it' g6 h
    refine gz_sub (lw := [(0, .ref (gz_ad G 2000)), (1, .int x1), (2, .int x2), (3, .int x3)]) [0, 1, 2, 3] rfl ?_
    exact wb_X6_laysWays_136 hX h hk
  · replace h := gz_if' g6 h
    refine gz_iconst (pc := 134) (v := (1 : Int32)) hX dX6_laysWays_134 (by decide) ?_
    refine gz_istore_n (pc := 135) (lw := [(2, .int (1 : Int32)), (0, .ref (gz_ad G 2000)), (1, .int x1), (3, .int x3), (4, .int x4)]) hX dX6_laysWays_135 rfl (by decide) rfl ?_
    refine gz_sub (lw := [(0, .ref (gz_ad G 2000)), (1, .int x1), (2, .int (1 : Int32)), (3, .int x3)]) [1, 2, 0, 3] rfl ?_
    exact wb_X6_laysWays_136 hX h hk
noncomputable def mb_X6_laysWays_54 (x1 : Int32) (x2 : Int32) (x3 : Int32) (m : MM) : Option ((Int32 × Int32 × Int32 × MM) ⊕ ((Int32 × Int32 × MM) ⊕ ((Int32 × MM) ⊕ (Unit × MM)))) :=
  (if gz_in (2 : Int32) (12) then (if (m.1 1038 (gz_ix (2 : Int32))) ≤ x3 then some (Sum.inr (Sum.inl (x1, x2, m))) else (if gz_in (((3 : Int32) * x3) + (2 : Int32)) (36) then gz_let ((m.1 1040 (gz_ix (((3 : Int32) * x3) + (2 : Int32))))) fun y4 => (if gz_in ((3 : Int32) * x3) (36) then (if gz_in (((3 : Int32) * x3) + (1 : Int32)) (36) then ((mf_isShorter x1 (m.1 1040 (gz_ix ((3 : Int32) * x3))) (m.1 1040 (gz_ix (((3 : Int32) * x3) + (1 : Int32)))) y4 m).bind fun (r7, m8) => (if r7 = (0 : Int32) then (mj_X6_laysWays_106 x1 x2 x3 y4 m8) else (mj_X6_laysWays_106 x1 (1 : Int32) x3 y4 m8))) else none) else none) else none)) else none)
theorem wb_X6_laysWays_54 {X : gz_X} {G : gz_G} (hX : gz_C mS X G cX6_laysWays 5 RX6 1 26) {x1 : Int32} {x2 : Int32} {x3 : Int32}  {m : MM} {z : ((Int32 × Int32 × Int32 × MM) ⊕ ((Int32 × Int32 × MM) ⊕ ((Int32 × MM) ⊕ (Unit × MM))))} (h : mb_X6_laysWays_54 x1 x2 x3 m = some z) (hk : (Sum.elim (mP_X6_laysWays_54 X G) (Sum.elim (mP_X6_laysWays_46 X G) (Sum.elim (mP_X6_laysWays_38 X G) (fun z : (Unit × MM) => gz_kV mS X G 5 (0, 0) cX6_laysWays (mF z.2))))) z) : gz_V mS X G 5 (0, 0) (mF m) 54 [(0, .ref (gz_ad G 2000)), (1, .int x1), (2, .int x2), (3, .int x3)] [] := by
  unfold mb_X6_laysWays_54 at h
  refine gz_iload_n (pc := 54) hX dX6_laysWays_54 rfl 3 rfl ?_
  refine gz_aload_n (pc := 55) hX dX6_laysWays_55 rfl 0 rfl ?_
  refine mg_37 (pc := 56) hX dX6_laysWays_56 ?_
  refine gz_iconst (pc := 59) (v := (2 : Int32)) hX dX6_laysWays_59 (by decide) ?_
  obtain ⟨g1, h⟩ := gz_gu h
  refine mz_iald (pc := 60) (c := 1038) (n := 12) hX rfl rfl g1 dX6_laysWays_60 ?_
  refine gz_icmp_ge (pc := 61) (tgt := 142) hX dX6_laysWays_61 (by decide) (fun g2 => ?_) (fun g2 => ?_)
  · replace h := gz_it' g2 h
    refine gz_goto (pc := 142) (tgt := 46) hX dX6_laysWays_142 (by decide) ?_
    refine gz_sub (lw := [(0, .ref (gz_ad G 2000)), (1, .int x1), (2, .int x2)]) [0, 1, 2] rfl ?_
    obtain rfl := Option.some.inj h
    exact hk
  · replace h := gz_if' g2 h
    refine gz_aload_n (pc := 64) hX dX6_laysWays_64 rfl 0 rfl ?_
    refine mg_39 (pc := 65) hX dX6_laysWays_65 ?_
    refine gz_iconst (pc := 68) (v := (3 : Int32)) hX dX6_laysWays_68 (by decide) ?_
    refine gz_iload_n (pc := 69) hX dX6_laysWays_69 rfl 3 rfl ?_
    refine gz_imul (pc := 70) hX dX6_laysWays_70 ?_
    refine gz_iconst (pc := 71) (v := (2 : Int32)) hX dX6_laysWays_71 (by decide) ?_
    refine gz_iadd (pc := 72) hX dX6_laysWays_72 ?_
    obtain ⟨g3, h⟩ := gz_gu h
    refine mz_iald (pc := 73) (c := 1040) (n := 36) hX rfl rfl g3 dX6_laysWays_73 ?_
    obtain ⟨y4, ey4, h⟩ := gz_lt h
    refine gz_topi ey4 ?_
    refine gz_istore (pc := 74) (lw := [(4, .int y4), (0, .ref (gz_ad G 2000)), (1, .int x1), (2, .int x2), (3, .int x3)]) hX dX6_laysWays_74 (by decide) rfl ?_
    refine gz_aload_n (pc := 76) hX dX6_laysWays_76 rfl 1 rfl ?_
    refine gz_iload_n (pc := 77) hX dX6_laysWays_77 rfl 2 rfl ?_
    refine gz_aload_n (pc := 78) hX dX6_laysWays_78 rfl 1 rfl ?_
    refine mg_39 (pc := 79) hX dX6_laysWays_79 ?_
    refine gz_iconst (pc := 82) (v := (3 : Int32)) hX dX6_laysWays_82 (by decide) ?_
    refine gz_iload_n (pc := 83) hX dX6_laysWays_83 rfl 4 rfl ?_
    refine gz_imul (pc := 84) hX dX6_laysWays_84 ?_
    obtain ⟨g5, h⟩ := gz_gu h
    refine mz_iald (pc := 85) (c := 1040) (n := 36) hX rfl rfl g5 dX6_laysWays_85 ?_
    refine gz_aload_n (pc := 86) hX dX6_laysWays_86 rfl 1 rfl ?_
    refine mg_39 (pc := 87) hX dX6_laysWays_87 ?_
    refine gz_iconst (pc := 90) (v := (3 : Int32)) hX dX6_laysWays_90 (by decide) ?_
    refine gz_iload_n (pc := 91) hX dX6_laysWays_91 rfl 4 rfl ?_
    refine gz_imul (pc := 92) hX dX6_laysWays_92 ?_
    refine gz_iconst (pc := 93) (v := (1 : Int32)) hX dX6_laysWays_93 (by decide) ?_
    refine gz_iadd (pc := 94) hX dX6_laysWays_94 ?_
    obtain ⟨g6, h⟩ := gz_gu h
    refine mz_iald (pc := 95) (c := 1040) (n := 36) hX rfl rfl g6 dX6_laysWays_95 ?_
    refine gz_iload (pc := 96) hX dX6_laysWays_96 0 rfl ?_
    obtain ⟨⟨r7, m8⟩, c9, h⟩ := gz_bd h
    refine mc_isShorter (pc := 98) hX c9 ⟨Nat.le_of_ble_eq_true rfl, Nat.le_of_ble_eq_true rfl⟩ (rest := []) rfl (Nat.le_of_ble_eq_true rfl) dX6_laysWays_98 ?_
    refine gz_if_eq (pc := 101) (tgt := 106) hX dX6_laysWays_101 (by decide) (fun g10 => ?_) (fun g10 => ?_)
    · replace h := gz_it' g10 h
      refine gz_sub (lw := [(0, .ref (gz_ad G 2000)), (1, .int x1), (2, .int x2), (3, .int x3), (4, .int y4)]) [1, 2, 3, 4, 0] rfl ?_
      exact wb_X6_laysWays_106 hX h hk
    · replace h := gz_if' g10 h
      refine gz_iconst (pc := 104) (v := (1 : Int32)) hX dX6_laysWays_104 (by decide) ?_
      refine gz_istore_n (pc := 105) (lw := [(2, .int (1 : Int32)), (4, .int y4), (0, .ref (gz_ad G 2000)), (1, .int x1), (3, .int x3)]) hX dX6_laysWays_105 rfl (by decide) rfl ?_
      refine gz_sub (lw := [(0, .ref (gz_ad G 2000)), (1, .int x1), (2, .int (1 : Int32)), (3, .int x3), (4, .int y4)]) [2, 3, 0, 4, 1] rfl ?_
      exact wb_X6_laysWays_106 hX h hk
noncomputable def ml_X6_laysWays_54 (x1 : Int32) (x2 : Int32) (x3 : Int32) (m : MM) : Option ((Int32 × Int32 × MM) ⊕ ((Int32 × MM) ⊕ (Unit × MM))) := gz_loop (fun q : (Int32 × Int32 × Int32 × MM) => mb_X6_laysWays_54 q.1 q.2.1 q.2.2.1 q.2.2.2) (x1, x2, x3, m)
theorem wl_X6_laysWays_54 {X : gz_X} {G : gz_G} (hX : gz_C mS X G cX6_laysWays 5 RX6 1 26) {x1 : Int32} {x2 : Int32} {x3 : Int32}  {m : MM} {z : ((Int32 × Int32 × MM) ⊕ ((Int32 × MM) ⊕ (Unit × MM)))} (h : ml_X6_laysWays_54 x1 x2 x3 m = some z) (hk : (Sum.elim (mP_X6_laysWays_46 X G) (Sum.elim (mP_X6_laysWays_38 X G) (fun z : (Unit × MM) => gz_kV mS X G 5 (0, 0) cX6_laysWays (mF z.2)))) z) : gz_V mS X G 5 (0, 0) (mF m) 54 [(0, .ref (gz_ad G 2000)), (1, .int x1), (2, .int x2), (3, .int x3)] [] := by
  have hp : mP_X6_laysWays_54 X G (x1, x2, x3, m) := gz_loop_ind (fun q z hz hkz => wb_X6_laysWays_54 hX  hz hkz) h hk
  exact hp
noncomputable def mb_X6_laysWays_46 (x1 : Int32) (x2 : Int32) (m : MM) : Option ((Int32 × Int32 × MM) ⊕ ((Int32 × MM) ⊕ (Unit × MM))) :=
  (if x2 = (0 : Int32) then gz_let (x1 + (1 : Int32)) fun y2 => some (Sum.inr (Sum.inl (y2, m))) else (ml_X6_laysWays_54 x1 (0 : Int32) (0 : Int32) m))
theorem wb_X6_laysWays_46 {X : gz_X} {G : gz_G} (hX : gz_C mS X G cX6_laysWays 5 RX6 1 26) {x1 : Int32} {x2 : Int32}  {m : MM} {z : ((Int32 × Int32 × MM) ⊕ ((Int32 × MM) ⊕ (Unit × MM)))} (h : mb_X6_laysWays_46 x1 x2 m = some z) (hk : (Sum.elim (mP_X6_laysWays_46 X G) (Sum.elim (mP_X6_laysWays_38 X G) (fun z : (Unit × MM) => gz_kV mS X G 5 (0, 0) cX6_laysWays (mF z.2)))) z) : gz_V mS X G 5 (0, 0) (mF m) 46 [(0, .ref (gz_ad G 2000)), (1, .int x1), (2, .int x2)] [] := by
  unfold mb_X6_laysWays_46 at h
  refine gz_iload_n (pc := 46) hX dX6_laysWays_46 rfl 2 rfl ?_
  refine gz_if_eq (pc := 47) (tgt := 145) hX dX6_laysWays_47 (by decide) (fun g1 => ?_) (fun g1 => ?_)
  · replace h := gz_it' g1 h
    obtain ⟨y2, ey2, h⟩ := gz_lt h
    refine gz_iinc (pc := 145) (v := y2) (lw := [(1, .int y2), (0, .ref (gz_ad G 2000)), (2, .int x2)]) hX dX6_laysWays_145 (k := 1) rfl (by rw [ey2]; rfl) (by decide) rfl ?_
    refine gz_goto (pc := 148) (tgt := 38) hX dX6_laysWays_148 (by decide) ?_
    refine gz_sub (lw := [(0, .ref (gz_ad G 2000)), (1, .int y2)]) [1, 0] rfl ?_
    obtain rfl := Option.some.inj h
    exact hk
  · replace h := gz_if' g1 h
    refine gz_iconst (pc := 50) (v := (0 : Int32)) hX dX6_laysWays_50 (by decide) ?_
    refine gz_istore_n (pc := 51) (lw := [(2, .int (0 : Int32)), (0, .ref (gz_ad G 2000)), (1, .int x1)]) hX dX6_laysWays_51 rfl (by decide) rfl ?_
    refine gz_iconst (pc := 52) (v := (0 : Int32)) hX dX6_laysWays_52 (by decide) ?_
    refine gz_istore_n (pc := 53) (lw := [(3, .int (0 : Int32)), (2, .int (0 : Int32)), (0, .ref (gz_ad G 2000)), (1, .int x1)]) hX dX6_laysWays_53 rfl (by decide) rfl ?_
    refine gz_sub (lw := [(0, .ref (gz_ad G 2000)), (1, .int x1), (2, .int (0 : Int32)), (3, .int (0 : Int32))]) [2, 3, 1, 0] rfl ?_
    exact wl_X6_laysWays_54 hX h hk
noncomputable def ml_X6_laysWays_46 (x1 : Int32) (x2 : Int32) (m : MM) : Option ((Int32 × MM) ⊕ (Unit × MM)) := gz_loop (fun q : (Int32 × Int32 × MM) => mb_X6_laysWays_46 q.1 q.2.1 q.2.2) (x1, x2, m)
theorem wl_X6_laysWays_46 {X : gz_X} {G : gz_G} (hX : gz_C mS X G cX6_laysWays 5 RX6 1 26) {x1 : Int32} {x2 : Int32}  {m : MM} {z : ((Int32 × MM) ⊕ (Unit × MM))} (h : ml_X6_laysWays_46 x1 x2 m = some z) (hk : (Sum.elim (mP_X6_laysWays_38 X G) (fun z : (Unit × MM) => gz_kV mS X G 5 (0, 0) cX6_laysWays (mF z.2))) z) : gz_V mS X G 5 (0, 0) (mF m) 46 [(0, .ref (gz_ad G 2000)), (1, .int x1), (2, .int x2)] [] := by
  have hp : mP_X6_laysWays_46 X G (x1, x2, m) := gz_loop_ind (fun q z hz hkz => wb_X6_laysWays_46 hX  hz hkz) h hk
  exact hp
noncomputable def mb_X6_laysWays_38 (x1 : Int32) (m : MM) : Option ((Int32 × MM) ⊕ (Unit × MM)) :=
  (if (8 : Int32) ≤ x1 then some (Sum.inr ((), m)) else (ml_X6_laysWays_46 x1 (1 : Int32) m))
theorem wb_X6_laysWays_38 {X : gz_X} {G : gz_G} (hX : gz_C mS X G cX6_laysWays 5 RX6 1 26) {x1 : Int32}  {m : MM} {z : ((Int32 × MM) ⊕ (Unit × MM))} (h : mb_X6_laysWays_38 x1 m = some z) (hk : (Sum.elim (mP_X6_laysWays_38 X G) (fun z : (Unit × MM) => gz_kV mS X G 5 (0, 0) cX6_laysWays (mF z.2))) z) : gz_V mS X G 5 (0, 0) (mF m) 38 [(0, .ref (gz_ad G 2000)), (1, .int x1)] [] := by
  unfold mb_X6_laysWays_38 at h
  refine gz_iload_n (pc := 38) hX dX6_laysWays_38 rfl 1 rfl ?_
  refine gz_bipush (pc := 39) (v := (8 : Int32)) hX dX6_laysWays_39 (by decide) ?_
  refine gz_icmp_ge (pc := 41) (tgt := 151) hX dX6_laysWays_41 (by decide) (fun g1 => ?_) (fun g1 => ?_)
  · replace h := gz_it' g1 h
    obtain rfl := Option.some.inj h
    exact hk _ _ dX6_laysWays_151
  · replace h := gz_if' g1 h
    refine gz_iconst (pc := 44) (v := (1 : Int32)) hX dX6_laysWays_44 (by decide) ?_
    refine gz_istore_n (pc := 45) (lw := [(2, .int (1 : Int32)), (0, .ref (gz_ad G 2000)), (1, .int x1)]) hX dX6_laysWays_45 rfl (by decide) rfl ?_
    refine gz_sub (lw := [(0, .ref (gz_ad G 2000)), (1, .int x1), (2, .int (1 : Int32))]) [1, 2, 0] rfl ?_
    exact wl_X6_laysWays_46 hX h hk
noncomputable def ml_X6_laysWays_38 (x1 : Int32) (m : MM) : Option (Unit × MM) := gz_loop (fun q : (Int32 × MM) => mb_X6_laysWays_38 q.1 q.2) (x1, m)
theorem wl_X6_laysWays_38 {X : gz_X} {G : gz_G} (hX : gz_C mS X G cX6_laysWays 5 RX6 1 26) {x1 : Int32}  {m : MM} {z : (Unit × MM)} (h : ml_X6_laysWays_38 x1 m = some z) (hk : (fun z : (Unit × MM) => gz_kV mS X G 5 (0, 0) cX6_laysWays (mF z.2)) z) : gz_V mS X G 5 (0, 0) (mF m) 38 [(0, .ref (gz_ad G 2000)), (1, .int x1)] [] := by
  have hp : mP_X6_laysWays_38 X G (x1, m) := gz_loop_ind (fun q z hz hkz => wb_X6_laysWays_38 hX  hz hkz) h hk
  exact hp
noncomputable def mj_X6_laysWays_29 (x1 : Int32) (s0 : Int32) (s1 : Int32) (m : MM) : Option ((Int32 × MM) ⊕ (Unit × MM)) :=
  (if gz_in s1 (64) then gz_let (msI m 1050 (gz_ix s1) s0) fun m2 => gz_let (x1 + (1 : Int32)) fun y3 => some (Sum.inl (y3, m2)) else none)
theorem wb_X6_laysWays_29 {X : gz_X} {G : gz_G} (hX : gz_C mS X G cX6_laysWays 5 RX6 1 26) {x1 : Int32} {s0 : Int32} {s1 : Int32}  {m : MM} {z : ((Int32 × MM) ⊕ (Unit × MM))} (h : mj_X6_laysWays_29 x1 s0 s1 m = some z) (hk : (Sum.elim (mP_X6_laysWays_2 X G) (fun z : (Unit × MM) => gz_kV mS X G 5 (0, 0) cX6_laysWays (mF z.2))) z) : gz_V mS X G 5 (0, 0) (mF m) 29 [(0, .ref (gz_ad G 2000)), (1, .int x1)] [.int s0, .int s1, .ref (gz_ad G 1050)] := by
  unfold mj_X6_laysWays_29 at h
  obtain ⟨g1, h⟩ := gz_gu h
  obtain ⟨m2, em2, h⟩ := gz_lt h
  refine mz_iast (pc := 29) (c := 1050) (n := 64) hX rfl rfl g1 (Nat.le_of_ble_eq_true rfl) dX6_laysWays_29 em2 ?_
  obtain ⟨y3, ey3, h⟩ := gz_lt h
  refine gz_iinc (pc := 30) (v := y3) (lw := [(1, .int y3), (0, .ref (gz_ad G 2000))]) hX dX6_laysWays_30 (k := 1) rfl (by rw [ey3]; rfl) (by decide) rfl ?_
  refine gz_goto (pc := 33) (tgt := 2) hX dX6_laysWays_33 (by decide) ?_
  refine gz_sub (lw := [(0, .ref (gz_ad G 2000)), (1, .int y3)]) [1, 0] rfl ?_
  obtain rfl := Option.some.inj h
  exact hk
noncomputable def mb_X6_laysWays_2 (x1 : Int32) (m : MM) : Option ((Int32 × MM) ⊕ (Unit × MM)) :=
  (if (64 : Int32) ≤ x1 then (Option.map Sum.inr (ml_X6_laysWays_38 (0 : Int32) m)) else (if (x1 / (8 : Int32)) = (x1 - x1 / (8 : Int32) * (8 : Int32)) then (mj_X6_laysWays_29 x1 (0 : Int32) x1 m) else (mj_X6_laysWays_29 x1 (-1 : Int32) x1 m)))
theorem wb_X6_laysWays_2 {X : gz_X} {G : gz_G} (hX : gz_C mS X G cX6_laysWays 5 RX6 1 26) {x1 : Int32}  {m : MM} {z : ((Int32 × MM) ⊕ (Unit × MM))} (h : mb_X6_laysWays_2 x1 m = some z) (hk : (Sum.elim (mP_X6_laysWays_2 X G) (fun z : (Unit × MM) => gz_kV mS X G 5 (0, 0) cX6_laysWays (mF z.2))) z) : gz_V mS X G 5 (0, 0) (mF m) 2 [(0, .ref (gz_ad G 2000)), (1, .int x1)] [] := by
  unfold mb_X6_laysWays_2 at h
  refine gz_iload_n (pc := 2) hX dX6_laysWays_2 rfl 1 rfl ?_
  refine gz_bipush (pc := 3) (v := (64 : Int32)) hX dX6_laysWays_3 (by decide) ?_
  refine gz_icmp_ge (pc := 5) (tgt := 36) hX dX6_laysWays_5 (by decide) (fun g1 => ?_) (fun g1 => ?_)
  · replace h := gz_it' g1 h
    refine gz_iconst (pc := 36) (v := (0 : Int32)) hX dX6_laysWays_36 (by decide) ?_
    refine gz_istore_n (pc := 37) (lw := [(1, .int (0 : Int32)), (0, .ref (gz_ad G 2000))]) hX dX6_laysWays_37 rfl (by decide) rfl ?_
    refine gz_sub (lw := [(0, .ref (gz_ad G 2000)), (1, .int (0 : Int32))]) [1, 0] rfl ?_
    obtain ⟨z0, hm0, rfl⟩ := gz_mp h
    exact wl_X6_laysWays_38 hX hm0 hk
  · replace h := gz_if' g1 h
    refine gz_aload_n (pc := 8) hX dX6_laysWays_8 rfl 0 rfl ?_
    refine mg_49 (pc := 9) hX dX6_laysWays_9 ?_
    refine gz_iload_n (pc := 12) hX dX6_laysWays_12 rfl 1 rfl ?_
    refine gz_iload_n (pc := 13) hX dX6_laysWays_13 rfl 1 rfl ?_
    refine gz_bipush (pc := 14) (v := (8 : Int32)) hX dX6_laysWays_14 (by decide) ?_
    refine gz_idiv (pc := 16) hX dX6_laysWays_16 (by decide) ?_
    refine gz_iload_n (pc := 17) hX dX6_laysWays_17 rfl 1 rfl ?_
    refine gz_bipush (pc := 18) (v := (8 : Int32)) hX dX6_laysWays_18 (by decide) ?_
    refine gz_irem (pc := 20) hX dX6_laysWays_20 (by decide) ?_
    refine gz_icmp_ne (pc := 21) (tgt := 28) hX dX6_laysWays_21 (by decide) (fun g2 => ?_) (fun g2 => ?_)
    · replace h := gz_if' g2 h
      refine gz_iconst (pc := 28) (v := (-1 : Int32)) hX dX6_laysWays_28 (by decide) ?_
      exact wb_X6_laysWays_29 hX h hk
    · replace h := gz_it' g2 h
      refine gz_iconst (pc := 24) (v := (0 : Int32)) hX dX6_laysWays_24 (by decide) ?_
      refine gz_goto (pc := 25) (tgt := 29) hX dX6_laysWays_25 (by decide) ?_
      exact wb_X6_laysWays_29 hX h hk
noncomputable def ml_X6_laysWays_2 (x1 : Int32) (m : MM) : Option (Unit × MM) := gz_loop (fun q : (Int32 × MM) => mb_X6_laysWays_2 q.1 q.2) (x1, m)
theorem wl_X6_laysWays_2 {X : gz_X} {G : gz_G} (hX : gz_C mS X G cX6_laysWays 5 RX6 1 26) {x1 : Int32}  {m : MM} {z : (Unit × MM)} (h : ml_X6_laysWays_2 x1 m = some z) (hk : (fun z : (Unit × MM) => gz_kV mS X G 5 (0, 0) cX6_laysWays (mF z.2)) z) : gz_V mS X G 5 (0, 0) (mF m) 2 [(0, .ref (gz_ad G 2000)), (1, .int x1)] [] := by
  have hp : mP_X6_laysWays_2 X G (x1, m) := gz_loop_ind (fun q z hz hkz => wb_X6_laysWays_2 hX  hz hkz) h hk
  exact hp
noncomputable def mf_laysWays  (m : MM) : Option (Unit × MM) :=
  (ml_X6_laysWays_2 (0 : Int32) m)
theorem wm_laysWays {X : gz_X} {G : gz_G} (hX : gz_C mS X G cX6_laysWays 5 RX6 1 26)   {m : MM} {z : (Unit × MM)} (h : mf_laysWays  m = some z) (hk : (fun z : (Unit × MM) => gz_kV mS X G 5 (0, 0) cX6_laysWays (mF z.2)) z) : gz_V mS X G 5 (0, 0) (mF m) 0 [(0, .ref (gz_ad G 2000))] [] := by
  unfold mf_laysWays at h
  refine gz_iconst (pc := 0) (v := (0 : Int32)) hX dX6_laysWays_0 (by decide) ?_
  refine gz_istore_n (pc := 1) (lw := [(1, .int (0 : Int32)), (0, .ref (gz_ad G 2000))]) hX dX6_laysWays_1 rfl (by decide) rfl ?_
  refine gz_sub (lw := [(0, .ref (gz_ad G 2000)), (1, .int (0 : Int32))]) [1, 0] rfl ?_
  exact wl_X6_laysWays_2 hX h hk
theorem mt_laysWays {G : gz_G} {l : Launch}   {m m9 : MM} (h : mf_laysWays  m = some ((), m9)) : gz_Met mS G l yX6_laysWays cX6_laysWays 5 none (mRm 1 26) [.ref (gz_ad G 2000)] (mF m) (mF m9) none :=
  gz_ofV (plainFor_of_name mz_plain) (Nat.le_of_ble_eq_true rfl) fun X _ hX hk => wm_laysWays hX h hk
theorem mc_laysWays {X : gz_X} {G : gz_G} {cc : ByteArray} {nL fr lo pc : Nat} {lv : List (Nat × Value)} {rest st0 : List Value} (hX : gz_C mS X G cc nL RX6 fr lo)   {m m9 : MM} (h : mf_laysWays  m = some ((), m9)) (hroom : 1 + 1 ≤ fr ∧ 8 + (5 + 11) + 26 ≤ lo) (hst : st0 = [.ref (gz_ad G 2000)] ++ rest) (hW : (rest.map fun v => v.category).sum ≤ 8) (hd : decode cc pc = .ok (.invokevirtual 390, 3)) (kk : gz_V mS X G nL (0, 0) (mF m9) (pc + 3) lv (rest)) : gz_V mS X G nL (0, 0) (mF m) pc lv st0 :=
  gz_callV hX mz_E (As := []) (rest := rest) (q := (RX6, TX6, 104)) (ci := 0) (c := 2000) (mt_laysWays (l := X.2.1) h) (lw_V q2270 q2272 qs108 q182 q2273) (n := 0) (by decide +kernel) hroom rfl rfl (by decide) rfl hst hW hd (rem := (0, 0)) kk
/-! stands()V -/
def mP_X6_stands_2 (X : gz_X) (G : gz_G) (q : (Int32 × MM)) : Prop := gz_V mS X G 2 (0, 0) (mF q.2) 2 [(0, .ref (gz_ad G 2000)), (1, .int q.1)] []
def mP_X6_stands_31 (X : gz_X) (G : gz_G) (q : (Int32 × MM)) : Prop := gz_V mS X G 2 (0, 0) (mF q.2) 31 [(0, .ref (gz_ad G 2000)), (1, .int q.1)] []
def mP_X6_stands_72 (X : gz_X) (G : gz_G) (q : (Int32 × MM)) : Prop := gz_V mS X G 2 (0, 0) (mF q.2) 72 [(0, .ref (gz_ad G 2000)), (1, .int q.1)] []
def mP_X6_stands_116 (X : gz_X) (G : gz_G) (q : (Int32 × MM)) : Prop := gz_V mS X G 2 (0, 0) (mF q.2) 116 [(0, .ref (gz_ad G 2000)), (1, .int q.1)] []
def mP_X6_stands_145 (X : gz_X) (G : gz_G) (q : (Int32 × MM)) : Prop := gz_V mS X G 2 (0, 0) (mF q.2) 145 [(0, .ref (gz_ad G 2000)), (1, .int q.1)] []
def mP_X6_stands_177 (X : gz_X) (G : gz_G) (q : (Int32 × MM)) : Prop := gz_V mS X G 2 (0, 0) (mF q.2) 177 [(0, .ref (gz_ad G 2000)), (1, .int q.1)] []
def mP_X6_stands_211 (X : gz_X) (G : gz_G) (q : (Int32 × MM)) : Prop := gz_V mS X G 2 (0, 0) (mF q.2) 211 [(0, .ref (gz_ad G 2000)), (1, .int q.1)] []
def mP_X6_stands_238 (X : gz_X) (G : gz_G) (q : (Int32 × MM)) : Prop := gz_V mS X G 2 (0, 0) (mF q.2) 238 [(0, .ref (gz_ad G 2000)), (1, .int q.1)] []
noncomputable def mb_X6_stands_238 (x1 : Int32) (m : MM) : Option ((Int32 × MM) ⊕ (Unit × MM)) :=
  (if gz_in (1 : Int32) (12) then (if (m.1 1038 (gz_ix (1 : Int32))) ≤ x1 then ((mf_laysWays m).bind fun (_, m4) => gz_let (msI m4 2000 68 (0 : Int32)) fun m6 => gz_let (msI m6 2000 64 (0 : Int32)) fun m7 => some (Sum.inr ((), m7))) else (if gz_in x1 (8) then (if gz_in ((14 : Int32) + ((2 : Int32) * x1)) (151) then gz_let (msI m 1051 (gz_ix ((14 : Int32) + ((2 : Int32) * x1))) (m.1 1042 (gz_ix x1))) fun m10 => gz_let (x1 + (1 : Int32)) fun y11 => some (Sum.inl (y11, m10)) else none) else none)) else none)
theorem wb_X6_stands_238 {X : gz_X} {G : gz_G} (hX : gz_C mS X G cX6_stands 2 RX6 2 50) {x1 : Int32}  {m : MM} {z : ((Int32 × MM) ⊕ (Unit × MM))} (h : mb_X6_stands_238 x1 m = some z) (hk : (Sum.elim (mP_X6_stands_238 X G) (fun z : (Unit × MM) => gz_kV mS X G 2 (0, 0) cX6_stands (mF z.2))) z) : gz_V mS X G 2 (0, 0) (mF m) 238 [(0, .ref (gz_ad G 2000)), (1, .int x1)] [] := by
  unfold mb_X6_stands_238 at h
  refine gz_iload_n (pc := 238) hX dX6_stands_238 rfl 1 rfl ?_
  refine gz_aload_n (pc := 239) hX dX6_stands_239 rfl 0 rfl ?_
  refine mg_37 (pc := 240) hX dX6_stands_240 ?_
  refine gz_iconst (pc := 243) (v := (1 : Int32)) hX dX6_stands_243 (by decide) ?_
  obtain ⟨g1, h⟩ := gz_gu h
  refine mz_iald (pc := 244) (c := 1038) (n := 12) hX rfl rfl g1 dX6_stands_244 ?_
  refine gz_icmp_ge (pc := 245) (tgt := 271) hX dX6_stands_245 (by decide) (fun g2 => ?_) (fun g2 => ?_)
  · replace h := gz_it' g2 h
    refine gz_aload_n (pc := 271) hX dX6_stands_271 rfl 0 rfl ?_
    obtain ⟨⟨⟨⟩, m4⟩, c5, h⟩ := gz_bd h
    refine mc_laysWays (pc := 272) hX c5 ⟨Nat.le_of_ble_eq_true rfl, Nat.le_of_ble_eq_true rfl⟩ (rest := []) rfl (Nat.le_of_ble_eq_true rfl) dX6_stands_272 ?_
    refine gz_aload_n (pc := 275) hX dX6_stands_275 rfl 0 rfl ?_
    refine gz_iconst (pc := 276) (v := (0 : Int32)) hX dX6_stands_276 (by decide) ?_
    obtain ⟨m6, em6, h⟩ := gz_lt h
    refine mp_68 (pc := 277) hX dX6_stands_277 em6 ?_
    refine gz_aload_n (pc := 280) hX dX6_stands_280 rfl 0 rfl ?_
    refine gz_iconst (pc := 281) (v := (0 : Int32)) hX dX6_stands_281 (by decide) ?_
    obtain ⟨m7, em7, h⟩ := gz_lt h
    refine mp_64 (pc := 282) hX dX6_stands_282 em7 ?_
    obtain rfl := Option.some.inj h
    exact hk _ _ dX6_stands_285
  · replace h := gz_if' g2 h
    refine gz_aload_n (pc := 248) hX dX6_stands_248 rfl 0 rfl ?_
    refine mg_50 (pc := 249) hX dX6_stands_249 ?_
    refine gz_bipush (pc := 252) (v := (14 : Int32)) hX dX6_stands_252 (by decide) ?_
    refine gz_iconst (pc := 254) (v := (2 : Int32)) hX dX6_stands_254 (by decide) ?_
    refine gz_iload_n (pc := 255) hX dX6_stands_255 rfl 1 rfl ?_
    refine gz_imul (pc := 256) hX dX6_stands_256 ?_
    refine gz_iadd (pc := 257) hX dX6_stands_257 ?_
    refine gz_aload_n (pc := 258) hX dX6_stands_258 rfl 0 rfl ?_
    refine mg_41 (pc := 259) hX dX6_stands_259 ?_
    refine gz_iload_n (pc := 262) hX dX6_stands_262 rfl 1 rfl ?_
    obtain ⟨g8, h⟩ := gz_gu h
    refine mz_iald (pc := 263) (c := 1042) (n := 8) hX rfl rfl g8 dX6_stands_263 ?_
    obtain ⟨g9, h⟩ := gz_gu h
    obtain ⟨m10, em10, h⟩ := gz_lt h
    refine mz_iast (pc := 264) (c := 1051) (n := 151) hX rfl rfl g9 (Nat.le_of_ble_eq_true rfl) dX6_stands_264 em10 ?_
    obtain ⟨y11, ey11, h⟩ := gz_lt h
    refine gz_iinc (pc := 265) (v := y11) (lw := [(1, .int y11), (0, .ref (gz_ad G 2000))]) hX dX6_stands_265 (k := 1) rfl (by rw [ey11]; rfl) (by decide) rfl ?_
    refine gz_goto (pc := 268) (tgt := 238) hX dX6_stands_268 (by decide) ?_
    refine gz_sub (lw := [(0, .ref (gz_ad G 2000)), (1, .int y11)]) [1, 0] rfl ?_
    obtain rfl := Option.some.inj h
    exact hk
noncomputable def ml_X6_stands_238 (x1 : Int32) (m : MM) : Option (Unit × MM) := gz_loop (fun q : (Int32 × MM) => mb_X6_stands_238 q.1 q.2) (x1, m)
theorem wl_X6_stands_238 {X : gz_X} {G : gz_G} (hX : gz_C mS X G cX6_stands 2 RX6 2 50) {x1 : Int32}  {m : MM} {z : (Unit × MM)} (h : ml_X6_stands_238 x1 m = some z) (hk : (fun z : (Unit × MM) => gz_kV mS X G 2 (0, 0) cX6_stands (mF z.2)) z) : gz_V mS X G 2 (0, 0) (mF m) 238 [(0, .ref (gz_ad G 2000)), (1, .int x1)] [] := by
  have hp : mP_X6_stands_238 X G (x1, m) := gz_loop_ind (fun q z hz hkz => wb_X6_stands_238 hX  hz hkz) h hk
  exact hp
noncomputable def mb_X6_stands_211 (x1 : Int32) (m : MM) : Option ((Int32 × MM) ⊕ (Unit × MM)) :=
  (if gz_in (3 : Int32) (12) then (if (m.1 1038 (gz_ix (3 : Int32))) ≤ x1 then (Option.map Sum.inr (ml_X6_stands_238 (0 : Int32) m)) else (if gz_in ((2 : Int32) + x1) (151) then gz_let (msI m 1051 (gz_ix ((2 : Int32) + x1)) (1 : Int32)) fun m4 => gz_let (x1 + (1 : Int32)) fun y5 => some (Sum.inl (y5, m4)) else none)) else none)
theorem wb_X6_stands_211 {X : gz_X} {G : gz_G} (hX : gz_C mS X G cX6_stands 2 RX6 2 50) {x1 : Int32}  {m : MM} {z : ((Int32 × MM) ⊕ (Unit × MM))} (h : mb_X6_stands_211 x1 m = some z) (hk : (Sum.elim (mP_X6_stands_211 X G) (fun z : (Unit × MM) => gz_kV mS X G 2 (0, 0) cX6_stands (mF z.2))) z) : gz_V mS X G 2 (0, 0) (mF m) 211 [(0, .ref (gz_ad G 2000)), (1, .int x1)] [] := by
  unfold mb_X6_stands_211 at h
  refine gz_iload_n (pc := 211) hX dX6_stands_211 rfl 1 rfl ?_
  refine gz_aload_n (pc := 212) hX dX6_stands_212 rfl 0 rfl ?_
  refine mg_37 (pc := 213) hX dX6_stands_213 ?_
  refine gz_iconst (pc := 216) (v := (3 : Int32)) hX dX6_stands_216 (by decide) ?_
  obtain ⟨g1, h⟩ := gz_gu h
  refine mz_iald (pc := 217) (c := 1038) (n := 12) hX rfl rfl g1 dX6_stands_217 ?_
  refine gz_icmp_ge (pc := 218) (tgt := 236) hX dX6_stands_218 (by decide) (fun g2 => ?_) (fun g2 => ?_)
  · replace h := gz_it' g2 h
    refine gz_iconst (pc := 236) (v := (0 : Int32)) hX dX6_stands_236 (by decide) ?_
    refine gz_istore_n (pc := 237) (lw := [(1, .int (0 : Int32)), (0, .ref (gz_ad G 2000))]) hX dX6_stands_237 rfl (by decide) rfl ?_
    refine gz_sub (lw := [(0, .ref (gz_ad G 2000)), (1, .int (0 : Int32))]) [1, 0] rfl ?_
    obtain ⟨z0, hm0, rfl⟩ := gz_mp h
    exact wl_X6_stands_238 hX hm0 hk
  · replace h := gz_if' g2 h
    refine gz_aload_n (pc := 221) hX dX6_stands_221 rfl 0 rfl ?_
    refine mg_50 (pc := 222) hX dX6_stands_222 ?_
    refine gz_iconst (pc := 225) (v := (2 : Int32)) hX dX6_stands_225 (by decide) ?_
    refine gz_iload_n (pc := 226) hX dX6_stands_226 rfl 1 rfl ?_
    refine gz_iadd (pc := 227) hX dX6_stands_227 ?_
    refine gz_iconst (pc := 228) (v := (1 : Int32)) hX dX6_stands_228 (by decide) ?_
    obtain ⟨g3, h⟩ := gz_gu h
    obtain ⟨m4, em4, h⟩ := gz_lt h
    refine mz_iast (pc := 229) (c := 1051) (n := 151) hX rfl rfl g3 (Nat.le_of_ble_eq_true rfl) dX6_stands_229 em4 ?_
    obtain ⟨y5, ey5, h⟩ := gz_lt h
    refine gz_iinc (pc := 230) (v := y5) (lw := [(1, .int y5), (0, .ref (gz_ad G 2000))]) hX dX6_stands_230 (k := 1) rfl (by rw [ey5]; rfl) (by decide) rfl ?_
    refine gz_goto (pc := 233) (tgt := 211) hX dX6_stands_233 (by decide) ?_
    refine gz_sub (lw := [(0, .ref (gz_ad G 2000)), (1, .int y5)]) [1, 0] rfl ?_
    obtain rfl := Option.some.inj h
    exact hk
noncomputable def ml_X6_stands_211 (x1 : Int32) (m : MM) : Option (Unit × MM) := gz_loop (fun q : (Int32 × MM) => mb_X6_stands_211 q.1 q.2) (x1, m)
theorem wl_X6_stands_211 {X : gz_X} {G : gz_G} (hX : gz_C mS X G cX6_stands 2 RX6 2 50) {x1 : Int32}  {m : MM} {z : (Unit × MM)} (h : ml_X6_stands_211 x1 m = some z) (hk : (fun z : (Unit × MM) => gz_kV mS X G 2 (0, 0) cX6_stands (mF z.2)) z) : gz_V mS X G 2 (0, 0) (mF m) 211 [(0, .ref (gz_ad G 2000)), (1, .int x1)] [] := by
  have hp : mP_X6_stands_211 X G (x1, m) := gz_loop_ind (fun q z hz hkz => wb_X6_stands_211 hX  hz hkz) h hk
  exact hp
noncomputable def mb_X6_stands_177 (x1 : Int32) (m : MM) : Option ((Int32 × MM) ⊕ (Unit × MM)) :=
  (if (151 : Int32) ≤ x1 then (if gz_in (4 : Int32) (12) then (if gz_in (1 : Int32) (151) then gz_let (msI m 1051 (gz_ix (1 : Int32)) (m.1 1038 (gz_ix (4 : Int32)))) fun m4 => (Option.map Sum.inr (ml_X6_stands_211 (0 : Int32) m4)) else none) else none) else (if gz_in x1 (151) then gz_let (msI m 1051 (gz_ix x1) (0 : Int32)) fun m6 => gz_let (x1 + (1 : Int32)) fun y7 => some (Sum.inl (y7, m6)) else none))
theorem wb_X6_stands_177 {X : gz_X} {G : gz_G} (hX : gz_C mS X G cX6_stands 2 RX6 2 50) {x1 : Int32}  {m : MM} {z : ((Int32 × MM) ⊕ (Unit × MM))} (h : mb_X6_stands_177 x1 m = some z) (hk : (Sum.elim (mP_X6_stands_177 X G) (fun z : (Unit × MM) => gz_kV mS X G 2 (0, 0) cX6_stands (mF z.2))) z) : gz_V mS X G 2 (0, 0) (mF m) 177 [(0, .ref (gz_ad G 2000)), (1, .int x1)] [] := by
  unfold mb_X6_stands_177 at h
  refine gz_iload_n (pc := 177) hX dX6_stands_177 rfl 1 rfl ?_
  refine gz_sipush (pc := 178) (v := (151 : Int32)) hX dX6_stands_178 (by decide) ?_
  refine gz_icmp_ge (pc := 181) (tgt := 197) hX dX6_stands_181 (by decide) (fun g1 => ?_) (fun g1 => ?_)
  · replace h := gz_it' g1 h
    refine gz_aload_n (pc := 197) hX dX6_stands_197 rfl 0 rfl ?_
    refine mg_50 (pc := 198) hX dX6_stands_198 ?_
    refine gz_iconst (pc := 201) (v := (1 : Int32)) hX dX6_stands_201 (by decide) ?_
    refine gz_aload_n (pc := 202) hX dX6_stands_202 rfl 0 rfl ?_
    refine mg_37 (pc := 203) hX dX6_stands_203 ?_
    refine gz_iconst (pc := 206) (v := (4 : Int32)) hX dX6_stands_206 (by decide) ?_
    obtain ⟨g2, h⟩ := gz_gu h
    refine mz_iald (pc := 207) (c := 1038) (n := 12) hX rfl rfl g2 dX6_stands_207 ?_
    obtain ⟨g3, h⟩ := gz_gu h
    obtain ⟨m4, em4, h⟩ := gz_lt h
    refine mz_iast (pc := 208) (c := 1051) (n := 151) hX rfl rfl g3 (Nat.le_of_ble_eq_true rfl) dX6_stands_208 em4 ?_
    refine gz_iconst (pc := 209) (v := (0 : Int32)) hX dX6_stands_209 (by decide) ?_
    refine gz_istore_n (pc := 210) (lw := [(1, .int (0 : Int32)), (0, .ref (gz_ad G 2000))]) hX dX6_stands_210 rfl (by decide) rfl ?_
    refine gz_sub (lw := [(0, .ref (gz_ad G 2000)), (1, .int (0 : Int32))]) [1, 0] rfl ?_
    obtain ⟨z0, hm0, rfl⟩ := gz_mp h
    exact wl_X6_stands_211 hX hm0 hk
  · replace h := gz_if' g1 h
    refine gz_aload_n (pc := 184) hX dX6_stands_184 rfl 0 rfl ?_
    refine mg_50 (pc := 185) hX dX6_stands_185 ?_
    refine gz_iload_n (pc := 188) hX dX6_stands_188 rfl 1 rfl ?_
    refine gz_iconst (pc := 189) (v := (0 : Int32)) hX dX6_stands_189 (by decide) ?_
    obtain ⟨g5, h⟩ := gz_gu h
    obtain ⟨m6, em6, h⟩ := gz_lt h
    refine mz_iast (pc := 190) (c := 1051) (n := 151) hX rfl rfl g5 (Nat.le_of_ble_eq_true rfl) dX6_stands_190 em6 ?_
    obtain ⟨y7, ey7, h⟩ := gz_lt h
    refine gz_iinc (pc := 191) (v := y7) (lw := [(1, .int y7), (0, .ref (gz_ad G 2000))]) hX dX6_stands_191 (k := 1) rfl (by rw [ey7]; rfl) (by decide) rfl ?_
    refine gz_goto (pc := 194) (tgt := 177) hX dX6_stands_194 (by decide) ?_
    refine gz_sub (lw := [(0, .ref (gz_ad G 2000)), (1, .int y7)]) [1, 0] rfl ?_
    obtain rfl := Option.some.inj h
    exact hk
noncomputable def ml_X6_stands_177 (x1 : Int32) (m : MM) : Option (Unit × MM) := gz_loop (fun q : (Int32 × MM) => mb_X6_stands_177 q.1 q.2) (x1, m)
theorem wl_X6_stands_177 {X : gz_X} {G : gz_G} (hX : gz_C mS X G cX6_stands 2 RX6 2 50) {x1 : Int32}  {m : MM} {z : (Unit × MM)} (h : ml_X6_stands_177 x1 m = some z) (hk : (fun z : (Unit × MM) => gz_kV mS X G 2 (0, 0) cX6_stands (mF z.2)) z) : gz_V mS X G 2 (0, 0) (mF m) 177 [(0, .ref (gz_ad G 2000)), (1, .int x1)] [] := by
  have hp : mP_X6_stands_177 X G (x1, m) := gz_loop_ind (fun q z hz hkz => wb_X6_stands_177 hX  hz hkz) h hk
  exact hp
noncomputable def mb_X6_stands_145 (x1 : Int32) (m : MM) : Option ((Int32 × MM) ⊕ (Unit × MM)) :=
  (if (m.1 2000 46) ≤ x1 then (Option.map Sum.inr (ml_X6_stands_177 (0 : Int32) m)) else (if gz_in x1 (3200) then (if gz_in ((1600 : Int32) + x1) (3200) then gz_let (msI m 1046 (gz_ix ((1600 : Int32) + x1)) (m.1 1046 (gz_ix x1))) fun m4 => gz_let (x1 + (1 : Int32)) fun y5 => some (Sum.inl (y5, m4)) else none) else none))
theorem wb_X6_stands_145 {X : gz_X} {G : gz_G} (hX : gz_C mS X G cX6_stands 2 RX6 2 50) {x1 : Int32}  {m : MM} {z : ((Int32 × MM) ⊕ (Unit × MM))} (h : mb_X6_stands_145 x1 m = some z) (hk : (Sum.elim (mP_X6_stands_145 X G) (fun z : (Unit × MM) => gz_kV mS X G 2 (0, 0) cX6_stands (mF z.2))) z) : gz_V mS X G 2 (0, 0) (mF m) 145 [(0, .ref (gz_ad G 2000)), (1, .int x1)] [] := by
  unfold mb_X6_stands_145 at h
  refine gz_iload_n (pc := 145) hX dX6_stands_145 rfl 1 rfl ?_
  refine gz_aload_n (pc := 146) hX dX6_stands_146 rfl 0 rfl ?_
  refine mg_46 (pc := 147) hX dX6_stands_147 ?_
  refine gz_icmp_ge (pc := 150) (tgt := 175) hX dX6_stands_150 (by decide) (fun g1 => ?_) (fun g1 => ?_)
  · replace h := gz_it' g1 h
    refine gz_iconst (pc := 175) (v := (0 : Int32)) hX dX6_stands_175 (by decide) ?_
    refine gz_istore_n (pc := 176) (lw := [(1, .int (0 : Int32)), (0, .ref (gz_ad G 2000))]) hX dX6_stands_176 rfl (by decide) rfl ?_
    refine gz_sub (lw := [(0, .ref (gz_ad G 2000)), (1, .int (0 : Int32))]) [1, 0] rfl ?_
    obtain ⟨z0, hm0, rfl⟩ := gz_mp h
    exact wl_X6_stands_177 hX hm0 hk
  · replace h := gz_if' g1 h
    refine gz_aload_n (pc := 153) hX dX6_stands_153 rfl 0 rfl ?_
    refine mg_45 (pc := 154) hX dX6_stands_154 ?_
    refine gz_sipush (pc := 157) (v := (1600 : Int32)) hX dX6_stands_157 (by decide) ?_
    refine gz_iload_n (pc := 160) hX dX6_stands_160 rfl 1 rfl ?_
    refine gz_iadd (pc := 161) hX dX6_stands_161 ?_
    refine gz_aload_n (pc := 162) hX dX6_stands_162 rfl 0 rfl ?_
    refine mg_45 (pc := 163) hX dX6_stands_163 ?_
    refine gz_iload_n (pc := 166) hX dX6_stands_166 rfl 1 rfl ?_
    obtain ⟨g2, h⟩ := gz_gu h
    refine mz_iald (pc := 167) (c := 1046) (n := 3200) hX rfl rfl g2 dX6_stands_167 ?_
    obtain ⟨g3, h⟩ := gz_gu h
    obtain ⟨m4, em4, h⟩ := gz_lt h
    refine mz_iast (pc := 168) (c := 1046) (n := 3200) hX rfl rfl g3 (Nat.le_of_ble_eq_true rfl) dX6_stands_168 em4 ?_
    obtain ⟨y5, ey5, h⟩ := gz_lt h
    refine gz_iinc (pc := 169) (v := y5) (lw := [(1, .int y5), (0, .ref (gz_ad G 2000))]) hX dX6_stands_169 (k := 1) rfl (by rw [ey5]; rfl) (by decide) rfl ?_
    refine gz_goto (pc := 172) (tgt := 145) hX dX6_stands_172 (by decide) ?_
    refine gz_sub (lw := [(0, .ref (gz_ad G 2000)), (1, .int y5)]) [1, 0] rfl ?_
    obtain rfl := Option.some.inj h
    exact hk
noncomputable def ml_X6_stands_145 (x1 : Int32) (m : MM) : Option (Unit × MM) := gz_loop (fun q : (Int32 × MM) => mb_X6_stands_145 q.1 q.2) (x1, m)
theorem wl_X6_stands_145 {X : gz_X} {G : gz_G} (hX : gz_C mS X G cX6_stands 2 RX6 2 50) {x1 : Int32}  {m : MM} {z : (Unit × MM)} (h : ml_X6_stands_145 x1 m = some z) (hk : (fun z : (Unit × MM) => gz_kV mS X G 2 (0, 0) cX6_stands (mF z.2)) z) : gz_V mS X G 2 (0, 0) (mF m) 145 [(0, .ref (gz_ad G 2000)), (1, .int x1)] [] := by
  have hp : mP_X6_stands_145 X G (x1, m) := gz_loop_ind (fun q z hz hkz => wb_X6_stands_145 hX  hz hkz) h hk
  exact hp
noncomputable def mb_X6_stands_116 (x1 : Int32) (m : MM) : Option ((Int32 × MM) ⊕ (Unit × MM)) :=
  (if (24 : Int32) ≤ x1 then (Option.map Sum.inr (ml_X6_stands_145 (0 : Int32) m)) else (if gz_in x1 (48) then (if gz_in ((24 : Int32) + x1) (48) then gz_let (msI m 1043 (gz_ix ((24 : Int32) + x1)) (m.1 1043 (gz_ix x1))) fun m4 => gz_let (x1 + (1 : Int32)) fun y5 => some (Sum.inl (y5, m4)) else none) else none))
theorem wb_X6_stands_116 {X : gz_X} {G : gz_G} (hX : gz_C mS X G cX6_stands 2 RX6 2 50) {x1 : Int32}  {m : MM} {z : ((Int32 × MM) ⊕ (Unit × MM))} (h : mb_X6_stands_116 x1 m = some z) (hk : (Sum.elim (mP_X6_stands_116 X G) (fun z : (Unit × MM) => gz_kV mS X G 2 (0, 0) cX6_stands (mF z.2))) z) : gz_V mS X G 2 (0, 0) (mF m) 116 [(0, .ref (gz_ad G 2000)), (1, .int x1)] [] := by
  unfold mb_X6_stands_116 at h
  refine gz_iload_n (pc := 116) hX dX6_stands_116 rfl 1 rfl ?_
  refine gz_bipush (pc := 117) (v := (24 : Int32)) hX dX6_stands_117 (by decide) ?_
  refine gz_icmp_ge (pc := 119) (tgt := 143) hX dX6_stands_119 (by decide) (fun g1 => ?_) (fun g1 => ?_)
  · replace h := gz_it' g1 h
    refine gz_iconst (pc := 143) (v := (0 : Int32)) hX dX6_stands_143 (by decide) ?_
    refine gz_istore_n (pc := 144) (lw := [(1, .int (0 : Int32)), (0, .ref (gz_ad G 2000))]) hX dX6_stands_144 rfl (by decide) rfl ?_
    refine gz_sub (lw := [(0, .ref (gz_ad G 2000)), (1, .int (0 : Int32))]) [1, 0] rfl ?_
    obtain ⟨z0, hm0, rfl⟩ := gz_mp h
    exact wl_X6_stands_145 hX hm0 hk
  · replace h := gz_if' g1 h
    refine gz_aload_n (pc := 122) hX dX6_stands_122 rfl 0 rfl ?_
    refine mg_42 (pc := 123) hX dX6_stands_123 ?_
    refine gz_bipush (pc := 126) (v := (24 : Int32)) hX dX6_stands_126 (by decide) ?_
    refine gz_iload_n (pc := 128) hX dX6_stands_128 rfl 1 rfl ?_
    refine gz_iadd (pc := 129) hX dX6_stands_129 ?_
    refine gz_aload_n (pc := 130) hX dX6_stands_130 rfl 0 rfl ?_
    refine mg_42 (pc := 131) hX dX6_stands_131 ?_
    refine gz_iload_n (pc := 134) hX dX6_stands_134 rfl 1 rfl ?_
    obtain ⟨g2, h⟩ := gz_gu h
    refine mz_iald (pc := 135) (c := 1043) (n := 48) hX rfl rfl g2 dX6_stands_135 ?_
    obtain ⟨g3, h⟩ := gz_gu h
    obtain ⟨m4, em4, h⟩ := gz_lt h
    refine mz_iast (pc := 136) (c := 1043) (n := 48) hX rfl rfl g3 (Nat.le_of_ble_eq_true rfl) dX6_stands_136 em4 ?_
    obtain ⟨y5, ey5, h⟩ := gz_lt h
    refine gz_iinc (pc := 137) (v := y5) (lw := [(1, .int y5), (0, .ref (gz_ad G 2000))]) hX dX6_stands_137 (k := 1) rfl (by rw [ey5]; rfl) (by decide) rfl ?_
    refine gz_goto (pc := 140) (tgt := 116) hX dX6_stands_140 (by decide) ?_
    refine gz_sub (lw := [(0, .ref (gz_ad G 2000)), (1, .int y5)]) [1, 0] rfl ?_
    obtain rfl := Option.some.inj h
    exact hk
noncomputable def ml_X6_stands_116 (x1 : Int32) (m : MM) : Option (Unit × MM) := gz_loop (fun q : (Int32 × MM) => mb_X6_stands_116 q.1 q.2) (x1, m)
theorem wl_X6_stands_116 {X : gz_X} {G : gz_G} (hX : gz_C mS X G cX6_stands 2 RX6 2 50) {x1 : Int32}  {m : MM} {z : (Unit × MM)} (h : ml_X6_stands_116 x1 m = some z) (hk : (fun z : (Unit × MM) => gz_kV mS X G 2 (0, 0) cX6_stands (mF z.2)) z) : gz_V mS X G 2 (0, 0) (mF m) 116 [(0, .ref (gz_ad G 2000)), (1, .int x1)] [] := by
  have hp : mP_X6_stands_116 X G (x1, m) := gz_loop_ind (fun q z hz hkz => wb_X6_stands_116 hX  hz hkz) h hk
  exact hp
noncomputable def mb_X6_stands_72 (x1 : Int32) (m : MM) : Option ((Int32 × MM) ⊕ (Unit × MM)) :=
  (if (16 : Int32) ≤ x1 then (Option.map Sum.inr (ml_X6_stands_116 (0 : Int32) m)) else (if gz_in x1 (32) then (if gz_in ((16 : Int32) + x1) (32) then gz_let (msL m 1039 (gz_ix ((16 : Int32) + x1)) (m.2 1039 (gz_ix x1))) fun m4 => (if gz_in x1 (32) then (if gz_in ((16 : Int32) + x1) (32) then gz_let (msI m4 1041 (gz_ix ((16 : Int32) + x1)) (m4.1 1041 (gz_ix x1))) fun m7 => gz_let (x1 + (1 : Int32)) fun y8 => some (Sum.inl (y8, m7)) else none) else none) else none) else none))
theorem wb_X6_stands_72 {X : gz_X} {G : gz_G} (hX : gz_C mS X G cX6_stands 2 RX6 2 50) {x1 : Int32}  {m : MM} {z : ((Int32 × MM) ⊕ (Unit × MM))} (h : mb_X6_stands_72 x1 m = some z) (hk : (Sum.elim (mP_X6_stands_72 X G) (fun z : (Unit × MM) => gz_kV mS X G 2 (0, 0) cX6_stands (mF z.2))) z) : gz_V mS X G 2 (0, 0) (mF m) 72 [(0, .ref (gz_ad G 2000)), (1, .int x1)] [] := by
  unfold mb_X6_stands_72 at h
  refine gz_iload_n (pc := 72) hX dX6_stands_72 rfl 1 rfl ?_
  refine gz_bipush (pc := 73) (v := (16 : Int32)) hX dX6_stands_73 (by decide) ?_
  refine gz_icmp_ge (pc := 75) (tgt := 114) hX dX6_stands_75 (by decide) (fun g1 => ?_) (fun g1 => ?_)
  · replace h := gz_it' g1 h
    refine gz_iconst (pc := 114) (v := (0 : Int32)) hX dX6_stands_114 (by decide) ?_
    refine gz_istore_n (pc := 115) (lw := [(1, .int (0 : Int32)), (0, .ref (gz_ad G 2000))]) hX dX6_stands_115 rfl (by decide) rfl ?_
    refine gz_sub (lw := [(0, .ref (gz_ad G 2000)), (1, .int (0 : Int32))]) [1, 0] rfl ?_
    obtain ⟨z0, hm0, rfl⟩ := gz_mp h
    exact wl_X6_stands_116 hX hm0 hk
  · replace h := gz_if' g1 h
    refine gz_aload_n (pc := 78) hX dX6_stands_78 rfl 0 rfl ?_
    refine mg_38 (pc := 79) hX dX6_stands_79 ?_
    refine gz_bipush (pc := 82) (v := (16 : Int32)) hX dX6_stands_82 (by decide) ?_
    refine gz_iload_n (pc := 84) hX dX6_stands_84 rfl 1 rfl ?_
    refine gz_iadd (pc := 85) hX dX6_stands_85 ?_
    refine gz_aload_n (pc := 86) hX dX6_stands_86 rfl 0 rfl ?_
    refine mg_38 (pc := 87) hX dX6_stands_87 ?_
    refine gz_iload_n (pc := 90) hX dX6_stands_90 rfl 1 rfl ?_
    obtain ⟨g2, h⟩ := gz_gu h
    refine mz_lald (pc := 91) (c := 1039) (n := 32) hX rfl rfl g2 dX6_stands_91 ?_
    obtain ⟨g3, h⟩ := gz_gu h
    obtain ⟨m4, em4, h⟩ := gz_lt h
    refine mz_last (pc := 92) (c := 1039) (n := 32) hX rfl rfl g3 (Nat.le_of_ble_eq_true rfl) dX6_stands_92 em4 ?_
    refine gz_aload_n (pc := 93) hX dX6_stands_93 rfl 0 rfl ?_
    refine mg_40 (pc := 94) hX dX6_stands_94 ?_
    refine gz_bipush (pc := 97) (v := (16 : Int32)) hX dX6_stands_97 (by decide) ?_
    refine gz_iload_n (pc := 99) hX dX6_stands_99 rfl 1 rfl ?_
    refine gz_iadd (pc := 100) hX dX6_stands_100 ?_
    refine gz_aload_n (pc := 101) hX dX6_stands_101 rfl 0 rfl ?_
    refine mg_40 (pc := 102) hX dX6_stands_102 ?_
    refine gz_iload_n (pc := 105) hX dX6_stands_105 rfl 1 rfl ?_
    obtain ⟨g5, h⟩ := gz_gu h
    refine mz_iald (pc := 106) (c := 1041) (n := 32) hX rfl rfl g5 dX6_stands_106 ?_
    obtain ⟨g6, h⟩ := gz_gu h
    obtain ⟨m7, em7, h⟩ := gz_lt h
    refine mz_iast (pc := 107) (c := 1041) (n := 32) hX rfl rfl g6 (Nat.le_of_ble_eq_true rfl) dX6_stands_107 em7 ?_
    obtain ⟨y8, ey8, h⟩ := gz_lt h
    refine gz_iinc (pc := 108) (v := y8) (lw := [(1, .int y8), (0, .ref (gz_ad G 2000))]) hX dX6_stands_108 (k := 1) rfl (by rw [ey8]; rfl) (by decide) rfl ?_
    refine gz_goto (pc := 111) (tgt := 72) hX dX6_stands_111 (by decide) ?_
    refine gz_sub (lw := [(0, .ref (gz_ad G 2000)), (1, .int y8)]) [1, 0] rfl ?_
    obtain rfl := Option.some.inj h
    exact hk
noncomputable def ml_X6_stands_72 (x1 : Int32) (m : MM) : Option (Unit × MM) := gz_loop (fun q : (Int32 × MM) => mb_X6_stands_72 q.1 q.2) (x1, m)
theorem wl_X6_stands_72 {X : gz_X} {G : gz_G} (hX : gz_C mS X G cX6_stands 2 RX6 2 50) {x1 : Int32}  {m : MM} {z : (Unit × MM)} (h : ml_X6_stands_72 x1 m = some z) (hk : (fun z : (Unit × MM) => gz_kV mS X G 2 (0, 0) cX6_stands (mF z.2)) z) : gz_V mS X G 2 (0, 0) (mF m) 72 [(0, .ref (gz_ad G 2000)), (1, .int x1)] [] := by
  have hp : mP_X6_stands_72 X G (x1, m) := gz_loop_ind (fun q z hz hkz => wb_X6_stands_72 hX  hz hkz) h hk
  exact hp
noncomputable def mb_X6_stands_31 (x1 : Int32) (m : MM) : Option ((Int32 × MM) ⊕ (Unit × MM)) :=
  (if (2 : Int32) ≤ x1 then (Option.map Sum.inr (ml_X6_stands_72 (0 : Int32) m)) else (if gz_in x1 (4) then (if gz_in ((2 : Int32) + x1) (4) then gz_let (msI m 1044 (gz_ix ((2 : Int32) + x1)) (m.1 1044 (gz_ix x1))) fun m4 => (if gz_in x1 (4) then (if gz_in ((2 : Int32) + x1) (4) then gz_let (msI m4 1045 (gz_ix ((2 : Int32) + x1)) (m4.1 1045 (gz_ix x1))) fun m7 => gz_let (x1 + (1 : Int32)) fun y8 => some (Sum.inl (y8, m7)) else none) else none) else none) else none))
theorem wb_X6_stands_31 {X : gz_X} {G : gz_G} (hX : gz_C mS X G cX6_stands 2 RX6 2 50) {x1 : Int32}  {m : MM} {z : ((Int32 × MM) ⊕ (Unit × MM))} (h : mb_X6_stands_31 x1 m = some z) (hk : (Sum.elim (mP_X6_stands_31 X G) (fun z : (Unit × MM) => gz_kV mS X G 2 (0, 0) cX6_stands (mF z.2))) z) : gz_V mS X G 2 (0, 0) (mF m) 31 [(0, .ref (gz_ad G 2000)), (1, .int x1)] [] := by
  unfold mb_X6_stands_31 at h
  refine gz_iload_n (pc := 31) hX dX6_stands_31 rfl 1 rfl ?_
  refine gz_iconst (pc := 32) (v := (2 : Int32)) hX dX6_stands_32 (by decide) ?_
  refine gz_icmp_ge (pc := 33) (tgt := 70) hX dX6_stands_33 (by decide) (fun g1 => ?_) (fun g1 => ?_)
  · replace h := gz_it' g1 h
    refine gz_iconst (pc := 70) (v := (0 : Int32)) hX dX6_stands_70 (by decide) ?_
    refine gz_istore_n (pc := 71) (lw := [(1, .int (0 : Int32)), (0, .ref (gz_ad G 2000))]) hX dX6_stands_71 rfl (by decide) rfl ?_
    refine gz_sub (lw := [(0, .ref (gz_ad G 2000)), (1, .int (0 : Int32))]) [1, 0] rfl ?_
    obtain ⟨z0, hm0, rfl⟩ := gz_mp h
    exact wl_X6_stands_72 hX hm0 hk
  · replace h := gz_if' g1 h
    refine gz_aload_n (pc := 36) hX dX6_stands_36 rfl 0 rfl ?_
    refine mg_43 (pc := 37) hX dX6_stands_37 ?_
    refine gz_iconst (pc := 40) (v := (2 : Int32)) hX dX6_stands_40 (by decide) ?_
    refine gz_iload_n (pc := 41) hX dX6_stands_41 rfl 1 rfl ?_
    refine gz_iadd (pc := 42) hX dX6_stands_42 ?_
    refine gz_aload_n (pc := 43) hX dX6_stands_43 rfl 0 rfl ?_
    refine mg_43 (pc := 44) hX dX6_stands_44 ?_
    refine gz_iload_n (pc := 47) hX dX6_stands_47 rfl 1 rfl ?_
    obtain ⟨g2, h⟩ := gz_gu h
    refine mz_iald (pc := 48) (c := 1044) (n := 4) hX rfl rfl g2 dX6_stands_48 ?_
    obtain ⟨g3, h⟩ := gz_gu h
    obtain ⟨m4, em4, h⟩ := gz_lt h
    refine mz_iast (pc := 49) (c := 1044) (n := 4) hX rfl rfl g3 (Nat.le_of_ble_eq_true rfl) dX6_stands_49 em4 ?_
    refine gz_aload_n (pc := 50) hX dX6_stands_50 rfl 0 rfl ?_
    refine mg_44 (pc := 51) hX dX6_stands_51 ?_
    refine gz_iconst (pc := 54) (v := (2 : Int32)) hX dX6_stands_54 (by decide) ?_
    refine gz_iload_n (pc := 55) hX dX6_stands_55 rfl 1 rfl ?_
    refine gz_iadd (pc := 56) hX dX6_stands_56 ?_
    refine gz_aload_n (pc := 57) hX dX6_stands_57 rfl 0 rfl ?_
    refine mg_44 (pc := 58) hX dX6_stands_58 ?_
    refine gz_iload_n (pc := 61) hX dX6_stands_61 rfl 1 rfl ?_
    obtain ⟨g5, h⟩ := gz_gu h
    refine mz_iald (pc := 62) (c := 1045) (n := 4) hX rfl rfl g5 dX6_stands_62 ?_
    obtain ⟨g6, h⟩ := gz_gu h
    obtain ⟨m7, em7, h⟩ := gz_lt h
    refine mz_iast (pc := 63) (c := 1045) (n := 4) hX rfl rfl g6 (Nat.le_of_ble_eq_true rfl) dX6_stands_63 em7 ?_
    obtain ⟨y8, ey8, h⟩ := gz_lt h
    refine gz_iinc (pc := 64) (v := y8) (lw := [(1, .int y8), (0, .ref (gz_ad G 2000))]) hX dX6_stands_64 (k := 1) rfl (by rw [ey8]; rfl) (by decide) rfl ?_
    refine gz_goto (pc := 67) (tgt := 31) hX dX6_stands_67 (by decide) ?_
    refine gz_sub (lw := [(0, .ref (gz_ad G 2000)), (1, .int y8)]) [1, 0] rfl ?_
    obtain rfl := Option.some.inj h
    exact hk
noncomputable def ml_X6_stands_31 (x1 : Int32) (m : MM) : Option (Unit × MM) := gz_loop (fun q : (Int32 × MM) => mb_X6_stands_31 q.1 q.2) (x1, m)
theorem wl_X6_stands_31 {X : gz_X} {G : gz_G} (hX : gz_C mS X G cX6_stands 2 RX6 2 50) {x1 : Int32}  {m : MM} {z : (Unit × MM)} (h : ml_X6_stands_31 x1 m = some z) (hk : (fun z : (Unit × MM) => gz_kV mS X G 2 (0, 0) cX6_stands (mF z.2)) z) : gz_V mS X G 2 (0, 0) (mF m) 31 [(0, .ref (gz_ad G 2000)), (1, .int x1)] [] := by
  have hp : mP_X6_stands_31 X G (x1, m) := gz_loop_ind (fun q z hz hkz => wb_X6_stands_31 hX  hz hkz) h hk
  exact hp
noncomputable def mb_X6_stands_2 (x1 : Int32) (m : MM) : Option ((Int32 × MM) ⊕ (Unit × MM)) :=
  (if (6 : Int32) ≤ x1 then (Option.map Sum.inr (ml_X6_stands_31 (0 : Int32) m)) else (if gz_in x1 (12) then (if gz_in ((6 : Int32) + x1) (12) then gz_let (msI m 1038 (gz_ix ((6 : Int32) + x1)) (m.1 1038 (gz_ix x1))) fun m4 => gz_let (x1 + (1 : Int32)) fun y5 => some (Sum.inl (y5, m4)) else none) else none))
theorem wb_X6_stands_2 {X : gz_X} {G : gz_G} (hX : gz_C mS X G cX6_stands 2 RX6 2 50) {x1 : Int32}  {m : MM} {z : ((Int32 × MM) ⊕ (Unit × MM))} (h : mb_X6_stands_2 x1 m = some z) (hk : (Sum.elim (mP_X6_stands_2 X G) (fun z : (Unit × MM) => gz_kV mS X G 2 (0, 0) cX6_stands (mF z.2))) z) : gz_V mS X G 2 (0, 0) (mF m) 2 [(0, .ref (gz_ad G 2000)), (1, .int x1)] [] := by
  unfold mb_X6_stands_2 at h
  refine gz_iload_n (pc := 2) hX dX6_stands_2 rfl 1 rfl ?_
  refine gz_bipush (pc := 3) (v := (6 : Int32)) hX dX6_stands_3 (by decide) ?_
  refine gz_icmp_ge (pc := 5) (tgt := 29) hX dX6_stands_5 (by decide) (fun g1 => ?_) (fun g1 => ?_)
  · replace h := gz_it' g1 h
    refine gz_iconst (pc := 29) (v := (0 : Int32)) hX dX6_stands_29 (by decide) ?_
    refine gz_istore_n (pc := 30) (lw := [(1, .int (0 : Int32)), (0, .ref (gz_ad G 2000))]) hX dX6_stands_30 rfl (by decide) rfl ?_
    refine gz_sub (lw := [(0, .ref (gz_ad G 2000)), (1, .int (0 : Int32))]) [1, 0] rfl ?_
    obtain ⟨z0, hm0, rfl⟩ := gz_mp h
    exact wl_X6_stands_31 hX hm0 hk
  · replace h := gz_if' g1 h
    refine gz_aload_n (pc := 8) hX dX6_stands_8 rfl 0 rfl ?_
    refine mg_37 (pc := 9) hX dX6_stands_9 ?_
    refine gz_bipush (pc := 12) (v := (6 : Int32)) hX dX6_stands_12 (by decide) ?_
    refine gz_iload_n (pc := 14) hX dX6_stands_14 rfl 1 rfl ?_
    refine gz_iadd (pc := 15) hX dX6_stands_15 ?_
    refine gz_aload_n (pc := 16) hX dX6_stands_16 rfl 0 rfl ?_
    refine mg_37 (pc := 17) hX dX6_stands_17 ?_
    refine gz_iload_n (pc := 20) hX dX6_stands_20 rfl 1 rfl ?_
    obtain ⟨g2, h⟩ := gz_gu h
    refine mz_iald (pc := 21) (c := 1038) (n := 12) hX rfl rfl g2 dX6_stands_21 ?_
    obtain ⟨g3, h⟩ := gz_gu h
    obtain ⟨m4, em4, h⟩ := gz_lt h
    refine mz_iast (pc := 22) (c := 1038) (n := 12) hX rfl rfl g3 (Nat.le_of_ble_eq_true rfl) dX6_stands_22 em4 ?_
    obtain ⟨y5, ey5, h⟩ := gz_lt h
    refine gz_iinc (pc := 23) (v := y5) (lw := [(1, .int y5), (0, .ref (gz_ad G 2000))]) hX dX6_stands_23 (k := 1) rfl (by rw [ey5]; rfl) (by decide) rfl ?_
    refine gz_goto (pc := 26) (tgt := 2) hX dX6_stands_26 (by decide) ?_
    refine gz_sub (lw := [(0, .ref (gz_ad G 2000)), (1, .int y5)]) [1, 0] rfl ?_
    obtain rfl := Option.some.inj h
    exact hk
noncomputable def ml_X6_stands_2 (x1 : Int32) (m : MM) : Option (Unit × MM) := gz_loop (fun q : (Int32 × MM) => mb_X6_stands_2 q.1 q.2) (x1, m)
theorem wl_X6_stands_2 {X : gz_X} {G : gz_G} (hX : gz_C mS X G cX6_stands 2 RX6 2 50) {x1 : Int32}  {m : MM} {z : (Unit × MM)} (h : ml_X6_stands_2 x1 m = some z) (hk : (fun z : (Unit × MM) => gz_kV mS X G 2 (0, 0) cX6_stands (mF z.2)) z) : gz_V mS X G 2 (0, 0) (mF m) 2 [(0, .ref (gz_ad G 2000)), (1, .int x1)] [] := by
  have hp : mP_X6_stands_2 X G (x1, m) := gz_loop_ind (fun q z hz hkz => wb_X6_stands_2 hX  hz hkz) h hk
  exact hp
noncomputable def mf_stands  (m : MM) : Option (Unit × MM) :=
  (ml_X6_stands_2 (0 : Int32) m)
theorem wm_stands {X : gz_X} {G : gz_G} (hX : gz_C mS X G cX6_stands 2 RX6 2 50)   {m : MM} {z : (Unit × MM)} (h : mf_stands  m = some z) (hk : (fun z : (Unit × MM) => gz_kV mS X G 2 (0, 0) cX6_stands (mF z.2)) z) : gz_V mS X G 2 (0, 0) (mF m) 0 [(0, .ref (gz_ad G 2000))] [] := by
  unfold mf_stands at h
  refine gz_iconst (pc := 0) (v := (0 : Int32)) hX dX6_stands_0 (by decide) ?_
  refine gz_istore_n (pc := 1) (lw := [(1, .int (0 : Int32)), (0, .ref (gz_ad G 2000))]) hX dX6_stands_1 rfl (by decide) rfl ?_
  refine gz_sub (lw := [(0, .ref (gz_ad G 2000)), (1, .int (0 : Int32))]) [1, 0] rfl ?_
  exact wl_X6_stands_2 hX h hk
theorem mt_stands {G : gz_G} {l : Launch}   {m m9 : MM} (h : mf_stands  m = some ((), m9)) : gz_Met mS G l yX6_stands cX6_stands 2 none (mRm 2 50) [.ref (gz_ad G 2000)] (mF m) (mF m9) none :=
  gz_ofV (plainFor_of_name mz_plain) (Nat.le_of_ble_eq_true rfl) fun X _ hX hk => wm_stands hX h hk
theorem mc_stands {X : gz_X} {G : gz_G} {cc : ByteArray} {nL fr lo pc : Nat} {lv : List (Nat × Value)} {rest st0 : List Value} (hX : gz_C mS X G cc nL RX6 fr lo)   {m m9 : MM} (h : mf_stands  m = some ((), m9)) (hroom : 2 + 1 ≤ fr ∧ 8 + (2 + 11) + 50 ≤ lo) (hst : st0 = [.ref (gz_ad G 2000)] ++ rest) (hW : (rest.map fun v => v.category).sum ≤ 8) (hd : decode cc pc = .ok (.invokevirtual 387, 3)) (kk : gz_V mS X G nL (0, 0) (mF m9) (pc + 3) lv (rest)) : gz_V mS X G nL (0, 0) (mF m) pc lv st0 :=
  gz_callV hX mz_E (As := []) (rest := rest) (q := (RX6, TX6, 104)) (ci := 0) (c := 2000) (mt_stands (l := X.2.1) h) (lw_V q2266 q2268 qs107 q182 q2269) (n := 0) (by decide +kernel) hroom rfl rfl (by decide) rfl hst hW hd (rem := (0, 0)) kk
