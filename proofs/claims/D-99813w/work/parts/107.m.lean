set_option maxRecDepth 100000
/-! isOneMore(II)Z -/
def mP_X6_isOneMore_2 (X : gz_X) (G : gz_G) (q : (Int32 × Int32 × Int32 × MM)) : Prop := gz_V mS X G 7 (0, 0) (mF q.2.2.2) 2 [(0, .ref (gz_ad G 2000)), (1, .int q.1), (2, .int q.2.1), (3, .int q.2.2.1)] []
def mP_X6_isOneMore_43 (X : gz_X) (G : gz_G) (q : (Int32 × Int32 × Int32 × Int32 × MM)) : Prop := gz_V mS X G 7 (0, 0) (mF q.2.2.2.2) 43 [(0, .ref (gz_ad G 2000)), (1, .int q.1), (2, .int q.2.1), (3, .int q.2.2.1), (4, .int q.2.2.2.1)] []
def mP_X6_isOneMore_153 (X : gz_X) (G : gz_G) (q : (Int32 × Int32 × MM)) : Prop := gz_V mS X G 7 (0, 0) (mF q.2.2) 153 [(0, .ref (gz_ad G 2000)), (1, .int q.1), (4, .int q.2.1)] []
noncomputable def mj_X6_isOneMore_216 (x1 : Int32) (x4 : Int32) (s0 : Int32) (s1 : Int32) (m : MM) : Option ((Int32 × Int32 × MM) ⊕ (Int32 × MM)) :=
  (if gz_in s1 (12) then gz_let (msI m 1062 (gz_ix s1) (s0 &&& 1)) fun m2 => some (Sum.inl (x1, x4, m2)) else none)
theorem wb_X6_isOneMore_216 {X : gz_X} {G : gz_G} (hX : gz_C mS X G cX6_isOneMore 7 RX6 2 43) {x1 : Int32} {x4 : Int32} {s0 : Int32} {s1 : Int32}  {m : MM} {z : ((Int32 × Int32 × MM) ⊕ (Int32 × MM))} (h : mj_X6_isOneMore_216 x1 x4 s0 s1 m = some z) (hk : (Sum.elim (mP_X6_isOneMore_153 X G) (fun z : (Int32 × MM) => gz_kZ mS X G 7 (0, 0) cX6_isOneMore (mF z.2) z.1)) z) : gz_V mS X G 7 (0, 0) (mF m) 216 [(0, .ref (gz_ad G 2000)), (1, .int x1), (4, .int x4)] [.int s0, .int s1, .ref (gz_ad G 1062)] := by
  unfold mj_X6_isOneMore_216 at h
  obtain ⟨g1, h⟩ := gz_gu h
  obtain ⟨m2, em2, h⟩ := gz_lt h
  refine mz_zast (pc := 216) (c := 1062) (n := 12) hX rfl rfl g1 (Nat.le_of_ble_eq_true rfl) dX6_isOneMore_216 em2 ?_
  refine gz_goto (pc := 217) (tgt := 153) hX dX6_isOneMore_217 (by decide) ?_
  obtain rfl := Option.some.inj h
  exact hk
noncomputable def mj_X6_isOneMore_193 (x1 : Int32) (x5 : Int32) (s0 : Int32) (m : MM) : Option ((Int32 × Int32 × MM) ⊕ (Int32 × MM)) :=
  (if gz_in x5 (12) then (if (m.1 1062 (gz_ix x5)) = (0 : Int32) then (mj_X6_isOneMore_216 x1 s0 (1 : Int32) x5 m) else (mj_X6_isOneMore_216 x1 s0 (0 : Int32) x5 m)) else none)
theorem wb_X6_isOneMore_193 {X : gz_X} {G : gz_G} (hX : gz_C mS X G cX6_isOneMore 7 RX6 2 43) {x1 : Int32} {x5 : Int32} {s0 : Int32}  {m : MM} {z : ((Int32 × Int32 × MM) ⊕ (Int32 × MM))} (h : mj_X6_isOneMore_193 x1 x5 s0 m = some z) (hk : (Sum.elim (mP_X6_isOneMore_153 X G) (fun z : (Int32 × MM) => gz_kZ mS X G 7 (0, 0) cX6_isOneMore (mF z.2) z.1)) z) : gz_V mS X G 7 (0, 0) (mF m) 193 [(0, .ref (gz_ad G 2000)), (1, .int x1), (5, .int x5)] [.int s0] := by
  unfold mj_X6_isOneMore_193 at h
  refine gz_istore (pc := 193) (lw := [(4, .int s0), (0, .ref (gz_ad G 2000)), (1, .int x1), (5, .int x5)]) hX dX6_isOneMore_193 (by decide) rfl ?_
  refine gz_aload_n (pc := 195) hX dX6_isOneMore_195 rfl 1 rfl ?_
  refine mg_61 (pc := 196) hX dX6_isOneMore_196 ?_
  refine gz_iload (pc := 199) hX dX6_isOneMore_199 3 rfl ?_
  refine gz_aload_n (pc := 201) hX dX6_isOneMore_201 rfl 1 rfl ?_
  refine mg_61 (pc := 202) hX dX6_isOneMore_202 ?_
  refine gz_iload (pc := 205) hX dX6_isOneMore_205 3 rfl ?_
  obtain ⟨g1, h⟩ := gz_gu h
  refine mz_zald (pc := 207) (c := 1062) (n := 12) hX rfl rfl g1 dX6_isOneMore_207 ?_
  refine gz_if_ne (pc := 208) (tgt := 215) hX dX6_isOneMore_208 (by decide) (fun g2 => ?_) (fun g2 => ?_)
  · replace h := gz_if' g2 h
    refine gz_iconst (pc := 215) (v := (0 : Int32)) hX dX6_isOneMore_215 (by decide) ?_
    refine gz_sub (lw := [(0, .ref (gz_ad G 2000)), (1, .int x1), (4, .int s0)]) [1, 2, 0] rfl ?_
    exact wb_X6_isOneMore_216 hX h hk
  · replace h := gz_it' g2 h
    refine gz_iconst (pc := 211) (v := (1 : Int32)) hX dX6_isOneMore_211 (by decide) ?_
    refine gz_goto (pc := 212) (tgt := 216) hX dX6_isOneMore_212 (by decide) ?_
    refine gz_sub (lw := [(0, .ref (gz_ad G 2000)), (1, .int x1), (4, .int s0)]) [1, 2, 0] rfl ?_
    exact wb_X6_isOneMore_216 hX h hk
noncomputable def mb_X6_isOneMore_153 (x1 : Int32) (x4 : Int32) (m : MM) : Option ((Int32 × Int32 × MM) ⊕ (Int32 × MM)) :=
  (if x4 = x1 then some (Sum.inr ((1 : Int32), m)) else (if gz_in x4 (8) then gz_let ((m.1 1063 (gz_ix x4))) fun y3 => (if gz_in y3 (12) then (if (m.1 1062 (gz_ix y3)) = (0 : Int32) then ((mf_fromOf y3 m).bind fun (r6, m7) => (mj_X6_isOneMore_193 x1 y3 r6 m7)) else ((mf_toOf y3 m).bind fun (r9, m10) => (mj_X6_isOneMore_193 x1 y3 r9 m10))) else none) else none))
theorem wb_X6_isOneMore_153 {X : gz_X} {G : gz_G} (hX : gz_C mS X G cX6_isOneMore 7 RX6 2 43) {x1 : Int32} {x4 : Int32}  {m : MM} {z : ((Int32 × Int32 × MM) ⊕ (Int32 × MM))} (h : mb_X6_isOneMore_153 x1 x4 m = some z) (hk : (Sum.elim (mP_X6_isOneMore_153 X G) (fun z : (Int32 × MM) => gz_kZ mS X G 7 (0, 0) cX6_isOneMore (mF z.2) z.1)) z) : gz_V mS X G 7 (0, 0) (mF m) 153 [(0, .ref (gz_ad G 2000)), (1, .int x1), (4, .int x4)] [] := by
  unfold mb_X6_isOneMore_153 at h
  refine gz_iload (pc := 153) hX dX6_isOneMore_153 2 rfl ?_
  refine gz_iload_n (pc := 155) hX dX6_isOneMore_155 rfl 1 rfl ?_
  refine gz_icmp_eq (pc := 156) (tgt := 220) hX dX6_isOneMore_156 (by decide) (fun g1 => ?_) (fun g1 => ?_)
  · replace h := gz_it' g1 h
    refine gz_iconst (pc := 220) (v := (1 : Int32)) hX dX6_isOneMore_220 (by decide) ?_
    obtain rfl := Option.some.inj h
    exact hk _ _ dX6_isOneMore_221 (Or.inr rfl)
  · replace h := gz_if' g1 h
    refine gz_aload_n (pc := 159) hX dX6_isOneMore_159 rfl 0 rfl ?_
    refine mg_62 (pc := 160) hX dX6_isOneMore_160 ?_
    refine gz_iload (pc := 163) hX dX6_isOneMore_163 2 rfl ?_
    obtain ⟨g2, h⟩ := gz_gu h
    refine mz_iald (pc := 165) (c := 1063) (n := 8) hX rfl rfl g2 dX6_isOneMore_165 ?_
    obtain ⟨y3, ey3, h⟩ := gz_lt h
    refine gz_topi ey3 ?_
    refine gz_istore (pc := 166) (lw := [(5, .int y3), (0, .ref (gz_ad G 2000)), (1, .int x1), (4, .int x4)]) hX dX6_isOneMore_166 (by decide) rfl ?_
    refine gz_aload_n (pc := 168) hX dX6_isOneMore_168 rfl 1 rfl ?_
    refine mg_61 (pc := 169) hX dX6_isOneMore_169 ?_
    refine gz_iload (pc := 172) hX dX6_isOneMore_172 0 rfl ?_
    obtain ⟨g4, h⟩ := gz_gu h
    refine mz_zald (pc := 174) (c := 1062) (n := 12) hX rfl rfl g4 dX6_isOneMore_174 ?_
    refine gz_if_eq (pc := 175) (tgt := 187) hX dX6_isOneMore_175 (by decide) (fun g5 => ?_) (fun g5 => ?_)
    · replace h := gz_it' g5 h
      refine gz_aload_n (pc := 187) hX dX6_isOneMore_187 rfl 1 rfl ?_
      refine gz_iload (pc := 188) hX dX6_isOneMore_188 0 rfl ?_
      obtain ⟨⟨r6, m7⟩, c8, h⟩ := gz_bd h
      refine mc_fromOf (pc := 190) hX c8 ⟨Nat.le_of_ble_eq_true rfl, Nat.le_of_ble_eq_true rfl⟩ (rest := []) rfl (Nat.le_of_ble_eq_true rfl) dX6_isOneMore_190 ?_
      refine gz_sub (lw := [(0, .ref (gz_ad G 2000)), (1, .int x1), (5, .int y3)]) [1, 2, 0] rfl ?_
      exact wb_X6_isOneMore_193 hX h hk
    · replace h := gz_if' g5 h
      refine gz_aload_n (pc := 178) hX dX6_isOneMore_178 rfl 1 rfl ?_
      refine gz_iload (pc := 179) hX dX6_isOneMore_179 0 rfl ?_
      obtain ⟨⟨r9, m10⟩, c11, h⟩ := gz_bd h
      refine mc_toOf (pc := 181) hX c11 ⟨Nat.le_of_ble_eq_true rfl, Nat.le_of_ble_eq_true rfl⟩ (rest := []) rfl (Nat.le_of_ble_eq_true rfl) dX6_isOneMore_181 ?_
      refine gz_goto (pc := 184) (tgt := 193) hX dX6_isOneMore_184 (by decide) ?_
      refine gz_sub (lw := [(0, .ref (gz_ad G 2000)), (1, .int x1), (5, .int y3)]) [1, 2, 0] rfl ?_
      exact wb_X6_isOneMore_193 hX h hk
noncomputable def ml_X6_isOneMore_153 (x1 : Int32) (x4 : Int32) (m : MM) : Option (Int32 × MM) := gz_loop (fun q : (Int32 × Int32 × MM) => mb_X6_isOneMore_153 q.1 q.2.1 q.2.2) (x1, x4, m)
theorem wl_X6_isOneMore_153 {X : gz_X} {G : gz_G} (hX : gz_C mS X G cX6_isOneMore 7 RX6 2 43) {x1 : Int32} {x4 : Int32}  {m : MM} {z : (Int32 × MM)} (h : ml_X6_isOneMore_153 x1 x4 m = some z) (hk : (fun z : (Int32 × MM) => gz_kZ mS X G 7 (0, 0) cX6_isOneMore (mF z.2) z.1) z) : gz_V mS X G 7 (0, 0) (mF m) 153 [(0, .ref (gz_ad G 2000)), (1, .int x1), (4, .int x4)] [] := by
  have hp : mP_X6_isOneMore_153 X G (x1, x4, m) := gz_loop_ind (fun q z hz hkz => wb_X6_isOneMore_153 hX  hz hkz) h hk
  exact hp
noncomputable def mj_X6_isOneMore_138 (x1 : Int32) (x2 : Int32) (m : MM) : Option (Int32 × MM) :=
  (if gz_in x2 (8) then (if (m.1 1063 (gz_ix x2)) = (-1 : Int32) then some ((0 : Int32), m) else (ml_X6_isOneMore_153 x1 x2 m)) else none)
theorem wb_X6_isOneMore_138 {X : gz_X} {G : gz_G} (hX : gz_C mS X G cX6_isOneMore 7 RX6 2 43) {x1 : Int32} {x2 : Int32}  {m : MM} {z : (Int32 × MM)} (h : mj_X6_isOneMore_138 x1 x2 m = some z) (hk : (fun z : (Int32 × MM) => gz_kZ mS X G 7 (0, 0) cX6_isOneMore (mF z.2) z.1) z) : gz_V mS X G 7 (0, 0) (mF m) 138 [(0, .ref (gz_ad G 2000)), (1, .int x1), (2, .int x2)] [] := by
  unfold mj_X6_isOneMore_138 at h
  refine gz_aload_n (pc := 138) hX dX6_isOneMore_138 rfl 0 rfl ?_
  refine mg_62 (pc := 139) hX dX6_isOneMore_139 ?_
  refine gz_iload_n (pc := 142) hX dX6_isOneMore_142 rfl 2 rfl ?_
  obtain ⟨g1, h⟩ := gz_gu h
  refine mz_iald (pc := 143) (c := 1063) (n := 8) hX rfl rfl g1 dX6_isOneMore_143 ?_
  refine gz_iconst (pc := 144) (v := (-1 : Int32)) hX dX6_isOneMore_144 (by decide) ?_
  refine gz_icmp_ne (pc := 145) (tgt := 150) hX dX6_isOneMore_145 (by decide) (fun g2 => ?_) (fun g2 => ?_)
  · replace h := gz_if' g2 h
    refine gz_iload_n (pc := 150) hX dX6_isOneMore_150 rfl 2 rfl ?_
    refine gz_istore (pc := 151) (lw := [(4, .int x2), (0, .ref (gz_ad G 2000)), (1, .int x1), (2, .int x2)]) hX dX6_isOneMore_151 (by decide) rfl ?_
    refine gz_sub (lw := [(0, .ref (gz_ad G 2000)), (1, .int x1), (4, .int x2)]) [1, 2, 0] rfl ?_
    exact wl_X6_isOneMore_153 hX h hk
  · replace h := gz_it' g2 h
    refine gz_iconst (pc := 148) (v := (0 : Int32)) hX dX6_isOneMore_148 (by decide) ?_
    obtain rfl := Option.some.inj h
    exact hk _ _ dX6_isOneMore_149 (Or.inl rfl)
def mP_X6_isOneMore_62 (X : gz_X) (G : gz_G) (q : (Int32 × Int32 × Int32 × Int32 × Int32 × MM)) : Prop := gz_V mS X G 7 (0, 0) (mF q.2.2.2.2.2) 62 [(0, .ref (gz_ad G 2000)), (1, .int q.1), (2, .int q.2.1), (3, .int q.2.2.1), (4, .int q.2.2.2.1), (5, .int q.2.2.2.2.1)] []
noncomputable def mj_X6_isOneMore_126 (x1 : Int32) (x2 : Int32) (x3 : Int32) (x4 : Int32) (x5 : Int32) (m : MM) : Option ((Int32 × Int32 × Int32 × Int32 × Int32 × MM) ⊕ ((Int32 × Int32 × Int32 × Int32 × MM) ⊕ (Int32 × MM))) :=
  gz_let (x5 + (1 : Int32)) fun y1 => some (Sum.inl (x1, x2, x3, x4, y1, m))
theorem wb_X6_isOneMore_126 {X : gz_X} {G : gz_G} (hX : gz_C mS X G cX6_isOneMore 7 RX6 2 43) {x1 : Int32} {x2 : Int32} {x3 : Int32} {x4 : Int32} {x5 : Int32}  {m : MM} {z : ((Int32 × Int32 × Int32 × Int32 × Int32 × MM) ⊕ ((Int32 × Int32 × Int32 × Int32 × MM) ⊕ (Int32 × MM)))} (h : mj_X6_isOneMore_126 x1 x2 x3 x4 x5 m = some z) (hk : (Sum.elim (mP_X6_isOneMore_62 X G) (Sum.elim (mP_X6_isOneMore_43 X G) (fun z : (Int32 × MM) => gz_kZ mS X G 7 (0, 0) cX6_isOneMore (mF z.2) z.1))) z) : gz_V mS X G 7 (0, 0) (mF m) 126 [(0, .ref (gz_ad G 2000)), (1, .int x1), (2, .int x2), (3, .int x3), (4, .int x4), (5, .int x5)] [] := by
  unfold mj_X6_isOneMore_126 at h
  obtain ⟨y1, ey1, h⟩ := gz_lt h
  refine gz_iinc (pc := 126) (v := y1) (lw := [(5, .int y1), (0, .ref (gz_ad G 2000)), (1, .int x1), (2, .int x2), (3, .int x3), (4, .int x4)]) hX dX6_isOneMore_126 (k := 5) rfl (by rw [ey1]; rfl) (by decide) rfl ?_
  refine gz_goto (pc := 129) (tgt := 62) hX dX6_isOneMore_129 (by decide) ?_
  refine gz_sub (lw := [(0, .ref (gz_ad G 2000)), (1, .int x1), (2, .int x2), (3, .int x3), (4, .int x4), (5, .int y1)]) [1, 2, 3, 4, 5, 0] rfl ?_
  obtain rfl := Option.some.inj h
  exact hk
noncomputable def mb_X6_isOneMore_62 (x1 : Int32) (x2 : Int32) (x3 : Int32) (x4 : Int32) (x5 : Int32) (m : MM) : Option ((Int32 × Int32 × Int32 × Int32 × Int32 × MM) ⊕ ((Int32 × Int32 × Int32 × Int32 × MM) ⊕ (Int32 × MM))) :=
  ((mf_tieMany m).bind fun (r1, m2) => (if r1 ≤ x5 then gz_let (x4 + (1 : Int32)) fun y5 => some (Sum.inr (Sum.inl (x1, x2, x3, y5, m2))) else (if gz_in x4 (8) then ((mf_goesBy x5 (m2.1 1064 (gz_ix x4)) m2).bind fun (r7, m8) => (if r7 = (-1 : Int32) then (mj_X6_isOneMore_126 x1 x2 x3 x4 x5 m8) else (if gz_in r7 (8) then (if (m8.1 1063 (gz_ix r7)) = (-1 : Int32) then (if gz_in r7 (8) then gz_let (msI m8 1063 (gz_ix r7) x5) fun m14 => (if gz_in x3 (8) then gz_let (msI m14 1064 (gz_ix x3) r7) fun m16 => gz_let (x3 + (1 : Int32)) fun y17 => (mj_X6_isOneMore_126 x1 x2 y17 x4 x5 m16) else none) else none) else (mj_X6_isOneMore_126 x1 x2 x3 x4 x5 m8)) else none))) else none)))
theorem wb_X6_isOneMore_62 {X : gz_X} {G : gz_G} (hX : gz_C mS X G cX6_isOneMore 7 RX6 2 43) {x1 : Int32} {x2 : Int32} {x3 : Int32} {x4 : Int32} {x5 : Int32}  {m : MM} {z : ((Int32 × Int32 × Int32 × Int32 × Int32 × MM) ⊕ ((Int32 × Int32 × Int32 × Int32 × MM) ⊕ (Int32 × MM)))} (h : mb_X6_isOneMore_62 x1 x2 x3 x4 x5 m = some z) (hk : (Sum.elim (mP_X6_isOneMore_62 X G) (Sum.elim (mP_X6_isOneMore_43 X G) (fun z : (Int32 × MM) => gz_kZ mS X G 7 (0, 0) cX6_isOneMore (mF z.2) z.1))) z) : gz_V mS X G 7 (0, 0) (mF m) 62 [(0, .ref (gz_ad G 2000)), (1, .int x1), (2, .int x2), (3, .int x3), (4, .int x4), (5, .int x5)] [] := by
  unfold mb_X6_isOneMore_62 at h
  refine gz_iload (pc := 62) hX dX6_isOneMore_62 5 rfl ?_
  refine gz_aload_n (pc := 64) hX dX6_isOneMore_64 rfl 0 rfl ?_
  obtain ⟨⟨r1, m2⟩, c3, h⟩ := gz_bd h
  refine mc_tieMany (pc := 65) hX c3 ⟨Nat.le_of_ble_eq_true rfl, Nat.le_of_ble_eq_true rfl⟩ (rest := [.int x5]) rfl (Nat.le_of_ble_eq_true rfl) dX6_isOneMore_65 ?_
  refine gz_icmp_ge (pc := 68) (tgt := 132) hX dX6_isOneMore_68 (by decide) (fun g4 => ?_) (fun g4 => ?_)
  · replace h := gz_it' g4 h
    obtain ⟨y5, ey5, h⟩ := gz_lt h
    refine gz_iinc (pc := 132) (v := y5) (lw := [(4, .int y5), (0, .ref (gz_ad G 2000)), (1, .int x1), (2, .int x2), (3, .int x3), (5, .int x5)]) hX dX6_isOneMore_132 (k := 4) rfl (by rw [ey5]; rfl) (by decide) rfl ?_
    refine gz_goto (pc := 135) (tgt := 43) hX dX6_isOneMore_135 (by decide) ?_
    refine gz_sub (lw := [(0, .ref (gz_ad G 2000)), (1, .int x1), (2, .int x2), (3, .int x3), (4, .int y5)]) [1, 2, 3, 4, 0] rfl ?_
    obtain rfl := Option.some.inj h
    exact hk
  · replace h := gz_if' g4 h
    refine gz_aload_n (pc := 71) hX dX6_isOneMore_71 rfl 0 rfl ?_
    refine gz_iload (pc := 72) hX dX6_isOneMore_72 5 rfl ?_
    refine gz_aload_n (pc := 74) hX dX6_isOneMore_74 rfl 0 rfl ?_
    refine mg_63 (pc := 75) hX dX6_isOneMore_75 ?_
    refine gz_iload (pc := 78) hX dX6_isOneMore_78 4 rfl ?_
    obtain ⟨g6, h⟩ := gz_gu h
    refine mz_iald (pc := 80) (c := 1064) (n := 8) hX rfl rfl g6 dX6_isOneMore_80 ?_
    obtain ⟨⟨r7, m8⟩, c9, h⟩ := gz_bd h
    refine mc_goesBy (pc := 81) hX c9 ⟨Nat.le_of_ble_eq_true rfl, Nat.le_of_ble_eq_true rfl⟩ (rest := []) rfl (Nat.le_of_ble_eq_true rfl) dX6_isOneMore_81 ?_
    refine gz_istore (pc := 84) (lw := [(6, .int r7), (0, .ref (gz_ad G 2000)), (1, .int x1), (2, .int x2), (3, .int x3), (4, .int x4), (5, .int x5)]) hX dX6_isOneMore_84 (by decide) rfl ?_
    refine gz_iload (pc := 86) hX dX6_isOneMore_86 0 rfl ?_
    refine gz_iconst (pc := 88) (v := (-1 : Int32)) hX dX6_isOneMore_88 (by decide) ?_
    refine gz_icmp_eq (pc := 89) (tgt := 126) hX dX6_isOneMore_89 (by decide) (fun g10 => ?_) (fun g10 => ?_)
    · replace h := gz_it' g10 h
      refine gz_sub (lw := [(0, .ref (gz_ad G 2000)), (1, .int x1), (2, .int x2), (3, .int x3), (4, .int x4), (5, .int x5)]) [1, 2, 3, 4, 5, 6] rfl ?_
      exact wb_X6_isOneMore_126 hX h hk
    · replace h := gz_if' g10 h
      refine gz_aload_n (pc := 92) hX dX6_isOneMore_92 rfl 1 rfl ?_
      refine mg_62 (pc := 93) hX dX6_isOneMore_93 ?_
      refine gz_iload (pc := 96) hX dX6_isOneMore_96 0 rfl ?_
      obtain ⟨g11, h⟩ := gz_gu h
      refine mz_iald (pc := 98) (c := 1063) (n := 8) hX rfl rfl g11 dX6_isOneMore_98 ?_
      refine gz_iconst (pc := 99) (v := (-1 : Int32)) hX dX6_isOneMore_99 (by decide) ?_
      refine gz_icmp_eq (pc := 100) (tgt := 106) hX dX6_isOneMore_100 (by decide) (fun g12 => ?_) (fun g12 => ?_)
      · replace h := gz_it' g12 h
        refine gz_aload_n (pc := 106) hX dX6_isOneMore_106 rfl 1 rfl ?_
        refine mg_62 (pc := 107) hX dX6_isOneMore_107 ?_
        refine gz_iload (pc := 110) hX dX6_isOneMore_110 0 rfl ?_
        refine gz_iload (pc := 112) hX dX6_isOneMore_112 6 rfl ?_
        obtain ⟨g13, h⟩ := gz_gu h
        obtain ⟨m14, em14, h⟩ := gz_lt h
        refine mz_iast (pc := 114) (c := 1063) (n := 8) hX rfl rfl g13 (Nat.le_of_ble_eq_true rfl) dX6_isOneMore_114 em14 ?_
        refine gz_aload_n (pc := 115) hX dX6_isOneMore_115 rfl 1 rfl ?_
        refine mg_63 (pc := 116) hX dX6_isOneMore_116 ?_
        refine gz_iload_n (pc := 119) hX dX6_isOneMore_119 rfl 4 rfl ?_
        refine gz_iload (pc := 120) hX dX6_isOneMore_120 0 rfl ?_
        obtain ⟨g15, h⟩ := gz_gu h
        obtain ⟨m16, em16, h⟩ := gz_lt h
        refine mz_iast (pc := 122) (c := 1064) (n := 8) hX rfl rfl g15 (Nat.le_of_ble_eq_true rfl) dX6_isOneMore_122 em16 ?_
        obtain ⟨y17, ey17, h⟩ := gz_lt h
        refine gz_iinc (pc := 123) (v := y17) (lw := [(3, .int y17), (6, .int r7), (0, .ref (gz_ad G 2000)), (1, .int x1), (2, .int x2), (4, .int x4), (5, .int x5)]) hX dX6_isOneMore_123 (k := 4) rfl (by rw [ey17]; rfl) (by decide) rfl ?_
        refine gz_sub (lw := [(0, .ref (gz_ad G 2000)), (1, .int x1), (2, .int x2), (3, .int y17), (4, .int x4), (5, .int x5)]) [2, 3, 4, 0, 5, 6] rfl ?_
        exact wb_X6_isOneMore_126 hX h hk
      · replace h := gz_if' g12 h
        refine gz_goto (pc := 103) (tgt := 126) hX dX6_isOneMore_103 (by decide) ?_
        refine gz_sub (lw := [(0, .ref (gz_ad G 2000)), (1, .int x1), (2, .int x2), (3, .int x3), (4, .int x4), (5, .int x5)]) [1, 2, 3, 4, 5, 6] rfl ?_
        exact wb_X6_isOneMore_126 hX h hk
noncomputable def ml_X6_isOneMore_62 (x1 : Int32) (x2 : Int32) (x3 : Int32) (x4 : Int32) (x5 : Int32) (m : MM) : Option ((Int32 × Int32 × Int32 × Int32 × MM) ⊕ (Int32 × MM)) := gz_loop (fun q : (Int32 × Int32 × Int32 × Int32 × Int32 × MM) => mb_X6_isOneMore_62 q.1 q.2.1 q.2.2.1 q.2.2.2.1 q.2.2.2.2.1 q.2.2.2.2.2) (x1, x2, x3, x4, x5, m)
theorem wl_X6_isOneMore_62 {X : gz_X} {G : gz_G} (hX : gz_C mS X G cX6_isOneMore 7 RX6 2 43) {x1 : Int32} {x2 : Int32} {x3 : Int32} {x4 : Int32} {x5 : Int32}  {m : MM} {z : ((Int32 × Int32 × Int32 × Int32 × MM) ⊕ (Int32 × MM))} (h : ml_X6_isOneMore_62 x1 x2 x3 x4 x5 m = some z) (hk : (Sum.elim (mP_X6_isOneMore_43 X G) (fun z : (Int32 × MM) => gz_kZ mS X G 7 (0, 0) cX6_isOneMore (mF z.2) z.1)) z) : gz_V mS X G 7 (0, 0) (mF m) 62 [(0, .ref (gz_ad G 2000)), (1, .int x1), (2, .int x2), (3, .int x3), (4, .int x4), (5, .int x5)] [] := by
  have hp : mP_X6_isOneMore_62 X G (x1, x2, x3, x4, x5, m) := gz_loop_ind (fun q z hz hkz => wb_X6_isOneMore_62 hX  hz hkz) h hk
  exact hp
noncomputable def mb_X6_isOneMore_43 (x1 : Int32) (x2 : Int32) (x3 : Int32) (x4 : Int32) (m : MM) : Option ((Int32 × Int32 × Int32 × Int32 × MM) ⊕ (Int32 × MM)) :=
  (if x3 ≤ x4 then (Option.map Sum.inr (mj_X6_isOneMore_138 x1 x2 m)) else (if gz_in x2 (8) then (if (m.1 1063 (gz_ix x2)) = (-1 : Int32) then (ml_X6_isOneMore_62 x1 x2 x3 x4 (0 : Int32) m) else (Option.map Sum.inr (mj_X6_isOneMore_138 x1 x2 m))) else none))
theorem wb_X6_isOneMore_43 {X : gz_X} {G : gz_G} (hX : gz_C mS X G cX6_isOneMore 7 RX6 2 43) {x1 : Int32} {x2 : Int32} {x3 : Int32} {x4 : Int32}  {m : MM} {z : ((Int32 × Int32 × Int32 × Int32 × MM) ⊕ (Int32 × MM))} (h : mb_X6_isOneMore_43 x1 x2 x3 x4 m = some z) (hk : (Sum.elim (mP_X6_isOneMore_43 X G) (fun z : (Int32 × MM) => gz_kZ mS X G 7 (0, 0) cX6_isOneMore (mF z.2) z.1)) z) : gz_V mS X G 7 (0, 0) (mF m) 43 [(0, .ref (gz_ad G 2000)), (1, .int x1), (2, .int x2), (3, .int x3), (4, .int x4)] [] := by
  unfold mb_X6_isOneMore_43 at h
  refine gz_iload (pc := 43) hX dX6_isOneMore_43 4 rfl ?_
  refine gz_iload_n (pc := 45) hX dX6_isOneMore_45 rfl 3 rfl ?_
  refine gz_icmp_ge (pc := 46) (tgt := 138) hX dX6_isOneMore_46 (by decide) (fun g1 => ?_) (fun g1 => ?_)
  · replace h := gz_it' g1 h
    refine gz_sub (lw := [(0, .ref (gz_ad G 2000)), (1, .int x1), (2, .int x2)]) [0, 1, 2] rfl ?_
    obtain ⟨z0, hm0, rfl⟩ := gz_mp h
    exact wb_X6_isOneMore_138 hX hm0 hk
  · replace h := gz_if' g1 h
    refine gz_aload_n (pc := 49) hX dX6_isOneMore_49 rfl 0 rfl ?_
    refine mg_62 (pc := 50) hX dX6_isOneMore_50 ?_
    refine gz_iload_n (pc := 53) hX dX6_isOneMore_53 rfl 2 rfl ?_
    obtain ⟨g2, h⟩ := gz_gu h
    refine mz_iald (pc := 54) (c := 1063) (n := 8) hX rfl rfl g2 dX6_isOneMore_54 ?_
    refine gz_iconst (pc := 55) (v := (-1 : Int32)) hX dX6_isOneMore_55 (by decide) ?_
    refine gz_icmp_ne (pc := 56) (tgt := 138) hX dX6_isOneMore_56 (by decide) (fun g3 => ?_) (fun g3 => ?_)
    · replace h := gz_if' g3 h
      refine gz_sub (lw := [(0, .ref (gz_ad G 2000)), (1, .int x1), (2, .int x2)]) [0, 1, 2] rfl ?_
      obtain ⟨z0, hm0, rfl⟩ := gz_mp h
      exact wb_X6_isOneMore_138 hX hm0 hk
    · replace h := gz_it' g3 h
      refine gz_iconst (pc := 59) (v := (0 : Int32)) hX dX6_isOneMore_59 (by decide) ?_
      refine gz_istore (pc := 60) (lw := [(5, .int (0 : Int32)), (0, .ref (gz_ad G 2000)), (1, .int x1), (2, .int x2), (3, .int x3), (4, .int x4)]) hX dX6_isOneMore_60 (by decide) rfl ?_
      refine gz_sub (lw := [(0, .ref (gz_ad G 2000)), (1, .int x1), (2, .int x2), (3, .int x3), (4, .int x4), (5, .int (0 : Int32))]) [1, 2, 3, 4, 5, 0] rfl ?_
      exact wl_X6_isOneMore_62 hX h hk
noncomputable def ml_X6_isOneMore_43 (x1 : Int32) (x2 : Int32) (x3 : Int32) (x4 : Int32) (m : MM) : Option (Int32 × MM) := gz_loop (fun q : (Int32 × Int32 × Int32 × Int32 × MM) => mb_X6_isOneMore_43 q.1 q.2.1 q.2.2.1 q.2.2.2.1 q.2.2.2.2) (x1, x2, x3, x4, m)
theorem wl_X6_isOneMore_43 {X : gz_X} {G : gz_G} (hX : gz_C mS X G cX6_isOneMore 7 RX6 2 43) {x1 : Int32} {x2 : Int32} {x3 : Int32} {x4 : Int32}  {m : MM} {z : (Int32 × MM)} (h : ml_X6_isOneMore_43 x1 x2 x3 x4 m = some z) (hk : (fun z : (Int32 × MM) => gz_kZ mS X G 7 (0, 0) cX6_isOneMore (mF z.2) z.1) z) : gz_V mS X G 7 (0, 0) (mF m) 43 [(0, .ref (gz_ad G 2000)), (1, .int x1), (2, .int x2), (3, .int x3), (4, .int x4)] [] := by
  have hp : mP_X6_isOneMore_43 X G (x1, x2, x3, x4, m) := gz_loop_ind (fun q z hz hkz => wb_X6_isOneMore_43 hX  hz hkz) h hk
  exact hp
noncomputable def mj_X6_isOneMore_24 (x1 : Int32) (x2 : Int32) (x3 : Int32) (s0 : Int32) (s1 : Int32) (m : MM) : Option ((Int32 × Int32 × Int32 × MM) ⊕ (Int32 × MM)) :=
  (if gz_in s1 (8) then gz_let (msI m 1063 (gz_ix s1) s0) fun m2 => gz_let (x3 + (1 : Int32)) fun y3 => some (Sum.inl (x1, x2, y3, m2)) else none)
theorem wb_X6_isOneMore_24 {X : gz_X} {G : gz_G} (hX : gz_C mS X G cX6_isOneMore 7 RX6 2 43) {x1 : Int32} {x2 : Int32} {x3 : Int32} {s0 : Int32} {s1 : Int32}  {m : MM} {z : ((Int32 × Int32 × Int32 × MM) ⊕ (Int32 × MM))} (h : mj_X6_isOneMore_24 x1 x2 x3 s0 s1 m = some z) (hk : (Sum.elim (mP_X6_isOneMore_2 X G) (fun z : (Int32 × MM) => gz_kZ mS X G 7 (0, 0) cX6_isOneMore (mF z.2) z.1)) z) : gz_V mS X G 7 (0, 0) (mF m) 24 [(0, .ref (gz_ad G 2000)), (1, .int x1), (2, .int x2), (3, .int x3)] [.int s0, .int s1, .ref (gz_ad G 1063)] := by
  unfold mj_X6_isOneMore_24 at h
  obtain ⟨g1, h⟩ := gz_gu h
  obtain ⟨m2, em2, h⟩ := gz_lt h
  refine mz_iast (pc := 24) (c := 1063) (n := 8) hX rfl rfl g1 (Nat.le_of_ble_eq_true rfl) dX6_isOneMore_24 em2 ?_
  obtain ⟨y3, ey3, h⟩ := gz_lt h
  refine gz_iinc (pc := 25) (v := y3) (lw := [(3, .int y3), (0, .ref (gz_ad G 2000)), (1, .int x1), (2, .int x2)]) hX dX6_isOneMore_25 (k := 3) rfl (by rw [ey3]; rfl) (by decide) rfl ?_
  refine gz_goto (pc := 28) (tgt := 2) hX dX6_isOneMore_28 (by decide) ?_
  refine gz_sub (lw := [(0, .ref (gz_ad G 2000)), (1, .int x1), (2, .int x2), (3, .int y3)]) [1, 2, 3, 0] rfl ?_
  obtain rfl := Option.some.inj h
  exact hk
noncomputable def mb_X6_isOneMore_2 (x1 : Int32) (x2 : Int32) (x3 : Int32) (m : MM) : Option ((Int32 × Int32 × Int32 × MM) ⊕ (Int32 × MM)) :=
  (if (8 : Int32) ≤ x3 then (if gz_in (0 : Int32) (8) then gz_let (msI m 1064 (gz_ix (0 : Int32)) x1) fun m3 => (Option.map Sum.inr (ml_X6_isOneMore_43 x1 x2 (1 : Int32) (0 : Int32) m3)) else none) else (if x3 = x1 then (mj_X6_isOneMore_24 x1 x2 x3 (12 : Int32) x3 m) else (mj_X6_isOneMore_24 x1 x2 x3 (-1 : Int32) x3 m)))
theorem wb_X6_isOneMore_2 {X : gz_X} {G : gz_G} (hX : gz_C mS X G cX6_isOneMore 7 RX6 2 43) {x1 : Int32} {x2 : Int32} {x3 : Int32}  {m : MM} {z : ((Int32 × Int32 × Int32 × MM) ⊕ (Int32 × MM))} (h : mb_X6_isOneMore_2 x1 x2 x3 m = some z) (hk : (Sum.elim (mP_X6_isOneMore_2 X G) (fun z : (Int32 × MM) => gz_kZ mS X G 7 (0, 0) cX6_isOneMore (mF z.2) z.1)) z) : gz_V mS X G 7 (0, 0) (mF m) 2 [(0, .ref (gz_ad G 2000)), (1, .int x1), (2, .int x2), (3, .int x3)] [] := by
  unfold mb_X6_isOneMore_2 at h
  refine gz_iload_n (pc := 2) hX dX6_isOneMore_2 rfl 3 rfl ?_
  refine gz_bipush (pc := 3) (v := (8 : Int32)) hX dX6_isOneMore_3 (by decide) ?_
  refine gz_icmp_ge (pc := 5) (tgt := 31) hX dX6_isOneMore_5 (by decide) (fun g1 => ?_) (fun g1 => ?_)
  · replace h := gz_it' g1 h
    refine gz_aload_n (pc := 31) hX dX6_isOneMore_31 rfl 0 rfl ?_
    refine mg_63 (pc := 32) hX dX6_isOneMore_32 ?_
    refine gz_iconst (pc := 35) (v := (0 : Int32)) hX dX6_isOneMore_35 (by decide) ?_
    refine gz_iload_n (pc := 36) hX dX6_isOneMore_36 rfl 1 rfl ?_
    obtain ⟨g2, h⟩ := gz_gu h
    obtain ⟨m3, em3, h⟩ := gz_lt h
    refine mz_iast (pc := 37) (c := 1064) (n := 8) hX rfl rfl g2 (Nat.le_of_ble_eq_true rfl) dX6_isOneMore_37 em3 ?_
    refine gz_iconst (pc := 38) (v := (1 : Int32)) hX dX6_isOneMore_38 (by decide) ?_
    refine gz_istore_n (pc := 39) (lw := [(3, .int (1 : Int32)), (0, .ref (gz_ad G 2000)), (1, .int x1), (2, .int x2)]) hX dX6_isOneMore_39 rfl (by decide) rfl ?_
    refine gz_iconst (pc := 40) (v := (0 : Int32)) hX dX6_isOneMore_40 (by decide) ?_
    refine gz_istore (pc := 41) (lw := [(4, .int (0 : Int32)), (3, .int (1 : Int32)), (0, .ref (gz_ad G 2000)), (1, .int x1), (2, .int x2)]) hX dX6_isOneMore_41 (by decide) rfl ?_
    refine gz_sub (lw := [(0, .ref (gz_ad G 2000)), (1, .int x1), (2, .int x2), (3, .int (1 : Int32)), (4, .int (0 : Int32))]) [2, 3, 4, 1, 0] rfl ?_
    obtain ⟨z0, hm0, rfl⟩ := gz_mp h
    exact wl_X6_isOneMore_43 hX hm0 hk
  · replace h := gz_if' g1 h
    refine gz_aload_n (pc := 8) hX dX6_isOneMore_8 rfl 0 rfl ?_
    refine mg_62 (pc := 9) hX dX6_isOneMore_9 ?_
    refine gz_iload_n (pc := 12) hX dX6_isOneMore_12 rfl 3 rfl ?_
    refine gz_iload_n (pc := 13) hX dX6_isOneMore_13 rfl 3 rfl ?_
    refine gz_iload_n (pc := 14) hX dX6_isOneMore_14 rfl 1 rfl ?_
    refine gz_icmp_ne (pc := 15) (tgt := 23) hX dX6_isOneMore_15 (by decide) (fun g4 => ?_) (fun g4 => ?_)
    · replace h := gz_if' g4 h
      refine gz_iconst (pc := 23) (v := (-1 : Int32)) hX dX6_isOneMore_23 (by decide) ?_
      exact wb_X6_isOneMore_24 hX h hk
    · replace h := gz_it' g4 h
      refine gz_bipush (pc := 18) (v := (12 : Int32)) hX dX6_isOneMore_18 (by decide) ?_
      refine gz_goto (pc := 20) (tgt := 24) hX dX6_isOneMore_20 (by decide) ?_
      exact wb_X6_isOneMore_24 hX h hk
noncomputable def ml_X6_isOneMore_2 (x1 : Int32) (x2 : Int32) (x3 : Int32) (m : MM) : Option (Int32 × MM) := gz_loop (fun q : (Int32 × Int32 × Int32 × MM) => mb_X6_isOneMore_2 q.1 q.2.1 q.2.2.1 q.2.2.2) (x1, x2, x3, m)
theorem wl_X6_isOneMore_2 {X : gz_X} {G : gz_G} (hX : gz_C mS X G cX6_isOneMore 7 RX6 2 43) {x1 : Int32} {x2 : Int32} {x3 : Int32}  {m : MM} {z : (Int32 × MM)} (h : ml_X6_isOneMore_2 x1 x2 x3 m = some z) (hk : (fun z : (Int32 × MM) => gz_kZ mS X G 7 (0, 0) cX6_isOneMore (mF z.2) z.1) z) : gz_V mS X G 7 (0, 0) (mF m) 2 [(0, .ref (gz_ad G 2000)), (1, .int x1), (2, .int x2), (3, .int x3)] [] := by
  have hp : mP_X6_isOneMore_2 X G (x1, x2, x3, m) := gz_loop_ind (fun q z hz hkz => wb_X6_isOneMore_2 hX  hz hkz) h hk
  exact hp
noncomputable def mf_isOneMore (x1 : Int32) (x2 : Int32) (m : MM) : Option (Int32 × MM) :=
  (ml_X6_isOneMore_2 x1 x2 (0 : Int32) m)
theorem wm_isOneMore {X : gz_X} {G : gz_G} (hX : gz_C mS X G cX6_isOneMore 7 RX6 2 43) {x1 : Int32} {x2 : Int32}  {m : MM} {z : (Int32 × MM)} (h : mf_isOneMore x1 x2 m = some z) (hk : (fun z : (Int32 × MM) => gz_kZ mS X G 7 (0, 0) cX6_isOneMore (mF z.2) z.1) z) : gz_V mS X G 7 (0, 0) (mF m) 0 [(0, .ref (gz_ad G 2000)), (1, .int x1), (2, .int x2)] [] := by
  unfold mf_isOneMore at h
  refine gz_iconst (pc := 0) (v := (0 : Int32)) hX dX6_isOneMore_0 (by decide) ?_
  refine gz_istore_n (pc := 1) (lw := [(3, .int (0 : Int32)), (0, .ref (gz_ad G 2000)), (1, .int x1), (2, .int x2)]) hX dX6_isOneMore_1 rfl (by decide) rfl ?_
  refine gz_sub (lw := [(0, .ref (gz_ad G 2000)), (1, .int x1), (2, .int x2), (3, .int (0 : Int32))]) [1, 2, 3, 0] rfl ?_
  exact wl_X6_isOneMore_2 hX h hk
theorem mt_isOneMore {G : gz_G} {l : Launch} {x1 : Int32} {x2 : Int32}  {m m9 : MM} {r : Int32} (h : mf_isOneMore x1 x2 m = some (r, m9)) : gz_Met mS G l yX6_isOneMore cX6_isOneMore 7 (some .boolean) (mRm 2 43) [.ref (gz_ad G 2000), .int x1, .int x2] (mF m) (mF m9) (some (.int r)) :=
  gz_ofZ (plainFor_of_name mz_plain) (Nat.le_of_ble_eq_true rfl) fun X _ hX hk => wm_isOneMore hX h hk
theorem mc_isOneMore {X : gz_X} {G : gz_G} {cc : ByteArray} {nL fr lo pc : Nat} {lv : List (Nat × Value)} {rest st0 : List Value} (hX : gz_C mS X G cc nL RX6 fr lo) {x1 : Int32} {x2 : Int32}  {m m9 : MM} {r : Int32} (h : mf_isOneMore x1 x2 m = some (r, m9)) (hroom : 2 + 1 ≤ fr ∧ 8 + (7 + 11) + 43 ≤ lo) (hst : st0 = [.int x2, .int x1, .ref (gz_ad G 2000)] ++ rest) (hW : (rest.map fun v => v.category).sum ≤ 8) (hd : decode cc pc = .ok (.invokevirtual 547, 3)) (kk : gz_V mS X G nL (0, 0) (mF m9) (pc + 3) lv (.int r :: rest)) : gz_V mS X G nL (0, 0) (mF m) pc lv st0 :=
  gz_callV hX mz_E (As := [.int x1, .int x2]) (rest := rest) (q := (RX6, TX6, 104)) (ci := 0) (c := 2000) (mt_isOneMore (l := X.2.1) h) (lw_V q2496 q2498 qs147 q182 q2499) (n := 2) (by decide +kernel) hroom rfl rfl (by decide) rfl hst hW hd (rem := (0, 0)) kk
/-! keep(II)I -/
noncomputable def mj_X6_keep_23  (m : MM) : Option (Int32 × MM) :=
  some ((-1 : Int32), m)
theorem wb_X6_keep_23 {X : gz_X} {G : gz_G} (hX : gz_C mS X G cX6_keep 4 RX6 3 69)   {m : MM} {z : (Int32 × MM)} (h : mj_X6_keep_23  m = some z) (hk : (fun z : (Int32 × MM) => gz_kI mS X G 4 (0, 0) cX6_keep (mF z.2) z.1) z) : gz_V mS X G 4 (0, 0) (mF m) 23 [(0, .ref (gz_ad G 2000))] [] := by
  unfold mj_X6_keep_23 at h
  refine gz_iconst (pc := 23) (v := (-1 : Int32)) hX dX6_keep_23 (by decide) ?_
  obtain rfl := Option.some.inj h
  exact hk _ _ dX6_keep_24
def mP_X6_keep_27 (X : gz_X) (G : gz_G) (q : (Int32 × Int32 × Int32 × MM)) : Prop := gz_V mS X G 4 (0, 0) (mF q.2.2.2) 27 [(0, .ref (gz_ad G 2000)), (1, .int q.1), (2, .int q.2.1), (3, .int q.2.2.1)] []
def mP_X6_keep_48 (X : gz_X) (G : gz_G) (q : (Int32 × Int32 × Int32 × MM)) : Prop := gz_V mS X G 4 (0, 0) (mF q.2.2.2) 48 [(0, .ref (gz_ad G 2000)), (1, .int q.1), (2, .int q.2.1), (3, .int q.2.2.1)] []
noncomputable def mb_X6_keep_48 (x1 : Int32) (x2 : Int32) (x3 : Int32) (m : MM) : Option ((Int32 × Int32 × Int32 × MM) ⊕ (Int32 × MM)) :=
  ((mf_isOneMore x2 x1 m).bind fun (r1, m2) => (if r1 = (0 : Int32) then some (Sum.inr (x3, m2)) else gz_let (x3 + (1 : Int32)) fun y5 => some (Sum.inl (x1, x2, y5, m2))))
theorem wb_X6_keep_48 {X : gz_X} {G : gz_G} (hX : gz_C mS X G cX6_keep 4 RX6 3 69) {x1 : Int32} {x2 : Int32} {x3 : Int32}  {m : MM} {z : ((Int32 × Int32 × Int32 × MM) ⊕ (Int32 × MM))} (h : mb_X6_keep_48 x1 x2 x3 m = some z) (hk : (Sum.elim (mP_X6_keep_48 X G) (fun z : (Int32 × MM) => gz_kI mS X G 4 (0, 0) cX6_keep (mF z.2) z.1)) z) : gz_V mS X G 4 (0, 0) (mF m) 48 [(0, .ref (gz_ad G 2000)), (1, .int x1), (2, .int x2), (3, .int x3)] [] := by
  unfold mb_X6_keep_48 at h
  refine gz_aload_n (pc := 48) hX dX6_keep_48 rfl 0 rfl ?_
  refine gz_iload_n (pc := 49) hX dX6_keep_49 rfl 2 rfl ?_
  refine gz_iload_n (pc := 50) hX dX6_keep_50 rfl 1 rfl ?_
  obtain ⟨⟨r1, m2⟩, c3, h⟩ := gz_bd h
  refine mc_isOneMore (pc := 51) hX c3 ⟨Nat.le_of_ble_eq_true rfl, Nat.le_of_ble_eq_true rfl⟩ (rest := []) rfl (Nat.le_of_ble_eq_true rfl) dX6_keep_51 ?_
  refine gz_if_eq (pc := 54) (tgt := 63) hX dX6_keep_54 (by decide) (fun g4 => ?_) (fun g4 => ?_)
  · replace h := gz_it' g4 h
    refine gz_iload_n (pc := 63) hX dX6_keep_63 rfl 3 rfl ?_
    obtain rfl := Option.some.inj h
    exact hk _ _ dX6_keep_64
  · replace h := gz_if' g4 h
    obtain ⟨y5, ey5, h⟩ := gz_lt h
    refine gz_iinc (pc := 57) (v := y5) (lw := [(3, .int y5), (0, .ref (gz_ad G 2000)), (1, .int x1), (2, .int x2)]) hX dX6_keep_57 (k := 3) rfl (by rw [ey5]; rfl) (by decide) rfl ?_
    refine gz_goto (pc := 60) (tgt := 48) hX dX6_keep_60 (by decide) ?_
    refine gz_sub (lw := [(0, .ref (gz_ad G 2000)), (1, .int x1), (2, .int x2), (3, .int y5)]) [1, 2, 3, 0] rfl ?_
    obtain rfl := Option.some.inj h
    exact hk
noncomputable def ml_X6_keep_48 (x1 : Int32) (x2 : Int32) (x3 : Int32) (m : MM) : Option (Int32 × MM) := gz_loop (fun q : (Int32 × Int32 × Int32 × MM) => mb_X6_keep_48 q.1 q.2.1 q.2.2.1 q.2.2.2) (x1, x2, x3, m)
theorem wl_X6_keep_48 {X : gz_X} {G : gz_G} (hX : gz_C mS X G cX6_keep 4 RX6 3 69) {x1 : Int32} {x2 : Int32} {x3 : Int32}  {m : MM} {z : (Int32 × MM)} (h : ml_X6_keep_48 x1 x2 x3 m = some z) (hk : (fun z : (Int32 × MM) => gz_kI mS X G 4 (0, 0) cX6_keep (mF z.2) z.1) z) : gz_V mS X G 4 (0, 0) (mF m) 48 [(0, .ref (gz_ad G 2000)), (1, .int x1), (2, .int x2), (3, .int x3)] [] := by
  have hp : mP_X6_keep_48 X G (x1, x2, x3, m) := gz_loop_ind (fun q z hz hkz => wb_X6_keep_48 hX  hz hkz) h hk
  exact hp
noncomputable def mb_X6_keep_27 (x1 : Int32) (x2 : Int32) (x3 : Int32) (m : MM) : Option ((Int32 × Int32 × Int32 × MM) ⊕ (Int32 × MM)) :=
  (if (12 : Int32) ≤ x3 then (Option.map Sum.inr (ml_X6_keep_48 x1 x2 (0 : Int32) m)) else (if gz_in x3 (12) then gz_let (msI m 1062 (gz_ix x3) ((0 : Int32) &&& 1)) fun m3 => gz_let (x3 + (1 : Int32)) fun y4 => some (Sum.inl (x1, x2, y4, m3)) else none))
theorem wb_X6_keep_27 {X : gz_X} {G : gz_G} (hX : gz_C mS X G cX6_keep 4 RX6 3 69) {x1 : Int32} {x2 : Int32} {x3 : Int32}  {m : MM} {z : ((Int32 × Int32 × Int32 × MM) ⊕ (Int32 × MM))} (h : mb_X6_keep_27 x1 x2 x3 m = some z) (hk : (Sum.elim (mP_X6_keep_27 X G) (fun z : (Int32 × MM) => gz_kI mS X G 4 (0, 0) cX6_keep (mF z.2) z.1)) z) : gz_V mS X G 4 (0, 0) (mF m) 27 [(0, .ref (gz_ad G 2000)), (1, .int x1), (2, .int x2), (3, .int x3)] [] := by
  unfold mb_X6_keep_27 at h
  refine gz_iload_n (pc := 27) hX dX6_keep_27 rfl 3 rfl ?_
  refine gz_bipush (pc := 28) (v := (12 : Int32)) hX dX6_keep_28 (by decide) ?_
  refine gz_icmp_ge (pc := 30) (tgt := 46) hX dX6_keep_30 (by decide) (fun g1 => ?_) (fun g1 => ?_)
  · replace h := gz_it' g1 h
    refine gz_iconst (pc := 46) (v := (0 : Int32)) hX dX6_keep_46 (by decide) ?_
    refine gz_istore_n (pc := 47) (lw := [(3, .int (0 : Int32)), (0, .ref (gz_ad G 2000)), (1, .int x1), (2, .int x2)]) hX dX6_keep_47 rfl (by decide) rfl ?_
    refine gz_sub (lw := [(0, .ref (gz_ad G 2000)), (1, .int x1), (2, .int x2), (3, .int (0 : Int32))]) [1, 2, 3, 0] rfl ?_
    obtain ⟨z0, hm0, rfl⟩ := gz_mp h
    exact wl_X6_keep_48 hX hm0 hk
  · replace h := gz_if' g1 h
    refine gz_aload_n (pc := 33) hX dX6_keep_33 rfl 0 rfl ?_
    refine mg_61 (pc := 34) hX dX6_keep_34 ?_
    refine gz_iload_n (pc := 37) hX dX6_keep_37 rfl 3 rfl ?_
    refine gz_iconst (pc := 38) (v := (0 : Int32)) hX dX6_keep_38 (by decide) ?_
    obtain ⟨g2, h⟩ := gz_gu h
    obtain ⟨m3, em3, h⟩ := gz_lt h
    refine mz_zast (pc := 39) (c := 1062) (n := 12) hX rfl rfl g2 (Nat.le_of_ble_eq_true rfl) dX6_keep_39 em3 ?_
    obtain ⟨y4, ey4, h⟩ := gz_lt h
    refine gz_iinc (pc := 40) (v := y4) (lw := [(3, .int y4), (0, .ref (gz_ad G 2000)), (1, .int x1), (2, .int x2)]) hX dX6_keep_40 (k := 3) rfl (by rw [ey4]; rfl) (by decide) rfl ?_
    refine gz_goto (pc := 43) (tgt := 27) hX dX6_keep_43 (by decide) ?_
    refine gz_sub (lw := [(0, .ref (gz_ad G 2000)), (1, .int x1), (2, .int x2), (3, .int y4)]) [1, 2, 3, 0] rfl ?_
    obtain rfl := Option.some.inj h
    exact hk
noncomputable def ml_X6_keep_27 (x1 : Int32) (x2 : Int32) (x3 : Int32) (m : MM) : Option (Int32 × MM) := gz_loop (fun q : (Int32 × Int32 × Int32 × MM) => mb_X6_keep_27 q.1 q.2.1 q.2.2.1 q.2.2.2) (x1, x2, x3, m)
theorem wl_X6_keep_27 {X : gz_X} {G : gz_G} (hX : gz_C mS X G cX6_keep 4 RX6 3 69) {x1 : Int32} {x2 : Int32} {x3 : Int32}  {m : MM} {z : (Int32 × MM)} (h : ml_X6_keep_27 x1 x2 x3 m = some z) (hk : (fun z : (Int32 × MM) => gz_kI mS X G 4 (0, 0) cX6_keep (mF z.2) z.1) z) : gz_V mS X G 4 (0, 0) (mF m) 27 [(0, .ref (gz_ad G 2000)), (1, .int x1), (2, .int x2), (3, .int x3)] [] := by
  have hp : mP_X6_keep_27 X G (x1, x2, x3, m) := gz_loop_ind (fun q z hz hkz => wb_X6_keep_27 hX  hz hkz) h hk
  exact hp
noncomputable def mf_keep (x1 : Int32) (x2 : Int32) (m : MM) : Option (Int32 × MM) :=
  ((mf_isThing (x1.toInt64) m).bind fun (r1, m2) => (if r1 = (0 : Int32) then (mj_X6_keep_23  m2) else ((mf_isThing (x2.toInt64) m2).bind fun (r5, m6) => (if r5 = (0 : Int32) then (mj_X6_keep_23  m6) else (if x1 = x2 then (mj_X6_keep_23  m6) else (ml_X6_keep_27 x1 x2 (0 : Int32) m6))))))
theorem wm_keep {X : gz_X} {G : gz_G} (hX : gz_C mS X G cX6_keep 4 RX6 3 69) {x1 : Int32} {x2 : Int32}  {m : MM} {z : (Int32 × MM)} (h : mf_keep x1 x2 m = some z) (hk : (fun z : (Int32 × MM) => gz_kI mS X G 4 (0, 0) cX6_keep (mF z.2) z.1) z) : gz_V mS X G 4 (0, 0) (mF m) 0 [(0, .ref (gz_ad G 2000)), (1, .int x1), (2, .int x2)] [] := by
  unfold mf_keep at h
  refine gz_aload_n (pc := 0) hX dX6_keep_0 rfl 0 rfl ?_
  refine gz_iload_n (pc := 1) hX dX6_keep_1 rfl 1 rfl ?_
  refine gz_i2l (pc := 2) hX dX6_keep_2 ?_
  obtain ⟨⟨r1, m2⟩, c3, h⟩ := gz_bd h
  refine mc_isThing (pc := 3) hX c3 ⟨Nat.le_of_ble_eq_true rfl, Nat.le_of_ble_eq_true rfl⟩ (rest := []) rfl (Nat.le_of_ble_eq_true rfl) dX6_keep_3 ?_
  refine gz_if_eq (pc := 6) (tgt := 23) hX dX6_keep_6 (by decide) (fun g4 => ?_) (fun g4 => ?_)
  · replace h := gz_it' g4 h
    refine gz_sub (lw := [(0, .ref (gz_ad G 2000))]) [0] rfl ?_
    exact wb_X6_keep_23 hX h hk
  · replace h := gz_if' g4 h
    refine gz_aload_n (pc := 9) hX dX6_keep_9 rfl 0 rfl ?_
    refine gz_iload_n (pc := 10) hX dX6_keep_10 rfl 2 rfl ?_
    refine gz_i2l (pc := 11) hX dX6_keep_11 ?_
    obtain ⟨⟨r5, m6⟩, c7, h⟩ := gz_bd h
    refine mc_isThing (pc := 12) hX c7 ⟨Nat.le_of_ble_eq_true rfl, Nat.le_of_ble_eq_true rfl⟩ (rest := []) rfl (Nat.le_of_ble_eq_true rfl) dX6_keep_12 ?_
    refine gz_if_eq (pc := 15) (tgt := 23) hX dX6_keep_15 (by decide) (fun g8 => ?_) (fun g8 => ?_)
    · replace h := gz_it' g8 h
      refine gz_sub (lw := [(0, .ref (gz_ad G 2000))]) [0] rfl ?_
      exact wb_X6_keep_23 hX h hk
    · replace h := gz_if' g8 h
      refine gz_iload_n (pc := 18) hX dX6_keep_18 rfl 1 rfl ?_
      refine gz_iload_n (pc := 19) hX dX6_keep_19 rfl 2 rfl ?_
      refine gz_icmp_ne (pc := 20) (tgt := 25) hX dX6_keep_20 (by decide) (fun g9 => ?_) (fun g9 => ?_)
      · replace h := gz_if' g9 h
        refine gz_iconst (pc := 25) (v := (0 : Int32)) hX dX6_keep_25 (by decide) ?_
        refine gz_istore_n (pc := 26) (lw := [(3, .int (0 : Int32)), (0, .ref (gz_ad G 2000)), (1, .int x1), (2, .int x2)]) hX dX6_keep_26 rfl (by decide) rfl ?_
        refine gz_sub (lw := [(0, .ref (gz_ad G 2000)), (1, .int x1), (2, .int x2), (3, .int (0 : Int32))]) [1, 2, 3, 0] rfl ?_
        exact wl_X6_keep_27 hX h hk
      · replace h := gz_it' g9 h
        refine gz_sub (lw := [(0, .ref (gz_ad G 2000))]) [0] rfl ?_
        exact wb_X6_keep_23 hX h hk
theorem mt_keep {G : gz_G} {l : Launch} {x1 : Int32} {x2 : Int32}  {m m9 : MM} {r : Int32} (h : mf_keep x1 x2 m = some (r, m9)) : gz_Met mS G l yX6_keep cX6_keep 4 (some .int) (mRm 3 69) [.ref (gz_ad G 2000), .int x1, .int x2] (mF m) (mF m9) (some (.int r)) :=
  gz_ofI (plainFor_of_name mz_plain) (Nat.le_of_ble_eq_true rfl) fun X _ hX hk => wm_keep hX h hk
/-! rings()I -/
def mP_X6_rings_4 (X : gz_X) (G : gz_G) (q : (Int32 × Int32 × MM)) : Prop := gz_V mS X G 4 (0, 0) (mF q.2.2) 4 [(0, .ref (gz_ad G 2000)), (1, .int q.1), (2, .int q.2.1)] []
def mP_X6_rings_31 (X : gz_X) (G : gz_G) (q : (Int32 × Int32 × MM)) : Prop := gz_V mS X G 4 (0, 0) (mF q.2.2) 31 [(0, .ref (gz_ad G 2000)), (1, .int q.1), (2, .int q.2.1)] []
def mP_X6_rings_41 (X : gz_X) (G : gz_G) (q : (Int32 × Int32 × Int32 × MM)) : Prop := gz_V mS X G 4 (0, 0) (mF q.2.2.2) 41 [(0, .ref (gz_ad G 2000)), (1, .int q.1), (2, .int q.2.1), (3, .int q.2.2.1)] []
noncomputable def mj_X6_rings_83 (x1 : Int32) (x2 : Int32) (x3 : Int32) (m : MM) : Option ((Int32 × Int32 × Int32 × MM) ⊕ ((Int32 × Int32 × MM) ⊕ (Int32 × MM))) :=
  gz_let (x3 + (1 : Int32)) fun y1 => some (Sum.inl (x1, x2, y1, m))
theorem wb_X6_rings_83 {X : gz_X} {G : gz_G} (hX : gz_C mS X G cX6_rings 4 RX6 2 45) {x1 : Int32} {x2 : Int32} {x3 : Int32}  {m : MM} {z : ((Int32 × Int32 × Int32 × MM) ⊕ ((Int32 × Int32 × MM) ⊕ (Int32 × MM)))} (h : mj_X6_rings_83 x1 x2 x3 m = some z) (hk : (Sum.elim (mP_X6_rings_41 X G) (Sum.elim (mP_X6_rings_31 X G) (fun z : (Int32 × MM) => gz_kI mS X G 4 (0, 0) cX6_rings (mF z.2) z.1))) z) : gz_V mS X G 4 (0, 0) (mF m) 83 [(0, .ref (gz_ad G 2000)), (1, .int x1), (2, .int x2), (3, .int x3)] [] := by
  unfold mj_X6_rings_83 at h
  obtain ⟨y1, ey1, h⟩ := gz_lt h
  refine gz_iinc (pc := 83) (v := y1) (lw := [(3, .int y1), (0, .ref (gz_ad G 2000)), (1, .int x1), (2, .int x2)]) hX dX6_rings_83 (k := 3) rfl (by rw [ey1]; rfl) (by decide) rfl ?_
  refine gz_goto (pc := 86) (tgt := 41) hX dX6_rings_86 (by decide) ?_
  refine gz_sub (lw := [(0, .ref (gz_ad G 2000)), (1, .int x1), (2, .int x2), (3, .int y1)]) [1, 2, 3, 0] rfl ?_
  obtain rfl := Option.some.inj h
  exact hk
noncomputable def mb_X6_rings_41 (x1 : Int32) (x2 : Int32) (x3 : Int32) (m : MM) : Option ((Int32 × Int32 × Int32 × MM) ⊕ ((Int32 × Int32 × MM) ⊕ (Int32 × MM))) :=
  ((mf_thingMany m).bind fun (r1, m2) => (if r1 ≤ x3 then gz_let (x2 + (1 : Int32)) fun y5 => some (Sum.inr (Sum.inl (x1, y5, m2))) else (if gz_in x2 (8) then (if (((m2.1 1055 (gz_ix x2)) >>> (x3 &&& 31)) &&& (1 : Int32)) = (1 : Int32) then (if gz_in x3 (8) then (if (((m2.1 1055 (gz_ix x3)) >>> (x2 &&& 31)) &&& (1 : Int32)) = (1 : Int32) then gz_let ((x1 ||| ((1 : Int32) <<< (x2 &&& 31)))) fun y10 => (mj_X6_rings_83 y10 x2 x3 m2) else (mj_X6_rings_83 x1 x2 x3 m2)) else none) else (mj_X6_rings_83 x1 x2 x3 m2)) else none)))
theorem wb_X6_rings_41 {X : gz_X} {G : gz_G} (hX : gz_C mS X G cX6_rings 4 RX6 2 45) {x1 : Int32} {x2 : Int32} {x3 : Int32}  {m : MM} {z : ((Int32 × Int32 × Int32 × MM) ⊕ ((Int32 × Int32 × MM) ⊕ (Int32 × MM)))} (h : mb_X6_rings_41 x1 x2 x3 m = some z) (hk : (Sum.elim (mP_X6_rings_41 X G) (Sum.elim (mP_X6_rings_31 X G) (fun z : (Int32 × MM) => gz_kI mS X G 4 (0, 0) cX6_rings (mF z.2) z.1))) z) : gz_V mS X G 4 (0, 0) (mF m) 41 [(0, .ref (gz_ad G 2000)), (1, .int x1), (2, .int x2), (3, .int x3)] [] := by
  unfold mb_X6_rings_41 at h
  refine gz_iload_n (pc := 41) hX dX6_rings_41 rfl 3 rfl ?_
  refine gz_aload_n (pc := 42) hX dX6_rings_42 rfl 0 rfl ?_
  obtain ⟨⟨r1, m2⟩, c3, h⟩ := gz_bd h
  refine mc_thingMany (pc := 43) hX c3 ⟨Nat.le_of_ble_eq_true rfl, Nat.le_of_ble_eq_true rfl⟩ (rest := [.int x3]) rfl (Nat.le_of_ble_eq_true rfl) dX6_rings_43 ?_
  refine gz_icmp_ge (pc := 46) (tgt := 89) hX dX6_rings_46 (by decide) (fun g4 => ?_) (fun g4 => ?_)
  · replace h := gz_it' g4 h
    obtain ⟨y5, ey5, h⟩ := gz_lt h
    refine gz_iinc (pc := 89) (v := y5) (lw := [(2, .int y5), (0, .ref (gz_ad G 2000)), (1, .int x1), (3, .int x3)]) hX dX6_rings_89 (k := 2) rfl (by rw [ey5]; rfl) (by decide) rfl ?_
    refine gz_goto (pc := 92) (tgt := 31) hX dX6_rings_92 (by decide) ?_
    refine gz_sub (lw := [(0, .ref (gz_ad G 2000)), (1, .int x1), (2, .int y5)]) [1, 2, 0] rfl ?_
    obtain rfl := Option.some.inj h
    exact hk
  · replace h := gz_if' g4 h
    refine gz_aload_n (pc := 49) hX dX6_rings_49 rfl 0 rfl ?_
    refine mg_54 (pc := 50) hX dX6_rings_50 ?_
    refine gz_iload_n (pc := 53) hX dX6_rings_53 rfl 2 rfl ?_
    obtain ⟨g6, h⟩ := gz_gu h
    refine mz_iald (pc := 54) (c := 1055) (n := 8) hX rfl rfl g6 dX6_rings_54 ?_
    refine gz_iload_n (pc := 55) hX dX6_rings_55 rfl 3 rfl ?_
    refine gz_ishr (pc := 56) hX dX6_rings_56 ?_
    refine gz_iconst (pc := 57) (v := (1 : Int32)) hX dX6_rings_57 (by decide) ?_
    refine gz_iand (pc := 58) hX dX6_rings_58 ?_
    refine gz_iconst (pc := 59) (v := (1 : Int32)) hX dX6_rings_59 (by decide) ?_
    refine gz_icmp_ne (pc := 60) (tgt := 83) hX dX6_rings_60 (by decide) (fun g7 => ?_) (fun g7 => ?_)
    · replace h := gz_if' g7 h
      exact wb_X6_rings_83 hX h hk
    · replace h := gz_it' g7 h
      refine gz_aload_n (pc := 63) hX dX6_rings_63 rfl 0 rfl ?_
      refine mg_54 (pc := 64) hX dX6_rings_64 ?_
      refine gz_iload_n (pc := 67) hX dX6_rings_67 rfl 3 rfl ?_
      obtain ⟨g8, h⟩ := gz_gu h
      refine mz_iald (pc := 68) (c := 1055) (n := 8) hX rfl rfl g8 dX6_rings_68 ?_
      refine gz_iload_n (pc := 69) hX dX6_rings_69 rfl 2 rfl ?_
      refine gz_ishr (pc := 70) hX dX6_rings_70 ?_
      refine gz_iconst (pc := 71) (v := (1 : Int32)) hX dX6_rings_71 (by decide) ?_
      refine gz_iand (pc := 72) hX dX6_rings_72 ?_
      refine gz_iconst (pc := 73) (v := (1 : Int32)) hX dX6_rings_73 (by decide) ?_
      refine gz_icmp_ne (pc := 74) (tgt := 83) hX dX6_rings_74 (by decide) (fun g9 => ?_) (fun g9 => ?_)
      · replace h := gz_if' g9 h
        exact wb_X6_rings_83 hX h hk
      · replace h := gz_it' g9 h
        refine gz_iload_n (pc := 77) hX dX6_rings_77 rfl 1 rfl ?_
        refine gz_iconst (pc := 78) (v := (1 : Int32)) hX dX6_rings_78 (by decide) ?_
        refine gz_iload_n (pc := 79) hX dX6_rings_79 rfl 2 rfl ?_
        refine gz_ishl (pc := 80) hX dX6_rings_80 ?_
        refine gz_ior (pc := 81) hX dX6_rings_81 ?_
        obtain ⟨y10, ey10, h⟩ := gz_lt h
        refine gz_topi ey10 ?_
        refine gz_istore_n (pc := 82) (lw := [(1, .int y10), (0, .ref (gz_ad G 2000)), (2, .int x2), (3, .int x3)]) hX dX6_rings_82 rfl (by decide) rfl ?_
        refine gz_sub (lw := [(0, .ref (gz_ad G 2000)), (1, .int y10), (2, .int x2), (3, .int x3)]) [1, 0, 2, 3] rfl ?_
        exact wb_X6_rings_83 hX h hk
noncomputable def ml_X6_rings_41 (x1 : Int32) (x2 : Int32) (x3 : Int32) (m : MM) : Option ((Int32 × Int32 × MM) ⊕ (Int32 × MM)) := gz_loop (fun q : (Int32 × Int32 × Int32 × MM) => mb_X6_rings_41 q.1 q.2.1 q.2.2.1 q.2.2.2) (x1, x2, x3, m)
theorem wl_X6_rings_41 {X : gz_X} {G : gz_G} (hX : gz_C mS X G cX6_rings 4 RX6 2 45) {x1 : Int32} {x2 : Int32} {x3 : Int32}  {m : MM} {z : ((Int32 × Int32 × MM) ⊕ (Int32 × MM))} (h : ml_X6_rings_41 x1 x2 x3 m = some z) (hk : (Sum.elim (mP_X6_rings_31 X G) (fun z : (Int32 × MM) => gz_kI mS X G 4 (0, 0) cX6_rings (mF z.2) z.1)) z) : gz_V mS X G 4 (0, 0) (mF m) 41 [(0, .ref (gz_ad G 2000)), (1, .int x1), (2, .int x2), (3, .int x3)] [] := by
  have hp : mP_X6_rings_41 X G (x1, x2, x3, m) := gz_loop_ind (fun q z hz hkz => wb_X6_rings_41 hX  hz hkz) h hk
  exact hp
noncomputable def mb_X6_rings_31 (x1 : Int32) (x2 : Int32) (m : MM) : Option ((Int32 × Int32 × MM) ⊕ (Int32 × MM)) :=
  ((mf_thingMany m).bind fun (r1, m2) => (if r1 ≤ x2 then some (Sum.inr (x1, m2)) else (ml_X6_rings_41 x1 x2 (0 : Int32) m2)))
theorem wb_X6_rings_31 {X : gz_X} {G : gz_G} (hX : gz_C mS X G cX6_rings 4 RX6 2 45) {x1 : Int32} {x2 : Int32}  {m : MM} {z : ((Int32 × Int32 × MM) ⊕ (Int32 × MM))} (h : mb_X6_rings_31 x1 x2 m = some z) (hk : (Sum.elim (mP_X6_rings_31 X G) (fun z : (Int32 × MM) => gz_kI mS X G 4 (0, 0) cX6_rings (mF z.2) z.1)) z) : gz_V mS X G 4 (0, 0) (mF m) 31 [(0, .ref (gz_ad G 2000)), (1, .int x1), (2, .int x2)] [] := by
  unfold mb_X6_rings_31 at h
  refine gz_iload_n (pc := 31) hX dX6_rings_31 rfl 2 rfl ?_
  refine gz_aload_n (pc := 32) hX dX6_rings_32 rfl 0 rfl ?_
  obtain ⟨⟨r1, m2⟩, c3, h⟩ := gz_bd h
  refine mc_thingMany (pc := 33) hX c3 ⟨Nat.le_of_ble_eq_true rfl, Nat.le_of_ble_eq_true rfl⟩ (rest := [.int x2]) rfl (Nat.le_of_ble_eq_true rfl) dX6_rings_33 ?_
  refine gz_icmp_ge (pc := 36) (tgt := 95) hX dX6_rings_36 (by decide) (fun g4 => ?_) (fun g4 => ?_)
  · replace h := gz_it' g4 h
    refine gz_iload_n (pc := 95) hX dX6_rings_95 rfl 1 rfl ?_
    obtain rfl := Option.some.inj h
    exact hk _ _ dX6_rings_96
  · replace h := gz_if' g4 h
    refine gz_iconst (pc := 39) (v := (0 : Int32)) hX dX6_rings_39 (by decide) ?_
    refine gz_istore_n (pc := 40) (lw := [(3, .int (0 : Int32)), (0, .ref (gz_ad G 2000)), (1, .int x1), (2, .int x2)]) hX dX6_rings_40 rfl (by decide) rfl ?_
    refine gz_sub (lw := [(0, .ref (gz_ad G 2000)), (1, .int x1), (2, .int x2), (3, .int (0 : Int32))]) [1, 2, 3, 0] rfl ?_
    exact wl_X6_rings_41 hX h hk
noncomputable def ml_X6_rings_31 (x1 : Int32) (x2 : Int32) (m : MM) : Option (Int32 × MM) := gz_loop (fun q : (Int32 × Int32 × MM) => mb_X6_rings_31 q.1 q.2.1 q.2.2) (x1, x2, m)
theorem wl_X6_rings_31 {X : gz_X} {G : gz_G} (hX : gz_C mS X G cX6_rings 4 RX6 2 45) {x1 : Int32} {x2 : Int32}  {m : MM} {z : (Int32 × MM)} (h : ml_X6_rings_31 x1 x2 m = some z) (hk : (fun z : (Int32 × MM) => gz_kI mS X G 4 (0, 0) cX6_rings (mF z.2) z.1) z) : gz_V mS X G 4 (0, 0) (mF m) 31 [(0, .ref (gz_ad G 2000)), (1, .int x1), (2, .int x2)] [] := by
  have hp : mP_X6_rings_31 X G (x1, x2, m) := gz_loop_ind (fun q z hz hkz => wb_X6_rings_31 hX  hz hkz) h hk
  exact hp
noncomputable def mb_X6_rings_4 (x1 : Int32) (x2 : Int32) (m : MM) : Option ((Int32 × Int32 × MM) ⊕ (Int32 × MM)) :=
  ((mf_thingMany m).bind fun (r1, m2) => (if r1 ≤ x2 then (Option.map Sum.inr (ml_X6_rings_31 x1 (0 : Int32) m2)) else ((mf_endsOf x2 m2).bind fun (r5, m6) => (if gz_in x2 (8) then gz_let (msI m6 1055 (gz_ix x2) r5) fun m9 => gz_let (x2 + (1 : Int32)) fun y10 => some (Sum.inl (x1, y10, m9)) else none))))
theorem wb_X6_rings_4 {X : gz_X} {G : gz_G} (hX : gz_C mS X G cX6_rings 4 RX6 2 45) {x1 : Int32} {x2 : Int32}  {m : MM} {z : ((Int32 × Int32 × MM) ⊕ (Int32 × MM))} (h : mb_X6_rings_4 x1 x2 m = some z) (hk : (Sum.elim (mP_X6_rings_4 X G) (fun z : (Int32 × MM) => gz_kI mS X G 4 (0, 0) cX6_rings (mF z.2) z.1)) z) : gz_V mS X G 4 (0, 0) (mF m) 4 [(0, .ref (gz_ad G 2000)), (1, .int x1), (2, .int x2)] [] := by
  unfold mb_X6_rings_4 at h
  refine gz_iload_n (pc := 4) hX dX6_rings_4 rfl 2 rfl ?_
  refine gz_aload_n (pc := 5) hX dX6_rings_5 rfl 0 rfl ?_
  obtain ⟨⟨r1, m2⟩, c3, h⟩ := gz_bd h
  refine mc_thingMany (pc := 6) hX c3 ⟨Nat.le_of_ble_eq_true rfl, Nat.le_of_ble_eq_true rfl⟩ (rest := [.int x2]) rfl (Nat.le_of_ble_eq_true rfl) dX6_rings_6 ?_
  refine gz_icmp_ge (pc := 9) (tgt := 29) hX dX6_rings_9 (by decide) (fun g4 => ?_) (fun g4 => ?_)
  · replace h := gz_it' g4 h
    refine gz_iconst (pc := 29) (v := (0 : Int32)) hX dX6_rings_29 (by decide) ?_
    refine gz_istore_n (pc := 30) (lw := [(2, .int (0 : Int32)), (0, .ref (gz_ad G 2000)), (1, .int x1)]) hX dX6_rings_30 rfl (by decide) rfl ?_
    refine gz_sub (lw := [(0, .ref (gz_ad G 2000)), (1, .int x1), (2, .int (0 : Int32))]) [1, 2, 0] rfl ?_
    obtain ⟨z0, hm0, rfl⟩ := gz_mp h
    exact wl_X6_rings_31 hX hm0 hk
  · replace h := gz_if' g4 h
    refine gz_aload_n (pc := 12) hX dX6_rings_12 rfl 0 rfl ?_
    refine mg_54 (pc := 13) hX dX6_rings_13 ?_
    refine gz_iload_n (pc := 16) hX dX6_rings_16 rfl 2 rfl ?_
    refine gz_aload_n (pc := 17) hX dX6_rings_17 rfl 0 rfl ?_
    refine gz_iload_n (pc := 18) hX dX6_rings_18 rfl 2 rfl ?_
    obtain ⟨⟨r5, m6⟩, c7, h⟩ := gz_bd h
    refine mc_endsOf (pc := 19) hX c7 ⟨Nat.le_of_ble_eq_true rfl, Nat.le_of_ble_eq_true rfl⟩ (rest := [.int x2, .ref (gz_ad G 1055)]) rfl (Nat.le_of_ble_eq_true rfl) dX6_rings_19 ?_
    obtain ⟨g8, h⟩ := gz_gu h
    obtain ⟨m9, em9, h⟩ := gz_lt h
    refine mz_iast (pc := 22) (c := 1055) (n := 8) hX rfl rfl g8 (Nat.le_of_ble_eq_true rfl) dX6_rings_22 em9 ?_
    obtain ⟨y10, ey10, h⟩ := gz_lt h
    refine gz_iinc (pc := 23) (v := y10) (lw := [(2, .int y10), (0, .ref (gz_ad G 2000)), (1, .int x1)]) hX dX6_rings_23 (k := 2) rfl (by rw [ey10]; rfl) (by decide) rfl ?_
    refine gz_goto (pc := 26) (tgt := 4) hX dX6_rings_26 (by decide) ?_
    refine gz_sub (lw := [(0, .ref (gz_ad G 2000)), (1, .int x1), (2, .int y10)]) [1, 2, 0] rfl ?_
    obtain rfl := Option.some.inj h
    exact hk
noncomputable def ml_X6_rings_4 (x1 : Int32) (x2 : Int32) (m : MM) : Option (Int32 × MM) := gz_loop (fun q : (Int32 × Int32 × MM) => mb_X6_rings_4 q.1 q.2.1 q.2.2) (x1, x2, m)
theorem wl_X6_rings_4 {X : gz_X} {G : gz_G} (hX : gz_C mS X G cX6_rings 4 RX6 2 45) {x1 : Int32} {x2 : Int32}  {m : MM} {z : (Int32 × MM)} (h : ml_X6_rings_4 x1 x2 m = some z) (hk : (fun z : (Int32 × MM) => gz_kI mS X G 4 (0, 0) cX6_rings (mF z.2) z.1) z) : gz_V mS X G 4 (0, 0) (mF m) 4 [(0, .ref (gz_ad G 2000)), (1, .int x1), (2, .int x2)] [] := by
  have hp : mP_X6_rings_4 X G (x1, x2, m) := gz_loop_ind (fun q z hz hkz => wb_X6_rings_4 hX  hz hkz) h hk
  exact hp
noncomputable def mf_rings  (m : MM) : Option (Int32 × MM) :=
  (ml_X6_rings_4 (0 : Int32) (0 : Int32) m)
theorem wm_rings {X : gz_X} {G : gz_G} (hX : gz_C mS X G cX6_rings 4 RX6 2 45)   {m : MM} {z : (Int32 × MM)} (h : mf_rings  m = some z) (hk : (fun z : (Int32 × MM) => gz_kI mS X G 4 (0, 0) cX6_rings (mF z.2) z.1) z) : gz_V mS X G 4 (0, 0) (mF m) 0 [(0, .ref (gz_ad G 2000))] [] := by
  unfold mf_rings at h
  refine gz_iconst (pc := 0) (v := (0 : Int32)) hX dX6_rings_0 (by decide) ?_
  refine gz_istore_n (pc := 1) (lw := [(1, .int (0 : Int32)), (0, .ref (gz_ad G 2000))]) hX dX6_rings_1 rfl (by decide) rfl ?_
  refine gz_iconst (pc := 2) (v := (0 : Int32)) hX dX6_rings_2 (by decide) ?_
  refine gz_istore_n (pc := 3) (lw := [(2, .int (0 : Int32)), (1, .int (0 : Int32)), (0, .ref (gz_ad G 2000))]) hX dX6_rings_3 rfl (by decide) rfl ?_
  refine gz_sub (lw := [(0, .ref (gz_ad G 2000)), (1, .int (0 : Int32)), (2, .int (0 : Int32))]) [2, 1, 0] rfl ?_
  exact wl_X6_rings_4 hX h hk
theorem mt_rings {G : gz_G} {l : Launch}   {m m9 : MM} {r : Int32} (h : mf_rings  m = some (r, m9)) : gz_Met mS G l yX6_rings cX6_rings 4 (some .int) (mRm 2 45) [.ref (gz_ad G 2000)] (mF m) (mF m9) (some (.int r)) :=
  gz_ofI (plainFor_of_name mz_plain) (Nat.le_of_ble_eq_true rfl) fun X _ hX hk => wm_rings hX h hk
/-! canLight(II)Z -/
def mP_X6_canLight_17 (X : gz_X) (G : gz_G) (q : (Int32 × Int32 × Int32 × MM)) : Prop := gz_V mS X G 4 (0, 0) (mF q.2.2.2) 17 [(0, .ref (gz_ad G 2000)), (1, .int q.1), (2, .int q.2.1), (3, .int q.2.2.1)] []
noncomputable def mj_X6_canLight_71 (x1 : Int32) (x2 : Int32) (x3 : Int32) (m : MM) : Option ((Int32 × Int32 × Int32 × MM) ⊕ (Int32 × MM)) :=
  gz_let (x3 + (1 : Int32)) fun y1 => some (Sum.inl (x1, x2, y1, m))
theorem wb_X6_canLight_71 {X : gz_X} {G : gz_G} (hX : gz_C mS X G cX6_canLight 4 RX6 1 21) {x1 : Int32} {x2 : Int32} {x3 : Int32}  {m : MM} {z : ((Int32 × Int32 × Int32 × MM) ⊕ (Int32 × MM))} (h : mj_X6_canLight_71 x1 x2 x3 m = some z) (hk : (Sum.elim (mP_X6_canLight_17 X G) (fun z : (Int32 × MM) => gz_kZ mS X G 4 (0, 0) cX6_canLight (mF z.2) z.1)) z) : gz_V mS X G 4 (0, 0) (mF m) 71 [(0, .ref (gz_ad G 2000)), (1, .int x1), (2, .int x2), (3, .int x3)] [] := by
  unfold mj_X6_canLight_71 at h
  obtain ⟨y1, ey1, h⟩ := gz_lt h
  refine gz_iinc (pc := 71) (v := y1) (lw := [(3, .int y1), (0, .ref (gz_ad G 2000)), (1, .int x1), (2, .int x2)]) hX dX6_canLight_71 (k := 3) rfl (by rw [ey1]; rfl) (by decide) rfl ?_
  refine gz_goto (pc := 74) (tgt := 17) hX dX6_canLight_74 (by decide) ?_
  refine gz_sub (lw := [(0, .ref (gz_ad G 2000)), (1, .int x1), (2, .int x2), (3, .int y1)]) [1, 2, 3, 0] rfl ?_
  obtain rfl := Option.some.inj h
  exact hk
noncomputable def mj_X6_canLight_69  (m : MM) : Option (Int32 × MM) :=
  some ((1 : Int32), m)
theorem wb_X6_canLight_69 {X : gz_X} {G : gz_G} (hX : gz_C mS X G cX6_canLight 4 RX6 1 21)   {m : MM} {z : (Int32 × MM)} (h : mj_X6_canLight_69  m = some z) (hk : (fun z : (Int32 × MM) => gz_kZ mS X G 4 (0, 0) cX6_canLight (mF z.2) z.1) z) : gz_V mS X G 4 (0, 0) (mF m) 69 [(0, .ref (gz_ad G 2000))] [] := by
  unfold mj_X6_canLight_69 at h
  refine gz_iconst (pc := 69) (v := (1 : Int32)) hX dX6_canLight_69 (by decide) ?_
  obtain rfl := Option.some.inj h
  exact hk _ _ dX6_canLight_70 (Or.inr rfl)
noncomputable def mj_X6_canLight_51 (x1 : Int32) (x2 : Int32) (x3 : Int32) (m : MM) : Option ((Int32 × Int32 × Int32 × MM) ⊕ (Int32 × MM)) :=
  ((mf_fromOf x3 m).bind fun (r1, m2) => (if r1 = x2 then ((mf_toOf x3 m2).bind fun (r5, m6) => (if r5 = x1 then (Option.map Sum.inr (mj_X6_canLight_69  m6)) else (mj_X6_canLight_71 x1 x2 x3 m6))) else (mj_X6_canLight_71 x1 x2 x3 m2)))
theorem wb_X6_canLight_51 {X : gz_X} {G : gz_G} (hX : gz_C mS X G cX6_canLight 4 RX6 1 21) {x1 : Int32} {x2 : Int32} {x3 : Int32}  {m : MM} {z : ((Int32 × Int32 × Int32 × MM) ⊕ (Int32 × MM))} (h : mj_X6_canLight_51 x1 x2 x3 m = some z) (hk : (Sum.elim (mP_X6_canLight_17 X G) (fun z : (Int32 × MM) => gz_kZ mS X G 4 (0, 0) cX6_canLight (mF z.2) z.1)) z) : gz_V mS X G 4 (0, 0) (mF m) 51 [(0, .ref (gz_ad G 2000)), (1, .int x1), (2, .int x2), (3, .int x3)] [] := by
  unfold mj_X6_canLight_51 at h
  refine gz_aload_n (pc := 51) hX dX6_canLight_51 rfl 0 rfl ?_
  refine gz_iload_n (pc := 52) hX dX6_canLight_52 rfl 3 rfl ?_
  obtain ⟨⟨r1, m2⟩, c3, h⟩ := gz_bd h
  refine mc_fromOf (pc := 53) hX c3 ⟨Nat.le_of_ble_eq_true rfl, Nat.le_of_ble_eq_true rfl⟩ (rest := []) rfl (Nat.le_of_ble_eq_true rfl) dX6_canLight_53 ?_
  refine gz_iload_n (pc := 56) hX dX6_canLight_56 rfl 2 rfl ?_
  refine gz_icmp_ne (pc := 57) (tgt := 71) hX dX6_canLight_57 (by decide) (fun g4 => ?_) (fun g4 => ?_)
  · replace h := gz_if' g4 h
    exact wb_X6_canLight_71 hX h hk
  · replace h := gz_it' g4 h
    refine gz_aload_n (pc := 60) hX dX6_canLight_60 rfl 0 rfl ?_
    refine gz_iload_n (pc := 61) hX dX6_canLight_61 rfl 3 rfl ?_
    obtain ⟨⟨r5, m6⟩, c7, h⟩ := gz_bd h
    refine mc_toOf (pc := 62) hX c7 ⟨Nat.le_of_ble_eq_true rfl, Nat.le_of_ble_eq_true rfl⟩ (rest := []) rfl (Nat.le_of_ble_eq_true rfl) dX6_canLight_62 ?_
    refine gz_iload_n (pc := 65) hX dX6_canLight_65 rfl 1 rfl ?_
    refine gz_icmp_ne (pc := 66) (tgt := 71) hX dX6_canLight_66 (by decide) (fun g8 => ?_) (fun g8 => ?_)
    · replace h := gz_if' g8 h
      exact wb_X6_canLight_71 hX h hk
    · replace h := gz_it' g8 h
      refine gz_sub (lw := [(0, .ref (gz_ad G 2000))]) [0] rfl ?_
      obtain ⟨z0, hm0, rfl⟩ := gz_mp h
      exact wb_X6_canLight_69 hX hm0 hk
noncomputable def mb_X6_canLight_17 (x1 : Int32) (x2 : Int32) (x3 : Int32) (m : MM) : Option ((Int32 × Int32 × Int32 × MM) ⊕ (Int32 × MM)) :=
  ((mf_tieMany m).bind fun (r1, m2) => (if r1 ≤ x3 then some (Sum.inr ((0 : Int32), m2)) else ((mf_doesHold x3 m2).bind fun (r5, m6) => (if r5 = (0 : Int32) then (mj_X6_canLight_71 x1 x2 x3 m6) else ((mf_fromOf x3 m6).bind fun (r9, m10) => (if r9 = x1 then ((mf_toOf x3 m10).bind fun (r13, m14) => (if r13 = x2 then (Option.map Sum.inr (mj_X6_canLight_69  m14)) else (mj_X6_canLight_51 x1 x2 x3 m14))) else (mj_X6_canLight_51 x1 x2 x3 m10)))))))
theorem wb_X6_canLight_17 {X : gz_X} {G : gz_G} (hX : gz_C mS X G cX6_canLight 4 RX6 1 21) {x1 : Int32} {x2 : Int32} {x3 : Int32}  {m : MM} {z : ((Int32 × Int32 × Int32 × MM) ⊕ (Int32 × MM))} (h : mb_X6_canLight_17 x1 x2 x3 m = some z) (hk : (Sum.elim (mP_X6_canLight_17 X G) (fun z : (Int32 × MM) => gz_kZ mS X G 4 (0, 0) cX6_canLight (mF z.2) z.1)) z) : gz_V mS X G 4 (0, 0) (mF m) 17 [(0, .ref (gz_ad G 2000)), (1, .int x1), (2, .int x2), (3, .int x3)] [] := by
  unfold mb_X6_canLight_17 at h
  refine gz_iload_n (pc := 17) hX dX6_canLight_17 rfl 3 rfl ?_
  refine gz_aload_n (pc := 18) hX dX6_canLight_18 rfl 0 rfl ?_
  obtain ⟨⟨r1, m2⟩, c3, h⟩ := gz_bd h
  refine mc_tieMany (pc := 19) hX c3 ⟨Nat.le_of_ble_eq_true rfl, Nat.le_of_ble_eq_true rfl⟩ (rest := [.int x3]) rfl (Nat.le_of_ble_eq_true rfl) dX6_canLight_19 ?_
  refine gz_icmp_ge (pc := 22) (tgt := 77) hX dX6_canLight_22 (by decide) (fun g4 => ?_) (fun g4 => ?_)
  · replace h := gz_it' g4 h
    refine gz_iconst (pc := 77) (v := (0 : Int32)) hX dX6_canLight_77 (by decide) ?_
    obtain rfl := Option.some.inj h
    exact hk _ _ dX6_canLight_78 (Or.inl rfl)
  · replace h := gz_if' g4 h
    refine gz_aload_n (pc := 25) hX dX6_canLight_25 rfl 0 rfl ?_
    refine gz_iload_n (pc := 26) hX dX6_canLight_26 rfl 3 rfl ?_
    obtain ⟨⟨r5, m6⟩, c7, h⟩ := gz_bd h
    refine mc_doesHold (pc := 27) hX c7 ⟨Nat.le_of_ble_eq_true rfl, Nat.le_of_ble_eq_true rfl⟩ (rest := []) rfl (Nat.le_of_ble_eq_true rfl) dX6_canLight_27 ?_
    refine gz_if_eq (pc := 30) (tgt := 71) hX dX6_canLight_30 (by decide) (fun g8 => ?_) (fun g8 => ?_)
    · replace h := gz_it' g8 h
      exact wb_X6_canLight_71 hX h hk
    · replace h := gz_if' g8 h
      refine gz_aload_n (pc := 33) hX dX6_canLight_33 rfl 0 rfl ?_
      refine gz_iload_n (pc := 34) hX dX6_canLight_34 rfl 3 rfl ?_
      obtain ⟨⟨r9, m10⟩, c11, h⟩ := gz_bd h
      refine mc_fromOf (pc := 35) hX c11 ⟨Nat.le_of_ble_eq_true rfl, Nat.le_of_ble_eq_true rfl⟩ (rest := []) rfl (Nat.le_of_ble_eq_true rfl) dX6_canLight_35 ?_
      refine gz_iload_n (pc := 38) hX dX6_canLight_38 rfl 1 rfl ?_
      refine gz_icmp_ne (pc := 39) (tgt := 51) hX dX6_canLight_39 (by decide) (fun g12 => ?_) (fun g12 => ?_)
      · replace h := gz_if' g12 h
        exact wb_X6_canLight_51 hX h hk
      · replace h := gz_it' g12 h
        refine gz_aload_n (pc := 42) hX dX6_canLight_42 rfl 0 rfl ?_
        refine gz_iload_n (pc := 43) hX dX6_canLight_43 rfl 3 rfl ?_
        obtain ⟨⟨r13, m14⟩, c15, h⟩ := gz_bd h
        refine mc_toOf (pc := 44) hX c15 ⟨Nat.le_of_ble_eq_true rfl, Nat.le_of_ble_eq_true rfl⟩ (rest := []) rfl (Nat.le_of_ble_eq_true rfl) dX6_canLight_44 ?_
        refine gz_iload_n (pc := 47) hX dX6_canLight_47 rfl 2 rfl ?_
        refine gz_icmp_eq (pc := 48) (tgt := 69) hX dX6_canLight_48 (by decide) (fun g16 => ?_) (fun g16 => ?_)
        · replace h := gz_it' g16 h
          refine gz_sub (lw := [(0, .ref (gz_ad G 2000))]) [0] rfl ?_
          obtain ⟨z0, hm0, rfl⟩ := gz_mp h
          exact wb_X6_canLight_69 hX hm0 hk
        · replace h := gz_if' g16 h
          exact wb_X6_canLight_51 hX h hk
noncomputable def ml_X6_canLight_17 (x1 : Int32) (x2 : Int32) (x3 : Int32) (m : MM) : Option (Int32 × MM) := gz_loop (fun q : (Int32 × Int32 × Int32 × MM) => mb_X6_canLight_17 q.1 q.2.1 q.2.2.1 q.2.2.2) (x1, x2, x3, m)
theorem wl_X6_canLight_17 {X : gz_X} {G : gz_G} (hX : gz_C mS X G cX6_canLight 4 RX6 1 21) {x1 : Int32} {x2 : Int32} {x3 : Int32}  {m : MM} {z : (Int32 × MM)} (h : ml_X6_canLight_17 x1 x2 x3 m = some z) (hk : (fun z : (Int32 × MM) => gz_kZ mS X G 4 (0, 0) cX6_canLight (mF z.2) z.1) z) : gz_V mS X G 4 (0, 0) (mF m) 17 [(0, .ref (gz_ad G 2000)), (1, .int x1), (2, .int x2), (3, .int x3)] [] := by
  have hp : mP_X6_canLight_17 X G (x1, x2, x3, m) := gz_loop_ind (fun q z hz hkz => wb_X6_canLight_17 hX  hz hkz) h hk
  exact hp
noncomputable def mf_canLight (x1 : Int32) (x2 : Int32) (m : MM) : Option (Int32 × MM) :=
  ((mf_hallOf x1 m).bind fun (r1, m2) => ((mf_hallOf x2 m2).bind fun (r4, m5) => (if r1 = r4 then some ((1 : Int32), m5) else (ml_X6_canLight_17 x1 x2 (0 : Int32) m5))))
theorem wm_canLight {X : gz_X} {G : gz_G} (hX : gz_C mS X G cX6_canLight 4 RX6 1 21) {x1 : Int32} {x2 : Int32}  {m : MM} {z : (Int32 × MM)} (h : mf_canLight x1 x2 m = some z) (hk : (fun z : (Int32 × MM) => gz_kZ mS X G 4 (0, 0) cX6_canLight (mF z.2) z.1) z) : gz_V mS X G 4 (0, 0) (mF m) 0 [(0, .ref (gz_ad G 2000)), (1, .int x1), (2, .int x2)] [] := by
  unfold mf_canLight at h
  refine gz_aload_n (pc := 0) hX dX6_canLight_0 rfl 0 rfl ?_
  refine gz_iload_n (pc := 1) hX dX6_canLight_1 rfl 1 rfl ?_
  obtain ⟨⟨r1, m2⟩, c3, h⟩ := gz_bd h
  refine mc_hallOf (pc := 2) hX c3 ⟨Nat.le_of_ble_eq_true rfl, Nat.le_of_ble_eq_true rfl⟩ (rest := []) rfl (Nat.le_of_ble_eq_true rfl) dX6_canLight_2 ?_
  refine gz_aload_n (pc := 5) hX dX6_canLight_5 rfl 0 rfl ?_
  refine gz_iload_n (pc := 6) hX dX6_canLight_6 rfl 2 rfl ?_
  obtain ⟨⟨r4, m5⟩, c6, h⟩ := gz_bd h
  refine mc_hallOf (pc := 7) hX c6 ⟨Nat.le_of_ble_eq_true rfl, Nat.le_of_ble_eq_true rfl⟩ (rest := [.int r1]) rfl (Nat.le_of_ble_eq_true rfl) dX6_canLight_7 ?_
  refine gz_icmp_ne (pc := 10) (tgt := 15) hX dX6_canLight_10 (by decide) (fun g7 => ?_) (fun g7 => ?_)
  · replace h := gz_if' g7 h
    refine gz_iconst (pc := 15) (v := (0 : Int32)) hX dX6_canLight_15 (by decide) ?_
    refine gz_istore_n (pc := 16) (lw := [(3, .int (0 : Int32)), (0, .ref (gz_ad G 2000)), (1, .int x1), (2, .int x2)]) hX dX6_canLight_16 rfl (by decide) rfl ?_
    refine gz_sub (lw := [(0, .ref (gz_ad G 2000)), (1, .int x1), (2, .int x2), (3, .int (0 : Int32))]) [1, 2, 3, 0] rfl ?_
    exact wl_X6_canLight_17 hX h hk
  · replace h := gz_it' g7 h
    refine gz_iconst (pc := 13) (v := (1 : Int32)) hX dX6_canLight_13 (by decide) ?_
    obtain rfl := Option.some.inj h
    exact hk _ _ dX6_canLight_14 (Or.inr rfl)
theorem mt_canLight {G : gz_G} {l : Launch} {x1 : Int32} {x2 : Int32}  {m m9 : MM} {r : Int32} (h : mf_canLight x1 x2 m = some (r, m9)) : gz_Met mS G l yX6_canLight cX6_canLight 4 (some .boolean) (mRm 1 21) [.ref (gz_ad G 2000), .int x1, .int x2] (mF m) (mF m9) (some (.int r)) :=
  gz_ofZ (plainFor_of_name mz_plain) (Nat.le_of_ble_eq_true rfl) fun X _ hX hk => wm_canLight hX h hk
theorem mc_canLight {X : gz_X} {G : gz_G} {cc : ByteArray} {nL fr lo pc : Nat} {lv : List (Nat × Value)} {rest st0 : List Value} (hX : gz_C mS X G cc nL RX6 fr lo) {x1 : Int32} {x2 : Int32}  {m m9 : MM} {r : Int32} (h : mf_canLight x1 x2 m = some (r, m9)) (hroom : 1 + 1 ≤ fr ∧ 8 + (4 + 11) + 21 ≤ lo) (hst : st0 = [.int x2, .int x1, .ref (gz_ad G 2000)] ++ rest) (hW : (rest.map fun v => v.category).sum ≤ 8) (hd : decode cc pc = .ok (.invokevirtual 550, 3)) (kk : gz_V mS X G nL (0, 0) (mF m9) (pc + 3) lv (.int r :: rest)) : gz_V mS X G nL (0, 0) (mF m) pc lv st0 :=
  gz_callV hX mz_E (As := [.int x1, .int x2]) (rest := rest) (q := (RX6, TX6, 104)) (ci := 0) (c := 2000) (mt_canLight (l := X.2.1) h) (lw_V q2516 q2518 qs150 q182 q2519) (n := 2) (by decide +kernel) hroom rfl rfl (by decide) rfl hst hW hd (rem := (0, 0)) kk
/-! nextTo(I)I -/
def mP_X6_nextTo_4 (X : gz_X) (G : gz_G) (q : (Int32 × Int32 × Int32 × MM)) : Prop := gz_V mS X G 5 (0, 0) (mF q.2.2.2) 4 [(0, .ref (gz_ad G 2000)), (1, .int q.1), (2, .int q.2.1), (3, .int q.2.2.1)] []
def mP_X6_nextTo_15 (X : gz_X) (G : gz_G) (q : (Int32 × Int32 × Int32 × Int32 × MM)) : Prop := gz_V mS X G 5 (0, 0) (mF q.2.2.2.2) 15 [(0, .ref (gz_ad G 2000)), (1, .int q.1), (2, .int q.2.1), (3, .int q.2.2.1), (4, .int q.2.2.2.1)] []
noncomputable def mj_X6_nextTo_50 (x1 : Int32) (x2 : Int32) (x3 : Int32) (x4 : Int32) (m : MM) : Option ((Int32 × Int32 × Int32 × Int32 × MM) ⊕ ((Int32 × Int32 × Int32 × MM) ⊕ (Int32 × MM))) :=
  gz_let (x4 + (1 : Int32)) fun y1 => some (Sum.inl (x1, x2, x3, y1, m))
theorem wb_X6_nextTo_50 {X : gz_X} {G : gz_G} (hX : gz_C mS X G cX6_nextTo 5 RX6 2 44) {x1 : Int32} {x2 : Int32} {x3 : Int32} {x4 : Int32}  {m : MM} {z : ((Int32 × Int32 × Int32 × Int32 × MM) ⊕ ((Int32 × Int32 × Int32 × MM) ⊕ (Int32 × MM)))} (h : mj_X6_nextTo_50 x1 x2 x3 x4 m = some z) (hk : (Sum.elim (mP_X6_nextTo_15 X G) (Sum.elim (mP_X6_nextTo_4 X G) (fun z : (Int32 × MM) => gz_kI mS X G 5 (0, 0) cX6_nextTo (mF z.2) z.1))) z) : gz_V mS X G 5 (0, 0) (mF m) 50 [(0, .ref (gz_ad G 2000)), (1, .int x1), (2, .int x2), (3, .int x3), (4, .int x4)] [] := by
  unfold mj_X6_nextTo_50 at h
  obtain ⟨y1, ey1, h⟩ := gz_lt h
  refine gz_iinc (pc := 50) (v := y1) (lw := [(4, .int y1), (0, .ref (gz_ad G 2000)), (1, .int x1), (2, .int x2), (3, .int x3)]) hX dX6_nextTo_50 (k := 4) rfl (by rw [ey1]; rfl) (by decide) rfl ?_
  refine gz_goto (pc := 53) (tgt := 15) hX dX6_nextTo_53 (by decide) ?_
  refine gz_sub (lw := [(0, .ref (gz_ad G 2000)), (1, .int x1), (2, .int x2), (3, .int x3), (4, .int y1)]) [1, 2, 3, 4, 0] rfl ?_
  obtain rfl := Option.some.inj h
  exact hk
noncomputable def mb_X6_nextTo_15 (x1 : Int32) (x2 : Int32) (x3 : Int32) (x4 : Int32) (m : MM) : Option ((Int32 × Int32 × Int32 × Int32 × MM) ⊕ ((Int32 × Int32 × Int32 × MM) ⊕ (Int32 × MM))) :=
  ((mf_thingMany m).bind fun (r1, m2) => (if r1 ≤ x4 then gz_let (x3 + (1 : Int32)) fun y5 => some (Sum.inr (Sum.inl (x1, x2, y5, m2))) else (if ((x1 >>> (x4 &&& 31)) &&& (1 : Int32)) = (1 : Int32) then ((mf_canLight x4 x3 m2).bind fun (r7, m8) => (if r7 = (0 : Int32) then (mj_X6_nextTo_50 x1 x2 x3 x4 m8) else gz_let ((x2 ||| ((1 : Int32) <<< (x3 &&& 31)))) fun y11 => (mj_X6_nextTo_50 x1 y11 x3 x4 m8))) else (mj_X6_nextTo_50 x1 x2 x3 x4 m2))))
theorem wb_X6_nextTo_15 {X : gz_X} {G : gz_G} (hX : gz_C mS X G cX6_nextTo 5 RX6 2 44) {x1 : Int32} {x2 : Int32} {x3 : Int32} {x4 : Int32}  {m : MM} {z : ((Int32 × Int32 × Int32 × Int32 × MM) ⊕ ((Int32 × Int32 × Int32 × MM) ⊕ (Int32 × MM)))} (h : mb_X6_nextTo_15 x1 x2 x3 x4 m = some z) (hk : (Sum.elim (mP_X6_nextTo_15 X G) (Sum.elim (mP_X6_nextTo_4 X G) (fun z : (Int32 × MM) => gz_kI mS X G 5 (0, 0) cX6_nextTo (mF z.2) z.1))) z) : gz_V mS X G 5 (0, 0) (mF m) 15 [(0, .ref (gz_ad G 2000)), (1, .int x1), (2, .int x2), (3, .int x3), (4, .int x4)] [] := by
  unfold mb_X6_nextTo_15 at h
  refine gz_iload (pc := 15) hX dX6_nextTo_15 4 rfl ?_
  refine gz_aload_n (pc := 17) hX dX6_nextTo_17 rfl 0 rfl ?_
  obtain ⟨⟨r1, m2⟩, c3, h⟩ := gz_bd h
  refine mc_thingMany (pc := 18) hX c3 ⟨Nat.le_of_ble_eq_true rfl, Nat.le_of_ble_eq_true rfl⟩ (rest := [.int x4]) rfl (Nat.le_of_ble_eq_true rfl) dX6_nextTo_18 ?_
  refine gz_icmp_ge (pc := 21) (tgt := 56) hX dX6_nextTo_21 (by decide) (fun g4 => ?_) (fun g4 => ?_)
  · replace h := gz_it' g4 h
    obtain ⟨y5, ey5, h⟩ := gz_lt h
    refine gz_iinc (pc := 56) (v := y5) (lw := [(3, .int y5), (0, .ref (gz_ad G 2000)), (1, .int x1), (2, .int x2), (4, .int x4)]) hX dX6_nextTo_56 (k := 3) rfl (by rw [ey5]; rfl) (by decide) rfl ?_
    refine gz_goto (pc := 59) (tgt := 4) hX dX6_nextTo_59 (by decide) ?_
    refine gz_sub (lw := [(0, .ref (gz_ad G 2000)), (1, .int x1), (2, .int x2), (3, .int y5)]) [1, 2, 3, 0] rfl ?_
    obtain rfl := Option.some.inj h
    exact hk
  · replace h := gz_if' g4 h
    refine gz_iload_n (pc := 24) hX dX6_nextTo_24 rfl 1 rfl ?_
    refine gz_iload (pc := 25) hX dX6_nextTo_25 4 rfl ?_
    refine gz_ishr (pc := 27) hX dX6_nextTo_27 ?_
    refine gz_iconst (pc := 28) (v := (1 : Int32)) hX dX6_nextTo_28 (by decide) ?_
    refine gz_iand (pc := 29) hX dX6_nextTo_29 ?_
    refine gz_iconst (pc := 30) (v := (1 : Int32)) hX dX6_nextTo_30 (by decide) ?_
    refine gz_icmp_ne (pc := 31) (tgt := 50) hX dX6_nextTo_31 (by decide) (fun g6 => ?_) (fun g6 => ?_)
    · replace h := gz_if' g6 h
      exact wb_X6_nextTo_50 hX h hk
    · replace h := gz_it' g6 h
      refine gz_aload_n (pc := 34) hX dX6_nextTo_34 rfl 0 rfl ?_
      refine gz_iload (pc := 35) hX dX6_nextTo_35 4 rfl ?_
      refine gz_iload_n (pc := 37) hX dX6_nextTo_37 rfl 3 rfl ?_
      obtain ⟨⟨r7, m8⟩, c9, h⟩ := gz_bd h
      refine mc_canLight (pc := 38) hX c9 ⟨Nat.le_of_ble_eq_true rfl, Nat.le_of_ble_eq_true rfl⟩ (rest := []) rfl (Nat.le_of_ble_eq_true rfl) dX6_nextTo_38 ?_
      refine gz_if_eq (pc := 41) (tgt := 50) hX dX6_nextTo_41 (by decide) (fun g10 => ?_) (fun g10 => ?_)
      · replace h := gz_it' g10 h
        exact wb_X6_nextTo_50 hX h hk
      · replace h := gz_if' g10 h
        refine gz_iload_n (pc := 44) hX dX6_nextTo_44 rfl 2 rfl ?_
        refine gz_iconst (pc := 45) (v := (1 : Int32)) hX dX6_nextTo_45 (by decide) ?_
        refine gz_iload_n (pc := 46) hX dX6_nextTo_46 rfl 3 rfl ?_
        refine gz_ishl (pc := 47) hX dX6_nextTo_47 ?_
        refine gz_ior (pc := 48) hX dX6_nextTo_48 ?_
        obtain ⟨y11, ey11, h⟩ := gz_lt h
        refine gz_topi ey11 ?_
        refine gz_istore_n (pc := 49) (lw := [(2, .int y11), (0, .ref (gz_ad G 2000)), (1, .int x1), (3, .int x3), (4, .int x4)]) hX dX6_nextTo_49 rfl (by decide) rfl ?_
        refine gz_sub (lw := [(0, .ref (gz_ad G 2000)), (1, .int x1), (2, .int y11), (3, .int x3), (4, .int x4)]) [1, 2, 0, 3, 4] rfl ?_
        exact wb_X6_nextTo_50 hX h hk
noncomputable def ml_X6_nextTo_15 (x1 : Int32) (x2 : Int32) (x3 : Int32) (x4 : Int32) (m : MM) : Option ((Int32 × Int32 × Int32 × MM) ⊕ (Int32 × MM)) := gz_loop (fun q : (Int32 × Int32 × Int32 × Int32 × MM) => mb_X6_nextTo_15 q.1 q.2.1 q.2.2.1 q.2.2.2.1 q.2.2.2.2) (x1, x2, x3, x4, m)
theorem wl_X6_nextTo_15 {X : gz_X} {G : gz_G} (hX : gz_C mS X G cX6_nextTo 5 RX6 2 44) {x1 : Int32} {x2 : Int32} {x3 : Int32} {x4 : Int32}  {m : MM} {z : ((Int32 × Int32 × Int32 × MM) ⊕ (Int32 × MM))} (h : ml_X6_nextTo_15 x1 x2 x3 x4 m = some z) (hk : (Sum.elim (mP_X6_nextTo_4 X G) (fun z : (Int32 × MM) => gz_kI mS X G 5 (0, 0) cX6_nextTo (mF z.2) z.1)) z) : gz_V mS X G 5 (0, 0) (mF m) 15 [(0, .ref (gz_ad G 2000)), (1, .int x1), (2, .int x2), (3, .int x3), (4, .int x4)] [] := by
  have hp : mP_X6_nextTo_15 X G (x1, x2, x3, x4, m) := gz_loop_ind (fun q z hz hkz => wb_X6_nextTo_15 hX  hz hkz) h hk
  exact hp
noncomputable def mb_X6_nextTo_4 (x1 : Int32) (x2 : Int32) (x3 : Int32) (m : MM) : Option ((Int32 × Int32 × Int32 × MM) ⊕ (Int32 × MM)) :=
  ((mf_thingMany m).bind fun (r1, m2) => (if r1 ≤ x3 then some (Sum.inr (x2, m2)) else (ml_X6_nextTo_15 x1 x2 x3 (0 : Int32) m2)))
theorem wb_X6_nextTo_4 {X : gz_X} {G : gz_G} (hX : gz_C mS X G cX6_nextTo 5 RX6 2 44) {x1 : Int32} {x2 : Int32} {x3 : Int32}  {m : MM} {z : ((Int32 × Int32 × Int32 × MM) ⊕ (Int32 × MM))} (h : mb_X6_nextTo_4 x1 x2 x3 m = some z) (hk : (Sum.elim (mP_X6_nextTo_4 X G) (fun z : (Int32 × MM) => gz_kI mS X G 5 (0, 0) cX6_nextTo (mF z.2) z.1)) z) : gz_V mS X G 5 (0, 0) (mF m) 4 [(0, .ref (gz_ad G 2000)), (1, .int x1), (2, .int x2), (3, .int x3)] [] := by
  unfold mb_X6_nextTo_4 at h
  refine gz_iload_n (pc := 4) hX dX6_nextTo_4 rfl 3 rfl ?_
  refine gz_aload_n (pc := 5) hX dX6_nextTo_5 rfl 0 rfl ?_
  obtain ⟨⟨r1, m2⟩, c3, h⟩ := gz_bd h
  refine mc_thingMany (pc := 6) hX c3 ⟨Nat.le_of_ble_eq_true rfl, Nat.le_of_ble_eq_true rfl⟩ (rest := [.int x3]) rfl (Nat.le_of_ble_eq_true rfl) dX6_nextTo_6 ?_
  refine gz_icmp_ge (pc := 9) (tgt := 62) hX dX6_nextTo_9 (by decide) (fun g4 => ?_) (fun g4 => ?_)
  · replace h := gz_it' g4 h
    refine gz_iload_n (pc := 62) hX dX6_nextTo_62 rfl 2 rfl ?_
    obtain rfl := Option.some.inj h
    exact hk _ _ dX6_nextTo_63
  · replace h := gz_if' g4 h
    refine gz_iconst (pc := 12) (v := (0 : Int32)) hX dX6_nextTo_12 (by decide) ?_
    refine gz_istore (pc := 13) (lw := [(4, .int (0 : Int32)), (0, .ref (gz_ad G 2000)), (1, .int x1), (2, .int x2), (3, .int x3)]) hX dX6_nextTo_13 (by decide) rfl ?_
    refine gz_sub (lw := [(0, .ref (gz_ad G 2000)), (1, .int x1), (2, .int x2), (3, .int x3), (4, .int (0 : Int32))]) [1, 2, 3, 4, 0] rfl ?_
    exact wl_X6_nextTo_15 hX h hk
noncomputable def ml_X6_nextTo_4 (x1 : Int32) (x2 : Int32) (x3 : Int32) (m : MM) : Option (Int32 × MM) := gz_loop (fun q : (Int32 × Int32 × Int32 × MM) => mb_X6_nextTo_4 q.1 q.2.1 q.2.2.1 q.2.2.2) (x1, x2, x3, m)
theorem wl_X6_nextTo_4 {X : gz_X} {G : gz_G} (hX : gz_C mS X G cX6_nextTo 5 RX6 2 44) {x1 : Int32} {x2 : Int32} {x3 : Int32}  {m : MM} {z : (Int32 × MM)} (h : ml_X6_nextTo_4 x1 x2 x3 m = some z) (hk : (fun z : (Int32 × MM) => gz_kI mS X G 5 (0, 0) cX6_nextTo (mF z.2) z.1) z) : gz_V mS X G 5 (0, 0) (mF m) 4 [(0, .ref (gz_ad G 2000)), (1, .int x1), (2, .int x2), (3, .int x3)] [] := by
  have hp : mP_X6_nextTo_4 X G (x1, x2, x3, m) := gz_loop_ind (fun q z hz hkz => wb_X6_nextTo_4 hX  hz hkz) h hk
  exact hp
noncomputable def mf_nextTo (x1 : Int32) (m : MM) : Option (Int32 × MM) :=
  (ml_X6_nextTo_4 x1 x1 (0 : Int32) m)
theorem wm_nextTo {X : gz_X} {G : gz_G} (hX : gz_C mS X G cX6_nextTo 5 RX6 2 44) {x1 : Int32}  {m : MM} {z : (Int32 × MM)} (h : mf_nextTo x1 m = some z) (hk : (fun z : (Int32 × MM) => gz_kI mS X G 5 (0, 0) cX6_nextTo (mF z.2) z.1) z) : gz_V mS X G 5 (0, 0) (mF m) 0 [(0, .ref (gz_ad G 2000)), (1, .int x1)] [] := by
  unfold mf_nextTo at h
  refine gz_iload_n (pc := 0) hX dX6_nextTo_0 rfl 1 rfl ?_
  refine gz_istore_n (pc := 1) (lw := [(2, .int x1), (0, .ref (gz_ad G 2000)), (1, .int x1)]) hX dX6_nextTo_1 rfl (by decide) rfl ?_
  refine gz_iconst (pc := 2) (v := (0 : Int32)) hX dX6_nextTo_2 (by decide) ?_
  refine gz_istore_n (pc := 3) (lw := [(3, .int (0 : Int32)), (2, .int x1), (0, .ref (gz_ad G 2000)), (1, .int x1)]) hX dX6_nextTo_3 rfl (by decide) rfl ?_
  refine gz_sub (lw := [(0, .ref (gz_ad G 2000)), (1, .int x1), (2, .int x1), (3, .int (0 : Int32))]) [2, 3, 1, 0] rfl ?_
  exact wl_X6_nextTo_4 hX h hk
theorem mt_nextTo {G : gz_G} {l : Launch} {x1 : Int32}  {m m9 : MM} {r : Int32} (h : mf_nextTo x1 m = some (r, m9)) : gz_Met mS G l yX6_nextTo cX6_nextTo 5 (some .int) (mRm 2 44) [.ref (gz_ad G 2000), .int x1] (mF m) (mF m9) (some (.int r)) :=
  gz_ofI (plainFor_of_name mz_plain) (Nat.le_of_ble_eq_true rfl) fun X _ hX hk => wm_nextTo hX h hk
theorem mc_nextTo {X : gz_X} {G : gz_G} {cc : ByteArray} {nL fr lo pc : Nat} {lv : List (Nat × Value)} {rest st0 : List Value} (hX : gz_C mS X G cc nL RX6 fr lo) {x1 : Int32}  {m m9 : MM} {r : Int32} (h : mf_nextTo x1 m = some (r, m9)) (hroom : 2 + 1 ≤ fr ∧ 8 + (5 + 11) + 44 ≤ lo) (hst : st0 = [.int x1, .ref (gz_ad G 2000)] ++ rest) (hW : (rest.map fun v => v.category).sum ≤ 8) (hd : decode cc pc = .ok (.invokevirtual 553, 3)) (kk : gz_V mS X G nL (0, 0) (mF m9) (pc + 3) lv (.int r :: rest)) : gz_V mS X G nL (0, 0) (mF m) pc lv st0 :=
  gz_callV hX mz_E (As := [.int x1]) (rest := rest) (q := (RX6, TX6, 104)) (ci := 0) (c := 2000) (mt_nextTo (l := X.2.1) h) (lw_V q2512 q2514 qs149 q182 q2515) (n := 1) (by decide +kernel) hroom rfl rfl (by decide) rfl hst hW hd (rem := (0, 0)) kk
/-! lightings(I)I -/
def mP_X6_lightings_18 (X : gz_X) (G : gz_G) (q : (Int32 × Int32 × Int32 × MM)) : Prop := gz_V mS X G 5 (0, 0) (mF q.2.2.2) 18 [(0, .ref (gz_ad G 2000)), (1, .int q.1), (2, .int q.2.1), (3, .int q.2.2.1)] []
noncomputable def mb_X6_lightings_18 (x1 : Int32) (x2 : Int32) (x3 : Int32) (m : MM) : Option ((Int32 × Int32 × Int32 × MM) ⊕ (Int32 × MM)) :=
  (if ((x2 >>> (x1 &&& 31)) &&& (1 : Int32)) = (0 : Int32) then ((mf_nextTo x2 m).bind fun (r2, m3) => (if r2 = x2 then some (Sum.inr ((-1 : Int32), m3)) else gz_let (x3 + (1 : Int32)) fun y6 => some (Sum.inl (x1, r2, y6, m3)))) else some (Sum.inr (x3, m)))
theorem wb_X6_lightings_18 {X : gz_X} {G : gz_G} (hX : gz_C mS X G cX6_lightings 5 RX6 3 68) {x1 : Int32} {x2 : Int32} {x3 : Int32}  {m : MM} {z : ((Int32 × Int32 × Int32 × MM) ⊕ (Int32 × MM))} (h : mb_X6_lightings_18 x1 x2 x3 m = some z) (hk : (Sum.elim (mP_X6_lightings_18 X G) (fun z : (Int32 × MM) => gz_kI mS X G 5 (0, 0) cX6_lightings (mF z.2) z.1)) z) : gz_V mS X G 5 (0, 0) (mF m) 18 [(0, .ref (gz_ad G 2000)), (1, .int x1), (2, .int x2), (3, .int x3)] [] := by
  unfold mb_X6_lightings_18 at h
  refine gz_iload_n (pc := 18) hX dX6_lightings_18 rfl 2 rfl ?_
  refine gz_iload_n (pc := 19) hX dX6_lightings_19 rfl 1 rfl ?_
  refine gz_ishr (pc := 20) hX dX6_lightings_20 ?_
  refine gz_iconst (pc := 21) (v := (1 : Int32)) hX dX6_lightings_21 (by decide) ?_
  refine gz_iand (pc := 22) hX dX6_lightings_22 ?_
  refine gz_if_ne (pc := 23) (tgt := 50) hX dX6_lightings_23 (by decide) (fun g1 => ?_) (fun g1 => ?_)
  · replace h := gz_if' g1 h
    refine gz_iload_n (pc := 50) hX dX6_lightings_50 rfl 3 rfl ?_
    obtain rfl := Option.some.inj h
    exact hk _ _ dX6_lightings_51
  · replace h := gz_it' g1 h
    refine gz_aload_n (pc := 26) hX dX6_lightings_26 rfl 0 rfl ?_
    refine gz_iload_n (pc := 27) hX dX6_lightings_27 rfl 2 rfl ?_
    obtain ⟨⟨r2, m3⟩, c4, h⟩ := gz_bd h
    refine mc_nextTo (pc := 28) hX c4 ⟨Nat.le_of_ble_eq_true rfl, Nat.le_of_ble_eq_true rfl⟩ (rest := []) rfl (Nat.le_of_ble_eq_true rfl) dX6_lightings_28 ?_
    refine gz_istore (pc := 31) (lw := [(4, .int r2), (0, .ref (gz_ad G 2000)), (1, .int x1), (2, .int x2), (3, .int x3)]) hX dX6_lightings_31 (by decide) rfl ?_
    refine gz_iload (pc := 33) hX dX6_lightings_33 0 rfl ?_
    refine gz_iload_n (pc := 35) hX dX6_lightings_35 rfl 3 rfl ?_
    refine gz_icmp_ne (pc := 36) (tgt := 41) hX dX6_lightings_36 (by decide) (fun g5 => ?_) (fun g5 => ?_)
    · replace h := gz_if' g5 h
      refine gz_iload (pc := 41) hX dX6_lightings_41 0 rfl ?_
      refine gz_istore_n (pc := 43) (lw := [(2, .int r2), (4, .int r2), (0, .ref (gz_ad G 2000)), (1, .int x1), (3, .int x3)]) hX dX6_lightings_43 rfl (by decide) rfl ?_
      obtain ⟨y6, ey6, h⟩ := gz_lt h
      refine gz_iinc (pc := 44) (v := y6) (lw := [(3, .int y6), (2, .int r2), (4, .int r2), (0, .ref (gz_ad G 2000)), (1, .int x1)]) hX dX6_lightings_44 (k := 4) rfl (by rw [ey6]; rfl) (by decide) rfl ?_
      refine gz_goto (pc := 47) (tgt := 18) hX dX6_lightings_47 (by decide) ?_
      refine gz_sub (lw := [(0, .ref (gz_ad G 2000)), (1, .int x1), (2, .int r2), (3, .int y6)]) [3, 4, 1, 0] rfl ?_
      obtain rfl := Option.some.inj h
      exact hk
    · replace h := gz_it' g5 h
      refine gz_iconst (pc := 39) (v := (-1 : Int32)) hX dX6_lightings_39 (by decide) ?_
      obtain rfl := Option.some.inj h
      exact hk _ _ dX6_lightings_40
noncomputable def ml_X6_lightings_18 (x1 : Int32) (x2 : Int32) (x3 : Int32) (m : MM) : Option (Int32 × MM) := gz_loop (fun q : (Int32 × Int32 × Int32 × MM) => mb_X6_lightings_18 q.1 q.2.1 q.2.2.1 q.2.2.2) (x1, x2, x3, m)
theorem wl_X6_lightings_18 {X : gz_X} {G : gz_G} (hX : gz_C mS X G cX6_lightings 5 RX6 3 68) {x1 : Int32} {x2 : Int32} {x3 : Int32}  {m : MM} {z : (Int32 × MM)} (h : ml_X6_lightings_18 x1 x2 x3 m = some z) (hk : (fun z : (Int32 × MM) => gz_kI mS X G 5 (0, 0) cX6_lightings (mF z.2) z.1) z) : gz_V mS X G 5 (0, 0) (mF m) 18 [(0, .ref (gz_ad G 2000)), (1, .int x1), (2, .int x2), (3, .int x3)] [] := by
  have hp : mP_X6_lightings_18 X G (x1, x2, x3, m) := gz_loop_ind (fun q z hz hkz => wb_X6_lightings_18 hX  hz hkz) h hk
  exact hp
noncomputable def mf_lightings (x1 : Int32) (m : MM) : Option (Int32 × MM) :=
  ((mf_isThing (x1.toInt64) m).bind fun (r1, m2) => (if r1 = (0 : Int32) then some ((-1 : Int32), m2) else ((mf_burningSet m2).bind fun (r5, m6) => (ml_X6_lightings_18 x1 r5 (0 : Int32) m6))))
theorem wm_lightings {X : gz_X} {G : gz_G} (hX : gz_C mS X G cX6_lightings 5 RX6 3 68) {x1 : Int32}  {m : MM} {z : (Int32 × MM)} (h : mf_lightings x1 m = some z) (hk : (fun z : (Int32 × MM) => gz_kI mS X G 5 (0, 0) cX6_lightings (mF z.2) z.1) z) : gz_V mS X G 5 (0, 0) (mF m) 0 [(0, .ref (gz_ad G 2000)), (1, .int x1)] [] := by
  unfold mf_lightings at h
  refine gz_aload_n (pc := 0) hX dX6_lightings_0 rfl 0 rfl ?_
  refine gz_iload_n (pc := 1) hX dX6_lightings_1 rfl 1 rfl ?_
  refine gz_i2l (pc := 2) hX dX6_lightings_2 ?_
  obtain ⟨⟨r1, m2⟩, c3, h⟩ := gz_bd h
  refine mc_isThing (pc := 3) hX c3 ⟨Nat.le_of_ble_eq_true rfl, Nat.le_of_ble_eq_true rfl⟩ (rest := []) rfl (Nat.le_of_ble_eq_true rfl) dX6_lightings_3 ?_
  refine gz_if_ne (pc := 6) (tgt := 11) hX dX6_lightings_6 (by decide) (fun g4 => ?_) (fun g4 => ?_)
  · replace h := gz_if' g4 h
    refine gz_aload_n (pc := 11) hX dX6_lightings_11 rfl 0 rfl ?_
    obtain ⟨⟨r5, m6⟩, c7, h⟩ := gz_bd h
    refine mc_burningSet (pc := 12) hX c7 ⟨Nat.le_of_ble_eq_true rfl, Nat.le_of_ble_eq_true rfl⟩ (rest := []) rfl (Nat.le_of_ble_eq_true rfl) dX6_lightings_12 ?_
    refine gz_istore_n (pc := 15) (lw := [(2, .int r5), (0, .ref (gz_ad G 2000)), (1, .int x1)]) hX dX6_lightings_15 rfl (by decide) rfl ?_
    refine gz_iconst (pc := 16) (v := (0 : Int32)) hX dX6_lightings_16 (by decide) ?_
    refine gz_istore_n (pc := 17) (lw := [(3, .int (0 : Int32)), (2, .int r5), (0, .ref (gz_ad G 2000)), (1, .int x1)]) hX dX6_lightings_17 rfl (by decide) rfl ?_
    refine gz_sub (lw := [(0, .ref (gz_ad G 2000)), (1, .int x1), (2, .int r5), (3, .int (0 : Int32))]) [2, 3, 1, 0] rfl ?_
    exact wl_X6_lightings_18 hX h hk
  · replace h := gz_it' g4 h
    refine gz_iconst (pc := 9) (v := (-1 : Int32)) hX dX6_lightings_9 (by decide) ?_
    obtain rfl := Option.some.inj h
    exact hk _ _ dX6_lightings_10
theorem mt_lightings {G : gz_G} {l : Launch} {x1 : Int32}  {m m9 : MM} {r : Int32} (h : mf_lightings x1 m = some (r, m9)) : gz_Met mS G l yX6_lightings cX6_lightings 5 (some .int) (mRm 3 68) [.ref (gz_ad G 2000), .int x1] (mF m) (mF m9) (some (.int r)) :=
  gz_ofI (plainFor_of_name mz_plain) (Nat.le_of_ble_eq_true rfl) fun X _ hX hk => wm_lightings hX h hk
/-! draughtOn(I)V -/
noncomputable def mf_draughtOn (x1 : Int32) (m : MM) : Option (Unit × MM) :=
  ((mf_doesBurn x1 m).bind fun (r1, m2) => (if r1 = (0 : Int32) then some ((), m2) else ((mf_strengthOf x1 m2).bind fun (r5, m6) => (if (10 : Int32) < r5 then (if gz_in ((14 : Int32) + ((2 : Int32) * x1)) (151) then (if gz_in ((14 : Int32) + ((2 : Int32) * x1)) (151) then gz_let (msI m6 1051 (gz_ix ((14 : Int32) + ((2 : Int32) * x1))) ((m6.1 1051 (gz_ix ((14 : Int32) + ((2 : Int32) * x1)))) - (10 : Int32))) fun m11 => some ((), m11) else none) else none) else ((mf_goesOut x1 (3 : Int32) m6).bind fun (_, m13) => some ((), m13))))))
theorem wm_draughtOn {X : gz_X} {G : gz_G} (hX : gz_C mS X G cX6_draughtOn 2 RX6 2 45) {x1 : Int32}  {m : MM} {z : (Unit × MM)} (h : mf_draughtOn x1 m = some z) (hk : (fun z : (Unit × MM) => gz_kV mS X G 2 (0, 0) cX6_draughtOn (mF z.2)) z) : gz_V mS X G 2 (0, 0) (mF m) 0 [(0, .ref (gz_ad G 2000)), (1, .int x1)] [] := by
  unfold mf_draughtOn at h
  refine gz_aload_n (pc := 0) hX dX6_draughtOn_0 rfl 0 rfl ?_
  refine gz_iload_n (pc := 1) hX dX6_draughtOn_1 rfl 1 rfl ?_
  obtain ⟨⟨r1, m2⟩, c3, h⟩ := gz_bd h
  refine mc_doesBurn (pc := 2) hX c3 ⟨Nat.le_of_ble_eq_true rfl, Nat.le_of_ble_eq_true rfl⟩ (rest := []) rfl (Nat.le_of_ble_eq_true rfl) dX6_draughtOn_2 ?_
  refine gz_if_ne (pc := 5) (tgt := 9) hX dX6_draughtOn_5 (by decide) (fun g4 => ?_) (fun g4 => ?_)
  · replace h := gz_if' g4 h
    refine gz_aload_n (pc := 9) hX dX6_draughtOn_9 rfl 0 rfl ?_
    refine gz_iload_n (pc := 10) hX dX6_draughtOn_10 rfl 1 rfl ?_
    obtain ⟨⟨r5, m6⟩, c7, h⟩ := gz_bd h
    refine mc_strengthOf (pc := 11) hX c7 ⟨Nat.le_of_ble_eq_true rfl, Nat.le_of_ble_eq_true rfl⟩ (rest := []) rfl (Nat.le_of_ble_eq_true rfl) dX6_draughtOn_11 ?_
    refine gz_bipush (pc := 14) (v := (10 : Int32)) hX dX6_draughtOn_14 (by decide) ?_
    refine gz_icmp_gt (pc := 16) (tgt := 28) hX dX6_draughtOn_16 (by decide) (fun g8 => ?_) (fun g8 => ?_)
    · replace h := gz_it' g8 h
      refine gz_aload_n (pc := 28) hX dX6_draughtOn_28 rfl 0 rfl ?_
      refine mg_50 (pc := 29) hX dX6_draughtOn_29 ?_
      refine gz_bipush (pc := 32) (v := (14 : Int32)) hX dX6_draughtOn_32 (by decide) ?_
      refine gz_iconst (pc := 34) (v := (2 : Int32)) hX dX6_draughtOn_34 (by decide) ?_
      refine gz_iload_n (pc := 35) hX dX6_draughtOn_35 rfl 1 rfl ?_
      refine gz_imul (pc := 36) hX dX6_draughtOn_36 ?_
      refine gz_iadd (pc := 37) hX dX6_draughtOn_37 ?_
      refine gz_dup2_11 (pc := 38) hX dX6_draughtOn_38 rfl rfl ?_
      obtain ⟨g9, h⟩ := gz_gu h
      refine mz_iald (pc := 39) (c := 1051) (n := 151) hX rfl rfl g9 dX6_draughtOn_39 ?_
      refine gz_bipush (pc := 40) (v := (10 : Int32)) hX dX6_draughtOn_40 (by decide) ?_
      refine gz_isub (pc := 42) hX dX6_draughtOn_42 ?_
      obtain ⟨g10, h⟩ := gz_gu h
      obtain ⟨m11, em11, h⟩ := gz_lt h
      refine mz_iast (pc := 43) (c := 1051) (n := 151) hX rfl rfl g10 (Nat.le_of_ble_eq_true rfl) dX6_draughtOn_43 em11 ?_
      obtain rfl := Option.some.inj h
      exact hk _ _ dX6_draughtOn_44
    · replace h := gz_if' g8 h
      refine gz_aload_n (pc := 19) hX dX6_draughtOn_19 rfl 0 rfl ?_
      refine gz_iload_n (pc := 20) hX dX6_draughtOn_20 rfl 1 rfl ?_
      refine gz_iconst (pc := 21) (v := (3 : Int32)) hX dX6_draughtOn_21 (by decide) ?_
      obtain ⟨⟨⟨⟩, m13⟩, c14, h⟩ := gz_bd h
      refine mc_goesOut (pc := 22) hX c14 ⟨Nat.le_of_ble_eq_true rfl, Nat.le_of_ble_eq_true rfl⟩ (rest := []) rfl (Nat.le_of_ble_eq_true rfl) dX6_draughtOn_22 ?_
      refine gz_goto (pc := 25) (tgt := 44) hX dX6_draughtOn_25 (by decide) ?_
      obtain rfl := Option.some.inj h
      exact hk _ _ dX6_draughtOn_44
  · replace h := gz_it' g4 h
    obtain rfl := Option.some.inj h
    exact hk _ _ dX6_draughtOn_8
theorem mt_draughtOn {G : gz_G} {l : Launch} {x1 : Int32}  {m m9 : MM} (h : mf_draughtOn x1 m = some ((), m9)) : gz_Met mS G l yX6_draughtOn cX6_draughtOn 2 none (mRm 2 45) [.ref (gz_ad G 2000), .int x1] (mF m) (mF m9) none :=
  gz_ofV (plainFor_of_name mz_plain) (Nat.le_of_ble_eq_true rfl) fun X _ hX hk => wm_draughtOn hX h hk
theorem mc_draughtOn {X : gz_X} {G : gz_G} {cc : ByteArray} {nL fr lo pc : Nat} {lv : List (Nat × Value)} {rest st0 : List Value} (hX : gz_C mS X G cc nL RX6 fr lo) {x1 : Int32}  {m m9 : MM} (h : mf_draughtOn x1 m = some ((), m9)) (hroom : 2 + 1 ≤ fr ∧ 8 + (2 + 11) + 45 ≤ lo) (hst : st0 = [.int x1, .ref (gz_ad G 2000)] ++ rest) (hW : (rest.map fun v => v.category).sum ≤ 8) (hd : decode cc pc = .ok (.invokevirtual 556, 3)) (kk : gz_V mS X G nL (0, 0) (mF m9) (pc + 3) lv (rest)) : gz_V mS X G nL (0, 0) (mF m) pc lv st0 :=
  gz_callV hX mz_E (As := [.int x1]) (rest := rest) (q := (RX6, TX6, 104)) (ci := 0) (c := 2000) (mt_draughtOn (l := X.2.1) h) (lw_V q2524 q2526 qs151 q182 q2527) (n := 1) (by decide +kernel) hroom rfl rfl (by decide) rfl hst hW hd (rem := (0, 0)) kk
/-! odds(I)I -/
noncomputable def mj_X6_odds_31  (m : MM) : Option (Int32 × MM) :=
  some ((-1 : Int32), m)
theorem wb_X6_odds_31 {X : gz_X} {G : gz_G} (hX : gz_C mS X G cX6_odds 4 RX6 6 132)   {m : MM} {z : (Int32 × MM)} (h : mj_X6_odds_31  m = some z) (hk : (fun z : (Int32 × MM) => gz_kI mS X G 4 (0, 0) cX6_odds (mF z.2) z.1) z) : gz_V mS X G 4 (0, 0) (mF m) 31 [(0, .ref (gz_ad G 2000))] [] := by
  unfold mj_X6_odds_31 at h
  refine gz_iconst (pc := 31) (v := (-1 : Int32)) hX dX6_odds_31 (by decide) ?_
  obtain rfl := Option.some.inj h
  exact hk _ _ dX6_odds_32
def mP_X6_odds_54 (X : gz_X) (G : gz_G) (q : (Int32 × Int32 × Int32 × MM)) : Prop := gz_V mS X G 4 (0, 0) (mF q.2.2.2) 54 [(0, .ref (gz_ad G 2000)), (1, .int q.1), (2, .int q.2.1), (3, .int q.2.2.1)] []
noncomputable def mj_X6_odds_117 (x1 : Int32) (x2 : Int32) (x3 : Int32) (m : MM) : Option ((Int32 × Int32 × Int32 × MM) ⊕ (Int32 × MM)) :=
  ((mf_triesAnew m).bind fun (_, m2) => gz_let (x3 + (1 : Int32)) fun y4 => some (Sum.inl (x1, x2, y4, m2)))
theorem wb_X6_odds_117 {X : gz_X} {G : gz_G} (hX : gz_C mS X G cX6_odds 4 RX6 6 132) {x1 : Int32} {x2 : Int32} {x3 : Int32}  {m : MM} {z : ((Int32 × Int32 × Int32 × MM) ⊕ (Int32 × MM))} (h : mj_X6_odds_117 x1 x2 x3 m = some z) (hk : (Sum.elim (mP_X6_odds_54 X G) (fun z : (Int32 × MM) => gz_kI mS X G 4 (0, 0) cX6_odds (mF z.2) z.1)) z) : gz_V mS X G 4 (0, 0) (mF m) 117 [(0, .ref (gz_ad G 2000)), (1, .int x1), (2, .int x2), (3, .int x3)] [] := by
  unfold mj_X6_odds_117 at h
  refine gz_aload_n (pc := 117) hX dX6_odds_117 rfl 0 rfl ?_
  obtain ⟨⟨⟨⟩, m2⟩, c3, h⟩ := gz_bd h
  refine mc_triesAnew (pc := 118) hX c3 ⟨Nat.le_of_ble_eq_true rfl, Nat.le_of_ble_eq_true rfl⟩ (rest := []) rfl (Nat.le_of_ble_eq_true rfl) dX6_odds_118 ?_
  obtain ⟨y4, ey4, h⟩ := gz_lt h
  refine gz_iinc (pc := 121) (v := y4) (lw := [(3, .int y4), (0, .ref (gz_ad G 2000)), (1, .int x1), (2, .int x2)]) hX dX6_odds_121 (k := 3) rfl (by rw [ey4]; rfl) (by decide) rfl ?_
  refine gz_goto (pc := 124) (tgt := 54) hX dX6_odds_124 (by decide) ?_
  refine gz_sub (lw := [(0, .ref (gz_ad G 2000)), (1, .int x1), (2, .int x2), (3, .int y4)]) [1, 2, 3, 0] rfl ?_
  obtain rfl := Option.some.inj h
  exact hk
noncomputable def mj_X6_odds_115 (x1 : Int32) (x3 : Int32) (s0 : Int32) (s1 : Int32) (m : MM) : Option ((Int32 × Int32 × Int32 × MM) ⊕ (Int32 × MM)) :=
  gz_let ((s1 + s0)) fun y1 => (mj_X6_odds_117 x1 y1 x3 m)
theorem wb_X6_odds_115 {X : gz_X} {G : gz_G} (hX : gz_C mS X G cX6_odds 4 RX6 6 132) {x1 : Int32} {x3 : Int32} {s0 : Int32} {s1 : Int32}  {m : MM} {z : ((Int32 × Int32 × Int32 × MM) ⊕ (Int32 × MM))} (h : mj_X6_odds_115 x1 x3 s0 s1 m = some z) (hk : (Sum.elim (mP_X6_odds_54 X G) (fun z : (Int32 × MM) => gz_kI mS X G 4 (0, 0) cX6_odds (mF z.2) z.1)) z) : gz_V mS X G 4 (0, 0) (mF m) 115 [(0, .ref (gz_ad G 2000)), (1, .int x1), (3, .int x3)] [.int s0, .int s1] := by
  unfold mj_X6_odds_115 at h
  refine gz_iadd (pc := 115) hX dX6_odds_115 ?_
  obtain ⟨y1, ey1, h⟩ := gz_lt h
  refine gz_topi ey1 ?_
  refine gz_istore_n (pc := 116) (lw := [(2, .int y1), (0, .ref (gz_ad G 2000)), (1, .int x1), (3, .int x3)]) hX dX6_odds_116 rfl (by decide) rfl ?_
  refine gz_sub (lw := [(0, .ref (gz_ad G 2000)), (1, .int x1), (2, .int y1), (3, .int x3)]) [1, 2, 0, 3] rfl ?_
  exact wb_X6_odds_117 hX h hk
noncomputable def mj_X6_odds_72 (x1 : Int32) (x2 : Int32) (x3 : Int32) (m : MM) : Option ((Int32 × Int32 × Int32 × MM) ⊕ (Int32 × MM)) :=
  ((mf_hourGoes m).bind fun (_, m2) => ((mf_doesBurn x1 m2).bind fun (r4, m5) => (if r4 = (0 : Int32) then (if x3 = (-1 : Int32) then (if gz_in (11 : Int32) (12) then ((mf_thingMany m5).bind fun (r11, m12) => (mj_X6_odds_115 x1 x3 (((100 : Int32) - (m5.1 1038 (gz_ix (11 : Int32)))) * r11) x2 m12)) else none) else (if gz_in (11 : Int32) (12) then (mj_X6_odds_115 x1 x3 (m5.1 1038 (gz_ix (11 : Int32))) x2 m5) else none)) else (mj_X6_odds_117 x1 x2 x3 m5))))
theorem wb_X6_odds_72 {X : gz_X} {G : gz_G} (hX : gz_C mS X G cX6_odds 4 RX6 6 132) {x1 : Int32} {x2 : Int32} {x3 : Int32}  {m : MM} {z : ((Int32 × Int32 × Int32 × MM) ⊕ (Int32 × MM))} (h : mj_X6_odds_72 x1 x2 x3 m = some z) (hk : (Sum.elim (mP_X6_odds_54 X G) (fun z : (Int32 × MM) => gz_kI mS X G 4 (0, 0) cX6_odds (mF z.2) z.1)) z) : gz_V mS X G 4 (0, 0) (mF m) 72 [(0, .ref (gz_ad G 2000)), (1, .int x1), (2, .int x2), (3, .int x3)] [] := by
  unfold mj_X6_odds_72 at h
  refine gz_aload_n (pc := 72) hX dX6_odds_72 rfl 0 rfl ?_
  obtain ⟨⟨⟨⟩, m2⟩, c3, h⟩ := gz_bd h
  refine mc_hourGoes (pc := 73) hX c3 ⟨Nat.le_of_ble_eq_true rfl, Nat.le_of_ble_eq_true rfl⟩ (rest := []) rfl (Nat.le_of_ble_eq_true rfl) dX6_odds_73 ?_
  refine gz_aload_n (pc := 76) hX dX6_odds_76 rfl 0 rfl ?_
  refine gz_iload_n (pc := 77) hX dX6_odds_77 rfl 1 rfl ?_
  obtain ⟨⟨r4, m5⟩, c6, h⟩ := gz_bd h
  refine mc_doesBurn (pc := 78) hX c6 ⟨Nat.le_of_ble_eq_true rfl, Nat.le_of_ble_eq_true rfl⟩ (rest := []) rfl (Nat.le_of_ble_eq_true rfl) dX6_odds_78 ?_
  refine gz_if_ne (pc := 81) (tgt := 117) hX dX6_odds_81 (by decide) (fun g7 => ?_) (fun g7 => ?_)
  · replace h := gz_if' g7 h
    exact wb_X6_odds_117 hX h hk
  · replace h := gz_it' g7 h
    refine gz_iload_n (pc := 84) hX dX6_odds_84 rfl 2 rfl ?_
    refine gz_iload_n (pc := 85) hX dX6_odds_85 rfl 3 rfl ?_
    refine gz_iconst (pc := 86) (v := (-1 : Int32)) hX dX6_odds_86 (by decide) ?_
    refine gz_icmp_ne (pc := 87) (tgt := 108) hX dX6_odds_87 (by decide) (fun g8 => ?_) (fun g8 => ?_)
    · replace h := gz_if' g8 h
      refine gz_aload_n (pc := 108) hX dX6_odds_108 rfl 0 rfl ?_
      refine mg_37 (pc := 109) hX dX6_odds_109 ?_
      refine gz_bipush (pc := 112) (v := (11 : Int32)) hX dX6_odds_112 (by decide) ?_
      obtain ⟨g9, h⟩ := gz_gu h
      refine mz_iald (pc := 114) (c := 1038) (n := 12) hX rfl rfl g9 dX6_odds_114 ?_
      refine gz_sub (lw := [(0, .ref (gz_ad G 2000)), (1, .int x1), (3, .int x3)]) [0, 1, 3] rfl ?_
      exact wb_X6_odds_115 hX h hk
    · replace h := gz_it' g8 h
      refine gz_bipush (pc := 90) (v := (100 : Int32)) hX dX6_odds_90 (by decide) ?_
      refine gz_aload_n (pc := 92) hX dX6_odds_92 rfl 0 rfl ?_
      refine mg_37 (pc := 93) hX dX6_odds_93 ?_
      refine gz_bipush (pc := 96) (v := (11 : Int32)) hX dX6_odds_96 (by decide) ?_
      obtain ⟨g10, h⟩ := gz_gu h
      refine mz_iald (pc := 98) (c := 1038) (n := 12) hX rfl rfl g10 dX6_odds_98 ?_
      refine gz_isub (pc := 99) hX dX6_odds_99 ?_
      refine gz_aload_n (pc := 100) hX dX6_odds_100 rfl 0 rfl ?_
      obtain ⟨⟨r11, m12⟩, c13, h⟩ := gz_bd h
      refine mc_thingMany (pc := 101) hX c13 ⟨Nat.le_of_ble_eq_true rfl, Nat.le_of_ble_eq_true rfl⟩ (rest := [.int ((100 : Int32) - (m5.1 1038 (gz_ix (11 : Int32)))), .int x2]) rfl (Nat.le_of_ble_eq_true rfl) dX6_odds_101 ?_
      refine gz_imul (pc := 104) hX dX6_odds_104 ?_
      refine gz_goto (pc := 105) (tgt := 115) hX dX6_odds_105 (by decide) ?_
      refine gz_sub (lw := [(0, .ref (gz_ad G 2000)), (1, .int x1), (3, .int x3)]) [0, 1, 3] rfl ?_
      exact wb_X6_odds_115 hX h hk
noncomputable def mb_X6_odds_54 (x1 : Int32) (x2 : Int32) (x3 : Int32) (m : MM) : Option ((Int32 × Int32 × Int32 × MM) ⊕ (Int32 × MM)) :=
  ((mf_thingMany m).bind fun (r1, m2) => (if r1 ≤ x3 then ((mf_takesBack m2).bind fun (_, m6) => some (Sum.inr (x2, m6))) else (if x3 = (-1 : Int32) then (mj_X6_odds_72 x1 x2 x3 m2) else ((mf_draughtOn x3 m2).bind fun (_, m10) => (mj_X6_odds_72 x1 x2 x3 m10)))))
theorem wb_X6_odds_54 {X : gz_X} {G : gz_G} (hX : gz_C mS X G cX6_odds 4 RX6 6 132) {x1 : Int32} {x2 : Int32} {x3 : Int32}  {m : MM} {z : ((Int32 × Int32 × Int32 × MM) ⊕ (Int32 × MM))} (h : mb_X6_odds_54 x1 x2 x3 m = some z) (hk : (Sum.elim (mP_X6_odds_54 X G) (fun z : (Int32 × MM) => gz_kI mS X G 4 (0, 0) cX6_odds (mF z.2) z.1)) z) : gz_V mS X G 4 (0, 0) (mF m) 54 [(0, .ref (gz_ad G 2000)), (1, .int x1), (2, .int x2), (3, .int x3)] [] := by
  unfold mb_X6_odds_54 at h
  refine gz_iload_n (pc := 54) hX dX6_odds_54 rfl 3 rfl ?_
  refine gz_aload_n (pc := 55) hX dX6_odds_55 rfl 0 rfl ?_
  obtain ⟨⟨r1, m2⟩, c3, h⟩ := gz_bd h
  refine mc_thingMany (pc := 56) hX c3 ⟨Nat.le_of_ble_eq_true rfl, Nat.le_of_ble_eq_true rfl⟩ (rest := [.int x3]) rfl (Nat.le_of_ble_eq_true rfl) dX6_odds_56 ?_
  refine gz_icmp_ge (pc := 59) (tgt := 127) hX dX6_odds_59 (by decide) (fun g4 => ?_) (fun g4 => ?_)
  · replace h := gz_it' g4 h
    refine gz_aload_n (pc := 127) hX dX6_odds_127 rfl 0 rfl ?_
    obtain ⟨⟨⟨⟩, m6⟩, c7, h⟩ := gz_bd h
    refine mc_takesBack (pc := 128) hX c7 ⟨Nat.le_of_ble_eq_true rfl, Nat.le_of_ble_eq_true rfl⟩ (rest := []) rfl (Nat.le_of_ble_eq_true rfl) dX6_odds_128 ?_
    refine gz_iload_n (pc := 131) hX dX6_odds_131 rfl 2 rfl ?_
    obtain rfl := Option.some.inj h
    exact hk _ _ dX6_odds_132
  · replace h := gz_if' g4 h
    refine gz_iload_n (pc := 62) hX dX6_odds_62 rfl 3 rfl ?_
    refine gz_iconst (pc := 63) (v := (-1 : Int32)) hX dX6_odds_63 (by decide) ?_
    refine gz_icmp_eq (pc := 64) (tgt := 72) hX dX6_odds_64 (by decide) (fun g8 => ?_) (fun g8 => ?_)
    · replace h := gz_it' g8 h
      exact wb_X6_odds_72 hX h hk
    · replace h := gz_if' g8 h
      refine gz_aload_n (pc := 67) hX dX6_odds_67 rfl 0 rfl ?_
      refine gz_iload_n (pc := 68) hX dX6_odds_68 rfl 3 rfl ?_
      obtain ⟨⟨⟨⟩, m10⟩, c11, h⟩ := gz_bd h
      refine mc_draughtOn (pc := 69) hX c11 ⟨Nat.le_of_ble_eq_true rfl, Nat.le_of_ble_eq_true rfl⟩ (rest := []) rfl (Nat.le_of_ble_eq_true rfl) dX6_odds_69 ?_
      exact wb_X6_odds_72 hX h hk
noncomputable def ml_X6_odds_54 (x1 : Int32) (x2 : Int32) (x3 : Int32) (m : MM) : Option (Int32 × MM) := gz_loop (fun q : (Int32 × Int32 × Int32 × MM) => mb_X6_odds_54 q.1 q.2.1 q.2.2.1 q.2.2.2) (x1, x2, x3, m)
theorem wl_X6_odds_54 {X : gz_X} {G : gz_G} (hX : gz_C mS X G cX6_odds 4 RX6 6 132) {x1 : Int32} {x2 : Int32} {x3 : Int32}  {m : MM} {z : (Int32 × MM)} (h : ml_X6_odds_54 x1 x2 x3 m = some z) (hk : (fun z : (Int32 × MM) => gz_kI mS X G 4 (0, 0) cX6_odds (mF z.2) z.1) z) : gz_V mS X G 4 (0, 0) (mF m) 54 [(0, .ref (gz_ad G 2000)), (1, .int x1), (2, .int x2), (3, .int x3)] [] := by
  have hp : mP_X6_odds_54 X G (x1, x2, x3, m) := gz_loop_ind (fun q z hz hkz => wb_X6_odds_54 hX  hz hkz) h hk
  exact hp
noncomputable def mj_X6_odds_14 (x1 : Int32) (m : MM) : Option (Int32 × MM) :=
  ((mf_thingMany m).bind fun (r1, m2) => (if r1 = (0 : Int32) then (mj_X6_odds_31  m2) else ((mf_isAhead (1 : Int32) (1 : Int32) (1 : Int32) m2).bind fun (r5, m6) => (if r5 = (0 : Int32) then (mj_X6_odds_31  m6) else (if x1 = (-1 : Int32) then ((mf_thingMany m6).bind fun (r13, m14) => some (((100 : Int32) * r13), m14)) else ((mf_putsAside m6).bind fun (_, m11) => (ml_X6_odds_54 x1 (0 : Int32) (-1 : Int32) m11)))))))
theorem wb_X6_odds_14 {X : gz_X} {G : gz_G} (hX : gz_C mS X G cX6_odds 4 RX6 6 132) {x1 : Int32}  {m : MM} {z : (Int32 × MM)} (h : mj_X6_odds_14 x1 m = some z) (hk : (fun z : (Int32 × MM) => gz_kI mS X G 4 (0, 0) cX6_odds (mF z.2) z.1) z) : gz_V mS X G 4 (0, 0) (mF m) 14 [(0, .ref (gz_ad G 2000)), (1, .int x1)] [] := by
  unfold mj_X6_odds_14 at h
  refine gz_aload_n (pc := 14) hX dX6_odds_14 rfl 0 rfl ?_
  obtain ⟨⟨r1, m2⟩, c3, h⟩ := gz_bd h
  refine mc_thingMany (pc := 15) hX c3 ⟨Nat.le_of_ble_eq_true rfl, Nat.le_of_ble_eq_true rfl⟩ (rest := []) rfl (Nat.le_of_ble_eq_true rfl) dX6_odds_15 ?_
  refine gz_if_eq (pc := 18) (tgt := 31) hX dX6_odds_18 (by decide) (fun g4 => ?_) (fun g4 => ?_)
  · replace h := gz_it' g4 h
    refine gz_sub (lw := [(0, .ref (gz_ad G 2000))]) [0] rfl ?_
    exact wb_X6_odds_31 hX h hk
  · replace h := gz_if' g4 h
    refine gz_aload_n (pc := 21) hX dX6_odds_21 rfl 0 rfl ?_
    refine gz_iconst (pc := 22) (v := (1 : Int32)) hX dX6_odds_22 (by decide) ?_
    refine gz_iconst (pc := 23) (v := (1 : Int32)) hX dX6_odds_23 (by decide) ?_
    refine gz_iconst (pc := 24) (v := (1 : Int32)) hX dX6_odds_24 (by decide) ?_
    obtain ⟨⟨r5, m6⟩, c7, h⟩ := gz_bd h
    refine mc_isAhead (pc := 25) hX c7 ⟨Nat.le_of_ble_eq_true rfl, Nat.le_of_ble_eq_true rfl⟩ (rest := []) rfl (Nat.le_of_ble_eq_true rfl) dX6_odds_25 ?_
    refine gz_if_ne (pc := 28) (tgt := 33) hX dX6_odds_28 (by decide) (fun g8 => ?_) (fun g8 => ?_)
    · replace h := gz_if' g8 h
      refine gz_iload_n (pc := 33) hX dX6_odds_33 rfl 1 rfl ?_
      refine gz_iconst (pc := 34) (v := (-1 : Int32)) hX dX6_odds_34 (by decide) ?_
      refine gz_icmp_ne (pc := 35) (tgt := 46) hX dX6_odds_35 (by decide) (fun g9 => ?_) (fun g9 => ?_)
      · replace h := gz_if' g9 h
        refine gz_iconst (pc := 46) (v := (0 : Int32)) hX dX6_odds_46 (by decide) ?_
        refine gz_istore_n (pc := 47) (lw := [(2, .int (0 : Int32)), (0, .ref (gz_ad G 2000)), (1, .int x1)]) hX dX6_odds_47 rfl (by decide) rfl ?_
        refine gz_aload_n (pc := 48) hX dX6_odds_48 rfl 1 rfl ?_
        obtain ⟨⟨⟨⟩, m11⟩, c12, h⟩ := gz_bd h
        refine mc_putsAside (pc := 49) hX c12 ⟨Nat.le_of_ble_eq_true rfl, Nat.le_of_ble_eq_true rfl⟩ (rest := []) rfl (Nat.le_of_ble_eq_true rfl) dX6_odds_49 ?_
        refine gz_iconst (pc := 52) (v := (-1 : Int32)) hX dX6_odds_52 (by decide) ?_
        refine gz_istore_n (pc := 53) (lw := [(3, .int (-1 : Int32)), (2, .int (0 : Int32)), (0, .ref (gz_ad G 2000)), (1, .int x1)]) hX dX6_odds_53 rfl (by decide) rfl ?_
        refine gz_sub (lw := [(0, .ref (gz_ad G 2000)), (1, .int x1), (2, .int (0 : Int32)), (3, .int (-1 : Int32))]) [2, 3, 1, 0] rfl ?_
        exact wl_X6_odds_54 hX h hk
      · replace h := gz_it' g9 h
        refine gz_bipush (pc := 38) (v := (100 : Int32)) hX dX6_odds_38 (by decide) ?_
        refine gz_aload_n (pc := 40) hX dX6_odds_40 rfl 0 rfl ?_
        obtain ⟨⟨r13, m14⟩, c15, h⟩ := gz_bd h
        refine mc_thingMany (pc := 41) hX c15 ⟨Nat.le_of_ble_eq_true rfl, Nat.le_of_ble_eq_true rfl⟩ (rest := [.int (100 : Int32)]) rfl (Nat.le_of_ble_eq_true rfl) dX6_odds_41 ?_
        refine gz_imul (pc := 44) hX dX6_odds_44 ?_
        obtain rfl := Option.some.inj h
        exact hk _ _ dX6_odds_45
    · replace h := gz_it' g8 h
      refine gz_sub (lw := [(0, .ref (gz_ad G 2000))]) [0] rfl ?_
      exact wb_X6_odds_31 hX h hk
noncomputable def mf_odds (x1 : Int32) (m : MM) : Option (Int32 × MM) :=
  (if x1 = (-1 : Int32) then (mj_X6_odds_14 x1 m) else ((mf_isThing (x1.toInt64) m).bind fun (r2, m3) => (if r2 = (0 : Int32) then (mj_X6_odds_31  m3) else (mj_X6_odds_14 x1 m3))))
theorem wm_odds {X : gz_X} {G : gz_G} (hX : gz_C mS X G cX6_odds 4 RX6 6 132) {x1 : Int32}  {m : MM} {z : (Int32 × MM)} (h : mf_odds x1 m = some z) (hk : (fun z : (Int32 × MM) => gz_kI mS X G 4 (0, 0) cX6_odds (mF z.2) z.1) z) : gz_V mS X G 4 (0, 0) (mF m) 0 [(0, .ref (gz_ad G 2000)), (1, .int x1)] [] := by
  unfold mf_odds at h
  refine gz_iload_n (pc := 0) hX dX6_odds_0 rfl 1 rfl ?_
  refine gz_iconst (pc := 1) (v := (-1 : Int32)) hX dX6_odds_1 (by decide) ?_
  refine gz_icmp_eq (pc := 2) (tgt := 14) hX dX6_odds_2 (by decide) (fun g1 => ?_) (fun g1 => ?_)
  · replace h := gz_it' g1 h
    exact wb_X6_odds_14 hX h hk
  · replace h := gz_if' g1 h
    refine gz_aload_n (pc := 5) hX dX6_odds_5 rfl 0 rfl ?_
    refine gz_iload_n (pc := 6) hX dX6_odds_6 rfl 1 rfl ?_
    refine gz_i2l (pc := 7) hX dX6_odds_7 ?_
    obtain ⟨⟨r2, m3⟩, c4, h⟩ := gz_bd h
    refine mc_isThing (pc := 8) hX c4 ⟨Nat.le_of_ble_eq_true rfl, Nat.le_of_ble_eq_true rfl⟩ (rest := []) rfl (Nat.le_of_ble_eq_true rfl) dX6_odds_8 ?_
    refine gz_if_eq (pc := 11) (tgt := 31) hX dX6_odds_11 (by decide) (fun g5 => ?_) (fun g5 => ?_)
    · replace h := gz_it' g5 h
      refine gz_sub (lw := [(0, .ref (gz_ad G 2000))]) [0] rfl ?_
      exact wb_X6_odds_31 hX h hk
    · replace h := gz_if' g5 h
      exact wb_X6_odds_14 hX h hk
theorem mt_odds {G : gz_G} {l : Launch} {x1 : Int32}  {m m9 : MM} {r : Int32} (h : mf_odds x1 m = some (r, m9)) : gz_Met mS G l yX6_odds cX6_odds 4 (some .int) (mRm 6 132) [.ref (gz_ad G 2000), .int x1] (mF m) (mF m9) (some (.int r)) :=
  gz_ofI (plainFor_of_name mz_plain) (Nat.le_of_ble_eq_true rfl) fun X _ hX hk => wm_odds hX h hk
/-! refuses(I)I -/
noncomputable def mf_refuses (x1 : Int32) (m : MM) : Option (Int32 × MM) :=
  (if gz_in x1 (6) then (if gz_in x1 (6) then gz_let (msI m 1010 (gz_ix x1) ((m.1 1010 (gz_ix x1)) + (1 : Int32))) fun m3 => some ((-1 : Int32), m3) else none) else none)
theorem wm_refuses {X : gz_X} {G : gz_G} (hX : gz_C mS X G cX6_refuses 2 RX6 0 0) {x1 : Int32}  {m : MM} {z : (Int32 × MM)} (h : mf_refuses x1 m = some z) (hk : (fun z : (Int32 × MM) => gz_kI mS X G 2 (0, 0) cX6_refuses (mF z.2) z.1) z) : gz_V mS X G 2 (0, 0) (mF m) 0 [(0, .ref (gz_ad G 2000)), (1, .int x1)] [] := by
  unfold mf_refuses at h
  refine gz_aload_n (pc := 0) hX dX6_refuses_0 rfl 0 rfl ?_
  refine mg_9 (pc := 1) hX dX6_refuses_1 ?_
  refine gz_iload_n (pc := 4) hX dX6_refuses_4 rfl 1 rfl ?_
  refine gz_dup2_11 (pc := 5) hX dX6_refuses_5 rfl rfl ?_
  obtain ⟨g1, h⟩ := gz_gu h
  refine mz_iald (pc := 6) (c := 1010) (n := 6) hX rfl rfl g1 dX6_refuses_6 ?_
  refine gz_iconst (pc := 7) (v := (1 : Int32)) hX dX6_refuses_7 (by decide) ?_
  refine gz_iadd (pc := 8) hX dX6_refuses_8 ?_
  obtain ⟨g2, h⟩ := gz_gu h
  obtain ⟨m3, em3, h⟩ := gz_lt h
  refine mz_iast (pc := 9) (c := 1010) (n := 6) hX rfl rfl g2 (Nat.le_of_ble_eq_true rfl) dX6_refuses_9 em3 ?_
  refine gz_iconst (pc := 10) (v := (-1 : Int32)) hX dX6_refuses_10 (by decide) ?_
  obtain rfl := Option.some.inj h
  exact hk _ _ dX6_refuses_11
theorem mt_refuses {G : gz_G} {l : Launch} {x1 : Int32}  {m m9 : MM} {r : Int32} (h : mf_refuses x1 m = some (r, m9)) : gz_Met mS G l yX6_refuses cX6_refuses 2 (some .int) (mRm 0 0) [.ref (gz_ad G 2000), .int x1] (mF m) (mF m9) (some (.int r)) :=
  gz_ofI (plainFor_of_name mz_plain) (Nat.le_of_ble_eq_true rfl) fun X _ hX hk => wm_refuses hX h hk
theorem mc_refuses {X : gz_X} {G : gz_G} {cc : ByteArray} {nL fr lo pc : Nat} {lv : List (Nat × Value)} {rest st0 : List Value} (hX : gz_C mS X G cc nL RX6 fr lo) {x1 : Int32}  {m m9 : MM} {r : Int32} (h : mf_refuses x1 m = some (r, m9)) (hroom : 0 + 1 ≤ fr ∧ 8 + (2 + 11) + 0 ≤ lo) (hst : st0 = [.int x1, .ref (gz_ad G 2000)] ++ rest) (hW : (rest.map fun v => v.category).sum ≤ 8) (hd : decode cc pc = .ok (.invokevirtual 559, 3)) (kk : gz_V mS X G nL (0, 0) (mF m9) (pc + 3) lv (.int r :: rest)) : gz_V mS X G nL (0, 0) (mF m) pc lv st0 :=
  gz_callV hX mz_E (As := [.int x1]) (rest := rest) (q := (RX6, TX6, 104)) (ci := 0) (c := 2000) (mt_refuses (l := X.2.1) h) (lw_V q2532 q2534 qs152 q182 q2535) (n := 1) (by decide +kernel) hroom rfl rfl (by decide) rfl hst hW hd (rem := (0, 0)) kk
/-! see()I -/
def mP_X6_see_36 (X : gz_X) (G : gz_G) (q : (Int32 × Int32 × Int32 × MM)) : Prop := gz_V mS X G 4 (0, 0) (mF q.2.2.2) 36 [(0, .ref (gz_ad G 2000)), (1, .int q.1), (2, .int q.2.1), (3, .int q.2.2.1)] []
def mP_X6_see_109 (X : gz_X) (G : gz_G) (q : (Int32 × Int32 × MM)) : Prop := gz_V mS X G 4 (0, 0) (mF q.2.2) 109 [(0, .ref (gz_ad G 2000)), (1, .int q.1), (3, .int q.2.1)] []
noncomputable def mb_X6_see_109 (x1 : Int32) (x3 : Int32) (m : MM) : Option ((Int32 × Int32 × MM) ⊕ (Int32 × MM)) :=
  (if x1 ≤ x3 then gz_let (msI m 2000 64 (x1 / (3 : Int32))) fun m2 => some (Sum.inr ((m2.1 2000 64), m2)) else (if gz_in x3 (1600) then (if gz_in x3 (48) then gz_let (msI m 1066 (gz_ix x3) (m.1 1001 (gz_ix x3))) fun m5 => gz_let (x3 + (1 : Int32)) fun y6 => some (Sum.inl (x1, y6, m5)) else none) else none))
theorem wb_X6_see_109 {X : gz_X} {G : gz_G} (hX : gz_C mS X G cX6_see 4 RX6 2 47) {x1 : Int32} {x3 : Int32}  {m : MM} {z : ((Int32 × Int32 × MM) ⊕ (Int32 × MM))} (h : mb_X6_see_109 x1 x3 m = some z) (hk : (Sum.elim (mP_X6_see_109 X G) (fun z : (Int32 × MM) => gz_kI mS X G 4 (0, 0) cX6_see (mF z.2) z.1)) z) : gz_V mS X G 4 (0, 0) (mF m) 109 [(0, .ref (gz_ad G 2000)), (1, .int x1), (3, .int x3)] [] := by
  unfold mb_X6_see_109 at h
  refine gz_iload_n (pc := 109) hX dX6_see_109 rfl 2 rfl ?_
  refine gz_iload_n (pc := 110) hX dX6_see_110 rfl 1 rfl ?_
  refine gz_icmp_ge (pc := 111) (tgt := 132) hX dX6_see_111 (by decide) (fun g1 => ?_) (fun g1 => ?_)
  · replace h := gz_it' g1 h
    refine gz_aload_n (pc := 132) hX dX6_see_132 rfl 0 rfl ?_
    refine gz_iload_n (pc := 133) hX dX6_see_133 rfl 1 rfl ?_
    refine gz_iconst (pc := 134) (v := (3 : Int32)) hX dX6_see_134 (by decide) ?_
    refine gz_idiv (pc := 135) hX dX6_see_135 (by decide) ?_
    obtain ⟨m2, em2, h⟩ := gz_lt h
    refine mp_64 (pc := 136) hX dX6_see_136 em2 ?_
    refine gz_aload_n (pc := 139) hX dX6_see_139 rfl 0 rfl ?_
    refine mg_64 (pc := 140) hX dX6_see_140 ?_
    obtain rfl := Option.some.inj h
    exact hk _ _ dX6_see_143
  · replace h := gz_if' g1 h
    refine gz_aload_n (pc := 114) hX dX6_see_114 rfl 0 rfl ?_
    refine mg_65 (pc := 115) hX dX6_see_115 ?_
    refine gz_iload_n (pc := 118) hX dX6_see_118 rfl 2 rfl ?_
    refine gz_aload_n (pc := 119) hX dX6_see_119 rfl 0 rfl ?_
    refine mg_0 (pc := 120) hX dX6_see_120 ?_
    refine gz_iload_n (pc := 123) hX dX6_see_123 rfl 2 rfl ?_
    obtain ⟨g3, h⟩ := gz_gu h
    refine mz_iald (pc := 124) (c := 1001) (n := 1600) hX rfl rfl g3 dX6_see_124 ?_
    obtain ⟨g4, h⟩ := gz_gu h
    obtain ⟨m5, em5, h⟩ := gz_lt h
    refine mz_iast (pc := 125) (c := 1066) (n := 48) hX rfl rfl g4 (Nat.le_of_ble_eq_true rfl) dX6_see_125 em5 ?_
    obtain ⟨y6, ey6, h⟩ := gz_lt h
    refine gz_iinc (pc := 126) (v := y6) (lw := [(3, .int y6), (0, .ref (gz_ad G 2000)), (1, .int x1)]) hX dX6_see_126 (k := 2) rfl (by rw [ey6]; rfl) (by decide) rfl ?_
    refine gz_goto (pc := 129) (tgt := 109) hX dX6_see_129 (by decide) ?_
    refine gz_sub (lw := [(0, .ref (gz_ad G 2000)), (1, .int x1), (3, .int y6)]) [1, 2, 0] rfl ?_
    obtain rfl := Option.some.inj h
    exact hk
noncomputable def ml_X6_see_109 (x1 : Int32) (x3 : Int32) (m : MM) : Option (Int32 × MM) := gz_loop (fun q : (Int32 × Int32 × MM) => mb_X6_see_109 q.1 q.2.1 q.2.2) (x1, x3, m)
theorem wl_X6_see_109 {X : gz_X} {G : gz_G} (hX : gz_C mS X G cX6_see 4 RX6 2 47) {x1 : Int32} {x3 : Int32}  {m : MM} {z : (Int32 × MM)} (h : ml_X6_see_109 x1 x3 m = some z) (hk : (fun z : (Int32 × MM) => gz_kI mS X G 4 (0, 0) cX6_see (mF z.2) z.1) z) : gz_V mS X G 4 (0, 0) (mF m) 109 [(0, .ref (gz_ad G 2000)), (1, .int x1), (3, .int x3)] [] := by
  have hp : mP_X6_see_109 X G (x1, x3, m) := gz_loop_ind (fun q z hz hkz => wb_X6_see_109 hX  hz hkz) h hk
  exact hp
noncomputable def mj_X6_see_97 (x1 : Int32) (x2 : Int32) (m : MM) : Option (Int32 × MM) :=
  (if x2 = (0 : Int32) then ((mf_refuses (1 : Int32) m).bind fun (r2, m3) => some (r2, m3)) else (ml_X6_see_109 x1 (0 : Int32) m))
theorem wb_X6_see_97 {X : gz_X} {G : gz_G} (hX : gz_C mS X G cX6_see 4 RX6 2 47) {x1 : Int32} {x2 : Int32}  {m : MM} {z : (Int32 × MM)} (h : mj_X6_see_97 x1 x2 m = some z) (hk : (fun z : (Int32 × MM) => gz_kI mS X G 4 (0, 0) cX6_see (mF z.2) z.1) z) : gz_V mS X G 4 (0, 0) (mF m) 97 [(0, .ref (gz_ad G 2000)), (1, .int x1), (2, .int x2)] [] := by
  unfold mj_X6_see_97 at h
  refine gz_iload_n (pc := 97) hX dX6_see_97 rfl 2 rfl ?_
  refine gz_if_ne (pc := 98) (tgt := 107) hX dX6_see_98 (by decide) (fun g1 => ?_) (fun g1 => ?_)
  · replace h := gz_if' g1 h
    refine gz_iconst (pc := 107) (v := (0 : Int32)) hX dX6_see_107 (by decide) ?_
    refine gz_istore_n (pc := 108) (lw := [(3, .int (0 : Int32)), (0, .ref (gz_ad G 2000)), (1, .int x1), (2, .int x2)]) hX dX6_see_108 rfl (by decide) rfl ?_
    refine gz_sub (lw := [(0, .ref (gz_ad G 2000)), (1, .int x1), (3, .int (0 : Int32))]) [1, 2, 0] rfl ?_
    exact wl_X6_see_109 hX h hk
  · replace h := gz_it' g1 h
    refine gz_aload_n (pc := 101) hX dX6_see_101 rfl 0 rfl ?_
    refine gz_iconst (pc := 102) (v := (1 : Int32)) hX dX6_see_102 (by decide) ?_
    obtain ⟨⟨r2, m3⟩, c4, h⟩ := gz_bd h
    refine mc_refuses (pc := 103) hX c4 ⟨Nat.le_of_ble_eq_true rfl, Nat.le_of_ble_eq_true rfl⟩ (rest := []) rfl (Nat.le_of_ble_eq_true rfl) dX6_see_103 ?_
    obtain rfl := Option.some.inj h
    exact hk _ _ dX6_see_106
noncomputable def mj_X6_see_90 (x1 : Int32) (x3 : Int32) (s0 : Int32) (m : MM) : Option ((Int32 × Int32 × Int32 × MM) ⊕ (Int32 × MM)) :=
  gz_let (x3 + (3 : Int32)) fun y1 => some (Sum.inl (x1, s0, y1, m))
theorem wb_X6_see_90 {X : gz_X} {G : gz_G} (hX : gz_C mS X G cX6_see 4 RX6 2 47) {x1 : Int32} {x3 : Int32} {s0 : Int32}  {m : MM} {z : ((Int32 × Int32 × Int32 × MM) ⊕ (Int32 × MM))} (h : mj_X6_see_90 x1 x3 s0 m = some z) (hk : (Sum.elim (mP_X6_see_36 X G) (fun z : (Int32 × MM) => gz_kI mS X G 4 (0, 0) cX6_see (mF z.2) z.1)) z) : gz_V mS X G 4 (0, 0) (mF m) 90 [(0, .ref (gz_ad G 2000)), (1, .int x1), (3, .int x3)] [.int s0] := by
  unfold mj_X6_see_90 at h
  refine gz_istore_n (pc := 90) (lw := [(2, .int s0), (0, .ref (gz_ad G 2000)), (1, .int x1), (3, .int x3)]) hX dX6_see_90 rfl (by decide) rfl ?_
  obtain ⟨y1, ey1, h⟩ := gz_lt h
  refine gz_iinc (pc := 91) (v := y1) (lw := [(3, .int y1), (2, .int s0), (0, .ref (gz_ad G 2000)), (1, .int x1)]) hX dX6_see_91 (k := 3) rfl (by rw [ey1]; rfl) (by decide) rfl ?_
  refine gz_goto (pc := 94) (tgt := 36) hX dX6_see_94 (by decide) ?_
  refine gz_sub (lw := [(0, .ref (gz_ad G 2000)), (1, .int x1), (2, .int s0), (3, .int y1)]) [2, 3, 1, 0] rfl ?_
  obtain rfl := Option.some.inj h
  exact hk
noncomputable def mj_X6_see_89 (x1 : Int32) (x3 : Int32) (m : MM) : Option ((Int32 × Int32 × Int32 × MM) ⊕ (Int32 × MM)) :=
  (mj_X6_see_90 x1 x3 (0 : Int32) m)
theorem wb_X6_see_89 {X : gz_X} {G : gz_G} (hX : gz_C mS X G cX6_see 4 RX6 2 47) {x1 : Int32} {x3 : Int32}  {m : MM} {z : ((Int32 × Int32 × Int32 × MM) ⊕ (Int32 × MM))} (h : mj_X6_see_89 x1 x3 m = some z) (hk : (Sum.elim (mP_X6_see_36 X G) (fun z : (Int32 × MM) => gz_kI mS X G 4 (0, 0) cX6_see (mF z.2) z.1)) z) : gz_V mS X G 4 (0, 0) (mF m) 89 [(0, .ref (gz_ad G 2000)), (1, .int x1), (3, .int x3)] [] := by
  unfold mj_X6_see_89 at h
  refine gz_iconst (pc := 89) (v := (0 : Int32)) hX dX6_see_89 (by decide) ?_
  exact wb_X6_see_90 hX h hk
noncomputable def mb_X6_see_36 (x1 : Int32) (x2 : Int32) (x3 : Int32) (m : MM) : Option ((Int32 × Int32 × Int32 × MM) ⊕ (Int32 × MM)) :=
  (if x1 ≤ x3 then (Option.map Sum.inr (mj_X6_see_97 x1 x2 m)) else (if x2 = (0 : Int32) then (Option.map Sum.inr (mj_X6_see_97 x1 x2 m)) else (if gz_in x3 (1600) then (if (30 : Int32) < (m.1 1001 (gz_ix x3)) then (mj_X6_see_89 x1 x3 m) else (if gz_in (x3 + (1 : Int32)) (1600) then ((mf_isThing ((m.1 1001 (gz_ix (x3 + (1 : Int32)))).toInt64) m).bind fun (r6, m7) => (if r6 = (0 : Int32) then (mj_X6_see_89 x1 x3 m7) else (if gz_in (x3 + (2 : Int32)) (1600) then (if (99 : Int32) < (m7.1 1001 (gz_ix (x3 + (2 : Int32)))) then (mj_X6_see_89 x1 x3 m7) else (mj_X6_see_90 x1 x3 (1 : Int32) m7)) else none))) else none)) else none)))
theorem wb_X6_see_36 {X : gz_X} {G : gz_G} (hX : gz_C mS X G cX6_see 4 RX6 2 47) {x1 : Int32} {x2 : Int32} {x3 : Int32}  {m : MM} {z : ((Int32 × Int32 × Int32 × MM) ⊕ (Int32 × MM))} (h : mb_X6_see_36 x1 x2 x3 m = some z) (hk : (Sum.elim (mP_X6_see_36 X G) (fun z : (Int32 × MM) => gz_kI mS X G 4 (0, 0) cX6_see (mF z.2) z.1)) z) : gz_V mS X G 4 (0, 0) (mF m) 36 [(0, .ref (gz_ad G 2000)), (1, .int x1), (2, .int x2), (3, .int x3)] [] := by
  unfold mb_X6_see_36 at h
  refine gz_iload_n (pc := 36) hX dX6_see_36 rfl 3 rfl ?_
  refine gz_iload_n (pc := 37) hX dX6_see_37 rfl 1 rfl ?_
  refine gz_icmp_ge (pc := 38) (tgt := 97) hX dX6_see_38 (by decide) (fun g1 => ?_) (fun g1 => ?_)
  · replace h := gz_it' g1 h
    refine gz_sub (lw := [(0, .ref (gz_ad G 2000)), (1, .int x1), (2, .int x2)]) [0, 1, 2] rfl ?_
    obtain ⟨z0, hm0, rfl⟩ := gz_mp h
    exact wb_X6_see_97 hX hm0 hk
  · replace h := gz_if' g1 h
    refine gz_iload_n (pc := 41) hX dX6_see_41 rfl 2 rfl ?_
    refine gz_if_eq (pc := 42) (tgt := 97) hX dX6_see_42 (by decide) (fun g2 => ?_) (fun g2 => ?_)
    · replace h := gz_it' g2 h
      refine gz_sub (lw := [(0, .ref (gz_ad G 2000)), (1, .int x1), (2, .int x2)]) [0, 1, 2] rfl ?_
      obtain ⟨z0, hm0, rfl⟩ := gz_mp h
      exact wb_X6_see_97 hX hm0 hk
    · replace h := gz_if' g2 h
      refine gz_aload_n (pc := 45) hX dX6_see_45 rfl 0 rfl ?_
      refine mg_0 (pc := 46) hX dX6_see_46 ?_
      refine gz_iload_n (pc := 49) hX dX6_see_49 rfl 3 rfl ?_
      obtain ⟨g3, h⟩ := gz_gu h
      refine mz_iald (pc := 50) (c := 1001) (n := 1600) hX rfl rfl g3 dX6_see_50 ?_
      refine gz_bipush (pc := 51) (v := (30 : Int32)) hX dX6_see_51 (by decide) ?_
      refine gz_icmp_gt (pc := 53) (tgt := 89) hX dX6_see_53 (by decide) (fun g4 => ?_) (fun g4 => ?_)
      · replace h := gz_it' g4 h
        refine gz_sub (lw := [(0, .ref (gz_ad G 2000)), (1, .int x1), (3, .int x3)]) [0, 1, 3] rfl ?_
        exact wb_X6_see_89 hX h hk
      · replace h := gz_if' g4 h
        refine gz_aload_n (pc := 56) hX dX6_see_56 rfl 0 rfl ?_
        refine gz_aload_n (pc := 57) hX dX6_see_57 rfl 0 rfl ?_
        refine mg_0 (pc := 58) hX dX6_see_58 ?_
        refine gz_iload_n (pc := 61) hX dX6_see_61 rfl 3 rfl ?_
        refine gz_iconst (pc := 62) (v := (1 : Int32)) hX dX6_see_62 (by decide) ?_
        refine gz_iadd (pc := 63) hX dX6_see_63 ?_
        obtain ⟨g5, h⟩ := gz_gu h
        refine mz_iald (pc := 64) (c := 1001) (n := 1600) hX rfl rfl g5 dX6_see_64 ?_
        refine gz_i2l (pc := 65) hX dX6_see_65 ?_
        obtain ⟨⟨r6, m7⟩, c8, h⟩ := gz_bd h
        refine mc_isThing (pc := 66) hX c8 ⟨Nat.le_of_ble_eq_true rfl, Nat.le_of_ble_eq_true rfl⟩ (rest := []) rfl (Nat.le_of_ble_eq_true rfl) dX6_see_66 ?_
        refine gz_if_eq (pc := 69) (tgt := 89) hX dX6_see_69 (by decide) (fun g9 => ?_) (fun g9 => ?_)
        · replace h := gz_it' g9 h
          refine gz_sub (lw := [(0, .ref (gz_ad G 2000)), (1, .int x1), (3, .int x3)]) [0, 1, 3] rfl ?_
          exact wb_X6_see_89 hX h hk
        · replace h := gz_if' g9 h
          refine gz_aload_n (pc := 72) hX dX6_see_72 rfl 0 rfl ?_
          refine mg_0 (pc := 73) hX dX6_see_73 ?_
          refine gz_iload_n (pc := 76) hX dX6_see_76 rfl 3 rfl ?_
          refine gz_iconst (pc := 77) (v := (2 : Int32)) hX dX6_see_77 (by decide) ?_
          refine gz_iadd (pc := 78) hX dX6_see_78 ?_
          obtain ⟨g10, h⟩ := gz_gu h
          refine mz_iald (pc := 79) (c := 1001) (n := 1600) hX rfl rfl g10 dX6_see_79 ?_
          refine gz_bipush (pc := 80) (v := (99 : Int32)) hX dX6_see_80 (by decide) ?_
          refine gz_icmp_gt (pc := 82) (tgt := 89) hX dX6_see_82 (by decide) (fun g11 => ?_) (fun g11 => ?_)
          · replace h := gz_it' g11 h
            refine gz_sub (lw := [(0, .ref (gz_ad G 2000)), (1, .int x1), (3, .int x3)]) [0, 1, 3] rfl ?_
            exact wb_X6_see_89 hX h hk
          · replace h := gz_if' g11 h
            refine gz_iconst (pc := 85) (v := (1 : Int32)) hX dX6_see_85 (by decide) ?_
            refine gz_goto (pc := 86) (tgt := 90) hX dX6_see_86 (by decide) ?_
            refine gz_sub (lw := [(0, .ref (gz_ad G 2000)), (1, .int x1), (3, .int x3)]) [0, 1, 3] rfl ?_
            exact wb_X6_see_90 hX h hk
noncomputable def ml_X6_see_36 (x1 : Int32) (x2 : Int32) (x3 : Int32) (m : MM) : Option (Int32 × MM) := gz_loop (fun q : (Int32 × Int32 × Int32 × MM) => mb_X6_see_36 q.1 q.2.1 q.2.2.1 q.2.2.2) (x1, x2, x3, m)
theorem wl_X6_see_36 {X : gz_X} {G : gz_G} (hX : gz_C mS X G cX6_see 4 RX6 2 47) {x1 : Int32} {x2 : Int32} {x3 : Int32}  {m : MM} {z : (Int32 × MM)} (h : ml_X6_see_36 x1 x2 x3 m = some z) (hk : (fun z : (Int32 × MM) => gz_kI mS X G 4 (0, 0) cX6_see (mF z.2) z.1) z) : gz_V mS X G 4 (0, 0) (mF m) 36 [(0, .ref (gz_ad G 2000)), (1, .int x1), (2, .int x2), (3, .int x3)] [] := by
  have hp : mP_X6_see_36 X G (x1, x2, x3, m) := gz_loop_ind (fun q z hz hkz => wb_X6_see_36 hX  hz hkz) h hk
  exact hp
noncomputable def mj_X6_see_33 (x1 : Int32) (s0 : Int32) (m : MM) : Option (Int32 × MM) :=
  (ml_X6_see_36 x1 s0 (0 : Int32) m)
theorem wb_X6_see_33 {X : gz_X} {G : gz_G} (hX : gz_C mS X G cX6_see 4 RX6 2 47) {x1 : Int32} {s0 : Int32}  {m : MM} {z : (Int32 × MM)} (h : mj_X6_see_33 x1 s0 m = some z) (hk : (fun z : (Int32 × MM) => gz_kI mS X G 4 (0, 0) cX6_see (mF z.2) z.1) z) : gz_V mS X G 4 (0, 0) (mF m) 33 [(0, .ref (gz_ad G 2000)), (1, .int x1)] [.int s0] := by
  unfold mj_X6_see_33 at h
  refine gz_istore_n (pc := 33) (lw := [(2, .int s0), (0, .ref (gz_ad G 2000)), (1, .int x1)]) hX dX6_see_33 rfl (by decide) rfl ?_
  refine gz_iconst (pc := 34) (v := (0 : Int32)) hX dX6_see_34 (by decide) ?_
  refine gz_istore_n (pc := 35) (lw := [(3, .int (0 : Int32)), (2, .int s0), (0, .ref (gz_ad G 2000)), (1, .int x1)]) hX dX6_see_35 rfl (by decide) rfl ?_
  refine gz_sub (lw := [(0, .ref (gz_ad G 2000)), (1, .int x1), (2, .int s0), (3, .int (0 : Int32))]) [2, 3, 1, 0] rfl ?_
  exact wl_X6_see_36 hX h hk
noncomputable def mj_X6_see_32 (x1 : Int32) (m : MM) : Option (Int32 × MM) :=
  (mj_X6_see_33 x1 (0 : Int32) m)
theorem wb_X6_see_32 {X : gz_X} {G : gz_G} (hX : gz_C mS X G cX6_see 4 RX6 2 47) {x1 : Int32}  {m : MM} {z : (Int32 × MM)} (h : mj_X6_see_32 x1 m = some z) (hk : (fun z : (Int32 × MM) => gz_kI mS X G 4 (0, 0) cX6_see (mF z.2) z.1) z) : gz_V mS X G 4 (0, 0) (mF m) 32 [(0, .ref (gz_ad G 2000)), (1, .int x1)] [] := by
  unfold mj_X6_see_32 at h
  refine gz_iconst (pc := 32) (v := (0 : Int32)) hX dX6_see_32 (by decide) ?_
  exact wb_X6_see_33 hX h hk
noncomputable def mf_see  (m : MM) : Option (Int32 × MM) :=
  gz_let (msI m 2000 1 (0 : Int32)) fun m1 => (if (m.1 2000 1) ≤ (0 : Int32) then (mj_X6_see_32 (m.1 2000 1) m1) else (if ((m.1 2000 1) - (m.1 2000 1) / (3 : Int32) * (3 : Int32)) = (0 : Int32) then (if (16 : Int32) < ((m.1 2000 1) / (3 : Int32)) then (mj_X6_see_32 (m.1 2000 1) m1) else (mj_X6_see_33 (m.1 2000 1) (1 : Int32) m1)) else (mj_X6_see_32 (m.1 2000 1) m1)))
theorem wm_see {X : gz_X} {G : gz_G} (hX : gz_C mS X G cX6_see 4 RX6 2 47)   {m : MM} {z : (Int32 × MM)} (h : mf_see  m = some z) (hk : (fun z : (Int32 × MM) => gz_kI mS X G 4 (0, 0) cX6_see (mF z.2) z.1) z) : gz_V mS X G 4 (0, 0) (mF m) 0 [(0, .ref (gz_ad G 2000))] [] := by
  unfold mf_see at h
  refine gz_aload_n (pc := 0) hX dX6_see_0 rfl 0 rfl ?_
  refine mg_1 (pc := 1) hX dX6_see_1 ?_
  refine gz_istore_n (pc := 4) (lw := [(1, .int (m.1 2000 1)), (0, .ref (gz_ad G 2000))]) hX dX6_see_4 rfl (by decide) rfl ?_
  refine gz_aload_n (pc := 5) hX dX6_see_5 rfl 1 rfl ?_
  refine gz_iconst (pc := 6) (v := (0 : Int32)) hX dX6_see_6 (by decide) ?_
  obtain ⟨m1, em1, h⟩ := gz_lt h
  refine mp_1 (pc := 7) hX dX6_see_7 em1 ?_
  refine gz_iload_n (pc := 10) hX dX6_see_10 rfl 0 rfl ?_
  refine gz_if_le (pc := 11) (tgt := 32) hX dX6_see_11 (by decide) (fun g2 => ?_) (fun g2 => ?_)
  · replace h := gz_it' g2 h
    refine gz_sub (lw := [(0, .ref (gz_ad G 2000)), (1, .int (m.1 2000 1))]) [1, 0] rfl ?_
    exact wb_X6_see_32 hX h hk
  · replace h := gz_if' g2 h
    refine gz_iload_n (pc := 14) hX dX6_see_14 rfl 0 rfl ?_
    refine gz_iconst (pc := 15) (v := (3 : Int32)) hX dX6_see_15 (by decide) ?_
    refine gz_irem (pc := 16) hX dX6_see_16 (by decide) ?_
    refine gz_if_ne (pc := 17) (tgt := 32) hX dX6_see_17 (by decide) (fun g3 => ?_) (fun g3 => ?_)
    · replace h := gz_if' g3 h
      refine gz_sub (lw := [(0, .ref (gz_ad G 2000)), (1, .int (m.1 2000 1))]) [1, 0] rfl ?_
      exact wb_X6_see_32 hX h hk
    · replace h := gz_it' g3 h
      refine gz_iload_n (pc := 20) hX dX6_see_20 rfl 0 rfl ?_
      refine gz_iconst (pc := 21) (v := (3 : Int32)) hX dX6_see_21 (by decide) ?_
      refine gz_idiv (pc := 22) hX dX6_see_22 (by decide) ?_
      refine gz_bipush (pc := 23) (v := (16 : Int32)) hX dX6_see_23 (by decide) ?_
      refine gz_icmp_gt (pc := 25) (tgt := 32) hX dX6_see_25 (by decide) (fun g4 => ?_) (fun g4 => ?_)
      · replace h := gz_it' g4 h
        refine gz_sub (lw := [(0, .ref (gz_ad G 2000)), (1, .int (m.1 2000 1))]) [1, 0] rfl ?_
        exact wb_X6_see_32 hX h hk
      · replace h := gz_if' g4 h
        refine gz_iconst (pc := 28) (v := (1 : Int32)) hX dX6_see_28 (by decide) ?_
        refine gz_goto (pc := 29) (tgt := 33) hX dX6_see_29 (by decide) ?_
        refine gz_sub (lw := [(0, .ref (gz_ad G 2000)), (1, .int (m.1 2000 1))]) [1, 0] rfl ?_
        exact wb_X6_see_33 hX h hk
theorem mt_see {G : gz_G} {l : Launch}   {m m9 : MM} {r : Int32} (h : mf_see  m = some (r, m9)) : gz_Met mS G l yX6_see cX6_see 4 (some .int) (mRm 2 47) [.ref (gz_ad G 2000)] (mF m) (mF m9) (some (.int r)) :=
  gz_ofI (plainFor_of_name mz_plain) (Nat.le_of_ble_eq_true rfl) fun X _ hX hk => wm_see hX h hk
