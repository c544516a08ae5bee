set_option maxRecDepth 100000
/-! qPartTold()V -/
def mP_X6_qPartTold_2 (X : gz_X) (G : gz_G) (q : (Int32 × MM)) : Prop := gz_V mS X G 6 (0, 0) (mF q.2) 2 [(0, .ref (gz_ad G 2000)), (1, .int q.1)] []
noncomputable def mj_X6_qPartTold_237 (s0 : Int32) (m : MM) : Option (Unit × MM) :=
  ((mf_qCode s0 m).bind fun (_, m2) => ((mf_qEndsPart m2).bind fun (_, m5) => some ((), m5)))
theorem wb_X6_qPartTold_237 {X : gz_X} {G : gz_G} (hX : gz_C mS X G cX6_qPartTold 6 RX6 5 106) {s0 : Int32}  {m : MM} {z : (Unit × MM)} (h : mj_X6_qPartTold_237 s0 m = some z) (hk : (fun z : (Unit × MM) => gz_kV mS X G 6 (0, 0) cX6_qPartTold (mF z.2)) z) : gz_V mS X G 6 (0, 0) (mF m) 237 [(0, .ref (gz_ad G 2000))] [.int s0, .ref (gz_ad G 2000)] := by
  unfold mj_X6_qPartTold_237 at h
  obtain ⟨⟨⟨⟩, m2⟩, c3, h⟩ := gz_bd h
  refine mc_qCode (pc := 237) hX c3 ⟨Nat.le_of_ble_eq_true rfl, Nat.le_of_ble_eq_true rfl⟩ (rest := []) rfl (Nat.le_of_ble_eq_true rfl) dX6_qPartTold_237 ?_
  refine gz_aload_n (pc := 240) hX dX6_qPartTold_240 rfl 0 rfl ?_
  obtain ⟨⟨⟨⟩, m5⟩, c6, h⟩ := gz_bd h
  refine mc_qEndsPart (pc := 241) hX c6 ⟨Nat.le_of_ble_eq_true rfl, Nat.le_of_ble_eq_true rfl⟩ (rest := []) rfl (Nat.le_of_ble_eq_true rfl) dX6_qPartTold_241 ?_
  obtain rfl := Option.some.inj h
  exact hk _ _ dX6_qPartTold_244
noncomputable def mj_X6_qPartTold_212 (x2 : Int32) (m : MM) : Option (Unit × MM) :=
  (if x2 = (-1 : Int32) then ((mf_number (0 : Int32) (9999 : Int32) m).bind fun (r2, m3) => (mj_X6_qPartTold_237 ((1000 : Int32) + r2) m3)) else (mj_X6_qPartTold_237 ((40 : Int32) + x2) m))
theorem wb_X6_qPartTold_212 {X : gz_X} {G : gz_G} (hX : gz_C mS X G cX6_qPartTold 6 RX6 5 106) {x2 : Int32}  {m : MM} {z : (Unit × MM)} (h : mj_X6_qPartTold_212 x2 m = some z) (hk : (fun z : (Unit × MM) => gz_kV mS X G 6 (0, 0) cX6_qPartTold (mF z.2)) z) : gz_V mS X G 6 (0, 0) (mF m) 212 [(0, .ref (gz_ad G 2000)), (2, .int x2)] [] := by
  unfold mj_X6_qPartTold_212 at h
  refine gz_aload_n (pc := 212) hX dX6_qPartTold_212 rfl 0 rfl ?_
  refine gz_iload_n (pc := 213) hX dX6_qPartTold_213 rfl 1 rfl ?_
  refine gz_iconst (pc := 214) (v := (-1 : Int32)) hX dX6_qPartTold_214 (by decide) ?_
  refine gz_icmp_eq (pc := 215) (tgt := 225) hX dX6_qPartTold_215 (by decide) (fun g1 => ?_) (fun g1 => ?_)
  · replace h := gz_it' g1 h
    refine gz_sipush (pc := 225) (v := (1000 : Int32)) hX dX6_qPartTold_225 (by decide) ?_
    refine gz_aload_n (pc := 228) hX dX6_qPartTold_228 rfl 0 rfl ?_
    refine gz_iconst (pc := 229) (v := (0 : Int32)) hX dX6_qPartTold_229 (by decide) ?_
    refine gz_sipush (pc := 230) (v := (9999 : Int32)) hX dX6_qPartTold_230 (by decide) ?_
    obtain ⟨⟨r2, m3⟩, c4, h⟩ := gz_bd h
    refine mc_number (pc := 233) hX c4 ⟨Nat.le_of_ble_eq_true rfl, Nat.le_of_ble_eq_true rfl⟩ (rest := [.int (1000 : Int32), .ref (gz_ad G 2000)]) rfl (Nat.le_of_ble_eq_true rfl) dX6_qPartTold_233 ?_
    refine gz_iadd (pc := 236) hX dX6_qPartTold_236 ?_
    refine gz_sub (lw := [(0, .ref (gz_ad G 2000))]) [0] rfl ?_
    exact wb_X6_qPartTold_237 hX h hk
  · replace h := gz_if' g1 h
    refine gz_bipush (pc := 218) (v := (40 : Int32)) hX dX6_qPartTold_218 (by decide) ?_
    refine gz_iload_n (pc := 220) hX dX6_qPartTold_220 rfl 1 rfl ?_
    refine gz_iadd (pc := 221) hX dX6_qPartTold_221 ?_
    refine gz_goto (pc := 222) (tgt := 237) hX dX6_qPartTold_222 (by decide) ?_
    refine gz_sub (lw := [(0, .ref (gz_ad G 2000))]) [0] rfl ?_
    exact wb_X6_qPartTold_237 hX h hk
noncomputable def mj_X6_qPartTold_186  (m : MM) : Option (Unit × MM) :=
  (if (m.1 2000 5) = (0 : Int32) then ((mf_qWordOf (0 : Int32) (7 : Int32) m).bind fun (r2, m3) => (if r2 = (-1 : Int32) then (mj_X6_qPartTold_212 r2 m3) else ((mf_qAsksWord r2 m3).bind fun (_, m7) => (mj_X6_qPartTold_212 r2 m7)))) else some ((), m))
theorem wb_X6_qPartTold_186 {X : gz_X} {G : gz_G} (hX : gz_C mS X G cX6_qPartTold 6 RX6 5 106)   {m : MM} {z : (Unit × MM)} (h : mj_X6_qPartTold_186  m = some z) (hk : (fun z : (Unit × MM) => gz_kV mS X G 6 (0, 0) cX6_qPartTold (mF z.2)) z) : gz_V mS X G 6 (0, 0) (mF m) 186 [(0, .ref (gz_ad G 2000))] [] := by
  unfold mj_X6_qPartTold_186 at h
  refine gz_aload_n (pc := 186) hX dX6_qPartTold_186 rfl 0 rfl ?_
  refine mg_5 (pc := 187) hX dX6_qPartTold_187 ?_
  refine gz_if_eq (pc := 190) (tgt := 194) hX dX6_qPartTold_190 (by decide) (fun g1 => ?_) (fun g1 => ?_)
  · replace h := gz_it' g1 h
    refine gz_aload_n (pc := 194) hX dX6_qPartTold_194 rfl 0 rfl ?_
    refine gz_iconst (pc := 195) (v := (0 : Int32)) hX dX6_qPartTold_195 (by decide) ?_
    refine gz_bipush (pc := 196) (v := (7 : Int32)) hX dX6_qPartTold_196 (by decide) ?_
    obtain ⟨⟨r2, m3⟩, c4, h⟩ := gz_bd h
    refine mc_qWordOf (pc := 198) hX c4 ⟨Nat.le_of_ble_eq_true rfl, Nat.le_of_ble_eq_true rfl⟩ (rest := []) rfl (Nat.le_of_ble_eq_true rfl) dX6_qPartTold_198 ?_
    refine gz_istore_n (pc := 201) (lw := [(2, .int r2), (0, .ref (gz_ad G 2000))]) hX dX6_qPartTold_201 rfl (by decide) rfl ?_
    refine gz_iload_n (pc := 202) hX dX6_qPartTold_202 rfl 0 rfl ?_
    refine gz_iconst (pc := 203) (v := (-1 : Int32)) hX dX6_qPartTold_203 (by decide) ?_
    refine gz_icmp_eq (pc := 204) (tgt := 212) hX dX6_qPartTold_204 (by decide) (fun g5 => ?_) (fun g5 => ?_)
    · replace h := gz_it' g5 h
      refine gz_sub (lw := [(0, .ref (gz_ad G 2000)), (2, .int r2)]) [1, 0] rfl ?_
      exact wb_X6_qPartTold_212 hX h hk
    · replace h := gz_if' g5 h
      refine gz_aload_n (pc := 207) hX dX6_qPartTold_207 rfl 1 rfl ?_
      refine gz_iload_n (pc := 208) hX dX6_qPartTold_208 rfl 0 rfl ?_
      obtain ⟨⟨⟨⟩, m7⟩, c8, h⟩ := gz_bd h
      refine mc_qAsksWord (pc := 209) hX c8 ⟨Nat.le_of_ble_eq_true rfl, Nat.le_of_ble_eq_true rfl⟩ (rest := []) rfl (Nat.le_of_ble_eq_true rfl) dX6_qPartTold_209 ?_
      refine gz_sub (lw := [(0, .ref (gz_ad G 2000)), (2, .int r2)]) [1, 0] rfl ?_
      exact wb_X6_qPartTold_212 hX h hk
  · replace h := gz_if' g1 h
    obtain rfl := Option.some.inj h
    exact hk _ _ dX6_qPartTold_193
noncomputable def mj_X6_qPartTold_183 (x1 : Int32) (m : MM) : Option ((Int32 × MM) ⊕ (Unit × MM)) :=
  some (Sum.inl (x1, m))
theorem wb_X6_qPartTold_183 {X : gz_X} {G : gz_G} (hX : gz_C mS X G cX6_qPartTold 6 RX6 5 106) {x1 : Int32}  {m : MM} {z : ((Int32 × MM) ⊕ (Unit × MM))} (h : mj_X6_qPartTold_183 x1 m = some z) (hk : (Sum.elim (mP_X6_qPartTold_2 X G) (fun z : (Unit × MM) => gz_kV mS X G 6 (0, 0) cX6_qPartTold (mF z.2))) z) : gz_V mS X G 6 (0, 0) (mF m) 183 [(0, .ref (gz_ad G 2000)), (1, .int x1)] [] := by
  unfold mj_X6_qPartTold_183 at h
  refine gz_goto (pc := 183) (tgt := 2) hX dX6_qPartTold_183 (by decide) ?_
  obtain rfl := Option.some.inj h
  exact hk
noncomputable def mj_X6_qPartTold_144 (x1 : Int32) (m : MM) : Option ((Int32 × MM) ⊕ (Unit × MM)) :=
  ((mf_asksSign (40 : Int32) m).bind fun (_, m2) => (mj_X6_qPartTold_183 x1 m2))
theorem wb_X6_qPartTold_144 {X : gz_X} {G : gz_G} (hX : gz_C mS X G cX6_qPartTold 6 RX6 5 106) {x1 : Int32}  {m : MM} {z : ((Int32 × MM) ⊕ (Unit × MM))} (h : mj_X6_qPartTold_144 x1 m = some z) (hk : (Sum.elim (mP_X6_qPartTold_2 X G) (fun z : (Unit × MM) => gz_kV mS X G 6 (0, 0) cX6_qPartTold (mF z.2))) z) : gz_V mS X G 6 (0, 0) (mF m) 144 [(0, .ref (gz_ad G 2000)), (1, .int x1)] [] := by
  unfold mj_X6_qPartTold_144 at h
  refine gz_aload_n (pc := 144) hX dX6_qPartTold_144 rfl 0 rfl ?_
  refine gz_bipush (pc := 145) (v := (40 : Int32)) hX dX6_qPartTold_145 (by decide) ?_
  obtain ⟨⟨⟨⟩, m2⟩, c3, h⟩ := gz_bd h
  refine mc_asksSign (pc := 147) hX c3 ⟨Nat.le_of_ble_eq_true rfl, Nat.le_of_ble_eq_true rfl⟩ (rest := []) rfl (Nat.le_of_ble_eq_true rfl) dX6_qPartTold_147 ?_
  refine gz_goto (pc := 150) (tgt := 183) hX dX6_qPartTold_150 (by decide) ?_
  exact wb_X6_qPartTold_183 hX h hk
noncomputable def mj_X6_qPartTold_139 (x1 : Int32) (x5 : Int32) (s0 : Int32) (m : MM) : Option ((Int32 × MM) ⊕ (Unit × MM)) :=
  ((mf_qOpens s0 x5 m).bind fun (_, m2) => (mj_X6_qPartTold_144 x1 m2))
theorem wb_X6_qPartTold_139 {X : gz_X} {G : gz_G} (hX : gz_C mS X G cX6_qPartTold 6 RX6 5 106) {x1 : Int32} {x5 : Int32} {s0 : Int32}  {m : MM} {z : ((Int32 × MM) ⊕ (Unit × MM))} (h : mj_X6_qPartTold_139 x1 x5 s0 m = some z) (hk : (Sum.elim (mP_X6_qPartTold_2 X G) (fun z : (Unit × MM) => gz_kV mS X G 6 (0, 0) cX6_qPartTold (mF z.2))) z) : gz_V mS X G 6 (0, 0) (mF m) 139 [(0, .ref (gz_ad G 2000)), (1, .int x1), (5, .int x5)] [.int s0, .ref (gz_ad G 2000)] := by
  unfold mj_X6_qPartTold_139 at h
  refine gz_iload (pc := 139) hX dX6_qPartTold_139 2 rfl ?_
  obtain ⟨⟨⟨⟩, m2⟩, c3, h⟩ := gz_bd h
  refine mc_qOpens (pc := 141) hX c3 ⟨Nat.le_of_ble_eq_true rfl, Nat.le_of_ble_eq_true rfl⟩ (rest := []) rfl (Nat.le_of_ble_eq_true rfl) dX6_qPartTold_141 ?_
  refine gz_sub (lw := [(0, .ref (gz_ad G 2000)), (1, .int x1)]) [0, 1] rfl ?_
  exact wb_X6_qPartTold_144 hX h hk
noncomputable def mj_X6_qPartTold_118 (x1 : Int32) (x4 : Int32) (s0 : Int32) (m : MM) : Option ((Int32 × MM) ⊕ (Unit × MM)) :=
  (if s0 = (-1 : Int32) then (mj_X6_qPartTold_144 x1 m) else (if x4 = (0 : Int32) then (mj_X6_qPartTold_139 x1 s0 (22 : Int32) m) else (mj_X6_qPartTold_139 x1 s0 (21 : Int32) m)))
theorem wb_X6_qPartTold_118 {X : gz_X} {G : gz_G} (hX : gz_C mS X G cX6_qPartTold 6 RX6 5 106) {x1 : Int32} {x4 : Int32} {s0 : Int32}  {m : MM} {z : ((Int32 × MM) ⊕ (Unit × MM))} (h : mj_X6_qPartTold_118 x1 x4 s0 m = some z) (hk : (Sum.elim (mP_X6_qPartTold_2 X G) (fun z : (Unit × MM) => gz_kV mS X G 6 (0, 0) cX6_qPartTold (mF z.2))) z) : gz_V mS X G 6 (0, 0) (mF m) 118 [(0, .ref (gz_ad G 2000)), (1, .int x1), (4, .int x4)] [.int s0] := by
  unfold mj_X6_qPartTold_118 at h
  refine gz_istore (pc := 118) (lw := [(5, .int s0), (0, .ref (gz_ad G 2000)), (1, .int x1), (4, .int x4)]) hX dX6_qPartTold_118 (by decide) rfl ?_
  refine gz_iload (pc := 120) hX dX6_qPartTold_120 0 rfl ?_
  refine gz_iconst (pc := 122) (v := (-1 : Int32)) hX dX6_qPartTold_122 (by decide) ?_
  refine gz_icmp_eq (pc := 123) (tgt := 144) hX dX6_qPartTold_123 (by decide) (fun g1 => ?_) (fun g1 => ?_)
  · replace h := gz_it' g1 h
    refine gz_sub (lw := [(0, .ref (gz_ad G 2000)), (1, .int x1)]) [1, 2] rfl ?_
    exact wb_X6_qPartTold_144 hX h hk
  · replace h := gz_if' g1 h
    refine gz_aload_n (pc := 126) hX dX6_qPartTold_126 rfl 1 rfl ?_
    refine gz_iload (pc := 127) hX dX6_qPartTold_127 3 rfl ?_
    refine gz_if_eq (pc := 129) (tgt := 137) hX dX6_qPartTold_129 (by decide) (fun g2 => ?_) (fun g2 => ?_)
    · replace h := gz_it' g2 h
      refine gz_bipush (pc := 137) (v := (22 : Int32)) hX dX6_qPartTold_137 (by decide) ?_
      refine gz_sub (lw := [(0, .ref (gz_ad G 2000)), (1, .int x1), (5, .int s0)]) [1, 2, 0] rfl ?_
      exact wb_X6_qPartTold_139 hX h hk
    · replace h := gz_if' g2 h
      refine gz_bipush (pc := 132) (v := (21 : Int32)) hX dX6_qPartTold_132 (by decide) ?_
      refine gz_goto (pc := 134) (tgt := 139) hX dX6_qPartTold_134 (by decide) ?_
      refine gz_sub (lw := [(0, .ref (gz_ad G 2000)), (1, .int x1), (5, .int s0)]) [1, 2, 0] rfl ?_
      exact wb_X6_qPartTold_139 hX h hk
noncomputable def mj_X6_qPartTold_101 (x1 : Int32) (x4 : Int32) (m : MM) : Option ((Int32 × MM) ⊕ (Unit × MM)) :=
  ((mf_look m).bind fun (r1, m2) => (if r1 = (40 : Int32) then (mj_X6_qPartTold_118 x1 x4 (m2.1 2000 2) m2) else (mj_X6_qPartTold_118 x1 x4 (-1 : Int32) m2)))
theorem wb_X6_qPartTold_101 {X : gz_X} {G : gz_G} (hX : gz_C mS X G cX6_qPartTold 6 RX6 5 106) {x1 : Int32} {x4 : Int32}  {m : MM} {z : ((Int32 × MM) ⊕ (Unit × MM))} (h : mj_X6_qPartTold_101 x1 x4 m = some z) (hk : (Sum.elim (mP_X6_qPartTold_2 X G) (fun z : (Unit × MM) => gz_kV mS X G 6 (0, 0) cX6_qPartTold (mF z.2))) z) : gz_V mS X G 6 (0, 0) (mF m) 101 [(0, .ref (gz_ad G 2000)), (1, .int x1), (4, .int x4)] [] := by
  unfold mj_X6_qPartTold_101 at h
  refine gz_aload_n (pc := 101) hX dX6_qPartTold_101 rfl 0 rfl ?_
  obtain ⟨⟨r1, m2⟩, c3, h⟩ := gz_bd h
  refine mc_look (pc := 102) hX c3 ⟨Nat.le_of_ble_eq_true rfl, Nat.le_of_ble_eq_true rfl⟩ (rest := []) rfl (Nat.le_of_ble_eq_true rfl) dX6_qPartTold_102 ?_
  refine gz_bipush (pc := 105) (v := (40 : Int32)) hX dX6_qPartTold_105 (by decide) ?_
  refine gz_icmp_ne (pc := 107) (tgt := 117) hX dX6_qPartTold_107 (by decide) (fun g4 => ?_) (fun g4 => ?_)
  · replace h := gz_if' g4 h
    refine gz_iconst (pc := 117) (v := (-1 : Int32)) hX dX6_qPartTold_117 (by decide) ?_
    exact wb_X6_qPartTold_118 hX h hk
  · replace h := gz_it' g4 h
    refine gz_aload_n (pc := 110) hX dX6_qPartTold_110 rfl 0 rfl ?_
    refine mg_2 (pc := 111) hX dX6_qPartTold_111 ?_
    refine gz_goto (pc := 114) (tgt := 118) hX dX6_qPartTold_114 (by decide) ?_
    exact wb_X6_qPartTold_118 hX h hk
noncomputable def mj_X6_qPartTold_78 (x1 : Int32) (m : MM) : Option ((Int32 × MM) ⊕ (Unit × MM)) :=
  ((mf_takes 1082 m).bind fun (r1, m2) => (if r1 = (0 : Int32) then ((mf_asks 1083 m2).bind fun (_, m6) => (mj_X6_qPartTold_101 x1 r1 m6)) else (mj_X6_qPartTold_101 x1 r1 m2)))
theorem wb_X6_qPartTold_78 {X : gz_X} {G : gz_G} (hX : gz_C mS X G cX6_qPartTold 6 RX6 5 106) {x1 : Int32}  {m : MM} {z : ((Int32 × MM) ⊕ (Unit × MM))} (h : mj_X6_qPartTold_78 x1 m = some z) (hk : (Sum.elim (mP_X6_qPartTold_2 X G) (fun z : (Unit × MM) => gz_kV mS X G 6 (0, 0) cX6_qPartTold (mF z.2))) z) : gz_V mS X G 6 (0, 0) (mF m) 78 [(0, .ref (gz_ad G 2000)), (1, .int x1)] [] := by
  unfold mj_X6_qPartTold_78 at h
  refine gz_aload_n (pc := 78) hX dX6_qPartTold_78 rfl 0 rfl ?_
  refine gz_aload_n (pc := 79) hX dX6_qPartTold_79 rfl 0 rfl ?_
  refine mg_81 (pc := 80) hX dX6_qPartTold_80 ?_
  obtain ⟨⟨r1, m2⟩, c3, h⟩ := gz_bd h
  refine mc_takes (pc := 83) hX rfl c3 ⟨Nat.le_of_ble_eq_true rfl, Nat.le_of_ble_eq_true rfl⟩ (rest := []) rfl (Nat.le_of_ble_eq_true rfl) dX6_qPartTold_83 ?_
  refine gz_istore (pc := 86) (lw := [(4, .int r1), (0, .ref (gz_ad G 2000)), (1, .int x1)]) hX dX6_qPartTold_86 (by decide) rfl ?_
  refine gz_iload (pc := 88) hX dX6_qPartTold_88 0 rfl ?_
  refine gz_if_ne (pc := 90) (tgt := 101) hX dX6_qPartTold_90 (by decide) (fun g4 => ?_) (fun g4 => ?_)
  · replace h := gz_if' g4 h
    refine gz_sub (lw := [(0, .ref (gz_ad G 2000)), (1, .int x1), (4, .int r1)]) [1, 2, 0] rfl ?_
    exact wb_X6_qPartTold_101 hX h hk
  · replace h := gz_it' g4 h
    refine gz_aload_n (pc := 93) hX dX6_qPartTold_93 rfl 1 rfl ?_
    refine gz_aload_n (pc := 94) hX dX6_qPartTold_94 rfl 1 rfl ?_
    refine mg_82 (pc := 95) hX dX6_qPartTold_95 ?_
    obtain ⟨⟨⟨⟩, m6⟩, c7, h⟩ := gz_bd h
    refine mc_asks (pc := 98) hX rfl c7 ⟨Nat.le_of_ble_eq_true rfl, Nat.le_of_ble_eq_true rfl⟩ (rest := []) rfl (Nat.le_of_ble_eq_true rfl) dX6_qPartTold_98 ?_
    refine gz_sub (lw := [(0, .ref (gz_ad G 2000)), (1, .int x1), (4, .int r1)]) [1, 2, 0] rfl ?_
    exact wb_X6_qPartTold_101 hX h hk
noncomputable def mb_X6_qPartTold_2 (x1 : Int32) (m : MM) : Option ((Int32 × MM) ⊕ (Unit × MM)) :=
  (if x1 = (0 : Int32) then (Option.map Sum.inr (mj_X6_qPartTold_186  m)) else (if (m.1 2000 5) = (0 : Int32) then ((mf_look m).bind fun (r3, m4) => ((mf_qWordOf (7 : Int32) (9 : Int32) m4).bind fun (r6, m7) => (if r3 = (40 : Int32) then ((mf_qOpens (20 : Int32) (m7.1 2000 2) m7).bind fun (_, m26) => gz_let (msI m26 2000 2 ((m26.1 2000 2) + (1 : Int32))) fun m28 => (mj_X6_qPartTold_183 x1 m28)) else ((mf_isHere 1082 m7).bind fun (r10, m11) => (if r10 = (0 : Int32) then ((mf_isHere 1083 m11).bind fun (r14, m15) => (if r14 = (0 : Int32) then (if r6 = (-1 : Int32) then (mj_X6_qPartTold_183 (0 : Int32) m15) else ((mf_qOpens (((60 : Int32) + r6) - (7 : Int32)) (m15.1 2000 2) m15).bind fun (_, m20) => ((mf_qAsksWord r6 m20).bind fun (_, m23) => (mj_X6_qPartTold_183 x1 m23)))) else (mj_X6_qPartTold_78 x1 m15))) else (mj_X6_qPartTold_78 x1 m11)))))) else (Option.map Sum.inr (mj_X6_qPartTold_186  m))))
theorem wb_X6_qPartTold_2 {X : gz_X} {G : gz_G} (hX : gz_C mS X G cX6_qPartTold 6 RX6 5 106) {x1 : Int32}  {m : MM} {z : ((Int32 × MM) ⊕ (Unit × MM))} (h : mb_X6_qPartTold_2 x1 m = some z) (hk : (Sum.elim (mP_X6_qPartTold_2 X G) (fun z : (Unit × MM) => gz_kV mS X G 6 (0, 0) cX6_qPartTold (mF z.2))) z) : gz_V mS X G 6 (0, 0) (mF m) 2 [(0, .ref (gz_ad G 2000)), (1, .int x1)] [] := by
  unfold mb_X6_qPartTold_2 at h
  refine gz_iload_n (pc := 2) hX dX6_qPartTold_2 rfl 1 rfl ?_
  refine gz_if_eq (pc := 3) (tgt := 186) hX dX6_qPartTold_3 (by decide) (fun g1 => ?_) (fun g1 => ?_)
  · replace h := gz_it' g1 h
    refine gz_sub (lw := [(0, .ref (gz_ad G 2000))]) [0] rfl ?_
    obtain ⟨z0, hm0, rfl⟩ := gz_mp h
    exact wb_X6_qPartTold_186 hX hm0 hk
  · replace h := gz_if' g1 h
    refine gz_aload_n (pc := 6) hX dX6_qPartTold_6 rfl 0 rfl ?_
    refine mg_5 (pc := 7) hX dX6_qPartTold_7 ?_
    refine gz_if_ne (pc := 10) (tgt := 186) hX dX6_qPartTold_10 (by decide) (fun g2 => ?_) (fun g2 => ?_)
    · replace h := gz_if' g2 h
      refine gz_sub (lw := [(0, .ref (gz_ad G 2000))]) [0] rfl ?_
      obtain ⟨z0, hm0, rfl⟩ := gz_mp h
      exact wb_X6_qPartTold_186 hX hm0 hk
    · replace h := gz_it' g2 h
      refine gz_aload_n (pc := 13) hX dX6_qPartTold_13 rfl 0 rfl ?_
      obtain ⟨⟨r3, m4⟩, c5, h⟩ := gz_bd h
      refine mc_look (pc := 14) hX c5 ⟨Nat.le_of_ble_eq_true rfl, Nat.le_of_ble_eq_true rfl⟩ (rest := []) rfl (Nat.le_of_ble_eq_true rfl) dX6_qPartTold_14 ?_
      refine gz_istore_n (pc := 17) (lw := [(2, .int r3), (0, .ref (gz_ad G 2000)), (1, .int x1)]) hX dX6_qPartTold_17 rfl (by decide) rfl ?_
      refine gz_aload_n (pc := 18) hX dX6_qPartTold_18 rfl 1 rfl ?_
      refine gz_bipush (pc := 19) (v := (7 : Int32)) hX dX6_qPartTold_19 (by decide) ?_
      refine gz_bipush (pc := 21) (v := (9 : Int32)) hX dX6_qPartTold_21 (by decide) ?_
      obtain ⟨⟨r6, m7⟩, c8, h⟩ := gz_bd h
      refine mc_qWordOf (pc := 23) hX c8 ⟨Nat.le_of_ble_eq_true rfl, Nat.le_of_ble_eq_true rfl⟩ (rest := []) rfl (Nat.le_of_ble_eq_true rfl) dX6_qPartTold_23 ?_
      refine gz_istore_n (pc := 26) (lw := [(3, .int r6), (2, .int r3), (0, .ref (gz_ad G 2000)), (1, .int x1)]) hX dX6_qPartTold_26 rfl (by decide) rfl ?_
      refine gz_iload_n (pc := 27) hX dX6_qPartTold_27 rfl 1 rfl ?_
      refine gz_bipush (pc := 28) (v := (40 : Int32)) hX dX6_qPartTold_28 (by decide) ?_
      refine gz_icmp_ne (pc := 30) (tgt := 56) hX dX6_qPartTold_30 (by decide) (fun g9 => ?_) (fun g9 => ?_)
      · replace h := gz_if' g9 h
        refine gz_aload_n (pc := 56) hX dX6_qPartTold_56 rfl 2 rfl ?_
        refine gz_aload_n (pc := 57) hX dX6_qPartTold_57 rfl 2 rfl ?_
        refine mg_81 (pc := 58) hX dX6_qPartTold_58 ?_
        obtain ⟨⟨r10, m11⟩, c12, h⟩ := gz_bd h
        refine mc_isHere (pc := 61) hX rfl c12 ⟨Nat.le_of_ble_eq_true rfl, Nat.le_of_ble_eq_true rfl⟩ (rest := []) rfl (Nat.le_of_ble_eq_true rfl) dX6_qPartTold_61 ?_
        refine gz_if_ne (pc := 64) (tgt := 78) hX dX6_qPartTold_64 (by decide) (fun g13 => ?_) (fun g13 => ?_)
        · replace h := gz_if' g13 h
          refine gz_sub (lw := [(0, .ref (gz_ad G 2000)), (1, .int x1)]) [2, 3] rfl ?_
          exact wb_X6_qPartTold_78 hX h hk
        · replace h := gz_it' g13 h
          refine gz_aload_n (pc := 67) hX dX6_qPartTold_67 rfl 2 rfl ?_
          refine gz_aload_n (pc := 68) hX dX6_qPartTold_68 rfl 2 rfl ?_
          refine mg_82 (pc := 69) hX dX6_qPartTold_69 ?_
          obtain ⟨⟨r14, m15⟩, c16, h⟩ := gz_bd h
          refine mc_isHere (pc := 72) hX rfl c16 ⟨Nat.le_of_ble_eq_true rfl, Nat.le_of_ble_eq_true rfl⟩ (rest := []) rfl (Nat.le_of_ble_eq_true rfl) dX6_qPartTold_72 ?_
          refine gz_if_eq (pc := 75) (tgt := 153) hX dX6_qPartTold_75 (by decide) (fun g17 => ?_) (fun g17 => ?_)
          · replace h := gz_it' g17 h
            refine gz_iload_n (pc := 153) hX dX6_qPartTold_153 rfl 0 rfl ?_
            refine gz_iconst (pc := 154) (v := (-1 : Int32)) hX dX6_qPartTold_154 (by decide) ?_
            refine gz_icmp_eq (pc := 155) (tgt := 181) hX dX6_qPartTold_155 (by decide) (fun g18 => ?_) (fun g18 => ?_)
            · replace h := gz_it' g18 h
              refine gz_iconst (pc := 181) (v := (0 : Int32)) hX dX6_qPartTold_181 (by decide) ?_
              refine gz_istore_n (pc := 182) (lw := [(1, .int (0 : Int32)), (3, .int r6), (2, .int r3), (0, .ref (gz_ad G 2000))]) hX dX6_qPartTold_182 rfl (by decide) rfl ?_
              refine gz_sub (lw := [(0, .ref (gz_ad G 2000)), (1, .int (0 : Int32))]) [3, 0] rfl ?_
              exact wb_X6_qPartTold_183 hX h hk
            · replace h := gz_if' g18 h
              refine gz_aload_n (pc := 158) hX dX6_qPartTold_158 rfl 2 rfl ?_
              refine gz_bipush (pc := 159) (v := (60 : Int32)) hX dX6_qPartTold_159 (by decide) ?_
              refine gz_iload_n (pc := 161) hX dX6_qPartTold_161 rfl 0 rfl ?_
              refine gz_iadd (pc := 162) hX dX6_qPartTold_162 ?_
              refine gz_bipush (pc := 163) (v := (7 : Int32)) hX dX6_qPartTold_163 (by decide) ?_
              refine gz_isub (pc := 165) hX dX6_qPartTold_165 ?_
              refine gz_aload_n (pc := 166) hX dX6_qPartTold_166 rfl 2 rfl ?_
              refine mg_2 (pc := 167) hX dX6_qPartTold_167 ?_
              obtain ⟨⟨⟨⟩, m20⟩, c21, h⟩ := gz_bd h
              refine mc_qOpens (pc := 170) hX c21 ⟨Nat.le_of_ble_eq_true rfl, Nat.le_of_ble_eq_true rfl⟩ (rest := []) rfl (Nat.le_of_ble_eq_true rfl) dX6_qPartTold_170 ?_
              refine gz_aload_n (pc := 173) hX dX6_qPartTold_173 rfl 2 rfl ?_
              refine gz_iload_n (pc := 174) hX dX6_qPartTold_174 rfl 0 rfl ?_
              obtain ⟨⟨⟨⟩, m23⟩, c24, h⟩ := gz_bd h
              refine mc_qAsksWord (pc := 175) hX c24 ⟨Nat.le_of_ble_eq_true rfl, Nat.le_of_ble_eq_true rfl⟩ (rest := []) rfl (Nat.le_of_ble_eq_true rfl) dX6_qPartTold_175 ?_
              refine gz_goto (pc := 178) (tgt := 183) hX dX6_qPartTold_178 (by decide) ?_
              refine gz_sub (lw := [(0, .ref (gz_ad G 2000)), (1, .int x1)]) [2, 3] rfl ?_
              exact wb_X6_qPartTold_183 hX h hk
          · replace h := gz_if' g17 h
            refine gz_sub (lw := [(0, .ref (gz_ad G 2000)), (1, .int x1)]) [2, 3] rfl ?_
            exact wb_X6_qPartTold_78 hX h hk
      · replace h := gz_it' g9 h
        refine gz_aload_n (pc := 33) hX dX6_qPartTold_33 rfl 2 rfl ?_
        refine gz_bipush (pc := 34) (v := (20 : Int32)) hX dX6_qPartTold_34 (by decide) ?_
        refine gz_aload_n (pc := 36) hX dX6_qPartTold_36 rfl 2 rfl ?_
        refine mg_2 (pc := 37) hX dX6_qPartTold_37 ?_
        obtain ⟨⟨⟨⟩, m26⟩, c27, h⟩ := gz_bd h
        refine mc_qOpens (pc := 40) hX c27 ⟨Nat.le_of_ble_eq_true rfl, Nat.le_of_ble_eq_true rfl⟩ (rest := []) rfl (Nat.le_of_ble_eq_true rfl) dX6_qPartTold_40 ?_
        refine gz_aload_n (pc := 43) hX dX6_qPartTold_43 rfl 2 rfl ?_
        refine gz_dup (pc := 44) hX dX6_qPartTold_44 rfl ?_
        refine mg_2 (pc := 45) hX dX6_qPartTold_45 ?_
        refine gz_iconst (pc := 48) (v := (1 : Int32)) hX dX6_qPartTold_48 (by decide) ?_
        refine gz_iadd (pc := 49) hX dX6_qPartTold_49 ?_
        obtain ⟨m28, em28, h⟩ := gz_lt h
        refine mp_2 (pc := 50) hX dX6_qPartTold_50 em28 ?_
        refine gz_goto (pc := 53) (tgt := 183) hX dX6_qPartTold_53 (by decide) ?_
        refine gz_sub (lw := [(0, .ref (gz_ad G 2000)), (1, .int x1)]) [2, 3] rfl ?_
        exact wb_X6_qPartTold_183 hX h hk
noncomputable def ml_X6_qPartTold_2 (x1 : Int32) (m : MM) : Option (Unit × MM) := gz_loop (fun q : (Int32 × MM) => mb_X6_qPartTold_2 q.1 q.2) (x1, m)
theorem wl_X6_qPartTold_2 {X : gz_X} {G : gz_G} (hX : gz_C mS X G cX6_qPartTold 6 RX6 5 106) {x1 : Int32}  {m : MM} {z : (Unit × MM)} (h : ml_X6_qPartTold_2 x1 m = some z) (hk : (fun z : (Unit × MM) => gz_kV mS X G 6 (0, 0) cX6_qPartTold (mF z.2)) z) : gz_V mS X G 6 (0, 0) (mF m) 2 [(0, .ref (gz_ad G 2000)), (1, .int x1)] [] := by
  have hp : mP_X6_qPartTold_2 X G (x1, m) := gz_loop_ind (fun q z hz hkz => wb_X6_qPartTold_2 hX  hz hkz) h hk
  exact hp
noncomputable def mf_qPartTold  (m : MM) : Option (Unit × MM) :=
  (ml_X6_qPartTold_2 (1 : Int32) m)
theorem wm_qPartTold {X : gz_X} {G : gz_G} (hX : gz_C mS X G cX6_qPartTold 6 RX6 5 106)   {m : MM} {z : (Unit × MM)} (h : mf_qPartTold  m = some z) (hk : (fun z : (Unit × MM) => gz_kV mS X G 6 (0, 0) cX6_qPartTold (mF z.2)) z) : gz_V mS X G 6 (0, 0) (mF m) 0 [(0, .ref (gz_ad G 2000))] [] := by
  unfold mf_qPartTold at h
  refine gz_iconst (pc := 0) (v := (1 : Int32)) hX dX6_qPartTold_0 (by decide) ?_
  refine gz_istore_n (pc := 1) (lw := [(1, .int (1 : Int32)), (0, .ref (gz_ad G 2000))]) hX dX6_qPartTold_1 rfl (by decide) rfl ?_
  refine gz_sub (lw := [(0, .ref (gz_ad G 2000)), (1, .int (1 : Int32))]) [1, 0] rfl ?_
  exact wl_X6_qPartTold_2 hX h hk
theorem mt_qPartTold {G : gz_G} {l : Launch}   {m m9 : MM} (h : mf_qPartTold  m = some ((), m9)) : gz_Met mS G l yX6_qPartTold cX6_qPartTold 6 none (mRm 5 106) [.ref (gz_ad G 2000)] (mF m) (mF m9) none :=
  gz_ofV (plainFor_of_name mz_plain) (Nat.le_of_ble_eq_true rfl) fun X _ hX hk => wm_qPartTold hX h hk
theorem mc_qPartTold {X : gz_X} {G : gz_G} {cc : ByteArray} {nL fr lo pc : Nat} {lv : List (Nat × Value)} {rest st0 : List Value} (hX : gz_C mS X G cc nL RX6 fr lo)   {m m9 : MM} (h : mf_qPartTold  m = some ((), m9)) (hroom : 5 + 1 ≤ fr ∧ 8 + (6 + 11) + 106 ≤ lo) (hst : st0 = [.ref (gz_ad G 2000)] ++ rest) (hW : (rest.map fun v => v.category).sum ≤ 8) (hd : decode cc pc = .ok (.invokevirtual 630, 3)) (kk : gz_V mS X G nL (0, 0) (mF m9) (pc + 3) lv (rest)) : gz_V mS X G nL (0, 0) (mF m) pc lv st0 :=
  gz_callV hX mz_E (As := []) (rest := rest) (q := (RX6, TX6, 104)) (ci := 0) (c := 2000) (mt_qPartTold (l := X.2.1) h) (lw_V q2199 q2201 qs91 q182 q2202) (n := 0) (by decide +kernel) hroom rfl rfl (by decide) rfl hst hW hd (rem := (0, 0)) kk
/-! qIsBracket(I)Z -/
noncomputable def mj_X6_qIsBracket_16  (m : MM) : Option (Int32 × MM) :=
  some ((0 : Int32), m)
theorem wb_X6_qIsBracket_16 {X : gz_X} {G : gz_G} (hX : gz_C mS X G cX6_qIsBracket 1 RX6 0 0)   {m : MM} {z : (Int32 × MM)} (h : mj_X6_qIsBracket_16  m = some z) (hk : (fun z : (Int32 × MM) => gz_kZ mS X G 1 (0, 0) cX6_qIsBracket (mF z.2) z.1) z) : gz_V mS X G 1 (0, 0) (mF m) 16 [] [] := by
  unfold mj_X6_qIsBracket_16 at h
  refine gz_iconst (pc := 16) (v := (0 : Int32)) hX dX6_qIsBracket_16 (by decide) ?_
  obtain rfl := Option.some.inj h
  exact hk _ _ dX6_qIsBracket_17 (Or.inl rfl)
noncomputable def mf_qIsBracket (x0 : Int32) (m : MM) : Option (Int32 × MM) :=
  (if x0 < (20 : Int32) then (mj_X6_qIsBracket_16  m) else (if (24 : Int32) < x0 then (mj_X6_qIsBracket_16  m) else some ((1 : Int32), m)))
theorem wm_qIsBracket {X : gz_X} {G : gz_G} (hX : gz_C mS X G cX6_qIsBracket 1 RX6 0 0) {x0 : Int32}  {m : MM} {z : (Int32 × MM)} (h : mf_qIsBracket x0 m = some z) (hk : (fun z : (Int32 × MM) => gz_kZ mS X G 1 (0, 0) cX6_qIsBracket (mF z.2) z.1) z) : gz_V mS X G 1 (0, 0) (mF m) 0 [(0, .int x0)] [] := by
  unfold mf_qIsBracket at h
  refine gz_iload_n (pc := 0) hX dX6_qIsBracket_0 rfl 0 rfl ?_
  refine gz_bipush (pc := 1) (v := (20 : Int32)) hX dX6_qIsBracket_1 (by decide) ?_
  refine gz_icmp_lt (pc := 3) (tgt := 16) hX dX6_qIsBracket_3 (by decide) (fun g1 => ?_) (fun g1 => ?_)
  · replace h := gz_it' g1 h
    refine gz_sub (lw := []) [] rfl ?_
    exact wb_X6_qIsBracket_16 hX h hk
  · replace h := gz_if' g1 h
    refine gz_iload_n (pc := 6) hX dX6_qIsBracket_6 rfl 0 rfl ?_
    refine gz_bipush (pc := 7) (v := (24 : Int32)) hX dX6_qIsBracket_7 (by decide) ?_
    refine gz_icmp_gt (pc := 9) (tgt := 16) hX dX6_qIsBracket_9 (by decide) (fun g2 => ?_) (fun g2 => ?_)
    · replace h := gz_it' g2 h
      refine gz_sub (lw := []) [] rfl ?_
      exact wb_X6_qIsBracket_16 hX h hk
    · replace h := gz_if' g2 h
      refine gz_iconst (pc := 12) (v := (1 : Int32)) hX dX6_qIsBracket_12 (by decide) ?_
      refine gz_goto (pc := 13) (tgt := 17) hX dX6_qIsBracket_13 (by decide) ?_
      obtain rfl := Option.some.inj h
      exact hk _ _ dX6_qIsBracket_17 (Or.inr rfl)
theorem mt_qIsBracket {G : gz_G} {l : Launch} {x0 : Int32}  {m m9 : MM} {r : Int32} (h : mf_qIsBracket x0 m = some (r, m9)) : gz_Met mS G l yX6_qIsBracket cX6_qIsBracket 1 (some .boolean) (mRm 0 0) [.int x0] (mF m) (mF m9) (some (.int r)) :=
  gz_ofZ (plainFor_of_name mz_plain) (Nat.le_of_ble_eq_true rfl) fun X _ hX hk => wm_qIsBracket hX h hk
theorem mc_qIsBracket {X : gz_X} {G : gz_G} {cc : ByteArray} {nL fr lo pc : Nat} {lv : List (Nat × Value)} {rest st0 : List Value} (hX : gz_C mS X G cc nL RX6 fr lo) {x0 : Int32}  {m m9 : MM} {r : Int32} (h : mf_qIsBracket x0 m = some (r, m9)) (hroom : 0 + 1 ≤ fr ∧ 8 + (1 + 11) + 0 ≤ lo) (hst : st0 = [.int x0] ++ rest) (hW : (rest.map fun v => v.category).sum ≤ 8) (hd : decode cc pc = .ok (.invokestatic 597, 3)) (kk : gz_V mS X G nL (0, 0) (mF m9) (pc + 3) lv (.int r :: rest)) : gz_V mS X G nL (0, 0) (mF m) pc lv st0 :=
  gz_callS hX mz_E (As := [.int x0]) (rest := rest) (mt_qIsBracket (l := X.2.1) h) (lw_S q2243 q2244 q182 q2245) (n := 1) (by decide +kernel) hroom rfl hst hW hd (rem := (0, 0)) kk
/-! qBracket()I -/
def mP_X6_qBracket_7 (X : gz_X) (G : gz_G) (q : (Int32 × MM)) : Prop := gz_V mS X G 2 (0, 0) (mF q.2) 7 [(0, .ref (gz_ad G 2000)), (1, .int q.1)] []
noncomputable def mj_X6_qBracket_33 (x1 : Int32) (m : MM) : Option (Int32 × MM) :=
  (if x1 < (m.1 2000 97) then some ((-1 : Int32), m) else (if gz_in x1 (1700) then some ((m.1 1095 (gz_ix x1)), m) else none))
theorem wb_X6_qBracket_33 {X : gz_X} {G : gz_G} (hX : gz_C mS X G cX6_qBracket 2 RX6 1 20) {x1 : Int32}  {m : MM} {z : (Int32 × MM)} (h : mj_X6_qBracket_33 x1 m = some z) (hk : (fun z : (Int32 × MM) => gz_kI mS X G 2 (0, 0) cX6_qBracket (mF z.2) z.1) z) : gz_V mS X G 2 (0, 0) (mF m) 33 [(0, .ref (gz_ad G 2000)), (1, .int x1)] [] := by
  unfold mj_X6_qBracket_33 at h
  refine gz_iload_n (pc := 33) hX dX6_qBracket_33 rfl 1 rfl ?_
  refine gz_aload_n (pc := 34) hX dX6_qBracket_34 rfl 0 rfl ?_
  refine mg_97 (pc := 35) hX dX6_qBracket_35 ?_
  refine gz_icmp_lt (pc := 38) (tgt := 50) hX dX6_qBracket_38 (by decide) (fun g1 => ?_) (fun g1 => ?_)
  · replace h := gz_it' g1 h
    refine gz_iconst (pc := 50) (v := (-1 : Int32)) hX dX6_qBracket_50 (by decide) ?_
    obtain rfl := Option.some.inj h
    exact hk _ _ dX6_qBracket_51
  · replace h := gz_if' g1 h
    refine gz_aload_n (pc := 41) hX dX6_qBracket_41 rfl 0 rfl ?_
    refine mg_94 (pc := 42) hX dX6_qBracket_42 ?_
    refine gz_iload_n (pc := 45) hX dX6_qBracket_45 rfl 1 rfl ?_
    obtain ⟨g2, h⟩ := gz_gu h
    refine mz_iald (pc := 46) (c := 1095) (n := 1700) hX rfl rfl g2 dX6_qBracket_46 ?_
    refine gz_goto (pc := 47) (tgt := 51) hX dX6_qBracket_47 (by decide) ?_
    obtain rfl := Option.some.inj h
    exact hk _ _ dX6_qBracket_51
noncomputable def mb_X6_qBracket_7 (x1 : Int32) (m : MM) : Option ((Int32 × MM) ⊕ (Int32 × MM)) :=
  (if x1 < (m.1 2000 97) then (Option.map Sum.inr (mj_X6_qBracket_33 x1 m)) else (if gz_in x1 (1700) then ((mf_qIsBracket (m.1 1095 (gz_ix x1)) m).bind fun (r3, m4) => (if r3 = (0 : Int32) then gz_let (x1 + (-1 : Int32)) fun y7 => some (Sum.inl (y7, m4)) else (Option.map Sum.inr (mj_X6_qBracket_33 x1 m4)))) else none))
theorem wb_X6_qBracket_7 {X : gz_X} {G : gz_G} (hX : gz_C mS X G cX6_qBracket 2 RX6 1 20) {x1 : Int32}  {m : MM} {z : ((Int32 × MM) ⊕ (Int32 × MM))} (h : mb_X6_qBracket_7 x1 m = some z) (hk : (Sum.elim (mP_X6_qBracket_7 X G) (fun z : (Int32 × MM) => gz_kI mS X G 2 (0, 0) cX6_qBracket (mF z.2) z.1)) z) : gz_V mS X G 2 (0, 0) (mF m) 7 [(0, .ref (gz_ad G 2000)), (1, .int x1)] [] := by
  unfold mb_X6_qBracket_7 at h
  refine gz_iload_n (pc := 7) hX dX6_qBracket_7 rfl 1 rfl ?_
  refine gz_aload_n (pc := 8) hX dX6_qBracket_8 rfl 0 rfl ?_
  refine mg_97 (pc := 9) hX dX6_qBracket_9 ?_
  refine gz_icmp_lt (pc := 12) (tgt := 33) hX dX6_qBracket_12 (by decide) (fun g1 => ?_) (fun g1 => ?_)
  · replace h := gz_it' g1 h
    obtain ⟨z0, hm0, rfl⟩ := gz_mp h
    exact wb_X6_qBracket_33 hX hm0 hk
  · replace h := gz_if' g1 h
    refine gz_aload_n (pc := 15) hX dX6_qBracket_15 rfl 0 rfl ?_
    refine mg_94 (pc := 16) hX dX6_qBracket_16 ?_
    refine gz_iload_n (pc := 19) hX dX6_qBracket_19 rfl 1 rfl ?_
    obtain ⟨g2, h⟩ := gz_gu h
    refine mz_iald (pc := 20) (c := 1095) (n := 1700) hX rfl rfl g2 dX6_qBracket_20 ?_
    obtain ⟨⟨r3, m4⟩, c5, h⟩ := gz_bd h
    refine mc_qIsBracket (pc := 21) hX c5 ⟨Nat.le_of_ble_eq_true rfl, Nat.le_of_ble_eq_true rfl⟩ (rest := []) rfl (Nat.le_of_ble_eq_true rfl) dX6_qBracket_21 ?_
    refine gz_if_ne (pc := 24) (tgt := 33) hX dX6_qBracket_24 (by decide) (fun g6 => ?_) (fun g6 => ?_)
    · replace h := gz_if' g6 h
      obtain ⟨z0, hm0, rfl⟩ := gz_mp h
      exact wb_X6_qBracket_33 hX hm0 hk
    · replace h := gz_it' g6 h
      obtain ⟨y7, ey7, h⟩ := gz_lt h
      refine gz_iinc (pc := 27) (v := y7) (lw := [(1, .int y7), (0, .ref (gz_ad G 2000))]) hX dX6_qBracket_27 (k := 1) rfl (by rw [ey7]; rfl) (by decide) rfl ?_
      refine gz_goto (pc := 30) (tgt := 7) hX dX6_qBracket_30 (by decide) ?_
      refine gz_sub (lw := [(0, .ref (gz_ad G 2000)), (1, .int y7)]) [1, 0] rfl ?_
      obtain rfl := Option.some.inj h
      exact hk
noncomputable def ml_X6_qBracket_7 (x1 : Int32) (m : MM) : Option (Int32 × MM) := gz_loop (fun q : (Int32 × MM) => mb_X6_qBracket_7 q.1 q.2) (x1, m)
theorem wl_X6_qBracket_7 {X : gz_X} {G : gz_G} (hX : gz_C mS X G cX6_qBracket 2 RX6 1 20) {x1 : Int32}  {m : MM} {z : (Int32 × MM)} (h : ml_X6_qBracket_7 x1 m = some z) (hk : (fun z : (Int32 × MM) => gz_kI mS X G 2 (0, 0) cX6_qBracket (mF z.2) z.1) z) : gz_V mS X G 2 (0, 0) (mF m) 7 [(0, .ref (gz_ad G 2000)), (1, .int x1)] [] := by
  have hp : mP_X6_qBracket_7 X G (x1, m) := gz_loop_ind (fun q z hz hkz => wb_X6_qBracket_7 hX  hz hkz) h hk
  exact hp
noncomputable def mf_qBracket  (m : MM) : Option (Int32 × MM) :=
  gz_let (((m.1 2000 95) - (1 : Int32))) fun y1 => (ml_X6_qBracket_7 y1 m)
theorem wm_qBracket {X : gz_X} {G : gz_G} (hX : gz_C mS X G cX6_qBracket 2 RX6 1 20)   {m : MM} {z : (Int32 × MM)} (h : mf_qBracket  m = some z) (hk : (fun z : (Int32 × MM) => gz_kI mS X G 2 (0, 0) cX6_qBracket (mF z.2) z.1) z) : gz_V mS X G 2 (0, 0) (mF m) 0 [(0, .ref (gz_ad G 2000))] [] := by
  unfold mf_qBracket at h
  refine gz_aload_n (pc := 0) hX dX6_qBracket_0 rfl 0 rfl ?_
  refine mg_95 (pc := 1) hX dX6_qBracket_1 ?_
  refine gz_iconst (pc := 4) (v := (1 : Int32)) hX dX6_qBracket_4 (by decide) ?_
  refine gz_isub (pc := 5) hX dX6_qBracket_5 ?_
  obtain ⟨y1, ey1, h⟩ := gz_lt h
  refine gz_topi ey1 ?_
  refine gz_istore_n (pc := 6) (lw := [(1, .int y1), (0, .ref (gz_ad G 2000))]) hX dX6_qBracket_6 rfl (by decide) rfl ?_
  refine gz_sub (lw := [(0, .ref (gz_ad G 2000)), (1, .int y1)]) [1, 0] rfl ?_
  exact wl_X6_qBracket_7 hX h hk
theorem mt_qBracket {G : gz_G} {l : Launch}   {m m9 : MM} {r : Int32} (h : mf_qBracket  m = some (r, m9)) : gz_Met mS G l yX6_qBracket cX6_qBracket 2 (some .int) (mRm 1 20) [.ref (gz_ad G 2000)] (mF m) (mF m9) (some (.int r)) :=
  gz_ofI (plainFor_of_name mz_plain) (Nat.le_of_ble_eq_true rfl) fun X _ hX hk => wm_qBracket hX h hk
theorem mc_qBracket {X : gz_X} {G : gz_G} {cc : ByteArray} {nL fr lo pc : Nat} {lv : List (Nat × Value)} {rest st0 : List Value} (hX : gz_C mS X G cc nL RX6 fr lo)   {m m9 : MM} {r : Int32} (h : mf_qBracket  m = some (r, m9)) (hroom : 1 + 1 ≤ fr ∧ 8 + (2 + 11) + 20 ≤ lo) (hst : st0 = [.ref (gz_ad G 2000)] ++ rest) (hW : (rest.map fun v => v.category).sum ≤ 8) (hd : decode cc pc = .ok (.invokevirtual 621, 3)) (kk : gz_V mS X G nL (0, 0) (mF m9) (pc + 3) lv (.int r :: rest)) : gz_V mS X G nL (0, 0) (mF m) pc lv st0 :=
  gz_callV hX mz_E (As := []) (rest := rest) (q := (RX6, TX6, 104)) (ci := 0) (c := 2000) (mt_qBracket (l := X.2.1) h) (lw_V q2239 q2241 qs101 q182 q2242) (n := 0) (by decide +kernel) hroom rfl rfl (by decide) rfl hst hW hd (rem := (0, 0)) kk
/-! qDropsToBracket()V -/
def mP_X6_qDropsToBracket_0 (X : gz_X) (G : gz_G) (q : (MM)) : Prop := gz_V mS X G 1 (0, 0) (mF q) 0 [(0, .ref (gz_ad G 2000))] []
noncomputable def mb_X6_qDropsToBracket_0  (m : MM) : Option ((MM) ⊕ (Unit × MM)) :=
  (if (m.1 2000 95) ≤ (m.1 2000 97) then some (Sum.inr ((), m)) else (if gz_in ((m.1 2000 95) - (1 : Int32)) (1700) then ((mf_qIsBracket (m.1 1095 (gz_ix ((m.1 2000 95) - (1 : Int32)))) m).bind fun (r3, m4) => (if r3 = (0 : Int32) then ((mf_qDrops m4).bind fun (_, m8) => some (Sum.inl (m8))) else some (Sum.inr ((), m4)))) else none))
theorem wb_X6_qDropsToBracket_0 {X : gz_X} {G : gz_G} (hX : gz_C mS X G cX6_qDropsToBracket 1 RX6 2 41)   {m : MM} {z : ((MM) ⊕ (Unit × MM))} (h : mb_X6_qDropsToBracket_0  m = some z) (hk : (Sum.elim (mP_X6_qDropsToBracket_0 X G) (fun z : (Unit × MM) => gz_kV mS X G 1 (0, 0) cX6_qDropsToBracket (mF z.2))) z) : gz_V mS X G 1 (0, 0) (mF m) 0 [(0, .ref (gz_ad G 2000))] [] := by
  unfold mb_X6_qDropsToBracket_0 at h
  refine gz_aload_n (pc := 0) hX dX6_qDropsToBracket_0 rfl 0 rfl ?_
  refine mg_95 (pc := 1) hX dX6_qDropsToBracket_1 ?_
  refine gz_aload_n (pc := 4) hX dX6_qDropsToBracket_4 rfl 0 rfl ?_
  refine mg_97 (pc := 5) hX dX6_qDropsToBracket_5 ?_
  refine gz_icmp_le (pc := 8) (tgt := 35) hX dX6_qDropsToBracket_8 (by decide) (fun g1 => ?_) (fun g1 => ?_)
  · replace h := gz_it' g1 h
    obtain rfl := Option.some.inj h
    exact hk _ _ dX6_qDropsToBracket_35
  · replace h := gz_if' g1 h
    refine gz_aload_n (pc := 11) hX dX6_qDropsToBracket_11 rfl 0 rfl ?_
    refine mg_94 (pc := 12) hX dX6_qDropsToBracket_12 ?_
    refine gz_aload_n (pc := 15) hX dX6_qDropsToBracket_15 rfl 0 rfl ?_
    refine mg_95 (pc := 16) hX dX6_qDropsToBracket_16 ?_
    refine gz_iconst (pc := 19) (v := (1 : Int32)) hX dX6_qDropsToBracket_19 (by decide) ?_
    refine gz_isub (pc := 20) hX dX6_qDropsToBracket_20 ?_
    obtain ⟨g2, h⟩ := gz_gu h
    refine mz_iald (pc := 21) (c := 1095) (n := 1700) hX rfl rfl g2 dX6_qDropsToBracket_21 ?_
    obtain ⟨⟨r3, m4⟩, c5, h⟩ := gz_bd h
    refine mc_qIsBracket (pc := 22) hX c5 ⟨Nat.le_of_ble_eq_true rfl, Nat.le_of_ble_eq_true rfl⟩ (rest := []) rfl (Nat.le_of_ble_eq_true rfl) dX6_qDropsToBracket_22 ?_
    refine gz_if_ne (pc := 25) (tgt := 35) hX dX6_qDropsToBracket_25 (by decide) (fun g6 => ?_) (fun g6 => ?_)
    · replace h := gz_if' g6 h
      obtain rfl := Option.some.inj h
      exact hk _ _ dX6_qDropsToBracket_35
    · replace h := gz_it' g6 h
      refine gz_aload_n (pc := 28) hX dX6_qDropsToBracket_28 rfl 0 rfl ?_
      obtain ⟨⟨⟨⟩, m8⟩, c9, h⟩ := gz_bd h
      refine mc_qDrops (pc := 29) hX c9 ⟨Nat.le_of_ble_eq_true rfl, Nat.le_of_ble_eq_true rfl⟩ (rest := []) rfl (Nat.le_of_ble_eq_true rfl) dX6_qDropsToBracket_29 ?_
      refine gz_goto (pc := 32) (tgt := 0) hX dX6_qDropsToBracket_32 (by decide) ?_
      obtain rfl := Option.some.inj h
      exact hk
noncomputable def ml_X6_qDropsToBracket_0  (m : MM) : Option (Unit × MM) := gz_loop (fun q : (MM) => mb_X6_qDropsToBracket_0  q) (m)
theorem wl_X6_qDropsToBracket_0 {X : gz_X} {G : gz_G} (hX : gz_C mS X G cX6_qDropsToBracket 1 RX6 2 41)   {m : MM} {z : (Unit × MM)} (h : ml_X6_qDropsToBracket_0  m = some z) (hk : (fun z : (Unit × MM) => gz_kV mS X G 1 (0, 0) cX6_qDropsToBracket (mF z.2)) z) : gz_V mS X G 1 (0, 0) (mF m) 0 [(0, .ref (gz_ad G 2000))] [] := by
  have hp : mP_X6_qDropsToBracket_0 X G (m) := gz_loop_ind (fun q z hz hkz => wb_X6_qDropsToBracket_0 hX  hz hkz) h hk
  exact hp
noncomputable def mf_qDropsToBracket  (m : MM) : Option (Unit × MM) :=
  (ml_X6_qDropsToBracket_0  m)
theorem wm_qDropsToBracket {X : gz_X} {G : gz_G} (hX : gz_C mS X G cX6_qDropsToBracket 1 RX6 2 41)   {m : MM} {z : (Unit × MM)} (h : mf_qDropsToBracket  m = some z) (hk : (fun z : (Unit × MM) => gz_kV mS X G 1 (0, 0) cX6_qDropsToBracket (mF z.2)) z) : gz_V mS X G 1 (0, 0) (mF m) 0 [(0, .ref (gz_ad G 2000))] [] := by
  unfold mf_qDropsToBracket at h
  exact wl_X6_qDropsToBracket_0 hX h hk
theorem mt_qDropsToBracket {G : gz_G} {l : Launch}   {m m9 : MM} (h : mf_qDropsToBracket  m = some ((), m9)) : gz_Met mS G l yX6_qDropsToBracket cX6_qDropsToBracket 1 none (mRm 2 41) [.ref (gz_ad G 2000)] (mF m) (mF m9) none :=
  gz_ofV (plainFor_of_name mz_plain) (Nat.le_of_ble_eq_true rfl) fun X _ hX hk => wm_qDropsToBracket hX h hk
theorem mc_qDropsToBracket {X : gz_X} {G : gz_G} {cc : ByteArray} {nL fr lo pc : Nat} {lv : List (Nat × Value)} {rest st0 : List Value} (hX : gz_C mS X G cc nL RX6 fr lo)   {m m9 : MM} (h : mf_qDropsToBracket  m = some ((), m9)) (hroom : 2 + 1 ≤ fr ∧ 8 + (1 + 11) + 41 ≤ lo) (hst : st0 = [.ref (gz_ad G 2000)] ++ rest) (hW : (rest.map fun v => v.category).sum ≤ 8) (hd : decode cc pc = .ok (.invokevirtual 624, 3)) (kk : gz_V mS X G nL (0, 0) (mF m9) (pc + 3) lv (rest)) : gz_V mS X G nL (0, 0) (mF m) pc lv st0 :=
  gz_callV hX mz_E (As := []) (rest := rest) (q := (RX6, TX6, 104)) (ci := 0) (c := 2000) (mt_qDropsToBracket (l := X.2.1) h) (lw_V q2246 q2248 qs102 q182 q2249) (n := 0) (by decide +kernel) hroom rfl rfl (by decide) rfl hst hW hd (rem := (0, 0)) kk
/-! qIsOn(I)Z -/
noncomputable def mj_X6_qIsOn_26  (m : MM) : Option (Int32 × MM) :=
  some ((0 : Int32), m)
theorem wb_X6_qIsOn_26 {X : gz_X} {G : gz_G} (hX : gz_C mS X G cX6_qIsOn 2 RX6 0 0)   {m : MM} {z : (Int32 × MM)} (h : mj_X6_qIsOn_26  m = some z) (hk : (fun z : (Int32 × MM) => gz_kZ mS X G 2 (0, 0) cX6_qIsOn (mF z.2) z.1) z) : gz_V mS X G 2 (0, 0) (mF m) 26 [(0, .ref (gz_ad G 2000))] [] := by
  unfold mj_X6_qIsOn_26 at h
  refine gz_iconst (pc := 26) (v := (0 : Int32)) hX dX6_qIsOn_26 (by decide) ?_
  obtain rfl := Option.some.inj h
  exact hk _ _ dX6_qIsOn_27 (Or.inl rfl)
noncomputable def mf_qIsOn (x1 : Int32) (m : MM) : Option (Int32 × MM) :=
  (if (m.1 2000 95) ≤ (0 : Int32) then (mj_X6_qIsOn_26  m) else (if gz_in ((m.1 2000 95) - (1 : Int32)) (1700) then (if (m.1 1095 (gz_ix ((m.1 2000 95) - (1 : Int32)))) = x1 then some ((1 : Int32), m) else (mj_X6_qIsOn_26  m)) else none))
theorem wm_qIsOn {X : gz_X} {G : gz_G} (hX : gz_C mS X G cX6_qIsOn 2 RX6 0 0) {x1 : Int32}  {m : MM} {z : (Int32 × MM)} (h : mf_qIsOn x1 m = some z) (hk : (fun z : (Int32 × MM) => gz_kZ mS X G 2 (0, 0) cX6_qIsOn (mF z.2) z.1) z) : gz_V mS X G 2 (0, 0) (mF m) 0 [(0, .ref (gz_ad G 2000)), (1, .int x1)] [] := by
  unfold mf_qIsOn at h
  refine gz_aload_n (pc := 0) hX dX6_qIsOn_0 rfl 0 rfl ?_
  refine mg_95 (pc := 1) hX dX6_qIsOn_1 ?_
  refine gz_if_le (pc := 4) (tgt := 26) hX dX6_qIsOn_4 (by decide) (fun g1 => ?_) (fun g1 => ?_)
  · replace h := gz_it' g1 h
    refine gz_sub (lw := [(0, .ref (gz_ad G 2000))]) [0] rfl ?_
    exact wb_X6_qIsOn_26 hX h hk
  · replace h := gz_if' g1 h
    refine gz_aload_n (pc := 7) hX dX6_qIsOn_7 rfl 0 rfl ?_
    refine mg_94 (pc := 8) hX dX6_qIsOn_8 ?_
    refine gz_aload_n (pc := 11) hX dX6_qIsOn_11 rfl 0 rfl ?_
    refine mg_95 (pc := 12) hX dX6_qIsOn_12 ?_
    refine gz_iconst (pc := 15) (v := (1 : Int32)) hX dX6_qIsOn_15 (by decide) ?_
    refine gz_isub (pc := 16) hX dX6_qIsOn_16 ?_
    obtain ⟨g2, h⟩ := gz_gu h
    refine mz_iald (pc := 17) (c := 1095) (n := 1700) hX rfl rfl g2 dX6_qIsOn_17 ?_
    refine gz_iload_n (pc := 18) hX dX6_qIsOn_18 rfl 1 rfl ?_
    refine gz_icmp_ne (pc := 19) (tgt := 26) hX dX6_qIsOn_19 (by decide) (fun g3 => ?_) (fun g3 => ?_)
    · replace h := gz_if' g3 h
      refine gz_sub (lw := [(0, .ref (gz_ad G 2000))]) [0] rfl ?_
      exact wb_X6_qIsOn_26 hX h hk
    · replace h := gz_it' g3 h
      refine gz_iconst (pc := 22) (v := (1 : Int32)) hX dX6_qIsOn_22 (by decide) ?_
      refine gz_goto (pc := 23) (tgt := 27) hX dX6_qIsOn_23 (by decide) ?_
      obtain rfl := Option.some.inj h
      exact hk _ _ dX6_qIsOn_27 (Or.inr rfl)
theorem mt_qIsOn {G : gz_G} {l : Launch} {x1 : Int32}  {m m9 : MM} {r : Int32} (h : mf_qIsOn x1 m = some (r, m9)) : gz_Met mS G l yX6_qIsOn cX6_qIsOn 2 (some .boolean) (mRm 0 0) [.ref (gz_ad G 2000), .int x1] (mF m) (mF m9) (some (.int r)) :=
  gz_ofZ (plainFor_of_name mz_plain) (Nat.le_of_ble_eq_true rfl) fun X _ hX hk => wm_qIsOn hX h hk
theorem mc_qIsOn {X : gz_X} {G : gz_G} {cc : ByteArray} {nL fr lo pc : Nat} {lv : List (Nat × Value)} {rest st0 : List Value} (hX : gz_C mS X G cc nL RX6 fr lo) {x1 : Int32}  {m m9 : MM} {r : Int32} (h : mf_qIsOn x1 m = some (r, m9)) (hroom : 0 + 1 ≤ fr ∧ 8 + (2 + 11) + 0 ≤ lo) (hst : st0 = [.int x1, .ref (gz_ad G 2000)] ++ rest) (hW : (rest.map fun v => v.category).sum ≤ 8) (hd : decode cc pc = .ok (.invokevirtual 627, 3)) (kk : gz_V mS X G nL (0, 0) (mF m9) (pc + 3) lv (.int r :: rest)) : gz_V mS X G nL (0, 0) (mF m) pc lv st0 :=
  gz_callV hX mz_E (As := [.int x1]) (rest := rest) (q := (RX6, TX6, 104)) (ci := 0) (c := 2000) (mt_qIsOn (l := X.2.1) h) (lw_V q2250 q2252 qs103 q182 q2253) (n := 1) (by decide +kernel) hroom rfl rfl (by decide) rfl hst hW hd (rem := (0, 0)) kk
/-! qGoesOn()Z -/
def mP_X6_qGoesOn_0 (X : gz_X) (G : gz_G) (q : (MM)) : Prop := gz_V mS X G 2 (0, 0) (mF q) 0 [(0, .ref (gz_ad G 2000))] []
def mP_X6_qGoesOn_162 (X : gz_X) (G : gz_G) (q : (Int32 × MM)) : Prop := gz_V mS X G 2 (0, 0) (mF q.2) 162 [(0, .ref (gz_ad G 2000)), (1, .int q.1)] []
noncomputable def mj_X6_qGoesOn_178 (x1 : Int32) (m : MM) : Option ((Int32 × MM) ⊕ (Int32 × MM)) :=
  ((mf_qDrops m).bind fun (_, m2) => some (Sum.inl (x1, m2)))
theorem wb_X6_qGoesOn_178 {X : gz_X} {G : gz_G} (hX : gz_C mS X G cX6_qGoesOn 2 RX6 3 62) {x1 : Int32}  {m : MM} {z : ((Int32 × MM) ⊕ (Int32 × MM))} (h : mj_X6_qGoesOn_178 x1 m = some z) (hk : (Sum.elim (mP_X6_qGoesOn_162 X G) (fun z : (Int32 × MM) => gz_kZ mS X G 2 (0, 0) cX6_qGoesOn (mF z.2) z.1)) z) : gz_V mS X G 2 (0, 0) (mF m) 178 [(0, .ref (gz_ad G 2000)), (1, .int x1)] [] := by
  unfold mj_X6_qGoesOn_178 at h
  refine gz_aload_n (pc := 178) hX dX6_qGoesOn_178 rfl 0 rfl ?_
  obtain ⟨⟨⟨⟩, m2⟩, c3, h⟩ := gz_bd h
  refine mc_qDrops (pc := 179) hX c3 ⟨Nat.le_of_ble_eq_true rfl, Nat.le_of_ble_eq_true rfl⟩ (rest := []) rfl (Nat.le_of_ble_eq_true rfl) dX6_qGoesOn_179 ?_
  refine gz_goto (pc := 182) (tgt := 162) hX dX6_qGoesOn_182 (by decide) ?_
  obtain rfl := Option.some.inj h
  exact hk
noncomputable def mb_X6_qGoesOn_162 (x1 : Int32) (m : MM) : Option ((Int32 × MM) ⊕ (Int32 × MM)) :=
  ((mf_qIsOn (3 : Int32) m).bind fun (r1, m2) => (if r1 = (0 : Int32) then ((mf_qIsOn (4 : Int32) m2).bind fun (r5, m6) => (if r5 = (0 : Int32) then (if gz_in (m6.1 2000 95) (1700) then gz_let (msI m6 1095 (gz_ix (m6.1 2000 95)) x1) fun m10 => gz_let (msI m10 2000 95 ((m10.1 2000 95) + (1 : Int32))) fun m11 => some (Sum.inr ((1 : Int32), m11)) else none) else (mj_X6_qGoesOn_178 x1 m6))) else (mj_X6_qGoesOn_178 x1 m2)))
theorem wb_X6_qGoesOn_162 {X : gz_X} {G : gz_G} (hX : gz_C mS X G cX6_qGoesOn 2 RX6 3 62) {x1 : Int32}  {m : MM} {z : ((Int32 × MM) ⊕ (Int32 × MM))} (h : mb_X6_qGoesOn_162 x1 m = some z) (hk : (Sum.elim (mP_X6_qGoesOn_162 X G) (fun z : (Int32 × MM) => gz_kZ mS X G 2 (0, 0) cX6_qGoesOn (mF z.2) z.1)) z) : gz_V mS X G 2 (0, 0) (mF m) 162 [(0, .ref (gz_ad G 2000)), (1, .int x1)] [] := by
  unfold mb_X6_qGoesOn_162 at h
  refine gz_aload_n (pc := 162) hX dX6_qGoesOn_162 rfl 0 rfl ?_
  refine gz_iconst (pc := 163) (v := (3 : Int32)) hX dX6_qGoesOn_163 (by decide) ?_
  obtain ⟨⟨r1, m2⟩, c3, h⟩ := gz_bd h
  refine mc_qIsOn (pc := 164) hX c3 ⟨Nat.le_of_ble_eq_true rfl, Nat.le_of_ble_eq_true rfl⟩ (rest := []) rfl (Nat.le_of_ble_eq_true rfl) dX6_qGoesOn_164 ?_
  refine gz_if_ne (pc := 167) (tgt := 178) hX dX6_qGoesOn_167 (by decide) (fun g4 => ?_) (fun g4 => ?_)
  · replace h := gz_if' g4 h
    exact wb_X6_qGoesOn_178 hX h hk
  · replace h := gz_it' g4 h
    refine gz_aload_n (pc := 170) hX dX6_qGoesOn_170 rfl 0 rfl ?_
    refine gz_iconst (pc := 171) (v := (4 : Int32)) hX dX6_qGoesOn_171 (by decide) ?_
    obtain ⟨⟨r5, m6⟩, c7, h⟩ := gz_bd h
    refine mc_qIsOn (pc := 172) hX c7 ⟨Nat.le_of_ble_eq_true rfl, Nat.le_of_ble_eq_true rfl⟩ (rest := []) rfl (Nat.le_of_ble_eq_true rfl) dX6_qGoesOn_172 ?_
    refine gz_if_eq (pc := 175) (tgt := 185) hX dX6_qGoesOn_175 (by decide) (fun g8 => ?_) (fun g8 => ?_)
    · replace h := gz_it' g8 h
      refine gz_aload_n (pc := 185) hX dX6_qGoesOn_185 rfl 0 rfl ?_
      refine mg_94 (pc := 186) hX dX6_qGoesOn_186 ?_
      refine gz_aload_n (pc := 189) hX dX6_qGoesOn_189 rfl 0 rfl ?_
      refine mg_95 (pc := 190) hX dX6_qGoesOn_190 ?_
      refine gz_iload_n (pc := 193) hX dX6_qGoesOn_193 rfl 1 rfl ?_
      obtain ⟨g9, h⟩ := gz_gu h
      obtain ⟨m10, em10, h⟩ := gz_lt h
      refine mz_iast (pc := 194) (c := 1095) (n := 1700) hX rfl rfl g9 (Nat.le_of_ble_eq_true rfl) dX6_qGoesOn_194 em10 ?_
      refine gz_aload_n (pc := 195) hX dX6_qGoesOn_195 rfl 0 rfl ?_
      refine gz_dup (pc := 196) hX dX6_qGoesOn_196 rfl ?_
      refine mg_95 (pc := 197) hX dX6_qGoesOn_197 ?_
      refine gz_iconst (pc := 200) (v := (1 : Int32)) hX dX6_qGoesOn_200 (by decide) ?_
      refine gz_iadd (pc := 201) hX dX6_qGoesOn_201 ?_
      obtain ⟨m11, em11, h⟩ := gz_lt h
      refine mp_95 (pc := 202) hX dX6_qGoesOn_202 em11 ?_
      refine gz_iconst (pc := 205) (v := (1 : Int32)) hX dX6_qGoesOn_205 (by decide) ?_
      obtain rfl := Option.some.inj h
      exact hk _ _ dX6_qGoesOn_206 (Or.inr rfl)
    · replace h := gz_if' g8 h
      exact wb_X6_qGoesOn_178 hX h hk
noncomputable def ml_X6_qGoesOn_162 (x1 : Int32) (m : MM) : Option (Int32 × MM) := gz_loop (fun q : (Int32 × MM) => mb_X6_qGoesOn_162 q.1 q.2) (x1, m)
theorem wl_X6_qGoesOn_162 {X : gz_X} {G : gz_G} (hX : gz_C mS X G cX6_qGoesOn 2 RX6 3 62) {x1 : Int32}  {m : MM} {z : (Int32 × MM)} (h : ml_X6_qGoesOn_162 x1 m = some z) (hk : (fun z : (Int32 × MM) => gz_kZ mS X G 2 (0, 0) cX6_qGoesOn (mF z.2) z.1) z) : gz_V mS X G 2 (0, 0) (mF m) 162 [(0, .ref (gz_ad G 2000)), (1, .int x1)] [] := by
  have hp : mP_X6_qGoesOn_162 X G (x1, m) := gz_loop_ind (fun q z hz hkz => wb_X6_qGoesOn_162 hX  hz hkz) h hk
  exact hp
noncomputable def mj_X6_qGoesOn_161 (s0 : Int32) (m : MM) : Option (Int32 × MM) :=
  (ml_X6_qGoesOn_162 s0 m)
theorem wb_X6_qGoesOn_161 {X : gz_X} {G : gz_G} (hX : gz_C mS X G cX6_qGoesOn 2 RX6 3 62) {s0 : Int32}  {m : MM} {z : (Int32 × MM)} (h : mj_X6_qGoesOn_161 s0 m = some z) (hk : (fun z : (Int32 × MM) => gz_kZ mS X G 2 (0, 0) cX6_qGoesOn (mF z.2) z.1) z) : gz_V mS X G 2 (0, 0) (mF m) 161 [(0, .ref (gz_ad G 2000))] [.int s0] := by
  unfold mj_X6_qGoesOn_161 at h
  refine gz_istore_n (pc := 161) (lw := [(1, .int s0), (0, .ref (gz_ad G 2000))]) hX dX6_qGoesOn_161 rfl (by decide) rfl ?_
  refine gz_sub (lw := [(0, .ref (gz_ad G 2000)), (1, .int s0)]) [1, 0] rfl ?_
  exact wl_X6_qGoesOn_162 hX h hk
noncomputable def mj_X6_qGoesOn_140  (m : MM) : Option (Int32 × MM) :=
  (if gz_in ((m.1 2000 2) - (1 : Int32)) (1600) then (if (m.1 1001 (gz_ix ((m.1 2000 2) - (1 : Int32)))) = (42 : Int32) then (mj_X6_qGoesOn_161 (3 : Int32) m) else (mj_X6_qGoesOn_161 (4 : Int32) m)) else none)
theorem wb_X6_qGoesOn_140 {X : gz_X} {G : gz_G} (hX : gz_C mS X G cX6_qGoesOn 2 RX6 3 62)   {m : MM} {z : (Int32 × MM)} (h : mj_X6_qGoesOn_140  m = some z) (hk : (fun z : (Int32 × MM) => gz_kZ mS X G 2 (0, 0) cX6_qGoesOn (mF z.2) z.1) z) : gz_V mS X G 2 (0, 0) (mF m) 140 [(0, .ref (gz_ad G 2000))] [] := by
  unfold mj_X6_qGoesOn_140 at h
  refine gz_aload_n (pc := 140) hX dX6_qGoesOn_140 rfl 0 rfl ?_
  refine mg_0 (pc := 141) hX dX6_qGoesOn_141 ?_
  refine gz_aload_n (pc := 144) hX dX6_qGoesOn_144 rfl 0 rfl ?_
  refine mg_2 (pc := 145) hX dX6_qGoesOn_145 ?_
  refine gz_iconst (pc := 148) (v := (1 : Int32)) hX dX6_qGoesOn_148 (by decide) ?_
  refine gz_isub (pc := 149) hX dX6_qGoesOn_149 ?_
  obtain ⟨g1, h⟩ := gz_gu h
  refine mz_iald (pc := 150) (c := 1001) (n := 1600) hX rfl rfl g1 dX6_qGoesOn_150 ?_
  refine gz_bipush (pc := 151) (v := (42 : Int32)) hX dX6_qGoesOn_151 (by decide) ?_
  refine gz_icmp_ne (pc := 153) (tgt := 160) hX dX6_qGoesOn_153 (by decide) (fun g2 => ?_) (fun g2 => ?_)
  · replace h := gz_if' g2 h
    refine gz_iconst (pc := 160) (v := (4 : Int32)) hX dX6_qGoesOn_160 (by decide) ?_
    exact wb_X6_qGoesOn_161 hX h hk
  · replace h := gz_it' g2 h
    refine gz_iconst (pc := 156) (v := (3 : Int32)) hX dX6_qGoesOn_156 (by decide) ?_
    refine gz_goto (pc := 157) (tgt := 161) hX dX6_qGoesOn_157 (by decide) ?_
    exact wb_X6_qGoesOn_161 hX h hk
def mP_X6_qGoesOn_247 (X : gz_X) (G : gz_G) (q : (Int32 × MM)) : Prop := gz_V mS X G 2 (0, 0) (mF q.2) 247 [(0, .ref (gz_ad G 2000)), (1, .int q.1)] []
noncomputable def mj_X6_qGoesOn_279 (x1 : Int32) (m : MM) : Option ((Int32 × MM) ⊕ (Int32 × MM)) :=
  ((mf_qDrops m).bind fun (_, m2) => some (Sum.inl (x1, m2)))
theorem wb_X6_qGoesOn_279 {X : gz_X} {G : gz_G} (hX : gz_C mS X G cX6_qGoesOn 2 RX6 3 62) {x1 : Int32}  {m : MM} {z : ((Int32 × MM) ⊕ (Int32 × MM))} (h : mj_X6_qGoesOn_279 x1 m = some z) (hk : (Sum.elim (mP_X6_qGoesOn_247 X G) (fun z : (Int32 × MM) => gz_kZ mS X G 2 (0, 0) cX6_qGoesOn (mF z.2) z.1)) z) : gz_V mS X G 2 (0, 0) (mF m) 279 [(0, .ref (gz_ad G 2000)), (1, .int x1)] [] := by
  unfold mj_X6_qGoesOn_279 at h
  refine gz_aload_n (pc := 279) hX dX6_qGoesOn_279 rfl 0 rfl ?_
  obtain ⟨⟨⟨⟩, m2⟩, c3, h⟩ := gz_bd h
  refine mc_qDrops (pc := 280) hX c3 ⟨Nat.le_of_ble_eq_true rfl, Nat.le_of_ble_eq_true rfl⟩ (rest := []) rfl (Nat.le_of_ble_eq_true rfl) dX6_qGoesOn_280 ?_
  refine gz_goto (pc := 283) (tgt := 247) hX dX6_qGoesOn_283 (by decide) ?_
  obtain rfl := Option.some.inj h
  exact hk
noncomputable def mb_X6_qGoesOn_247 (x1 : Int32) (m : MM) : Option ((Int32 × MM) ⊕ (Int32 × MM)) :=
  ((mf_qIsOn (3 : Int32) m).bind fun (r1, m2) => (if r1 = (0 : Int32) then ((mf_qIsOn (4 : Int32) m2).bind fun (r5, m6) => (if r5 = (0 : Int32) then ((mf_qIsOn (1 : Int32) m6).bind fun (r9, m10) => (if r9 = (0 : Int32) then ((mf_qIsOn (2 : Int32) m10).bind fun (r13, m14) => (if r13 = (0 : Int32) then (if gz_in (m14.1 2000 95) (1700) then gz_let (msI m14 1095 (gz_ix (m14.1 2000 95)) x1) fun m18 => gz_let (msI m18 2000 95 ((m18.1 2000 95) + (1 : Int32))) fun m19 => some (Sum.inr ((1 : Int32), m19)) else none) else (mj_X6_qGoesOn_279 x1 m14))) else (mj_X6_qGoesOn_279 x1 m10))) else (mj_X6_qGoesOn_279 x1 m6))) else (mj_X6_qGoesOn_279 x1 m2)))
theorem wb_X6_qGoesOn_247 {X : gz_X} {G : gz_G} (hX : gz_C mS X G cX6_qGoesOn 2 RX6 3 62) {x1 : Int32}  {m : MM} {z : ((Int32 × MM) ⊕ (Int32 × MM))} (h : mb_X6_qGoesOn_247 x1 m = some z) (hk : (Sum.elim (mP_X6_qGoesOn_247 X G) (fun z : (Int32 × MM) => gz_kZ mS X G 2 (0, 0) cX6_qGoesOn (mF z.2) z.1)) z) : gz_V mS X G 2 (0, 0) (mF m) 247 [(0, .ref (gz_ad G 2000)), (1, .int x1)] [] := by
  unfold mb_X6_qGoesOn_247 at h
  refine gz_aload_n (pc := 247) hX dX6_qGoesOn_247 rfl 0 rfl ?_
  refine gz_iconst (pc := 248) (v := (3 : Int32)) hX dX6_qGoesOn_248 (by decide) ?_
  obtain ⟨⟨r1, m2⟩, c3, h⟩ := gz_bd h
  refine mc_qIsOn (pc := 249) hX c3 ⟨Nat.le_of_ble_eq_true rfl, Nat.le_of_ble_eq_true rfl⟩ (rest := []) rfl (Nat.le_of_ble_eq_true rfl) dX6_qGoesOn_249 ?_
  refine gz_if_ne (pc := 252) (tgt := 279) hX dX6_qGoesOn_252 (by decide) (fun g4 => ?_) (fun g4 => ?_)
  · replace h := gz_if' g4 h
    exact wb_X6_qGoesOn_279 hX h hk
  · replace h := gz_it' g4 h
    refine gz_aload_n (pc := 255) hX dX6_qGoesOn_255 rfl 0 rfl ?_
    refine gz_iconst (pc := 256) (v := (4 : Int32)) hX dX6_qGoesOn_256 (by decide) ?_
    obtain ⟨⟨r5, m6⟩, c7, h⟩ := gz_bd h
    refine mc_qIsOn (pc := 257) hX c7 ⟨Nat.le_of_ble_eq_true rfl, Nat.le_of_ble_eq_true rfl⟩ (rest := []) rfl (Nat.le_of_ble_eq_true rfl) dX6_qGoesOn_257 ?_
    refine gz_if_ne (pc := 260) (tgt := 279) hX dX6_qGoesOn_260 (by decide) (fun g8 => ?_) (fun g8 => ?_)
    · replace h := gz_if' g8 h
      exact wb_X6_qGoesOn_279 hX h hk
    · replace h := gz_it' g8 h
      refine gz_aload_n (pc := 263) hX dX6_qGoesOn_263 rfl 0 rfl ?_
      refine gz_iconst (pc := 264) (v := (1 : Int32)) hX dX6_qGoesOn_264 (by decide) ?_
      obtain ⟨⟨r9, m10⟩, c11, h⟩ := gz_bd h
      refine mc_qIsOn (pc := 265) hX c11 ⟨Nat.le_of_ble_eq_true rfl, Nat.le_of_ble_eq_true rfl⟩ (rest := []) rfl (Nat.le_of_ble_eq_true rfl) dX6_qGoesOn_265 ?_
      refine gz_if_ne (pc := 268) (tgt := 279) hX dX6_qGoesOn_268 (by decide) (fun g12 => ?_) (fun g12 => ?_)
      · replace h := gz_if' g12 h
        exact wb_X6_qGoesOn_279 hX h hk
      · replace h := gz_it' g12 h
        refine gz_aload_n (pc := 271) hX dX6_qGoesOn_271 rfl 0 rfl ?_
        refine gz_iconst (pc := 272) (v := (2 : Int32)) hX dX6_qGoesOn_272 (by decide) ?_
        obtain ⟨⟨r13, m14⟩, c15, h⟩ := gz_bd h
        refine mc_qIsOn (pc := 273) hX c15 ⟨Nat.le_of_ble_eq_true rfl, Nat.le_of_ble_eq_true rfl⟩ (rest := []) rfl (Nat.le_of_ble_eq_true rfl) dX6_qGoesOn_273 ?_
        refine gz_if_eq (pc := 276) (tgt := 286) hX dX6_qGoesOn_276 (by decide) (fun g16 => ?_) (fun g16 => ?_)
        · replace h := gz_it' g16 h
          refine gz_aload_n (pc := 286) hX dX6_qGoesOn_286 rfl 0 rfl ?_
          refine mg_94 (pc := 287) hX dX6_qGoesOn_287 ?_
          refine gz_aload_n (pc := 290) hX dX6_qGoesOn_290 rfl 0 rfl ?_
          refine mg_95 (pc := 291) hX dX6_qGoesOn_291 ?_
          refine gz_iload_n (pc := 294) hX dX6_qGoesOn_294 rfl 1 rfl ?_
          obtain ⟨g17, h⟩ := gz_gu h
          obtain ⟨m18, em18, h⟩ := gz_lt h
          refine mz_iast (pc := 295) (c := 1095) (n := 1700) hX rfl rfl g17 (Nat.le_of_ble_eq_true rfl) dX6_qGoesOn_295 em18 ?_
          refine gz_aload_n (pc := 296) hX dX6_qGoesOn_296 rfl 0 rfl ?_
          refine gz_dup (pc := 297) hX dX6_qGoesOn_297 rfl ?_
          refine mg_95 (pc := 298) hX dX6_qGoesOn_298 ?_
          refine gz_iconst (pc := 301) (v := (1 : Int32)) hX dX6_qGoesOn_301 (by decide) ?_
          refine gz_iadd (pc := 302) hX dX6_qGoesOn_302 ?_
          obtain ⟨m19, em19, h⟩ := gz_lt h
          refine mp_95 (pc := 303) hX dX6_qGoesOn_303 em19 ?_
          refine gz_iconst (pc := 306) (v := (1 : Int32)) hX dX6_qGoesOn_306 (by decide) ?_
          obtain rfl := Option.some.inj h
          exact hk _ _ dX6_qGoesOn_307 (Or.inr rfl)
        · replace h := gz_if' g16 h
          exact wb_X6_qGoesOn_279 hX h hk
noncomputable def ml_X6_qGoesOn_247 (x1 : Int32) (m : MM) : Option (Int32 × MM) := gz_loop (fun q : (Int32 × MM) => mb_X6_qGoesOn_247 q.1 q.2) (x1, m)
theorem wl_X6_qGoesOn_247 {X : gz_X} {G : gz_G} (hX : gz_C mS X G cX6_qGoesOn 2 RX6 3 62) {x1 : Int32}  {m : MM} {z : (Int32 × MM)} (h : ml_X6_qGoesOn_247 x1 m = some z) (hk : (fun z : (Int32 × MM) => gz_kZ mS X G 2 (0, 0) cX6_qGoesOn (mF z.2) z.1) z) : gz_V mS X G 2 (0, 0) (mF m) 247 [(0, .ref (gz_ad G 2000)), (1, .int x1)] [] := by
  have hp : mP_X6_qGoesOn_247 X G (x1, m) := gz_loop_ind (fun q z hz hkz => wb_X6_qGoesOn_247 hX  hz hkz) h hk
  exact hp
noncomputable def mj_X6_qGoesOn_246 (s0 : Int32) (m : MM) : Option (Int32 × MM) :=
  (ml_X6_qGoesOn_247 s0 m)
theorem wb_X6_qGoesOn_246 {X : gz_X} {G : gz_G} (hX : gz_C mS X G cX6_qGoesOn 2 RX6 3 62) {s0 : Int32}  {m : MM} {z : (Int32 × MM)} (h : mj_X6_qGoesOn_246 s0 m = some z) (hk : (fun z : (Int32 × MM) => gz_kZ mS X G 2 (0, 0) cX6_qGoesOn (mF z.2) z.1) z) : gz_V mS X G 2 (0, 0) (mF m) 246 [(0, .ref (gz_ad G 2000))] [.int s0] := by
  unfold mj_X6_qGoesOn_246 at h
  refine gz_istore_n (pc := 246) (lw := [(1, .int s0), (0, .ref (gz_ad G 2000))]) hX dX6_qGoesOn_246 rfl (by decide) rfl ?_
  refine gz_sub (lw := [(0, .ref (gz_ad G 2000)), (1, .int s0)]) [1, 0] rfl ?_
  exact wl_X6_qGoesOn_247 hX h hk
noncomputable def mj_X6_qGoesOn_225  (m : MM) : Option (Int32 × MM) :=
  (if gz_in ((m.1 2000 2) - (1 : Int32)) (1600) then (if (m.1 1001 (gz_ix ((m.1 2000 2) - (1 : Int32)))) = (43 : Int32) then (mj_X6_qGoesOn_246 (1 : Int32) m) else (mj_X6_qGoesOn_246 (2 : Int32) m)) else none)
theorem wb_X6_qGoesOn_225 {X : gz_X} {G : gz_G} (hX : gz_C mS X G cX6_qGoesOn 2 RX6 3 62)   {m : MM} {z : (Int32 × MM)} (h : mj_X6_qGoesOn_225  m = some z) (hk : (fun z : (Int32 × MM) => gz_kZ mS X G 2 (0, 0) cX6_qGoesOn (mF z.2) z.1) z) : gz_V mS X G 2 (0, 0) (mF m) 225 [(0, .ref (gz_ad G 2000))] [] := by
  unfold mj_X6_qGoesOn_225 at h
  refine gz_aload_n (pc := 225) hX dX6_qGoesOn_225 rfl 0 rfl ?_
  refine mg_0 (pc := 226) hX dX6_qGoesOn_226 ?_
  refine gz_aload_n (pc := 229) hX dX6_qGoesOn_229 rfl 0 rfl ?_
  refine mg_2 (pc := 230) hX dX6_qGoesOn_230 ?_
  refine gz_iconst (pc := 233) (v := (1 : Int32)) hX dX6_qGoesOn_233 (by decide) ?_
  refine gz_isub (pc := 234) hX dX6_qGoesOn_234 ?_
  obtain ⟨g1, h⟩ := gz_gu h
  refine mz_iald (pc := 235) (c := 1001) (n := 1600) hX rfl rfl g1 dX6_qGoesOn_235 ?_
  refine gz_bipush (pc := 236) (v := (43 : Int32)) hX dX6_qGoesOn_236 (by decide) ?_
  refine gz_icmp_ne (pc := 238) (tgt := 245) hX dX6_qGoesOn_238 (by decide) (fun g2 => ?_) (fun g2 => ?_)
  · replace h := gz_if' g2 h
    refine gz_iconst (pc := 245) (v := (2 : Int32)) hX dX6_qGoesOn_245 (by decide) ?_
    exact wb_X6_qGoesOn_246 hX h hk
  · replace h := gz_it' g2 h
    refine gz_iconst (pc := 241) (v := (1 : Int32)) hX dX6_qGoesOn_241 (by decide) ?_
    refine gz_goto (pc := 242) (tgt := 246) hX dX6_qGoesOn_242 (by decide) ?_
    exact wb_X6_qGoesOn_246 hX h hk
noncomputable def mj_X6_qGoesOn_326  (m : MM) : Option (Int32 × MM) :=
  ((mf_asksSign (44 : Int32) m).bind fun (_, m2) => (if (m2.1 2000 5) = (0 : Int32) then ((mf_qDropsToBracket m2).bind fun (_, m6) => (if gz_in ((m6.1 2000 95) - (1 : Int32)) (1700) then (if gz_in ((m6.1 2000 95) - (1 : Int32)) (1700) then gz_let (msI m6 1095 (gz_ix ((m6.1 2000 95) - (1 : Int32))) ((m6.1 1095 (gz_ix ((m6.1 2000 95) - (1 : Int32)))) + (2 : Int32))) fun m10 => some ((1 : Int32), m10) else none) else none)) else some ((0 : Int32), m2)))
theorem wb_X6_qGoesOn_326 {X : gz_X} {G : gz_G} (hX : gz_C mS X G cX6_qGoesOn 2 RX6 3 62)   {m : MM} {z : (Int32 × MM)} (h : mj_X6_qGoesOn_326  m = some z) (hk : (fun z : (Int32 × MM) => gz_kZ mS X G 2 (0, 0) cX6_qGoesOn (mF z.2) z.1) z) : gz_V mS X G 2 (0, 0) (mF m) 326 [(0, .ref (gz_ad G 2000))] [] := by
  unfold mj_X6_qGoesOn_326 at h
  refine gz_aload_n (pc := 326) hX dX6_qGoesOn_326 rfl 0 rfl ?_
  refine gz_bipush (pc := 327) (v := (44 : Int32)) hX dX6_qGoesOn_327 (by decide) ?_
  obtain ⟨⟨⟨⟩, m2⟩, c3, h⟩ := gz_bd h
  refine mc_asksSign (pc := 329) hX c3 ⟨Nat.le_of_ble_eq_true rfl, Nat.le_of_ble_eq_true rfl⟩ (rest := []) rfl (Nat.le_of_ble_eq_true rfl) dX6_qGoesOn_329 ?_
  refine gz_aload_n (pc := 332) hX dX6_qGoesOn_332 rfl 0 rfl ?_
  refine mg_5 (pc := 333) hX dX6_qGoesOn_333 ?_
  refine gz_if_eq (pc := 336) (tgt := 341) hX dX6_qGoesOn_336 (by decide) (fun g4 => ?_) (fun g4 => ?_)
  · replace h := gz_it' g4 h
    refine gz_aload_n (pc := 341) hX dX6_qGoesOn_341 rfl 0 rfl ?_
    obtain ⟨⟨⟨⟩, m6⟩, c7, h⟩ := gz_bd h
    refine mc_qDropsToBracket (pc := 342) hX c7 ⟨Nat.le_of_ble_eq_true rfl, Nat.le_of_ble_eq_true rfl⟩ (rest := []) rfl (Nat.le_of_ble_eq_true rfl) dX6_qGoesOn_342 ?_
    refine gz_aload_n (pc := 345) hX dX6_qGoesOn_345 rfl 0 rfl ?_
    refine mg_94 (pc := 346) hX dX6_qGoesOn_346 ?_
    refine gz_aload_n (pc := 349) hX dX6_qGoesOn_349 rfl 0 rfl ?_
    refine mg_95 (pc := 350) hX dX6_qGoesOn_350 ?_
    refine gz_iconst (pc := 353) (v := (1 : Int32)) hX dX6_qGoesOn_353 (by decide) ?_
    refine gz_isub (pc := 354) hX dX6_qGoesOn_354 ?_
    refine gz_dup2_11 (pc := 355) hX dX6_qGoesOn_355 rfl rfl ?_
    obtain ⟨g8, h⟩ := gz_gu h
    refine mz_iald (pc := 356) (c := 1095) (n := 1700) hX rfl rfl g8 dX6_qGoesOn_356 ?_
    refine gz_iconst (pc := 357) (v := (2 : Int32)) hX dX6_qGoesOn_357 (by decide) ?_
    refine gz_iadd (pc := 358) hX dX6_qGoesOn_358 ?_
    obtain ⟨g9, h⟩ := gz_gu h
    obtain ⟨m10, em10, h⟩ := gz_lt h
    refine mz_iast (pc := 359) (c := 1095) (n := 1700) hX rfl rfl g9 (Nat.le_of_ble_eq_true rfl) dX6_qGoesOn_359 em10 ?_
    refine gz_iconst (pc := 360) (v := (1 : Int32)) hX dX6_qGoesOn_360 (by decide) ?_
    obtain rfl := Option.some.inj h
    exact hk _ _ dX6_qGoesOn_361 (Or.inr rfl)
  · replace h := gz_if' g4 h
    refine gz_iconst (pc := 339) (v := (0 : Int32)) hX dX6_qGoesOn_339 (by decide) ?_
    obtain rfl := Option.some.inj h
    exact hk _ _ dX6_qGoesOn_340 (Or.inl rfl)
noncomputable def mj_X6_qGoesOn_386  (m : MM) : Option (Int32 × MM) :=
  some ((0 : Int32), m)
theorem wb_X6_qGoesOn_386 {X : gz_X} {G : gz_G} (hX : gz_C mS X G cX6_qGoesOn 2 RX6 3 62)   {m : MM} {z : (Int32 × MM)} (h : mj_X6_qGoesOn_386  m = some z) (hk : (fun z : (Int32 × MM) => gz_kZ mS X G 2 (0, 0) cX6_qGoesOn (mF z.2) z.1) z) : gz_V mS X G 2 (0, 0) (mF m) 386 [(0, .ref (gz_ad G 2000))] [] := by
  unfold mj_X6_qGoesOn_386 at h
  refine gz_iconst (pc := 386) (v := (0 : Int32)) hX dX6_qGoesOn_386 (by decide) ?_
  obtain rfl := Option.some.inj h
  exact hk _ _ dX6_qGoesOn_387 (Or.inl rfl)
noncomputable def mj_X6_qGoesOn_122  (m : MM) : Option (Int32 × MM) :=
  ((mf_takesSign (42 : Int32) m).bind fun (r1, m2) => (if r1 = (0 : Int32) then ((mf_takesSign (47 : Int32) m2).bind fun (r5, m6) => (if r5 = (0 : Int32) then ((mf_takesSign (43 : Int32) m6).bind fun (r9, m10) => (if r9 = (0 : Int32) then ((mf_takesSign (45 : Int32) m10).bind fun (r13, m14) => (if r13 = (0 : Int32) then ((mf_qBracket m14).bind fun (r17, m18) => (if r17 = (21 : Int32) then (mj_X6_qGoesOn_326  m18) else ((mf_qBracket m18).bind fun (r21, m22) => (if r21 = (22 : Int32) then (mj_X6_qGoesOn_326  m22) else ((mf_qBracket m22).bind fun (r25, m26) => (if r25 = (-1 : Int32) then (mj_X6_qGoesOn_386  m26) else (if (m26.1 2000 5) = (0 : Int32) then ((mf_fail (1 : Int32) (m26.1 2000 2) m26).bind fun (_, m31) => (mj_X6_qGoesOn_386  m31)) else (mj_X6_qGoesOn_386  m26)))))))) else (mj_X6_qGoesOn_225  m14))) else (mj_X6_qGoesOn_225  m10))) else (mj_X6_qGoesOn_140  m6))) else (mj_X6_qGoesOn_140  m2)))
theorem wb_X6_qGoesOn_122 {X : gz_X} {G : gz_G} (hX : gz_C mS X G cX6_qGoesOn 2 RX6 3 62)   {m : MM} {z : (Int32 × MM)} (h : mj_X6_qGoesOn_122  m = some z) (hk : (fun z : (Int32 × MM) => gz_kZ mS X G 2 (0, 0) cX6_qGoesOn (mF z.2) z.1) z) : gz_V mS X G 2 (0, 0) (mF m) 122 [(0, .ref (gz_ad G 2000))] [] := by
  unfold mj_X6_qGoesOn_122 at h
  refine gz_aload_n (pc := 122) hX dX6_qGoesOn_122 rfl 0 rfl ?_
  refine gz_bipush (pc := 123) (v := (42 : Int32)) hX dX6_qGoesOn_123 (by decide) ?_
  obtain ⟨⟨r1, m2⟩, c3, h⟩ := gz_bd h
  refine mc_takesSign (pc := 125) hX c3 ⟨Nat.le_of_ble_eq_true rfl, Nat.le_of_ble_eq_true rfl⟩ (rest := []) rfl (Nat.le_of_ble_eq_true rfl) dX6_qGoesOn_125 ?_
  refine gz_if_ne (pc := 128) (tgt := 140) hX dX6_qGoesOn_128 (by decide) (fun g4 => ?_) (fun g4 => ?_)
  · replace h := gz_if' g4 h
    exact wb_X6_qGoesOn_140 hX h hk
  · replace h := gz_it' g4 h
    refine gz_aload_n (pc := 131) hX dX6_qGoesOn_131 rfl 0 rfl ?_
    refine gz_bipush (pc := 132) (v := (47 : Int32)) hX dX6_qGoesOn_132 (by decide) ?_
    obtain ⟨⟨r5, m6⟩, c7, h⟩ := gz_bd h
    refine mc_takesSign (pc := 134) hX c7 ⟨Nat.le_of_ble_eq_true rfl, Nat.le_of_ble_eq_true rfl⟩ (rest := []) rfl (Nat.le_of_ble_eq_true rfl) dX6_qGoesOn_134 ?_
    refine gz_if_eq (pc := 137) (tgt := 207) hX dX6_qGoesOn_137 (by decide) (fun g8 => ?_) (fun g8 => ?_)
    · replace h := gz_it' g8 h
      refine gz_aload_n (pc := 207) hX dX6_qGoesOn_207 rfl 0 rfl ?_
      refine gz_bipush (pc := 208) (v := (43 : Int32)) hX dX6_qGoesOn_208 (by decide) ?_
      obtain ⟨⟨r9, m10⟩, c11, h⟩ := gz_bd h
      refine mc_takesSign (pc := 210) hX c11 ⟨Nat.le_of_ble_eq_true rfl, Nat.le_of_ble_eq_true rfl⟩ (rest := []) rfl (Nat.le_of_ble_eq_true rfl) dX6_qGoesOn_210 ?_
      refine gz_if_ne (pc := 213) (tgt := 225) hX dX6_qGoesOn_213 (by decide) (fun g12 => ?_) (fun g12 => ?_)
      · replace h := gz_if' g12 h
        exact wb_X6_qGoesOn_225 hX h hk
      · replace h := gz_it' g12 h
        refine gz_aload_n (pc := 216) hX dX6_qGoesOn_216 rfl 0 rfl ?_
        refine gz_bipush (pc := 217) (v := (45 : Int32)) hX dX6_qGoesOn_217 (by decide) ?_
        obtain ⟨⟨r13, m14⟩, c15, h⟩ := gz_bd h
        refine mc_takesSign (pc := 219) hX c15 ⟨Nat.le_of_ble_eq_true rfl, Nat.le_of_ble_eq_true rfl⟩ (rest := []) rfl (Nat.le_of_ble_eq_true rfl) dX6_qGoesOn_219 ?_
        refine gz_if_eq (pc := 222) (tgt := 308) hX dX6_qGoesOn_222 (by decide) (fun g16 => ?_) (fun g16 => ?_)
        · replace h := gz_it' g16 h
          refine gz_aload_n (pc := 308) hX dX6_qGoesOn_308 rfl 0 rfl ?_
          obtain ⟨⟨r17, m18⟩, c19, h⟩ := gz_bd h
          refine mc_qBracket (pc := 309) hX c19 ⟨Nat.le_of_ble_eq_true rfl, Nat.le_of_ble_eq_true rfl⟩ (rest := []) rfl (Nat.le_of_ble_eq_true rfl) dX6_qGoesOn_309 ?_
          refine gz_bipush (pc := 312) (v := (21 : Int32)) hX dX6_qGoesOn_312 (by decide) ?_
          refine gz_icmp_eq (pc := 314) (tgt := 326) hX dX6_qGoesOn_314 (by decide) (fun g20 => ?_) (fun g20 => ?_)
          · replace h := gz_it' g20 h
            exact wb_X6_qGoesOn_326 hX h hk
          · replace h := gz_if' g20 h
            refine gz_aload_n (pc := 317) hX dX6_qGoesOn_317 rfl 0 rfl ?_
            obtain ⟨⟨r21, m22⟩, c23, h⟩ := gz_bd h
            refine mc_qBracket (pc := 318) hX c23 ⟨Nat.le_of_ble_eq_true rfl, Nat.le_of_ble_eq_true rfl⟩ (rest := []) rfl (Nat.le_of_ble_eq_true rfl) dX6_qGoesOn_318 ?_
            refine gz_bipush (pc := 321) (v := (22 : Int32)) hX dX6_qGoesOn_321 (by decide) ?_
            refine gz_icmp_ne (pc := 323) (tgt := 362) hX dX6_qGoesOn_323 (by decide) (fun g24 => ?_) (fun g24 => ?_)
            · replace h := gz_if' g24 h
              refine gz_aload_n (pc := 362) hX dX6_qGoesOn_362 rfl 0 rfl ?_
              obtain ⟨⟨r25, m26⟩, c27, h⟩ := gz_bd h
              refine mc_qBracket (pc := 363) hX c27 ⟨Nat.le_of_ble_eq_true rfl, Nat.le_of_ble_eq_true rfl⟩ (rest := []) rfl (Nat.le_of_ble_eq_true rfl) dX6_qGoesOn_363 ?_
              refine gz_iconst (pc := 366) (v := (-1 : Int32)) hX dX6_qGoesOn_366 (by decide) ?_
              refine gz_icmp_eq (pc := 367) (tgt := 386) hX dX6_qGoesOn_367 (by decide) (fun g28 => ?_) (fun g28 => ?_)
              · replace h := gz_it' g28 h
                exact wb_X6_qGoesOn_386 hX h hk
              · replace h := gz_if' g28 h
                refine gz_aload_n (pc := 370) hX dX6_qGoesOn_370 rfl 0 rfl ?_
                refine mg_5 (pc := 371) hX dX6_qGoesOn_371 ?_
                refine gz_if_ne (pc := 374) (tgt := 386) hX dX6_qGoesOn_374 (by decide) (fun g29 => ?_) (fun g29 => ?_)
                · replace h := gz_if' g29 h
                  exact wb_X6_qGoesOn_386 hX h hk
                · replace h := gz_it' g29 h
                  refine gz_aload_n (pc := 377) hX dX6_qGoesOn_377 rfl 0 rfl ?_
                  refine gz_iconst (pc := 378) (v := (1 : Int32)) hX dX6_qGoesOn_378 (by decide) ?_
                  refine gz_aload_n (pc := 379) hX dX6_qGoesOn_379 rfl 0 rfl ?_
                  refine mg_2 (pc := 380) hX dX6_qGoesOn_380 ?_
                  obtain ⟨⟨⟨⟩, m31⟩, c32, h⟩ := gz_bd h
                  refine mc_fail (pc := 383) hX c32 ⟨Nat.le_of_ble_eq_true rfl, Nat.le_of_ble_eq_true rfl⟩ (rest := []) rfl (Nat.le_of_ble_eq_true rfl) dX6_qGoesOn_383 ?_
                  exact wb_X6_qGoesOn_386 hX h hk
            · replace h := gz_it' g24 h
              exact wb_X6_qGoesOn_326 hX h hk
        · replace h := gz_if' g16 h
          exact wb_X6_qGoesOn_225 hX h hk
    · replace h := gz_if' g8 h
      exact wb_X6_qGoesOn_140 hX h hk
noncomputable def mj_X6_qGoesOn_115  (m : MM) : Option ((MM) ⊕ (Int32 × MM)) :=
  ((mf_qEndsPart m).bind fun (_, m2) => some (Sum.inl (m2)))
theorem wb_X6_qGoesOn_115 {X : gz_X} {G : gz_G} (hX : gz_C mS X G cX6_qGoesOn 2 RX6 3 62)   {m : MM} {z : ((MM) ⊕ (Int32 × MM))} (h : mj_X6_qGoesOn_115  m = some z) (hk : (Sum.elim (mP_X6_qGoesOn_0 X G) (fun z : (Int32 × MM) => gz_kZ mS X G 2 (0, 0) cX6_qGoesOn (mF z.2) z.1)) z) : gz_V mS X G 2 (0, 0) (mF m) 115 [(0, .ref (gz_ad G 2000))] [] := by
  unfold mj_X6_qGoesOn_115 at h
  refine gz_aload_n (pc := 115) hX dX6_qGoesOn_115 rfl 0 rfl ?_
  obtain ⟨⟨⟨⟩, m2⟩, c3, h⟩ := gz_bd h
  refine mc_qEndsPart (pc := 116) hX c3 ⟨Nat.le_of_ble_eq_true rfl, Nat.le_of_ble_eq_true rfl⟩ (rest := []) rfl (Nat.le_of_ble_eq_true rfl) dX6_qGoesOn_116 ?_
  refine gz_goto (pc := 119) (tgt := 0) hX dX6_qGoesOn_119 (by decide) ?_
  obtain rfl := Option.some.inj h
  exact hk
noncomputable def mj_X6_qGoesOn_112 (s0 : Int32) (m : MM) : Option ((MM) ⊕ (Int32 × MM)) :=
  ((mf_qCode s0 m).bind fun (_, m2) => (mj_X6_qGoesOn_115  m2))
theorem wb_X6_qGoesOn_112 {X : gz_X} {G : gz_G} (hX : gz_C mS X G cX6_qGoesOn 2 RX6 3 62) {s0 : Int32}  {m : MM} {z : ((MM) ⊕ (Int32 × MM))} (h : mj_X6_qGoesOn_112 s0 m = some z) (hk : (Sum.elim (mP_X6_qGoesOn_0 X G) (fun z : (Int32 × MM) => gz_kZ mS X G 2 (0, 0) cX6_qGoesOn (mF z.2) z.1)) z) : gz_V mS X G 2 (0, 0) (mF m) 112 [(0, .ref (gz_ad G 2000))] [.int s0, .ref (gz_ad G 2000)] := by
  unfold mj_X6_qGoesOn_112 at h
  obtain ⟨⟨⟨⟩, m2⟩, c3, h⟩ := gz_bd h
  refine mc_qCode (pc := 112) hX c3 ⟨Nat.le_of_ble_eq_true rfl, Nat.le_of_ble_eq_true rfl⟩ (rest := []) rfl (Nat.le_of_ble_eq_true rfl) dX6_qGoesOn_112 ?_
  exact wb_X6_qGoesOn_115 hX h hk
noncomputable def mj_X6_qGoesOn_43  (m : MM) : Option ((MM) ⊕ (Int32 × MM)) :=
  gz_let (msI m 2000 2 ((m.1 2000 2) + (1 : Int32))) fun m1 => ((mf_qDropsToBracket m1).bind fun (_, m3) => gz_let (msI m3 2000 95 ((m3.1 2000 95) - (1 : Int32))) fun m5 => gz_let (msI m5 2000 96 ((m5.1 2000 96) - (1 : Int32))) fun m6 => (if gz_in (m6.1 2000 95) (1700) then (if (m6.1 1095 (gz_ix (m6.1 2000 95))) = (20 : Int32) then (mj_X6_qGoesOn_115  m6) else (if gz_in (m6.1 2000 95) (1700) then (if (m6.1 1095 (gz_ix (m6.1 2000 95))) = (23 : Int32) then (mj_X6_qGoesOn_112 (5 : Int32) m6) else (mj_X6_qGoesOn_112 (6 : Int32) m6)) else none)) else none))
theorem wb_X6_qGoesOn_43 {X : gz_X} {G : gz_G} (hX : gz_C mS X G cX6_qGoesOn 2 RX6 3 62)   {m : MM} {z : ((MM) ⊕ (Int32 × MM))} (h : mj_X6_qGoesOn_43  m = some z) (hk : (Sum.elim (mP_X6_qGoesOn_0 X G) (fun z : (Int32 × MM) => gz_kZ mS X G 2 (0, 0) cX6_qGoesOn (mF z.2) z.1)) z) : gz_V mS X G 2 (0, 0) (mF m) 43 [(0, .ref (gz_ad G 2000))] [] := by
  unfold mj_X6_qGoesOn_43 at h
  refine gz_aload_n (pc := 43) hX dX6_qGoesOn_43 rfl 0 rfl ?_
  refine gz_dup (pc := 44) hX dX6_qGoesOn_44 rfl ?_
  refine mg_2 (pc := 45) hX dX6_qGoesOn_45 ?_
  refine gz_iconst (pc := 48) (v := (1 : Int32)) hX dX6_qGoesOn_48 (by decide) ?_
  refine gz_iadd (pc := 49) hX dX6_qGoesOn_49 ?_
  obtain ⟨m1, em1, h⟩ := gz_lt h
  refine mp_2 (pc := 50) hX dX6_qGoesOn_50 em1 ?_
  refine gz_aload_n (pc := 53) hX dX6_qGoesOn_53 rfl 0 rfl ?_
  obtain ⟨⟨⟨⟩, m3⟩, c4, h⟩ := gz_bd h
  refine mc_qDropsToBracket (pc := 54) hX c4 ⟨Nat.le_of_ble_eq_true rfl, Nat.le_of_ble_eq_true rfl⟩ (rest := []) rfl (Nat.le_of_ble_eq_true rfl) dX6_qGoesOn_54 ?_
  refine gz_aload_n (pc := 57) hX dX6_qGoesOn_57 rfl 0 rfl ?_
  refine gz_dup (pc := 58) hX dX6_qGoesOn_58 rfl ?_
  refine mg_95 (pc := 59) hX dX6_qGoesOn_59 ?_
  refine gz_iconst (pc := 62) (v := (1 : Int32)) hX dX6_qGoesOn_62 (by decide) ?_
  refine gz_isub (pc := 63) hX dX6_qGoesOn_63 ?_
  obtain ⟨m5, em5, h⟩ := gz_lt h
  refine mp_95 (pc := 64) hX dX6_qGoesOn_64 em5 ?_
  refine gz_aload_n (pc := 67) hX dX6_qGoesOn_67 rfl 0 rfl ?_
  refine gz_dup (pc := 68) hX dX6_qGoesOn_68 rfl ?_
  refine mg_96 (pc := 69) hX dX6_qGoesOn_69 ?_
  refine gz_iconst (pc := 72) (v := (1 : Int32)) hX dX6_qGoesOn_72 (by decide) ?_
  refine gz_isub (pc := 73) hX dX6_qGoesOn_73 ?_
  obtain ⟨m6, em6, h⟩ := gz_lt h
  refine mp_96 (pc := 74) hX dX6_qGoesOn_74 em6 ?_
  refine gz_aload_n (pc := 77) hX dX6_qGoesOn_77 rfl 0 rfl ?_
  refine mg_94 (pc := 78) hX dX6_qGoesOn_78 ?_
  refine gz_aload_n (pc := 81) hX dX6_qGoesOn_81 rfl 0 rfl ?_
  refine mg_95 (pc := 82) hX dX6_qGoesOn_82 ?_
  obtain ⟨g7, h⟩ := gz_gu h
  refine mz_iald (pc := 85) (c := 1095) (n := 1700) hX rfl rfl g7 dX6_qGoesOn_85 ?_
  refine gz_bipush (pc := 86) (v := (20 : Int32)) hX dX6_qGoesOn_86 (by decide) ?_
  refine gz_icmp_eq (pc := 88) (tgt := 115) hX dX6_qGoesOn_88 (by decide) (fun g8 => ?_) (fun g8 => ?_)
  · replace h := gz_it' g8 h
    exact wb_X6_qGoesOn_115 hX h hk
  · replace h := gz_if' g8 h
    refine gz_aload_n (pc := 91) hX dX6_qGoesOn_91 rfl 0 rfl ?_
    refine gz_aload_n (pc := 92) hX dX6_qGoesOn_92 rfl 0 rfl ?_
    refine mg_94 (pc := 93) hX dX6_qGoesOn_93 ?_
    refine gz_aload_n (pc := 96) hX dX6_qGoesOn_96 rfl 0 rfl ?_
    refine mg_95 (pc := 97) hX dX6_qGoesOn_97 ?_
    obtain ⟨g9, h⟩ := gz_gu h
    refine mz_iald (pc := 100) (c := 1095) (n := 1700) hX rfl rfl g9 dX6_qGoesOn_100 ?_
    refine gz_bipush (pc := 101) (v := (23 : Int32)) hX dX6_qGoesOn_101 (by decide) ?_
    refine gz_icmp_ne (pc := 103) (tgt := 110) hX dX6_qGoesOn_103 (by decide) (fun g10 => ?_) (fun g10 => ?_)
    · replace h := gz_if' g10 h
      refine gz_bipush (pc := 110) (v := (6 : Int32)) hX dX6_qGoesOn_110 (by decide) ?_
      exact wb_X6_qGoesOn_112 hX h hk
    · replace h := gz_it' g10 h
      refine gz_iconst (pc := 106) (v := (5 : Int32)) hX dX6_qGoesOn_106 (by decide) ?_
      refine gz_goto (pc := 107) (tgt := 112) hX dX6_qGoesOn_107 (by decide) ?_
      exact wb_X6_qGoesOn_112 hX h hk
noncomputable def mb_X6_qGoesOn_0  (m : MM) : Option ((MM) ⊕ (Int32 × MM)) :=
  (if (m.1 2000 5) = (0 : Int32) then ((mf_look m).bind fun (r2, m3) => (if r2 = (41 : Int32) then ((mf_qBracket m3).bind fun (r6, m7) => (if r6 = (20 : Int32) then (mj_X6_qGoesOn_43  m7) else ((mf_qBracket m7).bind fun (r10, m11) => (if r10 = (23 : Int32) then (mj_X6_qGoesOn_43  m11) else ((mf_qBracket m11).bind fun (r14, m15) => (if r14 = (24 : Int32) then (mj_X6_qGoesOn_43  m15) else (Option.map Sum.inr (mj_X6_qGoesOn_122  m15)))))))) else (Option.map Sum.inr (mj_X6_qGoesOn_122  m3)))) else (Option.map Sum.inr (mj_X6_qGoesOn_122  m)))
theorem wb_X6_qGoesOn_0 {X : gz_X} {G : gz_G} (hX : gz_C mS X G cX6_qGoesOn 2 RX6 3 62)   {m : MM} {z : ((MM) ⊕ (Int32 × MM))} (h : mb_X6_qGoesOn_0  m = some z) (hk : (Sum.elim (mP_X6_qGoesOn_0 X G) (fun z : (Int32 × MM) => gz_kZ mS X G 2 (0, 0) cX6_qGoesOn (mF z.2) z.1)) z) : gz_V mS X G 2 (0, 0) (mF m) 0 [(0, .ref (gz_ad G 2000))] [] := by
  unfold mb_X6_qGoesOn_0 at h
  refine gz_aload_n (pc := 0) hX dX6_qGoesOn_0 rfl 0 rfl ?_
  refine mg_5 (pc := 1) hX dX6_qGoesOn_1 ?_
  refine gz_if_ne (pc := 4) (tgt := 122) hX dX6_qGoesOn_4 (by decide) (fun g1 => ?_) (fun g1 => ?_)
  · replace h := gz_if' g1 h
    obtain ⟨z0, hm0, rfl⟩ := gz_mp h
    exact wb_X6_qGoesOn_122 hX hm0 hk
  · replace h := gz_it' g1 h
    refine gz_aload_n (pc := 7) hX dX6_qGoesOn_7 rfl 0 rfl ?_
    obtain ⟨⟨r2, m3⟩, c4, h⟩ := gz_bd h
    refine mc_look (pc := 8) hX c4 ⟨Nat.le_of_ble_eq_true rfl, Nat.le_of_ble_eq_true rfl⟩ (rest := []) rfl (Nat.le_of_ble_eq_true rfl) dX6_qGoesOn_8 ?_
    refine gz_bipush (pc := 11) (v := (41 : Int32)) hX dX6_qGoesOn_11 (by decide) ?_
    refine gz_icmp_ne (pc := 13) (tgt := 122) hX dX6_qGoesOn_13 (by decide) (fun g5 => ?_) (fun g5 => ?_)
    · replace h := gz_if' g5 h
      obtain ⟨z0, hm0, rfl⟩ := gz_mp h
      exact wb_X6_qGoesOn_122 hX hm0 hk
    · replace h := gz_it' g5 h
      refine gz_aload_n (pc := 16) hX dX6_qGoesOn_16 rfl 0 rfl ?_
      obtain ⟨⟨r6, m7⟩, c8, h⟩ := gz_bd h
      refine mc_qBracket (pc := 17) hX c8 ⟨Nat.le_of_ble_eq_true rfl, Nat.le_of_ble_eq_true rfl⟩ (rest := []) rfl (Nat.le_of_ble_eq_true rfl) dX6_qGoesOn_17 ?_
      refine gz_bipush (pc := 20) (v := (20 : Int32)) hX dX6_qGoesOn_20 (by decide) ?_
      refine gz_icmp_eq (pc := 22) (tgt := 43) hX dX6_qGoesOn_22 (by decide) (fun g9 => ?_) (fun g9 => ?_)
      · replace h := gz_it' g9 h
        exact wb_X6_qGoesOn_43 hX h hk
      · replace h := gz_if' g9 h
        refine gz_aload_n (pc := 25) hX dX6_qGoesOn_25 rfl 0 rfl ?_
        obtain ⟨⟨r10, m11⟩, c12, h⟩ := gz_bd h
        refine mc_qBracket (pc := 26) hX c12 ⟨Nat.le_of_ble_eq_true rfl, Nat.le_of_ble_eq_true rfl⟩ (rest := []) rfl (Nat.le_of_ble_eq_true rfl) dX6_qGoesOn_26 ?_
        refine gz_bipush (pc := 29) (v := (23 : Int32)) hX dX6_qGoesOn_29 (by decide) ?_
        refine gz_icmp_eq (pc := 31) (tgt := 43) hX dX6_qGoesOn_31 (by decide) (fun g13 => ?_) (fun g13 => ?_)
        · replace h := gz_it' g13 h
          exact wb_X6_qGoesOn_43 hX h hk
        · replace h := gz_if' g13 h
          refine gz_aload_n (pc := 34) hX dX6_qGoesOn_34 rfl 0 rfl ?_
          obtain ⟨⟨r14, m15⟩, c16, h⟩ := gz_bd h
          refine mc_qBracket (pc := 35) hX c16 ⟨Nat.le_of_ble_eq_true rfl, Nat.le_of_ble_eq_true rfl⟩ (rest := []) rfl (Nat.le_of_ble_eq_true rfl) dX6_qGoesOn_35 ?_
          refine gz_bipush (pc := 38) (v := (24 : Int32)) hX dX6_qGoesOn_38 (by decide) ?_
          refine gz_icmp_ne (pc := 40) (tgt := 122) hX dX6_qGoesOn_40 (by decide) (fun g17 => ?_) (fun g17 => ?_)
          · replace h := gz_if' g17 h
            obtain ⟨z0, hm0, rfl⟩ := gz_mp h
            exact wb_X6_qGoesOn_122 hX hm0 hk
          · replace h := gz_it' g17 h
            exact wb_X6_qGoesOn_43 hX h hk
noncomputable def ml_X6_qGoesOn_0  (m : MM) : Option (Int32 × MM) := gz_loop (fun q : (MM) => mb_X6_qGoesOn_0  q) (m)
theorem wl_X6_qGoesOn_0 {X : gz_X} {G : gz_G} (hX : gz_C mS X G cX6_qGoesOn 2 RX6 3 62)   {m : MM} {z : (Int32 × MM)} (h : ml_X6_qGoesOn_0  m = some z) (hk : (fun z : (Int32 × MM) => gz_kZ mS X G 2 (0, 0) cX6_qGoesOn (mF z.2) z.1) z) : gz_V mS X G 2 (0, 0) (mF m) 0 [(0, .ref (gz_ad G 2000))] [] := by
  have hp : mP_X6_qGoesOn_0 X G (m) := gz_loop_ind (fun q z hz hkz => wb_X6_qGoesOn_0 hX  hz hkz) h hk
  exact hp
noncomputable def mf_qGoesOn  (m : MM) : Option (Int32 × MM) :=
  (ml_X6_qGoesOn_0  m)
theorem wm_qGoesOn {X : gz_X} {G : gz_G} (hX : gz_C mS X G cX6_qGoesOn 2 RX6 3 62)   {m : MM} {z : (Int32 × MM)} (h : mf_qGoesOn  m = some z) (hk : (fun z : (Int32 × MM) => gz_kZ mS X G 2 (0, 0) cX6_qGoesOn (mF z.2) z.1) z) : gz_V mS X G 2 (0, 0) (mF m) 0 [(0, .ref (gz_ad G 2000))] [] := by
  unfold mf_qGoesOn at h
  exact wl_X6_qGoesOn_0 hX h hk
theorem mt_qGoesOn {G : gz_G} {l : Launch}   {m m9 : MM} {r : Int32} (h : mf_qGoesOn  m = some (r, m9)) : gz_Met mS G l yX6_qGoesOn cX6_qGoesOn 2 (some .boolean) (mRm 3 62) [.ref (gz_ad G 2000)] (mF m) (mF m9) (some (.int r)) :=
  gz_ofZ (plainFor_of_name mz_plain) (Nat.le_of_ble_eq_true rfl) fun X _ hX hk => wm_qGoesOn hX h hk
theorem mc_qGoesOn {X : gz_X} {G : gz_G} {cc : ByteArray} {nL fr lo pc : Nat} {lv : List (Nat × Value)} {rest st0 : List Value} (hX : gz_C mS X G cc nL RX6 fr lo)   {m m9 : MM} {r : Int32} (h : mf_qGoesOn  m = some (r, m9)) (hroom : 3 + 1 ≤ fr ∧ 8 + (2 + 11) + 62 ≤ lo) (hst : st0 = [.ref (gz_ad G 2000)] ++ rest) (hW : (rest.map fun v => v.category).sum ≤ 8) (hd : decode cc pc = .ok (.invokevirtual 633, 3)) (kk : gz_V mS X G nL (0, 0) (mF m9) (pc + 3) lv (.int r :: rest)) : gz_V mS X G nL (0, 0) (mF m) pc lv st0 :=
  gz_callV hX mz_E (As := []) (rest := rest) (q := (RX6, TX6, 104)) (ci := 0) (c := 2000) (mt_qGoesOn (l := X.2.1) h) (lw_V q2235 q2237 qs100 q182 q2238) (n := 0) (by decide +kernel) hroom rfl rfl (by decide) rfl hst hW hd (rem := (0, 0)) kk
/-! qSums()V -/
def mP_X6_qSums_15 (X : gz_X) (G : gz_G) (q : (Int32 × Int32 × MM)) : Prop := gz_V mS X G 3 (0, 0) (mF q.2.2) 15 [(0, .ref (gz_ad G 2000)), (1, .int q.1), (2, .int q.2.1)] []
def mP_X6_qSums_53 (X : gz_X) (G : gz_G) (q : (Int32 × MM)) : Prop := gz_V mS X G 3 (0, 0) (mF q.2) 53 [(0, .ref (gz_ad G 2000)), (1, .int q.1)] []
noncomputable def mj_X6_qSums_78 (x1 : Int32) (m : MM) : Option (Unit × MM) :=
  gz_let (msI m 2000 97 x1) fun m1 => some ((), m1)
theorem wb_X6_qSums_78 {X : gz_X} {G : gz_G} (hX : gz_C mS X G cX6_qSums 3 RX6 6 131) {x1 : Int32}  {m : MM} {z : (Unit × MM)} (h : mj_X6_qSums_78 x1 m = some z) (hk : (fun z : (Unit × MM) => gz_kV mS X G 3 (0, 0) cX6_qSums (mF z.2)) z) : gz_V mS X G 3 (0, 0) (mF m) 78 [(0, .ref (gz_ad G 2000)), (1, .int x1)] [] := by
  unfold mj_X6_qSums_78 at h
  refine gz_aload_n (pc := 78) hX dX6_qSums_78 rfl 0 rfl ?_
  refine gz_iload_n (pc := 79) hX dX6_qSums_79 rfl 1 rfl ?_
  obtain ⟨m1, em1, h⟩ := gz_lt h
  refine mp_97 (pc := 80) hX dX6_qSums_80 em1 ?_
  obtain rfl := Option.some.inj h
  exact hk _ _ dX6_qSums_83
noncomputable def mb_X6_qSums_53 (x1 : Int32) (m : MM) : Option ((Int32 × MM) ⊕ (Unit × MM)) :=
  (if (m.1 2000 5) = (0 : Int32) then (if (m.1 2000 95) ≤ (m.1 2000 97) then (Option.map Sum.inr (mj_X6_qSums_78 x1 m)) else ((mf_qDrops m).bind fun (_, m4) => some (Sum.inl (x1, m4)))) else (Option.map Sum.inr (mj_X6_qSums_78 x1 m)))
theorem wb_X6_qSums_53 {X : gz_X} {G : gz_G} (hX : gz_C mS X G cX6_qSums 3 RX6 6 131) {x1 : Int32}  {m : MM} {z : ((Int32 × MM) ⊕ (Unit × MM))} (h : mb_X6_qSums_53 x1 m = some z) (hk : (Sum.elim (mP_X6_qSums_53 X G) (fun z : (Unit × MM) => gz_kV mS X G 3 (0, 0) cX6_qSums (mF z.2))) z) : gz_V mS X G 3 (0, 0) (mF m) 53 [(0, .ref (gz_ad G 2000)), (1, .int x1)] [] := by
  unfold mb_X6_qSums_53 at h
  refine gz_aload_n (pc := 53) hX dX6_qSums_53 rfl 0 rfl ?_
  refine mg_5 (pc := 54) hX dX6_qSums_54 ?_
  refine gz_if_ne (pc := 57) (tgt := 78) hX dX6_qSums_57 (by decide) (fun g1 => ?_) (fun g1 => ?_)
  · replace h := gz_if' g1 h
    obtain ⟨z0, hm0, rfl⟩ := gz_mp h
    exact wb_X6_qSums_78 hX hm0 hk
  · replace h := gz_it' g1 h
    refine gz_aload_n (pc := 60) hX dX6_qSums_60 rfl 0 rfl ?_
    refine mg_95 (pc := 61) hX dX6_qSums_61 ?_
    refine gz_aload_n (pc := 64) hX dX6_qSums_64 rfl 0 rfl ?_
    refine mg_97 (pc := 65) hX dX6_qSums_65 ?_
    refine gz_icmp_le (pc := 68) (tgt := 78) hX dX6_qSums_68 (by decide) (fun g2 => ?_) (fun g2 => ?_)
    · replace h := gz_it' g2 h
      obtain ⟨z0, hm0, rfl⟩ := gz_mp h
      exact wb_X6_qSums_78 hX hm0 hk
    · replace h := gz_if' g2 h
      refine gz_aload_n (pc := 71) hX dX6_qSums_71 rfl 0 rfl ?_
      obtain ⟨⟨⟨⟩, m4⟩, c5, h⟩ := gz_bd h
      refine mc_qDrops (pc := 72) hX c5 ⟨Nat.le_of_ble_eq_true rfl, Nat.le_of_ble_eq_true rfl⟩ (rest := []) rfl (Nat.le_of_ble_eq_true rfl) dX6_qSums_72 ?_
      refine gz_goto (pc := 75) (tgt := 53) hX dX6_qSums_75 (by decide) ?_
      obtain rfl := Option.some.inj h
      exact hk
noncomputable def ml_X6_qSums_53 (x1 : Int32) (m : MM) : Option (Unit × MM) := gz_loop (fun q : (Int32 × MM) => mb_X6_qSums_53 q.1 q.2) (x1, m)
theorem wl_X6_qSums_53 {X : gz_X} {G : gz_G} (hX : gz_C mS X G cX6_qSums 3 RX6 6 131) {x1 : Int32}  {m : MM} {z : (Unit × MM)} (h : ml_X6_qSums_53 x1 m = some z) (hk : (fun z : (Unit × MM) => gz_kV mS X G 3 (0, 0) cX6_qSums (mF z.2)) z) : gz_V mS X G 3 (0, 0) (mF m) 53 [(0, .ref (gz_ad G 2000)), (1, .int x1)] [] := by
  have hp : mP_X6_qSums_53 X G (x1, m) := gz_loop_ind (fun q z hz hkz => wb_X6_qSums_53 hX  hz hkz) h hk
  exact hp
noncomputable def mj_X6_qSums_49 (x1 : Int32) (s0 : Int32) (m : MM) : Option ((Int32 × Int32 × MM) ⊕ (Unit × MM)) :=
  some (Sum.inl (x1, s0, m))
theorem wb_X6_qSums_49 {X : gz_X} {G : gz_G} (hX : gz_C mS X G cX6_qSums 3 RX6 6 131) {x1 : Int32} {s0 : Int32}  {m : MM} {z : ((Int32 × Int32 × MM) ⊕ (Unit × MM))} (h : mj_X6_qSums_49 x1 s0 m = some z) (hk : (Sum.elim (mP_X6_qSums_15 X G) (fun z : (Unit × MM) => gz_kV mS X G 3 (0, 0) cX6_qSums (mF z.2))) z) : gz_V mS X G 3 (0, 0) (mF m) 49 [(0, .ref (gz_ad G 2000)), (1, .int x1)] [.int s0] := by
  unfold mj_X6_qSums_49 at h
  refine gz_istore_n (pc := 49) (lw := [(2, .int s0), (0, .ref (gz_ad G 2000)), (1, .int x1)]) hX dX6_qSums_49 rfl (by decide) rfl ?_
  refine gz_goto (pc := 50) (tgt := 15) hX dX6_qSums_50 (by decide) ?_
  refine gz_sub (lw := [(0, .ref (gz_ad G 2000)), (1, .int x1), (2, .int s0)]) [1, 2, 0] rfl ?_
  obtain rfl := Option.some.inj h
  exact hk
noncomputable def mj_X6_qSums_48 (x1 : Int32) (m : MM) : Option ((Int32 × Int32 × MM) ⊕ (Unit × MM)) :=
  (mj_X6_qSums_49 x1 (0 : Int32) m)
theorem wb_X6_qSums_48 {X : gz_X} {G : gz_G} (hX : gz_C mS X G cX6_qSums 3 RX6 6 131) {x1 : Int32}  {m : MM} {z : ((Int32 × Int32 × MM) ⊕ (Unit × MM))} (h : mj_X6_qSums_48 x1 m = some z) (hk : (Sum.elim (mP_X6_qSums_15 X G) (fun z : (Unit × MM) => gz_kV mS X G 3 (0, 0) cX6_qSums (mF z.2))) z) : gz_V mS X G 3 (0, 0) (mF m) 48 [(0, .ref (gz_ad G 2000)), (1, .int x1)] [] := by
  unfold mj_X6_qSums_48 at h
  refine gz_iconst (pc := 48) (v := (0 : Int32)) hX dX6_qSums_48 (by decide) ?_
  exact wb_X6_qSums_49 hX h hk
noncomputable def mb_X6_qSums_15 (x1 : Int32) (x2 : Int32) (m : MM) : Option ((Int32 × Int32 × MM) ⊕ (Unit × MM)) :=
  (if x2 = (0 : Int32) then (Option.map Sum.inr (ml_X6_qSums_53 x1 m)) else (if (m.1 2000 5) = (0 : Int32) then ((mf_qPartTold m).bind fun (_, m4) => (if (m4.1 2000 5) = (0 : Int32) then ((mf_qGoesOn m4).bind fun (r7, m8) => (if r7 = (0 : Int32) then (mj_X6_qSums_48 x1 m8) else (mj_X6_qSums_49 x1 (1 : Int32) m8))) else (mj_X6_qSums_48 x1 m4))) else (Option.map Sum.inr (ml_X6_qSums_53 x1 m))))
theorem wb_X6_qSums_15 {X : gz_X} {G : gz_G} (hX : gz_C mS X G cX6_qSums 3 RX6 6 131) {x1 : Int32} {x2 : Int32}  {m : MM} {z : ((Int32 × Int32 × MM) ⊕ (Unit × MM))} (h : mb_X6_qSums_15 x1 x2 m = some z) (hk : (Sum.elim (mP_X6_qSums_15 X G) (fun z : (Unit × MM) => gz_kV mS X G 3 (0, 0) cX6_qSums (mF z.2))) z) : gz_V mS X G 3 (0, 0) (mF m) 15 [(0, .ref (gz_ad G 2000)), (1, .int x1), (2, .int x2)] [] := by
  unfold mb_X6_qSums_15 at h
  refine gz_iload_n (pc := 15) hX dX6_qSums_15 rfl 2 rfl ?_
  refine gz_if_eq (pc := 16) (tgt := 53) hX dX6_qSums_16 (by decide) (fun g1 => ?_) (fun g1 => ?_)
  · replace h := gz_it' g1 h
    refine gz_sub (lw := [(0, .ref (gz_ad G 2000)), (1, .int x1)]) [0, 1] rfl ?_
    obtain ⟨z0, hm0, rfl⟩ := gz_mp h
    exact wl_X6_qSums_53 hX hm0 hk
  · replace h := gz_if' g1 h
    refine gz_aload_n (pc := 19) hX dX6_qSums_19 rfl 0 rfl ?_
    refine mg_5 (pc := 20) hX dX6_qSums_20 ?_
    refine gz_if_ne (pc := 23) (tgt := 53) hX dX6_qSums_23 (by decide) (fun g2 => ?_) (fun g2 => ?_)
    · replace h := gz_if' g2 h
      refine gz_sub (lw := [(0, .ref (gz_ad G 2000)), (1, .int x1)]) [0, 1] rfl ?_
      obtain ⟨z0, hm0, rfl⟩ := gz_mp h
      exact wl_X6_qSums_53 hX hm0 hk
    · replace h := gz_it' g2 h
      refine gz_aload_n (pc := 26) hX dX6_qSums_26 rfl 0 rfl ?_
      obtain ⟨⟨⟨⟩, m4⟩, c5, h⟩ := gz_bd h
      refine mc_qPartTold (pc := 27) hX c5 ⟨Nat.le_of_ble_eq_true rfl, Nat.le_of_ble_eq_true rfl⟩ (rest := []) rfl (Nat.le_of_ble_eq_true rfl) dX6_qSums_27 ?_
      refine gz_aload_n (pc := 30) hX dX6_qSums_30 rfl 0 rfl ?_
      refine mg_5 (pc := 31) hX dX6_qSums_31 ?_
      refine gz_if_ne (pc := 34) (tgt := 48) hX dX6_qSums_34 (by decide) (fun g6 => ?_) (fun g6 => ?_)
      · replace h := gz_if' g6 h
        refine gz_sub (lw := [(0, .ref (gz_ad G 2000)), (1, .int x1)]) [0, 1] rfl ?_
        exact wb_X6_qSums_48 hX h hk
      · replace h := gz_it' g6 h
        refine gz_aload_n (pc := 37) hX dX6_qSums_37 rfl 0 rfl ?_
        obtain ⟨⟨r7, m8⟩, c9, h⟩ := gz_bd h
        refine mc_qGoesOn (pc := 38) hX c9 ⟨Nat.le_of_ble_eq_true rfl, Nat.le_of_ble_eq_true rfl⟩ (rest := []) rfl (Nat.le_of_ble_eq_true rfl) dX6_qSums_38 ?_
        refine gz_if_eq (pc := 41) (tgt := 48) hX dX6_qSums_41 (by decide) (fun g10 => ?_) (fun g10 => ?_)
        · replace h := gz_it' g10 h
          refine gz_sub (lw := [(0, .ref (gz_ad G 2000)), (1, .int x1)]) [0, 1] rfl ?_
          exact wb_X6_qSums_48 hX h hk
        · replace h := gz_if' g10 h
          refine gz_iconst (pc := 44) (v := (1 : Int32)) hX dX6_qSums_44 (by decide) ?_
          refine gz_goto (pc := 45) (tgt := 49) hX dX6_qSums_45 (by decide) ?_
          refine gz_sub (lw := [(0, .ref (gz_ad G 2000)), (1, .int x1)]) [0, 1] rfl ?_
          exact wb_X6_qSums_49 hX h hk
noncomputable def ml_X6_qSums_15 (x1 : Int32) (x2 : Int32) (m : MM) : Option (Unit × MM) := gz_loop (fun q : (Int32 × Int32 × MM) => mb_X6_qSums_15 q.1 q.2.1 q.2.2) (x1, x2, m)
theorem wl_X6_qSums_15 {X : gz_X} {G : gz_G} (hX : gz_C mS X G cX6_qSums 3 RX6 6 131) {x1 : Int32} {x2 : Int32}  {m : MM} {z : (Unit × MM)} (h : ml_X6_qSums_15 x1 x2 m = some z) (hk : (fun z : (Unit × MM) => gz_kV mS X G 3 (0, 0) cX6_qSums (mF z.2)) z) : gz_V mS X G 3 (0, 0) (mF m) 15 [(0, .ref (gz_ad G 2000)), (1, .int x1), (2, .int x2)] [] := by
  have hp : mP_X6_qSums_15 X G (x1, x2, m) := gz_loop_ind (fun q z hz hkz => wb_X6_qSums_15 hX  hz hkz) h hk
  exact hp
noncomputable def mf_qSums  (m : MM) : Option (Unit × MM) :=
  gz_let (msI m 2000 97 (m.1 2000 95)) fun m1 => (ml_X6_qSums_15 (m.1 2000 97) (1 : Int32) m1)
theorem wm_qSums {X : gz_X} {G : gz_G} (hX : gz_C mS X G cX6_qSums 3 RX6 6 131)   {m : MM} {z : (Unit × MM)} (h : mf_qSums  m = some z) (hk : (fun z : (Unit × MM) => gz_kV mS X G 3 (0, 0) cX6_qSums (mF z.2)) z) : gz_V mS X G 3 (0, 0) (mF m) 0 [(0, .ref (gz_ad G 2000))] [] := by
  unfold mf_qSums at h
  refine gz_aload_n (pc := 0) hX dX6_qSums_0 rfl 0 rfl ?_
  refine mg_97 (pc := 1) hX dX6_qSums_1 ?_
  refine gz_istore_n (pc := 4) (lw := [(1, .int (m.1 2000 97)), (0, .ref (gz_ad G 2000))]) hX dX6_qSums_4 rfl (by decide) rfl ?_
  refine gz_aload_n (pc := 5) hX dX6_qSums_5 rfl 1 rfl ?_
  refine gz_aload_n (pc := 6) hX dX6_qSums_6 rfl 1 rfl ?_
  refine mg_95 (pc := 7) hX dX6_qSums_7 ?_
  obtain ⟨m1, em1, h⟩ := gz_lt h
  refine mp_97 (pc := 10) hX dX6_qSums_10 em1 ?_
  refine gz_iconst (pc := 13) (v := (1 : Int32)) hX dX6_qSums_13 (by decide) ?_
  refine gz_istore_n (pc := 14) (lw := [(2, .int (1 : Int32)), (1, .int (m.1 2000 97)), (0, .ref (gz_ad G 2000))]) hX dX6_qSums_14 rfl (by decide) rfl ?_
  refine gz_sub (lw := [(0, .ref (gz_ad G 2000)), (1, .int (m.1 2000 97)), (2, .int (1 : Int32))]) [2, 1, 0] rfl ?_
  exact wl_X6_qSums_15 hX h hk
theorem mt_qSums {G : gz_G} {l : Launch}   {m m9 : MM} (h : mf_qSums  m = some ((), m9)) : gz_Met mS G l yX6_qSums cX6_qSums 3 none (mRm 6 131) [.ref (gz_ad G 2000)] (mF m) (mF m9) none :=
  gz_ofV (plainFor_of_name mz_plain) (Nat.le_of_ble_eq_true rfl) fun X _ hX hk => wm_qSums hX h hk
theorem mc_qSums {X : gz_X} {G : gz_G} {cc : ByteArray} {nL fr lo pc : Nat} {lv : List (Nat × Value)} {rest st0 : List Value} (hX : gz_C mS X G cc nL RX6 fr lo)   {m m9 : MM} (h : mf_qSums  m = some ((), m9)) (hroom : 6 + 1 ≤ fr ∧ 8 + (3 + 11) + 131 ≤ lo) (hst : st0 = [.ref (gz_ad G 2000)] ++ rest) (hW : (rest.map fun v => v.category).sum ≤ 8) (hd : decode cc pc = .ok (.invokevirtual 353, 3)) (kk : gz_V mS X G nL (0, 0) (mF m9) (pc + 3) lv (rest)) : gz_V mS X G nL (0, 0) (mF m) pc lv st0 :=
  gz_callV hX mz_E (As := []) (rest := rest) (q := (RX6, TX6, 104)) (ci := 0) (c := 2000) (mt_qSums (l := X.2.1) h) (lw_V q2195 q2197 qs90 q182 q2198) (n := 0) (by decide +kernel) hroom rfl rfl (by decide) rfl hst hW hd (rem := (0, 0)) kk
/-! qFact()V -/
noncomputable def mj_X6_qFact_102 (s0 : Int32) (m : MM) : Option (Unit × MM) :=
  ((mf_qCode s0 m).bind fun (_, m2) => some ((), m2))
theorem wb_X6_qFact_102 {X : gz_X} {G : gz_G} (hX : gz_C mS X G cX6_qFact 2 RX6 7 153) {s0 : Int32}  {m : MM} {z : (Unit × MM)} (h : mj_X6_qFact_102 s0 m = some z) (hk : (fun z : (Unit × MM) => gz_kV mS X G 2 (0, 0) cX6_qFact (mF z.2)) z) : gz_V mS X G 2 (0, 0) (mF m) 102 [(0, .ref (gz_ad G 2000))] [.int s0, .ref (gz_ad G 2000)] := by
  unfold mj_X6_qFact_102 at h
  obtain ⟨⟨⟨⟩, m2⟩, c3, h⟩ := gz_bd h
  refine mc_qCode (pc := 102) hX c3 ⟨Nat.le_of_ble_eq_true rfl, Nat.le_of_ble_eq_true rfl⟩ (rest := []) rfl (Nat.le_of_ble_eq_true rfl) dX6_qFact_102 ?_
  obtain rfl := Option.some.inj h
  exact hk _ _ dX6_qFact_105
noncomputable def mj_X6_qFact_63 (x1 : Int32) (m : MM) : Option (Unit × MM) :=
  gz_let (msI m 2000 2 ((m.1 2000 2) + (1 : Int32))) fun m1 => ((mf_qSums m1).bind fun (_, m3) => (if x1 = (60 : Int32) then (mj_X6_qFact_102 (7 : Int32) m3) else (if x1 = (62 : Int32) then (mj_X6_qFact_102 (8 : Int32) m3) else (mj_X6_qFact_102 (9 : Int32) m3))))
theorem wb_X6_qFact_63 {X : gz_X} {G : gz_G} (hX : gz_C mS X G cX6_qFact 2 RX6 7 153) {x1 : Int32}  {m : MM} {z : (Unit × MM)} (h : mj_X6_qFact_63 x1 m = some z) (hk : (fun z : (Unit × MM) => gz_kV mS X G 2 (0, 0) cX6_qFact (mF z.2)) z) : gz_V mS X G 2 (0, 0) (mF m) 63 [(0, .ref (gz_ad G 2000)), (1, .int x1)] [] := by
  unfold mj_X6_qFact_63 at h
  refine gz_aload_n (pc := 63) hX dX6_qFact_63 rfl 0 rfl ?_
  refine gz_dup (pc := 64) hX dX6_qFact_64 rfl ?_
  refine mg_2 (pc := 65) hX dX6_qFact_65 ?_
  refine gz_iconst (pc := 68) (v := (1 : Int32)) hX dX6_qFact_68 (by decide) ?_
  refine gz_iadd (pc := 69) hX dX6_qFact_69 ?_
  obtain ⟨m1, em1, h⟩ := gz_lt h
  refine mp_2 (pc := 70) hX dX6_qFact_70 em1 ?_
  refine gz_aload_n (pc := 73) hX dX6_qFact_73 rfl 0 rfl ?_
  obtain ⟨⟨⟨⟩, m3⟩, c4, h⟩ := gz_bd h
  refine mc_qSums (pc := 74) hX c4 ⟨Nat.le_of_ble_eq_true rfl, Nat.le_of_ble_eq_true rfl⟩ (rest := []) rfl (Nat.le_of_ble_eq_true rfl) dX6_qFact_74 ?_
  refine gz_aload_n (pc := 77) hX dX6_qFact_77 rfl 0 rfl ?_
  refine gz_iload_n (pc := 78) hX dX6_qFact_78 rfl 1 rfl ?_
  refine gz_bipush (pc := 79) (v := (60 : Int32)) hX dX6_qFact_79 (by decide) ?_
  refine gz_icmp_ne (pc := 81) (tgt := 89) hX dX6_qFact_81 (by decide) (fun g5 => ?_) (fun g5 => ?_)
  · replace h := gz_if' g5 h
    refine gz_iload_n (pc := 89) hX dX6_qFact_89 rfl 1 rfl ?_
    refine gz_bipush (pc := 90) (v := (62 : Int32)) hX dX6_qFact_90 (by decide) ?_
    refine gz_icmp_ne (pc := 92) (tgt := 100) hX dX6_qFact_92 (by decide) (fun g6 => ?_) (fun g6 => ?_)
    · replace h := gz_if' g6 h
      refine gz_bipush (pc := 100) (v := (9 : Int32)) hX dX6_qFact_100 (by decide) ?_
      refine gz_sub (lw := [(0, .ref (gz_ad G 2000))]) [0] rfl ?_
      exact wb_X6_qFact_102 hX h hk
    · replace h := gz_it' g6 h
      refine gz_bipush (pc := 95) (v := (8 : Int32)) hX dX6_qFact_95 (by decide) ?_
      refine gz_goto (pc := 97) (tgt := 102) hX dX6_qFact_97 (by decide) ?_
      refine gz_sub (lw := [(0, .ref (gz_ad G 2000))]) [0] rfl ?_
      exact wb_X6_qFact_102 hX h hk
  · replace h := gz_it' g5 h
    refine gz_bipush (pc := 84) (v := (7 : Int32)) hX dX6_qFact_84 (by decide) ?_
    refine gz_goto (pc := 86) (tgt := 102) hX dX6_qFact_86 (by decide) ?_
    refine gz_sub (lw := [(0, .ref (gz_ad G 2000))]) [0] rfl ?_
    exact wb_X6_qFact_102 hX h hk
noncomputable def mf_qFact  (m : MM) : Option (Unit × MM) :=
  ((mf_takes 1081 m).bind fun (r1, m2) => (if r1 = (0 : Int32) then ((mf_qSums m2).bind fun (_, m6) => (if (m6.1 2000 5) = (0 : Int32) then ((mf_look m6).bind fun (r9, m10) => (if r9 = (60 : Int32) then (mj_X6_qFact_63 r9 m10) else (if r9 = (62 : Int32) then (mj_X6_qFact_63 r9 m10) else (if r9 = (61 : Int32) then (mj_X6_qFact_63 r9 m10) else ((mf_fail (1 : Int32) (m10.1 2000 2) m10).bind fun (_, m16) => some ((), m16)))))) else some ((), m6))) else ((mf_qCode (13 : Int32) m2).bind fun (_, m19) => some ((), m19))))
theorem wm_qFact {X : gz_X} {G : gz_G} (hX : gz_C mS X G cX6_qFact 2 RX6 7 153)   {m : MM} {z : (Unit × MM)} (h : mf_qFact  m = some z) (hk : (fun z : (Unit × MM) => gz_kV mS X G 2 (0, 0) cX6_qFact (mF z.2)) z) : gz_V mS X G 2 (0, 0) (mF m) 0 [(0, .ref (gz_ad G 2000))] [] := by
  unfold mf_qFact at h
  refine gz_aload_n (pc := 0) hX dX6_qFact_0 rfl 0 rfl ?_
  refine gz_aload_n (pc := 1) hX dX6_qFact_1 rfl 0 rfl ?_
  refine mg_80 (pc := 2) hX dX6_qFact_2 ?_
  obtain ⟨⟨r1, m2⟩, c3, h⟩ := gz_bd h
  refine mc_takes (pc := 5) hX rfl c3 ⟨Nat.le_of_ble_eq_true rfl, Nat.le_of_ble_eq_true rfl⟩ (rest := []) rfl (Nat.le_of_ble_eq_true rfl) dX6_qFact_5 ?_
  refine gz_if_eq (pc := 8) (tgt := 18) hX dX6_qFact_8 (by decide) (fun g4 => ?_) (fun g4 => ?_)
  · replace h := gz_it' g4 h
    refine gz_aload_n (pc := 18) hX dX6_qFact_18 rfl 0 rfl ?_
    obtain ⟨⟨⟨⟩, m6⟩, c7, h⟩ := gz_bd h
    refine mc_qSums (pc := 19) hX c7 ⟨Nat.le_of_ble_eq_true rfl, Nat.le_of_ble_eq_true rfl⟩ (rest := []) rfl (Nat.le_of_ble_eq_true rfl) dX6_qFact_19 ?_
    refine gz_aload_n (pc := 22) hX dX6_qFact_22 rfl 0 rfl ?_
    refine mg_5 (pc := 23) hX dX6_qFact_23 ?_
    refine gz_if_eq (pc := 26) (tgt := 30) hX dX6_qFact_26 (by decide) (fun g8 => ?_) (fun g8 => ?_)
    · replace h := gz_it' g8 h
      refine gz_aload_n (pc := 30) hX dX6_qFact_30 rfl 0 rfl ?_
      obtain ⟨⟨r9, m10⟩, c11, h⟩ := gz_bd h
      refine mc_look (pc := 31) hX c11 ⟨Nat.le_of_ble_eq_true rfl, Nat.le_of_ble_eq_true rfl⟩ (rest := []) rfl (Nat.le_of_ble_eq_true rfl) dX6_qFact_31 ?_
      refine gz_istore_n (pc := 34) (lw := [(1, .int r9), (0, .ref (gz_ad G 2000))]) hX dX6_qFact_34 rfl (by decide) rfl ?_
      refine gz_iload_n (pc := 35) hX dX6_qFact_35 rfl 0 rfl ?_
      refine gz_bipush (pc := 36) (v := (60 : Int32)) hX dX6_qFact_36 (by decide) ?_
      refine gz_icmp_eq (pc := 38) (tgt := 63) hX dX6_qFact_38 (by decide) (fun g12 => ?_) (fun g12 => ?_)
      · replace h := gz_it' g12 h
        refine gz_sub (lw := [(0, .ref (gz_ad G 2000)), (1, .int r9)]) [1, 0] rfl ?_
        exact wb_X6_qFact_63 hX h hk
      · replace h := gz_if' g12 h
        refine gz_iload_n (pc := 41) hX dX6_qFact_41 rfl 0 rfl ?_
        refine gz_bipush (pc := 42) (v := (62 : Int32)) hX dX6_qFact_42 (by decide) ?_
        refine gz_icmp_eq (pc := 44) (tgt := 63) hX dX6_qFact_44 (by decide) (fun g13 => ?_) (fun g13 => ?_)
        · replace h := gz_it' g13 h
          refine gz_sub (lw := [(0, .ref (gz_ad G 2000)), (1, .int r9)]) [1, 0] rfl ?_
          exact wb_X6_qFact_63 hX h hk
        · replace h := gz_if' g13 h
          refine gz_iload_n (pc := 47) hX dX6_qFact_47 rfl 0 rfl ?_
          refine gz_bipush (pc := 48) (v := (61 : Int32)) hX dX6_qFact_48 (by decide) ?_
          refine gz_icmp_eq (pc := 50) (tgt := 63) hX dX6_qFact_50 (by decide) (fun g14 => ?_) (fun g14 => ?_)
          · replace h := gz_it' g14 h
            refine gz_sub (lw := [(0, .ref (gz_ad G 2000)), (1, .int r9)]) [1, 0] rfl ?_
            exact wb_X6_qFact_63 hX h hk
          · replace h := gz_if' g14 h
            refine gz_aload_n (pc := 53) hX dX6_qFact_53 rfl 1 rfl ?_
            refine gz_iconst (pc := 54) (v := (1 : Int32)) hX dX6_qFact_54 (by decide) ?_
            refine gz_aload_n (pc := 55) hX dX6_qFact_55 rfl 1 rfl ?_
            refine mg_2 (pc := 56) hX dX6_qFact_56 ?_
            obtain ⟨⟨⟨⟩, m16⟩, c17, h⟩ := gz_bd h
            refine mc_fail (pc := 59) hX c17 ⟨Nat.le_of_ble_eq_true rfl, Nat.le_of_ble_eq_true rfl⟩ (rest := []) rfl (Nat.le_of_ble_eq_true rfl) dX6_qFact_59 ?_
            obtain rfl := Option.some.inj h
            exact hk _ _ dX6_qFact_62
    · replace h := gz_if' g8 h
      obtain rfl := Option.some.inj h
      exact hk _ _ dX6_qFact_29
  · replace h := gz_if' g4 h
    refine gz_aload_n (pc := 11) hX dX6_qFact_11 rfl 0 rfl ?_
    refine gz_bipush (pc := 12) (v := (13 : Int32)) hX dX6_qFact_12 (by decide) ?_
    obtain ⟨⟨⟨⟩, m19⟩, c20, h⟩ := gz_bd h
    refine mc_qCode (pc := 14) hX c20 ⟨Nat.le_of_ble_eq_true rfl, Nat.le_of_ble_eq_true rfl⟩ (rest := []) rfl (Nat.le_of_ble_eq_true rfl) dX6_qFact_14 ?_
    obtain rfl := Option.some.inj h
    exact hk _ _ dX6_qFact_17
theorem mt_qFact {G : gz_G} {l : Launch}   {m m9 : MM} (h : mf_qFact  m = some ((), m9)) : gz_Met mS G l yX6_qFact cX6_qFact 2 none (mRm 7 153) [.ref (gz_ad G 2000)] (mF m) (mF m9) none :=
  gz_ofV (plainFor_of_name mz_plain) (Nat.le_of_ble_eq_true rfl) fun X _ hX hk => wm_qFact hX h hk
theorem mc_qFact {X : gz_X} {G : gz_G} {cc : ByteArray} {nL fr lo pc : Nat} {lv : List (Nat × Value)} {rest st0 : List Value} (hX : gz_C mS X G cc nL RX6 fr lo)   {m m9 : MM} (h : mf_qFact  m = some ((), m9)) (hroom : 7 + 1 ≤ fr ∧ 8 + (2 + 11) + 153 ≤ lo) (hst : st0 = [.ref (gz_ad G 2000)] ++ rest) (hW : (rest.map fun v => v.category).sum ≤ 8) (hd : decode cc pc = .ok (.invokevirtual 636, 3)) (kk : gz_V mS X G nL (0, 0) (mF m9) (pc + 3) lv (rest)) : gz_V mS X G nL (0, 0) (mF m) pc lv st0 :=
  gz_callV hX mz_E (As := []) (rest := rest) (q := (RX6, TX6, 104)) (ci := 0) (c := 2000) (mt_qFact (l := X.2.1) h) (lw_V q2187 q2189 qs88 q182 q2190) (n := 0) (by decide +kernel) hroom rfl rfl (by decide) rfl hst hW hd (rem := (0, 0)) kk
/-! qDropsNots()V -/
def mP_X6_qDropsNots_0 (X : gz_X) (G : gz_G) (q : (MM)) : Prop := gz_V mS X G 1 (0, 0) (mF q) 0 [(0, .ref (gz_ad G 2000))] []
noncomputable def mb_X6_qDropsNots_0  (m : MM) : Option ((MM) ⊕ (Unit × MM)) :=
  (if (m.1 2000 5) = (0 : Int32) then ((mf_qIsOn (12 : Int32) m).bind fun (r2, m3) => (if r2 = (0 : Int32) then some (Sum.inr ((), m3)) else gz_let (msI m3 2000 96 ((m3.1 2000 96) - (1 : Int32))) fun m6 => ((mf_qDrops m6).bind fun (_, m8) => some (Sum.inl (m8))))) else some (Sum.inr ((), m)))
theorem wb_X6_qDropsNots_0 {X : gz_X} {G : gz_G} (hX : gz_C mS X G cX6_qDropsNots 1 RX6 2 41)   {m : MM} {z : ((MM) ⊕ (Unit × MM))} (h : mb_X6_qDropsNots_0  m = some z) (hk : (Sum.elim (mP_X6_qDropsNots_0 X G) (fun z : (Unit × MM) => gz_kV mS X G 1 (0, 0) cX6_qDropsNots (mF z.2))) z) : gz_V mS X G 1 (0, 0) (mF m) 0 [(0, .ref (gz_ad G 2000))] [] := by
  unfold mb_X6_qDropsNots_0 at h
  refine gz_aload_n (pc := 0) hX dX6_qDropsNots_0 rfl 0 rfl ?_
  refine mg_5 (pc := 1) hX dX6_qDropsNots_1 ?_
  refine gz_if_ne (pc := 4) (tgt := 33) hX dX6_qDropsNots_4 (by decide) (fun g1 => ?_) (fun g1 => ?_)
  · replace h := gz_if' g1 h
    obtain rfl := Option.some.inj h
    exact hk _ _ dX6_qDropsNots_33
  · replace h := gz_it' g1 h
    refine gz_aload_n (pc := 7) hX dX6_qDropsNots_7 rfl 0 rfl ?_
    refine gz_bipush (pc := 8) (v := (12 : Int32)) hX dX6_qDropsNots_8 (by decide) ?_
    obtain ⟨⟨r2, m3⟩, c4, h⟩ := gz_bd h
    refine mc_qIsOn (pc := 10) hX c4 ⟨Nat.le_of_ble_eq_true rfl, Nat.le_of_ble_eq_true rfl⟩ (rest := []) rfl (Nat.le_of_ble_eq_true rfl) dX6_qDropsNots_10 ?_
    refine gz_if_eq (pc := 13) (tgt := 33) hX dX6_qDropsNots_13 (by decide) (fun g5 => ?_) (fun g5 => ?_)
    · replace h := gz_it' g5 h
      obtain rfl := Option.some.inj h
      exact hk _ _ dX6_qDropsNots_33
    · replace h := gz_if' g5 h
      refine gz_aload_n (pc := 16) hX dX6_qDropsNots_16 rfl 0 rfl ?_
      refine gz_dup (pc := 17) hX dX6_qDropsNots_17 rfl ?_
      refine mg_96 (pc := 18) hX dX6_qDropsNots_18 ?_
      refine gz_iconst (pc := 21) (v := (1 : Int32)) hX dX6_qDropsNots_21 (by decide) ?_
      refine gz_isub (pc := 22) hX dX6_qDropsNots_22 ?_
      obtain ⟨m6, em6, h⟩ := gz_lt h
      refine mp_96 (pc := 23) hX dX6_qDropsNots_23 em6 ?_
      refine gz_aload_n (pc := 26) hX dX6_qDropsNots_26 rfl 0 rfl ?_
      obtain ⟨⟨⟨⟩, m8⟩, c9, h⟩ := gz_bd h
      refine mc_qDrops (pc := 27) hX c9 ⟨Nat.le_of_ble_eq_true rfl, Nat.le_of_ble_eq_true rfl⟩ (rest := []) rfl (Nat.le_of_ble_eq_true rfl) dX6_qDropsNots_27 ?_
      refine gz_goto (pc := 30) (tgt := 0) hX dX6_qDropsNots_30 (by decide) ?_
      obtain rfl := Option.some.inj h
      exact hk
noncomputable def ml_X6_qDropsNots_0  (m : MM) : Option (Unit × MM) := gz_loop (fun q : (MM) => mb_X6_qDropsNots_0  q) (m)
theorem wl_X6_qDropsNots_0 {X : gz_X} {G : gz_G} (hX : gz_C mS X G cX6_qDropsNots 1 RX6 2 41)   {m : MM} {z : (Unit × MM)} (h : ml_X6_qDropsNots_0  m = some z) (hk : (fun z : (Unit × MM) => gz_kV mS X G 1 (0, 0) cX6_qDropsNots (mF z.2)) z) : gz_V mS X G 1 (0, 0) (mF m) 0 [(0, .ref (gz_ad G 2000))] [] := by
  have hp : mP_X6_qDropsNots_0 X G (m) := gz_loop_ind (fun q z hz hkz => wb_X6_qDropsNots_0 hX  hz hkz) h hk
  exact hp
noncomputable def mf_qDropsNots  (m : MM) : Option (Unit × MM) :=
  (ml_X6_qDropsNots_0  m)
theorem wm_qDropsNots {X : gz_X} {G : gz_G} (hX : gz_C mS X G cX6_qDropsNots 1 RX6 2 41)   {m : MM} {z : (Unit × MM)} (h : mf_qDropsNots  m = some z) (hk : (fun z : (Unit × MM) => gz_kV mS X G 1 (0, 0) cX6_qDropsNots (mF z.2)) z) : gz_V mS X G 1 (0, 0) (mF m) 0 [(0, .ref (gz_ad G 2000))] [] := by
  unfold mf_qDropsNots at h
  exact wl_X6_qDropsNots_0 hX h hk
theorem mt_qDropsNots {G : gz_G} {l : Launch}   {m m9 : MM} (h : mf_qDropsNots  m = some ((), m9)) : gz_Met mS G l yX6_qDropsNots cX6_qDropsNots 1 none (mRm 2 41) [.ref (gz_ad G 2000)] (mF m) (mF m9) none :=
  gz_ofV (plainFor_of_name mz_plain) (Nat.le_of_ble_eq_true rfl) fun X _ hX hk => wm_qDropsNots hX h hk
theorem mc_qDropsNots {X : gz_X} {G : gz_G} {cc : ByteArray} {nL fr lo pc : Nat} {lv : List (Nat × Value)} {rest st0 : List Value} (hX : gz_C mS X G cc nL RX6 fr lo)   {m m9 : MM} (h : mf_qDropsNots  m = some ((), m9)) (hroom : 2 + 1 ≤ fr ∧ 8 + (1 + 11) + 41 ≤ lo) (hst : st0 = [.ref (gz_ad G 2000)] ++ rest) (hW : (rest.map fun v => v.category).sum ≤ 8) (hd : decode cc pc = .ok (.invokevirtual 639, 3)) (kk : gz_V mS X G nL (0, 0) (mF m9) (pc + 3) lv (rest)) : gz_V mS X G nL (0, 0) (mF m) pc lv st0 :=
  gz_callV hX mz_E (As := []) (rest := rest) (q := (RX6, TX6, 104)) (ci := 0) (c := 2000) (mt_qDropsNots (l := X.2.1) h) (lw_V q2254 q2256 qs104 q182 q2257) (n := 0) (by decide +kernel) hroom rfl rfl (by decide) rfl hst hW hd (rem := (0, 0)) kk
/-! qHasSquare()Z -/
def mP_X6_qHasSquare_2 (X : gz_X) (G : gz_G) (q : (Int32 × MM)) : Prop := gz_V mS X G 2 (0, 0) (mF q.2) 2 [(0, .ref (gz_ad G 2000)), (1, .int q.1)] []
noncomputable def mb_X6_qHasSquare_2 (x1 : Int32) (m : MM) : Option ((Int32 × MM) ⊕ (Int32 × MM)) :=
  (if (m.1 2000 95) ≤ x1 then some (Sum.inr ((0 : Int32), m)) else (if gz_in x1 (1700) then (if (m.1 1095 (gz_ix x1)) = (25 : Int32) then some (Sum.inr ((1 : Int32), m)) else gz_let (x1 + (1 : Int32)) fun y4 => some (Sum.inl (y4, m))) else none))
theorem wb_X6_qHasSquare_2 {X : gz_X} {G : gz_G} (hX : gz_C mS X G cX6_qHasSquare 2 RX6 0 0) {x1 : Int32}  {m : MM} {z : ((Int32 × MM) ⊕ (Int32 × MM))} (h : mb_X6_qHasSquare_2 x1 m = some z) (hk : (Sum.elim (mP_X6_qHasSquare_2 X G) (fun z : (Int32 × MM) => gz_kZ mS X G 2 (0, 0) cX6_qHasSquare (mF z.2) z.1)) z) : gz_V mS X G 2 (0, 0) (mF m) 2 [(0, .ref (gz_ad G 2000)), (1, .int x1)] [] := by
  unfold mb_X6_qHasSquare_2 at h
  refine gz_iload_n (pc := 2) hX dX6_qHasSquare_2 rfl 1 rfl ?_
  refine gz_aload_n (pc := 3) hX dX6_qHasSquare_3 rfl 0 rfl ?_
  refine mg_95 (pc := 4) hX dX6_qHasSquare_4 ?_
  refine gz_icmp_ge (pc := 7) (tgt := 29) hX dX6_qHasSquare_7 (by decide) (fun g1 => ?_) (fun g1 => ?_)
  · replace h := gz_it' g1 h
    refine gz_iconst (pc := 29) (v := (0 : Int32)) hX dX6_qHasSquare_29 (by decide) ?_
    obtain rfl := Option.some.inj h
    exact hk _ _ dX6_qHasSquare_30 (Or.inl rfl)
  · replace h := gz_if' g1 h
    refine gz_aload_n (pc := 10) hX dX6_qHasSquare_10 rfl 0 rfl ?_
    refine mg_94 (pc := 11) hX dX6_qHasSquare_11 ?_
    refine gz_iload_n (pc := 14) hX dX6_qHasSquare_14 rfl 1 rfl ?_
    obtain ⟨g2, h⟩ := gz_gu h
    refine mz_iald (pc := 15) (c := 1095) (n := 1700) hX rfl rfl g2 dX6_qHasSquare_15 ?_
    refine gz_bipush (pc := 16) (v := (25 : Int32)) hX dX6_qHasSquare_16 (by decide) ?_
    refine gz_icmp_ne (pc := 18) (tgt := 23) hX dX6_qHasSquare_18 (by decide) (fun g3 => ?_) (fun g3 => ?_)
    · replace h := gz_if' g3 h
      obtain ⟨y4, ey4, h⟩ := gz_lt h
      refine gz_iinc (pc := 23) (v := y4) (lw := [(1, .int y4), (0, .ref (gz_ad G 2000))]) hX dX6_qHasSquare_23 (k := 1) rfl (by rw [ey4]; rfl) (by decide) rfl ?_
      refine gz_goto (pc := 26) (tgt := 2) hX dX6_qHasSquare_26 (by decide) ?_
      refine gz_sub (lw := [(0, .ref (gz_ad G 2000)), (1, .int y4)]) [1, 0] rfl ?_
      obtain rfl := Option.some.inj h
      exact hk
    · replace h := gz_it' g3 h
      refine gz_iconst (pc := 21) (v := (1 : Int32)) hX dX6_qHasSquare_21 (by decide) ?_
      obtain rfl := Option.some.inj h
      exact hk _ _ dX6_qHasSquare_22 (Or.inr rfl)
noncomputable def ml_X6_qHasSquare_2 (x1 : Int32) (m : MM) : Option (Int32 × MM) := gz_loop (fun q : (Int32 × MM) => mb_X6_qHasSquare_2 q.1 q.2) (x1, m)
theorem wl_X6_qHasSquare_2 {X : gz_X} {G : gz_G} (hX : gz_C mS X G cX6_qHasSquare 2 RX6 0 0) {x1 : Int32}  {m : MM} {z : (Int32 × MM)} (h : ml_X6_qHasSquare_2 x1 m = some z) (hk : (fun z : (Int32 × MM) => gz_kZ mS X G 2 (0, 0) cX6_qHasSquare (mF z.2) z.1) z) : gz_V mS X G 2 (0, 0) (mF m) 2 [(0, .ref (gz_ad G 2000)), (1, .int x1)] [] := by
  have hp : mP_X6_qHasSquare_2 X G (x1, m) := gz_loop_ind (fun q z hz hkz => wb_X6_qHasSquare_2 hX  hz hkz) h hk
  exact hp
noncomputable def mf_qHasSquare  (m : MM) : Option (Int32 × MM) :=
  (ml_X6_qHasSquare_2 (0 : Int32) m)
theorem wm_qHasSquare {X : gz_X} {G : gz_G} (hX : gz_C mS X G cX6_qHasSquare 2 RX6 0 0)   {m : MM} {z : (Int32 × MM)} (h : mf_qHasSquare  m = some z) (hk : (fun z : (Int32 × MM) => gz_kZ mS X G 2 (0, 0) cX6_qHasSquare (mF z.2) z.1) z) : gz_V mS X G 2 (0, 0) (mF m) 0 [(0, .ref (gz_ad G 2000))] [] := by
  unfold mf_qHasSquare at h
  refine gz_iconst (pc := 0) (v := (0 : Int32)) hX dX6_qHasSquare_0 (by decide) ?_
  refine gz_istore_n (pc := 1) (lw := [(1, .int (0 : Int32)), (0, .ref (gz_ad G 2000))]) hX dX6_qHasSquare_1 rfl (by decide) rfl ?_
  refine gz_sub (lw := [(0, .ref (gz_ad G 2000)), (1, .int (0 : Int32))]) [1, 0] rfl ?_
  exact wl_X6_qHasSquare_2 hX h hk
theorem mt_qHasSquare {G : gz_G} {l : Launch}   {m m9 : MM} {r : Int32} (h : mf_qHasSquare  m = some (r, m9)) : gz_Met mS G l yX6_qHasSquare cX6_qHasSquare 2 (some .boolean) (mRm 0 0) [.ref (gz_ad G 2000)] (mF m) (mF m9) (some (.int r)) :=
  gz_ofZ (plainFor_of_name mz_plain) (Nat.le_of_ble_eq_true rfl) fun X _ hX hk => wm_qHasSquare hX h hk
theorem mc_qHasSquare {X : gz_X} {G : gz_G} {cc : ByteArray} {nL fr lo pc : Nat} {lv : List (Nat × Value)} {rest st0 : List Value} (hX : gz_C mS X G cc nL RX6 fr lo)   {m m9 : MM} {r : Int32} (h : mf_qHasSquare  m = some (r, m9)) (hroom : 0 + 1 ≤ fr ∧ 8 + (2 + 11) + 0 ≤ lo) (hst : st0 = [.ref (gz_ad G 2000)] ++ rest) (hW : (rest.map fun v => v.category).sum ≤ 8) (hd : decode cc pc = .ok (.invokevirtual 645, 3)) (kk : gz_V mS X G nL (0, 0) (mF m9) (pc + 3) lv (.int r :: rest)) : gz_V mS X G nL (0, 0) (mF m) pc lv st0 :=
  gz_callV hX mz_E (As := []) (rest := rest) (q := (RX6, TX6, 104)) (ci := 0) (c := 2000) (mt_qHasSquare (l := X.2.1) h) (lw_V q2262 q2264 qs106 q182 q2265) (n := 0) (by decide +kernel) hroom rfl rfl (by decide) rfl hst hW hd (rem := (0, 0)) kk
