set_option maxRecDepth 100000
/-! FirstSnuffer$State.mayLight(II)Z -/
def mP_X5_mayLight_41 (X : gz_X) (G : gz_G) (c0 : Nat) (q : (Int32 × Int32 × Int32 × Int32 × gM)) : Prop := gz_V cS X G 5 (0, 0) q.2.2.2.2 41 [(0, .ref (gz_ad G c0)), (1, .int q.1), (2, .int q.2.1), (3, .int q.2.2.1), (4, .int q.2.2.2.1)] []
noncomputable def mj_X5_mayLight_135 (c0 : Nat) (x1 : Int32) (x2 : Int32) (x4 : Int32) (s0 : Int32) (s1 : Int32) (m : gM) : Option ((Int32 × Int32 × Int32 × Int32 × gM) ⊕ (Int32 × gM)) :=
  gz_let ((s1 ||| s0)) fun y1 => gz_let (x4 + (1 : Int32)) fun y2 => some (Sum.inl (x1, x2, y1, y2, m))
theorem wb_X5_mayLight_135 {X : gz_X} {G : gz_G} (hX : gz_C cS X G cX5_mayLight 5 RX5 4 85) {c0 : Nat} {x1 : Int32} {x2 : Int32} {x4 : Int32} {s0 : Int32} {s1 : Int32} (hs_c0 : cSt c0 = true) {m : gM} {z : ((Int32 × Int32 × Int32 × Int32 × gM) ⊕ (Int32 × gM))} (h : mj_X5_mayLight_135 c0 x1 x2 x4 s0 s1 m = some z) (hk : (Sum.elim (mP_X5_mayLight_41 X G c0) (fun z : (Int32 × gM) => gz_kZ cS X G 5 (0, 0) cX5_mayLight z.2 z.1)) z) : gz_V cS X G 5 (0, 0) m 135 [(0, .ref (gz_ad G c0)), (1, .int x1), (2, .int x2), (4, .int x4)] [.int s0, .int s1] := by
  unfold mj_X5_mayLight_135 at h
  refine gz_ior (pc := 135) hX dX5_mayLight_135 ?_
  obtain ⟨y1, ey1, h⟩ := gz_lt h
  refine gz_topi ey1 ?_
  refine gz_istore_n (pc := 136) (lw := [(3, .int y1), (0, .ref (gz_ad G c0)), (1, .int x1), (2, .int x2), (4, .int x4)]) hX dX5_mayLight_136 rfl (by decide) rfl ?_
  obtain ⟨y2, ey2, h⟩ := gz_lt h
  refine gz_iinc (pc := 137) (v := y2) (lw := [(4, .int y2), (3, .int y1), (0, .ref (gz_ad G c0)), (1, .int x1), (2, .int x2)]) hX dX5_mayLight_137 (k := 4) rfl (by rw [ey2]; rfl) (by decide) rfl ?_
  refine gz_goto (pc := 140) (tgt := 41) hX dX5_mayLight_140 (by decide) ?_
  refine gz_sub (lw := [(0, .ref (gz_ad G c0)), (1, .int x1), (2, .int x2), (3, .int y1), (4, .int y2)]) [2, 3, 4, 1, 0] rfl ?_
  obtain rfl := Option.some.inj h
  exact hk
noncomputable def mj_X5_mayLight_134 (c0 : Nat) (x1 : Int32) (x2 : Int32) (x4 : Int32) (s0 : Int32) (m : gM) : Option ((Int32 × Int32 × Int32 × Int32 × gM) ⊕ (Int32 × gM)) :=
  (mj_X5_mayLight_135 c0 x1 x2 x4 (0 : Int32) s0 m)
theorem wb_X5_mayLight_134 {X : gz_X} {G : gz_G} (hX : gz_C cS X G cX5_mayLight 5 RX5 4 85) {c0 : Nat} {x1 : Int32} {x2 : Int32} {x4 : Int32} {s0 : Int32} (hs_c0 : cSt c0 = true) {m : gM} {z : ((Int32 × Int32 × Int32 × Int32 × gM) ⊕ (Int32 × gM))} (h : mj_X5_mayLight_134 c0 x1 x2 x4 s0 m = some z) (hk : (Sum.elim (mP_X5_mayLight_41 X G c0) (fun z : (Int32 × gM) => gz_kZ cS X G 5 (0, 0) cX5_mayLight z.2 z.1)) z) : gz_V cS X G 5 (0, 0) m 134 [(0, .ref (gz_ad G c0)), (1, .int x1), (2, .int x2), (4, .int x4)] [.int s0] := by
  unfold mj_X5_mayLight_134 at h
  refine gz_iconst (pc := 134) (v := (0 : Int32)) hX dX5_mayLight_134 (by decide) ?_
  exact wb_X5_mayLight_135 hX hs_c0 h hk
noncomputable def mj_X5_mayLight_130 (c0 : Nat) (x1 : Int32) (x2 : Int32) (x4 : Int32) (s0 : Int32) (m : gM) : Option ((Int32 × Int32 × Int32 × Int32 × gM) ⊕ (Int32 × gM)) :=
  (mj_X5_mayLight_135 c0 x1 x2 x4 (1 : Int32) s0 m)
theorem wb_X5_mayLight_130 {X : gz_X} {G : gz_G} (hX : gz_C cS X G cX5_mayLight 5 RX5 4 85) {c0 : Nat} {x1 : Int32} {x2 : Int32} {x4 : Int32} {s0 : Int32} (hs_c0 : cSt c0 = true) {m : gM} {z : ((Int32 × Int32 × Int32 × Int32 × gM) ⊕ (Int32 × gM))} (h : mj_X5_mayLight_130 c0 x1 x2 x4 s0 m = some z) (hk : (Sum.elim (mP_X5_mayLight_41 X G c0) (fun z : (Int32 × gM) => gz_kZ cS X G 5 (0, 0) cX5_mayLight z.2 z.1)) z) : gz_V cS X G 5 (0, 0) m 130 [(0, .ref (gz_ad G c0)), (1, .int x1), (2, .int x2), (4, .int x4)] [.int s0] := by
  unfold mj_X5_mayLight_130 at h
  refine gz_iconst (pc := 130) (v := (1 : Int32)) hX dX5_mayLight_130 (by decide) ?_
  refine gz_goto (pc := 131) (tgt := 135) hX dX5_mayLight_131 (by decide) ?_
  exact wb_X5_mayLight_135 hX hs_c0 h hk
noncomputable def mj_X5_mayLight_98 (c0 : Nat) (x1 : Int32) (x2 : Int32) (x4 : Int32) (s0 : Int32) (m : gM) : Option ((Int32 × Int32 × Int32 × Int32 × gM) ⊕ (Int32 × gM)) :=
  ((cf_X0_tieOf x4 m).bind fun (r1, m2) => (if gK m2 r1 = 10 then (if (gI m2 r1 0) = x2 then ((cf_X0_tieOf x4 m2).bind fun (r6, m7) => (if gK m7 r6 = 10 then (if (gI m7 r6 1) = x1 then (mj_X5_mayLight_130 c0 x1 x2 x4 s0 m7) else (mj_X5_mayLight_134 c0 x1 x2 x4 s0 m7)) else none)) else (mj_X5_mayLight_134 c0 x1 x2 x4 s0 m2)) else none))
theorem wb_X5_mayLight_98 {X : gz_X} {G : gz_G} (hX : gz_C cS X G cX5_mayLight 5 RX5 4 85) {c0 : Nat} {x1 : Int32} {x2 : Int32} {x4 : Int32} {s0 : Int32} (hs_c0 : cSt c0 = true) {m : gM} {z : ((Int32 × Int32 × Int32 × Int32 × gM) ⊕ (Int32 × gM))} (h : mj_X5_mayLight_98 c0 x1 x2 x4 s0 m = some z) (hk : (Sum.elim (mP_X5_mayLight_41 X G c0) (fun z : (Int32 × gM) => gz_kZ cS X G 5 (0, 0) cX5_mayLight z.2 z.1)) z) : gz_V cS X G 5 (0, 0) m 98 [(0, .ref (gz_ad G c0)), (1, .int x1), (2, .int x2), (4, .int x4)] [.int s0] := by
  unfold mj_X5_mayLight_98 at h
  refine gz_aload_n (pc := 98) hX dX5_mayLight_98 rfl 0 rfl ?_
  refine cg_X5_3_5 (pc := 99) hX (c := c0) (v := .ref (gz_ad G 1000)) (fun h => cz_k h (st_k hs_c0)) (fun h => cz_f h (st_0 hs_c0) (st_f9 hs_c0) (by decide) rfl) dX5_mayLight_99 ?_
  refine gz_iload (pc := 102) hX dX5_mayLight_102 3 rfl ?_
  obtain ⟨⟨r1, m2⟩, c3, h⟩ := gz_bd h
  refine cc_X5_144 (pc := 104) hX (fun h => cz_k h rfl) c3 ⟨Nat.le_of_ble_eq_true rfl, Nat.le_of_ble_eq_true rfl⟩ (rest := [.int s0]) rfl (Nat.le_of_ble_eq_true rfl) dX5_mayLight_104 ?_
  obtain ⟨g4, h⟩ := gz_gu h
  refine cg_X5_148_9 (pc := 107) hX (c := r1) (v := .int (gI m2 r1 0)) (fun _ => g4) (fun _ => rfl) dX5_mayLight_107 ?_
  refine gz_iload_n (pc := 110) hX dX5_mayLight_110 rfl 2 rfl ?_
  refine gz_icmp_ne (pc := 111) (tgt := 134) hX dX5_mayLight_111 (by decide) (fun g5 => ?_) (fun g5 => ?_)
  · replace h := gz_if' g5 h
    exact wb_X5_mayLight_134 hX hs_c0 h hk
  · replace h := gz_it' g5 h
    refine gz_aload_n (pc := 114) hX dX5_mayLight_114 rfl 0 rfl ?_
    refine cg_X5_3_5 (pc := 115) hX (c := c0) (v := .ref (gz_ad G 1000)) (fun h => cz_k h (st_k hs_c0)) (fun h => cz_f h (st_0 hs_c0) (st_f9 hs_c0) (by decide) rfl) dX5_mayLight_115 ?_
    refine gz_iload (pc := 118) hX dX5_mayLight_118 3 rfl ?_
    obtain ⟨⟨r6, m7⟩, c8, h⟩ := gz_bd h
    refine cc_X5_144 (pc := 120) hX (fun h => cz_k h rfl) c8 ⟨Nat.le_of_ble_eq_true rfl, Nat.le_of_ble_eq_true rfl⟩ (rest := [.int s0]) rfl (Nat.le_of_ble_eq_true rfl) dX5_mayLight_120 ?_
    obtain ⟨g9, h⟩ := gz_gu h
    refine cg_X5_153_9 (pc := 123) hX (c := r6) (v := .int (gI m7 r6 1)) (fun _ => g9) (fun _ => rfl) dX5_mayLight_123 ?_
    refine gz_iload_n (pc := 126) hX dX5_mayLight_126 rfl 1 rfl ?_
    refine gz_icmp_ne (pc := 127) (tgt := 134) hX dX5_mayLight_127 (by decide) (fun g10 => ?_) (fun g10 => ?_)
    · replace h := gz_if' g10 h
      exact wb_X5_mayLight_134 hX hs_c0 h hk
    · replace h := gz_it' g10 h
      exact wb_X5_mayLight_130 hX hs_c0 h hk
noncomputable def mb_X5_mayLight_41 (c0 : Nat) (x1 : Int32) (x2 : Int32) (x3 : Int32) (x4 : Int32) (m : gM) : Option ((Int32 × Int32 × Int32 × Int32 × gM) ⊕ (Int32 × gM)) :=
  ((cf_X0_ties m).bind fun (r1, m2) => (if r1 ≤ x4 then (if x3 = 0 ∨ x3 = 1 then some (Sum.inr (x3, m2)) else none) else ((cf_X0_has (gI m2 c0 3) x4 m2).bind fun (r6, m7) => (if r6 = (0 : Int32) then (mj_X5_mayLight_134 c0 x1 x2 x4 x3 m7) else ((cf_X0_tieOf x4 m7).bind fun (r10, m11) => (if gK m11 r10 = 10 then (if (gI m11 r10 0) = x1 then ((cf_X0_tieOf x4 m11).bind fun (r15, m16) => (if gK m16 r15 = 10 then (if (gI m16 r15 1) = x2 then (mj_X5_mayLight_130 c0 x1 x2 x4 x3 m16) else (mj_X5_mayLight_98 c0 x1 x2 x4 x3 m16)) else none)) else (mj_X5_mayLight_98 c0 x1 x2 x4 x3 m11)) else none))))))
theorem wb_X5_mayLight_41 {X : gz_X} {G : gz_G} (hX : gz_C cS X G cX5_mayLight 5 RX5 4 85) {c0 : Nat} {x1 : Int32} {x2 : Int32} {x3 : Int32} {x4 : Int32} (hs_c0 : cSt c0 = true) {m : gM} {z : ((Int32 × Int32 × Int32 × Int32 × gM) ⊕ (Int32 × gM))} (h : mb_X5_mayLight_41 c0 x1 x2 x3 x4 m = some z) (hk : (Sum.elim (mP_X5_mayLight_41 X G c0) (fun z : (Int32 × gM) => gz_kZ cS X G 5 (0, 0) cX5_mayLight z.2 z.1)) z) : gz_V cS X G 5 (0, 0) m 41 [(0, .ref (gz_ad G c0)), (1, .int x1), (2, .int x2), (3, .int x3), (4, .int x4)] [] := by
  unfold mb_X5_mayLight_41 at h
  refine gz_iload (pc := 41) hX dX5_mayLight_41 4 rfl ?_
  refine gz_aload_n (pc := 43) hX dX5_mayLight_43 rfl 0 rfl ?_
  refine cg_X5_3_5 (pc := 44) hX (c := c0) (v := .ref (gz_ad G 1000)) (fun h => cz_k h (st_k hs_c0)) (fun h => cz_f h (st_0 hs_c0) (st_f9 hs_c0) (by decide) rfl) dX5_mayLight_44 ?_
  obtain ⟨⟨r1, m2⟩, c3, h⟩ := gz_bd h
  refine cc_X5_52 (pc := 47) hX (fun h => cz_k h rfl) c3 ⟨Nat.le_of_ble_eq_true rfl, Nat.le_of_ble_eq_true rfl⟩ (rest := [.int x4]) rfl (Nat.le_of_ble_eq_true rfl) dX5_mayLight_47 ?_
  refine gz_icmp_ge (pc := 50) (tgt := 143) hX dX5_mayLight_50 (by decide) (fun g4 => ?_) (fun g4 => ?_)
  · replace h := gz_it' g4 h
    refine gz_iload_n (pc := 143) hX dX5_mayLight_143 rfl 3 rfl ?_
    obtain ⟨g5, h⟩ := gz_gu h
    obtain rfl := Option.some.inj h
    exact hk _ _ dX5_mayLight_144 g5
  · replace h := gz_if' g4 h
    refine gz_iload_n (pc := 53) hX dX5_mayLight_53 rfl 3 rfl ?_
    refine gz_aload_n (pc := 54) hX dX5_mayLight_54 rfl 0 rfl ?_
    refine cg_X5_56_5 (pc := 55) hX (c := c0) (v := .int (gI m2 c0 3)) (fun h => cz_k h (st_k hs_c0)) (fun _ => rfl) dX5_mayLight_55 ?_
    refine gz_iload (pc := 58) hX dX5_mayLight_58 4 rfl ?_
    obtain ⟨⟨r6, m7⟩, c8, h⟩ := gz_bd h
    refine cc_X5_140 (pc := 60) hX c8 ⟨Nat.le_of_ble_eq_true rfl, Nat.le_of_ble_eq_true rfl⟩ (rest := [.int x3]) rfl (Nat.le_of_ble_eq_true rfl) dX5_mayLight_60 ?_
    refine gz_if_eq (pc := 63) (tgt := 134) hX dX5_mayLight_63 (by decide) (fun g9 => ?_) (fun g9 => ?_)
    · replace h := gz_it' g9 h
      refine gz_sub (lw := [(0, .ref (gz_ad G c0)), (1, .int x1), (2, .int x2), (4, .int x4)]) [0, 1, 2, 4] rfl ?_
      exact wb_X5_mayLight_134 hX hs_c0 h hk
    · replace h := gz_if' g9 h
      refine gz_aload_n (pc := 66) hX dX5_mayLight_66 rfl 0 rfl ?_
      refine cg_X5_3_5 (pc := 67) hX (c := c0) (v := .ref (gz_ad G 1000)) (fun h => cz_k h (st_k hs_c0)) (fun h => cz_f h (st_0 hs_c0) (st_f9 hs_c0) (by decide) rfl) dX5_mayLight_67 ?_
      refine gz_iload (pc := 70) hX dX5_mayLight_70 4 rfl ?_
      obtain ⟨⟨r10, m11⟩, c12, h⟩ := gz_bd h
      refine cc_X5_144 (pc := 72) hX (fun h => cz_k h rfl) c12 ⟨Nat.le_of_ble_eq_true rfl, Nat.le_of_ble_eq_true rfl⟩ (rest := [.int x3]) rfl (Nat.le_of_ble_eq_true rfl) dX5_mayLight_72 ?_
      obtain ⟨g13, h⟩ := gz_gu h
      refine cg_X5_148_9 (pc := 75) hX (c := r10) (v := .int (gI m11 r10 0)) (fun _ => g13) (fun _ => rfl) dX5_mayLight_75 ?_
      refine gz_iload_n (pc := 78) hX dX5_mayLight_78 rfl 1 rfl ?_
      refine gz_icmp_ne (pc := 79) (tgt := 98) hX dX5_mayLight_79 (by decide) (fun g14 => ?_) (fun g14 => ?_)
      · replace h := gz_if' g14 h
        refine gz_sub (lw := [(0, .ref (gz_ad G c0)), (1, .int x1), (2, .int x2), (4, .int x4)]) [0, 1, 2, 4] rfl ?_
        exact wb_X5_mayLight_98 hX hs_c0 h hk
      · replace h := gz_it' g14 h
        refine gz_aload_n (pc := 82) hX dX5_mayLight_82 rfl 0 rfl ?_
        refine cg_X5_3_5 (pc := 83) hX (c := c0) (v := .ref (gz_ad G 1000)) (fun h => cz_k h (st_k hs_c0)) (fun h => cz_f h (st_0 hs_c0) (st_f9 hs_c0) (by decide) rfl) dX5_mayLight_83 ?_
        refine gz_iload (pc := 86) hX dX5_mayLight_86 4 rfl ?_
        obtain ⟨⟨r15, m16⟩, c17, h⟩ := gz_bd h
        refine cc_X5_144 (pc := 88) hX (fun h => cz_k h rfl) c17 ⟨Nat.le_of_ble_eq_true rfl, Nat.le_of_ble_eq_true rfl⟩ (rest := [.int x3]) rfl (Nat.le_of_ble_eq_true rfl) dX5_mayLight_88 ?_
        obtain ⟨g18, h⟩ := gz_gu h
        refine cg_X5_153_9 (pc := 91) hX (c := r15) (v := .int (gI m16 r15 1)) (fun _ => g18) (fun _ => rfl) dX5_mayLight_91 ?_
        refine gz_iload_n (pc := 94) hX dX5_mayLight_94 rfl 2 rfl ?_
        refine gz_icmp_eq (pc := 95) (tgt := 130) hX dX5_mayLight_95 (by decide) (fun g19 => ?_) (fun g19 => ?_)
        · replace h := gz_it' g19 h
          refine gz_sub (lw := [(0, .ref (gz_ad G c0)), (1, .int x1), (2, .int x2), (4, .int x4)]) [0, 1, 2, 4] rfl ?_
          exact wb_X5_mayLight_130 hX hs_c0 h hk
        · replace h := gz_if' g19 h
          refine gz_sub (lw := [(0, .ref (gz_ad G c0)), (1, .int x1), (2, .int x2), (4, .int x4)]) [0, 1, 2, 4] rfl ?_
          exact wb_X5_mayLight_98 hX hs_c0 h hk
noncomputable def ml_X5_mayLight_41 (c0 : Nat) (x1 : Int32) (x2 : Int32) (x3 : Int32) (x4 : Int32) (m : gM) : Option (Int32 × gM) := gz_loop (fun q : (Int32 × Int32 × Int32 × Int32 × gM) => mb_X5_mayLight_41 c0 q.1 q.2.1 q.2.2.1 q.2.2.2.1 q.2.2.2.2) (x1, x2, x3, x4, m)
theorem wl_X5_mayLight_41 {X : gz_X} {G : gz_G} (hX : gz_C cS X G cX5_mayLight 5 RX5 4 85) {c0 : Nat} {x1 : Int32} {x2 : Int32} {x3 : Int32} {x4 : Int32} (hs_c0 : cSt c0 = true) {m : gM} {z : (Int32 × gM)} (h : ml_X5_mayLight_41 c0 x1 x2 x3 x4 m = some z) (hk : (fun z : (Int32 × gM) => gz_kZ cS X G 5 (0, 0) cX5_mayLight z.2 z.1) z) : gz_V cS X G 5 (0, 0) m 41 [(0, .ref (gz_ad G c0)), (1, .int x1), (2, .int x2), (3, .int x3), (4, .int x4)] [] := by
  have hp : mP_X5_mayLight_41 X G c0 (x1, x2, x3, x4, m) := gz_loop_ind (fun q z hz hkz => wb_X5_mayLight_41 hX hs_c0 hz hkz) h hk
  exact hp
noncomputable def mj_X5_mayLight_37 (c0 : Nat) (x1 : Int32) (x2 : Int32) (s0 : Int32) (m : gM) : Option (Int32 × gM) :=
  (ml_X5_mayLight_41 c0 x1 x2 s0 (0 : Int32) m)
theorem wb_X5_mayLight_37 {X : gz_X} {G : gz_G} (hX : gz_C cS X G cX5_mayLight 5 RX5 4 85) {c0 : Nat} {x1 : Int32} {x2 : Int32} {s0 : Int32} (hs_c0 : cSt c0 = true) {m : gM} {z : (Int32 × gM)} (h : mj_X5_mayLight_37 c0 x1 x2 s0 m = some z) (hk : (fun z : (Int32 × gM) => gz_kZ cS X G 5 (0, 0) cX5_mayLight z.2 z.1) z) : gz_V cS X G 5 (0, 0) m 37 [(0, .ref (gz_ad G c0)), (1, .int x1), (2, .int x2)] [.int s0] := by
  unfold mj_X5_mayLight_37 at h
  refine gz_istore_n (pc := 37) (lw := [(3, .int s0), (0, .ref (gz_ad G c0)), (1, .int x1), (2, .int x2)]) hX dX5_mayLight_37 rfl (by decide) rfl ?_
  refine gz_iconst (pc := 38) (v := (0 : Int32)) hX dX5_mayLight_38 (by decide) ?_
  refine gz_istore (pc := 39) (lw := [(4, .int (0 : Int32)), (3, .int s0), (0, .ref (gz_ad G c0)), (1, .int x1), (2, .int x2)]) hX dX5_mayLight_39 (by decide) rfl ?_
  refine gz_sub (lw := [(0, .ref (gz_ad G c0)), (1, .int x1), (2, .int x2), (3, .int s0), (4, .int (0 : Int32))]) [2, 3, 4, 1, 0] rfl ?_
  exact wl_X5_mayLight_41 hX hs_c0 h hk
noncomputable def cf_X5_mayLight (c0 : Nat) (x1 : Int32) (x2 : Int32) (m : gM) : Option (Int32 × gM) :=
  (if x1 = x2 then some ((0 : Int32), m) else ((cf_X0_thingOf x1 m).bind fun (r2, m3) => (if gK m3 r2 = 9 then ((cf_X0_thingOf x2 m3).bind fun (r6, m7) => (if gK m7 r6 = 9 then (if (gI m3 r2 1) = (gI m7 r6 1) then (mj_X5_mayLight_37 c0 x1 x2 (1 : Int32) m7) else (mj_X5_mayLight_37 c0 x1 x2 (0 : Int32) m7)) else none)) else none)))
theorem wm_X5_mayLight {X : gz_X} {G : gz_G} (hX : gz_C cS X G cX5_mayLight 5 RX5 4 85) {c0 : Nat} {x1 : Int32} {x2 : Int32} (hs_c0 : cSt c0 = true) {m : gM} {z : (Int32 × gM)} (h : cf_X5_mayLight c0 x1 x2 m = some z) (hk : (fun z : (Int32 × gM) => gz_kZ cS X G 5 (0, 0) cX5_mayLight z.2 z.1) z) : gz_V cS X G 5 (0, 0) m 0 [(0, .ref (gz_ad G c0)), (1, .int x1), (2, .int x2)] [] := by
  unfold cf_X5_mayLight at h
  refine gz_iload_n (pc := 0) hX dX5_mayLight_0 rfl 1 rfl ?_
  refine gz_iload_n (pc := 1) hX dX5_mayLight_1 rfl 2 rfl ?_
  refine gz_icmp_ne (pc := 2) (tgt := 7) hX dX5_mayLight_2 (by decide) (fun g1 => ?_) (fun g1 => ?_)
  · replace h := gz_if' g1 h
    refine gz_aload_n (pc := 7) hX dX5_mayLight_7 rfl 0 rfl ?_
    refine cg_X5_3_5 (pc := 8) hX (c := c0) (v := .ref (gz_ad G 1000)) (fun h => cz_k h (st_k hs_c0)) (fun h => cz_f h (st_0 hs_c0) (st_f9 hs_c0) (by decide) rfl) dX5_mayLight_8 ?_
    refine gz_iload_n (pc := 11) hX dX5_mayLight_11 rfl 1 rfl ?_
    obtain ⟨⟨r2, m3⟩, c4, h⟩ := gz_bd h
    refine cc_X5_62 (pc := 12) hX (fun h => cz_k h rfl) c4 ⟨Nat.le_of_ble_eq_true rfl, Nat.le_of_ble_eq_true rfl⟩ (rest := []) rfl (Nat.le_of_ble_eq_true rfl) dX5_mayLight_12 ?_
    obtain ⟨g5, h⟩ := gz_gu h
    refine cg_X5_77_8 (pc := 15) hX (c := r2) (v := .int (gI m3 r2 1)) (fun _ => g5) (fun _ => rfl) dX5_mayLight_15 ?_
    refine gz_aload_n (pc := 18) hX dX5_mayLight_18 rfl 0 rfl ?_
    refine cg_X5_3_5 (pc := 19) hX (c := c0) (v := .ref (gz_ad G 1000)) (fun h => cz_k h (st_k hs_c0)) (fun h => cz_f h (st_0 hs_c0) (st_f9 hs_c0) (by decide) rfl) dX5_mayLight_19 ?_
    refine gz_iload_n (pc := 22) hX dX5_mayLight_22 rfl 2 rfl ?_
    obtain ⟨⟨r6, m7⟩, c8, h⟩ := gz_bd h
    refine cc_X5_62 (pc := 23) hX (fun h => cz_k h rfl) c8 ⟨Nat.le_of_ble_eq_true rfl, Nat.le_of_ble_eq_true rfl⟩ (rest := [.int (gI m3 r2 1)]) rfl (Nat.le_of_ble_eq_true rfl) dX5_mayLight_23 ?_
    obtain ⟨g9, h⟩ := gz_gu h
    refine cg_X5_77_8 (pc := 26) hX (c := r6) (v := .int (gI m7 r6 1)) (fun _ => g9) (fun _ => rfl) dX5_mayLight_26 ?_
    refine gz_icmp_ne (pc := 29) (tgt := 36) hX dX5_mayLight_29 (by decide) (fun g10 => ?_) (fun g10 => ?_)
    · replace h := gz_if' g10 h
      refine gz_iconst (pc := 36) (v := (0 : Int32)) hX dX5_mayLight_36 (by decide) ?_
      exact wb_X5_mayLight_37 hX hs_c0 h hk
    · replace h := gz_it' g10 h
      refine gz_iconst (pc := 32) (v := (1 : Int32)) hX dX5_mayLight_32 (by decide) ?_
      refine gz_goto (pc := 33) (tgt := 37) hX dX5_mayLight_33 (by decide) ?_
      exact wb_X5_mayLight_37 hX hs_c0 h hk
  · replace h := gz_it' g1 h
    refine gz_iconst (pc := 5) (v := (0 : Int32)) hX dX5_mayLight_5 (by decide) ?_
    obtain rfl := Option.some.inj h
    exact hk _ _ dX5_mayLight_6 (Or.inl rfl)
theorem ct_X5_mayLight {G : gz_G} {l : Launch} {c0 : Nat} {x1 : Int32} {x2 : Int32} (hs_c0 : cSt c0 = true) {m m9 : gM} {r : Int32} (h : cf_X5_mayLight c0 x1 x2 m = some (r, m9)) : gz_Met cS G l yX5_mayLight cX5_mayLight 5 (some .boolean) (mRm 4 85) [.ref (gz_ad G c0), .int x1, .int x2] m m9 (some (.int r)) :=
  gz_ofZ (by decide +kernel) (Nat.le_of_ble_eq_true rfl) fun X _ hX hk => wm_X5_mayLight hX hs_c0 h hk
theorem cg_X0_377_0 {X : gz_X} {G : gz_G} {cc : ByteArray} {nL fr lo pc : Nat} {rem : Nat × Nat} {m : gM} {lv : List (Nat × Value)} {st : List Value} (hX : gz_C cS X G cc nL RX0 fr lo) {c : Nat} {v : Value} (hK : clc m.1 m.2.1 m.2.2.2.2.1 → m.1 c = 0 + 1) (hv : clc m.1 m.2.1 m.2.2.2.2.1 → gz_u (gz_ad G) m (ftC 0 25) c 25 = v) (hd : decode cc pc = .ok (.getfield 377, 3)) (kk : gz_V cS X G nL rem m (pc + 3) lv (v :: st)) : gz_V cS X G nL rem m pc lv (.ref (gz_ad G c) :: st) :=
  gz_getf hX (C := RX0) (T := TX0) (N := 28) (ci := 0) (k := 25) rfl (by decide) in_X0 (by decide) (Or.inl (hX.2.2.2.2.1 _ q527)) hd hK hv kk
theorem cc_X0_280 {X : gz_X} {G : gz_G} {cc : ByteArray} {nL fr lo pc : Nat} {rem : Nat × Nat} {lv : List (Nat × Value)} {rest st0 : List Value} (hX : gz_C cS X G cc nL RX0 fr lo) {c0 : Nat} {x1 : Int32} {m m9 : gM} (hK : clc m.1 m.2.1 m.2.2.2.2.1 → m.1 c0 = 5 + 1) (hs_c0 : cSt c0 = true) {r : Int32} (h : cf_X5_along c0 x1 m = some (r, m9)) (hroom : 4 + 1 ≤ fr ∧ 8 + (6 + 11) + 85 ≤ lo) (hst : st0 = [.int x1, .ref (gz_ad G c0)] ++ rest) (hW : (rest.map fun v => v.category).sum ≤ 8) (hd : decode cc pc = .ok (.invokevirtual 280, 3)) (kk : gz_V cS X G nL rem m9 (pc + 3) lv (.int r :: rest)) : gz_V cS X G nL rem m pc lv st0 :=
  gz_callV2 hX cs_E (As := [.int x1]) (rest := rest) (q := (RX5, TX5, 10)) (ci := 5) (c := c0) (ct_X5_along (l := X.2.1) hs_c0 h) (lw_V q1443 q1444 q1445 q178 q1446) (n := 1) (by decide +kernel) hroom rfl rfl (by decide) hK hst hW hd (rem := rem) kk
/-! FirstSnuffer.looked(IJ)J -/
noncomputable def mj_X0_looked_82  (m : gM) : Option (Int64 × gM) :=
  some ((-1 : Int64), m)
theorem wb_X0_looked_82 {X : gz_X} {G : gz_G} (hX : gz_C cS X G cX0_looked 4 RX0 5 110)   {m : gM} {z : (Int64 × gM)} (h : mj_X0_looked_82  m = some z) (hk : (fun z : (Int64 × gM) => gz_kL cS X G 4 (0, 0) cX0_looked z.2 z.1) z) : gz_V cS X G 4 (0, 0) m 82 [(0, .ref (gz_ad G 1000))] [] := by
  unfold mj_X0_looked_82 at h
  refine gz_ldc2 (pc := 82) (v := (-1 : Int64)) hX q1458 dX0_looked_82 ?_
  obtain rfl := Option.some.inj h
  exact hk _ _ dX0_looked_85
noncomputable def mj_X0_looked_43  (m : gM) : Option (Int64 × gM) :=
  some ((0 : Int64), m)
theorem wb_X0_looked_43 {X : gz_X} {G : gz_G} (hX : gz_C cS X G cX0_looked 4 RX0 5 110)   {m : gM} {z : (Int64 × gM)} (h : mj_X0_looked_43  m = some z) (hk : (fun z : (Int64 × gM) => gz_kL cS X G 4 (0, 0) cX0_looked z.2 z.1) z) : gz_V cS X G 4 (0, 0) m 43 [(0, .ref (gz_ad G 1000))] [] := by
  unfold mj_X0_looked_43 at h
  refine gz_lconst (pc := 43) (v := (0 : Int64)) hX dX0_looked_43 (by decide) ?_
  obtain rfl := Option.some.inj h
  exact hk _ _ dX0_looked_44
noncomputable def cf_X0_looked (x1 : Int32) (x2 : Int64) (m : gM) : Option (Int64 × gM) :=
  (if x1 = (0 : Int32) then (if x2 < (0 : Int64) then (mj_X0_looked_43  m) else ((cf_X0_things m).bind fun (r15, m16) => (if (r15.toInt64) ≤ x2 then (mj_X0_looked_43  m16) else ((cf_X5_along 1027 (gI m16 1000 25) m16).bind fun (r19, m20) => ((cf_X0_has r19 (x2.toInt32) m20).bind fun (r22, m23) => (if r22 = (0 : Int32) then (mj_X0_looked_43  m23) else some ((1 : Int64), m23))))))) else (if x2 < (0 : Int64) then (mj_X0_looked_82  m) else ((cf_X0_halls m).bind fun (r3, m4) => (if (r3.toInt64) ≤ x2 then (mj_X0_looked_82  m4) else ((cf_X0_thingOf (gI m4 1000 25) m4).bind fun (r7, m8) => (if gK m8 r7 = 9 then ((cf_X0_wayBetween (gI m8 r7 1) (x2.toInt32) m8).bind fun (r11, m12) => some ((r11.toInt64), m12)) else none))))))
theorem wm_X0_looked {X : gz_X} {G : gz_G} (hX : gz_C cS X G cX0_looked 4 RX0 5 110) {x1 : Int32} {x2 : Int64}  {m : gM} {z : (Int64 × gM)} (h : cf_X0_looked x1 x2 m = some z) (hk : (fun z : (Int64 × gM) => gz_kL cS X G 4 (0, 0) cX0_looked z.2 z.1) z) : gz_V cS X G 4 (0, 0) m 0 [(0, .ref (gz_ad G 1000)), (1, .int x1), (2, .long x2)] [] := by
  unfold cf_X0_looked at h
  refine gz_iload_n (pc := 0) hX dX0_looked_0 rfl 1 rfl ?_
  refine gz_if_ne (pc := 1) (tgt := 45) hX dX0_looked_1 (by decide) (fun g1 => ?_) (fun g1 => ?_)
  · replace h := gz_if' g1 h
    refine gz_lload_n (pc := 45) hX dX0_looked_45 rfl 2 rfl ?_
    refine gz_lconst (pc := 46) (v := (0 : Int64)) hX dX0_looked_46 (by decide) ?_
    refine gz_lcmp_lt (pc := 47) (tgt := 82) hX dX0_looked_47 dX0_looked_48 (by decide) (fun g2 => ?_) (fun g2 => ?_)
    · replace h := gz_it' g2 h
      refine gz_sub (lw := [(0, .ref (gz_ad G 1000))]) [0] rfl ?_
      exact wb_X0_looked_82 hX h hk
    · replace h := gz_if' g2 h
      refine gz_lload_n (pc := 51) hX dX0_looked_51 rfl 2 rfl ?_
      refine gz_aload_n (pc := 52) hX dX0_looked_52 rfl 0 rfl ?_
      obtain ⟨⟨r3, m4⟩, c5, h⟩ := gz_bd h
      refine cc_X0_179 (pc := 53) hX (fun h => cz_k h rfl) c5 ⟨Nat.le_of_ble_eq_true rfl, Nat.le_of_ble_eq_true rfl⟩ (rest := [.long x2]) rfl (Nat.le_of_ble_eq_true rfl) dX0_looked_53 ?_
      refine gz_i2l (pc := 56) hX dX0_looked_56 ?_
      refine gz_lcmp_ge (pc := 57) (tgt := 82) hX dX0_looked_57 dX0_looked_58 (by decide) (fun g6 => ?_) (fun g6 => ?_)
      · replace h := gz_it' g6 h
        refine gz_sub (lw := [(0, .ref (gz_ad G 1000))]) [0] rfl ?_
        exact wb_X0_looked_82 hX h hk
      · replace h := gz_if' g6 h
        refine gz_aload_n (pc := 61) hX dX0_looked_61 rfl 0 rfl ?_
        refine gz_aload_n (pc := 62) hX dX0_looked_62 rfl 0 rfl ?_
        refine gz_aload_n (pc := 63) hX dX0_looked_63 rfl 0 rfl ?_
        refine cg_X0_377_0 (pc := 64) hX (c := 1000) (v := .int (gI m4 1000 25)) (fun h => cz_k h rfl) (fun _ => rfl) dX0_looked_64 ?_
        obtain ⟨⟨r7, m8⟩, c9, h⟩ := gz_bd h
        refine cc_X0_244 (pc := 67) hX (fun h => cz_k h rfl) c9 ⟨Nat.le_of_ble_eq_true rfl, Nat.le_of_ble_eq_true rfl⟩ (rest := [.ref (gz_ad G 1000)]) rfl (Nat.le_of_ble_eq_true rfl) dX0_looked_67 ?_
        obtain ⟨g10, h⟩ := gz_gu h
        refine cg_X0_248_8 (pc := 70) hX (c := r7) (v := .int (gI m8 r7 1)) (fun _ => g10) (fun _ => rfl) dX0_looked_70 ?_
        refine gz_lload_n (pc := 73) hX dX0_looked_73 rfl 2 rfl ?_
        refine gz_l2i (pc := 74) hX dX0_looked_74 ?_
        obtain ⟨⟨r11, m12⟩, c13, h⟩ := gz_bd h
        refine cc_X0_286 (pc := 75) hX (fun h => cz_k h rfl) c13 ⟨Nat.le_of_ble_eq_true rfl, Nat.le_of_ble_eq_true rfl⟩ (rest := []) rfl (Nat.le_of_ble_eq_true rfl) dX0_looked_75 ?_
        refine gz_i2l (pc := 78) hX dX0_looked_78 ?_
        refine gz_goto (pc := 79) (tgt := 85) hX dX0_looked_79 (by decide) ?_
        obtain rfl := Option.some.inj h
        exact hk _ _ dX0_looked_85
  · replace h := gz_it' g1 h
    refine gz_lload_n (pc := 4) hX dX0_looked_4 rfl 2 rfl ?_
    refine gz_lconst (pc := 5) (v := (0 : Int64)) hX dX0_looked_5 (by decide) ?_
    refine gz_lcmp_lt (pc := 6) (tgt := 43) hX dX0_looked_6 dX0_looked_7 (by decide) (fun g14 => ?_) (fun g14 => ?_)
    · replace h := gz_it' g14 h
      refine gz_sub (lw := [(0, .ref (gz_ad G 1000))]) [0] rfl ?_
      exact wb_X0_looked_43 hX h hk
    · replace h := gz_if' g14 h
      refine gz_lload_n (pc := 10) hX dX0_looked_10 rfl 2 rfl ?_
      refine gz_aload_n (pc := 11) hX dX0_looked_11 rfl 0 rfl ?_
      obtain ⟨⟨r15, m16⟩, c17, h⟩ := gz_bd h
      refine cc_X0_181 (pc := 12) hX (fun h => cz_k h rfl) c17 ⟨Nat.le_of_ble_eq_true rfl, Nat.le_of_ble_eq_true rfl⟩ (rest := [.long x2]) rfl (Nat.le_of_ble_eq_true rfl) dX0_looked_12 ?_
      refine gz_i2l (pc := 15) hX dX0_looked_15 ?_
      refine gz_lcmp_ge (pc := 16) (tgt := 43) hX dX0_looked_16 dX0_looked_17 (by decide) (fun g18 => ?_) (fun g18 => ?_)
      · replace h := gz_it' g18 h
        refine gz_sub (lw := [(0, .ref (gz_ad G 1000))]) [0] rfl ?_
        exact wb_X0_looked_43 hX h hk
      · replace h := gz_if' g18 h
        refine gz_aload_n (pc := 20) hX dX0_looked_20 rfl 0 rfl ?_
        refine cg_X0_74_0 (pc := 21) hX (c := 1000) (v := .ref (gz_ad G 1027)) (fun h => cz_k h rfl) (fun h => cz_f h (by decide) rfl (by decide) rfl) dX0_looked_21 ?_
        refine gz_aload_n (pc := 24) hX dX0_looked_24 rfl 0 rfl ?_
        refine cg_X0_377_0 (pc := 25) hX (c := 1000) (v := .int (gI m16 1000 25)) (fun h => cz_k h rfl) (fun _ => rfl) dX0_looked_25 ?_
        obtain ⟨⟨r19, m20⟩, c21, h⟩ := gz_bd h
        refine cc_X0_280 (pc := 28) hX (fun h => cz_k h rfl) (by decide) c21 ⟨Nat.le_of_ble_eq_true rfl, Nat.le_of_ble_eq_true rfl⟩ (rest := []) rfl (Nat.le_of_ble_eq_true rfl) dX0_looked_28 ?_
        refine gz_lload_n (pc := 31) hX dX0_looked_31 rfl 2 rfl ?_
        refine gz_l2i (pc := 32) hX dX0_looked_32 ?_
        obtain ⟨⟨r22, m23⟩, c24, h⟩ := gz_bd h
        refine cc_X0_276 (pc := 33) hX c24 ⟨Nat.le_of_ble_eq_true rfl, Nat.le_of_ble_eq_true rfl⟩ (rest := []) rfl (Nat.le_of_ble_eq_true rfl) dX0_looked_33 ?_
        refine gz_if_eq (pc := 36) (tgt := 43) hX dX0_looked_36 (by decide) (fun g25 => ?_) (fun g25 => ?_)
        · replace h := gz_it' g25 h
          refine gz_sub (lw := [(0, .ref (gz_ad G 1000))]) [0] rfl ?_
          exact wb_X0_looked_43 hX h hk
        · replace h := gz_if' g25 h
          refine gz_lconst (pc := 39) (v := (1 : Int64)) hX dX0_looked_39 (by decide) ?_
          refine gz_goto (pc := 40) (tgt := 44) hX dX0_looked_40 (by decide) ?_
          obtain rfl := Option.some.inj h
          exact hk _ _ dX0_looked_44
theorem ct_X0_looked {G : gz_G} {l : Launch} {x1 : Int32} {x2 : Int64}  {m m9 : gM} {r : Int64} (h : cf_X0_looked x1 x2 m = some (r, m9)) : gz_Met cS G l yX0_looked cX0_looked 4 (some .long) (mRm 5 110) [.ref (gz_ad G 1000), .int x1, .long x2] m m9 (some (.long r)) :=
  gz_ofL (by decide +kernel) (Nat.le_of_ble_eq_true rfl) fun X _ hX hk => wm_X0_looked hX h hk
/-! FirstSnuffer.ends(I)I -/
noncomputable def cf_X0_ends (x1 : Int32) (m : gM) : Option (Int32 × gM) :=
  ((cf_X0_isThing x1 m).bind fun (r1, m2) => (if r1 = (0 : Int32) then some ((-1 : Int32), m2) else ((cf_X5_along 1027 x1 m2).bind fun (r5, m6) => some (r5, m6))))
theorem wm_X0_ends {X : gz_X} {G : gz_G} (hX : gz_C cS X G cX0_ends 2 RX0 5 110) {x1 : Int32}  {m : gM} {z : (Int32 × gM)} (h : cf_X0_ends x1 m = some z) (hk : (fun z : (Int32 × gM) => gz_kI cS X G 2 (0, 0) cX0_ends z.2 z.1) z) : gz_V cS X G 2 (0, 0) m 0 [(0, .ref (gz_ad G 1000)), (1, .int x1)] [] := by
  unfold cf_X0_ends at h
  refine gz_aload_n (pc := 0) hX dX0_ends_0 rfl 0 rfl ?_
  refine gz_iload_n (pc := 1) hX dX0_ends_1 rfl 1 rfl ?_
  obtain ⟨⟨r1, m2⟩, c3, h⟩ := gz_bd h
  refine cc_X0_240 (pc := 2) hX (fun h => cz_k h rfl) c3 ⟨Nat.le_of_ble_eq_true rfl, Nat.le_of_ble_eq_true rfl⟩ (rest := []) rfl (Nat.le_of_ble_eq_true rfl) dX0_ends_2 ?_
  refine gz_if_eq (pc := 5) (tgt := 19) hX dX0_ends_5 (by decide) (fun g4 => ?_) (fun g4 => ?_)
  · replace h := gz_it' g4 h
    refine gz_iconst (pc := 19) (v := (-1 : Int32)) hX dX0_ends_19 (by decide) ?_
    obtain rfl := Option.some.inj h
    exact hk _ _ dX0_ends_20
  · replace h := gz_if' g4 h
    refine gz_aload_n (pc := 8) hX dX0_ends_8 rfl 0 rfl ?_
    refine cg_X0_74_0 (pc := 9) hX (c := 1000) (v := .ref (gz_ad G 1027)) (fun h => cz_k h rfl) (fun h => cz_f h (by decide) rfl (by decide) rfl) dX0_ends_9 ?_
    refine gz_iload_n (pc := 12) hX dX0_ends_12 rfl 1 rfl ?_
    obtain ⟨⟨r5, m6⟩, c7, h⟩ := gz_bd h
    refine cc_X0_280 (pc := 13) hX (fun h => cz_k h rfl) (by decide) c7 ⟨Nat.le_of_ble_eq_true rfl, Nat.le_of_ble_eq_true rfl⟩ (rest := []) rfl (Nat.le_of_ble_eq_true rfl) dX0_ends_13 ?_
    refine gz_goto (pc := 16) (tgt := 20) hX dX0_ends_16 (by decide) ?_
    obtain rfl := Option.some.inj h
    exact hk _ _ dX0_ends_20
theorem ct_X0_ends {G : gz_G} {l : Launch} {x1 : Int32}  {m m9 : gM} {r : Int32} (h : cf_X0_ends x1 m = some (r, m9)) : gz_Met cS G l yX0_ends cX0_ends 2 (some .int) (mRm 5 110) [.ref (gz_ad G 1000), .int x1] m m9 (some (.int r)) :=
  gz_ofI (by decide +kernel) (Nat.le_of_ble_eq_true rfl) fun X _ hX hk => wm_X0_ends hX h hk
/-! FirstSnuffer.least()I -/
def mP_X0_least_12 (X : gz_X) (G : gz_G) (q : (Int32 × Int32 × Int32 × gM)) : Prop := gz_V cS X G 6 (0, 0) q.2.2.2 12 [(0, .ref (gz_ad G 1000)), (1, .int q.1), (2, .int q.2.1), (3, .int q.2.2.1)] []
noncomputable def mj_X0_least_108 (x1 : Int32) (x2 : Int32) (x3 : Int32) (m : gM) : Option ((Int32 × Int32 × Int32 × gM) ⊕ (Int32 × gM)) :=
  gz_let (x3 + (1 : Int32)) fun y1 => some (Sum.inl (x1, x2, y1, m))
theorem wb_X0_least_108 {X : gz_X} {G : gz_G} (hX : gz_C cS X G cX0_least 6 RX0 5 110) {x1 : Int32} {x2 : Int32} {x3 : Int32}  {m : gM} {z : ((Int32 × Int32 × Int32 × gM) ⊕ (Int32 × gM))} (h : mj_X0_least_108 x1 x2 x3 m = some z) (hk : (Sum.elim (mP_X0_least_12 X G) (fun z : (Int32 × gM) => gz_kI cS X G 6 (0, 0) cX0_least z.2 z.1)) z) : gz_V cS X G 6 (0, 0) m 108 [(0, .ref (gz_ad G 1000)), (1, .int x1), (2, .int x2), (3, .int x3)] [] := by
  unfold mj_X0_least_108 at h
  obtain ⟨y1, ey1, h⟩ := gz_lt h
  refine gz_iinc (pc := 108) (v := y1) (lw := [(3, .int y1), (0, .ref (gz_ad G 1000)), (1, .int x1), (2, .int x2)]) hX dX0_least_108 (k := 3) rfl (by rw [ey1]; rfl) (by decide) rfl ?_
  refine gz_goto (pc := 111) (tgt := 12) hX dX0_least_111 (by decide) ?_
  refine gz_sub (lw := [(0, .ref (gz_ad G 1000)), (1, .int x1), (2, .int x2), (3, .int y1)]) [1, 2, 3, 0] rfl ?_
  obtain rfl := Option.some.inj h
  exact hk
def mP_X0_least_55 (X : gz_X) (G : gz_G) (q : (Int32 × Int32 × Int32 × Int32 × Int32 × gM)) : Prop := gz_V cS X G 6 (0, 0) q.2.2.2.2.2 55 [(0, .ref (gz_ad G 1000)), (1, .int q.1), (2, .int q.2.1), (3, .int q.2.2.1), (4, .int q.2.2.2.1), (5, .int q.2.2.2.2.1)] []
noncomputable def mj_X0_least_88 (x1 : Int32) (x2 : Int32) (x3 : Int32) (x5 : Int32) (s0 : Int32) (s1 : Int32) (m : gM) : Option ((Int32 × Int32 × Int32 × Int32 × Int32 × gM) ⊕ ((Int32 × Int32 × Int32 × gM) ⊕ (Int32 × gM))) :=
  gz_let ((s1 ||| s0)) fun y1 => gz_let (x5 + (1 : Int32)) fun y2 => some (Sum.inl (x1, x2, x3, y1, y2, m))
theorem wb_X0_least_88 {X : gz_X} {G : gz_G} (hX : gz_C cS X G cX0_least 6 RX0 5 110) {x1 : Int32} {x2 : Int32} {x3 : Int32} {x5 : Int32} {s0 : Int32} {s1 : Int32}  {m : gM} {z : ((Int32 × Int32 × Int32 × Int32 × Int32 × gM) ⊕ ((Int32 × Int32 × Int32 × gM) ⊕ (Int32 × gM)))} (h : mj_X0_least_88 x1 x2 x3 x5 s0 s1 m = some z) (hk : (Sum.elim (mP_X0_least_55 X G) (Sum.elim (mP_X0_least_12 X G) (fun z : (Int32 × gM) => gz_kI cS X G 6 (0, 0) cX0_least z.2 z.1))) z) : gz_V cS X G 6 (0, 0) m 88 [(0, .ref (gz_ad G 1000)), (1, .int x1), (2, .int x2), (3, .int x3), (5, .int x5)] [.int s0, .int s1] := by
  unfold mj_X0_least_88 at h
  refine gz_ior (pc := 88) hX dX0_least_88 ?_
  obtain ⟨y1, ey1, h⟩ := gz_lt h
  refine gz_topi ey1 ?_
  refine gz_istore (pc := 89) (lw := [(4, .int y1), (0, .ref (gz_ad G 1000)), (1, .int x1), (2, .int x2), (3, .int x3), (5, .int x5)]) hX dX0_least_89 (by decide) rfl ?_
  obtain ⟨y2, ey2, h⟩ := gz_lt h
  refine gz_iinc (pc := 91) (v := y2) (lw := [(5, .int y2), (4, .int y1), (0, .ref (gz_ad G 1000)), (1, .int x1), (2, .int x2), (3, .int x3)]) hX dX0_least_91 (k := 5) rfl (by rw [ey2]; rfl) (by decide) rfl ?_
  refine gz_goto (pc := 94) (tgt := 55) hX dX0_least_94 (by decide) ?_
  refine gz_sub (lw := [(0, .ref (gz_ad G 1000)), (1, .int x1), (2, .int x2), (3, .int x3), (4, .int y1), (5, .int y2)]) [2, 3, 4, 5, 1, 0] rfl ?_
  obtain rfl := Option.some.inj h
  exact hk
noncomputable def mb_X0_least_55 (x1 : Int32) (x2 : Int32) (x3 : Int32) (x4 : Int32) (x5 : Int32) (m : gM) : Option ((Int32 × Int32 × Int32 × Int32 × Int32 × gM) ⊕ ((Int32 × Int32 × Int32 × gM) ⊕ (Int32 × gM))) :=
  ((cf_X0_things m).bind fun (r1, m2) => (if r1 ≤ x5 then (if (x1 &&& (x4 ^^^ (-1 : Int32))) = (0 : Int32) then (Option.map Sum.inr (mj_X0_least_108 x1 x3 x3 m2)) else (Option.map Sum.inr (mj_X0_least_108 x1 x2 x3 m2))) else ((cf_X0_has x3 x5 m2).bind fun (r6, m7) => (if r6 = (0 : Int32) then (mj_X0_least_88 x1 x2 x3 x5 (0 : Int32) x4 m7) else ((cf_X5_along 1027 x5 m7).bind fun (r10, m11) => (mj_X0_least_88 x1 x2 x3 x5 r10 x4 m11))))))
theorem wb_X0_least_55 {X : gz_X} {G : gz_G} (hX : gz_C cS X G cX0_least 6 RX0 5 110) {x1 : Int32} {x2 : Int32} {x3 : Int32} {x4 : Int32} {x5 : Int32}  {m : gM} {z : ((Int32 × Int32 × Int32 × Int32 × Int32 × gM) ⊕ ((Int32 × Int32 × Int32 × gM) ⊕ (Int32 × gM)))} (h : mb_X0_least_55 x1 x2 x3 x4 x5 m = some z) (hk : (Sum.elim (mP_X0_least_55 X G) (Sum.elim (mP_X0_least_12 X G) (fun z : (Int32 × gM) => gz_kI cS X G 6 (0, 0) cX0_least z.2 z.1))) z) : gz_V cS X G 6 (0, 0) m 55 [(0, .ref (gz_ad G 1000)), (1, .int x1), (2, .int x2), (3, .int x3), (4, .int x4), (5, .int x5)] [] := by
  unfold mb_X0_least_55 at h
  refine gz_iload (pc := 55) hX dX0_least_55 5 rfl ?_
  refine gz_aload_n (pc := 57) hX dX0_least_57 rfl 0 rfl ?_
  obtain ⟨⟨r1, m2⟩, c3, h⟩ := gz_bd h
  refine cc_X0_181 (pc := 58) hX (fun h => cz_k h rfl) c3 ⟨Nat.le_of_ble_eq_true rfl, Nat.le_of_ble_eq_true rfl⟩ (rest := [.int x5]) rfl (Nat.le_of_ble_eq_true rfl) dX0_least_58 ?_
  refine gz_icmp_ge (pc := 61) (tgt := 97) hX dX0_least_61 (by decide) (fun g4 => ?_) (fun g4 => ?_)
  · replace h := gz_it' g4 h
    refine gz_iload_n (pc := 97) hX dX0_least_97 rfl 1 rfl ?_
    refine gz_iload (pc := 98) hX dX0_least_98 4 rfl ?_
    refine gz_iconst (pc := 100) (v := (-1 : Int32)) hX dX0_least_100 (by decide) ?_
    refine gz_ixor (pc := 101) hX dX0_least_101 ?_
    refine gz_iand (pc := 102) hX dX0_least_102 ?_
    refine gz_if_ne (pc := 103) (tgt := 108) hX dX0_least_103 (by decide) (fun g5 => ?_) (fun g5 => ?_)
    · replace h := gz_if' g5 h
      refine gz_sub (lw := [(0, .ref (gz_ad G 1000)), (1, .int x1), (2, .int x2), (3, .int x3)]) [0, 1, 2, 3] rfl ?_
      obtain ⟨z0, hm0, rfl⟩ := gz_mp h
      exact wb_X0_least_108 hX hm0 hk
    · replace h := gz_it' g5 h
      refine gz_iload_n (pc := 106) hX dX0_least_106 rfl 3 rfl ?_
      refine gz_istore_n (pc := 107) (lw := [(2, .int x3), (0, .ref (gz_ad G 1000)), (1, .int x1), (3, .int x3), (4, .int x4), (5, .int x5)]) hX dX0_least_107 rfl (by decide) rfl ?_
      refine gz_sub (lw := [(0, .ref (gz_ad G 1000)), (1, .int x1), (2, .int x3), (3, .int x3)]) [1, 2, 0, 3] rfl ?_
      obtain ⟨z0, hm0, rfl⟩ := gz_mp h
      exact wb_X0_least_108 hX hm0 hk
  · replace h := gz_if' g4 h
    refine gz_iload (pc := 64) hX dX0_least_64 4 rfl ?_
    refine gz_iload_n (pc := 66) hX dX0_least_66 rfl 3 rfl ?_
    refine gz_iload (pc := 67) hX dX0_least_67 5 rfl ?_
    obtain ⟨⟨r6, m7⟩, c8, h⟩ := gz_bd h
    refine cc_X0_276 (pc := 69) hX c8 ⟨Nat.le_of_ble_eq_true rfl, Nat.le_of_ble_eq_true rfl⟩ (rest := [.int x4]) rfl (Nat.le_of_ble_eq_true rfl) dX0_least_69 ?_
    refine gz_if_eq (pc := 72) (tgt := 87) hX dX0_least_72 (by decide) (fun g9 => ?_) (fun g9 => ?_)
    · replace h := gz_it' g9 h
      refine gz_iconst (pc := 87) (v := (0 : Int32)) hX dX0_least_87 (by decide) ?_
      refine gz_sub (lw := [(0, .ref (gz_ad G 1000)), (1, .int x1), (2, .int x2), (3, .int x3), (5, .int x5)]) [0, 1, 2, 3, 5] rfl ?_
      exact wb_X0_least_88 hX h hk
    · replace h := gz_if' g9 h
      refine gz_aload_n (pc := 75) hX dX0_least_75 rfl 0 rfl ?_
      refine cg_X0_74_0 (pc := 76) hX (c := 1000) (v := .ref (gz_ad G 1027)) (fun h => cz_k h rfl) (fun h => cz_f h (by decide) rfl (by decide) rfl) dX0_least_76 ?_
      refine gz_iload (pc := 79) hX dX0_least_79 5 rfl ?_
      obtain ⟨⟨r10, m11⟩, c12, h⟩ := gz_bd h
      refine cc_X0_280 (pc := 81) hX (fun h => cz_k h rfl) (by decide) c12 ⟨Nat.le_of_ble_eq_true rfl, Nat.le_of_ble_eq_true rfl⟩ (rest := [.int x4]) rfl (Nat.le_of_ble_eq_true rfl) dX0_least_81 ?_
      refine gz_goto (pc := 84) (tgt := 88) hX dX0_least_84 (by decide) ?_
      refine gz_sub (lw := [(0, .ref (gz_ad G 1000)), (1, .int x1), (2, .int x2), (3, .int x3), (5, .int x5)]) [0, 1, 2, 3, 5] rfl ?_
      exact wb_X0_least_88 hX h hk
noncomputable def ml_X0_least_55 (x1 : Int32) (x2 : Int32) (x3 : Int32) (x4 : Int32) (x5 : Int32) (m : gM) : Option ((Int32 × Int32 × Int32 × gM) ⊕ (Int32 × gM)) := gz_loop (fun q : (Int32 × Int32 × Int32 × Int32 × Int32 × gM) => mb_X0_least_55 q.1 q.2.1 q.2.2.1 q.2.2.2.1 q.2.2.2.2.1 q.2.2.2.2.2) (x1, x2, x3, x4, x5, m)
theorem wl_X0_least_55 {X : gz_X} {G : gz_G} (hX : gz_C cS X G cX0_least 6 RX0 5 110) {x1 : Int32} {x2 : Int32} {x3 : Int32} {x4 : Int32} {x5 : Int32}  {m : gM} {z : ((Int32 × Int32 × Int32 × gM) ⊕ (Int32 × gM))} (h : ml_X0_least_55 x1 x2 x3 x4 x5 m = some z) (hk : (Sum.elim (mP_X0_least_12 X G) (fun z : (Int32 × gM) => gz_kI cS X G 6 (0, 0) cX0_least z.2 z.1)) z) : gz_V cS X G 6 (0, 0) m 55 [(0, .ref (gz_ad G 1000)), (1, .int x1), (2, .int x2), (3, .int x3), (4, .int x4), (5, .int x5)] [] := by
  have hp : mP_X0_least_55 X G (x1, x2, x3, x4, x5, m) := gz_loop_ind (fun q z hz hkz => wb_X0_least_55 hX  hz hkz) h hk
  exact hp
noncomputable def mj_X0_least_49 (x1 : Int32) (x2 : Int32) (x3 : Int32) (m : gM) : Option ((Int32 × Int32 × Int32 × gM) ⊕ (Int32 × gM)) :=
  (ml_X0_least_55 x1 x2 x3 x3 (0 : Int32) m)
theorem wb_X0_least_49 {X : gz_X} {G : gz_G} (hX : gz_C cS X G cX0_least 6 RX0 5 110) {x1 : Int32} {x2 : Int32} {x3 : Int32}  {m : gM} {z : ((Int32 × Int32 × Int32 × gM) ⊕ (Int32 × gM))} (h : mj_X0_least_49 x1 x2 x3 m = some z) (hk : (Sum.elim (mP_X0_least_12 X G) (fun z : (Int32 × gM) => gz_kI cS X G 6 (0, 0) cX0_least z.2 z.1)) z) : gz_V cS X G 6 (0, 0) m 49 [(0, .ref (gz_ad G 1000)), (1, .int x1), (2, .int x2), (3, .int x3)] [] := by
  unfold mj_X0_least_49 at h
  refine gz_iload_n (pc := 49) hX dX0_least_49 rfl 3 rfl ?_
  refine gz_istore (pc := 50) (lw := [(4, .int x3), (0, .ref (gz_ad G 1000)), (1, .int x1), (2, .int x2), (3, .int x3)]) hX dX0_least_50 (by decide) rfl ?_
  refine gz_iconst (pc := 52) (v := (0 : Int32)) hX dX0_least_52 (by decide) ?_
  refine gz_istore (pc := 53) (lw := [(5, .int (0 : Int32)), (4, .int x3), (0, .ref (gz_ad G 1000)), (1, .int x1), (2, .int x2), (3, .int x3)]) hX dX0_least_53 (by decide) rfl ?_
  refine gz_sub (lw := [(0, .ref (gz_ad G 1000)), (1, .int x1), (2, .int x2), (3, .int x3), (4, .int x3), (5, .int (0 : Int32))]) [2, 3, 4, 5, 1, 0] rfl ?_
  exact wl_X0_least_55 hX h hk
noncomputable def mb_X0_least_12 (x1 : Int32) (x2 : Int32) (x3 : Int32) (m : gM) : Option ((Int32 × Int32 × Int32 × gM) ⊕ (Int32 × gM)) :=
  ((cf_X0_things m).bind fun (r1, m2) => (if ((1 : Int32) <<< (r1 &&& 31)) ≤ x3 then some (Sum.inr (x2, m2)) else (if (x3 &&& (x1 ^^^ (-1 : Int32))) = (0 : Int32) then (if x2 = (-1 : Int32) then (mj_X0_least_49 x1 x2 x3 m2) else ((cf_J16_bitCount x3 m2).bind fun (r7, m8) => ((cf_J16_bitCount x2 m8).bind fun (r10, m11) => (if r7 < r10 then (mj_X0_least_49 x1 x2 x3 m11) else (mj_X0_least_108 x1 x2 x3 m11))))) else (mj_X0_least_108 x1 x2 x3 m2))))
theorem wb_X0_least_12 {X : gz_X} {G : gz_G} (hX : gz_C cS X G cX0_least 6 RX0 5 110) {x1 : Int32} {x2 : Int32} {x3 : Int32}  {m : gM} {z : ((Int32 × Int32 × Int32 × gM) ⊕ (Int32 × gM))} (h : mb_X0_least_12 x1 x2 x3 m = some z) (hk : (Sum.elim (mP_X0_least_12 X G) (fun z : (Int32 × gM) => gz_kI cS X G 6 (0, 0) cX0_least z.2 z.1)) z) : gz_V cS X G 6 (0, 0) m 12 [(0, .ref (gz_ad G 1000)), (1, .int x1), (2, .int x2), (3, .int x3)] [] := by
  unfold mb_X0_least_12 at h
  refine gz_iload_n (pc := 12) hX dX0_least_12 rfl 3 rfl ?_
  refine gz_iconst (pc := 13) (v := (1 : Int32)) hX dX0_least_13 (by decide) ?_
  refine gz_aload_n (pc := 14) hX dX0_least_14 rfl 0 rfl ?_
  obtain ⟨⟨r1, m2⟩, c3, h⟩ := gz_bd h
  refine cc_X0_181 (pc := 15) hX (fun h => cz_k h rfl) c3 ⟨Nat.le_of_ble_eq_true rfl, Nat.le_of_ble_eq_true rfl⟩ (rest := [.int (1 : Int32), .int x3]) rfl (Nat.le_of_ble_eq_true rfl) dX0_least_15 ?_
  refine gz_ishl (pc := 18) hX dX0_least_18 ?_
  refine gz_icmp_ge (pc := 19) (tgt := 114) hX dX0_least_19 (by decide) (fun g4 => ?_) (fun g4 => ?_)
  · replace h := gz_it' g4 h
    refine gz_iload_n (pc := 114) hX dX0_least_114 rfl 2 rfl ?_
    obtain rfl := Option.some.inj h
    exact hk _ _ dX0_least_115
  · replace h := gz_if' g4 h
    refine gz_iload_n (pc := 22) hX dX0_least_22 rfl 3 rfl ?_
    refine gz_iload_n (pc := 23) hX dX0_least_23 rfl 1 rfl ?_
    refine gz_iconst (pc := 24) (v := (-1 : Int32)) hX dX0_least_24 (by decide) ?_
    refine gz_ixor (pc := 25) hX dX0_least_25 ?_
    refine gz_iand (pc := 26) hX dX0_least_26 ?_
    refine gz_if_ne (pc := 27) (tgt := 108) hX dX0_least_27 (by decide) (fun g5 => ?_) (fun g5 => ?_)
    · replace h := gz_if' g5 h
      exact wb_X0_least_108 hX h hk
    · replace h := gz_it' g5 h
      refine gz_iload_n (pc := 30) hX dX0_least_30 rfl 2 rfl ?_
      refine gz_iconst (pc := 31) (v := (-1 : Int32)) hX dX0_least_31 (by decide) ?_
      refine gz_icmp_eq (pc := 32) (tgt := 49) hX dX0_least_32 (by decide) (fun g6 => ?_) (fun g6 => ?_)
      · replace h := gz_it' g6 h
        exact wb_X0_least_49 hX h hk
      · replace h := gz_if' g6 h
        refine gz_iload_n (pc := 35) hX dX0_least_35 rfl 3 rfl ?_
        obtain ⟨⟨r7, m8⟩, c9, h⟩ := gz_bd h
        refine cc_X0_220 (pc := 36) hX c9 ⟨Nat.le_of_ble_eq_true rfl, Nat.le_of_ble_eq_true rfl⟩ (rest := []) rfl (Nat.le_of_ble_eq_true rfl) dX0_least_36 ?_
        refine gz_iload_n (pc := 39) hX dX0_least_39 rfl 2 rfl ?_
        obtain ⟨⟨r10, m11⟩, c12, h⟩ := gz_bd h
        refine cc_X0_220 (pc := 40) hX c12 ⟨Nat.le_of_ble_eq_true rfl, Nat.le_of_ble_eq_true rfl⟩ (rest := [.int r7]) rfl (Nat.le_of_ble_eq_true rfl) dX0_least_40 ?_
        refine gz_icmp_lt (pc := 43) (tgt := 49) hX dX0_least_43 (by decide) (fun g13 => ?_) (fun g13 => ?_)
        · replace h := gz_it' g13 h
          exact wb_X0_least_49 hX h hk
        · replace h := gz_if' g13 h
          refine gz_goto (pc := 46) (tgt := 108) hX dX0_least_46 (by decide) ?_
          exact wb_X0_least_108 hX h hk
noncomputable def ml_X0_least_12 (x1 : Int32) (x2 : Int32) (x3 : Int32) (m : gM) : Option (Int32 × gM) := gz_loop (fun q : (Int32 × Int32 × Int32 × gM) => mb_X0_least_12 q.1 q.2.1 q.2.2.1 q.2.2.2) (x1, x2, x3, m)
theorem wl_X0_least_12 {X : gz_X} {G : gz_G} (hX : gz_C cS X G cX0_least 6 RX0 5 110) {x1 : Int32} {x2 : Int32} {x3 : Int32}  {m : gM} {z : (Int32 × gM)} (h : ml_X0_least_12 x1 x2 x3 m = some z) (hk : (fun z : (Int32 × gM) => gz_kI cS X G 6 (0, 0) cX0_least z.2 z.1) z) : gz_V cS X G 6 (0, 0) m 12 [(0, .ref (gz_ad G 1000)), (1, .int x1), (2, .int x2), (3, .int x3)] [] := by
  have hp : mP_X0_least_12 X G (x1, x2, x3, m) := gz_loop_ind (fun q z hz hkz => wb_X0_least_12 hX  hz hkz) h hk
  exact hp
noncomputable def cf_X0_least  (m : gM) : Option (Int32 × gM) :=
  ((cf_X5_lit 1027 m).bind fun (r1, m2) => (ml_X0_least_12 r1 (-1 : Int32) (0 : Int32) m2))
theorem wm_X0_least {X : gz_X} {G : gz_G} (hX : gz_C cS X G cX0_least 6 RX0 5 110)   {m : gM} {z : (Int32 × gM)} (h : cf_X0_least  m = some z) (hk : (fun z : (Int32 × gM) => gz_kI cS X G 6 (0, 0) cX0_least z.2 z.1) z) : gz_V cS X G 6 (0, 0) m 0 [(0, .ref (gz_ad G 1000))] [] := by
  unfold cf_X0_least at h
  refine gz_aload_n (pc := 0) hX dX0_least_0 rfl 0 rfl ?_
  refine cg_X0_74_0 (pc := 1) hX (c := 1000) (v := .ref (gz_ad G 1027)) (fun h => cz_k h rfl) (fun h => cz_f h (by decide) rfl (by decide) rfl) dX0_least_1 ?_
  obtain ⟨⟨r1, m2⟩, c3, h⟩ := gz_bd h
  refine cc_X0_217 (pc := 4) hX (fun h => cz_k h rfl) (by decide) c3 ⟨Nat.le_of_ble_eq_true rfl, Nat.le_of_ble_eq_true rfl⟩ (rest := []) rfl (Nat.le_of_ble_eq_true rfl) dX0_least_4 ?_
  refine gz_istore_n (pc := 7) (lw := [(1, .int r1), (0, .ref (gz_ad G 1000))]) hX dX0_least_7 rfl (by decide) rfl ?_
  refine gz_iconst (pc := 8) (v := (-1 : Int32)) hX dX0_least_8 (by decide) ?_
  refine gz_istore_n (pc := 9) (lw := [(2, .int (-1 : Int32)), (1, .int r1), (0, .ref (gz_ad G 1000))]) hX dX0_least_9 rfl (by decide) rfl ?_
  refine gz_iconst (pc := 10) (v := (0 : Int32)) hX dX0_least_10 (by decide) ?_
  refine gz_istore_n (pc := 11) (lw := [(3, .int (0 : Int32)), (2, .int (-1 : Int32)), (1, .int r1), (0, .ref (gz_ad G 1000))]) hX dX0_least_11 rfl (by decide) rfl ?_
  refine gz_sub (lw := [(0, .ref (gz_ad G 1000)), (1, .int r1), (2, .int (-1 : Int32)), (3, .int (0 : Int32))]) [3, 2, 1, 0] rfl ?_
  exact wl_X0_least_12 hX h hk
theorem ct_X0_least {G : gz_G} {l : Launch}   {m m9 : gM} {r : Int32} (h : cf_X0_least  m = some (r, m9)) : gz_Met cS G l yX0_least cX0_least 6 (some .int) (mRm 5 110) [.ref (gz_ad G 1000)] m m9 (some (.int r)) :=
  gz_ofI (by decide +kernel) (Nat.le_of_ble_eq_true rfl) fun X _ hX hk => wm_X0_least hX h hk
theorem cc_X0_326 {X : gz_X} {G : gz_G} {cc : ByteArray} {nL fr lo pc : Nat} {rem : Nat × Nat} {lv : List (Nat × Value)} {rest st0 : List Value} (hX : gz_C cS X G cc nL RX0 fr lo) {x1 : Int32} {x2 : Int32} {m m9 : gM} (hK : clc m.1 m.2.1 m.2.2.2.2.1 → m.1 1000 = 0 + 1)  {r : Int32} (h : cf_X0_leadsOn x1 x2 m = some (r, m9)) (hroom : 4 + 1 ≤ fr ∧ 8 + (7 + 11) + 85 ≤ lo) (hst : st0 = [.int x2, .int x1, .ref (gz_ad G 1000)] ++ rest) (hW : (rest.map fun v => v.category).sum ≤ 8) (hd : decode cc pc = .ok (.invokevirtual 326, 3)) (kk : gz_V cS X G nL rem m9 (pc + 3) lv (.int r :: rest)) : gz_V cS X G nL rem m pc lv st0 :=
  gz_callV2 hX cs_E (As := [.int x1, .int x2]) (rest := rest) (q := (RX0, TX0, 28)) (ci := 0) (c := 1000) (ct_X0_leadsOn (l := X.2.1) h) (lw_V q1585 q1587 qs57 q167 q1588) (n := 2) (by decide +kernel) hroom rfl rfl (by decide) hK hst hW hd (rem := rem) kk
theorem cc_X0_329 {X : gz_X} {G : gz_G} {cc : ByteArray} {nL fr lo pc : Nat} {rem : Nat × Nat} {lv : List (Nat × Value)} {rest st0 : List Value} (hX : gz_C cS X G cc nL RX0 fr lo) {x1 : Int32} {x2 : Int32} {m m9 : gM} (hK : clc m.1 m.2.1 m.2.2.2.2.1 → m.1 1000 = 0 + 1)  (h : cf_X0_uses x1 x2 m = some ((), m9)) (hroom : 4 + 1 ≤ fr ∧ 8 + (5 + 11) + 85 ≤ lo) (hst : st0 = [.int x2, .int x1, .ref (gz_ad G 1000)] ++ rest) (hW : (rest.map fun v => v.category).sum ≤ 8) (hd : decode cc pc = .ok (.invokevirtual 329, 3)) (kk : gz_V cS X G nL rem m9 (pc + 3) lv (rest)) : gz_V cS X G nL rem m pc lv st0 :=
  gz_callV2 hX cs_E (As := [.int x1, .int x2]) (rest := rest) (q := (RX0, TX0, 28)) (ci := 0) (c := 1000) (ct_X0_uses (l := X.2.1) h) (lw_V q1589 q1591 qs58 q167 q1592) (n := 2) (by decide +kernel) hroom rfl rfl (by decide) hK hst hW hd (rem := rem) kk
/-! FirstSnuffer.keep(II)I -/
noncomputable def mj_X0_keep_21  (m : gM) : Option (Int32 × gM) :=
  some ((-1 : Int32), m)
theorem wb_X0_keep_21 {X : gz_X} {G : gz_G} (hX : gz_C cS X G cX0_keep 4 RX0 5 111)   {m : gM} {z : (Int32 × gM)} (h : mj_X0_keep_21  m = some z) (hk : (fun z : (Int32 × gM) => gz_kI cS X G 4 (0, 0) cX0_keep z.2 z.1) z) : gz_V cS X G 4 (0, 0) m 21 [(0, .ref (gz_ad G 1000))] [] := by
  unfold mj_X0_keep_21 at h
  refine gz_iconst (pc := 21) (v := (-1 : Int32)) hX dX0_keep_21 (by decide) ?_
  obtain rfl := Option.some.inj h
  exact hk _ _ dX0_keep_22
def mP_X0_keep_25 (X : gz_X) (G : gz_G) (q : (Int32 × Int32 × Int32 × gM)) : Prop := gz_V cS X G 4 (0, 0) q.2.2.2 25 [(0, .ref (gz_ad G 1000)), (1, .int q.1), (2, .int q.2.1), (3, .int q.2.2.1)] []
def mP_X0_keep_46 (X : gz_X) (G : gz_G) (q : (Int32 × Int32 × Int32 × gM)) : Prop := gz_V cS X G 4 (0, 0) q.2.2.2 46 [(0, .ref (gz_ad G 1000)), (1, .int q.1), (2, .int q.2.1), (3, .int q.2.2.1)] []
noncomputable def mb_X0_keep_46 (x1 : Int32) (x2 : Int32) (x3 : Int32) (m : gM) : Option ((Int32 × Int32 × Int32 × gM) ⊕ (Int32 × gM)) :=
  ((cf_X0_leadsOn x2 x1 m).bind fun (r1, m2) => (if r1 = (0 : Int32) then some (Sum.inr (x3, m2)) else ((cf_X0_uses x2 x1 m2).bind fun (_, m6) => gz_let (x3 + (1 : Int32)) fun y8 => some (Sum.inl (x1, x2, y8, m6)))))
theorem wb_X0_keep_46 {X : gz_X} {G : gz_G} (hX : gz_C cS X G cX0_keep 4 RX0 5 111) {x1 : Int32} {x2 : Int32} {x3 : Int32}  {m : gM} {z : ((Int32 × Int32 × Int32 × gM) ⊕ (Int32 × gM))} (h : mb_X0_keep_46 x1 x2 x3 m = some z) (hk : (Sum.elim (mP_X0_keep_46 X G) (fun z : (Int32 × gM) => gz_kI cS X G 4 (0, 0) cX0_keep z.2 z.1)) z) : gz_V cS X G 4 (0, 0) m 46 [(0, .ref (gz_ad G 1000)), (1, .int x1), (2, .int x2), (3, .int x3)] [] := by
  unfold mb_X0_keep_46 at h
  refine gz_aload_n (pc := 46) hX dX0_keep_46 rfl 0 rfl ?_
  refine gz_iload_n (pc := 47) hX dX0_keep_47 rfl 2 rfl ?_
  refine gz_iload_n (pc := 48) hX dX0_keep_48 rfl 1 rfl ?_
  obtain ⟨⟨r1, m2⟩, c3, h⟩ := gz_bd h
  refine cc_X0_326 (pc := 49) hX (fun h => cz_k h rfl) c3 ⟨Nat.le_of_ble_eq_true rfl, Nat.le_of_ble_eq_true rfl⟩ (rest := []) rfl (Nat.le_of_ble_eq_true rfl) dX0_keep_49 ?_
  refine gz_if_eq (pc := 52) (tgt := 67) hX dX0_keep_52 (by decide) (fun g4 => ?_) (fun g4 => ?_)
  · replace h := gz_it' g4 h
    refine gz_iload_n (pc := 67) hX dX0_keep_67 rfl 3 rfl ?_
    obtain rfl := Option.some.inj h
    exact hk _ _ dX0_keep_68
  · replace h := gz_if' g4 h
    refine gz_aload_n (pc := 55) hX dX0_keep_55 rfl 0 rfl ?_
    refine gz_iload_n (pc := 56) hX dX0_keep_56 rfl 2 rfl ?_
    refine gz_iload_n (pc := 57) hX dX0_keep_57 rfl 1 rfl ?_
    obtain ⟨⟨⟨⟩, m6⟩, c7, h⟩ := gz_bd h
    refine cc_X0_329 (pc := 58) hX (fun h => cz_k h rfl) c7 ⟨Nat.le_of_ble_eq_true rfl, Nat.le_of_ble_eq_true rfl⟩ (rest := []) rfl (Nat.le_of_ble_eq_true rfl) dX0_keep_58 ?_
    obtain ⟨y8, ey8, h⟩ := gz_lt h
    refine gz_iinc (pc := 61) (v := y8) (lw := [(3, .int y8), (0, .ref (gz_ad G 1000)), (1, .int x1), (2, .int x2)]) hX dX0_keep_61 (k := 3) rfl (by rw [ey8]; rfl) (by decide) rfl ?_
    refine gz_goto (pc := 64) (tgt := 46) hX dX0_keep_64 (by decide) ?_
    refine gz_sub (lw := [(0, .ref (gz_ad G 1000)), (1, .int x1), (2, .int x2), (3, .int y8)]) [1, 2, 3, 0] rfl ?_
    obtain rfl := Option.some.inj h
    exact hk
noncomputable def ml_X0_keep_46 (x1 : Int32) (x2 : Int32) (x3 : Int32) (m : gM) : Option (Int32 × gM) := gz_loop (fun q : (Int32 × Int32 × Int32 × gM) => mb_X0_keep_46 q.1 q.2.1 q.2.2.1 q.2.2.2) (x1, x2, x3, m)
theorem wl_X0_keep_46 {X : gz_X} {G : gz_G} (hX : gz_C cS X G cX0_keep 4 RX0 5 111) {x1 : Int32} {x2 : Int32} {x3 : Int32}  {m : gM} {z : (Int32 × gM)} (h : ml_X0_keep_46 x1 x2 x3 m = some z) (hk : (fun z : (Int32 × gM) => gz_kI cS X G 4 (0, 0) cX0_keep z.2 z.1) z) : gz_V cS X G 4 (0, 0) m 46 [(0, .ref (gz_ad G 1000)), (1, .int x1), (2, .int x2), (3, .int x3)] [] := by
  have hp : mP_X0_keep_46 X G (x1, x2, x3, m) := gz_loop_ind (fun q z hz hkz => wb_X0_keep_46 hX  hz hkz) h hk
  exact hp
noncomputable def mb_X0_keep_25 (x1 : Int32) (x2 : Int32) (x3 : Int32) (m : gM) : Option ((Int32 × Int32 × Int32 × gM) ⊕ (Int32 × gM)) :=
  (if (12 : Int32) ≤ x3 then (Option.map Sum.inr (ml_X0_keep_46 x1 x2 (0 : Int32) m)) else (if gz_in x3 (12) then gz_let (gz_sI m 1121 (gz_ix x3) ((0 : Int32) &&& 1)) fun m3 => gz_let (x3 + (1 : Int32)) fun y4 => some (Sum.inl (x1, x2, y4, m3)) else none))
theorem wb_X0_keep_25 {X : gz_X} {G : gz_G} (hX : gz_C cS X G cX0_keep 4 RX0 5 111) {x1 : Int32} {x2 : Int32} {x3 : Int32}  {m : gM} {z : ((Int32 × Int32 × Int32 × gM) ⊕ (Int32 × gM))} (h : mb_X0_keep_25 x1 x2 x3 m = some z) (hk : (Sum.elim (mP_X0_keep_25 X G) (fun z : (Int32 × gM) => gz_kI cS X G 4 (0, 0) cX0_keep z.2 z.1)) z) : gz_V cS X G 4 (0, 0) m 25 [(0, .ref (gz_ad G 1000)), (1, .int x1), (2, .int x2), (3, .int x3)] [] := by
  unfold mb_X0_keep_25 at h
  refine gz_iload_n (pc := 25) hX dX0_keep_25 rfl 3 rfl ?_
  refine gz_bipush (pc := 26) (v := (12 : Int32)) hX dX0_keep_26 (by decide) ?_
  refine gz_icmp_ge (pc := 28) (tgt := 44) hX dX0_keep_28 (by decide) (fun g1 => ?_) (fun g1 => ?_)
  · replace h := gz_it' g1 h
    refine gz_iconst (pc := 44) (v := (0 : Int32)) hX dX0_keep_44 (by decide) ?_
    refine gz_istore_n (pc := 45) (lw := [(3, .int (0 : Int32)), (0, .ref (gz_ad G 1000)), (1, .int x1), (2, .int x2)]) hX dX0_keep_45 rfl (by decide) rfl ?_
    refine gz_sub (lw := [(0, .ref (gz_ad G 1000)), (1, .int x1), (2, .int x2), (3, .int (0 : Int32))]) [1, 2, 3, 0] rfl ?_
    obtain ⟨z0, hm0, rfl⟩ := gz_mp h
    exact wl_X0_keep_46 hX hm0 hk
  · replace h := gz_if' g1 h
    refine gz_aload_n (pc := 31) hX dX0_keep_31 rfl 0 rfl ?_
    refine cg_X0_90_0 (pc := 32) hX (c := 1000) (v := .ref (gz_ad G 1121)) (fun h => cz_k h rfl) (fun h => cz_f h (by decide) rfl (by decide) rfl) dX0_keep_32 ?_
    refine gz_iload_n (pc := 35) hX dX0_keep_35 rfl 3 rfl ?_
    refine gz_iconst (pc := 36) (v := (0 : Int32)) hX dX0_keep_36 (by decide) ?_
    obtain ⟨g2, h⟩ := gz_gu h
    obtain ⟨m3, em3, h⟩ := gz_lt h
    refine gz_zast2 (pc := 37) (c := 1121) (n := 12) hX rfl (fun h => cz_a h rfl (by decide) rfl) (Nat.le_of_ble_eq_true rfl) g2 dX0_keep_37 em3 ?_
    obtain ⟨y4, ey4, h⟩ := gz_lt h
    refine gz_iinc (pc := 38) (v := y4) (lw := [(3, .int y4), (0, .ref (gz_ad G 1000)), (1, .int x1), (2, .int x2)]) hX dX0_keep_38 (k := 3) rfl (by rw [ey4]; rfl) (by decide) rfl ?_
    refine gz_goto (pc := 41) (tgt := 25) hX dX0_keep_41 (by decide) ?_
    refine gz_sub (lw := [(0, .ref (gz_ad G 1000)), (1, .int x1), (2, .int x2), (3, .int y4)]) [1, 2, 3, 0] rfl ?_
    obtain rfl := Option.some.inj h
    exact hk
noncomputable def ml_X0_keep_25 (x1 : Int32) (x2 : Int32) (x3 : Int32) (m : gM) : Option (Int32 × gM) := gz_loop (fun q : (Int32 × Int32 × Int32 × gM) => mb_X0_keep_25 q.1 q.2.1 q.2.2.1 q.2.2.2) (x1, x2, x3, m)
theorem wl_X0_keep_25 {X : gz_X} {G : gz_G} (hX : gz_C cS X G cX0_keep 4 RX0 5 111) {x1 : Int32} {x2 : Int32} {x3 : Int32}  {m : gM} {z : (Int32 × gM)} (h : ml_X0_keep_25 x1 x2 x3 m = some z) (hk : (fun z : (Int32 × gM) => gz_kI cS X G 4 (0, 0) cX0_keep z.2 z.1) z) : gz_V cS X G 4 (0, 0) m 25 [(0, .ref (gz_ad G 1000)), (1, .int x1), (2, .int x2), (3, .int x3)] [] := by
  have hp : mP_X0_keep_25 X G (x1, x2, x3, m) := gz_loop_ind (fun q z hz hkz => wb_X0_keep_25 hX  hz hkz) h hk
  exact hp
noncomputable def cf_X0_keep (x1 : Int32) (x2 : Int32) (m : gM) : Option (Int32 × gM) :=
  ((cf_X0_isThing x1 m).bind fun (r1, m2) => (if r1 = (0 : Int32) then (mj_X0_keep_21  m2) else ((cf_X0_isThing x2 m2).bind fun (r5, m6) => (if r5 = (0 : Int32) then (mj_X0_keep_21  m6) else (if x1 = x2 then (mj_X0_keep_21  m6) else (ml_X0_keep_25 x1 x2 (0 : Int32) m6))))))
theorem wm_X0_keep {X : gz_X} {G : gz_G} (hX : gz_C cS X G cX0_keep 4 RX0 5 111) {x1 : Int32} {x2 : Int32}  {m : gM} {z : (Int32 × gM)} (h : cf_X0_keep x1 x2 m = some z) (hk : (fun z : (Int32 × gM) => gz_kI cS X G 4 (0, 0) cX0_keep z.2 z.1) z) : gz_V cS X G 4 (0, 0) m 0 [(0, .ref (gz_ad G 1000)), (1, .int x1), (2, .int x2)] [] := by
  unfold cf_X0_keep at h
  refine gz_aload_n (pc := 0) hX dX0_keep_0 rfl 0 rfl ?_
  refine gz_iload_n (pc := 1) hX dX0_keep_1 rfl 1 rfl ?_
  obtain ⟨⟨r1, m2⟩, c3, h⟩ := gz_bd h
  refine cc_X0_240 (pc := 2) hX (fun h => cz_k h rfl) c3 ⟨Nat.le_of_ble_eq_true rfl, Nat.le_of_ble_eq_true rfl⟩ (rest := []) rfl (Nat.le_of_ble_eq_true rfl) dX0_keep_2 ?_
  refine gz_if_eq (pc := 5) (tgt := 21) hX dX0_keep_5 (by decide) (fun g4 => ?_) (fun g4 => ?_)
  · replace h := gz_it' g4 h
    refine gz_sub (lw := [(0, .ref (gz_ad G 1000))]) [0] rfl ?_
    exact wb_X0_keep_21 hX h hk
  · replace h := gz_if' g4 h
    refine gz_aload_n (pc := 8) hX dX0_keep_8 rfl 0 rfl ?_
    refine gz_iload_n (pc := 9) hX dX0_keep_9 rfl 2 rfl ?_
    obtain ⟨⟨r5, m6⟩, c7, h⟩ := gz_bd h
    refine cc_X0_240 (pc := 10) hX (fun h => cz_k h rfl) c7 ⟨Nat.le_of_ble_eq_true rfl, Nat.le_of_ble_eq_true rfl⟩ (rest := []) rfl (Nat.le_of_ble_eq_true rfl) dX0_keep_10 ?_
    refine gz_if_eq (pc := 13) (tgt := 21) hX dX0_keep_13 (by decide) (fun g8 => ?_) (fun g8 => ?_)
    · replace h := gz_it' g8 h
      refine gz_sub (lw := [(0, .ref (gz_ad G 1000))]) [0] rfl ?_
      exact wb_X0_keep_21 hX h hk
    · replace h := gz_if' g8 h
      refine gz_iload_n (pc := 16) hX dX0_keep_16 rfl 1 rfl ?_
      refine gz_iload_n (pc := 17) hX dX0_keep_17 rfl 2 rfl ?_
      refine gz_icmp_ne (pc := 18) (tgt := 23) hX dX0_keep_18 (by decide) (fun g9 => ?_) (fun g9 => ?_)
      · replace h := gz_if' g9 h
        refine gz_iconst (pc := 23) (v := (0 : Int32)) hX dX0_keep_23 (by decide) ?_
        refine gz_istore_n (pc := 24) (lw := [(3, .int (0 : Int32)), (0, .ref (gz_ad G 1000)), (1, .int x1), (2, .int x2)]) hX dX0_keep_24 rfl (by decide) rfl ?_
        refine gz_sub (lw := [(0, .ref (gz_ad G 1000)), (1, .int x1), (2, .int x2), (3, .int (0 : Int32))]) [1, 2, 3, 0] rfl ?_
        exact wl_X0_keep_25 hX h hk
      · replace h := gz_it' g9 h
        refine gz_sub (lw := [(0, .ref (gz_ad G 1000))]) [0] rfl ?_
        exact wb_X0_keep_21 hX h hk
theorem ct_X0_keep {G : gz_G} {l : Launch} {x1 : Int32} {x2 : Int32}  {m m9 : gM} {r : Int32} (h : cf_X0_keep x1 x2 m = some (r, m9)) : gz_Met cS G l yX0_keep cX0_keep 4 (some .int) (mRm 5 111) [.ref (gz_ad G 1000), .int x1, .int x2] m m9 (some (.int r)) :=
  gz_ofI (by decide +kernel) (Nat.le_of_ble_eq_true rfl) fun X _ hX hk => wm_X0_keep hX h hk
/-! FirstSnuffer.rings()I -/
def mP_X0_rings_4 (X : gz_X) (G : gz_G) (q : (Int32 × Int32 × gM)) : Prop := gz_V cS X G 4 (0, 0) q.2.2 4 [(0, .ref (gz_ad G 1000)), (1, .int q.1), (2, .int q.2.1)] []
def mP_X0_rings_14 (X : gz_X) (G : gz_G) (q : (Int32 × Int32 × Int32 × gM)) : Prop := gz_V cS X G 4 (0, 0) q.2.2.2 14 [(0, .ref (gz_ad G 1000)), (1, .int q.1), (2, .int q.2.1), (3, .int q.2.2.1)] []
noncomputable def mj_X0_rings_65 (x2 : Int32) (x3 : Int32) (s0 : Int32) (s1 : Int32) (m : gM) : Option ((Int32 × Int32 × Int32 × gM) ⊕ ((Int32 × Int32 × gM) ⊕ (Int32 × gM))) :=
  gz_let ((s1 ||| s0)) fun y1 => gz_let (x3 + (1 : Int32)) fun y2 => some (Sum.inl (y1, x2, y2, m))
theorem wb_X0_rings_65 {X : gz_X} {G : gz_G} (hX : gz_C cS X G cX0_rings 4 RX0 5 110) {x2 : Int32} {x3 : Int32} {s0 : Int32} {s1 : Int32}  {m : gM} {z : ((Int32 × Int32 × Int32 × gM) ⊕ ((Int32 × Int32 × gM) ⊕ (Int32 × gM)))} (h : mj_X0_rings_65 x2 x3 s0 s1 m = some z) (hk : (Sum.elim (mP_X0_rings_14 X G) (Sum.elim (mP_X0_rings_4 X G) (fun z : (Int32 × gM) => gz_kI cS X G 4 (0, 0) cX0_rings z.2 z.1))) z) : gz_V cS X G 4 (0, 0) m 65 [(0, .ref (gz_ad G 1000)), (2, .int x2), (3, .int x3)] [.int s0, .int s1] := by
  unfold mj_X0_rings_65 at h
  refine gz_ior (pc := 65) hX dX0_rings_65 ?_
  obtain ⟨y1, ey1, h⟩ := gz_lt h
  refine gz_topi ey1 ?_
  refine gz_istore_n (pc := 66) (lw := [(1, .int y1), (0, .ref (gz_ad G 1000)), (2, .int x2), (3, .int x3)]) hX dX0_rings_66 rfl (by decide) rfl ?_
  obtain ⟨y2, ey2, h⟩ := gz_lt h
  refine gz_iinc (pc := 67) (v := y2) (lw := [(3, .int y2), (1, .int y1), (0, .ref (gz_ad G 1000)), (2, .int x2)]) hX dX0_rings_67 (k := 3) rfl (by rw [ey2]; rfl) (by decide) rfl ?_
  refine gz_goto (pc := 70) (tgt := 14) hX dX0_rings_70 (by decide) ?_
  refine gz_sub (lw := [(0, .ref (gz_ad G 1000)), (1, .int y1), (2, .int x2), (3, .int y2)]) [2, 1, 3, 0] rfl ?_
  obtain rfl := Option.some.inj h
  exact hk
noncomputable def mj_X0_rings_64 (x2 : Int32) (x3 : Int32) (s0 : Int32) (m : gM) : Option ((Int32 × Int32 × Int32 × gM) ⊕ ((Int32 × Int32 × gM) ⊕ (Int32 × gM))) :=
  (mj_X0_rings_65 x2 x3 (0 : Int32) s0 m)
theorem wb_X0_rings_64 {X : gz_X} {G : gz_G} (hX : gz_C cS X G cX0_rings 4 RX0 5 110) {x2 : Int32} {x3 : Int32} {s0 : Int32}  {m : gM} {z : ((Int32 × Int32 × Int32 × gM) ⊕ ((Int32 × Int32 × gM) ⊕ (Int32 × gM)))} (h : mj_X0_rings_64 x2 x3 s0 m = some z) (hk : (Sum.elim (mP_X0_rings_14 X G) (Sum.elim (mP_X0_rings_4 X G) (fun z : (Int32 × gM) => gz_kI cS X G 4 (0, 0) cX0_rings z.2 z.1))) z) : gz_V cS X G 4 (0, 0) m 64 [(0, .ref (gz_ad G 1000)), (2, .int x2), (3, .int x3)] [.int s0] := by
  unfold mj_X0_rings_64 at h
  refine gz_iconst (pc := 64) (v := (0 : Int32)) hX dX0_rings_64 (by decide) ?_
  exact wb_X0_rings_65 hX h hk
noncomputable def mb_X0_rings_14 (x1 : Int32) (x2 : Int32) (x3 : Int32) (m : gM) : Option ((Int32 × Int32 × Int32 × gM) ⊕ ((Int32 × Int32 × gM) ⊕ (Int32 × gM))) :=
  ((cf_X0_things m).bind fun (r1, m2) => (if r1 ≤ x3 then gz_let (x2 + (1 : Int32)) fun y5 => some (Sum.inr (Sum.inl (x1, y5, m2))) else (if x2 = x3 then (mj_X0_rings_64 x2 x3 x1 m2) else ((cf_X5_along 1027 x2 m2).bind fun (r7, m8) => ((cf_X0_has r7 x3 m8).bind fun (r10, m11) => (if r10 = (0 : Int32) then (mj_X0_rings_64 x2 x3 x1 m11) else ((cf_X5_along 1027 x3 m11).bind fun (r14, m15) => ((cf_X0_has r14 x2 m15).bind fun (r17, m18) => (if r17 = (0 : Int32) then (mj_X0_rings_64 x2 x3 x1 m18) else (mj_X0_rings_65 x2 x3 ((1 : Int32) <<< (x2 &&& 31)) x1 m18))))))))))
theorem wb_X0_rings_14 {X : gz_X} {G : gz_G} (hX : gz_C cS X G cX0_rings 4 RX0 5 110) {x1 : Int32} {x2 : Int32} {x3 : Int32}  {m : gM} {z : ((Int32 × Int32 × Int32 × gM) ⊕ ((Int32 × Int32 × gM) ⊕ (Int32 × gM)))} (h : mb_X0_rings_14 x1 x2 x3 m = some z) (hk : (Sum.elim (mP_X0_rings_14 X G) (Sum.elim (mP_X0_rings_4 X G) (fun z : (Int32 × gM) => gz_kI cS X G 4 (0, 0) cX0_rings z.2 z.1))) z) : gz_V cS X G 4 (0, 0) m 14 [(0, .ref (gz_ad G 1000)), (1, .int x1), (2, .int x2), (3, .int x3)] [] := by
  unfold mb_X0_rings_14 at h
  refine gz_iload_n (pc := 14) hX dX0_rings_14 rfl 3 rfl ?_
  refine gz_aload_n (pc := 15) hX dX0_rings_15 rfl 0 rfl ?_
  obtain ⟨⟨r1, m2⟩, c3, h⟩ := gz_bd h
  refine cc_X0_181 (pc := 16) hX (fun h => cz_k h rfl) c3 ⟨Nat.le_of_ble_eq_true rfl, Nat.le_of_ble_eq_true rfl⟩ (rest := [.int x3]) rfl (Nat.le_of_ble_eq_true rfl) dX0_rings_16 ?_
  refine gz_icmp_ge (pc := 19) (tgt := 73) hX dX0_rings_19 (by decide) (fun g4 => ?_) (fun g4 => ?_)
  · replace h := gz_it' g4 h
    obtain ⟨y5, ey5, h⟩ := gz_lt h
    refine gz_iinc (pc := 73) (v := y5) (lw := [(2, .int y5), (0, .ref (gz_ad G 1000)), (1, .int x1), (3, .int x3)]) hX dX0_rings_73 (k := 2) rfl (by rw [ey5]; rfl) (by decide) rfl ?_
    refine gz_goto (pc := 76) (tgt := 4) hX dX0_rings_76 (by decide) ?_
    refine gz_sub (lw := [(0, .ref (gz_ad G 1000)), (1, .int x1), (2, .int y5)]) [1, 2, 0] rfl ?_
    obtain rfl := Option.some.inj h
    exact hk
  · replace h := gz_if' g4 h
    refine gz_iload_n (pc := 22) hX dX0_rings_22 rfl 1 rfl ?_
    refine gz_iload_n (pc := 23) hX dX0_rings_23 rfl 2 rfl ?_
    refine gz_iload_n (pc := 24) hX dX0_rings_24 rfl 3 rfl ?_
    refine gz_icmp_eq (pc := 25) (tgt := 64) hX dX0_rings_25 (by decide) (fun g6 => ?_) (fun g6 => ?_)
    · replace h := gz_it' g6 h
      refine gz_sub (lw := [(0, .ref (gz_ad G 1000)), (2, .int x2), (3, .int x3)]) [0, 2, 3] rfl ?_
      exact wb_X0_rings_64 hX h hk
    · replace h := gz_if' g6 h
      refine gz_aload_n (pc := 28) hX dX0_rings_28 rfl 0 rfl ?_
      refine cg_X0_74_0 (pc := 29) hX (c := 1000) (v := .ref (gz_ad G 1027)) (fun h => cz_k h rfl) (fun h => cz_f h (by decide) rfl (by decide) rfl) dX0_rings_29 ?_
      refine gz_iload_n (pc := 32) hX dX0_rings_32 rfl 2 rfl ?_
      obtain ⟨⟨r7, m8⟩, c9, h⟩ := gz_bd h
      refine cc_X0_280 (pc := 33) hX (fun h => cz_k h rfl) (by decide) c9 ⟨Nat.le_of_ble_eq_true rfl, Nat.le_of_ble_eq_true rfl⟩ (rest := [.int x1]) rfl (Nat.le_of_ble_eq_true rfl) dX0_rings_33 ?_
      refine gz_iload_n (pc := 36) hX dX0_rings_36 rfl 3 rfl ?_
      obtain ⟨⟨r10, m11⟩, c12, h⟩ := gz_bd h
      refine cc_X0_276 (pc := 37) hX c12 ⟨Nat.le_of_ble_eq_true rfl, Nat.le_of_ble_eq_true rfl⟩ (rest := [.int x1]) rfl (Nat.le_of_ble_eq_true rfl) dX0_rings_37 ?_
      refine gz_if_eq (pc := 40) (tgt := 64) hX dX0_rings_40 (by decide) (fun g13 => ?_) (fun g13 => ?_)
      · replace h := gz_it' g13 h
        refine gz_sub (lw := [(0, .ref (gz_ad G 1000)), (2, .int x2), (3, .int x3)]) [0, 2, 3] rfl ?_
        exact wb_X0_rings_64 hX h hk
      · replace h := gz_if' g13 h
        refine gz_aload_n (pc := 43) hX dX0_rings_43 rfl 0 rfl ?_
        refine cg_X0_74_0 (pc := 44) hX (c := 1000) (v := .ref (gz_ad G 1027)) (fun h => cz_k h rfl) (fun h => cz_f h (by decide) rfl (by decide) rfl) dX0_rings_44 ?_
        refine gz_iload_n (pc := 47) hX dX0_rings_47 rfl 3 rfl ?_
        obtain ⟨⟨r14, m15⟩, c16, h⟩ := gz_bd h
        refine cc_X0_280 (pc := 48) hX (fun h => cz_k h rfl) (by decide) c16 ⟨Nat.le_of_ble_eq_true rfl, Nat.le_of_ble_eq_true rfl⟩ (rest := [.int x1]) rfl (Nat.le_of_ble_eq_true rfl) dX0_rings_48 ?_
        refine gz_iload_n (pc := 51) hX dX0_rings_51 rfl 2 rfl ?_
        obtain ⟨⟨r17, m18⟩, c19, h⟩ := gz_bd h
        refine cc_X0_276 (pc := 52) hX c19 ⟨Nat.le_of_ble_eq_true rfl, Nat.le_of_ble_eq_true rfl⟩ (rest := [.int x1]) rfl (Nat.le_of_ble_eq_true rfl) dX0_rings_52 ?_
        refine gz_if_eq (pc := 55) (tgt := 64) hX dX0_rings_55 (by decide) (fun g20 => ?_) (fun g20 => ?_)
        · replace h := gz_it' g20 h
          refine gz_sub (lw := [(0, .ref (gz_ad G 1000)), (2, .int x2), (3, .int x3)]) [0, 2, 3] rfl ?_
          exact wb_X0_rings_64 hX h hk
        · replace h := gz_if' g20 h
          refine gz_iconst (pc := 58) (v := (1 : Int32)) hX dX0_rings_58 (by decide) ?_
          refine gz_iload_n (pc := 59) hX dX0_rings_59 rfl 2 rfl ?_
          refine gz_ishl (pc := 60) hX dX0_rings_60 ?_
          refine gz_goto (pc := 61) (tgt := 65) hX dX0_rings_61 (by decide) ?_
          refine gz_sub (lw := [(0, .ref (gz_ad G 1000)), (2, .int x2), (3, .int x3)]) [0, 2, 3] rfl ?_
          exact wb_X0_rings_65 hX h hk
noncomputable def ml_X0_rings_14 (x1 : Int32) (x2 : Int32) (x3 : Int32) (m : gM) : Option ((Int32 × Int32 × gM) ⊕ (Int32 × gM)) := gz_loop (fun q : (Int32 × Int32 × Int32 × gM) => mb_X0_rings_14 q.1 q.2.1 q.2.2.1 q.2.2.2) (x1, x2, x3, m)
theorem wl_X0_rings_14 {X : gz_X} {G : gz_G} (hX : gz_C cS X G cX0_rings 4 RX0 5 110) {x1 : Int32} {x2 : Int32} {x3 : Int32}  {m : gM} {z : ((Int32 × Int32 × gM) ⊕ (Int32 × gM))} (h : ml_X0_rings_14 x1 x2 x3 m = some z) (hk : (Sum.elim (mP_X0_rings_4 X G) (fun z : (Int32 × gM) => gz_kI cS X G 4 (0, 0) cX0_rings z.2 z.1)) z) : gz_V cS X G 4 (0, 0) m 14 [(0, .ref (gz_ad G 1000)), (1, .int x1), (2, .int x2), (3, .int x3)] [] := by
  have hp : mP_X0_rings_14 X G (x1, x2, x3, m) := gz_loop_ind (fun q z hz hkz => wb_X0_rings_14 hX  hz hkz) h hk
  exact hp
noncomputable def mb_X0_rings_4 (x1 : Int32) (x2 : Int32) (m : gM) : Option ((Int32 × Int32 × gM) ⊕ (Int32 × gM)) :=
  ((cf_X0_things m).bind fun (r1, m2) => (if r1 ≤ x2 then some (Sum.inr (x1, m2)) else (ml_X0_rings_14 x1 x2 (0 : Int32) m2)))
theorem wb_X0_rings_4 {X : gz_X} {G : gz_G} (hX : gz_C cS X G cX0_rings 4 RX0 5 110) {x1 : Int32} {x2 : Int32}  {m : gM} {z : ((Int32 × Int32 × gM) ⊕ (Int32 × gM))} (h : mb_X0_rings_4 x1 x2 m = some z) (hk : (Sum.elim (mP_X0_rings_4 X G) (fun z : (Int32 × gM) => gz_kI cS X G 4 (0, 0) cX0_rings z.2 z.1)) z) : gz_V cS X G 4 (0, 0) m 4 [(0, .ref (gz_ad G 1000)), (1, .int x1), (2, .int x2)] [] := by
  unfold mb_X0_rings_4 at h
  refine gz_iload_n (pc := 4) hX dX0_rings_4 rfl 2 rfl ?_
  refine gz_aload_n (pc := 5) hX dX0_rings_5 rfl 0 rfl ?_
  obtain ⟨⟨r1, m2⟩, c3, h⟩ := gz_bd h
  refine cc_X0_181 (pc := 6) hX (fun h => cz_k h rfl) c3 ⟨Nat.le_of_ble_eq_true rfl, Nat.le_of_ble_eq_true rfl⟩ (rest := [.int x2]) rfl (Nat.le_of_ble_eq_true rfl) dX0_rings_6 ?_
  refine gz_icmp_ge (pc := 9) (tgt := 79) hX dX0_rings_9 (by decide) (fun g4 => ?_) (fun g4 => ?_)
  · replace h := gz_it' g4 h
    refine gz_iload_n (pc := 79) hX dX0_rings_79 rfl 1 rfl ?_
    obtain rfl := Option.some.inj h
    exact hk _ _ dX0_rings_80
  · replace h := gz_if' g4 h
    refine gz_iconst (pc := 12) (v := (0 : Int32)) hX dX0_rings_12 (by decide) ?_
    refine gz_istore_n (pc := 13) (lw := [(3, .int (0 : Int32)), (0, .ref (gz_ad G 1000)), (1, .int x1), (2, .int x2)]) hX dX0_rings_13 rfl (by decide) rfl ?_
    refine gz_sub (lw := [(0, .ref (gz_ad G 1000)), (1, .int x1), (2, .int x2), (3, .int (0 : Int32))]) [1, 2, 3, 0] rfl ?_
    exact wl_X0_rings_14 hX h hk
noncomputable def ml_X0_rings_4 (x1 : Int32) (x2 : Int32) (m : gM) : Option (Int32 × gM) := gz_loop (fun q : (Int32 × Int32 × gM) => mb_X0_rings_4 q.1 q.2.1 q.2.2) (x1, x2, m)
theorem wl_X0_rings_4 {X : gz_X} {G : gz_G} (hX : gz_C cS X G cX0_rings 4 RX0 5 110) {x1 : Int32} {x2 : Int32}  {m : gM} {z : (Int32 × gM)} (h : ml_X0_rings_4 x1 x2 m = some z) (hk : (fun z : (Int32 × gM) => gz_kI cS X G 4 (0, 0) cX0_rings z.2 z.1) z) : gz_V cS X G 4 (0, 0) m 4 [(0, .ref (gz_ad G 1000)), (1, .int x1), (2, .int x2)] [] := by
  have hp : mP_X0_rings_4 X G (x1, x2, m) := gz_loop_ind (fun q z hz hkz => wb_X0_rings_4 hX  hz hkz) h hk
  exact hp
noncomputable def cf_X0_rings  (m : gM) : Option (Int32 × gM) :=
  (ml_X0_rings_4 (0 : Int32) (0 : Int32) m)
theorem wm_X0_rings {X : gz_X} {G : gz_G} (hX : gz_C cS X G cX0_rings 4 RX0 5 110)   {m : gM} {z : (Int32 × gM)} (h : cf_X0_rings  m = some z) (hk : (fun z : (Int32 × gM) => gz_kI cS X G 4 (0, 0) cX0_rings z.2 z.1) z) : gz_V cS X G 4 (0, 0) m 0 [(0, .ref (gz_ad G 1000))] [] := by
  unfold cf_X0_rings at h
  refine gz_iconst (pc := 0) (v := (0 : Int32)) hX dX0_rings_0 (by decide) ?_
  refine gz_istore_n (pc := 1) (lw := [(1, .int (0 : Int32)), (0, .ref (gz_ad G 1000))]) hX dX0_rings_1 rfl (by decide) rfl ?_
  refine gz_iconst (pc := 2) (v := (0 : Int32)) hX dX0_rings_2 (by decide) ?_
  refine gz_istore_n (pc := 3) (lw := [(2, .int (0 : Int32)), (1, .int (0 : Int32)), (0, .ref (gz_ad G 1000))]) hX dX0_rings_3 rfl (by decide) rfl ?_
  refine gz_sub (lw := [(0, .ref (gz_ad G 1000)), (1, .int (0 : Int32)), (2, .int (0 : Int32))]) [2, 1, 0] rfl ?_
  exact wl_X0_rings_4 hX h hk
theorem ct_X0_rings {G : gz_G} {l : Launch}   {m m9 : gM} {r : Int32} (h : cf_X0_rings  m = some (r, m9)) : gz_Met cS G l yX0_rings cX0_rings 4 (some .int) (mRm 5 110) [.ref (gz_ad G 1000)] m m9 (some (.int r)) :=
  gz_ofI (by decide +kernel) (Nat.le_of_ble_eq_true rfl) fun X _ hX hk => wm_X0_rings hX h hk
theorem cp_J2_48_20 {X : gz_X} {G : gz_G} {cc : ByteArray} {nL fr lo pc : Nat} {rem : Nat × Nat} {m m9 : gM} {lv : List (Nat × Value)} {st : List Value} (hX : gz_C cS X G cc nL RJ2 fr lo) {c : Nat} {x : Int32} (hK : clc m.1 m.2.1 m.2.2.2.2.1 → m.1 c = 20 + 1) (hw : 1000 ≤ c) (hd : decode cc pc = .ok (.putfield 48, 3)) (hm : m9 = gz_sI m c 2 x) (kk : gz_V cS X G nL rem m9 (pc + 3) lv st) : gz_V cS X G nL rem m pc lv (.int x :: .ref (gz_ad G c) :: st) := by
  subst hm
  exact gz_putf hX (C := RJ2) (T := TJ2) (N := 3) (ci := 20) (k := 2) (ty := .int) (μ' := gz_sI m c 2 x) rfl (by decide) in_J2 tyJ2 tyJ2_ok nmJ2 (by decide) (Or.inl (hX.2.2.2.2.1 _ q239)) rfl rfl rfl rfl hd hK hw rfl rfl rfl (fun d tc j h => gz_sI_o d tc j h) (gz_sI_v (fun j => ftC 20 j) rfl) (fun h => h) kk
theorem cc_J2_129 {X : gz_X} {G : gz_G} {cc : ByteArray} {nL fr lo pc : Nat} {rem : Nat × Nat} {lv : List (Nat × Value)} {rest st0 : List Value} (hX : gz_C cS X G cc nL RJ2 fr lo) {c0 : Nat} {m m9 : gM} (hK : clc m.1 m.2.1 m.2.2.2.2.1 → m.1 c0 = 20 + 1)  {r : Nat} (h : cf_J2_grow c0 m = some (r, m9)) (hroom : 4 + 1 ≤ fr ∧ 8 + (1 + 11) + 127 ≤ lo) (hst : st0 = [.ref (gz_ad G c0)] ++ rest) (hW : (rest.map fun v => v.category).sum ≤ 8) (hd : decode cc pc = .ok (.invokevirtual 129, 3)) (kk : gz_V cS X G nL rem m9 (pc + 3) lv (.ref (gz_ad G r) :: rest)) : gz_V cS X G nL (rem.1 + (gZ m9 - gZ m), rem.2 + (gW m9 - gW m)) m pc lv st0 :=
  gz_callV2 hX cs_E (As := []) (rest := rest) (q := (RJ2, TJ2, 3)) (ci := 20) (c := c0) (ct_J2_grow (l := X.2.1) h) (lw_V q856 q858 qs15 q171 q859) (n := 0) (by decide +kernel) hroom rfl rfl (by decide) hK hst hW hd (rem := rem) kk
/-! java/util/ArrayList.add(Ljava/lang/Object;[Ljava/lang/Object;I)V -/
noncomputable def mj_J2_add_2_11 (c0 : Nat) (c1 : Nat) (c2 : Nat) (x3 : Int32) (m : gM) : Option (Unit × gM) :=
  (if gK m c2 = 106 ∧ 1000 ≤ c2 then (if gz_in x3 (gN m c2) then (if c1 ≠ 0 ∧ cOb m c1 = true ∧ ks c2 = 0 then gz_let (gz_sP m c2 (gz_ix x3) c1) fun m4 => (if gK m4 c0 = 21 then (if 1000 ≤ c0 then gz_let (gz_sI m4 c0 2 (x3 + (1 : Int32))) fun m7 => some ((), m7) else none) else none) else none) else none) else none)
theorem wb_J2_add_2_11 {X : gz_X} {G : gz_G} {zE : Nat × Nat} (hX : gz_C cS X G cJ2_add_2 4 RJ2 5 147) {c0 : Nat} {c1 : Nat} {c2 : Nat} {x3 : Int32}  {m : gM} {z : (Unit × gM)} (h : mj_J2_add_2_11 c0 c1 c2 x3 m = some z) (hk : (fun z : (Unit × gM) => gz_kVa cS X G 4 zE cJ2_add_2 z.2) z) : gz_Va cS X G 4 zE m 11 [(0, .ref (gz_ad G c0)), (1, .ref (gz_ad G c1)), (2, .ref (gz_ad G c2)), (3, .int x3)] [] := by
  unfold mj_J2_add_2_11 at h
  refine gz_Vs (fun _ kk => gz_aload_n (pc := 11) hX dJ2_add_2_11 rfl 2 rfl kk) rfl ?_
  refine gz_Vs (fun _ kk => gz_iload_n (pc := 12) hX dJ2_add_2_12 rfl 3 rfl kk) rfl ?_
  refine gz_Vs (fun _ kk => gz_aload_n (pc := 13) hX dJ2_add_2_13 rfl 1 rfl kk) rfl ?_
  obtain ⟨g1, h⟩ := gz_gu h
  obtain ⟨g2, h⟩ := gz_gu h
  obtain ⟨g3, h⟩ := gz_gu h
  obtain ⟨m4, em4, h⟩ := gz_lt h
  refine gz_Vs (fun _ kk => gz_aast (pc := 14) (c := c2) (t := 5) (n := gN m c2) (r := c1) hX rfl rfl rfl (fun _ => ⟨g1.1, rfl⟩) g1.2 g2 g3.1 (cr_ob hX g3.2.1) (fun h => clc_sP (sr_dyn g3.2.2) h) dJ2_add_2_14 em4 kk) (by rw [em4]; rfl) ?_
  refine gz_Vs (fun _ kk => gz_aload_n (pc := 15) hX dJ2_add_2_15 rfl 0 rfl kk) rfl ?_
  refine gz_Vs (fun _ kk => gz_iload_n (pc := 16) hX dJ2_add_2_16 rfl 3 rfl kk) rfl ?_
  refine gz_Vs (fun _ kk => gz_iconst (pc := 17) (v := (1 : Int32)) hX dJ2_add_2_17 (by decide) kk) rfl ?_
  refine gz_Vs (fun _ kk => gz_iadd (pc := 18) hX dJ2_add_2_18 kk) rfl ?_
  obtain ⟨g5, h⟩ := gz_gu h
  obtain ⟨g6, h⟩ := gz_gu h
  obtain ⟨m7, em7, h⟩ := gz_lt h
  refine gz_Vs (fun _ kk => cp_J2_48_20 (pc := 19) hX (c := c0) (fun _ => g5) g6 dJ2_add_2_19 em7 kk) (by rw [em7]; rfl) ?_
  obtain rfl := Option.some.inj h
  exact hk _ _ dJ2_add_2_22
noncomputable def cf_J2_add_2 (c0 : Nat) (c1 : Nat) (c2 : Nat) (x3 : Int32) (m : gM) : Option (Unit × gM) :=
  (if gK m c2 = 106 then (if x3 = (nI (gN m c2)) then (if gK m c0 = 21 then ((cf_J2_grow c0 m).bind fun (r4, m5) => (if gZ m ≤ gZ m5 ∧ gW m ≤ gW m5 then (mj_J2_add_2_11 c0 c1 r4 x3 m5) else none)) else none) else (mj_J2_add_2_11 c0 c1 c2 x3 m)) else none)
theorem wm_J2_add_2 {X : gz_X} {G : gz_G} {zE : Nat × Nat} (hX : gz_C cS X G cJ2_add_2 4 RJ2 5 147) {c0 : Nat} {c1 : Nat} {c2 : Nat} {x3 : Int32}  {m : gM} {z : (Unit × gM)} (h : cf_J2_add_2 c0 c1 c2 x3 m = some z) (hk : (fun z : (Unit × gM) => gz_kVa cS X G 4 zE cJ2_add_2 z.2) z) : gz_Va cS X G 4 zE m 0 [(0, .ref (gz_ad G c0)), (1, .ref (gz_ad G c1)), (2, .ref (gz_ad G c2)), (3, .int x3)] [] := by
  unfold cf_J2_add_2 at h
  refine gz_Vs (fun _ kk => gz_iload_n (pc := 0) hX dJ2_add_2_0 rfl 3 rfl kk) rfl ?_
  refine gz_Vs (fun _ kk => gz_aload_n (pc := 1) hX dJ2_add_2_1 rfl 2 rfl kk) rfl ?_
  obtain ⟨g1, h⟩ := gz_gu h
  refine gz_Vs (fun _ kk => gz_alen2 (pc := 2) (c := c2) (t := 5) (n := gN m c2) hX rfl (fun _ => ⟨g1, rfl⟩) dJ2_add_2_2 kk) rfl ?_
  refine gz_Vif (μ1 := m) (μ2 := m) (fun _ k1 k2 => gz_icmp_ne (pc := 3) (tgt := 11) hX dJ2_add_2_3 (by decide) k1 k2) (by first | exact Classical.em _ | exact (Classical.em _).symm) (fun g2 => ?_) (fun g2 => ?_)
  · replace h := gz_if' g2 h
    exact wb_J2_add_2_11 hX h hk
  · replace h := gz_it' g2 h
    refine gz_Vs (fun _ kk => gz_aload_n (pc := 6) hX dJ2_add_2_6 rfl 0 rfl kk) rfl ?_
    obtain ⟨g3, h⟩ := gz_gu h
    obtain ⟨⟨r4, m5⟩, c6, h⟩ := gz_bd h
    obtain ⟨g7, h⟩ := gz_gu h
    refine gz_Vc (k := gZ m5 - gZ m) (n := gW m5 - gW m) (fun _ kk => cc_J2_129 (pc := 7) hX (fun _ => g3) c6 ⟨Nat.le_of_ble_eq_true rfl, Nat.le_of_ble_eq_true rfl⟩ (rest := []) rfl (Nat.le_of_ble_eq_true rfl) dJ2_add_2_7 kk) ⟨by have := g7.1; dsimp only [gZ] at *; omega, by have := g7.2; dsimp only [gW] at *; omega⟩ ?_
    refine gz_Vs (fun _ kk => gz_astore_n (pc := 10) (lw := [(2, .ref (gz_ad G r4)), (0, .ref (gz_ad G c0)), (1, .ref (gz_ad G c1)), (3, .int x3)]) hX dJ2_add_2_10 rfl (by decide) rfl kk) rfl ?_
    refine gz_Vs (fun _ kk => gz_sub (lw := [(0, .ref (gz_ad G c0)), (1, .ref (gz_ad G c1)), (2, .ref (gz_ad G r4)), (3, .int x3)]) [1, 2, 0, 3] rfl kk) rfl ?_
    exact wb_J2_add_2_11 hX h hk
theorem ct_J2_add_2 {G : gz_G} {l : Launch} {c0 : Nat} {c1 : Nat} {c2 : Nat} {x3 : Int32}  {m m9 : gM} (h : cf_J2_add_2 c0 c1 c2 x3 m = some ((), m9)) : gz_Met cS G l yJ2_add_2 cJ2_add_2 4 none (mRc 5 147 (gZ m9 - gZ m) (gW m9 - gW m)) [.ref (gz_ad G c0), .ref (gz_ad G c1), .ref (gz_ad G c2), .int x3] m m9 none :=
  gz_ofV (by decide +kernel) (Nat.le_of_ble_eq_true rfl) fun X _ hX hk => (wm_J2_add_2 (zE := m9.2.2.2.2.2) hX h (fun pc lv hd => gz_Ve (hk pc lv hd))).2
theorem cg_X16_1_14 {X : gz_X} {G : gz_G} {cc : ByteArray} {nL fr lo pc : Nat} {rem : Nat × Nat} {m : gM} {lv : List (Nat × Value)} {st : List Value} (hX : gz_C cS X G cc nL RX16 fr lo) {c : Nat} {v : Value} (hK : clc m.1 m.2.1 m.2.2.2.2.1 → m.1 c = 14 + 1) (hv : clc m.1 m.2.1 m.2.2.2.2.1 → gz_u (gz_ad G) m (ftC 14 2) c 2 = v) (hd : decode cc pc = .ok (.getfield 1, 3)) (kk : gz_V cS X G nL rem m (pc + 3) lv (v :: st)) : gz_V cS X G nL rem m pc lv (.ref (gz_ad G c) :: st) :=
  gz_getf hX (C := RX16) (T := TX16) (N := 3) (ci := 14) (k := 2) rfl (by decide) in_X16 (by decide) (Or.inl (hX.2.2.2.2.1 _ q1150)) hd hK hv kk
theorem cg_X16_13_14 {X : gz_X} {G : gz_G} {cc : ByteArray} {nL fr lo pc : Nat} {rem : Nat × Nat} {m : gM} {lv : List (Nat × Value)} {st : List Value} (hX : gz_C cS X G cc nL RX16 fr lo) {c : Nat} {v : Value} (hK : clc m.1 m.2.1 m.2.2.2.2.1 → m.1 c = 14 + 1) (hv : clc m.1 m.2.1 m.2.2.2.2.1 → gz_u (gz_ad G) m (ftC 14 0) c 0 = v) (hd : decode cc pc = .ok (.getfield 13, 3)) (kk : gz_V cS X G nL rem m (pc + 3) lv (v :: st)) : gz_V cS X G nL rem m pc lv (.ref (gz_ad G c) :: st) :=
  gz_getf hX (C := RX16) (T := TX16) (N := 3) (ci := 14) (k := 0) rfl (by decide) in_X16 (by decide) (Or.inl (hX.2.2.2.2.1 _ q1148)) hd hK hv kk
theorem cg_X16_17_14 {X : gz_X} {G : gz_G} {cc : ByteArray} {nL fr lo pc : Nat} {rem : Nat × Nat} {m : gM} {lv : List (Nat × Value)} {st : List Value} (hX : gz_C cS X G cc nL RX16 fr lo) {c : Nat} {v : Value} (hK : clc m.1 m.2.1 m.2.2.2.2.1 → m.1 c = 14 + 1) (hv : clc m.1 m.2.1 m.2.2.2.2.1 → gz_u (gz_ad G) m (ftC 14 1) c 1 = v) (hd : decode cc pc = .ok (.getfield 17, 3)) (kk : gz_V cS X G nL rem m (pc + 3) lv (v :: st)) : gz_V cS X G nL rem m pc lv (.ref (gz_ad G c) :: st) :=
  gz_getf hX (C := RX16) (T := TX16) (N := 3) (ci := 14) (k := 1) rfl (by decide) in_X16 (by decide) (Or.inl (hX.2.2.2.2.1 _ q1149)) hd hK hv kk
theorem cd_X16_21 {X : gz_X} {G : gz_G} {cc : ByteArray} {nL fr lo pc f n : Nat} {lv : List (Nat × Value)} {rest st0 : List Value} (hX : gz_C cS X G cc nL RX16 fr lo) {oA : Nat → Nat → gM → Option (Int64 × gM)} {oT : Nat → Nat → gM → Option (Int32 × gM)} {v mo : Nat} {m m9 : gM} {r : Int64} (hO : cO G X.2.1 f n oA oT) (h : oA v mo m = some (r, m9)) (hroom : f + 1 ≤ fr ∧ n + 40 ≤ lo) (hst : st0 = [.ref (gz_ad G mo), .ref (gz_ad G v)] ++ rest) (hW : (rest.map fun v => v.category).sum ≤ 8) (hd : decode cc pc = .ok (.invokevirtual 21, 3)) (kk : gz_V cS X G nL (0, 0) m9 (pc + 3) lv (.long r :: rest)) : gz_V cS X G nL (0, 0) m pc lv st0 := by
  rcases hO.1 v mo m r m9 h with ⟨hk, hM⟩ | ⟨hk, hM⟩ | ⟨hk, hM⟩ | ⟨hk, hM⟩ | ⟨hk, hM⟩
  · exact gz_callU hX cs_E (x := ⟨"FirstSnuffer$Value", "at", "(LFirstSnuffer$Moment;)J"⟩) (owner := "FirstSnuffer$Value") (As := [.ref (gz_ad G mo)]) (rest := rest) (q := (RX14, TX14, 1)) (ci := 12) (c := v) hM (va_cwA 1 hX.2.2.2.2.1 (lw_app (by intro w hw; simp only [List.mem_cons, List.not_mem_nil, or_false] at hw; rcases hw with e | e | e | e | e <;> rw [e] <;> first | exact q1435 | exact q1409 | exact q1479 | exact q1431 | exact q198) (lw_meth q1432)) rfl rfl rfl (cz_n (Z := cS) hX q1408 rfl) (by decide +kernel) ⟨Nat.le_trans hroom.1 hX.2.2.2.2.2.2.1, by have := hX.2.2.2.2.2.2.2; have h1 := hroom.2; show 8 + (2 + 11) + n ≤ _; omega⟩) rfl rfl (by decide) (fun _ => hk) hst hW hd (rem := (0, 0)) kk
  · exact gz_callU hX cs_E (x := ⟨"FirstSnuffer$Value", "at", "(LFirstSnuffer$Moment;)J"⟩) (owner := "FirstSnuffer$Value") (As := [.ref (gz_ad G mo)]) (rest := rest) (q := (RX15, TX15, 1)) (ci := 13) (c := v) hM (va_cwA 1 hX.2.2.2.2.1 (lw_app (by intro w hw; simp only [List.mem_cons, List.not_mem_nil, or_false] at hw; rcases hw with e | e | e | e | e <;> rw [e] <;> first | exact q1435 | exact q1409 | exact q1410 | exact q1411 | exact q199) (lw_meth q1412)) rfl rfl rfl (cz_n (Z := cS) hX q1408 rfl) (by decide +kernel) ⟨Nat.le_trans hroom.1 hX.2.2.2.2.2.2.1, by have := hX.2.2.2.2.2.2.2; have h1 := hroom.2; show 8 + (2 + 11) + n ≤ _; omega⟩) rfl rfl (by decide) (fun _ => hk) hst hW hd (rem := (0, 0)) kk
  · exact gz_callU hX cs_E (x := ⟨"FirstSnuffer$Value", "at", "(LFirstSnuffer$Moment;)J"⟩) (owner := "FirstSnuffer$Value") (As := [.ref (gz_ad G mo)]) (rest := rest) (q := (RX13, TX13, 3)) (ci := 11) (c := v) hM (va_cwA 1 hX.2.2.2.2.1 (lw_app (by intro w hw; simp only [List.mem_cons, List.not_mem_nil, or_false] at hw; rcases hw with e | e | e | e | e <;> rw [e] <;> first | exact q1435 | exact q1409 | exact q1481 | exact q1436 | exact q197) (lw_meth q1437)) rfl rfl rfl (cz_n (Z := cS) hX q1408 rfl) (by decide +kernel) ⟨Nat.le_trans hroom.1 hX.2.2.2.2.2.2.1, by have := hX.2.2.2.2.2.2.2; have h1 := hroom.2; show 8 + (6 + 11) + n ≤ _; omega⟩) rfl rfl (by decide) (fun _ => hk) hst hW hd (rem := (0, 0)) kk
  · exact gz_callU hX cs_E (x := ⟨"FirstSnuffer$Value", "at", "(LFirstSnuffer$Moment;)J"⟩) (owner := "FirstSnuffer$Value") (As := [.ref (gz_ad G mo)]) (rest := rest) (q := (RX12, TX12, 2)) (ci := 10) (c := v) hM (va_cwA 1 hX.2.2.2.2.1 (lw_app (by intro w hw; simp only [List.mem_cons, List.not_mem_nil, or_false] at hw; rcases hw with e | e | e | e | e <;> rw [e] <;> first | exact q1435 | exact q1409 | exact q1424 | exact q1425 | exact q194) (lw_meth q1426)) rfl rfl rfl (cz_n (Z := cS) hX q1408 rfl) (by decide +kernel) ⟨Nat.le_trans hroom.1 hX.2.2.2.2.2.2.1, by have := hX.2.2.2.2.2.2.2; have h1 := hroom.2; show 8 + (5 + 11) + n ≤ _; omega⟩) rfl rfl (by decide) (fun _ => hk) hst hW hd (rem := (0, 0)) kk
  · exact gz_callU hX cs_E (x := ⟨"FirstSnuffer$Value", "at", "(LFirstSnuffer$Moment;)J"⟩) (owner := "FirstSnuffer$Value") (As := [.ref (gz_ad G mo)]) (rest := rest) (q := (RX16, TX16, 3)) (ci := 14) (c := v) hM (va_cwA 1 hX.2.2.2.2.1 (lw_app (by intro w hw; simp only [List.mem_cons, List.not_mem_nil, or_false] at hw; rcases hw with e | e | e | e | e <;> rw [e] <;> first | exact q1435 | exact q1409 | exact q1480 | exact q1433 | exact q200) (lw_meth q1434)) rfl rfl rfl (cz_n (Z := cS) hX q1408 rfl) (by decide +kernel) ⟨Nat.le_trans hroom.1 hX.2.2.2.2.2.2.1, by have := hX.2.2.2.2.2.2.2; have h1 := hroom.2; show 8 + (2 + 11) + n ≤ _; omega⟩) rfl rfl (by decide) (fun _ => hk) hst hW hd (rem := (0, 0)) kk
theorem cc_X16_25 {X : gz_X} {G : gz_G} {cc : ByteArray} {nL fr lo pc : Nat} {rem : Nat × Nat} {lv : List (Nat × Value)} {rest st0 : List Value} (hX : gz_C cS X G cc nL RX16 fr lo) {x1 : Int32} {x2 : Int64} {m m9 : gM} (hK : clc m.1 m.2.1 m.2.2.2.2.1 → m.1 1000 = 0 + 1)  {r : Int64} (h : cf_X0_looked x1 x2 m = some (r, m9)) (hroom : 5 + 1 ≤ fr ∧ 8 + (4 + 11) + 110 ≤ lo) (hst : st0 = [.long x2, .int x1, .ref (gz_ad G 1000)] ++ rest) (hW : (rest.map fun v => v.category).sum ≤ 8) (hd : decode cc pc = .ok (.invokevirtual 25, 3)) (kk : gz_V cS X G nL rem m9 (pc + 3) lv (.long r :: rest)) : gz_V cS X G nL rem m pc lv st0 :=
  gz_callVN hX cs_E (As := [.int x1, .long x2]) (rest := rest) (q := (RX0, TX0, 28)) (ci := 0) (c := 1000) (ct_X0_looked (l := X.2.1) h) q1442 (cz_n (Z := cS) hX q1439 rfl) q167 q1441 qs44 (n := 2) (by decide +kernel) hroom rfl rfl (by decide) hK hst hW hd (rem := rem) kk
theorem cc_X16_31 {X : gz_X} {G : gz_G} {cc : ByteArray} {nL fr lo pc : Nat} {rem : Nat × Nat} {lv : List (Nat × Value)} {rest st0 : List Value} (hX : gz_C cS X G cc nL RX16 fr lo) {x0 : Int64} {m m9 : gM}  {r : Int64} (h : cf_X0_held x0 m = some (r, m9)) (hroom : 1 + 1 ≤ fr ∧ 8 + (2 + 11) + 23 ≤ lo) (hst : st0 = [.long x0] ++ rest) (hW : (rest.map fun v => v.category).sum ≤ 8) (hd : decode cc pc = .ok (.invokestatic 31, 3)) (kk : gz_V cS X G nL rem m9 (pc + 3) lv (.long r :: rest)) : gz_V cS X G nL rem m pc lv st0 :=
  gz_callSN hX cs_E (As := [.long x0]) (rest := rest) (ct_X0_held (l := X.2.1) h) q1415 (cz_n (Z := cS) hX q1459 rfl) q167 q1414 (n := 1) (by decide +kernel) hroom rfl hst hW hd (rem := rem) kk
/-! FirstSnuffer$Looked.at(LFirstSnuffer$Moment;)J -/
noncomputable def cf_X16_at (oA : Nat → Nat → gM → Option (Int64 × gM)) (oT : Nat → Nat → gM → Option (Int32 × gM)) (c0 : Nat) (c1 : Nat) (m : gM) : Option (Int64 × gM) :=
  (if gK m c0 = 15 then (if gP m c0 2 = 1000 then (if gK m c0 = 15 then (if gK m c0 = 15 then gz_let (gP m c0 1) fun r5 => (if r5 ≠ 0 then ((oA r5 c1 m).bind fun (r7, m8) => ((cf_X0_looked (gI m c0 0) r7 m8).bind fun (r10, m11) => ((cf_X0_held r10 m11).bind fun (r13, m14) => some (r13, m14)))) else none) else none) else none) else none) else none)
theorem wm_X16_at {X : gz_X} {G : gz_G} {oA : Nat → Nat → gM → Option (Int64 × gM)} {oT : Nat → Nat → gM → Option (Int32 × gM)} {f n : Nat} (hX : gz_C cS X G cX16_at 2 RX16 (f + 1) (n + 40)) (h1 : 20 ≤ f) (h2 : 300 ≤ n) (hO : cO G X.2.1 f n oA oT) {c0 : Nat} {c1 : Nat}  {m : gM} {z : (Int64 × gM)} (h : cf_X16_at oA oT c0 c1 m = some z) (hk : (fun z : (Int64 × gM) => gz_kL cS X G 2 (0, 0) cX16_at z.2 z.1) z) : gz_V cS X G 2 (0, 0) m 0 [(0, .ref (gz_ad G c0)), (1, .ref (gz_ad G c1))] [] := by
  unfold cf_X16_at at h
  refine gz_aload_n (pc := 0) hX dX16_at_0 rfl 0 rfl ?_
  obtain ⟨g1, h⟩ := gz_gu h
  obtain ⟨g2, h⟩ := gz_gu h
  refine cg_X16_1_14 (pc := 1) hX (c := c0) (v := .ref (gz_ad G 1000)) (fun _ => g1) (fun _ => gz_rq g2.symm (by decide)) dX16_at_1 ?_
  refine gz_aload_n (pc := 4) hX dX16_at_4 rfl 0 rfl ?_
  obtain ⟨g3, h⟩ := gz_gu h
  refine cg_X16_13_14 (pc := 5) hX (c := c0) (v := .int (gI m c0 0)) (fun _ => g3) (fun _ => rfl) dX16_at_5 ?_
  refine gz_aload_n (pc := 8) hX dX16_at_8 rfl 0 rfl ?_
  obtain ⟨g4, h⟩ := gz_gu h
  obtain ⟨r5, er5, h⟩ := gz_lt h
  obtain ⟨g6, h⟩ := gz_gu h
  refine cg_X16_17_14 (pc := 9) hX (c := c0) (v := .ref (gz_ad G r5)) (fun _ => g4) (fun _ => gz_rq er5 g6) dX16_at_9 ?_
  refine gz_aload_n (pc := 12) hX dX16_at_12 rfl 1 rfl ?_
  obtain ⟨⟨r7, m8⟩, c9, h⟩ := gz_bd h
  refine cd_X16_21 (pc := 13) hX hO c9 ⟨by omega, by omega⟩ (rest := [.int (gI m c0 0), .ref (gz_ad G 1000)]) rfl (Nat.le_of_ble_eq_true rfl) dX16_at_13 ?_
  obtain ⟨⟨r10, m11⟩, c12, h⟩ := gz_bd h
  refine cc_X16_25 (pc := 16) hX (fun h => cz_k h rfl) c12 ⟨by omega, by omega⟩ (rest := []) rfl (Nat.le_of_ble_eq_true rfl) dX16_at_16 ?_
  obtain ⟨⟨r13, m14⟩, c15, h⟩ := gz_bd h
  refine cc_X16_31 (pc := 19) hX c15 ⟨by omega, by omega⟩ (rest := []) rfl (Nat.le_of_ble_eq_true rfl) dX16_at_19 ?_
  obtain rfl := Option.some.inj h
  exact hk _ _ dX16_at_22
theorem cn_J9_10 {X : gz_X} {G : gz_G} {cc : ByteArray} {nL fr lo pc : Nat} {rem : Nat × Nat} {m m9 : gM} {lv : List (Nat × Value)} {st : List Value} (hX : gz_C cS X G cc nL RJ9 fr lo) (hz : gZ m ≠ 0) (hd : decode cc pc = .ok (.new 10, 3)) (hm : m9 = gz_al m (21 + 1) 0 4) (kk : gz_V cS X G nL rem m9 (pc + 3) lv (.ref (gz_ad G (gZ m)) :: st)) : gz_V cS X G nL (rem.1 + 1, rem.2 + 4) m pc lv st :=
  gz_new hX (C := RJ9) (T := TJ9) (N := 4) (ci := 21) rfl (by decide) in_J9 tyJ9 tyJ9_ok (by decide +kernel) q652 q653 q183 hz clc_al hd hm kk
theorem cc_J9_1008 {X : gz_X} {G : gz_G} {cc : ByteArray} {nL fr lo pc : Nat} {rem : Nat × Nat} {lv : List (Nat × Value)} {rest st0 : List Value} (hX : gz_C cS X G cc nL RJ9 fr lo) {c0 : Nat} {c1 : Nat} {m m9 : gM}  (h : cf_J9_init c0 c1 m = some ((), m9)) (hroom : 4 + 1 ≤ fr ∧ 8 + (2 + 11) + 91 ≤ lo) (hst : st0 = [.ref (gz_ad G c1), .ref (gz_ad G c0)] ++ rest) (hW : (rest.map fun v => v.category).sum ≤ 8) (hd : decode cc pc = .ok (.invokespecial 1008, 3)) (kk : gz_V cS X G nL rem m9 (pc + 3) lv (rest)) : gz_V cS X G nL (rem.1 + (gZ m9 - gZ m), rem.2 + (gW m9 - gW m)) m pc lv st0 :=
  gz_callI hX cs_E (As := [.ref (gz_ad G c1)]) (rest := rest) (c := c0) (ct_J9_init (l := X.2.1) h) q656 q183 q654 q655 rfl (n := 1) (by decide +kernel) hroom rfl hst hW hd (rem := rem) kk
/-! java/lang/String.valueOf([C)Ljava/lang/String; -/
noncomputable def cf_J9_valueOf (c0 : Nat) (m : gM) : Option (Nat × gM) :=
  (if gZ m ≠ 0 then gz_let (gz_al m (21 + 1) 0 4) fun m2 => ((cf_J9_init (gZ m) c0 m2).bind fun (_, m4) => (if gZ m2 ≤ gZ m4 ∧ gW m2 ≤ gW m4 then some ((gZ m), m4) else none)) else none)
theorem wm_J9_valueOf {X : gz_X} {G : gz_G} {zE : Nat × Nat} (hX : gz_C cS X G cJ9_valueOf 1 RJ9 5 112) {c0 : Nat}  {m : gM} {z : (Nat × gM)} (h : cf_J9_valueOf c0 m = some z) (hk : (fun z : (Nat × gM) => gz_kRa cS X G 1 zE cJ9_valueOf z.2 z.1) z) : gz_Va cS X G 1 zE m 0 [(0, .ref (gz_ad G c0))] [] := by
  unfold cf_J9_valueOf at h
  obtain ⟨g1, h⟩ := gz_gu h
  obtain ⟨m2, em2, h⟩ := gz_lt h
  refine gz_Vn (fun _ kk => cn_J9_10 (pc := 0) hX g1 dJ9_valueOf_0 em2 kk) em2 ?_
  refine gz_Vs (fun _ kk => gz_dup (pc := 3) hX dJ9_valueOf_3 rfl kk) rfl ?_
  refine gz_Vs (fun _ kk => gz_aload_n (pc := 4) hX dJ9_valueOf_4 rfl 0 rfl kk) rfl ?_
  obtain ⟨⟨⟨⟩, m4⟩, c5, h⟩ := gz_bd h
  obtain ⟨g6, h⟩ := gz_gu h
  refine gz_Vc (k := gZ m4 - gZ m2) (n := gW m4 - gW m2) (fun _ kk => cc_J9_1008 (pc := 5) hX c5 ⟨Nat.le_of_ble_eq_true rfl, Nat.le_of_ble_eq_true rfl⟩ (rest := [.ref (gz_ad G (gZ m))]) rfl (Nat.le_of_ble_eq_true rfl) dJ9_valueOf_5 kk) ⟨by have := g6.1; dsimp only [gZ] at *; omega, by have := g6.2; dsimp only [gW] at *; omega⟩ ?_
  obtain rfl := Option.some.inj h
  exact hk _ _ dJ9_valueOf_8
theorem ct_J9_valueOf {G : gz_G} {l : Launch} {c0 : Nat}  {m m9 : gM} {r : Nat} (h : cf_J9_valueOf c0 m = some (r, m9)) : gz_Met cS G l yJ9_valueOf cJ9_valueOf 1 (some (.object "java/lang/String")) (mRc 5 112 (gZ m9 - gZ m) (gW m9 - gW m)) [.ref (gz_ad G c0)] m m9 (some (.ref (gz_ad G r))) :=
  gz_ofR (Or.inl ⟨_, rfl⟩) (by decide +kernel) (Nat.le_of_ble_eq_true rfl) fun X _ hX hk => (wm_J9_valueOf (zE := m9.2.2.2.2.2) hX h (fun pc lv hd => gz_Ve (hk pc lv hd))).2
theorem cc_J14_100 {X : gz_X} {G : gz_G} {cc : ByteArray} {nL fr lo pc : Nat} {rem : Nat × Nat} {lv : List (Nat × Value)} {rest st0 : List Value} (hX : gz_C cS X G cc nL RJ14 fr lo) {c0 : Nat} {x1 : Int32} {m m9 : gM} (hK : clc m.1 m.2.1 m.2.2.2.2.1 → m.1 c0 = 22 + 1)  (h : cf_J14_ensureCapacityInternal c0 x1 m = some ((), m9)) (hroom : 3 + 1 ≤ fr ∧ 8 + (3 + 11) + 82 ≤ lo) (hst : st0 = [.int x1, .ref (gz_ad G c0)] ++ rest) (hW : (rest.map fun v => v.category).sum ≤ 8) (hd : decode cc pc = .ok (.invokevirtual 100, 3)) (kk : gz_V cS X G nL rem m9 (pc + 3) lv (rest)) : gz_V cS X G nL (rem.1 + (gZ m9 - gZ m), rem.2 + (gW m9 - gW m)) m pc lv st0 :=
  gz_callU hX cs_E (x := ⟨"java/lang/AbstractStringBuilder", "ensureCapacityInternal", "(I)V"⟩) (owner := "java/lang/AbstractStringBuilder") (As := [.int x1]) (rest := rest) (q := (RJ15, TJ15, 4)) (ci := 22) (c := c0) (ct_J14_ensureCapacityInternal (l := X.2.1) h) (gz_cwUP 1 hX.2.2.2.2.1 q1174 q195 q1171 q2658 q1173 q1046 (va_Nw.use rfl (cz_n (Z := cS) hX q1172 rfl)) rfl q1194 rfl (by decide +kernel) ⟨Nat.le_trans hroom.1 hX.2.2.2.2.2.2.1, Nat.le_trans hroom.2 hX.2.2.2.2.2.2.2⟩) rfl rfl (by decide) hK hst hW hd (rem := rem) kk
theorem cp_J14_79_22 {X : gz_X} {G : gz_G} {cc : ByteArray} {nL fr lo pc : Nat} {rem : Nat × Nat} {m m9 : gM} {lv : List (Nat × Value)} {st : List Value} (hX : gz_C cS X G cc nL RJ14 fr lo) {c : Nat} {x : Int32} (hK : clc m.1 m.2.1 m.2.2.2.2.1 → m.1 c = 22 + 1) (hw : 1000 ≤ c) (hd : decode cc pc = .ok (.putfield 79, 3)) (hm : m9 = gz_sI m c 3 x) (kk : gz_V cS X G nL rem m9 (pc + 3) lv st) : gz_V cS X G nL rem m pc lv (.int x :: .ref (gz_ad G c) :: st) := by
  subst hm
  exact gz_putf hX (C := RJ15) (T := TJ15) (N := 4) (ci := 22) (k := 3) (ty := .int) (μ' := gz_sI m c 3 x) rfl (by decide) in_J15 tyJ15 tyJ15_ok nmJ15 (by decide) (Or.inl (hX.2.2.2.2.1 _ q1058)) rfl rfl rfl rfl hd hK hw rfl rfl rfl (fun d tc j h => gz_sI_o d tc j h) (gz_sI_v (fun j => ftC 22 j) rfl) (fun h => h) kk
theorem cc_J14_191 {X : gz_X} {G : gz_G} {cc : ByteArray} {nL fr lo pc : Nat} {rem : Nat × Nat} {lv : List (Nat × Value)} {rest st0 : List Value} (hX : gz_C cS X G cc nL RJ14 fr lo) {x0 : Int32} {m m9 : gM}  {r : Int32} (h : cf_J11_canEncode x0 m = some (r, m9)) (hroom : 0 + 1 ≤ fr ∧ 8 + (1 + 11) + 0 ≤ lo) (hst : st0 = [.int x0] ++ rest) (hW : (rest.map fun v => v.category).sum ≤ 8) (hd : decode cc pc = .ok (.invokestatic 191, 3)) (kk : gz_V cS X G nL rem m9 (pc + 3) lv (.int r :: rest)) : gz_V cS X G nL rem m pc lv st0 :=
  gz_callS hX cs_E (As := [.int x0]) (rest := rest) (ct_J11_canEncode (l := X.2.1) h) (lw_S q1196 q1197 q185 q1198) (n := 1) (by decide +kernel) hroom rfl hst hW hd (rem := rem) kk
/-! java/lang/AbstractStringBuilder.append(C)Ljava/lang/AbstractStringBuilder; -/
noncomputable def mj_J14_append_56 (c0 : Nat) (x1 : Int32) (m : gM) : Option (Nat × gM) :=
  (if gK m c0 = 23 then gz_let (gP m c0 0) fun r2 => (if r2 ≠ 0 then (if gK m c0 = 23 then (if gK m c0 = 23 then (if 1000 ≤ c0 then gz_let (gz_sI m c0 3 ((gI m c0 3) + (1 : Int32))) fun m7 => none else none) else none) else none) else none) else none)
theorem wb_J14_append_56 {X : gz_X} {G : gz_G} {zE : Nat × Nat} (hX : gz_C cS X G cJ14_append 2 RJ14 4 104) {c0 : Nat} {x1 : Int32}  {m : gM} {z : (Nat × gM)} (h : mj_J14_append_56 c0 x1 m = some z) (hk : (fun z : (Nat × gM) => gz_kRa cS X G 2 zE cJ14_append z.2 z.1) z) : gz_Va cS X G 2 zE m 56 [(0, .ref (gz_ad G c0)), (1, .int x1)] [] := by
  unfold mj_J14_append_56 at h
  refine gz_Vs (fun _ kk => gz_aload_n (pc := 56) hX dJ14_append_56 rfl 0 rfl kk) rfl ?_
  obtain ⟨g1, h⟩ := gz_gu h
  obtain ⟨r2, er2, h⟩ := gz_lt h
  obtain ⟨g3, h⟩ := gz_gu h
  refine gz_Vs (fun _ kk => cg_J14_15_22 (pc := 57) hX (c := c0) (v := .ref (gz_ad G r2)) (fun _ => g1) (fun _ => gz_rq er2 g3) dJ14_append_57 kk) rfl ?_
  refine gz_Vs (fun _ kk => gz_aload_n (pc := 60) hX dJ14_append_60 rfl 0 rfl kk) rfl ?_
  refine gz_Vs (fun _ kk => gz_dup (pc := 61) hX dJ14_append_61 rfl kk) rfl ?_
  obtain ⟨g4, h⟩ := gz_gu h
  refine gz_Vs (fun _ kk => cg_J14_79_22 (pc := 62) hX (c := c0) (v := .int (gI m c0 3)) (fun _ => g4) (fun _ => rfl) dJ14_append_62 kk) rfl ?_
  refine gz_Vs (fun _ kk => gz_dup_x1 (pc := 65) hX dJ14_append_65 rfl rfl kk) rfl ?_
  refine gz_Vs (fun _ kk => gz_iconst (pc := 66) (v := (1 : Int32)) hX dJ14_append_66 (by decide) kk) rfl ?_
  refine gz_Vs (fun _ kk => gz_iadd (pc := 67) hX dJ14_append_67 kk) rfl ?_
  obtain ⟨g5, h⟩ := gz_gu h
  obtain ⟨g6, h⟩ := gz_gu h
  obtain ⟨m7, em7, h⟩ := gz_lt h
  refine gz_Vs (fun _ kk => cp_J14_79_22 (pc := 68) hX (c := c0) (fun _ => g5) g6 dJ14_append_68 em7 kk) (by rw [em7]; rfl) ?_
  refine gz_Vs (fun _ kk => gz_iload_n (pc := 71) hX dJ14_append_71 rfl 1 rfl kk) rfl ?_
  exact nomatch h
noncomputable def mj_J14_append_45 (c0 : Nat) (x1 : Int32) (m : gM) : Option (Nat × gM) :=
  (if gK m c0 = 23 then ((cf_J14_isLatin1 c0 m).bind fun (r2, m3) => (if m3.2.2.2.2.2 = m.2.2.2.2.2 then (if r2 = (0 : Int32) then (mj_J14_append_56 c0 x1 m3) else none) else none)) else none)
theorem wb_J14_append_45 {X : gz_X} {G : gz_G} {zE : Nat × Nat} (hX : gz_C cS X G cJ14_append 2 RJ14 4 104) {c0 : Nat} {x1 : Int32}  {m : gM} {z : (Nat × gM)} (h : mj_J14_append_45 c0 x1 m = some z) (hk : (fun z : (Nat × gM) => gz_kRa cS X G 2 zE cJ14_append z.2 z.1) z) : gz_Va cS X G 2 zE m 45 [(0, .ref (gz_ad G c0)), (1, .int x1)] [] := by
  unfold mj_J14_append_45 at h
  refine gz_Vs (fun _ kk => gz_aload_n (pc := 45) hX dJ14_append_45 rfl 0 rfl kk) rfl ?_
  obtain ⟨g1, h⟩ := gz_gu h
  obtain ⟨⟨r2, m3⟩, c4, h⟩ := gz_bd h
  obtain ⟨g5, h⟩ := gz_gu h
  refine gz_Vs (fun _ kk => cc_J14_83 (pc := 46) hX (fun _ => g1) c4 ⟨Nat.le_of_ble_eq_true rfl, Nat.le_of_ble_eq_true rfl⟩ (rest := []) rfl (Nat.le_of_ble_eq_true rfl) dJ14_append_46 kk) g5 ?_
  refine gz_Vif (μ1 := m) (μ2 := m) (fun _ k1 k2 => gz_if_eq (pc := 49) (tgt := 56) hX dJ14_append_49 (by decide) k1 k2) (by first | exact Classical.em _ | exact (Classical.em _).symm) (fun g6 => ?_) (fun g6 => ?_)
  · replace h := gz_it' g6 h
    exact wb_J14_append_56 hX h hk
  · replace h := gz_if' g6 h
    refine gz_Vs (fun _ kk => gz_aload_n (pc := 52) hX dJ14_append_52 rfl 0 rfl kk) rfl ?_
    exact nomatch h
noncomputable def mj_J14_append_75 (c0 : Nat) (m : gM) : Option (Nat × gM) :=
  some (c0, m)
theorem wb_J14_append_75 {X : gz_X} {G : gz_G} {zE : Nat × Nat} (hX : gz_C cS X G cJ14_append 2 RJ14 4 104) {c0 : Nat}  {m : gM} {z : (Nat × gM)} (h : mj_J14_append_75 c0 m = some z) (hk : (fun z : (Nat × gM) => gz_kRa cS X G 2 zE cJ14_append z.2 z.1) z) : gz_Va cS X G 2 zE m 75 [(0, .ref (gz_ad G c0))] [] := by
  unfold mj_J14_append_75 at h
  refine gz_Vs (fun _ kk => gz_aload_n (pc := 75) hX dJ14_append_75 rfl 0 rfl kk) rfl ?_
  obtain rfl := Option.some.inj h
  exact hk _ _ dJ14_append_76
noncomputable def cf_J14_append (c0 : Nat) (x1 : Int32) (m : gM) : Option (Nat × gM) :=
  (if gK m c0 = 23 then (if gK m c0 = 23 then ((cf_J14_ensureCapacityInternal c0 ((gI m c0 3) + (1 : Int32)) m).bind fun (_, m4) => (if gZ m ≤ gZ m4 ∧ gW m ≤ gW m4 then (if gK m4 c0 = 23 then ((cf_J14_isLatin1 c0 m4).bind fun (r8, m9) => (if m9.2.2.2.2.2 = m4.2.2.2.2.2 then (if r8 = (0 : Int32) then (mj_J14_append_45 c0 x1 m9) else ((cf_J11_canEncode x1 m9).bind fun (r13, m14) => (if m14.2.2.2.2.2 = m9.2.2.2.2.2 then (if r13 = (0 : Int32) then (mj_J14_append_45 c0 x1 m14) else (if gK m14 c0 = 23 then gz_let (gP m14 c0 0) fun r19 => (if r19 ≠ 0 then (if gK m14 c0 = 23 then (if gK m14 c0 = 23 then (if 1000 ≤ c0 then gz_let (gz_sI m14 c0 3 ((gI m14 c0 3) + (1 : Int32))) fun m24 => (if gK m24 r19 = 102 ∧ 1000 ≤ r19 then (if gz_in (gI m14 c0 3) (gN m24 r19) then gz_let (gz_sI m24 r19 (gz_ix (gI m14 c0 3)) ((x1.toInt8.toInt32).toInt8.toInt32)) fun m27 => (mj_J14_append_75 c0 m27) else none) else none) else none) else none) else none) else none) else none)) else none))) else none)) else none) else none)) else none) else none)
theorem wm_J14_append {X : gz_X} {G : gz_G} {zE : Nat × Nat} (hX : gz_C cS X G cJ14_append 2 RJ14 4 104) {c0 : Nat} {x1 : Int32}  {m : gM} {z : (Nat × gM)} (h : cf_J14_append c0 x1 m = some z) (hk : (fun z : (Nat × gM) => gz_kRa cS X G 2 zE cJ14_append z.2 z.1) z) : gz_Va cS X G 2 zE m 0 [(0, .ref (gz_ad G c0)), (1, .int x1)] [] := by
  unfold cf_J14_append at h
  refine gz_Vs (fun _ kk => gz_aload_n (pc := 0) hX dJ14_append_0 rfl 0 rfl kk) rfl ?_
  refine gz_Vs (fun _ kk => gz_aload_n (pc := 1) hX dJ14_append_1 rfl 0 rfl kk) rfl ?_
  obtain ⟨g1, h⟩ := gz_gu h
  refine gz_Vs (fun _ kk => cg_J14_79_22 (pc := 2) hX (c := c0) (v := .int (gI m c0 3)) (fun _ => g1) (fun _ => rfl) dJ14_append_2 kk) rfl ?_
  refine gz_Vs (fun _ kk => gz_iconst (pc := 5) (v := (1 : Int32)) hX dJ14_append_5 (by decide) kk) rfl ?_
  refine gz_Vs (fun _ kk => gz_iadd (pc := 6) hX dJ14_append_6 kk) rfl ?_
  obtain ⟨g2, h⟩ := gz_gu h
  obtain ⟨⟨⟨⟩, m4⟩, c5, h⟩ := gz_bd h
  obtain ⟨g6, h⟩ := gz_gu h
  refine gz_Vc (k := gZ m4 - gZ m) (n := gW m4 - gW m) (fun _ kk => cc_J14_100 (pc := 7) hX (fun _ => g2) c5 ⟨Nat.le_of_ble_eq_true rfl, Nat.le_of_ble_eq_true rfl⟩ (rest := []) rfl (Nat.le_of_ble_eq_true rfl) dJ14_append_7 kk) ⟨by have := g6.1; dsimp only [gZ] at *; omega, by have := g6.2; dsimp only [gW] at *; omega⟩ ?_
  refine gz_Vs (fun _ kk => gz_aload_n (pc := 10) hX dJ14_append_10 rfl 0 rfl kk) rfl ?_
  obtain ⟨g7, h⟩ := gz_gu h
  obtain ⟨⟨r8, m9⟩, c10, h⟩ := gz_bd h
  obtain ⟨g11, h⟩ := gz_gu h
  refine gz_Vs (fun _ kk => cc_J14_83 (pc := 11) hX (fun _ => g7) c10 ⟨Nat.le_of_ble_eq_true rfl, Nat.le_of_ble_eq_true rfl⟩ (rest := []) rfl (Nat.le_of_ble_eq_true rfl) dJ14_append_11 kk) g11 ?_
  refine gz_Vif (μ1 := m) (μ2 := m) (fun _ k1 k2 => gz_if_eq (pc := 14) (tgt := 45) hX dJ14_append_14 (by decide) k1 k2) (by first | exact Classical.em _ | exact (Classical.em _).symm) (fun g12 => ?_) (fun g12 => ?_)
  · replace h := gz_it' g12 h
    exact wb_J14_append_45 hX h hk
  · replace h := gz_if' g12 h
    refine gz_Vs (fun _ kk => gz_iload_n (pc := 17) hX dJ14_append_17 rfl 1 rfl kk) rfl ?_
    obtain ⟨⟨r13, m14⟩, c15, h⟩ := gz_bd h
    obtain ⟨g16, h⟩ := gz_gu h
    refine gz_Vs (fun _ kk => cc_J14_191 (pc := 18) hX c15 ⟨Nat.le_of_ble_eq_true rfl, Nat.le_of_ble_eq_true rfl⟩ (rest := []) rfl (Nat.le_of_ble_eq_true rfl) dJ14_append_18 kk) g16 ?_
    refine gz_Vif (μ1 := m) (μ2 := m) (fun _ k1 k2 => gz_if_eq (pc := 21) (tgt := 45) hX dJ14_append_21 (by decide) k1 k2) (by first | exact Classical.em _ | exact (Classical.em _).symm) (fun g17 => ?_) (fun g17 => ?_)
    · replace h := gz_it' g17 h
      exact wb_J14_append_45 hX h hk
    · replace h := gz_if' g17 h
      refine gz_Vs (fun _ kk => gz_aload_n (pc := 24) hX dJ14_append_24 rfl 0 rfl kk) rfl ?_
      obtain ⟨g18, h⟩ := gz_gu h
      obtain ⟨r19, er19, h⟩ := gz_lt h
      obtain ⟨g20, h⟩ := gz_gu h
      refine gz_Vs (fun _ kk => cg_J14_15_22 (pc := 25) hX (c := c0) (v := .ref (gz_ad G r19)) (fun _ => g18) (fun _ => gz_rq er19 g20) dJ14_append_25 kk) rfl ?_
      refine gz_Vs (fun _ kk => gz_aload_n (pc := 28) hX dJ14_append_28 rfl 0 rfl kk) rfl ?_
      refine gz_Vs (fun _ kk => gz_dup (pc := 29) hX dJ14_append_29 rfl kk) rfl ?_
      obtain ⟨g21, h⟩ := gz_gu h
      refine gz_Vs (fun _ kk => cg_J14_79_22 (pc := 30) hX (c := c0) (v := .int (gI m14 c0 3)) (fun _ => g21) (fun _ => rfl) dJ14_append_30 kk) rfl ?_
      refine gz_Vs (fun _ kk => gz_dup_x1 (pc := 33) hX dJ14_append_33 rfl rfl kk) rfl ?_
      refine gz_Vs (fun _ kk => gz_iconst (pc := 34) (v := (1 : Int32)) hX dJ14_append_34 (by decide) kk) rfl ?_
      refine gz_Vs (fun _ kk => gz_iadd (pc := 35) hX dJ14_append_35 kk) rfl ?_
      obtain ⟨g22, h⟩ := gz_gu h
      obtain ⟨g23, h⟩ := gz_gu h
      obtain ⟨m24, em24, h⟩ := gz_lt h
      refine gz_Vs (fun _ kk => cp_J14_79_22 (pc := 36) hX (c := c0) (fun _ => g22) g23 dJ14_append_36 em24 kk) (by rw [em24]; rfl) ?_
      refine gz_Vs (fun _ kk => gz_iload_n (pc := 39) hX dJ14_append_39 rfl 1 rfl kk) rfl ?_
      refine gz_Vs (fun _ kk => gz_i2b (pc := 40) hX dJ14_append_40 kk) rfl ?_
      obtain ⟨g25, h⟩ := gz_gu h
      obtain ⟨g26, h⟩ := gz_gu h
      obtain ⟨m27, em27, h⟩ := gz_lt h
      refine gz_Vs (fun _ kk => gz_bast2 (pc := 41) (c := r19) (n := gN m24 r19) hX rfl (fun _ => ⟨g25.1, rfl⟩) g25.2 g26 dJ14_append_41 em27 kk) (by rw [em27]; rfl) ?_
      refine gz_Vs (fun _ kk => gz_goto (pc := 42) (tgt := 75) hX dJ14_append_42 (by decide) kk) rfl ?_
      refine gz_Vs (fun _ kk => gz_sub (lw := [(0, .ref (gz_ad G c0))]) [0] rfl kk) rfl ?_
      exact wb_J14_append_75 hX h hk
theorem ct_J14_append {G : gz_G} {l : Launch} {c0 : Nat} {x1 : Int32}  {m m9 : gM} {r : Nat} (h : cf_J14_append c0 x1 m = some (r, m9)) : gz_Met cS G l yJ14_append cJ14_append 2 (some (.object "java/lang/AbstractStringBuilder")) (mRc 4 104 (gZ m9 - gZ m) (gW m9 - gW m)) [.ref (gz_ad G c0), .int x1] m m9 (some (.ref (gz_ad G r))) :=
  gz_ofR (Or.inl ⟨_, rfl⟩) (by decide +kernel) (Nat.le_of_ble_eq_true rfl) fun X _ hX hk => (wm_J14_append (zE := m9.2.2.2.2.2) hX h (fun pc lv hd => gz_Ve (hk pc lv hd))).2
theorem cg_X5_80_0 {X : gz_X} {G : gz_G} {cc : ByteArray} {nL fr lo pc : Nat} {rem : Nat × Nat} {m : gM} {lv : List (Nat × Value)} {st : List Value} (hX : gz_C cS X G cc nL RX5 fr lo) {c : Nat} {v : Value} (hK : clc m.1 m.2.1 m.2.2.2.2.1 → m.1 c = 0 + 1) (hv : clc m.1 m.2.1 m.2.2.2.2.1 → gz_u (gz_ad G) m (ftC 0 6) c 6 = v) (hd : decode cc pc = .ok (.getfield 80, 3)) (kk : gz_V cS X G nL rem m (pc + 3) lv (v :: st)) : gz_V cS X G nL rem m pc lv (.ref (gz_ad G c) :: st) :=
  gz_getf hX (C := RX0) (T := TX0) (N := 28) (ci := 0) (k := 6) rfl (by decide) in_X0 (by decide) (Or.inr ⟨_, va_Nw.use rfl (cz_n (Z := cS) hX q507 rfl)⟩) hd hK hv kk
theorem cg_X5_84_4 {X : gz_X} {G : gz_G} {cc : ByteArray} {nL fr lo pc : Nat} {rem : Nat × Nat} {m : gM} {lv : List (Nat × Value)} {st : List Value} (hX : gz_C cS X G cc nL RX5 fr lo) {c : Nat} {v : Value} (hK : clc m.1 m.2.1 m.2.2.2.2.1 → m.1 c = 4 + 1) (hv : clc m.1 m.2.1 m.2.2.2.2.1 → gz_u (gz_ad G) m (ftC 4 0) c 0 = v) (hd : decode cc pc = .ok (.getfield 84, 3)) (kk : gz_V cS X G nL rem m (pc + 3) lv (v :: st)) : gz_V cS X G nL rem m pc lv (.ref (gz_ad G c) :: st) :=
  gz_getf hX (C := RX4) (T := TX4) (N := 1) (ci := 4) (k := 0) rfl (by decide) in_X4 (by decide) (Or.inr ⟨_, va_Nw.use rfl (cz_n (Z := cS) hX q403 rfl)⟩) hd hK hv kk
theorem cc_X5_90 {X : gz_X} {G : gz_G} {cc : ByteArray} {nL fr lo pc : Nat} {rem : Nat × Nat} {lv : List (Nat × Value)} {rest st0 : List Value} (hX : gz_C cS X G cc nL RX5 fr lo) {c0 : Nat} {x1 : Int32} {m m9 : gM} (hK : clc m.1 m.2.1 m.2.2.2.2.1 → m.1 c0 = 5 + 1) (hs_c0 : cSt c0 = true) {r : Int32} (h : cf_X5_nearby c0 x1 m = some (r, m9)) (hroom : 4 + 1 ≤ fr ∧ 8 + (4 + 11) + 85 ≤ lo) (hst : st0 = [.int x1, .ref (gz_ad G c0)] ++ rest) (hW : (rest.map fun v => v.category).sum ≤ 8) (hd : decode cc pc = .ok (.invokevirtual 90, 3)) (kk : gz_V cS X G nL rem m9 (pc + 3) lv (.int r :: rest)) : gz_V cS X G nL rem m pc lv st0 :=
  gz_callV2 hX cs_E (As := [.int x1]) (rest := rest) (q := (RX5, TX5, 10)) (ci := 5) (c := c0) (ct_X5_nearby (l := X.2.1) hs_c0 h) (lw_V q1383 q1385 qs43 q178 q1386) (n := 1) (by decide +kernel) hroom rfl rfl (by decide) hK hst hW hd (rem := rem) kk
/-! FirstSnuffer$State.asks(I)V -/
noncomputable def cf_X5_asks (c0 : Nat) (x1 : Int32) (m : gM) : Option (Unit × gM) :=
  (if gz_in x1 (8) then (if gz_in (0 : Int32) (7) then gz_let (gz_sL m 1014 (gz_ix (0 : Int32)) ((gI m (c0 + 1) (gz_ix x1)).toInt64)) fun m3 => (if gz_in x1 (8) then (if gz_in (1 : Int32) (7) then gz_let (gz_sL m3 1014 (gz_ix (1 : Int32)) ((gI m3 (c0 + 4) (gz_ix x1)).toInt64)) fun m6 => ((cf_X5_nearby c0 x1 m6).bind fun (r7, m8) => (if gz_in (2 : Int32) (7) then gz_let (gz_sL m8 1014 (gz_ix (2 : Int32)) (r7.toInt64)) fun m11 => (if gz_in (3 : Int32) (7) then gz_let (gz_sL m11 1014 (gz_ix (3 : Int32)) ((gI m11 c0 0).toInt64)) fun m13 => some ((), m13) else none) else none)) else none) else none) else none) else none)
theorem wm_X5_asks {X : gz_X} {G : gz_G} (hX : gz_C cS X G cX5_asks 2 RX5 5 108) {c0 : Nat} {x1 : Int32} (hs_c0 : cSt c0 = true) {m : gM} {z : (Unit × gM)} (h : cf_X5_asks c0 x1 m = some z) (hk : (fun z : (Unit × gM) => gz_kV cS X G 2 (0, 0) cX5_asks z.2) z) : gz_V cS X G 2 (0, 0) m 0 [(0, .ref (gz_ad G c0)), (1, .int x1)] [] := by
  unfold cf_X5_asks at h
  refine gz_aload_n (pc := 0) hX dX5_asks_0 rfl 0 rfl ?_
  refine cg_X5_3_5 (pc := 1) hX (c := c0) (v := .ref (gz_ad G 1000)) (fun h => cz_k h (st_k hs_c0)) (fun h => cz_f h (st_0 hs_c0) (st_f9 hs_c0) (by decide) rfl) dX5_asks_1 ?_
  refine cg_X5_80_0 (pc := 4) hX (c := 1000) (v := .ref (gz_ad G 1013)) (fun h => cz_k h rfl) (fun h => cz_f h (by decide) rfl (by decide) rfl) dX5_asks_4 ?_
  refine cg_X5_84_4 (pc := 7) hX (c := 1013) (v := .ref (gz_ad G 1014)) (fun h => cz_k h rfl) (fun h => cz_f h (by decide) rfl (by decide) rfl) dX5_asks_7 ?_
  refine gz_iconst (pc := 10) (v := (0 : Int32)) hX dX5_asks_10 (by decide) ?_
  refine gz_aload_n (pc := 11) hX dX5_asks_11 rfl 0 rfl ?_
  refine cg_X5_15_5 (pc := 12) hX (c := c0) (v := .ref (gz_ad G (c0 + 1))) (fun h => cz_k h (st_k hs_c0)) (fun h => cz_f h (st_0 hs_c0) (st_f4 hs_c0) (by omega) rfl) dX5_asks_12 ?_
  refine gz_iload_n (pc := 15) hX dX5_asks_15 rfl 1 rfl ?_
  obtain ⟨g1, h⟩ := gz_gu h
  refine gz_iald2 (pc := 16) (c := (c0 + 1)) (n := 8) hX rfl (fun h => cz_a h (st_a1 hs_c0).1 (by decide) (st_a1 hs_c0).2) g1 dX5_asks_16 ?_
  refine gz_i2l (pc := 17) hX dX5_asks_17 ?_
  obtain ⟨g2, h⟩ := gz_gu h
  obtain ⟨m3, em3, h⟩ := gz_lt h
  refine gz_last2 (pc := 18) (c := 1014) (n := 7) hX rfl (fun h => cz_a h rfl (by decide) rfl) (Nat.le_of_ble_eq_true rfl) g2 dX5_asks_18 em3 ?_
  refine gz_aload_n (pc := 19) hX dX5_asks_19 rfl 0 rfl ?_
  refine cg_X5_3_5 (pc := 20) hX (c := c0) (v := .ref (gz_ad G 1000)) (fun h => cz_k h (st_k hs_c0)) (fun h => cz_f h (st_0 hs_c0) (st_f9 hs_c0) (by decide) rfl) dX5_asks_20 ?_
  refine cg_X5_80_0 (pc := 23) hX (c := 1000) (v := .ref (gz_ad G 1013)) (fun h => cz_k h rfl) (fun h => cz_f h (by decide) rfl (by decide) rfl) dX5_asks_23 ?_
  refine cg_X5_84_4 (pc := 26) hX (c := 1013) (v := .ref (gz_ad G 1014)) (fun h => cz_k h rfl) (fun h => cz_f h (by decide) rfl (by decide) rfl) dX5_asks_26 ?_
  refine gz_iconst (pc := 29) (v := (1 : Int32)) hX dX5_asks_29 (by decide) ?_
  refine gz_aload_n (pc := 30) hX dX5_asks_30 rfl 0 rfl ?_
  refine cg_X5_25_5 (pc := 31) hX (c := c0) (v := .ref (gz_ad G (c0 + 4))) (fun h => cz_k h (st_k hs_c0)) (fun h => cz_f h (st_0 hs_c0) (st_f7 hs_c0) (by omega) rfl) dX5_asks_31 ?_
  refine gz_iload_n (pc := 34) hX dX5_asks_34 rfl 1 rfl ?_
  obtain ⟨g4, h⟩ := gz_gu h
  refine gz_iald2 (pc := 35) (c := (c0 + 4)) (n := 8) hX rfl (fun h => cz_a h (st_a4 hs_c0).1 (by decide) (st_a4 hs_c0).2) g4 dX5_asks_35 ?_
  refine gz_i2l (pc := 36) hX dX5_asks_36 ?_
  obtain ⟨g5, h⟩ := gz_gu h
  obtain ⟨m6, em6, h⟩ := gz_lt h
  refine gz_last2 (pc := 37) (c := 1014) (n := 7) hX rfl (fun h => cz_a h rfl (by decide) rfl) (Nat.le_of_ble_eq_true rfl) g5 dX5_asks_37 em6 ?_
  refine gz_aload_n (pc := 38) hX dX5_asks_38 rfl 0 rfl ?_
  refine cg_X5_3_5 (pc := 39) hX (c := c0) (v := .ref (gz_ad G 1000)) (fun h => cz_k h (st_k hs_c0)) (fun h => cz_f h (st_0 hs_c0) (st_f9 hs_c0) (by decide) rfl) dX5_asks_39 ?_
  refine cg_X5_80_0 (pc := 42) hX (c := 1000) (v := .ref (gz_ad G 1013)) (fun h => cz_k h rfl) (fun h => cz_f h (by decide) rfl (by decide) rfl) dX5_asks_42 ?_
  refine cg_X5_84_4 (pc := 45) hX (c := 1013) (v := .ref (gz_ad G 1014)) (fun h => cz_k h rfl) (fun h => cz_f h (by decide) rfl (by decide) rfl) dX5_asks_45 ?_
  refine gz_iconst (pc := 48) (v := (2 : Int32)) hX dX5_asks_48 (by decide) ?_
  refine gz_aload_n (pc := 49) hX dX5_asks_49 rfl 0 rfl ?_
  refine gz_iload_n (pc := 50) hX dX5_asks_50 rfl 1 rfl ?_
  obtain ⟨⟨r7, m8⟩, c9, h⟩ := gz_bd h
  refine cc_X5_90 (pc := 51) hX (fun h => cz_k h (st_k hs_c0)) hs_c0 c9 ⟨Nat.le_of_ble_eq_true rfl, Nat.le_of_ble_eq_true rfl⟩ (rest := [.int (2 : Int32), .ref (gz_ad G 1014)]) rfl (Nat.le_of_ble_eq_true rfl) dX5_asks_51 ?_
  refine gz_i2l (pc := 54) hX dX5_asks_54 ?_
  obtain ⟨g10, h⟩ := gz_gu h
  obtain ⟨m11, em11, h⟩ := gz_lt h
  refine gz_last2 (pc := 55) (c := 1014) (n := 7) hX rfl (fun h => cz_a h rfl (by decide) rfl) (Nat.le_of_ble_eq_true rfl) g10 dX5_asks_55 em11 ?_
  refine gz_aload_n (pc := 56) hX dX5_asks_56 rfl 0 rfl ?_
  refine cg_X5_3_5 (pc := 57) hX (c := c0) (v := .ref (gz_ad G 1000)) (fun h => cz_k h (st_k hs_c0)) (fun h => cz_f h (st_0 hs_c0) (st_f9 hs_c0) (by decide) rfl) dX5_asks_57 ?_
  refine cg_X5_80_0 (pc := 60) hX (c := 1000) (v := .ref (gz_ad G 1013)) (fun h => cz_k h rfl) (fun h => cz_f h (by decide) rfl (by decide) rfl) dX5_asks_60 ?_
  refine cg_X5_84_4 (pc := 63) hX (c := 1013) (v := .ref (gz_ad G 1014)) (fun h => cz_k h rfl) (fun h => cz_f h (by decide) rfl (by decide) rfl) dX5_asks_63 ?_
  refine gz_iconst (pc := 66) (v := (3 : Int32)) hX dX5_asks_66 (by decide) ?_
  refine gz_aload_n (pc := 67) hX dX5_asks_67 rfl 0 rfl ?_
  refine cg_X5_33_5 (pc := 68) hX (c := c0) (v := .int (gI m11 c0 0)) (fun h => cz_k h (st_k hs_c0)) (fun _ => rfl) dX5_asks_68 ?_
  refine gz_i2l (pc := 71) hX dX5_asks_71 ?_
  obtain ⟨g12, h⟩ := gz_gu h
  obtain ⟨m13, em13, h⟩ := gz_lt h
  refine gz_last2 (pc := 72) (c := 1014) (n := 7) hX rfl (fun h => cz_a h rfl (by decide) rfl) (Nat.le_of_ble_eq_true rfl) g12 dX5_asks_72 em13 ?_
  obtain rfl := Option.some.inj h
  exact hk _ _ dX5_asks_73
theorem ct_X5_asks {G : gz_G} {l : Launch} {c0 : Nat} {x1 : Int32} (hs_c0 : cSt c0 = true) {m m9 : gM} (h : cf_X5_asks c0 x1 m = some ((), m9)) : gz_Met cS G l yX5_asks cX5_asks 2 none (mRm 5 108) [.ref (gz_ad G c0), .int x1] m m9 none :=
  gz_ofV (by decide +kernel) (Nat.le_of_ble_eq_true rfl) fun X _ hX hk => wm_X5_asks hX hs_c0 h hk
theorem cc_X5_162 {X : gz_X} {G : gz_G} {cc : ByteArray} {nL fr lo pc : Nat} {rem : Nat × Nat} {lv : List (Nat × Value)} {rest st0 : List Value} (hX : gz_C cS X G cc nL RX5 fr lo) {c0 : Nat} {x1 : Int32} {x2 : Int32} {m m9 : gM} (hK : clc m.1 m.2.1 m.2.2.2.2.1 → m.1 c0 = 5 + 1) (hs_c0 : cSt c0 = true) {r : Int32} (h : cf_X5_mayLight c0 x1 x2 m = some (r, m9)) (hroom : 4 + 1 ≤ fr ∧ 8 + (5 + 11) + 85 ≤ lo) (hst : st0 = [.int x2, .int x1, .ref (gz_ad G c0)] ++ rest) (hW : (rest.map fun v => v.category).sum ≤ 8) (hd : decode cc pc = .ok (.invokevirtual 162, 3)) (kk : gz_V cS X G nL rem m9 (pc + 3) lv (.int r :: rest)) : gz_V cS X G nL rem m pc lv st0 :=
  gz_callV2 hX cs_E (As := [.int x1, .int x2]) (rest := rest) (q := (RX5, TX5, 10)) (ci := 5) (c := c0) (ct_X5_mayLight (l := X.2.1) hs_c0 h) (lw_V q1605 q1607 qs59 q178 q1608) (n := 2) (by decide +kernel) hroom rfl rfl (by decide) hK hst hW hd (rem := rem) kk
/-! FirstSnuffer$State.mayBeLit(II)Z -/
def mP_X5_mayBeLit_2 (X : gz_X) (G : gz_G) (c0 : Nat) (q : (Int32 × Int32 × Int32 × gM)) : Prop := gz_V cS X G 4 (0, 0) q.2.2.2 2 [(0, .ref (gz_ad G c0)), (1, .int q.1), (2, .int q.2.1), (3, .int q.2.2.1)] []
noncomputable def mj_X5_mayBeLit_32 (c0 : Nat) (x1 : Int32) (x2 : Int32) (x3 : Int32) (m : gM) : Option ((Int32 × Int32 × Int32 × gM) ⊕ (Int32 × gM)) :=
  gz_let (x3 + (1 : Int32)) fun y1 => some (Sum.inl (x1, x2, y1, m))
theorem wb_X5_mayBeLit_32 {X : gz_X} {G : gz_G} (hX : gz_C cS X G cX5_mayBeLit 4 RX5 5 109) {c0 : Nat} {x1 : Int32} {x2 : Int32} {x3 : Int32} (hs_c0 : cSt c0 = true) {m : gM} {z : ((Int32 × Int32 × Int32 × gM) ⊕ (Int32 × gM))} (h : mj_X5_mayBeLit_32 c0 x1 x2 x3 m = some z) (hk : (Sum.elim (mP_X5_mayBeLit_2 X G c0) (fun z : (Int32 × gM) => gz_kZ cS X G 4 (0, 0) cX5_mayBeLit z.2 z.1)) z) : gz_V cS X G 4 (0, 0) m 32 [(0, .ref (gz_ad G c0)), (1, .int x1), (2, .int x2), (3, .int x3)] [] := by
  unfold mj_X5_mayBeLit_32 at h
  obtain ⟨y1, ey1, h⟩ := gz_lt h
  refine gz_iinc (pc := 32) (v := y1) (lw := [(3, .int y1), (0, .ref (gz_ad G c0)), (1, .int x1), (2, .int x2)]) hX dX5_mayBeLit_32 (k := 3) rfl (by rw [ey1]; rfl) (by decide) rfl ?_
  refine gz_goto (pc := 35) (tgt := 2) hX dX5_mayBeLit_35 (by decide) ?_
  refine gz_sub (lw := [(0, .ref (gz_ad G c0)), (1, .int x1), (2, .int x2), (3, .int y1)]) [1, 2, 3, 0] rfl ?_
  obtain rfl := Option.some.inj h
  exact hk
noncomputable def mb_X5_mayBeLit_2 (c0 : Nat) (x1 : Int32) (x2 : Int32) (x3 : Int32) (m : gM) : Option ((Int32 × Int32 × Int32 × gM) ⊕ (Int32 × gM)) :=
  ((cf_X0_things m).bind fun (r1, m2) => (if r1 ≤ x3 then some (Sum.inr ((0 : Int32), m2)) else ((cf_X0_has x2 x3 m2).bind fun (r5, m6) => (if r5 = (0 : Int32) then (mj_X5_mayBeLit_32 c0 x1 x2 x3 m6) else ((cf_X5_mayLight c0 x3 x1 m6).bind fun (r9, m10) => (if r9 = (0 : Int32) then (mj_X5_mayBeLit_32 c0 x1 x2 x3 m10) else some (Sum.inr ((1 : Int32), m10))))))))
theorem wb_X5_mayBeLit_2 {X : gz_X} {G : gz_G} (hX : gz_C cS X G cX5_mayBeLit 4 RX5 5 109) {c0 : Nat} {x1 : Int32} {x2 : Int32} {x3 : Int32} (hs_c0 : cSt c0 = true) {m : gM} {z : ((Int32 × Int32 × Int32 × gM) ⊕ (Int32 × gM))} (h : mb_X5_mayBeLit_2 c0 x1 x2 x3 m = some z) (hk : (Sum.elim (mP_X5_mayBeLit_2 X G c0) (fun z : (Int32 × gM) => gz_kZ cS X G 4 (0, 0) cX5_mayBeLit z.2 z.1)) z) : gz_V cS X G 4 (0, 0) m 2 [(0, .ref (gz_ad G c0)), (1, .int x1), (2, .int x2), (3, .int x3)] [] := by
  unfold mb_X5_mayBeLit_2 at h
  refine gz_iload_n (pc := 2) hX dX5_mayBeLit_2 rfl 3 rfl ?_
  refine gz_aload_n (pc := 3) hX dX5_mayBeLit_3 rfl 0 rfl ?_
  refine cg_X5_3_5 (pc := 4) hX (c := c0) (v := .ref (gz_ad G 1000)) (fun h => cz_k h (st_k hs_c0)) (fun h => cz_f h (st_0 hs_c0) (st_f9 hs_c0) (by decide) rfl) dX5_mayBeLit_4 ?_
  obtain ⟨⟨r1, m2⟩, c3, h⟩ := gz_bd h
  refine cc_X5_59 (pc := 7) hX (fun h => cz_k h rfl) c3 ⟨Nat.le_of_ble_eq_true rfl, Nat.le_of_ble_eq_true rfl⟩ (rest := [.int x3]) rfl (Nat.le_of_ble_eq_true rfl) dX5_mayBeLit_7 ?_
  refine gz_icmp_ge (pc := 10) (tgt := 38) hX dX5_mayBeLit_10 (by decide) (fun g4 => ?_) (fun g4 => ?_)
  · replace h := gz_it' g4 h
    refine gz_iconst (pc := 38) (v := (0 : Int32)) hX dX5_mayBeLit_38 (by decide) ?_
    obtain rfl := Option.some.inj h
    exact hk _ _ dX5_mayBeLit_39 (Or.inl rfl)
  · replace h := gz_if' g4 h
    refine gz_iload_n (pc := 13) hX dX5_mayBeLit_13 rfl 2 rfl ?_
    refine gz_iload_n (pc := 14) hX dX5_mayBeLit_14 rfl 3 rfl ?_
    obtain ⟨⟨r5, m6⟩, c7, h⟩ := gz_bd h
    refine cc_X5_140 (pc := 15) hX c7 ⟨Nat.le_of_ble_eq_true rfl, Nat.le_of_ble_eq_true rfl⟩ (rest := []) rfl (Nat.le_of_ble_eq_true rfl) dX5_mayBeLit_15 ?_
    refine gz_if_eq (pc := 18) (tgt := 32) hX dX5_mayBeLit_18 (by decide) (fun g8 => ?_) (fun g8 => ?_)
    · replace h := gz_it' g8 h
      exact wb_X5_mayBeLit_32 hX hs_c0 h hk
    · replace h := gz_if' g8 h
      refine gz_aload_n (pc := 21) hX dX5_mayBeLit_21 rfl 0 rfl ?_
      refine gz_iload_n (pc := 22) hX dX5_mayBeLit_22 rfl 3 rfl ?_
      refine gz_iload_n (pc := 23) hX dX5_mayBeLit_23 rfl 1 rfl ?_
      obtain ⟨⟨r9, m10⟩, c11, h⟩ := gz_bd h
      refine cc_X5_162 (pc := 24) hX (fun h => cz_k h (st_k hs_c0)) hs_c0 c11 ⟨Nat.le_of_ble_eq_true rfl, Nat.le_of_ble_eq_true rfl⟩ (rest := []) rfl (Nat.le_of_ble_eq_true rfl) dX5_mayBeLit_24 ?_
      refine gz_if_eq (pc := 27) (tgt := 32) hX dX5_mayBeLit_27 (by decide) (fun g12 => ?_) (fun g12 => ?_)
      · replace h := gz_it' g12 h
        exact wb_X5_mayBeLit_32 hX hs_c0 h hk
      · replace h := gz_if' g12 h
        refine gz_iconst (pc := 30) (v := (1 : Int32)) hX dX5_mayBeLit_30 (by decide) ?_
        obtain rfl := Option.some.inj h
        exact hk _ _ dX5_mayBeLit_31 (Or.inr rfl)
noncomputable def ml_X5_mayBeLit_2 (c0 : Nat) (x1 : Int32) (x2 : Int32) (x3 : Int32) (m : gM) : Option (Int32 × gM) := gz_loop (fun q : (Int32 × Int32 × Int32 × gM) => mb_X5_mayBeLit_2 c0 q.1 q.2.1 q.2.2.1 q.2.2.2) (x1, x2, x3, m)
theorem wl_X5_mayBeLit_2 {X : gz_X} {G : gz_G} (hX : gz_C cS X G cX5_mayBeLit 4 RX5 5 109) {c0 : Nat} {x1 : Int32} {x2 : Int32} {x3 : Int32} (hs_c0 : cSt c0 = true) {m : gM} {z : (Int32 × gM)} (h : ml_X5_mayBeLit_2 c0 x1 x2 x3 m = some z) (hk : (fun z : (Int32 × gM) => gz_kZ cS X G 4 (0, 0) cX5_mayBeLit z.2 z.1) z) : gz_V cS X G 4 (0, 0) m 2 [(0, .ref (gz_ad G c0)), (1, .int x1), (2, .int x2), (3, .int x3)] [] := by
  have hp : mP_X5_mayBeLit_2 X G c0 (x1, x2, x3, m) := gz_loop_ind (fun q z hz hkz => wb_X5_mayBeLit_2 hX hs_c0 hz hkz) h hk
  exact hp
noncomputable def cf_X5_mayBeLit (c0 : Nat) (x1 : Int32) (x2 : Int32) (m : gM) : Option (Int32 × gM) :=
  (ml_X5_mayBeLit_2 c0 x1 x2 (0 : Int32) m)
theorem wm_X5_mayBeLit {X : gz_X} {G : gz_G} (hX : gz_C cS X G cX5_mayBeLit 4 RX5 5 109) {c0 : Nat} {x1 : Int32} {x2 : Int32} (hs_c0 : cSt c0 = true) {m : gM} {z : (Int32 × gM)} (h : cf_X5_mayBeLit c0 x1 x2 m = some z) (hk : (fun z : (Int32 × gM) => gz_kZ cS X G 4 (0, 0) cX5_mayBeLit z.2 z.1) z) : gz_V cS X G 4 (0, 0) m 0 [(0, .ref (gz_ad G c0)), (1, .int x1), (2, .int x2)] [] := by
  unfold cf_X5_mayBeLit at h
  refine gz_iconst (pc := 0) (v := (0 : Int32)) hX dX5_mayBeLit_0 (by decide) ?_
  refine gz_istore_n (pc := 1) (lw := [(3, .int (0 : Int32)), (0, .ref (gz_ad G c0)), (1, .int x1), (2, .int x2)]) hX dX5_mayBeLit_1 rfl (by decide) rfl ?_
  refine gz_sub (lw := [(0, .ref (gz_ad G c0)), (1, .int x1), (2, .int x2), (3, .int (0 : Int32))]) [1, 2, 3, 0] rfl ?_
  exact wl_X5_mayBeLit_2 hX hs_c0 h hk
theorem ct_X5_mayBeLit {G : gz_G} {l : Launch} {c0 : Nat} {x1 : Int32} {x2 : Int32} (hs_c0 : cSt c0 = true) {m m9 : gM} {r : Int32} (h : cf_X5_mayBeLit c0 x1 x2 m = some (r, m9)) : gz_Met cS G l yX5_mayBeLit cX5_mayBeLit 4 (some .boolean) (mRm 5 109) [.ref (gz_ad G c0), .int x1, .int x2] m m9 (some (.int r)) :=
  gz_ofZ (by decide +kernel) (Nat.le_of_ble_eq_true rfl) fun X _ hX hk => wm_X5_mayBeLit hX hs_c0 h hk
theorem cc_X0_333 {X : gz_X} {G : gz_G} {cc : ByteArray} {nL fr lo pc : Nat} {rem : Nat × Nat} {lv : List (Nat × Value)} {rest st0 : List Value} (hX : gz_C cS X G cc nL RX0 fr lo) {c0 : Nat} {x1 : Int32} {x2 : Int32} {m m9 : gM} (hK : clc m.1 m.2.1 m.2.2.2.2.1 → m.1 c0 = 5 + 1) (hs_c0 : cSt c0 = true) {r : Int32} (h : cf_X5_mayBeLit c0 x1 x2 m = some (r, m9)) (hroom : 5 + 1 ≤ fr ∧ 8 + (4 + 11) + 109 ≤ lo) (hst : st0 = [.int x2, .int x1, .ref (gz_ad G c0)] ++ rest) (hW : (rest.map fun v => v.category).sum ≤ 8) (hd : decode cc pc = .ok (.invokevirtual 333, 3)) (kk : gz_V cS X G nL rem m9 (pc + 3) lv (.int r :: rest)) : gz_V cS X G nL rem m pc lv st0 :=
  gz_callV2 hX cs_E (As := [.int x1, .int x2]) (rest := rest) (q := (RX5, TX5, 10)) (ci := 5) (c := c0) (ct_X5_mayBeLit (l := X.2.1) hs_c0 h) (lw_V q1601 q1602 q1603 q178 q1604) (n := 2) (by decide +kernel) hroom rfl rfl (by decide) hK hst hW hd (rem := rem) kk
/-! FirstSnuffer.lightings(I)I -/
def mP_X0_lightings_20 (X : gz_X) (G : gz_G) (q : (Int32 × Int32 × Int32 × gM)) : Prop := gz_V cS X G 6 (0, 0) q.2.2.2 20 [(0, .ref (gz_ad G 1000)), (1, .int q.1), (2, .int q.2.1), (3, .int q.2.2.1)] []
def mP_X0_lightings_42 (X : gz_X) (G : gz_G) (q : (Int32 × Int32 × Int32 × Int32 × Int32 × gM)) : Prop := gz_V cS X G 6 (0, 0) q.2.2.2.2.2 42 [(0, .ref (gz_ad G 1000)), (1, .int q.1), (2, .int q.2.1), (3, .int q.2.2.1), (4, .int q.2.2.2.1), (5, .int q.2.2.2.2.1)] []
noncomputable def mj_X0_lightings_74 (x1 : Int32) (x2 : Int32) (x3 : Int32) (x5 : Int32) (s0 : Int32) (s1 : Int32) (m : gM) : Option ((Int32 × Int32 × Int32 × Int32 × Int32 × gM) ⊕ ((Int32 × Int32 × Int32 × gM) ⊕ (Int32 × gM))) :=
  gz_let ((s1 ||| s0)) fun y1 => gz_let (x5 + (1 : Int32)) fun y2 => some (Sum.inl (x1, x2, x3, y1, y2, m))
theorem wb_X0_lightings_74 {X : gz_X} {G : gz_G} (hX : gz_C cS X G cX0_lightings 6 RX0 6 132) {x1 : Int32} {x2 : Int32} {x3 : Int32} {x5 : Int32} {s0 : Int32} {s1 : Int32}  {m : gM} {z : ((Int32 × Int32 × Int32 × Int32 × Int32 × gM) ⊕ ((Int32 × Int32 × Int32 × gM) ⊕ (Int32 × gM)))} (h : mj_X0_lightings_74 x1 x2 x3 x5 s0 s1 m = some z) (hk : (Sum.elim (mP_X0_lightings_42 X G) (Sum.elim (mP_X0_lightings_20 X G) (fun z : (Int32 × gM) => gz_kI cS X G 6 (0, 0) cX0_lightings z.2 z.1))) z) : gz_V cS X G 6 (0, 0) m 74 [(0, .ref (gz_ad G 1000)), (1, .int x1), (2, .int x2), (3, .int x3), (5, .int x5)] [.int s0, .int s1] := by
  unfold mj_X0_lightings_74 at h
  refine gz_ior (pc := 74) hX dX0_lightings_74 ?_
  obtain ⟨y1, ey1, h⟩ := gz_lt h
  refine gz_topi ey1 ?_
  refine gz_istore (pc := 75) (lw := [(4, .int y1), (0, .ref (gz_ad G 1000)), (1, .int x1), (2, .int x2), (3, .int x3), (5, .int x5)]) hX dX0_lightings_75 (by decide) rfl ?_
  obtain ⟨y2, ey2, h⟩ := gz_lt h
  refine gz_iinc (pc := 77) (v := y2) (lw := [(5, .int y2), (4, .int y1), (0, .ref (gz_ad G 1000)), (1, .int x1), (2, .int x2), (3, .int x3)]) hX dX0_lightings_77 (k := 5) rfl (by rw [ey2]; rfl) (by decide) rfl ?_
  refine gz_goto (pc := 80) (tgt := 42) hX dX0_lightings_80 (by decide) ?_
  refine gz_sub (lw := [(0, .ref (gz_ad G 1000)), (1, .int x1), (2, .int x2), (3, .int x3), (4, .int y1), (5, .int y2)]) [2, 3, 4, 5, 1, 0] rfl ?_
  obtain rfl := Option.some.inj h
  exact hk
noncomputable def mb_X0_lightings_42 (x1 : Int32) (x2 : Int32) (x3 : Int32) (x4 : Int32) (x5 : Int32) (m : gM) : Option ((Int32 × Int32 × Int32 × Int32 × Int32 × gM) ⊕ ((Int32 × Int32 × Int32 × gM) ⊕ (Int32 × gM))) :=
  ((cf_X0_things m).bind fun (r1, m2) => (if r1 ≤ x5 then gz_let (x3 + (1 : Int32)) fun y5 => some (Sum.inr (Sum.inl (x1, x4, y5, m2))) else ((cf_X5_mayBeLit 1027 x5 x2 m2).bind fun (r6, m7) => (if r6 = (0 : Int32) then (mj_X0_lightings_74 x1 x2 x3 x5 (0 : Int32) x4 m7) else (mj_X0_lightings_74 x1 x2 x3 x5 ((1 : Int32) <<< (x5 &&& 31)) x4 m7)))))
theorem wb_X0_lightings_42 {X : gz_X} {G : gz_G} (hX : gz_C cS X G cX0_lightings 6 RX0 6 132) {x1 : Int32} {x2 : Int32} {x3 : Int32} {x4 : Int32} {x5 : Int32}  {m : gM} {z : ((Int32 × Int32 × Int32 × Int32 × Int32 × gM) ⊕ ((Int32 × Int32 × Int32 × gM) ⊕ (Int32 × gM)))} (h : mb_X0_lightings_42 x1 x2 x3 x4 x5 m = some z) (hk : (Sum.elim (mP_X0_lightings_42 X G) (Sum.elim (mP_X0_lightings_20 X G) (fun z : (Int32 × gM) => gz_kI cS X G 6 (0, 0) cX0_lightings z.2 z.1))) z) : gz_V cS X G 6 (0, 0) m 42 [(0, .ref (gz_ad G 1000)), (1, .int x1), (2, .int x2), (3, .int x3), (4, .int x4), (5, .int x5)] [] := by
  unfold mb_X0_lightings_42 at h
  refine gz_iload (pc := 42) hX dX0_lightings_42 5 rfl ?_
  refine gz_aload_n (pc := 44) hX dX0_lightings_44 rfl 0 rfl ?_
  obtain ⟨⟨r1, m2⟩, c3, h⟩ := gz_bd h
  refine cc_X0_181 (pc := 45) hX (fun h => cz_k h rfl) c3 ⟨Nat.le_of_ble_eq_true rfl, Nat.le_of_ble_eq_true rfl⟩ (rest := [.int x5]) rfl (Nat.le_of_ble_eq_true rfl) dX0_lightings_45 ?_
  refine gz_icmp_ge (pc := 48) (tgt := 83) hX dX0_lightings_48 (by decide) (fun g4 => ?_) (fun g4 => ?_)
  · replace h := gz_it' g4 h
    refine gz_iload (pc := 83) hX dX0_lightings_83 4 rfl ?_
    refine gz_istore_n (pc := 85) (lw := [(2, .int x4), (0, .ref (gz_ad G 1000)), (1, .int x1), (3, .int x3), (4, .int x4), (5, .int x5)]) hX dX0_lightings_85 rfl (by decide) rfl ?_
    obtain ⟨y5, ey5, h⟩ := gz_lt h
    refine gz_iinc (pc := 86) (v := y5) (lw := [(3, .int y5), (2, .int x4), (0, .ref (gz_ad G 1000)), (1, .int x1), (4, .int x4), (5, .int x5)]) hX dX0_lightings_86 (k := 3) rfl (by rw [ey5]; rfl) (by decide) rfl ?_
    refine gz_goto (pc := 89) (tgt := 20) hX dX0_lightings_89 (by decide) ?_
    refine gz_sub (lw := [(0, .ref (gz_ad G 1000)), (1, .int x1), (2, .int x4), (3, .int y5)]) [2, 3, 1, 0] rfl ?_
    obtain rfl := Option.some.inj h
    exact hk
  · replace h := gz_if' g4 h
    refine gz_iload (pc := 51) hX dX0_lightings_51 4 rfl ?_
    refine gz_aload_n (pc := 53) hX dX0_lightings_53 rfl 0 rfl ?_
    refine cg_X0_74_0 (pc := 54) hX (c := 1000) (v := .ref (gz_ad G 1027)) (fun h => cz_k h rfl) (fun h => cz_f h (by decide) rfl (by decide) rfl) dX0_lightings_54 ?_
    refine gz_iload (pc := 57) hX dX0_lightings_57 5 rfl ?_
    refine gz_iload_n (pc := 59) hX dX0_lightings_59 rfl 2 rfl ?_
    obtain ⟨⟨r6, m7⟩, c8, h⟩ := gz_bd h
    refine cc_X0_333 (pc := 60) hX (fun h => cz_k h rfl) (by decide) c8 ⟨Nat.le_of_ble_eq_true rfl, Nat.le_of_ble_eq_true rfl⟩ (rest := [.int x4]) rfl (Nat.le_of_ble_eq_true rfl) dX0_lightings_60 ?_
    refine gz_if_eq (pc := 63) (tgt := 73) hX dX0_lightings_63 (by decide) (fun g9 => ?_) (fun g9 => ?_)
    · replace h := gz_it' g9 h
      refine gz_iconst (pc := 73) (v := (0 : Int32)) hX dX0_lightings_73 (by decide) ?_
      refine gz_sub (lw := [(0, .ref (gz_ad G 1000)), (1, .int x1), (2, .int x2), (3, .int x3), (5, .int x5)]) [0, 1, 2, 3, 5] rfl ?_
      exact wb_X0_lightings_74 hX h hk
    · replace h := gz_if' g9 h
      refine gz_iconst (pc := 66) (v := (1 : Int32)) hX dX0_lightings_66 (by decide) ?_
      refine gz_iload (pc := 67) hX dX0_lightings_67 5 rfl ?_
      refine gz_ishl (pc := 69) hX dX0_lightings_69 ?_
      refine gz_goto (pc := 70) (tgt := 74) hX dX0_lightings_70 (by decide) ?_
      refine gz_sub (lw := [(0, .ref (gz_ad G 1000)), (1, .int x1), (2, .int x2), (3, .int x3), (5, .int x5)]) [0, 1, 2, 3, 5] rfl ?_
      exact wb_X0_lightings_74 hX h hk
noncomputable def ml_X0_lightings_42 (x1 : Int32) (x2 : Int32) (x3 : Int32) (x4 : Int32) (x5 : Int32) (m : gM) : Option ((Int32 × Int32 × Int32 × gM) ⊕ (Int32 × gM)) := gz_loop (fun q : (Int32 × Int32 × Int32 × Int32 × Int32 × gM) => mb_X0_lightings_42 q.1 q.2.1 q.2.2.1 q.2.2.2.1 q.2.2.2.2.1 q.2.2.2.2.2) (x1, x2, x3, x4, x5, m)
theorem wl_X0_lightings_42 {X : gz_X} {G : gz_G} (hX : gz_C cS X G cX0_lightings 6 RX0 6 132) {x1 : Int32} {x2 : Int32} {x3 : Int32} {x4 : Int32} {x5 : Int32}  {m : gM} {z : ((Int32 × Int32 × Int32 × gM) ⊕ (Int32 × gM))} (h : ml_X0_lightings_42 x1 x2 x3 x4 x5 m = some z) (hk : (Sum.elim (mP_X0_lightings_20 X G) (fun z : (Int32 × gM) => gz_kI cS X G 6 (0, 0) cX0_lightings z.2 z.1)) z) : gz_V cS X G 6 (0, 0) m 42 [(0, .ref (gz_ad G 1000)), (1, .int x1), (2, .int x2), (3, .int x3), (4, .int x4), (5, .int x5)] [] := by
  have hp : mP_X0_lightings_42 X G (x1, x2, x3, x4, x5, m) := gz_loop_ind (fun q z hz hkz => wb_X0_lightings_42 hX  hz hkz) h hk
  exact hp
noncomputable def mb_X0_lightings_20 (x1 : Int32) (x2 : Int32) (x3 : Int32) (m : gM) : Option ((Int32 × Int32 × Int32 × gM) ⊕ (Int32 × gM)) :=
  (if (8 : Int32) < x3 then some (Sum.inr ((-1 : Int32), m)) else ((cf_X0_has x2 x1 m).bind fun (r2, m3) => (if r2 = (0 : Int32) then (ml_X0_lightings_42 x1 x2 x3 x2 (0 : Int32) m3) else some (Sum.inr (x3, m3)))))
theorem wb_X0_lightings_20 {X : gz_X} {G : gz_G} (hX : gz_C cS X G cX0_lightings 6 RX0 6 132) {x1 : Int32} {x2 : Int32} {x3 : Int32}  {m : gM} {z : ((Int32 × Int32 × Int32 × gM) ⊕ (Int32 × gM))} (h : mb_X0_lightings_20 x1 x2 x3 m = some z) (hk : (Sum.elim (mP_X0_lightings_20 X G) (fun z : (Int32 × gM) => gz_kI cS X G 6 (0, 0) cX0_lightings z.2 z.1)) z) : gz_V cS X G 6 (0, 0) m 20 [(0, .ref (gz_ad G 1000)), (1, .int x1), (2, .int x2), (3, .int x3)] [] := by
  unfold mb_X0_lightings_20 at h
  refine gz_iload_n (pc := 20) hX dX0_lightings_20 rfl 3 rfl ?_
  refine gz_bipush (pc := 21) (v := (8 : Int32)) hX dX0_lightings_21 (by decide) ?_
  refine gz_icmp_gt (pc := 23) (tgt := 92) hX dX0_lightings_23 (by decide) (fun g1 => ?_) (fun g1 => ?_)
  · replace h := gz_it' g1 h
    refine gz_iconst (pc := 92) (v := (-1 : Int32)) hX dX0_lightings_92 (by decide) ?_
    obtain rfl := Option.some.inj h
    exact hk _ _ dX0_lightings_93
  · replace h := gz_if' g1 h
    refine gz_iload_n (pc := 26) hX dX0_lightings_26 rfl 2 rfl ?_
    refine gz_iload_n (pc := 27) hX dX0_lightings_27 rfl 1 rfl ?_
    obtain ⟨⟨r2, m3⟩, c4, h⟩ := gz_bd h
    refine cc_X0_276 (pc := 28) hX c4 ⟨Nat.le_of_ble_eq_true rfl, Nat.le_of_ble_eq_true rfl⟩ (rest := []) rfl (Nat.le_of_ble_eq_true rfl) dX0_lightings_28 ?_
    refine gz_if_eq (pc := 31) (tgt := 36) hX dX0_lightings_31 (by decide) (fun g5 => ?_) (fun g5 => ?_)
    · replace h := gz_it' g5 h
      refine gz_iload_n (pc := 36) hX dX0_lightings_36 rfl 2 rfl ?_
      refine gz_istore (pc := 37) (lw := [(4, .int x2), (0, .ref (gz_ad G 1000)), (1, .int x1), (2, .int x2), (3, .int x3)]) hX dX0_lightings_37 (by decide) rfl ?_
      refine gz_iconst (pc := 39) (v := (0 : Int32)) hX dX0_lightings_39 (by decide) ?_
      refine gz_istore (pc := 40) (lw := [(5, .int (0 : Int32)), (4, .int x2), (0, .ref (gz_ad G 1000)), (1, .int x1), (2, .int x2), (3, .int x3)]) hX dX0_lightings_40 (by decide) rfl ?_
      refine gz_sub (lw := [(0, .ref (gz_ad G 1000)), (1, .int x1), (2, .int x2), (3, .int x3), (4, .int x2), (5, .int (0 : Int32))]) [2, 3, 4, 5, 1, 0] rfl ?_
      exact wl_X0_lightings_42 hX h hk
    · replace h := gz_if' g5 h
      refine gz_iload_n (pc := 34) hX dX0_lightings_34 rfl 3 rfl ?_
      obtain rfl := Option.some.inj h
      exact hk _ _ dX0_lightings_35
noncomputable def ml_X0_lightings_20 (x1 : Int32) (x2 : Int32) (x3 : Int32) (m : gM) : Option (Int32 × gM) := gz_loop (fun q : (Int32 × Int32 × Int32 × gM) => mb_X0_lightings_20 q.1 q.2.1 q.2.2.1 q.2.2.2) (x1, x2, x3, m)
theorem wl_X0_lightings_20 {X : gz_X} {G : gz_G} (hX : gz_C cS X G cX0_lightings 6 RX0 6 132) {x1 : Int32} {x2 : Int32} {x3 : Int32}  {m : gM} {z : (Int32 × gM)} (h : ml_X0_lightings_20 x1 x2 x3 m = some z) (hk : (fun z : (Int32 × gM) => gz_kI cS X G 6 (0, 0) cX0_lightings z.2 z.1) z) : gz_V cS X G 6 (0, 0) m 20 [(0, .ref (gz_ad G 1000)), (1, .int x1), (2, .int x2), (3, .int x3)] [] := by
  have hp : mP_X0_lightings_20 X G (x1, x2, x3, m) := gz_loop_ind (fun q z hz hkz => wb_X0_lightings_20 hX  hz hkz) h hk
  exact hp
noncomputable def cf_X0_lightings (x1 : Int32) (m : gM) : Option (Int32 × gM) :=
  ((cf_X0_isThing x1 m).bind fun (r1, m2) => (if r1 = (0 : Int32) then some ((-1 : Int32), m2) else ((cf_X5_lit 1027 m2).bind fun (r5, m6) => (ml_X0_lightings_20 x1 r5 (0 : Int32) m6))))
theorem wm_X0_lightings {X : gz_X} {G : gz_G} (hX : gz_C cS X G cX0_lightings 6 RX0 6 132) {x1 : Int32}  {m : gM} {z : (Int32 × gM)} (h : cf_X0_lightings x1 m = some z) (hk : (fun z : (Int32 × gM) => gz_kI cS X G 6 (0, 0) cX0_lightings z.2 z.1) z) : gz_V cS X G 6 (0, 0) m 0 [(0, .ref (gz_ad G 1000)), (1, .int x1)] [] := by
  unfold cf_X0_lightings at h
  refine gz_aload_n (pc := 0) hX dX0_lightings_0 rfl 0 rfl ?_
  refine gz_iload_n (pc := 1) hX dX0_lightings_1 rfl 1 rfl ?_
  obtain ⟨⟨r1, m2⟩, c3, h⟩ := gz_bd h
  refine cc_X0_240 (pc := 2) hX (fun h => cz_k h rfl) c3 ⟨Nat.le_of_ble_eq_true rfl, Nat.le_of_ble_eq_true rfl⟩ (rest := []) rfl (Nat.le_of_ble_eq_true rfl) dX0_lightings_2 ?_
  refine gz_if_ne (pc := 5) (tgt := 10) hX dX0_lightings_5 (by decide) (fun g4 => ?_) (fun g4 => ?_)
  · replace h := gz_if' g4 h
    refine gz_aload_n (pc := 10) hX dX0_lightings_10 rfl 0 rfl ?_
    refine cg_X0_74_0 (pc := 11) hX (c := 1000) (v := .ref (gz_ad G 1027)) (fun h => cz_k h rfl) (fun h => cz_f h (by decide) rfl (by decide) rfl) dX0_lightings_11 ?_
    obtain ⟨⟨r5, m6⟩, c7, h⟩ := gz_bd h
    refine cc_X0_217 (pc := 14) hX (fun h => cz_k h rfl) (by decide) c7 ⟨Nat.le_of_ble_eq_true rfl, Nat.le_of_ble_eq_true rfl⟩ (rest := []) rfl (Nat.le_of_ble_eq_true rfl) dX0_lightings_14 ?_
    refine gz_istore_n (pc := 17) (lw := [(2, .int r5), (0, .ref (gz_ad G 1000)), (1, .int x1)]) hX dX0_lightings_17 rfl (by decide) rfl ?_
    refine gz_iconst (pc := 18) (v := (0 : Int32)) hX dX0_lightings_18 (by decide) ?_
    refine gz_istore_n (pc := 19) (lw := [(3, .int (0 : Int32)), (2, .int r5), (0, .ref (gz_ad G 1000)), (1, .int x1)]) hX dX0_lightings_19 rfl (by decide) rfl ?_
    refine gz_sub (lw := [(0, .ref (gz_ad G 1000)), (1, .int x1), (2, .int r5), (3, .int (0 : Int32))]) [2, 3, 1, 0] rfl ?_
    exact wl_X0_lightings_20 hX h hk
  · replace h := gz_it' g4 h
    refine gz_iconst (pc := 8) (v := (-1 : Int32)) hX dX0_lightings_8 (by decide) ?_
    obtain rfl := Option.some.inj h
    exact hk _ _ dX0_lightings_9
theorem ct_X0_lightings {G : gz_G} {l : Launch} {x1 : Int32}  {m m9 : gM} {r : Int32} (h : cf_X0_lightings x1 m = some (r, m9)) : gz_Met cS G l yX0_lightings cX0_lightings 6 (some .int) (mRm 6 132) [.ref (gz_ad G 1000), .int x1] m m9 (some (.int r)) :=
  gz_ofI (by decide +kernel) (Nat.le_of_ble_eq_true rfl) fun X _ hX hk => wm_X0_lightings hX h hk
theorem cc_X0_363 {X : gz_X} {G : gz_G} {cc : ByteArray} {nL fr lo pc : Nat} {rem : Nat × Nat} {lv : List (Nat × Value)} {rest st0 : List Value} (hX : gz_C cS X G cc nL RX0 fr lo) {x1 : Int32} {m m9 : gM} (hK : clc m.1 m.2.1 m.2.2.2.2.1 → m.1 1000 = 0 + 1)  {r : Int32} (h : cf_X0_isHere x1 m = some (r, m9)) (hroom : 4 + 1 ≤ fr ∧ 8 + (2 + 11) + 85 ≤ lo) (hst : st0 = [.int x1, .ref (gz_ad G 1000)] ++ rest) (hW : (rest.map fun v => v.category).sum ≤ 8) (hd : decode cc pc = .ok (.invokevirtual 363, 3)) (kk : gz_V cS X G nL rem m9 (pc + 3) lv (.int r :: rest)) : gz_V cS X G nL rem m pc lv st0 :=
  gz_callV2 hX cs_E (As := [.int x1]) (rest := rest) (q := (RX0, TX0, 28)) (ci := 0) (c := 1000) (ct_X0_isHere (l := X.2.1) h) (lw_V q1660 q1662 qs64 q167 q1663) (n := 1) (by decide +kernel) hroom rfl rfl (by decide) hK hst hW hd (rem := rem) kk
theorem cc_X0_301 {X : gz_X} {G : gz_G} {cc : ByteArray} {nL fr lo pc : Nat} {rem : Nat × Nat} {lv : List (Nat × Value)} {rest st0 : List Value} (hX : gz_C cS X G cc nL RX0 fr lo) {c0 : Nat} {x1 : Int32} {m m9 : gM} (hK : clc m.1 m.2.1 m.2.2.2.2.1 → m.1 c0 = 5 + 1) (hs_c0 : cSt c0 = true) {r : Int32} (h : cf_X5_isLit c0 x1 m = some (r, m9)) (hroom : 0 + 1 ≤ fr ∧ 8 + (2 + 11) + 0 ≤ lo) (hst : st0 = [.int x1, .ref (gz_ad G c0)] ++ rest) (hW : (rest.map fun v => v.category).sum ≤ 8) (hd : decode cc pc = .ok (.invokevirtual 301, 3)) (kk : gz_V cS X G nL rem m9 (pc + 3) lv (.int r :: rest)) : gz_V cS X G nL rem m pc lv st0 :=
  gz_callV2 hX cs_E (As := [.int x1]) (rest := rest) (q := (RX5, TX5, 10)) (ci := 5) (c := c0) (ct_X5_isLit (l := X.2.1) hs_c0 h) (lw_V q1550 q1333 q1334 q178 q1335) (n := 1) (by decide +kernel) hroom rfl rfl (by decide) hK hst hW hd (rem := rem) kk
/-! FirstSnuffer.light(I)Z -/
noncomputable def mj_X0_light_37  (m : gM) : Option (Int32 × gM) :=
  ((cf_X0_refuses (2 : Int32) m).bind fun (r1, m2) => (if r1 < (0 : Int32) then some ((0 : Int32), m2) else some ((1 : Int32), m2)))
theorem wb_X0_light_37 {X : gz_X} {G : gz_G} (hX : gz_C cS X G cX0_light 2 RX0 6 132)   {m : gM} {z : (Int32 × gM)} (h : mj_X0_light_37  m = some z) (hk : (fun z : (Int32 × gM) => gz_kZ cS X G 2 (0, 0) cX0_light z.2 z.1) z) : gz_V cS X G 2 (0, 0) m 37 [(0, .ref (gz_ad G 1000))] [] := by
  unfold mj_X0_light_37 at h
  refine gz_aload_n (pc := 37) hX dX0_light_37 rfl 0 rfl ?_
  refine gz_iconst (pc := 38) (v := (2 : Int32)) hX dX0_light_38 (by decide) ?_
  obtain ⟨⟨r1, m2⟩, c3, h⟩ := gz_bd h
  refine cc_X0_125 (pc := 39) hX (fun h => cz_k h rfl) c3 ⟨Nat.le_of_ble_eq_true rfl, Nat.le_of_ble_eq_true rfl⟩ (rest := []) rfl (Nat.le_of_ble_eq_true rfl) dX0_light_39 ?_
  refine gz_if_lt (pc := 42) (tgt := 49) hX dX0_light_42 (by decide) (fun g4 => ?_) (fun g4 => ?_)
  · replace h := gz_it' g4 h
    refine gz_iconst (pc := 49) (v := (0 : Int32)) hX dX0_light_49 (by decide) ?_
    obtain rfl := Option.some.inj h
    exact hk _ _ dX0_light_50 (Or.inl rfl)
  · replace h := gz_if' g4 h
    refine gz_iconst (pc := 45) (v := (1 : Int32)) hX dX0_light_45 (by decide) ?_
    refine gz_goto (pc := 46) (tgt := 50) hX dX0_light_46 (by decide) ?_
    obtain rfl := Option.some.inj h
    exact hk _ _ dX0_light_50 (Or.inr rfl)
noncomputable def cf_X0_light (x1 : Int32) (m : gM) : Option (Int32 × gM) :=
  ((cf_X0_isHere x1 m).bind fun (r1, m2) => (if r1 = (0 : Int32) then (mj_X0_light_37  m2) else ((cf_X5_isLit 1027 x1 m2).bind fun (r5, m6) => (if r5 = (0 : Int32) then ((cf_X5_lit 1027 m6).bind fun (r9, m10) => ((cf_X5_mayBeLit 1027 x1 r9 m10).bind fun (r12, m13) => (if r12 = (0 : Int32) then (mj_X0_light_37  m13) else ((cf_X0_remembers m13).bind fun (_, m17) => (if gz_in x1 (8) then gz_let (gz_sI m17 1028 (gz_ix x1) (10 : Int32)) fun m20 => (if gz_in x1 (8) then gz_let (gz_sI m20 1030 (gz_ix x1) (0 : Int32)) fun m22 => some ((1 : Int32), m22) else none) else none))))) else (mj_X0_light_37  m6)))))
theorem wm_X0_light {X : gz_X} {G : gz_G} (hX : gz_C cS X G cX0_light 2 RX0 6 132) {x1 : Int32}  {m : gM} {z : (Int32 × gM)} (h : cf_X0_light x1 m = some z) (hk : (fun z : (Int32 × gM) => gz_kZ cS X G 2 (0, 0) cX0_light z.2 z.1) z) : gz_V cS X G 2 (0, 0) m 0 [(0, .ref (gz_ad G 1000)), (1, .int x1)] [] := by
  unfold cf_X0_light at h
  refine gz_aload_n (pc := 0) hX dX0_light_0 rfl 0 rfl ?_
  refine gz_iload_n (pc := 1) hX dX0_light_1 rfl 1 rfl ?_
  obtain ⟨⟨r1, m2⟩, c3, h⟩ := gz_bd h
  refine cc_X0_363 (pc := 2) hX (fun h => cz_k h rfl) c3 ⟨Nat.le_of_ble_eq_true rfl, Nat.le_of_ble_eq_true rfl⟩ (rest := []) rfl (Nat.le_of_ble_eq_true rfl) dX0_light_2 ?_
  refine gz_if_eq (pc := 5) (tgt := 37) hX dX0_light_5 (by decide) (fun g4 => ?_) (fun g4 => ?_)
  · replace h := gz_it' g4 h
    refine gz_sub (lw := [(0, .ref (gz_ad G 1000))]) [0] rfl ?_
    exact wb_X0_light_37 hX h hk
  · replace h := gz_if' g4 h
    refine gz_aload_n (pc := 8) hX dX0_light_8 rfl 0 rfl ?_
    refine cg_X0_74_0 (pc := 9) hX (c := 1000) (v := .ref (gz_ad G 1027)) (fun h => cz_k h rfl) (fun h => cz_f h (by decide) rfl (by decide) rfl) dX0_light_9 ?_
    refine gz_iload_n (pc := 12) hX dX0_light_12 rfl 1 rfl ?_
    obtain ⟨⟨r5, m6⟩, c7, h⟩ := gz_bd h
    refine cc_X0_301 (pc := 13) hX (fun h => cz_k h rfl) (by decide) c7 ⟨Nat.le_of_ble_eq_true rfl, Nat.le_of_ble_eq_true rfl⟩ (rest := []) rfl (Nat.le_of_ble_eq_true rfl) dX0_light_13 ?_
    refine gz_if_ne (pc := 16) (tgt := 37) hX dX0_light_16 (by decide) (fun g8 => ?_) (fun g8 => ?_)
    · replace h := gz_if' g8 h
      refine gz_sub (lw := [(0, .ref (gz_ad G 1000))]) [0] rfl ?_
      exact wb_X0_light_37 hX h hk
    · replace h := gz_it' g8 h
      refine gz_aload_n (pc := 19) hX dX0_light_19 rfl 0 rfl ?_
      refine cg_X0_74_0 (pc := 20) hX (c := 1000) (v := .ref (gz_ad G 1027)) (fun h => cz_k h rfl) (fun h => cz_f h (by decide) rfl (by decide) rfl) dX0_light_20 ?_
      refine gz_iload_n (pc := 23) hX dX0_light_23 rfl 1 rfl ?_
      refine gz_aload_n (pc := 24) hX dX0_light_24 rfl 0 rfl ?_
      refine cg_X0_74_0 (pc := 25) hX (c := 1000) (v := .ref (gz_ad G 1027)) (fun h => cz_k h rfl) (fun h => cz_f h (by decide) rfl (by decide) rfl) dX0_light_25 ?_
      obtain ⟨⟨r9, m10⟩, c11, h⟩ := gz_bd h
      refine cc_X0_217 (pc := 28) hX (fun h => cz_k h rfl) (by decide) c11 ⟨Nat.le_of_ble_eq_true rfl, Nat.le_of_ble_eq_true rfl⟩ (rest := [.int x1, .ref (gz_ad G 1027)]) rfl (Nat.le_of_ble_eq_true rfl) dX0_light_28 ?_
      obtain ⟨⟨r12, m13⟩, c14, h⟩ := gz_bd h
      refine cc_X0_333 (pc := 31) hX (fun h => cz_k h rfl) (by decide) c14 ⟨Nat.le_of_ble_eq_true rfl, Nat.le_of_ble_eq_true rfl⟩ (rest := []) rfl (Nat.le_of_ble_eq_true rfl) dX0_light_31 ?_
      refine gz_if_ne (pc := 34) (tgt := 51) hX dX0_light_34 (by decide) (fun g15 => ?_) (fun g15 => ?_)
      · replace h := gz_if' g15 h
        refine gz_aload_n (pc := 51) hX dX0_light_51 rfl 0 rfl ?_
        obtain ⟨⟨⟨⟩, m17⟩, c18, h⟩ := gz_bd h
        refine cc_X0_360 (pc := 52) hX (fun h => cz_k h rfl) c18 ⟨Nat.le_of_ble_eq_true rfl, Nat.le_of_ble_eq_true rfl⟩ (rest := []) rfl (Nat.le_of_ble_eq_true rfl) dX0_light_52 ?_
        refine gz_aload_n (pc := 55) hX dX0_light_55 rfl 0 rfl ?_
        refine cg_X0_74_0 (pc := 56) hX (c := 1000) (v := .ref (gz_ad G 1027)) (fun h => cz_k h rfl) (fun h => cz_f h (by decide) rfl (by decide) rfl) dX0_light_56 ?_
        refine cg_X0_254_5 (pc := 59) hX (c := 1027) (v := .ref (gz_ad G 1028)) (fun h => cz_k h rfl) (fun h => cz_f h (by decide) rfl (by decide) rfl) dX0_light_59 ?_
        refine gz_iload_n (pc := 62) hX dX0_light_62 rfl 1 rfl ?_
        refine gz_bipush (pc := 63) (v := (10 : Int32)) hX dX0_light_63 (by decide) ?_
        obtain ⟨g19, h⟩ := gz_gu h
        obtain ⟨m20, em20, h⟩ := gz_lt h
        refine gz_iast2 (pc := 65) (c := 1028) (n := 8) hX rfl (fun h => cz_a h rfl (by decide) rfl) (Nat.le_of_ble_eq_true rfl) g19 dX0_light_65 em20 ?_
        refine gz_aload_n (pc := 66) hX dX0_light_66 rfl 0 rfl ?_
        refine cg_X0_74_0 (pc := 67) hX (c := 1000) (v := .ref (gz_ad G 1027)) (fun h => cz_k h rfl) (fun h => cz_f h (by decide) rfl (by decide) rfl) dX0_light_67 ?_
        refine cg_X0_257_5 (pc := 70) hX (c := 1027) (v := .ref (gz_ad G 1030)) (fun h => cz_k h rfl) (fun h => cz_f h (by decide) rfl (by decide) rfl) dX0_light_70 ?_
        refine gz_iload_n (pc := 73) hX dX0_light_73 rfl 1 rfl ?_
        refine gz_iconst (pc := 74) (v := (0 : Int32)) hX dX0_light_74 (by decide) ?_
        obtain ⟨g21, h⟩ := gz_gu h
        obtain ⟨m22, em22, h⟩ := gz_lt h
        refine gz_iast2 (pc := 75) (c := 1030) (n := 8) hX rfl (fun h => cz_a h rfl (by decide) rfl) (Nat.le_of_ble_eq_true rfl) g21 dX0_light_75 em22 ?_
        refine gz_iconst (pc := 76) (v := (1 : Int32)) hX dX0_light_76 (by decide) ?_
        obtain rfl := Option.some.inj h
        exact hk _ _ dX0_light_77 (Or.inr rfl)
      · replace h := gz_it' g15 h
        refine gz_sub (lw := [(0, .ref (gz_ad G 1000))]) [0] rfl ?_
        exact wb_X0_light_37 hX h hk
theorem ct_X0_light {G : gz_G} {l : Launch} {x1 : Int32}  {m m9 : gM} {r : Int32} (h : cf_X0_light x1 m = some (r, m9)) : gz_Met cS G l yX0_light cX0_light 2 (some .boolean) (mRm 6 132) [.ref (gz_ad G 1000), .int x1] m m9 (some (.int r)) :=
  gz_ofZ (by decide +kernel) (Nat.le_of_ble_eq_true rfl) fun X _ hX hk => wm_X0_light hX h hk
