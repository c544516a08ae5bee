set_option maxRecDepth 100000
/-! feed(IIIII)I -/
def mP_X6_feed_28 (X : gz_X) (G : gz_G) (q : (Int32 × Int32 × Int32 × Int32 × Int32 × Int32 × MM)) : Prop := gz_V mS X G 8 (0, 0) (mF q.2.2.2.2.2.2) 28 [(0, .ref (gz_ad G 2000)), (1, .int q.1), (2, .int q.2.1), (3, .int q.2.2.1), (4, .int q.2.2.2.1), (5, .int q.2.2.2.2.1), (6, .int q.2.2.2.2.2.1)] []
noncomputable def mj_X6_feed_81 (x1 : Int32) (x2 : Int32) (x3 : Int32) (x4 : Int32) (x5 : Int32) (x6 : Int32) (s0 : Int32) (m : MM) : Option ((Int32 × Int32 × Int32 × Int32 × Int32 × Int32 × MM) ⊕ (Int32 × MM)) :=
  (if gz_in (m.1 2000 1) (1600) then gz_let (msI m 1001 (gz_ix (m.1 2000 1)) ((s0 >>> (((8 : Int32) * ((3 : Int32) - (x6 - x6 / (4 : Int32) * (4 : Int32)))) &&& 31)) &&& (255 : Int32))) fun m2 => gz_let (msI m2 2000 1 ((m2.1 2000 1) + (1 : Int32))) fun m3 => gz_let (x6 + (1 : Int32)) fun y4 => some (Sum.inl (x1, x2, x3, x4, x5, y4, m3)) else none)
theorem wb_X6_feed_81 {X : gz_X} {G : gz_G} (hX : gz_C mS X G cX6_feed 8 RX6 0 0) {x1 : Int32} {x2 : Int32} {x3 : Int32} {x4 : Int32} {x5 : Int32} {x6 : Int32} {s0 : Int32}  {m : MM} {z : ((Int32 × Int32 × Int32 × Int32 × Int32 × Int32 × MM) ⊕ (Int32 × MM))} (h : mj_X6_feed_81 x1 x2 x3 x4 x5 x6 s0 m = some z) (hk : (Sum.elim (mP_X6_feed_28 X G) (fun z : (Int32 × MM) => gz_kI mS X G 8 (0, 0) cX6_feed (mF z.2) z.1)) z) : gz_V mS X G 8 (0, 0) (mF m) 81 [(0, .ref (gz_ad G 2000)), (1, .int x1), (2, .int x2), (3, .int x3), (4, .int x4), (5, .int x5), (6, .int x6)] [.int s0] := by
  unfold mj_X6_feed_81 at h
  refine gz_istore (pc := 81) (lw := [(7, .int s0), (0, .ref (gz_ad G 2000)), (1, .int x1), (2, .int x2), (3, .int x3), (4, .int x4), (5, .int x5), (6, .int x6)]) hX dX6_feed_81 (by decide) rfl ?_
  refine gz_aload_n (pc := 83) hX dX6_feed_83 rfl 1 rfl ?_
  refine mg_0 (pc := 84) hX dX6_feed_84 ?_
  refine gz_aload_n (pc := 87) hX dX6_feed_87 rfl 1 rfl ?_
  refine mg_1 (pc := 88) hX dX6_feed_88 ?_
  refine gz_iload (pc := 91) hX dX6_feed_91 0 rfl ?_
  refine gz_bipush (pc := 93) (v := (8 : Int32)) hX dX6_feed_93 (by decide) ?_
  refine gz_iconst (pc := 95) (v := (3 : Int32)) hX dX6_feed_95 (by decide) ?_
  refine gz_iload (pc := 96) hX dX6_feed_96 7 rfl ?_
  refine gz_iconst (pc := 98) (v := (4 : Int32)) hX dX6_feed_98 (by decide) ?_
  refine gz_irem (pc := 99) hX dX6_feed_99 (by decide) ?_
  refine gz_isub (pc := 100) hX dX6_feed_100 ?_
  refine gz_imul (pc := 101) hX dX6_feed_101 ?_
  refine gz_ishr (pc := 102) hX dX6_feed_102 ?_
  refine gz_sipush (pc := 103) (v := (255 : Int32)) hX dX6_feed_103 (by decide) ?_
  refine gz_iand (pc := 106) hX dX6_feed_106 ?_
  obtain ⟨g1, h⟩ := gz_gu h
  obtain ⟨m2, em2, h⟩ := gz_lt h
  refine mz_iast (pc := 107) (c := 1001) (n := 1600) hX rfl rfl g1 (Nat.le_of_ble_eq_true rfl) dX6_feed_107 em2 ?_
  refine gz_aload_n (pc := 108) hX dX6_feed_108 rfl 1 rfl ?_
  refine gz_dup (pc := 109) hX dX6_feed_109 rfl ?_
  refine mg_1 (pc := 110) hX dX6_feed_110 ?_
  refine gz_iconst (pc := 113) (v := (1 : Int32)) hX dX6_feed_113 (by decide) ?_
  refine gz_iadd (pc := 114) hX dX6_feed_114 ?_
  obtain ⟨m3, em3, h⟩ := gz_lt h
  refine mp_1 (pc := 115) hX dX6_feed_115 em3 ?_
  obtain ⟨y4, ey4, h⟩ := gz_lt h
  refine gz_iinc (pc := 118) (v := y4) (lw := [(6, .int y4), (7, .int s0), (0, .ref (gz_ad G 2000)), (1, .int x1), (2, .int x2), (3, .int x3), (4, .int x4), (5, .int x5)]) hX dX6_feed_118 (k := 7) rfl (by rw [ey4]; rfl) (by decide) rfl ?_
  refine gz_goto (pc := 121) (tgt := 28) hX dX6_feed_121 (by decide) ?_
  refine gz_sub (lw := [(0, .ref (gz_ad G 2000)), (1, .int x1), (2, .int x2), (3, .int x3), (4, .int x4), (5, .int x5), (6, .int y4)]) [2, 3, 4, 5, 6, 7, 0] rfl ?_
  obtain rfl := Option.some.inj h
  exact hk
noncomputable def mb_X6_feed_28 (x1 : Int32) (x2 : Int32) (x3 : Int32) (x4 : Int32) (x5 : Int32) (x6 : Int32) (m : MM) : Option ((Int32 × Int32 × Int32 × Int32 × Int32 × Int32 × MM) ⊕ (Int32 × MM)) :=
  (if (20 : Int32) ≤ x6 then some (Sum.inr ((m.1 2000 1), m)) else (if (4 : Int32) ≤ x6 then (if (8 : Int32) ≤ x6 then (if (12 : Int32) ≤ x6 then (if (16 : Int32) ≤ x6 then (mj_X6_feed_81 x1 x2 x3 x4 x5 x6 x5 m) else (mj_X6_feed_81 x1 x2 x3 x4 x5 x6 x4 m)) else (mj_X6_feed_81 x1 x2 x3 x4 x5 x6 x3 m)) else (mj_X6_feed_81 x1 x2 x3 x4 x5 x6 x2 m)) else (mj_X6_feed_81 x1 x2 x3 x4 x5 x6 x1 m)))
theorem wb_X6_feed_28 {X : gz_X} {G : gz_G} (hX : gz_C mS X G cX6_feed 8 RX6 0 0) {x1 : Int32} {x2 : Int32} {x3 : Int32} {x4 : Int32} {x5 : Int32} {x6 : Int32}  {m : MM} {z : ((Int32 × Int32 × Int32 × Int32 × Int32 × Int32 × MM) ⊕ (Int32 × MM))} (h : mb_X6_feed_28 x1 x2 x3 x4 x5 x6 m = some z) (hk : (Sum.elim (mP_X6_feed_28 X G) (fun z : (Int32 × MM) => gz_kI mS X G 8 (0, 0) cX6_feed (mF z.2) z.1)) z) : gz_V mS X G 8 (0, 0) (mF m) 28 [(0, .ref (gz_ad G 2000)), (1, .int x1), (2, .int x2), (3, .int x3), (4, .int x4), (5, .int x5), (6, .int x6)] [] := by
  unfold mb_X6_feed_28 at h
  refine gz_iload (pc := 28) hX dX6_feed_28 6 rfl ?_
  refine gz_bipush (pc := 30) (v := (20 : Int32)) hX dX6_feed_30 (by decide) ?_
  refine gz_icmp_ge (pc := 32) (tgt := 124) hX dX6_feed_32 (by decide) (fun g1 => ?_) (fun g1 => ?_)
  · replace h := gz_it' g1 h
    refine gz_aload_n (pc := 124) hX dX6_feed_124 rfl 0 rfl ?_
    refine mg_1 (pc := 125) hX dX6_feed_125 ?_
    obtain rfl := Option.some.inj h
    exact hk _ _ dX6_feed_128
  · replace h := gz_if' g1 h
    refine gz_iload (pc := 35) hX dX6_feed_35 6 rfl ?_
    refine gz_iconst (pc := 37) (v := (4 : Int32)) hX dX6_feed_37 (by decide) ?_
    refine gz_icmp_ge (pc := 38) (tgt := 45) hX dX6_feed_38 (by decide) (fun g2 => ?_) (fun g2 => ?_)
    · replace h := gz_it' g2 h
      refine gz_iload (pc := 45) hX dX6_feed_45 6 rfl ?_
      refine gz_bipush (pc := 47) (v := (8 : Int32)) hX dX6_feed_47 (by decide) ?_
      refine gz_icmp_ge (pc := 49) (tgt := 56) hX dX6_feed_49 (by decide) (fun g3 => ?_) (fun g3 => ?_)
      · replace h := gz_it' g3 h
        refine gz_iload (pc := 56) hX dX6_feed_56 6 rfl ?_
        refine gz_bipush (pc := 58) (v := (12 : Int32)) hX dX6_feed_58 (by decide) ?_
        refine gz_icmp_ge (pc := 60) (tgt := 67) hX dX6_feed_60 (by decide) (fun g4 => ?_) (fun g4 => ?_)
        · replace h := gz_it' g4 h
          refine gz_iload (pc := 67) hX dX6_feed_67 6 rfl ?_
          refine gz_bipush (pc := 69) (v := (16 : Int32)) hX dX6_feed_69 (by decide) ?_
          refine gz_icmp_ge (pc := 71) (tgt := 79) hX dX6_feed_71 (by decide) (fun g5 => ?_) (fun g5 => ?_)
          · replace h := gz_it' g5 h
            refine gz_iload (pc := 79) hX dX6_feed_79 5 rfl ?_
            exact wb_X6_feed_81 hX h hk
          · replace h := gz_if' g5 h
            refine gz_iload (pc := 74) hX dX6_feed_74 4 rfl ?_
            refine gz_goto (pc := 76) (tgt := 81) hX dX6_feed_76 (by decide) ?_
            exact wb_X6_feed_81 hX h hk
        · replace h := gz_if' g4 h
          refine gz_iload_n (pc := 63) hX dX6_feed_63 rfl 3 rfl ?_
          refine gz_goto (pc := 64) (tgt := 81) hX dX6_feed_64 (by decide) ?_
          exact wb_X6_feed_81 hX h hk
      · replace h := gz_if' g3 h
        refine gz_iload_n (pc := 52) hX dX6_feed_52 rfl 2 rfl ?_
        refine gz_goto (pc := 53) (tgt := 81) hX dX6_feed_53 (by decide) ?_
        exact wb_X6_feed_81 hX h hk
    · replace h := gz_if' g2 h
      refine gz_iload_n (pc := 41) hX dX6_feed_41 rfl 1 rfl ?_
      refine gz_goto (pc := 42) (tgt := 81) hX dX6_feed_42 (by decide) ?_
      exact wb_X6_feed_81 hX h hk
noncomputable def ml_X6_feed_28 (x1 : Int32) (x2 : Int32) (x3 : Int32) (x4 : Int32) (x5 : Int32) (x6 : Int32) (m : MM) : Option (Int32 × MM) := gz_loop (fun q : (Int32 × Int32 × Int32 × Int32 × Int32 × Int32 × MM) => mb_X6_feed_28 q.1 q.2.1 q.2.2.1 q.2.2.2.1 q.2.2.2.2.1 q.2.2.2.2.2.1 q.2.2.2.2.2.2) (x1, x2, x3, x4, x5, x6, m)
theorem wl_X6_feed_28 {X : gz_X} {G : gz_G} (hX : gz_C mS X G cX6_feed 8 RX6 0 0) {x1 : Int32} {x2 : Int32} {x3 : Int32} {x4 : Int32} {x5 : Int32} {x6 : Int32}  {m : MM} {z : (Int32 × MM)} (h : ml_X6_feed_28 x1 x2 x3 x4 x5 x6 m = some z) (hk : (fun z : (Int32 × MM) => gz_kI mS X G 8 (0, 0) cX6_feed (mF z.2) z.1) z) : gz_V mS X G 8 (0, 0) (mF m) 28 [(0, .ref (gz_ad G 2000)), (1, .int x1), (2, .int x2), (3, .int x3), (4, .int x4), (5, .int x5), (6, .int x6)] [] := by
  have hp : mP_X6_feed_28 X G (x1, x2, x3, x4, x5, x6, m) := gz_loop_ind (fun q z hz hkz => wb_X6_feed_28 hX  hz hkz) h hk
  exact hp
noncomputable def mf_feed (x1 : Int32) (x2 : Int32) (x3 : Int32) (x4 : Int32) (x5 : Int32) (m : MM) : Option (Int32 × MM) :=
  (if ((m.1 2000 1) + (20 : Int32)) ≤ (1600 : Int32) then (ml_X6_feed_28 x1 x2 x3 x4 x5 (0 : Int32) m) else (if gz_in (0 : Int32) (6) then (if gz_in (0 : Int32) (6) then gz_let (msI m 1010 (gz_ix (0 : Int32)) ((m.1 1010 (gz_ix (0 : Int32))) + (1 : Int32))) fun m4 => some ((-1 : Int32), m4) else none) else none))
theorem wm_feed {X : gz_X} {G : gz_G} (hX : gz_C mS X G cX6_feed 8 RX6 0 0) {x1 : Int32} {x2 : Int32} {x3 : Int32} {x4 : Int32} {x5 : Int32}  {m : MM} {z : (Int32 × MM)} (h : mf_feed x1 x2 x3 x4 x5 m = some z) (hk : (fun z : (Int32 × MM) => gz_kI mS X G 8 (0, 0) cX6_feed (mF z.2) z.1) z) : gz_V mS X G 8 (0, 0) (mF m) 0 [(0, .ref (gz_ad G 2000)), (1, .int x1), (2, .int x2), (3, .int x3), (4, .int x4), (5, .int x5)] [] := by
  unfold mf_feed at h
  refine gz_aload_n (pc := 0) hX dX6_feed_0 rfl 0 rfl ?_
  refine mg_1 (pc := 1) hX dX6_feed_1 ?_
  refine gz_bipush (pc := 4) (v := (20 : Int32)) hX dX6_feed_4 (by decide) ?_
  refine gz_iadd (pc := 6) hX dX6_feed_6 ?_
  refine gz_sipush (pc := 7) (v := (1600 : Int32)) hX dX6_feed_7 (by decide) ?_
  refine gz_icmp_le (pc := 10) (tgt := 25) hX dX6_feed_10 (by decide) (fun g1 => ?_) (fun g1 => ?_)
  · replace h := gz_it' g1 h
    refine gz_iconst (pc := 25) (v := (0 : Int32)) hX dX6_feed_25 (by decide) ?_
    refine gz_istore (pc := 26) (lw := [(6, .int (0 : Int32)), (0, .ref (gz_ad G 2000)), (1, .int x1), (2, .int x2), (3, .int x3), (4, .int x4), (5, .int x5)]) hX dX6_feed_26 (by decide) rfl ?_
    refine gz_sub (lw := [(0, .ref (gz_ad G 2000)), (1, .int x1), (2, .int x2), (3, .int x3), (4, .int x4), (5, .int x5), (6, .int (0 : Int32))]) [1, 2, 3, 4, 5, 6, 0] rfl ?_
    exact wl_X6_feed_28 hX h hk
  · replace h := gz_if' g1 h
    refine gz_aload_n (pc := 13) hX dX6_feed_13 rfl 0 rfl ?_
    refine mg_9 (pc := 14) hX dX6_feed_14 ?_
    refine gz_iconst (pc := 17) (v := (0 : Int32)) hX dX6_feed_17 (by decide) ?_
    refine gz_dup2_11 (pc := 18) hX dX6_feed_18 rfl rfl ?_
    obtain ⟨g2, h⟩ := gz_gu h
    refine mz_iald (pc := 19) (c := 1010) (n := 6) hX rfl rfl g2 dX6_feed_19 ?_
    refine gz_iconst (pc := 20) (v := (1 : Int32)) hX dX6_feed_20 (by decide) ?_
    refine gz_iadd (pc := 21) hX dX6_feed_21 ?_
    obtain ⟨g3, h⟩ := gz_gu h
    obtain ⟨m4, em4, h⟩ := gz_lt h
    refine mz_iast (pc := 22) (c := 1010) (n := 6) hX rfl rfl g3 (Nat.le_of_ble_eq_true rfl) dX6_feed_22 em4 ?_
    refine gz_iconst (pc := 23) (v := (-1 : Int32)) hX dX6_feed_23 (by decide) ?_
    obtain rfl := Option.some.inj h
    exact hk _ _ dX6_feed_24
theorem mt_feed {G : gz_G} {l : Launch} {x1 : Int32} {x2 : Int32} {x3 : Int32} {x4 : Int32} {x5 : Int32}  {m m9 : MM} {r : Int32} (h : mf_feed x1 x2 x3 x4 x5 m = some (r, m9)) : gz_Met mS G l yX6_feed cX6_feed 8 (some .int) (mRm 0 0) [.ref (gz_ad G 2000), .int x1, .int x2, .int x3, .int x4, .int x5] (mF m) (mF m9) (some (.int r)) :=
  gz_ofI (plainFor_of_name mz_plain) (Nat.le_of_ble_eq_true rfl) fun X _ hX hk => wm_feed hX h hk
/-! end(I)Z -/
noncomputable def mj_X6_end_12  (m : MM) : Option (Int32 × MM) :=
  (if gz_in (0 : Int32) (6) then (if gz_in (0 : Int32) (6) then gz_let (msI m 1010 (gz_ix (0 : Int32)) ((m.1 1010 (gz_ix (0 : Int32))) + (1 : Int32))) fun m3 => some ((0 : Int32), m3) else none) else none)
theorem wb_X6_end_12 {X : gz_X} {G : gz_G} (hX : gz_C mS X G cX6_end 2 RX6 0 0)   {m : MM} {z : (Int32 × MM)} (h : mj_X6_end_12  m = some z) (hk : (fun z : (Int32 × MM) => gz_kZ mS X G 2 (0, 0) cX6_end (mF z.2) z.1) z) : gz_V mS X G 2 (0, 0) (mF m) 12 [(0, .ref (gz_ad G 2000))] [] := by
  unfold mj_X6_end_12 at h
  refine gz_aload_n (pc := 12) hX dX6_end_12 rfl 0 rfl ?_
  refine mg_9 (pc := 13) hX dX6_end_13 ?_
  refine gz_iconst (pc := 16) (v := (0 : Int32)) hX dX6_end_16 (by decide) ?_
  refine gz_dup2_11 (pc := 17) hX dX6_end_17 rfl rfl ?_
  obtain ⟨g1, h⟩ := gz_gu h
  refine mz_iald (pc := 18) (c := 1010) (n := 6) hX rfl rfl g1 dX6_end_18 ?_
  refine gz_iconst (pc := 19) (v := (1 : Int32)) hX dX6_end_19 (by decide) ?_
  refine gz_iadd (pc := 20) hX dX6_end_20 ?_
  obtain ⟨g2, h⟩ := gz_gu h
  obtain ⟨m3, em3, h⟩ := gz_lt h
  refine mz_iast (pc := 21) (c := 1010) (n := 6) hX rfl rfl g2 (Nat.le_of_ble_eq_true rfl) dX6_end_21 em3 ?_
  refine gz_iconst (pc := 22) (v := (0 : Int32)) hX dX6_end_22 (by decide) ?_
  obtain rfl := Option.some.inj h
  exact hk _ _ dX6_end_23 (Or.inl rfl)
noncomputable def mf_end (x1 : Int32) (m : MM) : Option (Int32 × MM) :=
  (if x1 < (0 : Int32) then (mj_X6_end_12  m) else (if x1 ≤ (m.1 2000 1) then gz_let (msI m 2000 1 x1) fun m3 => some ((1 : Int32), m3) else (mj_X6_end_12  m)))
theorem wm_end {X : gz_X} {G : gz_G} (hX : gz_C mS X G cX6_end 2 RX6 0 0) {x1 : Int32}  {m : MM} {z : (Int32 × MM)} (h : mf_end x1 m = some z) (hk : (fun z : (Int32 × MM) => gz_kZ mS X G 2 (0, 0) cX6_end (mF z.2) z.1) z) : gz_V mS X G 2 (0, 0) (mF m) 0 [(0, .ref (gz_ad G 2000)), (1, .int x1)] [] := by
  unfold mf_end at h
  refine gz_iload_n (pc := 0) hX dX6_end_0 rfl 1 rfl ?_
  refine gz_if_lt (pc := 1) (tgt := 12) hX dX6_end_1 (by decide) (fun g1 => ?_) (fun g1 => ?_)
  · replace h := gz_it' g1 h
    refine gz_sub (lw := [(0, .ref (gz_ad G 2000))]) [0] rfl ?_
    exact wb_X6_end_12 hX h hk
  · replace h := gz_if' g1 h
    refine gz_iload_n (pc := 4) hX dX6_end_4 rfl 1 rfl ?_
    refine gz_aload_n (pc := 5) hX dX6_end_5 rfl 0 rfl ?_
    refine mg_1 (pc := 6) hX dX6_end_6 ?_
    refine gz_icmp_le (pc := 9) (tgt := 24) hX dX6_end_9 (by decide) (fun g2 => ?_) (fun g2 => ?_)
    · replace h := gz_it' g2 h
      refine gz_aload_n (pc := 24) hX dX6_end_24 rfl 0 rfl ?_
      refine gz_iload_n (pc := 25) hX dX6_end_25 rfl 1 rfl ?_
      obtain ⟨m3, em3, h⟩ := gz_lt h
      refine mp_1 (pc := 26) hX dX6_end_26 em3 ?_
      refine gz_iconst (pc := 29) (v := (1 : Int32)) hX dX6_end_29 (by decide) ?_
      obtain rfl := Option.some.inj h
      exact hk _ _ dX6_end_30 (Or.inr rfl)
    · replace h := gz_if' g2 h
      refine gz_sub (lw := [(0, .ref (gz_ad G 2000))]) [0] rfl ?_
      exact wb_X6_end_12 hX h hk
theorem mt_end {G : gz_G} {l : Launch} {x1 : Int32}  {m m9 : MM} {r : Int32} (h : mf_end x1 m = some (r, m9)) : gz_Met mS G l yX6_end cX6_end 2 (some .boolean) (mRm 0 0) [.ref (gz_ad G 2000), .int x1] (mF m) (mF m9) (some (.int r)) :=
  gz_ofZ (plainFor_of_name mz_plain) (Nat.le_of_ble_eq_true rfl) fun X _ hX hk => wm_end hX h hk
/-! look()I -/
def mP_X6_look_0 (X : gz_X) (G : gz_G) (q : (MM)) : Prop := gz_V mS X G 1 (0, 0) (mF q) 0 [(0, .ref (gz_ad G 2000))] []
noncomputable def mj_X6_look_52  (m : MM) : Option (Int32 × MM) :=
  (if (m.1 2000 3) ≤ (m.1 2000 2) then some ((-1 : Int32), m) else (if gz_in (m.1 2000 2) (1600) then some ((m.1 1001 (gz_ix (m.1 2000 2))), m) else none))
theorem wb_X6_look_52 {X : gz_X} {G : gz_G} (hX : gz_C mS X G cX6_look 1 RX6 0 0)   {m : MM} {z : (Int32 × MM)} (h : mj_X6_look_52  m = some z) (hk : (fun z : (Int32 × MM) => gz_kI mS X G 1 (0, 0) cX6_look (mF z.2) z.1) z) : gz_V mS X G 1 (0, 0) (mF m) 52 [(0, .ref (gz_ad G 2000))] [] := by
  unfold mj_X6_look_52 at h
  refine gz_aload_n (pc := 52) hX dX6_look_52 rfl 0 rfl ?_
  refine mg_2 (pc := 53) hX dX6_look_53 ?_
  refine gz_aload_n (pc := 56) hX dX6_look_56 rfl 0 rfl ?_
  refine mg_3 (pc := 57) hX dX6_look_57 ?_
  refine gz_icmp_ge (pc := 60) (tgt := 75) hX dX6_look_60 (by decide) (fun g1 => ?_) (fun g1 => ?_)
  · replace h := gz_it' g1 h
    refine gz_iconst (pc := 75) (v := (-1 : Int32)) hX dX6_look_75 (by decide) ?_
    obtain rfl := Option.some.inj h
    exact hk _ _ dX6_look_76
  · replace h := gz_if' g1 h
    refine gz_aload_n (pc := 63) hX dX6_look_63 rfl 0 rfl ?_
    refine mg_0 (pc := 64) hX dX6_look_64 ?_
    refine gz_aload_n (pc := 67) hX dX6_look_67 rfl 0 rfl ?_
    refine mg_2 (pc := 68) hX dX6_look_68 ?_
    obtain ⟨g2, h⟩ := gz_gu h
    refine mz_iald (pc := 71) (c := 1001) (n := 1600) hX rfl rfl g2 dX6_look_71 ?_
    refine gz_goto (pc := 72) (tgt := 76) hX dX6_look_72 (by decide) ?_
    obtain rfl := Option.some.inj h
    exact hk _ _ dX6_look_76
noncomputable def mj_X6_look_39  (m : MM) : Option ((MM) ⊕ (Int32 × MM)) :=
  gz_let (msI m 2000 2 ((m.1 2000 2) + (1 : Int32))) fun m1 => some (Sum.inl (m1))
theorem wb_X6_look_39 {X : gz_X} {G : gz_G} (hX : gz_C mS X G cX6_look 1 RX6 0 0)   {m : MM} {z : ((MM) ⊕ (Int32 × MM))} (h : mj_X6_look_39  m = some z) (hk : (Sum.elim (mP_X6_look_0 X G) (fun z : (Int32 × MM) => gz_kI mS X G 1 (0, 0) cX6_look (mF z.2) z.1)) z) : gz_V mS X G 1 (0, 0) (mF m) 39 [(0, .ref (gz_ad G 2000))] [] := by
  unfold mj_X6_look_39 at h
  refine gz_aload_n (pc := 39) hX dX6_look_39 rfl 0 rfl ?_
  refine gz_dup (pc := 40) hX dX6_look_40 rfl ?_
  refine mg_2 (pc := 41) hX dX6_look_41 ?_
  refine gz_iconst (pc := 44) (v := (1 : Int32)) hX dX6_look_44 (by decide) ?_
  refine gz_iadd (pc := 45) hX dX6_look_45 ?_
  obtain ⟨m1, em1, h⟩ := gz_lt h
  refine mp_2 (pc := 46) hX dX6_look_46 em1 ?_
  refine gz_goto (pc := 49) (tgt := 0) hX dX6_look_49 (by decide) ?_
  obtain rfl := Option.some.inj h
  exact hk
noncomputable def mb_X6_look_0  (m : MM) : Option ((MM) ⊕ (Int32 × MM)) :=
  (if (m.1 2000 3) ≤ (m.1 2000 2) then (Option.map Sum.inr (mj_X6_look_52  m)) else (if gz_in (m.1 2000 2) (1600) then (if (m.1 1001 (gz_ix (m.1 2000 2))) = (10 : Int32) then (mj_X6_look_39  m) else (if gz_in (m.1 2000 2) (1600) then (if (m.1 1001 (gz_ix (m.1 2000 2))) = (32 : Int32) then (mj_X6_look_39  m) else (Option.map Sum.inr (mj_X6_look_52  m))) else none)) else none))
theorem wb_X6_look_0 {X : gz_X} {G : gz_G} (hX : gz_C mS X G cX6_look 1 RX6 0 0)   {m : MM} {z : ((MM) ⊕ (Int32 × MM))} (h : mb_X6_look_0  m = some z) (hk : (Sum.elim (mP_X6_look_0 X G) (fun z : (Int32 × MM) => gz_kI mS X G 1 (0, 0) cX6_look (mF z.2) z.1)) z) : gz_V mS X G 1 (0, 0) (mF m) 0 [(0, .ref (gz_ad G 2000))] [] := by
  unfold mb_X6_look_0 at h
  refine gz_aload_n (pc := 0) hX dX6_look_0 rfl 0 rfl ?_
  refine mg_2 (pc := 1) hX dX6_look_1 ?_
  refine gz_aload_n (pc := 4) hX dX6_look_4 rfl 0 rfl ?_
  refine mg_3 (pc := 5) hX dX6_look_5 ?_
  refine gz_icmp_ge (pc := 8) (tgt := 52) hX dX6_look_8 (by decide) (fun g1 => ?_) (fun g1 => ?_)
  · replace h := gz_it' g1 h
    obtain ⟨z0, hm0, rfl⟩ := gz_mp h
    exact wb_X6_look_52 hX hm0 hk
  · replace h := gz_if' g1 h
    refine gz_aload_n (pc := 11) hX dX6_look_11 rfl 0 rfl ?_
    refine mg_0 (pc := 12) hX dX6_look_12 ?_
    refine gz_aload_n (pc := 15) hX dX6_look_15 rfl 0 rfl ?_
    refine mg_2 (pc := 16) hX dX6_look_16 ?_
    obtain ⟨g2, h⟩ := gz_gu h
    refine mz_iald (pc := 19) (c := 1001) (n := 1600) hX rfl rfl g2 dX6_look_19 ?_
    refine gz_bipush (pc := 20) (v := (10 : Int32)) hX dX6_look_20 (by decide) ?_
    refine gz_icmp_eq (pc := 22) (tgt := 39) hX dX6_look_22 (by decide) (fun g3 => ?_) (fun g3 => ?_)
    · replace h := gz_it' g3 h
      exact wb_X6_look_39 hX h hk
    · replace h := gz_if' g3 h
      refine gz_aload_n (pc := 25) hX dX6_look_25 rfl 0 rfl ?_
      refine mg_0 (pc := 26) hX dX6_look_26 ?_
      refine gz_aload_n (pc := 29) hX dX6_look_29 rfl 0 rfl ?_
      refine mg_2 (pc := 30) hX dX6_look_30 ?_
      obtain ⟨g4, h⟩ := gz_gu h
      refine mz_iald (pc := 33) (c := 1001) (n := 1600) hX rfl rfl g4 dX6_look_33 ?_
      refine gz_bipush (pc := 34) (v := (32 : Int32)) hX dX6_look_34 (by decide) ?_
      refine gz_icmp_ne (pc := 36) (tgt := 52) hX dX6_look_36 (by decide) (fun g5 => ?_) (fun g5 => ?_)
      · replace h := gz_if' g5 h
        obtain ⟨z0, hm0, rfl⟩ := gz_mp h
        exact wb_X6_look_52 hX hm0 hk
      · replace h := gz_it' g5 h
        exact wb_X6_look_39 hX h hk
noncomputable def ml_X6_look_0  (m : MM) : Option (Int32 × MM) := gz_loop (fun q : (MM) => mb_X6_look_0  q) (m)
theorem wl_X6_look_0 {X : gz_X} {G : gz_G} (hX : gz_C mS X G cX6_look 1 RX6 0 0)   {m : MM} {z : (Int32 × MM)} (h : ml_X6_look_0  m = some z) (hk : (fun z : (Int32 × MM) => gz_kI mS X G 1 (0, 0) cX6_look (mF z.2) z.1) z) : gz_V mS X G 1 (0, 0) (mF m) 0 [(0, .ref (gz_ad G 2000))] [] := by
  have hp : mP_X6_look_0 X G (m) := gz_loop_ind (fun q z hz hkz => wb_X6_look_0 hX  hz hkz) h hk
  exact hp
noncomputable def mf_look  (m : MM) : Option (Int32 × MM) :=
  (ml_X6_look_0  m)
theorem wm_look {X : gz_X} {G : gz_G} (hX : gz_C mS X G cX6_look 1 RX6 0 0)   {m : MM} {z : (Int32 × MM)} (h : mf_look  m = some z) (hk : (fun z : (Int32 × MM) => gz_kI mS X G 1 (0, 0) cX6_look (mF z.2) z.1) z) : gz_V mS X G 1 (0, 0) (mF m) 0 [(0, .ref (gz_ad G 2000))] [] := by
  unfold mf_look at h
  exact wl_X6_look_0 hX h hk
theorem mt_look {G : gz_G} {l : Launch}   {m m9 : MM} {r : Int32} (h : mf_look  m = some (r, m9)) : gz_Met mS G l yX6_look cX6_look 1 (some .int) (mRm 0 0) [.ref (gz_ad G 2000)] (mF m) (mF m9) (some (.int r)) :=
  gz_ofI (plainFor_of_name mz_plain) (Nat.le_of_ble_eq_true rfl) fun X _ hX hk => wm_look hX h hk
theorem mc_look {X : gz_X} {G : gz_G} {cc : ByteArray} {nL fr lo pc : Nat} {lv : List (Nat × Value)} {rest st0 : List Value} (hX : gz_C mS X G cc nL RX6 fr lo)   {m m9 : MM} {r : Int32} (h : mf_look  m = some (r, m9)) (hroom : 0 + 1 ≤ fr ∧ 8 + (1 + 11) + 0 ≤ lo) (hst : st0 = [.ref (gz_ad G 2000)] ++ rest) (hW : (rest.map fun v => v.category).sum ≤ 8) (hd : decode cc pc = .ok (.invokevirtual 263, 3)) (kk : gz_V mS X G nL (0, 0) (mF m9) (pc + 3) lv (.int r :: rest)) : gz_V mS X G nL (0, 0) (mF m) pc lv st0 :=
  gz_callV hX mz_E (As := []) (rest := rest) (q := (RX6, TX6, 104)) (ci := 0) (c := 2000) (mt_look (l := X.2.1) h) (lw_V q2096 q2098 qs68 q182 q2099) (n := 0) (by decide +kernel) hroom rfl rfl (by decide) rfl hst hW hd (rem := (0, 0)) kk
/-! fail(II)V -/
noncomputable def mf_fail (x1 : Int32) (x2 : Int32) (m : MM) : Option (Unit × MM) :=
  (if (m.1 2000 5) = (0 : Int32) then gz_let (msI m 2000 5 x1) fun m2 => gz_let (msI m2 2000 6 x2) fun m3 => some ((), m3) else some ((), m))
theorem wm_fail {X : gz_X} {G : gz_G} (hX : gz_C mS X G cX6_fail 3 RX6 0 0) {x1 : Int32} {x2 : Int32}  {m : MM} {z : (Unit × MM)} (h : mf_fail x1 x2 m = some z) (hk : (fun z : (Unit × MM) => gz_kV mS X G 3 (0, 0) cX6_fail (mF z.2)) z) : gz_V mS X G 3 (0, 0) (mF m) 0 [(0, .ref (gz_ad G 2000)), (1, .int x1), (2, .int x2)] [] := by
  unfold mf_fail at h
  refine gz_aload_n (pc := 0) hX dX6_fail_0 rfl 0 rfl ?_
  refine mg_5 (pc := 1) hX dX6_fail_1 ?_
  refine gz_if_eq (pc := 4) (tgt := 8) hX dX6_fail_4 (by decide) (fun g1 => ?_) (fun g1 => ?_)
  · replace h := gz_it' g1 h
    refine gz_aload_n (pc := 8) hX dX6_fail_8 rfl 0 rfl ?_
    refine gz_iload_n (pc := 9) hX dX6_fail_9 rfl 1 rfl ?_
    obtain ⟨m2, em2, h⟩ := gz_lt h
    refine mp_5 (pc := 10) hX dX6_fail_10 em2 ?_
    refine gz_aload_n (pc := 13) hX dX6_fail_13 rfl 0 rfl ?_
    refine gz_iload_n (pc := 14) hX dX6_fail_14 rfl 2 rfl ?_
    obtain ⟨m3, em3, h⟩ := gz_lt h
    refine mp_6 (pc := 15) hX dX6_fail_15 em3 ?_
    obtain rfl := Option.some.inj h
    exact hk _ _ dX6_fail_18
  · replace h := gz_if' g1 h
    obtain rfl := Option.some.inj h
    exact hk _ _ dX6_fail_7
theorem mt_fail {G : gz_G} {l : Launch} {x1 : Int32} {x2 : Int32}  {m m9 : MM} (h : mf_fail x1 x2 m = some ((), m9)) : gz_Met mS G l yX6_fail cX6_fail 3 none (mRm 0 0) [.ref (gz_ad G 2000), .int x1, .int x2] (mF m) (mF m9) none :=
  gz_ofV (plainFor_of_name mz_plain) (Nat.le_of_ble_eq_true rfl) fun X _ hX hk => wm_fail hX h hk
theorem mc_fail {X : gz_X} {G : gz_G} {cc : ByteArray} {nL fr lo pc : Nat} {lv : List (Nat × Value)} {rest st0 : List Value} (hX : gz_C mS X G cc nL RX6 fr lo) {x1 : Int32} {x2 : Int32}  {m m9 : MM} (h : mf_fail x1 x2 m = some ((), m9)) (hroom : 0 + 1 ≤ fr ∧ 8 + (3 + 11) + 0 ≤ lo) (hst : st0 = [.int x2, .int x1, .ref (gz_ad G 2000)] ++ rest) (hW : (rest.map fun v => v.category).sum ≤ 8) (hd : decode cc pc = .ok (.invokevirtual 281, 3)) (kk : gz_V mS X G nL (0, 0) (mF m9) (pc + 3) lv (rest)) : gz_V mS X G nL (0, 0) (mF m) pc lv st0 :=
  gz_callV hX mz_E (As := [.int x1, .int x2]) (rest := rest) (q := (RX6, TX6, 104)) (ci := 0) (c := 2000) (mt_fail (l := X.2.1) h) (lw_V q2104 q2106 qs70 q182 q2107) (n := 2) (by decide +kernel) hroom rfl rfl (by decide) rfl hst hW hd (rem := (0, 0)) kk
/-! isLetter(I)Z -/
noncomputable def mj_X6_isLetter_16  (m : MM) : Option (Int32 × MM) :=
  some ((0 : Int32), m)
theorem wb_X6_isLetter_16 {X : gz_X} {G : gz_G} (hX : gz_C mS X G cX6_isLetter 1 RX6 0 0)   {m : MM} {z : (Int32 × MM)} (h : mj_X6_isLetter_16  m = some z) (hk : (fun z : (Int32 × MM) => gz_kZ mS X G 1 (0, 0) cX6_isLetter (mF z.2) z.1) z) : gz_V mS X G 1 (0, 0) (mF m) 16 [] [] := by
  unfold mj_X6_isLetter_16 at h
  refine gz_iconst (pc := 16) (v := (0 : Int32)) hX dX6_isLetter_16 (by decide) ?_
  obtain rfl := Option.some.inj h
  exact hk _ _ dX6_isLetter_17 (Or.inl rfl)
noncomputable def mf_isLetter (x0 : Int32) (m : MM) : Option (Int32 × MM) :=
  (if x0 < (97 : Int32) then (mj_X6_isLetter_16  m) else (if (122 : Int32) < x0 then (mj_X6_isLetter_16  m) else some ((1 : Int32), m)))
theorem wm_isLetter {X : gz_X} {G : gz_G} (hX : gz_C mS X G cX6_isLetter 1 RX6 0 0) {x0 : Int32}  {m : MM} {z : (Int32 × MM)} (h : mf_isLetter x0 m = some z) (hk : (fun z : (Int32 × MM) => gz_kZ mS X G 1 (0, 0) cX6_isLetter (mF z.2) z.1) z) : gz_V mS X G 1 (0, 0) (mF m) 0 [(0, .int x0)] [] := by
  unfold mf_isLetter at h
  refine gz_iload_n (pc := 0) hX dX6_isLetter_0 rfl 0 rfl ?_
  refine gz_bipush (pc := 1) (v := (97 : Int32)) hX dX6_isLetter_1 (by decide) ?_
  refine gz_icmp_lt (pc := 3) (tgt := 16) hX dX6_isLetter_3 (by decide) (fun g1 => ?_) (fun g1 => ?_)
  · replace h := gz_it' g1 h
    refine gz_sub (lw := []) [] rfl ?_
    exact wb_X6_isLetter_16 hX h hk
  · replace h := gz_if' g1 h
    refine gz_iload_n (pc := 6) hX dX6_isLetter_6 rfl 0 rfl ?_
    refine gz_bipush (pc := 7) (v := (122 : Int32)) hX dX6_isLetter_7 (by decide) ?_
    refine gz_icmp_gt (pc := 9) (tgt := 16) hX dX6_isLetter_9 (by decide) (fun g2 => ?_) (fun g2 => ?_)
    · replace h := gz_it' g2 h
      refine gz_sub (lw := []) [] rfl ?_
      exact wb_X6_isLetter_16 hX h hk
    · replace h := gz_if' g2 h
      refine gz_iconst (pc := 12) (v := (1 : Int32)) hX dX6_isLetter_12 (by decide) ?_
      refine gz_goto (pc := 13) (tgt := 17) hX dX6_isLetter_13 (by decide) ?_
      obtain rfl := Option.some.inj h
      exact hk _ _ dX6_isLetter_17 (Or.inr rfl)
theorem mt_isLetter {G : gz_G} {l : Launch} {x0 : Int32}  {m m9 : MM} {r : Int32} (h : mf_isLetter x0 m = some (r, m9)) : gz_Met mS G l yX6_isLetter cX6_isLetter 1 (some .boolean) (mRm 0 0) [.int x0] (mF m) (mF m9) (some (.int r)) :=
  gz_ofZ (plainFor_of_name mz_plain) (Nat.le_of_ble_eq_true rfl) fun X _ hX hk => wm_isLetter hX h hk
theorem mc_isLetter {X : gz_X} {G : gz_G} {cc : ByteArray} {nL fr lo pc : Nat} {lv : List (Nat × Value)} {rest st0 : List Value} (hX : gz_C mS X G cc nL RX6 fr lo) {x0 : Int32}  {m m9 : MM} {r : Int32} (h : mf_isLetter x0 m = some (r, m9)) (hroom : 0 + 1 ≤ fr ∧ 8 + (1 + 11) + 0 ≤ lo) (hst : st0 = [.int x0] ++ rest) (hW : (rest.map fun v => v.category).sum ≤ 8) (hd : decode cc pc = .ok (.invokestatic 267, 3)) (kk : gz_V mS X G nL (0, 0) (mF m9) (pc + 3) lv (.int r :: rest)) : gz_V mS X G nL (0, 0) (mF m) pc lv st0 :=
  gz_callS hX mz_E (As := [.int x0]) (rest := rest) (mt_isLetter (l := X.2.1) h) (lw_S q2116 q2117 q182 q2118) (n := 1) (by decide +kernel) hroom rfl hst hW hd (rem := (0, 0)) kk
/-! isHere([C)Z -/
noncomputable def mj_X6_isHere_28  (m : MM) : Option (Int32 × MM) :=
  some ((0 : Int32), m)
theorem wb_X6_isHere_28 {X : gz_X} {G : gz_G} (hX : gz_C mS X G cX6_isHere 4 RX6 1 20)   {m : MM} {z : (Int32 × MM)} (h : mj_X6_isHere_28  m = some z) (hk : (fun z : (Int32 × MM) => gz_kZ mS X G 4 (0, 0) cX6_isHere (mF z.2) z.1) z) : gz_V mS X G 4 (0, 0) (mF m) 28 [(0, .ref (gz_ad G 2000))] [] := by
  unfold mj_X6_isHere_28 at h
  refine gz_iconst (pc := 28) (v := (0 : Int32)) hX dX6_isHere_28 (by decide) ?_
  obtain rfl := Option.some.inj h
  exact hk _ _ dX6_isHere_29 (Or.inl rfl)
def mP_X6_isHere_35 (X : gz_X) (G : gz_G) (c1 : Nat) (q : (Int32 × MM)) : Prop := gz_V mS X G 4 (0, 0) (mF q.2) 35 [(0, .ref (gz_ad G 2000)), (1, .ref (gz_ad G c1)), (2, .int q.1)] []
def mP_X6_isHere_76 (X : gz_X) (G : gz_G) (c1 : Nat) (q : (Int32 × MM)) : Prop := gz_V mS X G 4 (0, 0) (mF q.2) 76 [(0, .ref (gz_ad G 2000)), (1, .ref (gz_ad G c1)), (3, .int q.1)] []
noncomputable def mb_X6_isHere_76 (c1 : Nat) (x3 : Int32) (m : MM) : Option ((Int32 × MM) ⊕ (Int32 × MM)) :=
  (if (nI (nM c1)) ≤ x3 then some (Sum.inr ((1 : Int32), m)) else (if gz_in ((m.1 2000 2) + x3) (1600) then (if gz_in x3 (nM c1) then (if (m.1 1001 (gz_ix ((m.1 2000 2) + x3))) = (m.1 c1 (gz_ix x3)) then gz_let (x3 + (1 : Int32)) fun y5 => some (Sum.inl (y5, m)) else some (Sum.inr ((0 : Int32), m))) else none) else none))
theorem wb_X6_isHere_76 {X : gz_X} {G : gz_G} (hX : gz_C mS X G cX6_isHere 4 RX6 1 20) {c1 : Nat} {x3 : Int32} (hc_1 : kM c1 = 103) {m : MM} {z : ((Int32 × MM) ⊕ (Int32 × MM))} (h : mb_X6_isHere_76 c1 x3 m = some z) (hk : (Sum.elim (mP_X6_isHere_76 X G c1) (fun z : (Int32 × MM) => gz_kZ mS X G 4 (0, 0) cX6_isHere (mF z.2) z.1)) z) : gz_V mS X G 4 (0, 0) (mF m) 76 [(0, .ref (gz_ad G 2000)), (1, .ref (gz_ad G c1)), (3, .int x3)] [] := by
  unfold mb_X6_isHere_76 at h
  refine gz_iload_n (pc := 76) hX dX6_isHere_76 rfl 2 rfl ?_
  refine gz_aload_n (pc := 77) hX dX6_isHere_77 rfl 1 rfl ?_
  refine mz_alen (pc := 78) (c := c1) (t := 2) (n := nM c1) hX rfl hc_1 rfl dX6_isHere_78 ?_
  refine gz_icmp_ge (pc := 79) (tgt := 107) hX dX6_isHere_79 (by decide) (fun g1 => ?_) (fun g1 => ?_)
  · replace h := gz_it' g1 h
    refine gz_iconst (pc := 107) (v := (1 : Int32)) hX dX6_isHere_107 (by decide) ?_
    obtain rfl := Option.some.inj h
    exact hk _ _ dX6_isHere_108 (Or.inr rfl)
  · replace h := gz_if' g1 h
    refine gz_aload_n (pc := 82) hX dX6_isHere_82 rfl 0 rfl ?_
    refine mg_0 (pc := 83) hX dX6_isHere_83 ?_
    refine gz_aload_n (pc := 86) hX dX6_isHere_86 rfl 0 rfl ?_
    refine mg_2 (pc := 87) hX dX6_isHere_87 ?_
    refine gz_iload_n (pc := 90) hX dX6_isHere_90 rfl 2 rfl ?_
    refine gz_iadd (pc := 91) hX dX6_isHere_91 ?_
    obtain ⟨g2, h⟩ := gz_gu h
    refine mz_iald (pc := 92) (c := 1001) (n := 1600) hX rfl rfl g2 dX6_isHere_92 ?_
    refine gz_aload_n (pc := 93) hX dX6_isHere_93 rfl 1 rfl ?_
    refine gz_iload_n (pc := 94) hX dX6_isHere_94 rfl 2 rfl ?_
    obtain ⟨g3, h⟩ := gz_gu h
    refine mz_cald (pc := 95) (c := c1) (n := nM c1) hX hc_1 rfl g3 dX6_isHere_95 ?_
    refine gz_icmp_eq (pc := 96) (tgt := 101) hX dX6_isHere_96 (by decide) (fun g4 => ?_) (fun g4 => ?_)
    · replace h := gz_it' g4 h
      obtain ⟨y5, ey5, h⟩ := gz_lt h
      refine gz_iinc (pc := 101) (v := y5) (lw := [(3, .int y5), (0, .ref (gz_ad G 2000)), (1, .ref (gz_ad G c1))]) hX dX6_isHere_101 (k := 2) rfl (by rw [ey5]; rfl) (by decide) rfl ?_
      refine gz_goto (pc := 104) (tgt := 76) hX dX6_isHere_104 (by decide) ?_
      refine gz_sub (lw := [(0, .ref (gz_ad G 2000)), (1, .ref (gz_ad G c1)), (3, .int y5)]) [1, 2, 0] rfl ?_
      obtain rfl := Option.some.inj h
      exact hk
    · replace h := gz_if' g4 h
      refine gz_iconst (pc := 99) (v := (0 : Int32)) hX dX6_isHere_99 (by decide) ?_
      obtain rfl := Option.some.inj h
      exact hk _ _ dX6_isHere_100 (Or.inl rfl)
noncomputable def ml_X6_isHere_76 (c1 : Nat) (x3 : Int32) (m : MM) : Option (Int32 × MM) := gz_loop (fun q : (Int32 × MM) => mb_X6_isHere_76 c1 q.1 q.2) (x3, m)
theorem wl_X6_isHere_76 {X : gz_X} {G : gz_G} (hX : gz_C mS X G cX6_isHere 4 RX6 1 20) {c1 : Nat} {x3 : Int32} (hc_1 : kM c1 = 103) {m : MM} {z : (Int32 × MM)} (h : ml_X6_isHere_76 c1 x3 m = some z) (hk : (fun z : (Int32 × MM) => gz_kZ mS X G 4 (0, 0) cX6_isHere (mF z.2) z.1) z) : gz_V mS X G 4 (0, 0) (mF m) 76 [(0, .ref (gz_ad G 2000)), (1, .ref (gz_ad G c1)), (3, .int x3)] [] := by
  have hp : mP_X6_isHere_76 X G c1 (x3, m) := gz_loop_ind (fun q z hz hkz => wb_X6_isHere_76 hX hc_1 hz hkz) h hk
  exact hp
noncomputable def mj_X6_isHere_61 (c1 : Nat) (x2 : Int32) (m : MM) : Option (Int32 × MM) :=
  (if (x2 - (m.1 2000 2)) = (nI (nM c1)) then (ml_X6_isHere_76 c1 (0 : Int32) m) else some ((0 : Int32), m))
theorem wb_X6_isHere_61 {X : gz_X} {G : gz_G} (hX : gz_C mS X G cX6_isHere 4 RX6 1 20) {c1 : Nat} {x2 : Int32} (hc_1 : kM c1 = 103) {m : MM} {z : (Int32 × MM)} (h : mj_X6_isHere_61 c1 x2 m = some z) (hk : (fun z : (Int32 × MM) => gz_kZ mS X G 4 (0, 0) cX6_isHere (mF z.2) z.1) z) : gz_V mS X G 4 (0, 0) (mF m) 61 [(0, .ref (gz_ad G 2000)), (1, .ref (gz_ad G c1)), (2, .int x2)] [] := by
  unfold mj_X6_isHere_61 at h
  refine gz_iload_n (pc := 61) hX dX6_isHere_61 rfl 2 rfl ?_
  refine gz_aload_n (pc := 62) hX dX6_isHere_62 rfl 0 rfl ?_
  refine mg_2 (pc := 63) hX dX6_isHere_63 ?_
  refine gz_isub (pc := 66) hX dX6_isHere_66 ?_
  refine gz_aload_n (pc := 67) hX dX6_isHere_67 rfl 1 rfl ?_
  refine mz_alen (pc := 68) (c := c1) (t := 2) (n := nM c1) hX rfl hc_1 rfl dX6_isHere_68 ?_
  refine gz_icmp_eq (pc := 69) (tgt := 74) hX dX6_isHere_69 (by decide) (fun g1 => ?_) (fun g1 => ?_)
  · replace h := gz_it' g1 h
    refine gz_iconst (pc := 74) (v := (0 : Int32)) hX dX6_isHere_74 (by decide) ?_
    refine gz_istore_n (pc := 75) (lw := [(3, .int (0 : Int32)), (0, .ref (gz_ad G 2000)), (1, .ref (gz_ad G c1)), (2, .int x2)]) hX dX6_isHere_75 rfl (by decide) rfl ?_
    refine gz_sub (lw := [(0, .ref (gz_ad G 2000)), (1, .ref (gz_ad G c1)), (3, .int (0 : Int32))]) [1, 2, 0] rfl ?_
    exact wl_X6_isHere_76 hX hc_1 h hk
  · replace h := gz_if' g1 h
    refine gz_iconst (pc := 72) (v := (0 : Int32)) hX dX6_isHere_72 (by decide) ?_
    obtain rfl := Option.some.inj h
    exact hk _ _ dX6_isHere_73 (Or.inl rfl)
noncomputable def mb_X6_isHere_35 (c1 : Nat) (x2 : Int32) (m : MM) : Option ((Int32 × MM) ⊕ (Int32 × MM)) :=
  (if (m.1 2000 3) ≤ x2 then (Option.map Sum.inr (mj_X6_isHere_61 c1 x2 m)) else (if gz_in x2 (1600) then ((mf_isLetter (m.1 1001 (gz_ix x2)) m).bind fun (r3, m4) => (if r3 = (0 : Int32) then (Option.map Sum.inr (mj_X6_isHere_61 c1 x2 m4)) else gz_let (x2 + (1 : Int32)) fun y7 => some (Sum.inl (y7, m4)))) else none))
theorem wb_X6_isHere_35 {X : gz_X} {G : gz_G} (hX : gz_C mS X G cX6_isHere 4 RX6 1 20) {c1 : Nat} {x2 : Int32} (hc_1 : kM c1 = 103) {m : MM} {z : ((Int32 × MM) ⊕ (Int32 × MM))} (h : mb_X6_isHere_35 c1 x2 m = some z) (hk : (Sum.elim (mP_X6_isHere_35 X G c1) (fun z : (Int32 × MM) => gz_kZ mS X G 4 (0, 0) cX6_isHere (mF z.2) z.1)) z) : gz_V mS X G 4 (0, 0) (mF m) 35 [(0, .ref (gz_ad G 2000)), (1, .ref (gz_ad G c1)), (2, .int x2)] [] := by
  unfold mb_X6_isHere_35 at h
  refine gz_iload_n (pc := 35) hX dX6_isHere_35 rfl 2 rfl ?_
  refine gz_aload_n (pc := 36) hX dX6_isHere_36 rfl 0 rfl ?_
  refine mg_3 (pc := 37) hX dX6_isHere_37 ?_
  refine gz_icmp_ge (pc := 40) (tgt := 61) hX dX6_isHere_40 (by decide) (fun g1 => ?_) (fun g1 => ?_)
  · replace h := gz_it' g1 h
    obtain ⟨z0, hm0, rfl⟩ := gz_mp h
    exact wb_X6_isHere_61 hX hc_1 hm0 hk
  · replace h := gz_if' g1 h
    refine gz_aload_n (pc := 43) hX dX6_isHere_43 rfl 0 rfl ?_
    refine mg_0 (pc := 44) hX dX6_isHere_44 ?_
    refine gz_iload_n (pc := 47) hX dX6_isHere_47 rfl 2 rfl ?_
    obtain ⟨g2, h⟩ := gz_gu h
    refine mz_iald (pc := 48) (c := 1001) (n := 1600) hX rfl rfl g2 dX6_isHere_48 ?_
    obtain ⟨⟨r3, m4⟩, c5, h⟩ := gz_bd h
    refine mc_isLetter (pc := 49) hX c5 ⟨Nat.le_of_ble_eq_true rfl, Nat.le_of_ble_eq_true rfl⟩ (rest := []) rfl (Nat.le_of_ble_eq_true rfl) dX6_isHere_49 ?_
    refine gz_if_eq (pc := 52) (tgt := 61) hX dX6_isHere_52 (by decide) (fun g6 => ?_) (fun g6 => ?_)
    · replace h := gz_it' g6 h
      obtain ⟨z0, hm0, rfl⟩ := gz_mp h
      exact wb_X6_isHere_61 hX hc_1 hm0 hk
    · replace h := gz_if' g6 h
      obtain ⟨y7, ey7, h⟩ := gz_lt h
      refine gz_iinc (pc := 55) (v := y7) (lw := [(2, .int y7), (0, .ref (gz_ad G 2000)), (1, .ref (gz_ad G c1))]) hX dX6_isHere_55 (k := 2) rfl (by rw [ey7]; rfl) (by decide) rfl ?_
      refine gz_goto (pc := 58) (tgt := 35) hX dX6_isHere_58 (by decide) ?_
      refine gz_sub (lw := [(0, .ref (gz_ad G 2000)), (1, .ref (gz_ad G c1)), (2, .int y7)]) [1, 2, 0] rfl ?_
      obtain rfl := Option.some.inj h
      exact hk
noncomputable def ml_X6_isHere_35 (c1 : Nat) (x2 : Int32) (m : MM) : Option (Int32 × MM) := gz_loop (fun q : (Int32 × MM) => mb_X6_isHere_35 c1 q.1 q.2) (x2, m)
theorem wl_X6_isHere_35 {X : gz_X} {G : gz_G} (hX : gz_C mS X G cX6_isHere 4 RX6 1 20) {c1 : Nat} {x2 : Int32} (hc_1 : kM c1 = 103) {m : MM} {z : (Int32 × MM)} (h : ml_X6_isHere_35 c1 x2 m = some z) (hk : (fun z : (Int32 × MM) => gz_kZ mS X G 4 (0, 0) cX6_isHere (mF z.2) z.1) z) : gz_V mS X G 4 (0, 0) (mF m) 35 [(0, .ref (gz_ad G 2000)), (1, .ref (gz_ad G c1)), (2, .int x2)] [] := by
  have hp : mP_X6_isHere_35 X G c1 (x2, m) := gz_loop_ind (fun q z hz hkz => wb_X6_isHere_35 hX hc_1 hz hkz) h hk
  exact hp
noncomputable def mf_isHere (c1 : Nat) (m : MM) : Option (Int32 × MM) :=
  (if (m.1 2000 5) = (0 : Int32) then ((mf_look m).bind fun (r2, m3) => ((mf_isLetter r2 m3).bind fun (r5, m6) => (if r5 = (0 : Int32) then (mj_X6_isHere_28  m6) else (if (m6.1 2000 2) = (m6.1 2000 4) then (mj_X6_isHere_28  m6) else (ml_X6_isHere_35 c1 (m6.1 2000 2) m6))))) else (mj_X6_isHere_28  m))
theorem wm_isHere {X : gz_X} {G : gz_G} (hX : gz_C mS X G cX6_isHere 4 RX6 1 20) {c1 : Nat} (hc_1 : kM c1 = 103) {m : MM} {z : (Int32 × MM)} (h : mf_isHere c1 m = some z) (hk : (fun z : (Int32 × MM) => gz_kZ mS X G 4 (0, 0) cX6_isHere (mF z.2) z.1) z) : gz_V mS X G 4 (0, 0) (mF m) 0 [(0, .ref (gz_ad G 2000)), (1, .ref (gz_ad G c1))] [] := by
  unfold mf_isHere at h
  refine gz_aload_n (pc := 0) hX dX6_isHere_0 rfl 0 rfl ?_
  refine mg_5 (pc := 1) hX dX6_isHere_1 ?_
  refine gz_if_ne (pc := 4) (tgt := 28) hX dX6_isHere_4 (by decide) (fun g1 => ?_) (fun g1 => ?_)
  · replace h := gz_if' g1 h
    refine gz_sub (lw := [(0, .ref (gz_ad G 2000))]) [0] rfl ?_
    exact wb_X6_isHere_28 hX h hk
  · replace h := gz_it' g1 h
    refine gz_aload_n (pc := 7) hX dX6_isHere_7 rfl 0 rfl ?_
    obtain ⟨⟨r2, m3⟩, c4, h⟩ := gz_bd h
    refine mc_look (pc := 8) hX c4 ⟨Nat.le_of_ble_eq_true rfl, Nat.le_of_ble_eq_true rfl⟩ (rest := []) rfl (Nat.le_of_ble_eq_true rfl) dX6_isHere_8 ?_
    obtain ⟨⟨r5, m6⟩, c7, h⟩ := gz_bd h
    refine mc_isLetter (pc := 11) hX c7 ⟨Nat.le_of_ble_eq_true rfl, Nat.le_of_ble_eq_true rfl⟩ (rest := []) rfl (Nat.le_of_ble_eq_true rfl) dX6_isHere_11 ?_
    refine gz_if_eq (pc := 14) (tgt := 28) hX dX6_isHere_14 (by decide) (fun g8 => ?_) (fun g8 => ?_)
    · replace h := gz_it' g8 h
      refine gz_sub (lw := [(0, .ref (gz_ad G 2000))]) [0] rfl ?_
      exact wb_X6_isHere_28 hX h hk
    · replace h := gz_if' g8 h
      refine gz_aload_n (pc := 17) hX dX6_isHere_17 rfl 0 rfl ?_
      refine mg_2 (pc := 18) hX dX6_isHere_18 ?_
      refine gz_aload_n (pc := 21) hX dX6_isHere_21 rfl 0 rfl ?_
      refine mg_4 (pc := 22) hX dX6_isHere_22 ?_
      refine gz_icmp_ne (pc := 25) (tgt := 30) hX dX6_isHere_25 (by decide) (fun g9 => ?_) (fun g9 => ?_)
      · replace h := gz_if' g9 h
        refine gz_aload_n (pc := 30) hX dX6_isHere_30 rfl 0 rfl ?_
        refine mg_2 (pc := 31) hX dX6_isHere_31 ?_
        refine gz_istore_n (pc := 34) (lw := [(2, .int (m6.1 2000 2)), (0, .ref (gz_ad G 2000)), (1, .ref (gz_ad G c1))]) hX dX6_isHere_34 rfl (by decide) rfl ?_
        refine gz_sub (lw := [(0, .ref (gz_ad G 2000)), (1, .ref (gz_ad G c1)), (2, .int (m6.1 2000 2))]) [1, 2, 0] rfl ?_
        exact wl_X6_isHere_35 hX hc_1 h hk
      · replace h := gz_it' g9 h
        refine gz_sub (lw := [(0, .ref (gz_ad G 2000))]) [0] rfl ?_
        exact wb_X6_isHere_28 hX h hk
theorem mt_isHere {G : gz_G} {l : Launch} {c1 : Nat} (hc_1 : kM c1 = 103) {m m9 : MM} {r : Int32} (h : mf_isHere c1 m = some (r, m9)) : gz_Met mS G l yX6_isHere cX6_isHere 4 (some .boolean) (mRm 1 20) [.ref (gz_ad G 2000), .ref (gz_ad G c1)] (mF m) (mF m9) (some (.int r)) :=
  gz_ofZ (plainFor_of_name mz_plain) (Nat.le_of_ble_eq_true rfl) fun X _ hX hk => wm_isHere hX hc_1 h hk
theorem mc_isHere {X : gz_X} {G : gz_G} {cc : ByteArray} {nL fr lo pc : Nat} {lv : List (Nat × Value)} {rest st0 : List Value} (hX : gz_C mS X G cc nL RX6 fr lo) {c1 : Nat} (hc_1 : kM c1 = 103) {m m9 : MM} {r : Int32} (h : mf_isHere c1 m = some (r, m9)) (hroom : 1 + 1 ≤ fr ∧ 8 + (4 + 11) + 20 ≤ lo) (hst : st0 = [.ref (gz_ad G c1), .ref (gz_ad G 2000)] ++ rest) (hW : (rest.map fun v => v.category).sum ≤ 8) (hd : decode cc pc = .ok (.invokevirtual 274, 3)) (kk : gz_V mS X G nL (0, 0) (mF m9) (pc + 3) lv (.int r :: rest)) : gz_V mS X G nL (0, 0) (mF m) pc lv st0 :=
  gz_callV hX mz_E (As := [.ref (gz_ad G c1)]) (rest := rest) (q := (RX6, TX6, 104)) (ci := 0) (c := 2000) (mt_isHere (l := X.2.1) hc_1 h) (lw_V q2112 q2114 qs72 q182 q2115) (n := 1) (by decide +kernel) hroom rfl rfl (by decide) rfl hst hW hd (rem := (0, 0)) kk
/-! takes([C)Z -/
noncomputable def mf_takes (c1 : Nat) (m : MM) : Option (Int32 × MM) :=
  ((mf_isHere c1 m).bind fun (r1, m2) => (if r1 = (0 : Int32) then some ((0 : Int32), m2) else gz_let (msI m2 2000 2 ((m2.1 2000 2) + (nI (nM c1)))) fun m5 => gz_let (msI m5 2000 4 (m5.1 2000 2)) fun m6 => some ((1 : Int32), m6)))
theorem wm_takes {X : gz_X} {G : gz_G} (hX : gz_C mS X G cX6_takes 2 RX6 2 43) {c1 : Nat} (hc_1 : kM c1 = 103) {m : MM} {z : (Int32 × MM)} (h : mf_takes c1 m = some z) (hk : (fun z : (Int32 × MM) => gz_kZ mS X G 2 (0, 0) cX6_takes (mF z.2) z.1) z) : gz_V mS X G 2 (0, 0) (mF m) 0 [(0, .ref (gz_ad G 2000)), (1, .ref (gz_ad G c1))] [] := by
  unfold mf_takes at h
  refine gz_aload_n (pc := 0) hX dX6_takes_0 rfl 0 rfl ?_
  refine gz_aload_n (pc := 1) hX dX6_takes_1 rfl 1 rfl ?_
  obtain ⟨⟨r1, m2⟩, c3, h⟩ := gz_bd h
  refine mc_isHere (pc := 2) hX hc_1 c3 ⟨Nat.le_of_ble_eq_true rfl, Nat.le_of_ble_eq_true rfl⟩ (rest := []) rfl (Nat.le_of_ble_eq_true rfl) dX6_takes_2 ?_
  refine gz_if_ne (pc := 5) (tgt := 10) hX dX6_takes_5 (by decide) (fun g4 => ?_) (fun g4 => ?_)
  · replace h := gz_if' g4 h
    refine gz_aload_n (pc := 10) hX dX6_takes_10 rfl 0 rfl ?_
    refine gz_dup (pc := 11) hX dX6_takes_11 rfl ?_
    refine mg_2 (pc := 12) hX dX6_takes_12 ?_
    refine gz_aload_n (pc := 15) hX dX6_takes_15 rfl 1 rfl ?_
    refine mz_alen (pc := 16) (c := c1) (t := 2) (n := nM c1) hX rfl hc_1 rfl dX6_takes_16 ?_
    refine gz_iadd (pc := 17) hX dX6_takes_17 ?_
    obtain ⟨m5, em5, h⟩ := gz_lt h
    refine mp_2 (pc := 18) hX dX6_takes_18 em5 ?_
    refine gz_aload_n (pc := 21) hX dX6_takes_21 rfl 0 rfl ?_
    refine gz_aload_n (pc := 22) hX dX6_takes_22 rfl 0 rfl ?_
    refine mg_2 (pc := 23) hX dX6_takes_23 ?_
    obtain ⟨m6, em6, h⟩ := gz_lt h
    refine mp_4 (pc := 26) hX dX6_takes_26 em6 ?_
    refine gz_iconst (pc := 29) (v := (1 : Int32)) hX dX6_takes_29 (by decide) ?_
    obtain rfl := Option.some.inj h
    exact hk _ _ dX6_takes_30 (Or.inr rfl)
  · replace h := gz_it' g4 h
    refine gz_iconst (pc := 8) (v := (0 : Int32)) hX dX6_takes_8 (by decide) ?_
    obtain rfl := Option.some.inj h
    exact hk _ _ dX6_takes_9 (Or.inl rfl)
theorem mt_takes {G : gz_G} {l : Launch} {c1 : Nat} (hc_1 : kM c1 = 103) {m m9 : MM} {r : Int32} (h : mf_takes c1 m = some (r, m9)) : gz_Met mS G l yX6_takes cX6_takes 2 (some .boolean) (mRm 2 43) [.ref (gz_ad G 2000), .ref (gz_ad G c1)] (mF m) (mF m9) (some (.int r)) :=
  gz_ofZ (plainFor_of_name mz_plain) (Nat.le_of_ble_eq_true rfl) fun X _ hX hk => wm_takes hX hc_1 h hk
theorem mc_takes {X : gz_X} {G : gz_G} {cc : ByteArray} {nL fr lo pc : Nat} {lv : List (Nat × Value)} {rest st0 : List Value} (hX : gz_C mS X G cc nL RX6 fr lo) {c1 : Nat} (hc_1 : kM c1 = 103) {m m9 : MM} {r : Int32} (h : mf_takes c1 m = some (r, m9)) (hroom : 2 + 1 ≤ fr ∧ 8 + (2 + 11) + 43 ≤ lo) (hst : st0 = [.ref (gz_ad G c1), .ref (gz_ad G 2000)] ++ rest) (hW : (rest.map fun v => v.category).sum ≤ 8) (hd : decode cc pc = .ok (.invokevirtual 278, 3)) (kk : gz_V mS X G nL (0, 0) (mF m9) (pc + 3) lv (.int r :: rest)) : gz_V mS X G nL (0, 0) (mF m) pc lv st0 :=
  gz_callV hX mz_E (As := [.ref (gz_ad G c1)]) (rest := rest) (q := (RX6, TX6, 104)) (ci := 0) (c := 2000) (mt_takes (l := X.2.1) hc_1 h) (lw_V q2108 q2110 qs71 q182 q2111) (n := 1) (by decide +kernel) hroom rfl rfl (by decide) rfl hst hW hd (rem := (0, 0)) kk
/-! isFull(III)Z -/
noncomputable def mj_X6_isFull_23  (m : MM) : Option (Int32 × MM) :=
  (if (m.1 2000 5) = (0 : Int32) then some ((0 : Int32), m) else some ((1 : Int32), m))
theorem wb_X6_isFull_23 {X : gz_X} {G : gz_G} (hX : gz_C mS X G cX6_isFull 4 RX6 1 22)   {m : MM} {z : (Int32 × MM)} (h : mj_X6_isFull_23  m = some z) (hk : (fun z : (Int32 × MM) => gz_kZ mS X G 4 (0, 0) cX6_isFull (mF z.2) z.1) z) : gz_V mS X G 4 (0, 0) (mF m) 23 [(0, .ref (gz_ad G 2000))] [] := by
  unfold mj_X6_isFull_23 at h
  refine gz_aload_n (pc := 23) hX dX6_isFull_23 rfl 0 rfl ?_
  refine mg_5 (pc := 24) hX dX6_isFull_24 ?_
  refine gz_if_eq (pc := 27) (tgt := 34) hX dX6_isFull_27 (by decide) (fun g1 => ?_) (fun g1 => ?_)
  · replace h := gz_it' g1 h
    refine gz_iconst (pc := 34) (v := (0 : Int32)) hX dX6_isFull_34 (by decide) ?_
    obtain rfl := Option.some.inj h
    exact hk _ _ dX6_isFull_35 (Or.inl rfl)
  · replace h := gz_if' g1 h
    refine gz_iconst (pc := 30) (v := (1 : Int32)) hX dX6_isFull_30 (by decide) ?_
    refine gz_goto (pc := 31) (tgt := 35) hX dX6_isFull_31 (by decide) ?_
    obtain rfl := Option.some.inj h
    exact hk _ _ dX6_isFull_35 (Or.inr rfl)
noncomputable def mf_isFull (x1 : Int32) (x2 : Int32) (x3 : Int32) (m : MM) : Option (Int32 × MM) :=
  (if (m.1 2000 5) = (0 : Int32) then (if gz_in x1 (12) then (if (m.1 1038 (gz_ix x1)) = x2 then ((mf_fail (5 : Int32) x3 m).bind fun (_, m5) => (mj_X6_isFull_23  m5)) else (mj_X6_isFull_23  m)) else none) else (mj_X6_isFull_23  m))
theorem wm_isFull {X : gz_X} {G : gz_G} (hX : gz_C mS X G cX6_isFull 4 RX6 1 22) {x1 : Int32} {x2 : Int32} {x3 : Int32}  {m : MM} {z : (Int32 × MM)} (h : mf_isFull x1 x2 x3 m = some z) (hk : (fun z : (Int32 × MM) => gz_kZ mS X G 4 (0, 0) cX6_isFull (mF z.2) z.1) z) : gz_V mS X G 4 (0, 0) (mF m) 0 [(0, .ref (gz_ad G 2000)), (1, .int x1), (2, .int x2), (3, .int x3)] [] := by
  unfold mf_isFull at h
  refine gz_aload_n (pc := 0) hX dX6_isFull_0 rfl 0 rfl ?_
  refine mg_5 (pc := 1) hX dX6_isFull_1 ?_
  refine gz_if_ne (pc := 4) (tgt := 23) hX dX6_isFull_4 (by decide) (fun g1 => ?_) (fun g1 => ?_)
  · replace h := gz_if' g1 h
    refine gz_sub (lw := [(0, .ref (gz_ad G 2000))]) [0] rfl ?_
    exact wb_X6_isFull_23 hX h hk
  · replace h := gz_it' g1 h
    refine gz_aload_n (pc := 7) hX dX6_isFull_7 rfl 0 rfl ?_
    refine mg_37 (pc := 8) hX dX6_isFull_8 ?_
    refine gz_iload_n (pc := 11) hX dX6_isFull_11 rfl 1 rfl ?_
    obtain ⟨g2, h⟩ := gz_gu h
    refine mz_iald (pc := 12) (c := 1038) (n := 12) hX rfl rfl g2 dX6_isFull_12 ?_
    refine gz_iload_n (pc := 13) hX dX6_isFull_13 rfl 2 rfl ?_
    refine gz_icmp_ne (pc := 14) (tgt := 23) hX dX6_isFull_14 (by decide) (fun g3 => ?_) (fun g3 => ?_)
    · replace h := gz_if' g3 h
      refine gz_sub (lw := [(0, .ref (gz_ad G 2000))]) [0] rfl ?_
      exact wb_X6_isFull_23 hX h hk
    · replace h := gz_it' g3 h
      refine gz_aload_n (pc := 17) hX dX6_isFull_17 rfl 0 rfl ?_
      refine gz_iconst (pc := 18) (v := (5 : Int32)) hX dX6_isFull_18 (by decide) ?_
      refine gz_iload_n (pc := 19) hX dX6_isFull_19 rfl 3 rfl ?_
      obtain ⟨⟨⟨⟩, m5⟩, c6, h⟩ := gz_bd h
      refine mc_fail (pc := 20) hX c6 ⟨Nat.le_of_ble_eq_true rfl, Nat.le_of_ble_eq_true rfl⟩ (rest := []) rfl (Nat.le_of_ble_eq_true rfl) dX6_isFull_20 ?_
      refine gz_sub (lw := [(0, .ref (gz_ad G 2000))]) [0] rfl ?_
      exact wb_X6_isFull_23 hX h hk
theorem mt_isFull {G : gz_G} {l : Launch} {x1 : Int32} {x2 : Int32} {x3 : Int32}  {m m9 : MM} {r : Int32} (h : mf_isFull x1 x2 x3 m = some (r, m9)) : gz_Met mS G l yX6_isFull cX6_isFull 4 (some .boolean) (mRm 1 22) [.ref (gz_ad G 2000), .int x1, .int x2, .int x3] (mF m) (mF m9) (some (.int r)) :=
  gz_ofZ (plainFor_of_name mz_plain) (Nat.le_of_ble_eq_true rfl) fun X _ hX hk => wm_isFull hX h hk
theorem mc_isFull {X : gz_X} {G : gz_G} {cc : ByteArray} {nL fr lo pc : Nat} {lv : List (Nat × Value)} {rest st0 : List Value} (hX : gz_C mS X G cc nL RX6 fr lo) {x1 : Int32} {x2 : Int32} {x3 : Int32}  {m m9 : MM} {r : Int32} (h : mf_isFull x1 x2 x3 m = some (r, m9)) (hroom : 1 + 1 ≤ fr ∧ 8 + (4 + 11) + 22 ≤ lo) (hst : st0 = [.int x3, .int x2, .int x1, .ref (gz_ad G 2000)] ++ rest) (hW : (rest.map fun v => v.category).sum ≤ 8) (hd : decode cc pc = .ok (.invokevirtual 316, 3)) (kk : gz_V mS X G nL (0, 0) (mF m9) (pc + 3) lv (.int r :: rest)) : gz_V mS X G nL (0, 0) (mF m) pc lv st0 :=
  gz_callV hX mz_E (As := [.int x1, .int x2, .int x3]) (rest := rest) (q := (RX6, TX6, 104)) (ci := 0) (c := 2000) (mt_isFull (l := X.2.1) h) (lw_V q2123 q2125 qs74 q182 q2126) (n := 3) (by decide +kernel) hroom rfl rfl (by decide) rfl hst hW hd (rem := (0, 0)) kk
/-! isOwnHere()Z -/
noncomputable def mj_X6_isOwnHere_320 (s0 : Int32) (m : MM) : Option (Int32 × MM) :=
  (if s0 = 0 ∨ s0 = 1 then some (s0, m) else none)
theorem wb_X6_isOwnHere_320 {X : gz_X} {G : gz_G} (hX : gz_C mS X G cX6_isOwnHere 2 RX6 2 43) {s0 : Int32}  {m : MM} {z : (Int32 × MM)} (h : mj_X6_isOwnHere_320 s0 m = some z) (hk : (fun z : (Int32 × MM) => gz_kZ mS X G 2 (0, 0) cX6_isOwnHere (mF z.2) z.1) z) : gz_V mS X G 2 (0, 0) (mF m) 320 [(0, .ref (gz_ad G 2000))] [.int s0] := by
  unfold mj_X6_isOwnHere_320 at h
  refine gz_istore_n (pc := 320) (lw := [(1, .int s0), (0, .ref (gz_ad G 2000))]) hX dX6_isOwnHere_320 rfl (by decide) rfl ?_
  refine gz_iload_n (pc := 321) hX dX6_isOwnHere_321 rfl 0 rfl ?_
  obtain ⟨g1, h⟩ := gz_gu h
  obtain rfl := Option.some.inj h
  exact hk _ _ dX6_isOwnHere_322 g1
noncomputable def mj_X6_isOwnHere_315  (m : MM) : Option (Int32 × MM) :=
  (mj_X6_isOwnHere_320 (1 : Int32) m)
theorem wb_X6_isOwnHere_315 {X : gz_X} {G : gz_G} (hX : gz_C mS X G cX6_isOwnHere 2 RX6 2 43)   {m : MM} {z : (Int32 × MM)} (h : mj_X6_isOwnHere_315  m = some z) (hk : (fun z : (Int32 × MM) => gz_kZ mS X G 2 (0, 0) cX6_isOwnHere (mF z.2) z.1) z) : gz_V mS X G 2 (0, 0) (mF m) 315 [(0, .ref (gz_ad G 2000))] [] := by
  unfold mj_X6_isOwnHere_315 at h
  refine gz_iconst (pc := 315) (v := (1 : Int32)) hX dX6_isOwnHere_315 (by decide) ?_
  refine gz_goto (pc := 316) (tgt := 320) hX dX6_isOwnHere_316 (by decide) ?_
  exact wb_X6_isOwnHere_320 hX h hk
noncomputable def mj_X6_isOwnHere_299 (s0 : Int32) (m : MM) : Option (Int32 × MM) :=
  (if s0 = (0 : Int32) then ((mf_isHere 1036 m).bind fun (r2, m3) => (if r2 = (0 : Int32) then (mj_X6_isOwnHere_320 (0 : Int32) m3) else (mj_X6_isOwnHere_315  m3))) else (mj_X6_isOwnHere_315  m))
theorem wb_X6_isOwnHere_299 {X : gz_X} {G : gz_G} (hX : gz_C mS X G cX6_isOwnHere 2 RX6 2 43) {s0 : Int32}  {m : MM} {z : (Int32 × MM)} (h : mj_X6_isOwnHere_299 s0 m = some z) (hk : (fun z : (Int32 × MM) => gz_kZ mS X G 2 (0, 0) cX6_isOwnHere (mF z.2) z.1) z) : gz_V mS X G 2 (0, 0) (mF m) 299 [(0, .ref (gz_ad G 2000))] [.int s0] := by
  unfold mj_X6_isOwnHere_299 at h
  refine gz_istore_n (pc := 299) (lw := [(1, .int s0), (0, .ref (gz_ad G 2000))]) hX dX6_isOwnHere_299 rfl (by decide) rfl ?_
  refine gz_iload_n (pc := 300) hX dX6_isOwnHere_300 rfl 0 rfl ?_
  refine gz_if_ne (pc := 301) (tgt := 315) hX dX6_isOwnHere_301 (by decide) (fun g1 => ?_) (fun g1 => ?_)
  · replace h := gz_if' g1 h
    refine gz_sub (lw := [(0, .ref (gz_ad G 2000))]) [1] rfl ?_
    exact wb_X6_isOwnHere_315 hX h hk
  · replace h := gz_it' g1 h
    refine gz_aload_n (pc := 304) hX dX6_isOwnHere_304 rfl 1 rfl ?_
    refine gz_aload_n (pc := 305) hX dX6_isOwnHere_305 rfl 1 rfl ?_
    refine mg_35 (pc := 306) hX dX6_isOwnHere_306 ?_
    obtain ⟨⟨r2, m3⟩, c4, h⟩ := gz_bd h
    refine mc_isHere (pc := 309) hX rfl c4 ⟨Nat.le_of_ble_eq_true rfl, Nat.le_of_ble_eq_true rfl⟩ (rest := []) rfl (Nat.le_of_ble_eq_true rfl) dX6_isOwnHere_309 ?_
    refine gz_if_eq (pc := 312) (tgt := 319) hX dX6_isOwnHere_312 (by decide) (fun g5 => ?_) (fun g5 => ?_)
    · replace h := gz_it' g5 h
      refine gz_iconst (pc := 319) (v := (0 : Int32)) hX dX6_isOwnHere_319 (by decide) ?_
      refine gz_sub (lw := [(0, .ref (gz_ad G 2000))]) [1] rfl ?_
      exact wb_X6_isOwnHere_320 hX h hk
    · replace h := gz_if' g5 h
      refine gz_sub (lw := [(0, .ref (gz_ad G 2000))]) [1] rfl ?_
      exact wb_X6_isOwnHere_315 hX h hk
noncomputable def mj_X6_isOwnHere_294  (m : MM) : Option (Int32 × MM) :=
  (mj_X6_isOwnHere_299 (1 : Int32) m)
theorem wb_X6_isOwnHere_294 {X : gz_X} {G : gz_G} (hX : gz_C mS X G cX6_isOwnHere 2 RX6 2 43)   {m : MM} {z : (Int32 × MM)} (h : mj_X6_isOwnHere_294  m = some z) (hk : (fun z : (Int32 × MM) => gz_kZ mS X G 2 (0, 0) cX6_isOwnHere (mF z.2) z.1) z) : gz_V mS X G 2 (0, 0) (mF m) 294 [(0, .ref (gz_ad G 2000))] [] := by
  unfold mj_X6_isOwnHere_294 at h
  refine gz_iconst (pc := 294) (v := (1 : Int32)) hX dX6_isOwnHere_294 (by decide) ?_
  refine gz_goto (pc := 295) (tgt := 299) hX dX6_isOwnHere_295 (by decide) ?_
  exact wb_X6_isOwnHere_299 hX h hk
noncomputable def mj_X6_isOwnHere_223 (s0 : Int32) (m : MM) : Option (Int32 × MM) :=
  (if s0 = (0 : Int32) then ((mf_isHere 1030 m).bind fun (r2, m3) => (if r2 = (0 : Int32) then ((mf_isHere 1031 m3).bind fun (r6, m7) => (if r6 = (0 : Int32) then ((mf_isHere 1032 m7).bind fun (r10, m11) => (if r10 = (0 : Int32) then ((mf_isHere 1033 m11).bind fun (r14, m15) => (if r14 = (0 : Int32) then ((mf_isHere 1034 m15).bind fun (r18, m19) => (if r18 = (0 : Int32) then ((mf_isHere 1035 m19).bind fun (r22, m23) => (if r22 = (0 : Int32) then (mj_X6_isOwnHere_299 (0 : Int32) m23) else (mj_X6_isOwnHere_294  m23))) else (mj_X6_isOwnHere_294  m19))) else (mj_X6_isOwnHere_294  m15))) else (mj_X6_isOwnHere_294  m11))) else (mj_X6_isOwnHere_294  m7))) else (mj_X6_isOwnHere_294  m3))) else (mj_X6_isOwnHere_294  m))
theorem wb_X6_isOwnHere_223 {X : gz_X} {G : gz_G} (hX : gz_C mS X G cX6_isOwnHere 2 RX6 2 43) {s0 : Int32}  {m : MM} {z : (Int32 × MM)} (h : mj_X6_isOwnHere_223 s0 m = some z) (hk : (fun z : (Int32 × MM) => gz_kZ mS X G 2 (0, 0) cX6_isOwnHere (mF z.2) z.1) z) : gz_V mS X G 2 (0, 0) (mF m) 223 [(0, .ref (gz_ad G 2000))] [.int s0] := by
  unfold mj_X6_isOwnHere_223 at h
  refine gz_istore_n (pc := 223) (lw := [(1, .int s0), (0, .ref (gz_ad G 2000))]) hX dX6_isOwnHere_223 rfl (by decide) rfl ?_
  refine gz_iload_n (pc := 224) hX dX6_isOwnHere_224 rfl 0 rfl ?_
  refine gz_if_ne (pc := 225) (tgt := 294) hX dX6_isOwnHere_225 (by decide) (fun g1 => ?_) (fun g1 => ?_)
  · replace h := gz_if' g1 h
    refine gz_sub (lw := [(0, .ref (gz_ad G 2000))]) [1] rfl ?_
    exact wb_X6_isOwnHere_294 hX h hk
  · replace h := gz_it' g1 h
    refine gz_aload_n (pc := 228) hX dX6_isOwnHere_228 rfl 1 rfl ?_
    refine gz_aload_n (pc := 229) hX dX6_isOwnHere_229 rfl 1 rfl ?_
    refine mg_29 (pc := 230) hX dX6_isOwnHere_230 ?_
    obtain ⟨⟨r2, m3⟩, c4, h⟩ := gz_bd h
    refine mc_isHere (pc := 233) hX rfl c4 ⟨Nat.le_of_ble_eq_true rfl, Nat.le_of_ble_eq_true rfl⟩ (rest := []) rfl (Nat.le_of_ble_eq_true rfl) dX6_isOwnHere_233 ?_
    refine gz_if_ne (pc := 236) (tgt := 294) hX dX6_isOwnHere_236 (by decide) (fun g5 => ?_) (fun g5 => ?_)
    · replace h := gz_if' g5 h
      refine gz_sub (lw := [(0, .ref (gz_ad G 2000))]) [1] rfl ?_
      exact wb_X6_isOwnHere_294 hX h hk
    · replace h := gz_it' g5 h
      refine gz_aload_n (pc := 239) hX dX6_isOwnHere_239 rfl 1 rfl ?_
      refine gz_aload_n (pc := 240) hX dX6_isOwnHere_240 rfl 1 rfl ?_
      refine mg_30 (pc := 241) hX dX6_isOwnHere_241 ?_
      obtain ⟨⟨r6, m7⟩, c8, h⟩ := gz_bd h
      refine mc_isHere (pc := 244) hX rfl c8 ⟨Nat.le_of_ble_eq_true rfl, Nat.le_of_ble_eq_true rfl⟩ (rest := []) rfl (Nat.le_of_ble_eq_true rfl) dX6_isOwnHere_244 ?_
      refine gz_if_ne (pc := 247) (tgt := 294) hX dX6_isOwnHere_247 (by decide) (fun g9 => ?_) (fun g9 => ?_)
      · replace h := gz_if' g9 h
        refine gz_sub (lw := [(0, .ref (gz_ad G 2000))]) [1] rfl ?_
        exact wb_X6_isOwnHere_294 hX h hk
      · replace h := gz_it' g9 h
        refine gz_aload_n (pc := 250) hX dX6_isOwnHere_250 rfl 1 rfl ?_
        refine gz_aload_n (pc := 251) hX dX6_isOwnHere_251 rfl 1 rfl ?_
        refine mg_31 (pc := 252) hX dX6_isOwnHere_252 ?_
        obtain ⟨⟨r10, m11⟩, c12, h⟩ := gz_bd h
        refine mc_isHere (pc := 255) hX rfl c12 ⟨Nat.le_of_ble_eq_true rfl, Nat.le_of_ble_eq_true rfl⟩ (rest := []) rfl (Nat.le_of_ble_eq_true rfl) dX6_isOwnHere_255 ?_
        refine gz_if_ne (pc := 258) (tgt := 294) hX dX6_isOwnHere_258 (by decide) (fun g13 => ?_) (fun g13 => ?_)
        · replace h := gz_if' g13 h
          refine gz_sub (lw := [(0, .ref (gz_ad G 2000))]) [1] rfl ?_
          exact wb_X6_isOwnHere_294 hX h hk
        · replace h := gz_it' g13 h
          refine gz_aload_n (pc := 261) hX dX6_isOwnHere_261 rfl 1 rfl ?_
          refine gz_aload_n (pc := 262) hX dX6_isOwnHere_262 rfl 1 rfl ?_
          refine mg_32 (pc := 263) hX dX6_isOwnHere_263 ?_
          obtain ⟨⟨r14, m15⟩, c16, h⟩ := gz_bd h
          refine mc_isHere (pc := 266) hX rfl c16 ⟨Nat.le_of_ble_eq_true rfl, Nat.le_of_ble_eq_true rfl⟩ (rest := []) rfl (Nat.le_of_ble_eq_true rfl) dX6_isOwnHere_266 ?_
          refine gz_if_ne (pc := 269) (tgt := 294) hX dX6_isOwnHere_269 (by decide) (fun g17 => ?_) (fun g17 => ?_)
          · replace h := gz_if' g17 h
            refine gz_sub (lw := [(0, .ref (gz_ad G 2000))]) [1] rfl ?_
            exact wb_X6_isOwnHere_294 hX h hk
          · replace h := gz_it' g17 h
            refine gz_aload_n (pc := 272) hX dX6_isOwnHere_272 rfl 1 rfl ?_
            refine gz_aload_n (pc := 273) hX dX6_isOwnHere_273 rfl 1 rfl ?_
            refine mg_33 (pc := 274) hX dX6_isOwnHere_274 ?_
            obtain ⟨⟨r18, m19⟩, c20, h⟩ := gz_bd h
            refine mc_isHere (pc := 277) hX rfl c20 ⟨Nat.le_of_ble_eq_true rfl, Nat.le_of_ble_eq_true rfl⟩ (rest := []) rfl (Nat.le_of_ble_eq_true rfl) dX6_isOwnHere_277 ?_
            refine gz_if_ne (pc := 280) (tgt := 294) hX dX6_isOwnHere_280 (by decide) (fun g21 => ?_) (fun g21 => ?_)
            · replace h := gz_if' g21 h
              refine gz_sub (lw := [(0, .ref (gz_ad G 2000))]) [1] rfl ?_
              exact wb_X6_isOwnHere_294 hX h hk
            · replace h := gz_it' g21 h
              refine gz_aload_n (pc := 283) hX dX6_isOwnHere_283 rfl 1 rfl ?_
              refine gz_aload_n (pc := 284) hX dX6_isOwnHere_284 rfl 1 rfl ?_
              refine mg_34 (pc := 285) hX dX6_isOwnHere_285 ?_
              obtain ⟨⟨r22, m23⟩, c24, h⟩ := gz_bd h
              refine mc_isHere (pc := 288) hX rfl c24 ⟨Nat.le_of_ble_eq_true rfl, Nat.le_of_ble_eq_true rfl⟩ (rest := []) rfl (Nat.le_of_ble_eq_true rfl) dX6_isOwnHere_288 ?_
              refine gz_if_eq (pc := 291) (tgt := 298) hX dX6_isOwnHere_291 (by decide) (fun g25 => ?_) (fun g25 => ?_)
              · replace h := gz_it' g25 h
                refine gz_iconst (pc := 298) (v := (0 : Int32)) hX dX6_isOwnHere_298 (by decide) ?_
                refine gz_sub (lw := [(0, .ref (gz_ad G 2000))]) [1] rfl ?_
                exact wb_X6_isOwnHere_299 hX h hk
              · replace h := gz_if' g25 h
                refine gz_sub (lw := [(0, .ref (gz_ad G 2000))]) [1] rfl ?_
                exact wb_X6_isOwnHere_294 hX h hk
noncomputable def mj_X6_isOwnHere_218  (m : MM) : Option (Int32 × MM) :=
  (mj_X6_isOwnHere_223 (1 : Int32) m)
theorem wb_X6_isOwnHere_218 {X : gz_X} {G : gz_G} (hX : gz_C mS X G cX6_isOwnHere 2 RX6 2 43)   {m : MM} {z : (Int32 × MM)} (h : mj_X6_isOwnHere_218  m = some z) (hk : (fun z : (Int32 × MM) => gz_kZ mS X G 2 (0, 0) cX6_isOwnHere (mF z.2) z.1) z) : gz_V mS X G 2 (0, 0) (mF m) 218 [(0, .ref (gz_ad G 2000))] [] := by
  unfold mj_X6_isOwnHere_218 at h
  refine gz_iconst (pc := 218) (v := (1 : Int32)) hX dX6_isOwnHere_218 (by decide) ?_
  refine gz_goto (pc := 219) (tgt := 223) hX dX6_isOwnHere_219 (by decide) ?_
  exact wb_X6_isOwnHere_223 hX h hk
noncomputable def mj_X6_isOwnHere_147 (s0 : Int32) (m : MM) : Option (Int32 × MM) :=
  (if s0 = (0 : Int32) then ((mf_isHere 1024 m).bind fun (r2, m3) => (if r2 = (0 : Int32) then ((mf_isHere 1025 m3).bind fun (r6, m7) => (if r6 = (0 : Int32) then ((mf_isHere 1026 m7).bind fun (r10, m11) => (if r10 = (0 : Int32) then ((mf_isHere 1027 m11).bind fun (r14, m15) => (if r14 = (0 : Int32) then ((mf_isHere 1028 m15).bind fun (r18, m19) => (if r18 = (0 : Int32) then ((mf_isHere 1029 m19).bind fun (r22, m23) => (if r22 = (0 : Int32) then (mj_X6_isOwnHere_223 (0 : Int32) m23) else (mj_X6_isOwnHere_218  m23))) else (mj_X6_isOwnHere_218  m19))) else (mj_X6_isOwnHere_218  m15))) else (mj_X6_isOwnHere_218  m11))) else (mj_X6_isOwnHere_218  m7))) else (mj_X6_isOwnHere_218  m3))) else (mj_X6_isOwnHere_218  m))
theorem wb_X6_isOwnHere_147 {X : gz_X} {G : gz_G} (hX : gz_C mS X G cX6_isOwnHere 2 RX6 2 43) {s0 : Int32}  {m : MM} {z : (Int32 × MM)} (h : mj_X6_isOwnHere_147 s0 m = some z) (hk : (fun z : (Int32 × MM) => gz_kZ mS X G 2 (0, 0) cX6_isOwnHere (mF z.2) z.1) z) : gz_V mS X G 2 (0, 0) (mF m) 147 [(0, .ref (gz_ad G 2000))] [.int s0] := by
  unfold mj_X6_isOwnHere_147 at h
  refine gz_istore_n (pc := 147) (lw := [(1, .int s0), (0, .ref (gz_ad G 2000))]) hX dX6_isOwnHere_147 rfl (by decide) rfl ?_
  refine gz_iload_n (pc := 148) hX dX6_isOwnHere_148 rfl 0 rfl ?_
  refine gz_if_ne (pc := 149) (tgt := 218) hX dX6_isOwnHere_149 (by decide) (fun g1 => ?_) (fun g1 => ?_)
  · replace h := gz_if' g1 h
    refine gz_sub (lw := [(0, .ref (gz_ad G 2000))]) [1] rfl ?_
    exact wb_X6_isOwnHere_218 hX h hk
  · replace h := gz_it' g1 h
    refine gz_aload_n (pc := 152) hX dX6_isOwnHere_152 rfl 1 rfl ?_
    refine gz_aload_n (pc := 153) hX dX6_isOwnHere_153 rfl 1 rfl ?_
    refine mg_23 (pc := 154) hX dX6_isOwnHere_154 ?_
    obtain ⟨⟨r2, m3⟩, c4, h⟩ := gz_bd h
    refine mc_isHere (pc := 157) hX rfl c4 ⟨Nat.le_of_ble_eq_true rfl, Nat.le_of_ble_eq_true rfl⟩ (rest := []) rfl (Nat.le_of_ble_eq_true rfl) dX6_isOwnHere_157 ?_
    refine gz_if_ne (pc := 160) (tgt := 218) hX dX6_isOwnHere_160 (by decide) (fun g5 => ?_) (fun g5 => ?_)
    · replace h := gz_if' g5 h
      refine gz_sub (lw := [(0, .ref (gz_ad G 2000))]) [1] rfl ?_
      exact wb_X6_isOwnHere_218 hX h hk
    · replace h := gz_it' g5 h
      refine gz_aload_n (pc := 163) hX dX6_isOwnHere_163 rfl 1 rfl ?_
      refine gz_aload_n (pc := 164) hX dX6_isOwnHere_164 rfl 1 rfl ?_
      refine mg_24 (pc := 165) hX dX6_isOwnHere_165 ?_
      obtain ⟨⟨r6, m7⟩, c8, h⟩ := gz_bd h
      refine mc_isHere (pc := 168) hX rfl c8 ⟨Nat.le_of_ble_eq_true rfl, Nat.le_of_ble_eq_true rfl⟩ (rest := []) rfl (Nat.le_of_ble_eq_true rfl) dX6_isOwnHere_168 ?_
      refine gz_if_ne (pc := 171) (tgt := 218) hX dX6_isOwnHere_171 (by decide) (fun g9 => ?_) (fun g9 => ?_)
      · replace h := gz_if' g9 h
        refine gz_sub (lw := [(0, .ref (gz_ad G 2000))]) [1] rfl ?_
        exact wb_X6_isOwnHere_218 hX h hk
      · replace h := gz_it' g9 h
        refine gz_aload_n (pc := 174) hX dX6_isOwnHere_174 rfl 1 rfl ?_
        refine gz_aload_n (pc := 175) hX dX6_isOwnHere_175 rfl 1 rfl ?_
        refine mg_25 (pc := 176) hX dX6_isOwnHere_176 ?_
        obtain ⟨⟨r10, m11⟩, c12, h⟩ := gz_bd h
        refine mc_isHere (pc := 179) hX rfl c12 ⟨Nat.le_of_ble_eq_true rfl, Nat.le_of_ble_eq_true rfl⟩ (rest := []) rfl (Nat.le_of_ble_eq_true rfl) dX6_isOwnHere_179 ?_
        refine gz_if_ne (pc := 182) (tgt := 218) hX dX6_isOwnHere_182 (by decide) (fun g13 => ?_) (fun g13 => ?_)
        · replace h := gz_if' g13 h
          refine gz_sub (lw := [(0, .ref (gz_ad G 2000))]) [1] rfl ?_
          exact wb_X6_isOwnHere_218 hX h hk
        · replace h := gz_it' g13 h
          refine gz_aload_n (pc := 185) hX dX6_isOwnHere_185 rfl 1 rfl ?_
          refine gz_aload_n (pc := 186) hX dX6_isOwnHere_186 rfl 1 rfl ?_
          refine mg_26 (pc := 187) hX dX6_isOwnHere_187 ?_
          obtain ⟨⟨r14, m15⟩, c16, h⟩ := gz_bd h
          refine mc_isHere (pc := 190) hX rfl c16 ⟨Nat.le_of_ble_eq_true rfl, Nat.le_of_ble_eq_true rfl⟩ (rest := []) rfl (Nat.le_of_ble_eq_true rfl) dX6_isOwnHere_190 ?_
          refine gz_if_ne (pc := 193) (tgt := 218) hX dX6_isOwnHere_193 (by decide) (fun g17 => ?_) (fun g17 => ?_)
          · replace h := gz_if' g17 h
            refine gz_sub (lw := [(0, .ref (gz_ad G 2000))]) [1] rfl ?_
            exact wb_X6_isOwnHere_218 hX h hk
          · replace h := gz_it' g17 h
            refine gz_aload_n (pc := 196) hX dX6_isOwnHere_196 rfl 1 rfl ?_
            refine gz_aload_n (pc := 197) hX dX6_isOwnHere_197 rfl 1 rfl ?_
            refine mg_27 (pc := 198) hX dX6_isOwnHere_198 ?_
            obtain ⟨⟨r18, m19⟩, c20, h⟩ := gz_bd h
            refine mc_isHere (pc := 201) hX rfl c20 ⟨Nat.le_of_ble_eq_true rfl, Nat.le_of_ble_eq_true rfl⟩ (rest := []) rfl (Nat.le_of_ble_eq_true rfl) dX6_isOwnHere_201 ?_
            refine gz_if_ne (pc := 204) (tgt := 218) hX dX6_isOwnHere_204 (by decide) (fun g21 => ?_) (fun g21 => ?_)
            · replace h := gz_if' g21 h
              refine gz_sub (lw := [(0, .ref (gz_ad G 2000))]) [1] rfl ?_
              exact wb_X6_isOwnHere_218 hX h hk
            · replace h := gz_it' g21 h
              refine gz_aload_n (pc := 207) hX dX6_isOwnHere_207 rfl 1 rfl ?_
              refine gz_aload_n (pc := 208) hX dX6_isOwnHere_208 rfl 1 rfl ?_
              refine mg_28 (pc := 209) hX dX6_isOwnHere_209 ?_
              obtain ⟨⟨r22, m23⟩, c24, h⟩ := gz_bd h
              refine mc_isHere (pc := 212) hX rfl c24 ⟨Nat.le_of_ble_eq_true rfl, Nat.le_of_ble_eq_true rfl⟩ (rest := []) rfl (Nat.le_of_ble_eq_true rfl) dX6_isOwnHere_212 ?_
              refine gz_if_eq (pc := 215) (tgt := 222) hX dX6_isOwnHere_215 (by decide) (fun g25 => ?_) (fun g25 => ?_)
              · replace h := gz_it' g25 h
                refine gz_iconst (pc := 222) (v := (0 : Int32)) hX dX6_isOwnHere_222 (by decide) ?_
                refine gz_sub (lw := [(0, .ref (gz_ad G 2000))]) [1] rfl ?_
                exact wb_X6_isOwnHere_223 hX h hk
              · replace h := gz_if' g25 h
                refine gz_sub (lw := [(0, .ref (gz_ad G 2000))]) [1] rfl ?_
                exact wb_X6_isOwnHere_218 hX h hk
noncomputable def mj_X6_isOwnHere_142  (m : MM) : Option (Int32 × MM) :=
  (mj_X6_isOwnHere_147 (1 : Int32) m)
theorem wb_X6_isOwnHere_142 {X : gz_X} {G : gz_G} (hX : gz_C mS X G cX6_isOwnHere 2 RX6 2 43)   {m : MM} {z : (Int32 × MM)} (h : mj_X6_isOwnHere_142  m = some z) (hk : (fun z : (Int32 × MM) => gz_kZ mS X G 2 (0, 0) cX6_isOwnHere (mF z.2) z.1) z) : gz_V mS X G 2 (0, 0) (mF m) 142 [(0, .ref (gz_ad G 2000))] [] := by
  unfold mj_X6_isOwnHere_142 at h
  refine gz_iconst (pc := 142) (v := (1 : Int32)) hX dX6_isOwnHere_142 (by decide) ?_
  refine gz_goto (pc := 143) (tgt := 147) hX dX6_isOwnHere_143 (by decide) ?_
  exact wb_X6_isOwnHere_147 hX h hk
noncomputable def mj_X6_isOwnHere_71 (s0 : Int32) (m : MM) : Option (Int32 × MM) :=
  (if s0 = (0 : Int32) then ((mf_isHere 1018 m).bind fun (r2, m3) => (if r2 = (0 : Int32) then ((mf_isHere 1019 m3).bind fun (r6, m7) => (if r6 = (0 : Int32) then ((mf_isHere 1020 m7).bind fun (r10, m11) => (if r10 = (0 : Int32) then ((mf_isHere 1021 m11).bind fun (r14, m15) => (if r14 = (0 : Int32) then ((mf_isHere 1022 m15).bind fun (r18, m19) => (if r18 = (0 : Int32) then ((mf_isHere 1023 m19).bind fun (r22, m23) => (if r22 = (0 : Int32) then (mj_X6_isOwnHere_147 (0 : Int32) m23) else (mj_X6_isOwnHere_142  m23))) else (mj_X6_isOwnHere_142  m19))) else (mj_X6_isOwnHere_142  m15))) else (mj_X6_isOwnHere_142  m11))) else (mj_X6_isOwnHere_142  m7))) else (mj_X6_isOwnHere_142  m3))) else (mj_X6_isOwnHere_142  m))
theorem wb_X6_isOwnHere_71 {X : gz_X} {G : gz_G} (hX : gz_C mS X G cX6_isOwnHere 2 RX6 2 43) {s0 : Int32}  {m : MM} {z : (Int32 × MM)} (h : mj_X6_isOwnHere_71 s0 m = some z) (hk : (fun z : (Int32 × MM) => gz_kZ mS X G 2 (0, 0) cX6_isOwnHere (mF z.2) z.1) z) : gz_V mS X G 2 (0, 0) (mF m) 71 [(0, .ref (gz_ad G 2000))] [.int s0] := by
  unfold mj_X6_isOwnHere_71 at h
  refine gz_istore_n (pc := 71) (lw := [(1, .int s0), (0, .ref (gz_ad G 2000))]) hX dX6_isOwnHere_71 rfl (by decide) rfl ?_
  refine gz_iload_n (pc := 72) hX dX6_isOwnHere_72 rfl 0 rfl ?_
  refine gz_if_ne (pc := 73) (tgt := 142) hX dX6_isOwnHere_73 (by decide) (fun g1 => ?_) (fun g1 => ?_)
  · replace h := gz_if' g1 h
    refine gz_sub (lw := [(0, .ref (gz_ad G 2000))]) [1] rfl ?_
    exact wb_X6_isOwnHere_142 hX h hk
  · replace h := gz_it' g1 h
    refine gz_aload_n (pc := 76) hX dX6_isOwnHere_76 rfl 1 rfl ?_
    refine gz_aload_n (pc := 77) hX dX6_isOwnHere_77 rfl 1 rfl ?_
    refine mg_17 (pc := 78) hX dX6_isOwnHere_78 ?_
    obtain ⟨⟨r2, m3⟩, c4, h⟩ := gz_bd h
    refine mc_isHere (pc := 81) hX rfl c4 ⟨Nat.le_of_ble_eq_true rfl, Nat.le_of_ble_eq_true rfl⟩ (rest := []) rfl (Nat.le_of_ble_eq_true rfl) dX6_isOwnHere_81 ?_
    refine gz_if_ne (pc := 84) (tgt := 142) hX dX6_isOwnHere_84 (by decide) (fun g5 => ?_) (fun g5 => ?_)
    · replace h := gz_if' g5 h
      refine gz_sub (lw := [(0, .ref (gz_ad G 2000))]) [1] rfl ?_
      exact wb_X6_isOwnHere_142 hX h hk
    · replace h := gz_it' g5 h
      refine gz_aload_n (pc := 87) hX dX6_isOwnHere_87 rfl 1 rfl ?_
      refine gz_aload_n (pc := 88) hX dX6_isOwnHere_88 rfl 1 rfl ?_
      refine mg_18 (pc := 89) hX dX6_isOwnHere_89 ?_
      obtain ⟨⟨r6, m7⟩, c8, h⟩ := gz_bd h
      refine mc_isHere (pc := 92) hX rfl c8 ⟨Nat.le_of_ble_eq_true rfl, Nat.le_of_ble_eq_true rfl⟩ (rest := []) rfl (Nat.le_of_ble_eq_true rfl) dX6_isOwnHere_92 ?_
      refine gz_if_ne (pc := 95) (tgt := 142) hX dX6_isOwnHere_95 (by decide) (fun g9 => ?_) (fun g9 => ?_)
      · replace h := gz_if' g9 h
        refine gz_sub (lw := [(0, .ref (gz_ad G 2000))]) [1] rfl ?_
        exact wb_X6_isOwnHere_142 hX h hk
      · replace h := gz_it' g9 h
        refine gz_aload_n (pc := 98) hX dX6_isOwnHere_98 rfl 1 rfl ?_
        refine gz_aload_n (pc := 99) hX dX6_isOwnHere_99 rfl 1 rfl ?_
        refine mg_19 (pc := 100) hX dX6_isOwnHere_100 ?_
        obtain ⟨⟨r10, m11⟩, c12, h⟩ := gz_bd h
        refine mc_isHere (pc := 103) hX rfl c12 ⟨Nat.le_of_ble_eq_true rfl, Nat.le_of_ble_eq_true rfl⟩ (rest := []) rfl (Nat.le_of_ble_eq_true rfl) dX6_isOwnHere_103 ?_
        refine gz_if_ne (pc := 106) (tgt := 142) hX dX6_isOwnHere_106 (by decide) (fun g13 => ?_) (fun g13 => ?_)
        · replace h := gz_if' g13 h
          refine gz_sub (lw := [(0, .ref (gz_ad G 2000))]) [1] rfl ?_
          exact wb_X6_isOwnHere_142 hX h hk
        · replace h := gz_it' g13 h
          refine gz_aload_n (pc := 109) hX dX6_isOwnHere_109 rfl 1 rfl ?_
          refine gz_aload_n (pc := 110) hX dX6_isOwnHere_110 rfl 1 rfl ?_
          refine mg_20 (pc := 111) hX dX6_isOwnHere_111 ?_
          obtain ⟨⟨r14, m15⟩, c16, h⟩ := gz_bd h
          refine mc_isHere (pc := 114) hX rfl c16 ⟨Nat.le_of_ble_eq_true rfl, Nat.le_of_ble_eq_true rfl⟩ (rest := []) rfl (Nat.le_of_ble_eq_true rfl) dX6_isOwnHere_114 ?_
          refine gz_if_ne (pc := 117) (tgt := 142) hX dX6_isOwnHere_117 (by decide) (fun g17 => ?_) (fun g17 => ?_)
          · replace h := gz_if' g17 h
            refine gz_sub (lw := [(0, .ref (gz_ad G 2000))]) [1] rfl ?_
            exact wb_X6_isOwnHere_142 hX h hk
          · replace h := gz_it' g17 h
            refine gz_aload_n (pc := 120) hX dX6_isOwnHere_120 rfl 1 rfl ?_
            refine gz_aload_n (pc := 121) hX dX6_isOwnHere_121 rfl 1 rfl ?_
            refine mg_21 (pc := 122) hX dX6_isOwnHere_122 ?_
            obtain ⟨⟨r18, m19⟩, c20, h⟩ := gz_bd h
            refine mc_isHere (pc := 125) hX rfl c20 ⟨Nat.le_of_ble_eq_true rfl, Nat.le_of_ble_eq_true rfl⟩ (rest := []) rfl (Nat.le_of_ble_eq_true rfl) dX6_isOwnHere_125 ?_
            refine gz_if_ne (pc := 128) (tgt := 142) hX dX6_isOwnHere_128 (by decide) (fun g21 => ?_) (fun g21 => ?_)
            · replace h := gz_if' g21 h
              refine gz_sub (lw := [(0, .ref (gz_ad G 2000))]) [1] rfl ?_
              exact wb_X6_isOwnHere_142 hX h hk
            · replace h := gz_it' g21 h
              refine gz_aload_n (pc := 131) hX dX6_isOwnHere_131 rfl 1 rfl ?_
              refine gz_aload_n (pc := 132) hX dX6_isOwnHere_132 rfl 1 rfl ?_
              refine mg_22 (pc := 133) hX dX6_isOwnHere_133 ?_
              obtain ⟨⟨r22, m23⟩, c24, h⟩ := gz_bd h
              refine mc_isHere (pc := 136) hX rfl c24 ⟨Nat.le_of_ble_eq_true rfl, Nat.le_of_ble_eq_true rfl⟩ (rest := []) rfl (Nat.le_of_ble_eq_true rfl) dX6_isOwnHere_136 ?_
              refine gz_if_eq (pc := 139) (tgt := 146) hX dX6_isOwnHere_139 (by decide) (fun g25 => ?_) (fun g25 => ?_)
              · replace h := gz_it' g25 h
                refine gz_iconst (pc := 146) (v := (0 : Int32)) hX dX6_isOwnHere_146 (by decide) ?_
                refine gz_sub (lw := [(0, .ref (gz_ad G 2000))]) [1] rfl ?_
                exact wb_X6_isOwnHere_147 hX h hk
              · replace h := gz_if' g25 h
                refine gz_sub (lw := [(0, .ref (gz_ad G 2000))]) [1] rfl ?_
                exact wb_X6_isOwnHere_142 hX h hk
noncomputable def mj_X6_isOwnHere_66  (m : MM) : Option (Int32 × MM) :=
  (mj_X6_isOwnHere_71 (1 : Int32) m)
theorem wb_X6_isOwnHere_66 {X : gz_X} {G : gz_G} (hX : gz_C mS X G cX6_isOwnHere 2 RX6 2 43)   {m : MM} {z : (Int32 × MM)} (h : mj_X6_isOwnHere_66  m = some z) (hk : (fun z : (Int32 × MM) => gz_kZ mS X G 2 (0, 0) cX6_isOwnHere (mF z.2) z.1) z) : gz_V mS X G 2 (0, 0) (mF m) 66 [(0, .ref (gz_ad G 2000))] [] := by
  unfold mj_X6_isOwnHere_66 at h
  refine gz_iconst (pc := 66) (v := (1 : Int32)) hX dX6_isOwnHere_66 (by decide) ?_
  refine gz_goto (pc := 67) (tgt := 71) hX dX6_isOwnHere_67 (by decide) ?_
  exact wb_X6_isOwnHere_71 hX h hk
noncomputable def mf_isOwnHere  (m : MM) : Option (Int32 × MM) :=
  ((mf_isHere 1012 m).bind fun (r1, m2) => (if r1 = (0 : Int32) then ((mf_isHere 1013 m2).bind fun (r5, m6) => (if r5 = (0 : Int32) then ((mf_isHere 1014 m6).bind fun (r9, m10) => (if r9 = (0 : Int32) then ((mf_isHere 1015 m10).bind fun (r13, m14) => (if r13 = (0 : Int32) then ((mf_isHere 1016 m14).bind fun (r17, m18) => (if r17 = (0 : Int32) then ((mf_isHere 1017 m18).bind fun (r21, m22) => (if r21 = (0 : Int32) then (mj_X6_isOwnHere_71 (0 : Int32) m22) else (mj_X6_isOwnHere_66  m22))) else (mj_X6_isOwnHere_66  m18))) else (mj_X6_isOwnHere_66  m14))) else (mj_X6_isOwnHere_66  m10))) else (mj_X6_isOwnHere_66  m6))) else (mj_X6_isOwnHere_66  m2)))
theorem wm_isOwnHere {X : gz_X} {G : gz_G} (hX : gz_C mS X G cX6_isOwnHere 2 RX6 2 43)   {m : MM} {z : (Int32 × MM)} (h : mf_isOwnHere  m = some z) (hk : (fun z : (Int32 × MM) => gz_kZ mS X G 2 (0, 0) cX6_isOwnHere (mF z.2) z.1) z) : gz_V mS X G 2 (0, 0) (mF m) 0 [(0, .ref (gz_ad G 2000))] [] := by
  unfold mf_isOwnHere at h
  refine gz_aload_n (pc := 0) hX dX6_isOwnHere_0 rfl 0 rfl ?_
  refine gz_aload_n (pc := 1) hX dX6_isOwnHere_1 rfl 0 rfl ?_
  refine mg_11 (pc := 2) hX dX6_isOwnHere_2 ?_
  obtain ⟨⟨r1, m2⟩, c3, h⟩ := gz_bd h
  refine mc_isHere (pc := 5) hX rfl c3 ⟨Nat.le_of_ble_eq_true rfl, Nat.le_of_ble_eq_true rfl⟩ (rest := []) rfl (Nat.le_of_ble_eq_true rfl) dX6_isOwnHere_5 ?_
  refine gz_if_ne (pc := 8) (tgt := 66) hX dX6_isOwnHere_8 (by decide) (fun g4 => ?_) (fun g4 => ?_)
  · replace h := gz_if' g4 h
    exact wb_X6_isOwnHere_66 hX h hk
  · replace h := gz_it' g4 h
    refine gz_aload_n (pc := 11) hX dX6_isOwnHere_11 rfl 0 rfl ?_
    refine gz_aload_n (pc := 12) hX dX6_isOwnHere_12 rfl 0 rfl ?_
    refine mg_12 (pc := 13) hX dX6_isOwnHere_13 ?_
    obtain ⟨⟨r5, m6⟩, c7, h⟩ := gz_bd h
    refine mc_isHere (pc := 16) hX rfl c7 ⟨Nat.le_of_ble_eq_true rfl, Nat.le_of_ble_eq_true rfl⟩ (rest := []) rfl (Nat.le_of_ble_eq_true rfl) dX6_isOwnHere_16 ?_
    refine gz_if_ne (pc := 19) (tgt := 66) hX dX6_isOwnHere_19 (by decide) (fun g8 => ?_) (fun g8 => ?_)
    · replace h := gz_if' g8 h
      exact wb_X6_isOwnHere_66 hX h hk
    · replace h := gz_it' g8 h
      refine gz_aload_n (pc := 22) hX dX6_isOwnHere_22 rfl 0 rfl ?_
      refine gz_aload_n (pc := 23) hX dX6_isOwnHere_23 rfl 0 rfl ?_
      refine mg_13 (pc := 24) hX dX6_isOwnHere_24 ?_
      obtain ⟨⟨r9, m10⟩, c11, h⟩ := gz_bd h
      refine mc_isHere (pc := 27) hX rfl c11 ⟨Nat.le_of_ble_eq_true rfl, Nat.le_of_ble_eq_true rfl⟩ (rest := []) rfl (Nat.le_of_ble_eq_true rfl) dX6_isOwnHere_27 ?_
      refine gz_if_ne (pc := 30) (tgt := 66) hX dX6_isOwnHere_30 (by decide) (fun g12 => ?_) (fun g12 => ?_)
      · replace h := gz_if' g12 h
        exact wb_X6_isOwnHere_66 hX h hk
      · replace h := gz_it' g12 h
        refine gz_aload_n (pc := 33) hX dX6_isOwnHere_33 rfl 0 rfl ?_
        refine gz_aload_n (pc := 34) hX dX6_isOwnHere_34 rfl 0 rfl ?_
        refine mg_14 (pc := 35) hX dX6_isOwnHere_35 ?_
        obtain ⟨⟨r13, m14⟩, c15, h⟩ := gz_bd h
        refine mc_isHere (pc := 38) hX rfl c15 ⟨Nat.le_of_ble_eq_true rfl, Nat.le_of_ble_eq_true rfl⟩ (rest := []) rfl (Nat.le_of_ble_eq_true rfl) dX6_isOwnHere_38 ?_
        refine gz_if_ne (pc := 41) (tgt := 66) hX dX6_isOwnHere_41 (by decide) (fun g16 => ?_) (fun g16 => ?_)
        · replace h := gz_if' g16 h
          exact wb_X6_isOwnHere_66 hX h hk
        · replace h := gz_it' g16 h
          refine gz_aload_n (pc := 44) hX dX6_isOwnHere_44 rfl 0 rfl ?_
          refine gz_aload_n (pc := 45) hX dX6_isOwnHere_45 rfl 0 rfl ?_
          refine mg_15 (pc := 46) hX dX6_isOwnHere_46 ?_
          obtain ⟨⟨r17, m18⟩, c19, h⟩ := gz_bd h
          refine mc_isHere (pc := 49) hX rfl c19 ⟨Nat.le_of_ble_eq_true rfl, Nat.le_of_ble_eq_true rfl⟩ (rest := []) rfl (Nat.le_of_ble_eq_true rfl) dX6_isOwnHere_49 ?_
          refine gz_if_ne (pc := 52) (tgt := 66) hX dX6_isOwnHere_52 (by decide) (fun g20 => ?_) (fun g20 => ?_)
          · replace h := gz_if' g20 h
            exact wb_X6_isOwnHere_66 hX h hk
          · replace h := gz_it' g20 h
            refine gz_aload_n (pc := 55) hX dX6_isOwnHere_55 rfl 0 rfl ?_
            refine gz_aload_n (pc := 56) hX dX6_isOwnHere_56 rfl 0 rfl ?_
            refine mg_16 (pc := 57) hX dX6_isOwnHere_57 ?_
            obtain ⟨⟨r21, m22⟩, c23, h⟩ := gz_bd h
            refine mc_isHere (pc := 60) hX rfl c23 ⟨Nat.le_of_ble_eq_true rfl, Nat.le_of_ble_eq_true rfl⟩ (rest := []) rfl (Nat.le_of_ble_eq_true rfl) dX6_isOwnHere_60 ?_
            refine gz_if_eq (pc := 63) (tgt := 70) hX dX6_isOwnHere_63 (by decide) (fun g24 => ?_) (fun g24 => ?_)
            · replace h := gz_it' g24 h
              refine gz_iconst (pc := 70) (v := (0 : Int32)) hX dX6_isOwnHere_70 (by decide) ?_
              exact wb_X6_isOwnHere_71 hX h hk
            · replace h := gz_if' g24 h
              exact wb_X6_isOwnHere_66 hX h hk
theorem mt_isOwnHere {G : gz_G} {l : Launch}   {m m9 : MM} {r : Int32} (h : mf_isOwnHere  m = some (r, m9)) : gz_Met mS G l yX6_isOwnHere cX6_isOwnHere 2 (some .boolean) (mRm 2 43) [.ref (gz_ad G 2000)] (mF m) (mF m9) (some (.int r)) :=
  gz_ofZ (plainFor_of_name mz_plain) (Nat.le_of_ble_eq_true rfl) fun X _ hX hk => wm_isOwnHere hX h hk
theorem mc_isOwnHere {X : gz_X} {G : gz_G} {cc : ByteArray} {nL fr lo pc : Nat} {lv : List (Nat × Value)} {rest st0 : List Value} (hX : gz_C mS X G cc nL RX6 fr lo)   {m m9 : MM} {r : Int32} (h : mf_isOwnHere  m = some (r, m9)) (hroom : 2 + 1 ≤ fr ∧ 8 + (2 + 11) + 43 ≤ lo) (hst : st0 = [.ref (gz_ad G 2000)] ++ rest) (hW : (rest.map fun v => v.category).sum ≤ 8) (hd : decode cc pc = .ok (.invokevirtual 298, 3)) (kk : gz_V mS X G nL (0, 0) (mF m9) (pc + 3) lv (.int r :: rest)) : gz_V mS X G nL (0, 0) (mF m) pc lv st0 :=
  gz_callV hX mz_E (As := []) (rest := rest) (q := (RX6, TX6, 104)) (ci := 0) (c := 2000) (mt_isOwnHere (l := X.2.1) h) (lw_V q2135 q2137 qs77 q182 q2138) (n := 0) (by decide +kernel) hroom rfl rfl (by decide) rfl hst hW hd (rem := (0, 0)) kk
/-! name()J -/
noncomputable def mj_X6_name_37  (m : MM) : Option (Int64 × MM) :=
  ((mf_fail (1 : Int32) (m.1 2000 2) m).bind fun (_, m2) => some ((0 : Int64), m2))
theorem wb_X6_name_37 {X : gz_X} {G : gz_G} (hX : gz_C mS X G cX6_name 3 RX6 3 64)   {m : MM} {z : (Int64 × MM)} (h : mj_X6_name_37  m = some z) (hk : (fun z : (Int64 × MM) => gz_kL mS X G 3 (0, 0) cX6_name (mF z.2) z.1) z) : gz_V mS X G 3 (0, 0) (mF m) 37 [(0, .ref (gz_ad G 2000))] [] := by
  unfold mj_X6_name_37 at h
  refine gz_aload_n (pc := 37) hX dX6_name_37 rfl 0 rfl ?_
  refine gz_iconst (pc := 38) (v := (1 : Int32)) hX dX6_name_38 (by decide) ?_
  refine gz_aload_n (pc := 39) hX dX6_name_39 rfl 0 rfl ?_
  refine mg_2 (pc := 40) hX dX6_name_40 ?_
  obtain ⟨⟨⟨⟩, m2⟩, c3, h⟩ := gz_bd h
  refine mc_fail (pc := 43) hX c3 ⟨Nat.le_of_ble_eq_true rfl, Nat.le_of_ble_eq_true rfl⟩ (rest := []) rfl (Nat.le_of_ble_eq_true rfl) dX6_name_43 ?_
  refine gz_lconst (pc := 46) (v := (0 : Int64)) hX dX6_name_46 (by decide) ?_
  obtain rfl := Option.some.inj h
  exact hk _ _ dX6_name_47
def mP_X6_name_58 (X : gz_X) (G : gz_G) (q : (Int64 × MM)) : Prop := gz_V mS X G 3 (0, 0) (mF q.2) 58 [(0, .ref (gz_ad G 2000)), (1, .long q.1)] []
noncomputable def mj_X6_name_145 (x1 : Int64) (m : MM) : Option (Int64 × MM) :=
  gz_let (msI m 2000 4 (m.1 2000 2)) fun m1 => some (x1, m1)
theorem wb_X6_name_145 {X : gz_X} {G : gz_G} (hX : gz_C mS X G cX6_name 3 RX6 3 64) {x1 : Int64}  {m : MM} {z : (Int64 × MM)} (h : mj_X6_name_145 x1 m = some z) (hk : (fun z : (Int64 × MM) => gz_kL mS X G 3 (0, 0) cX6_name (mF z.2) z.1) z) : gz_V mS X G 3 (0, 0) (mF m) 145 [(0, .ref (gz_ad G 2000)), (1, .long x1)] [] := by
  unfold mj_X6_name_145 at h
  refine gz_aload_n (pc := 145) hX dX6_name_145 rfl 0 rfl ?_
  refine gz_aload_n (pc := 146) hX dX6_name_146 rfl 0 rfl ?_
  refine mg_2 (pc := 147) hX dX6_name_147 ?_
  obtain ⟨m1, em1, h⟩ := gz_lt h
  refine mp_4 (pc := 150) hX dX6_name_150 em1 ?_
  refine gz_lload_n (pc := 153) hX dX6_name_153 rfl 1 rfl ?_
  obtain rfl := Option.some.inj h
  exact hk _ _ dX6_name_154
noncomputable def mb_X6_name_58 (x1 : Int64) (m : MM) : Option ((Int64 × MM) ⊕ (Int64 × MM)) :=
  (if (m.1 2000 3) ≤ (m.1 2000 2) then (Option.map Sum.inr (mj_X6_name_145 x1 m)) else (if gz_in (m.1 2000 2) (1600) then ((mf_isLetter (m.1 1001 (gz_ix (m.1 2000 2))) m).bind fun (r3, m4) => (if r3 = (0 : Int32) then (Option.map Sum.inr (mj_X6_name_145 x1 m4)) else (if ((m4.1 2000 2) - (m4.1 2000 36)) = (6 : Int32) then ((mf_fail (1 : Int32) (m4.1 2000 2) m4).bind fun (_, m12) => some (Sum.inr ((0 : Int64), m12))) else (if gz_in (m4.1 2000 2) (1600) then gz_let ((((((27 : Int64) * x1) + ((m4.1 1001 (gz_ix (m4.1 2000 2))).toInt64)) - (97 : Int64)) + (1 : Int64))) fun y9 => gz_let (msI m4 2000 2 ((m4.1 2000 2) + (1 : Int32))) fun m10 => some (Sum.inl (y9, m10)) else none)))) else none))
theorem wb_X6_name_58 {X : gz_X} {G : gz_G} (hX : gz_C mS X G cX6_name 3 RX6 3 64) {x1 : Int64}  {m : MM} {z : ((Int64 × MM) ⊕ (Int64 × MM))} (h : mb_X6_name_58 x1 m = some z) (hk : (Sum.elim (mP_X6_name_58 X G) (fun z : (Int64 × MM) => gz_kL mS X G 3 (0, 0) cX6_name (mF z.2) z.1)) z) : gz_V mS X G 3 (0, 0) (mF m) 58 [(0, .ref (gz_ad G 2000)), (1, .long x1)] [] := by
  unfold mb_X6_name_58 at h
  refine gz_aload_n (pc := 58) hX dX6_name_58 rfl 0 rfl ?_
  refine mg_2 (pc := 59) hX dX6_name_59 ?_
  refine gz_aload_n (pc := 62) hX dX6_name_62 rfl 0 rfl ?_
  refine mg_3 (pc := 63) hX dX6_name_63 ?_
  refine gz_icmp_ge (pc := 66) (tgt := 145) hX dX6_name_66 (by decide) (fun g1 => ?_) (fun g1 => ?_)
  · replace h := gz_it' g1 h
    obtain ⟨z0, hm0, rfl⟩ := gz_mp h
    exact wb_X6_name_145 hX hm0 hk
  · replace h := gz_if' g1 h
    refine gz_aload_n (pc := 69) hX dX6_name_69 rfl 0 rfl ?_
    refine mg_0 (pc := 70) hX dX6_name_70 ?_
    refine gz_aload_n (pc := 73) hX dX6_name_73 rfl 0 rfl ?_
    refine mg_2 (pc := 74) hX dX6_name_74 ?_
    obtain ⟨g2, h⟩ := gz_gu h
    refine mz_iald (pc := 77) (c := 1001) (n := 1600) hX rfl rfl g2 dX6_name_77 ?_
    obtain ⟨⟨r3, m4⟩, c5, h⟩ := gz_bd h
    refine mc_isLetter (pc := 78) hX c5 ⟨Nat.le_of_ble_eq_true rfl, Nat.le_of_ble_eq_true rfl⟩ (rest := []) rfl (Nat.le_of_ble_eq_true rfl) dX6_name_78 ?_
    refine gz_if_eq (pc := 81) (tgt := 145) hX dX6_name_81 (by decide) (fun g6 => ?_) (fun g6 => ?_)
    · replace h := gz_it' g6 h
      obtain ⟨z0, hm0, rfl⟩ := gz_mp h
      exact wb_X6_name_145 hX hm0 hk
    · replace h := gz_if' g6 h
      refine gz_aload_n (pc := 84) hX dX6_name_84 rfl 0 rfl ?_
      refine mg_2 (pc := 85) hX dX6_name_85 ?_
      refine gz_aload_n (pc := 88) hX dX6_name_88 rfl 0 rfl ?_
      refine mg_36 (pc := 89) hX dX6_name_89 ?_
      refine gz_isub (pc := 92) hX dX6_name_92 ?_
      refine gz_bipush (pc := 93) (v := (6 : Int32)) hX dX6_name_93 (by decide) ?_
      refine gz_icmp_ne (pc := 95) (tgt := 109) hX dX6_name_95 (by decide) (fun g7 => ?_) (fun g7 => ?_)
      · replace h := gz_if' g7 h
        refine gz_ldc2 (pc := 109) (v := (27 : Int64)) hX q2139 dX6_name_109 ?_
        refine gz_lload_n (pc := 112) hX dX6_name_112 rfl 1 rfl ?_
        refine gz_lmul (pc := 113) hX dX6_name_113 ?_
        refine gz_aload_n (pc := 114) hX dX6_name_114 rfl 0 rfl ?_
        refine mg_0 (pc := 115) hX dX6_name_115 ?_
        refine gz_aload_n (pc := 118) hX dX6_name_118 rfl 0 rfl ?_
        refine mg_2 (pc := 119) hX dX6_name_119 ?_
        obtain ⟨g8, h⟩ := gz_gu h
        refine mz_iald (pc := 122) (c := 1001) (n := 1600) hX rfl rfl g8 dX6_name_122 ?_
        refine gz_i2l (pc := 123) hX dX6_name_123 ?_
        refine gz_ladd (pc := 124) hX dX6_name_124 ?_
        refine gz_ldc2 (pc := 125) (v := (97 : Int64)) hX q2140 dX6_name_125 ?_
        refine gz_lsub (pc := 128) hX dX6_name_128 ?_
        refine gz_lconst (pc := 129) (v := (1 : Int64)) hX dX6_name_129 (by decide) ?_
        refine gz_ladd (pc := 130) hX dX6_name_130 ?_
        obtain ⟨y9, ey9, h⟩ := gz_lt h
        refine gz_topl ey9 ?_
        refine gz_lstore_n (pc := 131) (lw := [(1, .long y9), (0, .ref (gz_ad G 2000))]) hX dX6_name_131 rfl (by decide) rfl ?_
        refine gz_aload_n (pc := 132) hX dX6_name_132 rfl 1 rfl ?_
        refine gz_dup (pc := 133) hX dX6_name_133 rfl ?_
        refine mg_2 (pc := 134) hX dX6_name_134 ?_
        refine gz_iconst (pc := 137) (v := (1 : Int32)) hX dX6_name_137 (by decide) ?_
        refine gz_iadd (pc := 138) hX dX6_name_138 ?_
        obtain ⟨m10, em10, h⟩ := gz_lt h
        refine mp_2 (pc := 139) hX dX6_name_139 em10 ?_
        refine gz_goto (pc := 142) (tgt := 58) hX dX6_name_142 (by decide) ?_
        refine gz_sub (lw := [(0, .ref (gz_ad G 2000)), (1, .long y9)]) [1, 0] rfl ?_
        obtain rfl := Option.some.inj h
        exact hk
      · replace h := gz_it' g7 h
        refine gz_aload_n (pc := 98) hX dX6_name_98 rfl 0 rfl ?_
        refine gz_iconst (pc := 99) (v := (1 : Int32)) hX dX6_name_99 (by decide) ?_
        refine gz_aload_n (pc := 100) hX dX6_name_100 rfl 0 rfl ?_
        refine mg_2 (pc := 101) hX dX6_name_101 ?_
        obtain ⟨⟨⟨⟩, m12⟩, c13, h⟩ := gz_bd h
        refine mc_fail (pc := 104) hX c13 ⟨Nat.le_of_ble_eq_true rfl, Nat.le_of_ble_eq_true rfl⟩ (rest := []) rfl (Nat.le_of_ble_eq_true rfl) dX6_name_104 ?_
        refine gz_lconst (pc := 107) (v := (0 : Int64)) hX dX6_name_107 (by decide) ?_
        obtain rfl := Option.some.inj h
        exact hk _ _ dX6_name_108
noncomputable def ml_X6_name_58 (x1 : Int64) (m : MM) : Option (Int64 × MM) := gz_loop (fun q : (Int64 × MM) => mb_X6_name_58 q.1 q.2) (x1, m)
theorem wl_X6_name_58 {X : gz_X} {G : gz_G} (hX : gz_C mS X G cX6_name 3 RX6 3 64) {x1 : Int64}  {m : MM} {z : (Int64 × MM)} (h : ml_X6_name_58 x1 m = some z) (hk : (fun z : (Int64 × MM) => gz_kL mS X G 3 (0, 0) cX6_name (mF z.2) z.1) z) : gz_V mS X G 3 (0, 0) (mF m) 58 [(0, .ref (gz_ad G 2000)), (1, .long x1)] [] := by
  have hp : mP_X6_name_58 X G (x1, m) := gz_loop_ind (fun q z hz hkz => wb_X6_name_58 hX  hz hkz) h hk
  exact hp
noncomputable def mf_name  (m : MM) : Option (Int64 × MM) :=
  (if (m.1 2000 5) = (0 : Int32) then ((mf_look m).bind fun (r2, m3) => ((mf_isLetter r2 m3).bind fun (r5, m6) => (if r5 = (0 : Int32) then (mj_X6_name_37  m6) else (if (m6.1 2000 2) = (m6.1 2000 4) then (mj_X6_name_37  m6) else ((mf_isOwnHere m6).bind fun (r10, m11) => (if r10 = (0 : Int32) then gz_let (msI m11 2000 36 (m11.1 2000 2)) fun m14 => (ml_X6_name_58 (0 : Int64) m14) else (mj_X6_name_37  m11))))))) else some ((0 : Int64), m))
theorem wm_name {X : gz_X} {G : gz_G} (hX : gz_C mS X G cX6_name 3 RX6 3 64)   {m : MM} {z : (Int64 × MM)} (h : mf_name  m = some z) (hk : (fun z : (Int64 × MM) => gz_kL mS X G 3 (0, 0) cX6_name (mF z.2) z.1) z) : gz_V mS X G 3 (0, 0) (mF m) 0 [(0, .ref (gz_ad G 2000))] [] := by
  unfold mf_name at h
  refine gz_aload_n (pc := 0) hX dX6_name_0 rfl 0 rfl ?_
  refine mg_5 (pc := 1) hX dX6_name_1 ?_
  refine gz_if_eq (pc := 4) (tgt := 9) hX dX6_name_4 (by decide) (fun g1 => ?_) (fun g1 => ?_)
  · replace h := gz_it' g1 h
    refine gz_aload_n (pc := 9) hX dX6_name_9 rfl 0 rfl ?_
    obtain ⟨⟨r2, m3⟩, c4, h⟩ := gz_bd h
    refine mc_look (pc := 10) hX c4 ⟨Nat.le_of_ble_eq_true rfl, Nat.le_of_ble_eq_true rfl⟩ (rest := []) rfl (Nat.le_of_ble_eq_true rfl) dX6_name_10 ?_
    obtain ⟨⟨r5, m6⟩, c7, h⟩ := gz_bd h
    refine mc_isLetter (pc := 13) hX c7 ⟨Nat.le_of_ble_eq_true rfl, Nat.le_of_ble_eq_true rfl⟩ (rest := []) rfl (Nat.le_of_ble_eq_true rfl) dX6_name_13 ?_
    refine gz_if_eq (pc := 16) (tgt := 37) hX dX6_name_16 (by decide) (fun g8 => ?_) (fun g8 => ?_)
    · replace h := gz_it' g8 h
      exact wb_X6_name_37 hX h hk
    · replace h := gz_if' g8 h
      refine gz_aload_n (pc := 19) hX dX6_name_19 rfl 0 rfl ?_
      refine mg_2 (pc := 20) hX dX6_name_20 ?_
      refine gz_aload_n (pc := 23) hX dX6_name_23 rfl 0 rfl ?_
      refine mg_4 (pc := 24) hX dX6_name_24 ?_
      refine gz_icmp_eq (pc := 27) (tgt := 37) hX dX6_name_27 (by decide) (fun g9 => ?_) (fun g9 => ?_)
      · replace h := gz_it' g9 h
        exact wb_X6_name_37 hX h hk
      · replace h := gz_if' g9 h
        refine gz_aload_n (pc := 30) hX dX6_name_30 rfl 0 rfl ?_
        obtain ⟨⟨r10, m11⟩, c12, h⟩ := gz_bd h
        refine mc_isOwnHere (pc := 31) hX c12 ⟨Nat.le_of_ble_eq_true rfl, Nat.le_of_ble_eq_true rfl⟩ (rest := []) rfl (Nat.le_of_ble_eq_true rfl) dX6_name_31 ?_
        refine gz_if_eq (pc := 34) (tgt := 48) hX dX6_name_34 (by decide) (fun g13 => ?_) (fun g13 => ?_)
        · replace h := gz_it' g13 h
          refine gz_aload_n (pc := 48) hX dX6_name_48 rfl 0 rfl ?_
          refine gz_aload_n (pc := 49) hX dX6_name_49 rfl 0 rfl ?_
          refine mg_2 (pc := 50) hX dX6_name_50 ?_
          obtain ⟨m14, em14, h⟩ := gz_lt h
          refine mp_36 (pc := 53) hX dX6_name_53 em14 ?_
          refine gz_lconst (pc := 56) (v := (0 : Int64)) hX dX6_name_56 (by decide) ?_
          refine gz_lstore_n (pc := 57) (lw := [(1, .long (0 : Int64)), (0, .ref (gz_ad G 2000))]) hX dX6_name_57 rfl (by decide) rfl ?_
          refine gz_sub (lw := [(0, .ref (gz_ad G 2000)), (1, .long (0 : Int64))]) [1, 0] rfl ?_
          exact wl_X6_name_58 hX h hk
        · replace h := gz_if' g13 h
          exact wb_X6_name_37 hX h hk
  · replace h := gz_if' g1 h
    refine gz_lconst (pc := 7) (v := (0 : Int64)) hX dX6_name_7 (by decide) ?_
    obtain rfl := Option.some.inj h
    exact hk _ _ dX6_name_8
theorem mt_name {G : gz_G} {l : Launch}   {m m9 : MM} {r : Int64} (h : mf_name  m = some (r, m9)) : gz_Met mS G l yX6_name cX6_name 3 (some .long) (mRm 3 64) [.ref (gz_ad G 2000)] (mF m) (mF m9) (some (.long r)) :=
  gz_ofL (plainFor_of_name mz_plain) (Nat.le_of_ble_eq_true rfl) fun X _ hX hk => wm_name hX h hk
theorem mc_name {X : gz_X} {G : gz_G} {cc : ByteArray} {nL fr lo pc : Nat} {lv : List (Nat × Value)} {rest st0 : List Value} (hX : gz_C mS X G cc nL RX6 fr lo)   {m m9 : MM} {r : Int64} (h : mf_name  m = some (r, m9)) (hroom : 3 + 1 ≤ fr ∧ 8 + (3 + 11) + 64 ≤ lo) (hst : st0 = [.ref (gz_ad G 2000)] ++ rest) (hW : (rest.map fun v => v.category).sum ≤ 8) (hd : decode cc pc = .ok (.invokevirtual 312, 3)) (kk : gz_V mS X G nL (0, 0) (mF m9) (pc + 3) lv (.long r :: rest)) : gz_V mS X G nL (0, 0) (mF m) pc lv st0 :=
  gz_callV hX mz_E (As := []) (rest := rest) (q := (RX6, TX6, 104)) (ci := 0) (c := 2000) (mt_name (l := X.2.1) h) (lw_V q2131 q2133 qs76 q182 q2134) (n := 0) (by decide +kernel) hroom rfl rfl (by decide) rfl hst hW hd (rem := (0, 0)) kk
/-! newName()J -/
def mP_X6_newName_7 (X : gz_X) (G : gz_G) (q : (Int64 × Int32 × MM)) : Prop := gz_V mS X G 5 (0, 0) (mF q.2.2) 7 [(0, .ref (gz_ad G 2000)), (1, .long q.1), (3, .int q.2.1)] []
def mP_X6_newName_15 (X : gz_X) (G : gz_G) (q : (Int64 × Int32 × Int32 × MM)) : Prop := gz_V mS X G 5 (0, 0) (mF q.2.2.2) 15 [(0, .ref (gz_ad G 2000)), (1, .long q.1), (3, .int q.2.1), (4, .int q.2.2.1)] []
noncomputable def mj_X6_newName_59 (x1 : Int64) (x3 : Int32) (x4 : Int32) (m : MM) : Option ((Int64 × Int32 × Int32 × MM) ⊕ ((Int64 × Int32 × MM) ⊕ (Int64 × MM))) :=
  gz_let (x4 + (1 : Int32)) fun y1 => some (Sum.inl (x1, x3, y1, m))
theorem wb_X6_newName_59 {X : gz_X} {G : gz_G} (hX : gz_C mS X G cX6_newName 5 RX6 4 86) {x1 : Int64} {x3 : Int32} {x4 : Int32}  {m : MM} {z : ((Int64 × Int32 × Int32 × MM) ⊕ ((Int64 × Int32 × MM) ⊕ (Int64 × MM)))} (h : mj_X6_newName_59 x1 x3 x4 m = some z) (hk : (Sum.elim (mP_X6_newName_15 X G) (Sum.elim (mP_X6_newName_7 X G) (fun z : (Int64 × MM) => gz_kL mS X G 5 (0, 0) cX6_newName (mF z.2) z.1))) z) : gz_V mS X G 5 (0, 0) (mF m) 59 [(0, .ref (gz_ad G 2000)), (1, .long x1), (3, .int x3), (4, .int x4)] [] := by
  unfold mj_X6_newName_59 at h
  obtain ⟨y1, ey1, h⟩ := gz_lt h
  refine gz_iinc (pc := 59) (v := y1) (lw := [(4, .int y1), (0, .ref (gz_ad G 2000)), (1, .long x1), (3, .int x3)]) hX dX6_newName_59 (k := 3) rfl (by rw [ey1]; rfl) (by decide) rfl ?_
  refine gz_goto (pc := 62) (tgt := 15) hX dX6_newName_62 (by decide) ?_
  refine gz_sub (lw := [(0, .ref (gz_ad G 2000)), (1, .long x1), (3, .int x3), (4, .int y1)]) [1, 2, 3, 0] rfl ?_
  obtain rfl := Option.some.inj h
  exact hk
noncomputable def mb_X6_newName_15 (x1 : Int64) (x3 : Int32) (x4 : Int32) (m : MM) : Option ((Int64 × Int32 × Int32 × MM) ⊕ ((Int64 × Int32 × MM) ⊕ (Int64 × MM))) :=
  (if gz_in x3 (12) then (if (m.1 1038 (gz_ix x3)) ≤ x4 then gz_let (x3 + (1 : Int32)) fun y3 => some (Sum.inr (Sum.inl (x1, y3, m))) else (if (m.1 2000 5) = (0 : Int32) then (if gz_in (((8 : Int32) * x3) + x4) (32) then (if (m.2 1039 (gz_ix (((8 : Int32) * x3) + x4))) = x1 then ((mf_fail (3 : Int32) (m.1 2000 36) m).bind fun (_, m8) => (mj_X6_newName_59 x1 x3 x4 m8)) else (mj_X6_newName_59 x1 x3 x4 m)) else none) else (mj_X6_newName_59 x1 x3 x4 m))) else none)
theorem wb_X6_newName_15 {X : gz_X} {G : gz_G} (hX : gz_C mS X G cX6_newName 5 RX6 4 86) {x1 : Int64} {x3 : Int32} {x4 : Int32}  {m : MM} {z : ((Int64 × Int32 × Int32 × MM) ⊕ ((Int64 × Int32 × MM) ⊕ (Int64 × MM)))} (h : mb_X6_newName_15 x1 x3 x4 m = some z) (hk : (Sum.elim (mP_X6_newName_15 X G) (Sum.elim (mP_X6_newName_7 X G) (fun z : (Int64 × MM) => gz_kL mS X G 5 (0, 0) cX6_newName (mF z.2) z.1))) z) : gz_V mS X G 5 (0, 0) (mF m) 15 [(0, .ref (gz_ad G 2000)), (1, .long x1), (3, .int x3), (4, .int x4)] [] := by
  unfold mb_X6_newName_15 at h
  refine gz_iload (pc := 15) hX dX6_newName_15 3 rfl ?_
  refine gz_aload_n (pc := 17) hX dX6_newName_17 rfl 0 rfl ?_
  refine mg_37 (pc := 18) hX dX6_newName_18 ?_
  refine gz_iload_n (pc := 21) hX dX6_newName_21 rfl 2 rfl ?_
  obtain ⟨g1, h⟩ := gz_gu h
  refine mz_iald (pc := 22) (c := 1038) (n := 12) hX rfl rfl g1 dX6_newName_22 ?_
  refine gz_icmp_ge (pc := 23) (tgt := 65) hX dX6_newName_23 (by decide) (fun g2 => ?_) (fun g2 => ?_)
  · replace h := gz_it' g2 h
    obtain ⟨y3, ey3, h⟩ := gz_lt h
    refine gz_iinc (pc := 65) (v := y3) (lw := [(3, .int y3), (0, .ref (gz_ad G 2000)), (1, .long x1), (4, .int x4)]) hX dX6_newName_65 (k := 2) rfl (by rw [ey3]; rfl) (by decide) rfl ?_
    refine gz_goto (pc := 68) (tgt := 7) hX dX6_newName_68 (by decide) ?_
    refine gz_sub (lw := [(0, .ref (gz_ad G 2000)), (1, .long x1), (3, .int y3)]) [1, 2, 0] rfl ?_
    obtain rfl := Option.some.inj h
    exact hk
  · replace h := gz_if' g2 h
    refine gz_aload_n (pc := 26) hX dX6_newName_26 rfl 0 rfl ?_
    refine mg_5 (pc := 27) hX dX6_newName_27 ?_
    refine gz_if_ne (pc := 30) (tgt := 59) hX dX6_newName_30 (by decide) (fun g4 => ?_) (fun g4 => ?_)
    · replace h := gz_if' g4 h
      exact wb_X6_newName_59 hX h hk
    · replace h := gz_it' g4 h
      refine gz_aload_n (pc := 33) hX dX6_newName_33 rfl 0 rfl ?_
      refine mg_38 (pc := 34) hX dX6_newName_34 ?_
      refine gz_bipush (pc := 37) (v := (8 : Int32)) hX dX6_newName_37 (by decide) ?_
      refine gz_iload_n (pc := 39) hX dX6_newName_39 rfl 2 rfl ?_
      refine gz_imul (pc := 40) hX dX6_newName_40 ?_
      refine gz_iload (pc := 41) hX dX6_newName_41 3 rfl ?_
      refine gz_iadd (pc := 43) hX dX6_newName_43 ?_
      obtain ⟨g5, h⟩ := gz_gu h
      refine mz_lald (pc := 44) (c := 1039) (n := 32) hX rfl rfl g5 dX6_newName_44 ?_
      refine gz_lload_n (pc := 45) hX dX6_newName_45 rfl 1 rfl ?_
      refine gz_lcmp_ne (pc := 46) (tgt := 59) hX dX6_newName_46 dX6_newName_47 (by decide) (fun g6 => ?_) (fun g6 => ?_)
      · replace h := gz_if' g6 h
        exact wb_X6_newName_59 hX h hk
      · replace h := gz_it' g6 h
        refine gz_aload_n (pc := 50) hX dX6_newName_50 rfl 0 rfl ?_
        refine gz_iconst (pc := 51) (v := (3 : Int32)) hX dX6_newName_51 (by decide) ?_
        refine gz_aload_n (pc := 52) hX dX6_newName_52 rfl 0 rfl ?_
        refine mg_36 (pc := 53) hX dX6_newName_53 ?_
        obtain ⟨⟨⟨⟩, m8⟩, c9, h⟩ := gz_bd h
        refine mc_fail (pc := 56) hX c9 ⟨Nat.le_of_ble_eq_true rfl, Nat.le_of_ble_eq_true rfl⟩ (rest := []) rfl (Nat.le_of_ble_eq_true rfl) dX6_newName_56 ?_
        exact wb_X6_newName_59 hX h hk
noncomputable def ml_X6_newName_15 (x1 : Int64) (x3 : Int32) (x4 : Int32) (m : MM) : Option ((Int64 × Int32 × MM) ⊕ (Int64 × MM)) := gz_loop (fun q : (Int64 × Int32 × Int32 × MM) => mb_X6_newName_15 q.1 q.2.1 q.2.2.1 q.2.2.2) (x1, x3, x4, m)
theorem wl_X6_newName_15 {X : gz_X} {G : gz_G} (hX : gz_C mS X G cX6_newName 5 RX6 4 86) {x1 : Int64} {x3 : Int32} {x4 : Int32}  {m : MM} {z : ((Int64 × Int32 × MM) ⊕ (Int64 × MM))} (h : ml_X6_newName_15 x1 x3 x4 m = some z) (hk : (Sum.elim (mP_X6_newName_7 X G) (fun z : (Int64 × MM) => gz_kL mS X G 5 (0, 0) cX6_newName (mF z.2) z.1)) z) : gz_V mS X G 5 (0, 0) (mF m) 15 [(0, .ref (gz_ad G 2000)), (1, .long x1), (3, .int x3), (4, .int x4)] [] := by
  have hp : mP_X6_newName_15 X G (x1, x3, x4, m) := gz_loop_ind (fun q z hz hkz => wb_X6_newName_15 hX  hz hkz) h hk
  exact hp
noncomputable def mb_X6_newName_7 (x1 : Int64) (x3 : Int32) (m : MM) : Option ((Int64 × Int32 × MM) ⊕ (Int64 × MM)) :=
  (if (2 : Int32) ≤ x3 then some (Sum.inr (x1, m)) else (ml_X6_newName_15 x1 x3 (0 : Int32) m))
theorem wb_X6_newName_7 {X : gz_X} {G : gz_G} (hX : gz_C mS X G cX6_newName 5 RX6 4 86) {x1 : Int64} {x3 : Int32}  {m : MM} {z : ((Int64 × Int32 × MM) ⊕ (Int64 × MM))} (h : mb_X6_newName_7 x1 x3 m = some z) (hk : (Sum.elim (mP_X6_newName_7 X G) (fun z : (Int64 × MM) => gz_kL mS X G 5 (0, 0) cX6_newName (mF z.2) z.1)) z) : gz_V mS X G 5 (0, 0) (mF m) 7 [(0, .ref (gz_ad G 2000)), (1, .long x1), (3, .int x3)] [] := by
  unfold mb_X6_newName_7 at h
  refine gz_iload_n (pc := 7) hX dX6_newName_7 rfl 2 rfl ?_
  refine gz_iconst (pc := 8) (v := (2 : Int32)) hX dX6_newName_8 (by decide) ?_
  refine gz_icmp_ge (pc := 9) (tgt := 71) hX dX6_newName_9 (by decide) (fun g1 => ?_) (fun g1 => ?_)
  · replace h := gz_it' g1 h
    refine gz_lload_n (pc := 71) hX dX6_newName_71 rfl 1 rfl ?_
    obtain rfl := Option.some.inj h
    exact hk _ _ dX6_newName_72
  · replace h := gz_if' g1 h
    refine gz_iconst (pc := 12) (v := (0 : Int32)) hX dX6_newName_12 (by decide) ?_
    refine gz_istore (pc := 13) (lw := [(4, .int (0 : Int32)), (0, .ref (gz_ad G 2000)), (1, .long x1), (3, .int x3)]) hX dX6_newName_13 (by decide) rfl ?_
    refine gz_sub (lw := [(0, .ref (gz_ad G 2000)), (1, .long x1), (3, .int x3), (4, .int (0 : Int32))]) [1, 2, 3, 0] rfl ?_
    exact wl_X6_newName_15 hX h hk
noncomputable def ml_X6_newName_7 (x1 : Int64) (x3 : Int32) (m : MM) : Option (Int64 × MM) := gz_loop (fun q : (Int64 × Int32 × MM) => mb_X6_newName_7 q.1 q.2.1 q.2.2) (x1, x3, m)
theorem wl_X6_newName_7 {X : gz_X} {G : gz_G} (hX : gz_C mS X G cX6_newName 5 RX6 4 86) {x1 : Int64} {x3 : Int32}  {m : MM} {z : (Int64 × MM)} (h : ml_X6_newName_7 x1 x3 m = some z) (hk : (fun z : (Int64 × MM) => gz_kL mS X G 5 (0, 0) cX6_newName (mF z.2) z.1) z) : gz_V mS X G 5 (0, 0) (mF m) 7 [(0, .ref (gz_ad G 2000)), (1, .long x1), (3, .int x3)] [] := by
  have hp : mP_X6_newName_7 X G (x1, x3, m) := gz_loop_ind (fun q z hz hkz => wb_X6_newName_7 hX  hz hkz) h hk
  exact hp
noncomputable def mf_newName  (m : MM) : Option (Int64 × MM) :=
  ((mf_name m).bind fun (r1, m2) => (ml_X6_newName_7 r1 (0 : Int32) m2))
theorem wm_newName {X : gz_X} {G : gz_G} (hX : gz_C mS X G cX6_newName 5 RX6 4 86)   {m : MM} {z : (Int64 × MM)} (h : mf_newName  m = some z) (hk : (fun z : (Int64 × MM) => gz_kL mS X G 5 (0, 0) cX6_newName (mF z.2) z.1) z) : gz_V mS X G 5 (0, 0) (mF m) 0 [(0, .ref (gz_ad G 2000))] [] := by
  unfold mf_newName at h
  refine gz_aload_n (pc := 0) hX dX6_newName_0 rfl 0 rfl ?_
  obtain ⟨⟨r1, m2⟩, c3, h⟩ := gz_bd h
  refine mc_name (pc := 1) hX c3 ⟨Nat.le_of_ble_eq_true rfl, Nat.le_of_ble_eq_true rfl⟩ (rest := []) rfl (Nat.le_of_ble_eq_true rfl) dX6_newName_1 ?_
  refine gz_lstore_n (pc := 4) (lw := [(1, .long r1), (0, .ref (gz_ad G 2000))]) hX dX6_newName_4 rfl (by decide) rfl ?_
  refine gz_iconst (pc := 5) (v := (0 : Int32)) hX dX6_newName_5 (by decide) ?_
  refine gz_istore_n (pc := 6) (lw := [(3, .int (0 : Int32)), (1, .long r1), (0, .ref (gz_ad G 2000))]) hX dX6_newName_6 rfl (by decide) rfl ?_
  refine gz_sub (lw := [(0, .ref (gz_ad G 2000)), (1, .long r1), (3, .int (0 : Int32))]) [2, 1, 0] rfl ?_
  exact wl_X6_newName_7 hX h hk
theorem mt_newName {G : gz_G} {l : Launch}   {m m9 : MM} {r : Int64} (h : mf_newName  m = some (r, m9)) : gz_Met mS G l yX6_newName cX6_newName 5 (some .long) (mRm 4 86) [.ref (gz_ad G 2000)] (mF m) (mF m9) (some (.long r)) :=
  gz_ofL (plainFor_of_name mz_plain) (Nat.le_of_ble_eq_true rfl) fun X _ hX hk => wm_newName hX h hk
theorem mc_newName {X : gz_X} {G : gz_G} {cc : ByteArray} {nL fr lo pc : Nat} {lv : List (Nat × Value)} {rest st0 : List Value} (hX : gz_C mS X G cc nL RX6 fr lo)   {m m9 : MM} {r : Int64} (h : mf_newName  m = some (r, m9)) (hroom : 4 + 1 ≤ fr ∧ 8 + (5 + 11) + 86 ≤ lo) (hst : st0 = [.ref (gz_ad G 2000)] ++ rest) (hW : (rest.map fun v => v.category).sum ≤ 8) (hd : decode cc pc = .ok (.invokevirtual 320, 3)) (kk : gz_V mS X G nL (0, 0) (mF m9) (pc + 3) lv (.long r :: rest)) : gz_V mS X G nL (0, 0) (mF m) pc lv st0 :=
  gz_callV hX mz_E (As := []) (rest := rest) (q := (RX6, TX6, 104)) (ci := 0) (c := 2000) (mt_newName (l := X.2.1) h) (lw_V q2127 q2129 qs75 q182 q2130) (n := 0) (by decide +kernel) hroom rfl rfl (by decide) rfl hst hW hd (rem := (0, 0)) kk
/-! hallTold(I)V -/
noncomputable def mf_hallTold (x1 : Int32) (m : MM) : Option (Unit × MM) :=
  ((mf_isFull (0 : Int32) (8 : Int32) x1 m).bind fun (r1, m2) => (if r1 = (0 : Int32) then ((mf_newName m2).bind fun (r5, m6) => (if (m6.1 2000 5) = (0 : Int32) then (if gz_in (0 : Int32) (12) then (if gz_in (m6.1 1038 (gz_ix (0 : Int32))) (32) then gz_let (msL m6 1039 (gz_ix (m6.1 1038 (gz_ix (0 : Int32)))) r5) fun m11 => (if gz_in (0 : Int32) (12) then (if gz_in (0 : Int32) (12) then gz_let (msI m11 1038 (gz_ix (0 : Int32)) ((m11.1 1038 (gz_ix (0 : Int32))) + (1 : Int32))) fun m14 => some ((), m14) else none) else none) else none) else none) else some ((), m6))) else some ((), m2)))
theorem wm_hallTold {X : gz_X} {G : gz_G} (hX : gz_C mS X G cX6_hallTold 4 RX6 5 110) {x1 : Int32}  {m : MM} {z : (Unit × MM)} (h : mf_hallTold x1 m = some z) (hk : (fun z : (Unit × MM) => gz_kV mS X G 4 (0, 0) cX6_hallTold (mF z.2)) z) : gz_V mS X G 4 (0, 0) (mF m) 0 [(0, .ref (gz_ad G 2000)), (1, .int x1)] [] := by
  unfold mf_hallTold at h
  refine gz_aload_n (pc := 0) hX dX6_hallTold_0 rfl 0 rfl ?_
  refine gz_iconst (pc := 1) (v := (0 : Int32)) hX dX6_hallTold_1 (by decide) ?_
  refine gz_bipush (pc := 2) (v := (8 : Int32)) hX dX6_hallTold_2 (by decide) ?_
  refine gz_iload_n (pc := 4) hX dX6_hallTold_4 rfl 1 rfl ?_
  obtain ⟨⟨r1, m2⟩, c3, h⟩ := gz_bd h
  refine mc_isFull (pc := 5) hX c3 ⟨Nat.le_of_ble_eq_true rfl, Nat.le_of_ble_eq_true rfl⟩ (rest := []) rfl (Nat.le_of_ble_eq_true rfl) dX6_hallTold_5 ?_
  refine gz_if_eq (pc := 8) (tgt := 12) hX dX6_hallTold_8 (by decide) (fun g4 => ?_) (fun g4 => ?_)
  · replace h := gz_it' g4 h
    refine gz_aload_n (pc := 12) hX dX6_hallTold_12 rfl 0 rfl ?_
    obtain ⟨⟨r5, m6⟩, c7, h⟩ := gz_bd h
    refine mc_newName (pc := 13) hX c7 ⟨Nat.le_of_ble_eq_true rfl, Nat.le_of_ble_eq_true rfl⟩ (rest := []) rfl (Nat.le_of_ble_eq_true rfl) dX6_hallTold_13 ?_
    refine gz_lstore_n (pc := 16) (lw := [(2, .long r5), (0, .ref (gz_ad G 2000)), (1, .int x1)]) hX dX6_hallTold_16 rfl (by decide) rfl ?_
    refine gz_aload_n (pc := 17) hX dX6_hallTold_17 rfl 1 rfl ?_
    refine mg_5 (pc := 18) hX dX6_hallTold_18 ?_
    refine gz_if_eq (pc := 21) (tgt := 25) hX dX6_hallTold_21 (by decide) (fun g8 => ?_) (fun g8 => ?_)
    · replace h := gz_it' g8 h
      refine gz_aload_n (pc := 25) hX dX6_hallTold_25 rfl 1 rfl ?_
      refine mg_38 (pc := 26) hX dX6_hallTold_26 ?_
      refine gz_aload_n (pc := 29) hX dX6_hallTold_29 rfl 1 rfl ?_
      refine mg_37 (pc := 30) hX dX6_hallTold_30 ?_
      refine gz_iconst (pc := 33) (v := (0 : Int32)) hX dX6_hallTold_33 (by decide) ?_
      obtain ⟨g9, h⟩ := gz_gu h
      refine mz_iald (pc := 34) (c := 1038) (n := 12) hX rfl rfl g9 dX6_hallTold_34 ?_
      refine gz_lload_n (pc := 35) hX dX6_hallTold_35 rfl 0 rfl ?_
      obtain ⟨g10, h⟩ := gz_gu h
      obtain ⟨m11, em11, h⟩ := gz_lt h
      refine mz_last (pc := 36) (c := 1039) (n := 32) hX rfl rfl g10 (Nat.le_of_ble_eq_true rfl) dX6_hallTold_36 em11 ?_
      refine gz_aload_n (pc := 37) hX dX6_hallTold_37 rfl 1 rfl ?_
      refine mg_37 (pc := 38) hX dX6_hallTold_38 ?_
      refine gz_iconst (pc := 41) (v := (0 : Int32)) hX dX6_hallTold_41 (by decide) ?_
      refine gz_dup2_11 (pc := 42) hX dX6_hallTold_42 rfl rfl ?_
      obtain ⟨g12, h⟩ := gz_gu h
      refine mz_iald (pc := 43) (c := 1038) (n := 12) hX rfl rfl g12 dX6_hallTold_43 ?_
      refine gz_iconst (pc := 44) (v := (1 : Int32)) hX dX6_hallTold_44 (by decide) ?_
      refine gz_iadd (pc := 45) hX dX6_hallTold_45 ?_
      obtain ⟨g13, h⟩ := gz_gu h
      obtain ⟨m14, em14, h⟩ := gz_lt h
      refine mz_iast (pc := 46) (c := 1038) (n := 12) hX rfl rfl g13 (Nat.le_of_ble_eq_true rfl) dX6_hallTold_46 em14 ?_
      obtain rfl := Option.some.inj h
      exact hk _ _ dX6_hallTold_47
    · replace h := gz_if' g8 h
      obtain rfl := Option.some.inj h
      exact hk _ _ dX6_hallTold_24
  · replace h := gz_if' g4 h
    obtain rfl := Option.some.inj h
    exact hk _ _ dX6_hallTold_11
theorem mt_hallTold {G : gz_G} {l : Launch} {x1 : Int32}  {m m9 : MM} (h : mf_hallTold x1 m = some ((), m9)) : gz_Met mS G l yX6_hallTold cX6_hallTold 4 none (mRm 5 110) [.ref (gz_ad G 2000), .int x1] (mF m) (mF m9) none :=
  gz_ofV (plainFor_of_name mz_plain) (Nat.le_of_ble_eq_true rfl) fun X _ hX hk => wm_hallTold hX h hk
theorem mc_hallTold {X : gz_X} {G : gz_G} {cc : ByteArray} {nL fr lo pc : Nat} {lv : List (Nat × Value)} {rest st0 : List Value} (hX : gz_C mS X G cc nL RX6 fr lo) {x1 : Int32}  {m m9 : MM} (h : mf_hallTold x1 m = some ((), m9)) (hroom : 5 + 1 ≤ fr ∧ 8 + (4 + 11) + 110 ≤ lo) (hst : st0 = [.int x1, .ref (gz_ad G 2000)] ++ rest) (hW : (rest.map fun v => v.category).sum ≤ 8) (hd : decode cc pc = .ok (.invokevirtual 362, 3)) (kk : gz_V mS X G nL (0, 0) (mF m9) (pc + 3) lv (rest)) : gz_V mS X G nL (0, 0) (mF m) pc lv st0 :=
  gz_callV hX mz_E (As := [.int x1]) (rest := rest) (q := (RX6, TX6, 104)) (ci := 0) (c := 2000) (mt_hallTold (l := X.2.1) h) (lw_V q2119 q2121 qs73 q182 q2122) (n := 1) (by decide +kernel) hroom rfl rfl (by decide) rfl hst hW hd (rem := (0, 0)) kk
/-! named(II)I -/
def mP_X6_named_8 (X : gz_X) (G : gz_G) (q : (Int32 × Int32 × Int64 × Int32 × MM)) : Prop := gz_V mS X G 6 (0, 0) (mF q.2.2.2.2) 8 [(0, .ref (gz_ad G 2000)), (1, .int q.1), (2, .int q.2.1), (3, .long q.2.2.1), (5, .int q.2.2.2.1)] []
noncomputable def mj_X6_named_67  (m : MM) : Option (Int32 × MM) :=
  some ((0 : Int32), m)
theorem wb_X6_named_67 {X : gz_X} {G : gz_G} (hX : gz_C mS X G cX6_named 6 RX6 4 86)   {m : MM} {z : (Int32 × MM)} (h : mj_X6_named_67  m = some z) (hk : (fun z : (Int32 × MM) => gz_kI mS X G 6 (0, 0) cX6_named (mF z.2) z.1) z) : gz_V mS X G 6 (0, 0) (mF m) 67 [(0, .ref (gz_ad G 2000))] [] := by
  unfold mj_X6_named_67 at h
  refine gz_iconst (pc := 67) (v := (0 : Int32)) hX dX6_named_67 (by decide) ?_
  obtain rfl := Option.some.inj h
  exact hk _ _ dX6_named_68
noncomputable def mj_X6_named_45 (x1 : Int32) (x2 : Int32) (x3 : Int64) (x5 : Int32) (m : MM) : Option ((Int32 × Int32 × Int64 × Int32 × MM) ⊕ (Int32 × MM)) :=
  gz_let (x5 + (1 : Int32)) fun y1 => some (Sum.inl (x1, x2, x3, y1, m))
theorem wb_X6_named_45 {X : gz_X} {G : gz_G} (hX : gz_C mS X G cX6_named 6 RX6 4 86) {x1 : Int32} {x2 : Int32} {x3 : Int64} {x5 : Int32}  {m : MM} {z : ((Int32 × Int32 × Int64 × Int32 × MM) ⊕ (Int32 × MM))} (h : mj_X6_named_45 x1 x2 x3 x5 m = some z) (hk : (Sum.elim (mP_X6_named_8 X G) (fun z : (Int32 × MM) => gz_kI mS X G 6 (0, 0) cX6_named (mF z.2) z.1)) z) : gz_V mS X G 6 (0, 0) (mF m) 45 [(0, .ref (gz_ad G 2000)), (1, .int x1), (2, .int x2), (3, .long x3), (5, .int x5)] [] := by
  unfold mj_X6_named_45 at h
  obtain ⟨y1, ey1, h⟩ := gz_lt h
  refine gz_iinc (pc := 45) (v := y1) (lw := [(5, .int y1), (0, .ref (gz_ad G 2000)), (1, .int x1), (2, .int x2), (3, .long x3)]) hX dX6_named_45 (k := 4) rfl (by rw [ey1]; rfl) (by decide) rfl ?_
  refine gz_goto (pc := 48) (tgt := 8) hX dX6_named_48 (by decide) ?_
  refine gz_sub (lw := [(0, .ref (gz_ad G 2000)), (1, .int x1), (2, .int x2), (3, .long x3), (5, .int y1)]) [1, 2, 3, 4, 0] rfl ?_
  obtain rfl := Option.some.inj h
  exact hk
noncomputable def mb_X6_named_8 (x1 : Int32) (x2 : Int32) (x3 : Int64) (x5 : Int32) (m : MM) : Option ((Int32 × Int32 × Int64 × Int32 × MM) ⊕ (Int32 × MM)) :=
  (if gz_in x1 (12) then (if (m.1 1038 (gz_ix x1)) ≤ x5 then (if (m.1 2000 5) = (0 : Int32) then ((mf_fail (3 : Int32) (m.1 2000 36) m).bind fun (_, m5) => (Option.map Sum.inr (mj_X6_named_67  m5))) else (Option.map Sum.inr (mj_X6_named_67  m))) else (if x5 = x2 then (mj_X6_named_45 x1 x2 x3 x5 m) else (if gz_in (((8 : Int32) * x1) + x5) (32) then (if (m.2 1039 (gz_ix (((8 : Int32) * x1) + x5))) = x3 then some (Sum.inr (x5, m)) else (mj_X6_named_45 x1 x2 x3 x5 m)) else none))) else none)
theorem wb_X6_named_8 {X : gz_X} {G : gz_G} (hX : gz_C mS X G cX6_named 6 RX6 4 86) {x1 : Int32} {x2 : Int32} {x3 : Int64} {x5 : Int32}  {m : MM} {z : ((Int32 × Int32 × Int64 × Int32 × MM) ⊕ (Int32 × MM))} (h : mb_X6_named_8 x1 x2 x3 x5 m = some z) (hk : (Sum.elim (mP_X6_named_8 X G) (fun z : (Int32 × MM) => gz_kI mS X G 6 (0, 0) cX6_named (mF z.2) z.1)) z) : gz_V mS X G 6 (0, 0) (mF m) 8 [(0, .ref (gz_ad G 2000)), (1, .int x1), (2, .int x2), (3, .long x3), (5, .int x5)] [] := by
  unfold mb_X6_named_8 at h
  refine gz_iload (pc := 8) hX dX6_named_8 4 rfl ?_
  refine gz_aload_n (pc := 10) hX dX6_named_10 rfl 0 rfl ?_
  refine mg_37 (pc := 11) hX dX6_named_11 ?_
  refine gz_iload_n (pc := 14) hX dX6_named_14 rfl 1 rfl ?_
  obtain ⟨g1, h⟩ := gz_gu h
  refine mz_iald (pc := 15) (c := 1038) (n := 12) hX rfl rfl g1 dX6_named_15 ?_
  refine gz_icmp_ge (pc := 16) (tgt := 51) hX dX6_named_16 (by decide) (fun g2 => ?_) (fun g2 => ?_)
  · replace h := gz_it' g2 h
    refine gz_aload_n (pc := 51) hX dX6_named_51 rfl 0 rfl ?_
    refine mg_5 (pc := 52) hX dX6_named_52 ?_
    refine gz_if_ne (pc := 55) (tgt := 67) hX dX6_named_55 (by decide) (fun g3 => ?_) (fun g3 => ?_)
    · replace h := gz_if' g3 h
      refine gz_sub (lw := [(0, .ref (gz_ad G 2000))]) [0] rfl ?_
      obtain ⟨z0, hm0, rfl⟩ := gz_mp h
      exact wb_X6_named_67 hX hm0 hk
    · replace h := gz_it' g3 h
      refine gz_aload_n (pc := 58) hX dX6_named_58 rfl 0 rfl ?_
      refine gz_iconst (pc := 59) (v := (3 : Int32)) hX dX6_named_59 (by decide) ?_
      refine gz_aload_n (pc := 60) hX dX6_named_60 rfl 0 rfl ?_
      refine mg_36 (pc := 61) hX dX6_named_61 ?_
      obtain ⟨⟨⟨⟩, m5⟩, c6, h⟩ := gz_bd h
      refine mc_fail (pc := 64) hX c6 ⟨Nat.le_of_ble_eq_true rfl, Nat.le_of_ble_eq_true rfl⟩ (rest := []) rfl (Nat.le_of_ble_eq_true rfl) dX6_named_64 ?_
      refine gz_sub (lw := [(0, .ref (gz_ad G 2000))]) [0] rfl ?_
      obtain ⟨z0, hm0, rfl⟩ := gz_mp h
      exact wb_X6_named_67 hX hm0 hk
  · replace h := gz_if' g2 h
    refine gz_iload (pc := 19) hX dX6_named_19 4 rfl ?_
    refine gz_iload_n (pc := 21) hX dX6_named_21 rfl 2 rfl ?_
    refine gz_icmp_eq (pc := 22) (tgt := 45) hX dX6_named_22 (by decide) (fun g7 => ?_) (fun g7 => ?_)
    · replace h := gz_it' g7 h
      exact wb_X6_named_45 hX h hk
    · replace h := gz_if' g7 h
      refine gz_aload_n (pc := 25) hX dX6_named_25 rfl 0 rfl ?_
      refine mg_38 (pc := 26) hX dX6_named_26 ?_
      refine gz_bipush (pc := 29) (v := (8 : Int32)) hX dX6_named_29 (by decide) ?_
      refine gz_iload_n (pc := 31) hX dX6_named_31 rfl 1 rfl ?_
      refine gz_imul (pc := 32) hX dX6_named_32 ?_
      refine gz_iload (pc := 33) hX dX6_named_33 4 rfl ?_
      refine gz_iadd (pc := 35) hX dX6_named_35 ?_
      obtain ⟨g8, h⟩ := gz_gu h
      refine mz_lald (pc := 36) (c := 1039) (n := 32) hX rfl rfl g8 dX6_named_36 ?_
      refine gz_lload_n (pc := 37) hX dX6_named_37 rfl 3 rfl ?_
      refine gz_lcmp_ne (pc := 38) (tgt := 45) hX dX6_named_38 dX6_named_39 (by decide) (fun g9 => ?_) (fun g9 => ?_)
      · replace h := gz_if' g9 h
        exact wb_X6_named_45 hX h hk
      · replace h := gz_it' g9 h
        refine gz_iload (pc := 42) hX dX6_named_42 4 rfl ?_
        obtain rfl := Option.some.inj h
        exact hk _ _ dX6_named_44
noncomputable def ml_X6_named_8 (x1 : Int32) (x2 : Int32) (x3 : Int64) (x5 : Int32) (m : MM) : Option (Int32 × MM) := gz_loop (fun q : (Int32 × Int32 × Int64 × Int32 × MM) => mb_X6_named_8 q.1 q.2.1 q.2.2.1 q.2.2.2.1 q.2.2.2.2) (x1, x2, x3, x5, m)
theorem wl_X6_named_8 {X : gz_X} {G : gz_G} (hX : gz_C mS X G cX6_named 6 RX6 4 86) {x1 : Int32} {x2 : Int32} {x3 : Int64} {x5 : Int32}  {m : MM} {z : (Int32 × MM)} (h : ml_X6_named_8 x1 x2 x3 x5 m = some z) (hk : (fun z : (Int32 × MM) => gz_kI mS X G 6 (0, 0) cX6_named (mF z.2) z.1) z) : gz_V mS X G 6 (0, 0) (mF m) 8 [(0, .ref (gz_ad G 2000)), (1, .int x1), (2, .int x2), (3, .long x3), (5, .int x5)] [] := by
  have hp : mP_X6_named_8 X G (x1, x2, x3, x5, m) := gz_loop_ind (fun q z hz hkz => wb_X6_named_8 hX  hz hkz) h hk
  exact hp
noncomputable def mf_named (x1 : Int32) (x2 : Int32) (m : MM) : Option (Int32 × MM) :=
  ((mf_name m).bind fun (r1, m2) => (ml_X6_named_8 x1 x2 r1 (0 : Int32) m2))
theorem wm_named {X : gz_X} {G : gz_G} (hX : gz_C mS X G cX6_named 6 RX6 4 86) {x1 : Int32} {x2 : Int32}  {m : MM} {z : (Int32 × MM)} (h : mf_named x1 x2 m = some z) (hk : (fun z : (Int32 × MM) => gz_kI mS X G 6 (0, 0) cX6_named (mF z.2) z.1) z) : gz_V mS X G 6 (0, 0) (mF m) 0 [(0, .ref (gz_ad G 2000)), (1, .int x1), (2, .int x2)] [] := by
  unfold mf_named at h
  refine gz_aload_n (pc := 0) hX dX6_named_0 rfl 0 rfl ?_
  obtain ⟨⟨r1, m2⟩, c3, h⟩ := gz_bd h
  refine mc_name (pc := 1) hX c3 ⟨Nat.le_of_ble_eq_true rfl, Nat.le_of_ble_eq_true rfl⟩ (rest := []) rfl (Nat.le_of_ble_eq_true rfl) dX6_named_1 ?_
  refine gz_lstore_n (pc := 4) (lw := [(3, .long r1), (0, .ref (gz_ad G 2000)), (1, .int x1), (2, .int x2)]) hX dX6_named_4 rfl (by decide) rfl ?_
  refine gz_iconst (pc := 5) (v := (0 : Int32)) hX dX6_named_5 (by decide) ?_
  refine gz_istore (pc := 6) (lw := [(5, .int (0 : Int32)), (3, .long r1), (0, .ref (gz_ad G 2000)), (1, .int x1), (2, .int x2)]) hX dX6_named_6 (by decide) rfl ?_
  refine gz_sub (lw := [(0, .ref (gz_ad G 2000)), (1, .int x1), (2, .int x2), (3, .long r1), (5, .int (0 : Int32))]) [2, 3, 4, 1, 0] rfl ?_
  exact wl_X6_named_8 hX h hk
theorem mt_named {G : gz_G} {l : Launch} {x1 : Int32} {x2 : Int32}  {m m9 : MM} {r : Int32} (h : mf_named x1 x2 m = some (r, m9)) : gz_Met mS G l yX6_named cX6_named 6 (some .int) (mRm 4 86) [.ref (gz_ad G 2000), .int x1, .int x2] (mF m) (mF m9) (some (.int r)) :=
  gz_ofI (plainFor_of_name mz_plain) (Nat.le_of_ble_eq_true rfl) fun X _ hX hk => wm_named hX h hk
theorem mc_named {X : gz_X} {G : gz_G} {cc : ByteArray} {nL fr lo pc : Nat} {lv : List (Nat × Value)} {rest st0 : List Value} (hX : gz_C mS X G cc nL RX6 fr lo) {x1 : Int32} {x2 : Int32}  {m m9 : MM} {r : Int32} (h : mf_named x1 x2 m = some (r, m9)) (hroom : 4 + 1 ≤ fr ∧ 8 + (6 + 11) + 86 ≤ lo) (hst : st0 = [.int x2, .int x1, .ref (gz_ad G 2000)] ++ rest) (hW : (rest.map fun v => v.category).sum ≤ 8) (hd : decode cc pc = .ok (.invokevirtual 323, 3)) (kk : gz_V mS X G nL (0, 0) (mF m9) (pc + 3) lv (.int r :: rest)) : gz_V mS X G nL (0, 0) (mF m) pc lv st0 :=
  gz_callV hX mz_E (As := [.int x1, .int x2]) (rest := rest) (q := (RX6, TX6, 104)) (ci := 0) (c := 2000) (mt_named (l := X.2.1) h) (lw_V q2145 q2147 qs79 q182 q2148) (n := 2) (by decide +kernel) hroom rfl rfl (by decide) rfl hst hW hd (rem := (0, 0)) kk
