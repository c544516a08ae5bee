set_option maxRecDepth 100000
/-! drawOf(I)I -/
noncomputable def mf_drawOf (x1 : Int32) (m : MM) : Option (Int32 × MM) :=
  gz_let (msL m 2000 70 ((((1103515245 : Int64) * (m.2 2000 70)) + (12345 : Int64)) - (((1103515245 : Int64) * (m.2 2000 70)) + (12345 : Int64)) / (2147483648 : Int64) * (2147483648 : Int64))) fun m1 => (if ¬ (x1.toInt64) = 0 then some (((((m1.2 2000 70) / (64 : Int64)) - ((m1.2 2000 70) / (64 : Int64)) / (x1.toInt64) * (x1.toInt64)).toInt32), m1) else none)
theorem wm_drawOf {X : gz_X} {G : gz_G} (hX : gz_C mS X G cX6_drawOf 2 RX6 0 0) {x1 : Int32}  {m : MM} {z : (Int32 × MM)} (h : mf_drawOf x1 m = some z) (hk : (fun z : (Int32 × MM) => gz_kI mS X G 2 (0, 0) cX6_drawOf (mF z.2) z.1) z) : gz_V mS X G 2 (0, 0) (mF m) 0 [(0, .ref (gz_ad G 2000)), (1, .int x1)] [] := by
  unfold mf_drawOf at h
  refine gz_aload_n (pc := 0) hX dX6_drawOf_0 rfl 0 rfl ?_
  refine gz_ldc2 (pc := 1) (v := (1103515245 : Int64)) hX q2604 dX6_drawOf_1 ?_
  refine gz_aload_n (pc := 4) hX dX6_drawOf_4 rfl 0 rfl ?_
  refine mg_70 (pc := 5) hX dX6_drawOf_5 ?_
  refine gz_lmul (pc := 8) hX dX6_drawOf_8 ?_
  refine gz_ldc2 (pc := 9) (v := (12345 : Int64)) hX q2605 dX6_drawOf_9 ?_
  refine gz_ladd (pc := 12) hX dX6_drawOf_12 ?_
  refine gz_ldc2 (pc := 13) (v := (2147483648 : Int64)) hX q2606 dX6_drawOf_13 ?_
  refine gz_lrem (pc := 16) hX dX6_drawOf_16 (by decide) ?_
  obtain ⟨m1, em1, h⟩ := gz_lt h
  refine mp_70 (pc := 17) hX dX6_drawOf_17 em1 ?_
  refine gz_aload_n (pc := 20) hX dX6_drawOf_20 rfl 0 rfl ?_
  refine mg_70 (pc := 21) hX dX6_drawOf_21 ?_
  refine gz_ldc2 (pc := 24) (v := (64 : Int64)) hX q2607 dX6_drawOf_24 ?_
  refine gz_ldiv (pc := 27) hX dX6_drawOf_27 (by decide) ?_
  refine gz_iload_n (pc := 28) hX dX6_drawOf_28 rfl 1 rfl ?_
  refine gz_i2l (pc := 29) hX dX6_drawOf_29 ?_
  obtain ⟨g2, h⟩ := gz_gu h
  refine gz_lrem (pc := 30) hX dX6_drawOf_30 g2 ?_
  refine gz_l2i (pc := 31) hX dX6_drawOf_31 ?_
  obtain rfl := Option.some.inj h
  exact hk _ _ dX6_drawOf_32
theorem mt_drawOf {G : gz_G} {l : Launch} {x1 : Int32}  {m m9 : MM} {r : Int32} (h : mf_drawOf x1 m = some (r, m9)) : gz_Met mS G l yX6_drawOf cX6_drawOf 2 (some .int) (mRm 0 0) [.ref (gz_ad G 2000), .int x1] (mF m) (mF m9) (some (.int r)) :=
  gz_ofI (plainFor_of_name mz_plain) (Nat.le_of_ble_eq_true rfl) fun X _ hX hk => wm_drawOf hX h hk
theorem mc_drawOf {X : gz_X} {G : gz_G} {cc : ByteArray} {nL fr lo pc : Nat} {lv : List (Nat × Value)} {rest st0 : List Value} (hX : gz_C mS X G cc nL RX6 fr lo) {x1 : Int32}  {m m9 : MM} {r : Int32} (h : mf_drawOf x1 m = some (r, m9)) (hroom : 0 + 1 ≤ fr ∧ 8 + (2 + 11) + 0 ≤ lo) (hst : st0 = [.int x1, .ref (gz_ad G 2000)] ++ rest) (hW : (rest.map fun v => v.category).sum ≤ 8) (hd : decode cc pc = .ok (.invokevirtual 591, 3)) (kk : gz_V mS X G nL (0, 0) (mF m9) (pc + 3) lv (.int r :: rest)) : gz_V mS X G nL (0, 0) (mF m) pc lv st0 :=
  gz_callV hX mz_E (As := [.int x1]) (rest := rest) (q := (RX6, TX6, 104)) (ci := 0) (c := 2000) (mt_drawOf (l := X.2.1) h) (lw_V q2600 q2602 qs159 q182 q2603) (n := 1) (by decide +kernel) hroom rfl rfl (by decide) rfl hst hW hd (rem := (0, 0)) kk
/-! chance(I)I -/
def mP_X6_chance_25 (X : gz_X) (G : gz_G) (q : (Int32 × Int32 × Int32 × MM)) : Prop := gz_V mS X G 4 (0, 0) (mF q.2.2.2) 25 [(0, .ref (gz_ad G 2000)), (1, .int q.1), (2, .int q.2.1), (3, .int q.2.2.1)] []
noncomputable def mj_X6_chance_68 (x1 : Int32) (x2 : Int32) (x3 : Int32) (m : MM) : Option ((Int32 × Int32 × Int32 × MM) ⊕ (Int32 × MM)) :=
  ((mf_hourGoes m).bind fun (_, m2) => gz_let (x3 + (1 : Int32)) fun y4 => some (Sum.inl (x1, x2, y4, m2)))
theorem wb_X6_chance_68 {X : gz_X} {G : gz_G} (hX : gz_C mS X G cX6_chance 4 RX6 6 132) {x1 : Int32} {x2 : Int32} {x3 : Int32}  {m : MM} {z : ((Int32 × Int32 × Int32 × MM) ⊕ (Int32 × MM))} (h : mj_X6_chance_68 x1 x2 x3 m = some z) (hk : (Sum.elim (mP_X6_chance_25 X G) (fun z : (Int32 × MM) => gz_kI mS X G 4 (0, 0) cX6_chance (mF z.2) z.1)) z) : gz_V mS X G 4 (0, 0) (mF m) 68 [(0, .ref (gz_ad G 2000)), (1, .int x1), (2, .int x2), (3, .int x3)] [] := by
  unfold mj_X6_chance_68 at h
  refine gz_aload_n (pc := 68) hX dX6_chance_68 rfl 0 rfl ?_
  obtain ⟨⟨⟨⟩, m2⟩, c3, h⟩ := gz_bd h
  refine mc_hourGoes (pc := 69) hX c3 ⟨Nat.le_of_ble_eq_true rfl, Nat.le_of_ble_eq_true rfl⟩ (rest := []) rfl (Nat.le_of_ble_eq_true rfl) dX6_chance_69 ?_
  obtain ⟨y4, ey4, h⟩ := gz_lt h
  refine gz_iinc (pc := 72) (v := y4) (lw := [(3, .int y4), (0, .ref (gz_ad G 2000)), (1, .int x1), (2, .int x2)]) hX dX6_chance_72 (k := 3) rfl (by rw [ey4]; rfl) (by decide) rfl ?_
  refine gz_goto (pc := 75) (tgt := 25) hX dX6_chance_75 (by decide) ?_
  refine gz_sub (lw := [(0, .ref (gz_ad G 2000)), (1, .int x1), (2, .int x2), (3, .int y4)]) [1, 2, 3, 0] rfl ?_
  obtain rfl := Option.some.inj h
  exact hk
noncomputable def mb_X6_chance_25 (x1 : Int32) (x2 : Int32) (x3 : Int32) (m : MM) : Option ((Int32 × Int32 × Int32 × MM) ⊕ (Int32 × MM)) :=
  (if x1 ≤ x3 then some (Sum.inr (x2, m)) else ((mf_drawOf (100 : Int32) m).bind fun (r2, m3) => (if gz_in (11 : Int32) (12) then (if (m3.1 1038 (gz_ix (11 : Int32))) ≤ r2 then (mj_X6_chance_68 x1 x2 x3 m3) else ((mf_thingMany m3).bind fun (r7, m8) => (if r7 ≤ (0 : Int32) then (mj_X6_chance_68 x1 x2 x3 m8) else ((mf_thingMany m8).bind fun (r11, m12) => ((mf_drawOf r11 m12).bind fun (r14, m15) => ((mf_draughtOn r14 m15).bind fun (_, m18) => gz_let (x2 + (1 : Int32)) fun y20 => (mj_X6_chance_68 x1 y20 x3 m18))))))) else none)))
theorem wb_X6_chance_25 {X : gz_X} {G : gz_G} (hX : gz_C mS X G cX6_chance 4 RX6 6 132) {x1 : Int32} {x2 : Int32} {x3 : Int32}  {m : MM} {z : ((Int32 × Int32 × Int32 × MM) ⊕ (Int32 × MM))} (h : mb_X6_chance_25 x1 x2 x3 m = some z) (hk : (Sum.elim (mP_X6_chance_25 X G) (fun z : (Int32 × MM) => gz_kI mS X G 4 (0, 0) cX6_chance (mF z.2) z.1)) z) : gz_V mS X G 4 (0, 0) (mF m) 25 [(0, .ref (gz_ad G 2000)), (1, .int x1), (2, .int x2), (3, .int x3)] [] := by
  unfold mb_X6_chance_25 at h
  refine gz_iload_n (pc := 25) hX dX6_chance_25 rfl 3 rfl ?_
  refine gz_iload_n (pc := 26) hX dX6_chance_26 rfl 1 rfl ?_
  refine gz_icmp_ge (pc := 27) (tgt := 78) hX dX6_chance_27 (by decide) (fun g1 => ?_) (fun g1 => ?_)
  · replace h := gz_it' g1 h
    refine gz_iload_n (pc := 78) hX dX6_chance_78 rfl 2 rfl ?_
    obtain rfl := Option.some.inj h
    exact hk _ _ dX6_chance_79
  · replace h := gz_if' g1 h
    refine gz_aload_n (pc := 30) hX dX6_chance_30 rfl 0 rfl ?_
    refine gz_bipush (pc := 31) (v := (100 : Int32)) hX dX6_chance_31 (by decide) ?_
    obtain ⟨⟨r2, m3⟩, c4, h⟩ := gz_bd h
    refine mc_drawOf (pc := 33) hX c4 ⟨Nat.le_of_ble_eq_true rfl, Nat.le_of_ble_eq_true rfl⟩ (rest := []) rfl (Nat.le_of_ble_eq_true rfl) dX6_chance_33 ?_
    refine gz_aload_n (pc := 36) hX dX6_chance_36 rfl 0 rfl ?_
    refine mg_37 (pc := 37) hX dX6_chance_37 ?_
    refine gz_bipush (pc := 40) (v := (11 : Int32)) hX dX6_chance_40 (by decide) ?_
    obtain ⟨g5, h⟩ := gz_gu h
    refine mz_iald (pc := 42) (c := 1038) (n := 12) hX rfl rfl g5 dX6_chance_42 ?_
    refine gz_icmp_ge (pc := 43) (tgt := 68) hX dX6_chance_43 (by decide) (fun g6 => ?_) (fun g6 => ?_)
    · replace h := gz_it' g6 h
      exact wb_X6_chance_68 hX h hk
    · replace h := gz_if' g6 h
      refine gz_aload_n (pc := 46) hX dX6_chance_46 rfl 0 rfl ?_
      obtain ⟨⟨r7, m8⟩, c9, h⟩ := gz_bd h
      refine mc_thingMany (pc := 47) hX c9 ⟨Nat.le_of_ble_eq_true rfl, Nat.le_of_ble_eq_true rfl⟩ (rest := []) rfl (Nat.le_of_ble_eq_true rfl) dX6_chance_47 ?_
      refine gz_if_le (pc := 50) (tgt := 68) hX dX6_chance_50 (by decide) (fun g10 => ?_) (fun g10 => ?_)
      · replace h := gz_it' g10 h
        exact wb_X6_chance_68 hX h hk
      · replace h := gz_if' g10 h
        refine gz_aload_n (pc := 53) hX dX6_chance_53 rfl 0 rfl ?_
        refine gz_aload_n (pc := 54) hX dX6_chance_54 rfl 0 rfl ?_
        refine gz_aload_n (pc := 55) hX dX6_chance_55 rfl 0 rfl ?_
        obtain ⟨⟨r11, m12⟩, c13, h⟩ := gz_bd h
        refine mc_thingMany (pc := 56) hX c13 ⟨Nat.le_of_ble_eq_true rfl, Nat.le_of_ble_eq_true rfl⟩ (rest := [.ref (gz_ad G 2000), .ref (gz_ad G 2000)]) rfl (Nat.le_of_ble_eq_true rfl) dX6_chance_56 ?_
        obtain ⟨⟨r14, m15⟩, c16, h⟩ := gz_bd h
        refine mc_drawOf (pc := 59) hX c16 ⟨Nat.le_of_ble_eq_true rfl, Nat.le_of_ble_eq_true rfl⟩ (rest := [.ref (gz_ad G 2000)]) rfl (Nat.le_of_ble_eq_true rfl) dX6_chance_59 ?_
        obtain ⟨⟨⟨⟩, m18⟩, c19, h⟩ := gz_bd h
        refine mc_draughtOn (pc := 62) hX c19 ⟨Nat.le_of_ble_eq_true rfl, Nat.le_of_ble_eq_true rfl⟩ (rest := []) rfl (Nat.le_of_ble_eq_true rfl) dX6_chance_62 ?_
        obtain ⟨y20, ey20, h⟩ := gz_lt h
        refine gz_iinc (pc := 65) (v := y20) (lw := [(2, .int y20), (0, .ref (gz_ad G 2000)), (1, .int x1), (3, .int x3)]) hX dX6_chance_65 (k := 2) rfl (by rw [ey20]; rfl) (by decide) rfl ?_
        refine gz_sub (lw := [(0, .ref (gz_ad G 2000)), (1, .int x1), (2, .int y20), (3, .int x3)]) [1, 2, 0, 3] rfl ?_
        exact wb_X6_chance_68 hX h hk
noncomputable def ml_X6_chance_25 (x1 : Int32) (x2 : Int32) (x3 : Int32) (m : MM) : Option (Int32 × MM) := gz_loop (fun q : (Int32 × Int32 × Int32 × MM) => mb_X6_chance_25 q.1 q.2.1 q.2.2.1 q.2.2.2) (x1, x2, x3, m)
theorem wl_X6_chance_25 {X : gz_X} {G : gz_G} (hX : gz_C mS X G cX6_chance 4 RX6 6 132) {x1 : Int32} {x2 : Int32} {x3 : Int32}  {m : MM} {z : (Int32 × MM)} (h : ml_X6_chance_25 x1 x2 x3 m = some z) (hk : (fun z : (Int32 × MM) => gz_kI mS X G 4 (0, 0) cX6_chance (mF z.2) z.1) z) : gz_V mS X G 4 (0, 0) (mF m) 25 [(0, .ref (gz_ad G 2000)), (1, .int x1), (2, .int x2), (3, .int x3)] [] := by
  have hp : mP_X6_chance_25 X G (x1, x2, x3, m) := gz_loop_ind (fun q z hz hkz => wb_X6_chance_25 hX  hz hkz) h hk
  exact hp
noncomputable def mf_chance (x1 : Int32) (m : MM) : Option (Int32 × MM) :=
  ((mf_isAhead x1 (1 : Int32) (100 : Int32) m).bind fun (r1, m2) => (if r1 = (0 : Int32) then ((mf_refuses (3 : Int32) m2).bind fun (r8, m9) => some (r8, m9)) else ((mf_keeps m2).bind fun (_, m6) => (ml_X6_chance_25 x1 (0 : Int32) (0 : Int32) m6))))
theorem wm_chance {X : gz_X} {G : gz_G} (hX : gz_C mS X G cX6_chance 4 RX6 6 132) {x1 : Int32}  {m : MM} {z : (Int32 × MM)} (h : mf_chance x1 m = some z) (hk : (fun z : (Int32 × MM) => gz_kI mS X G 4 (0, 0) cX6_chance (mF z.2) z.1) z) : gz_V mS X G 4 (0, 0) (mF m) 0 [(0, .ref (gz_ad G 2000)), (1, .int x1)] [] := by
  unfold mf_chance at h
  refine gz_aload_n (pc := 0) hX dX6_chance_0 rfl 0 rfl ?_
  refine gz_iload_n (pc := 1) hX dX6_chance_1 rfl 1 rfl ?_
  refine gz_iconst (pc := 2) (v := (1 : Int32)) hX dX6_chance_2 (by decide) ?_
  refine gz_bipush (pc := 3) (v := (100 : Int32)) hX dX6_chance_3 (by decide) ?_
  obtain ⟨⟨r1, m2⟩, c3, h⟩ := gz_bd h
  refine mc_isAhead (pc := 5) hX c3 ⟨Nat.le_of_ble_eq_true rfl, Nat.le_of_ble_eq_true rfl⟩ (rest := []) rfl (Nat.le_of_ble_eq_true rfl) dX6_chance_5 ?_
  refine gz_if_ne (pc := 8) (tgt := 17) hX dX6_chance_8 (by decide) (fun g4 => ?_) (fun g4 => ?_)
  · replace h := gz_if' g4 h
    refine gz_aload_n (pc := 17) hX dX6_chance_17 rfl 0 rfl ?_
    obtain ⟨⟨⟨⟩, m6⟩, c7, h⟩ := gz_bd h
    refine mc_keeps (pc := 18) hX c7 ⟨Nat.le_of_ble_eq_true rfl, Nat.le_of_ble_eq_true rfl⟩ (rest := []) rfl (Nat.le_of_ble_eq_true rfl) dX6_chance_18 ?_
    refine gz_iconst (pc := 21) (v := (0 : Int32)) hX dX6_chance_21 (by decide) ?_
    refine gz_istore_n (pc := 22) (lw := [(2, .int (0 : Int32)), (0, .ref (gz_ad G 2000)), (1, .int x1)]) hX dX6_chance_22 rfl (by decide) rfl ?_
    refine gz_iconst (pc := 23) (v := (0 : Int32)) hX dX6_chance_23 (by decide) ?_
    refine gz_istore_n (pc := 24) (lw := [(3, .int (0 : Int32)), (2, .int (0 : Int32)), (0, .ref (gz_ad G 2000)), (1, .int x1)]) hX dX6_chance_24 rfl (by decide) rfl ?_
    refine gz_sub (lw := [(0, .ref (gz_ad G 2000)), (1, .int x1), (2, .int (0 : Int32)), (3, .int (0 : Int32))]) [2, 3, 1, 0] rfl ?_
    exact wl_X6_chance_25 hX h hk
  · replace h := gz_it' g4 h
    refine gz_aload_n (pc := 11) hX dX6_chance_11 rfl 0 rfl ?_
    refine gz_iconst (pc := 12) (v := (3 : Int32)) hX dX6_chance_12 (by decide) ?_
    obtain ⟨⟨r8, m9⟩, c10, h⟩ := gz_bd h
    refine mc_refuses (pc := 13) hX c10 ⟨Nat.le_of_ble_eq_true rfl, Nat.le_of_ble_eq_true rfl⟩ (rest := []) rfl (Nat.le_of_ble_eq_true rfl) dX6_chance_13 ?_
    obtain rfl := Option.some.inj h
    exact hk _ _ dX6_chance_16
theorem mt_chance {G : gz_G} {l : Launch} {x1 : Int32}  {m m9 : MM} {r : Int32} (h : mf_chance x1 m = some (r, m9)) : gz_Met mS G l yX6_chance cX6_chance 4 (some .int) (mRm 6 132) [.ref (gz_ad G 2000), .int x1] (mF m) (mF m9) (some (.int r)) :=
  gz_ofI (plainFor_of_name mz_plain) (Nat.le_of_ble_eq_true rfl) fun X _ hX hk => wm_chance hX h hk
/-! qKind()I -/
noncomputable def mj_X6_qKind_90 (x1 : Int32) (m : MM) : Option (Int32 × MM) :=
  some (x1, m)
theorem wb_X6_qKind_90 {X : gz_X} {G : gz_G} (hX : gz_C mS X G cX6_qKind 2 RX6 4 85) {x1 : Int32}  {m : MM} {z : (Int32 × MM)} (h : mj_X6_qKind_90 x1 m = some z) (hk : (fun z : (Int32 × MM) => gz_kI mS X G 2 (0, 0) cX6_qKind (mF z.2) z.1) z) : gz_V mS X G 2 (0, 0) (mF m) 90 [(0, .ref (gz_ad G 2000)), (1, .int x1)] [] := by
  unfold mj_X6_qKind_90 at h
  refine gz_iload_n (pc := 90) hX dX6_qKind_90 rfl 1 rfl ?_
  obtain rfl := Option.some.inj h
  exact hk _ _ dX6_qKind_91
noncomputable def mj_X6_qKind_76 (s0 : Int32) (m : MM) : Option (Int32 × MM) :=
  (if s0 = (5 : Int32) then ((mf_asks 1077 m).bind fun (_, m3) => (mj_X6_qKind_90 s0 m3)) else (mj_X6_qKind_90 s0 m))
theorem wb_X6_qKind_76 {X : gz_X} {G : gz_G} (hX : gz_C mS X G cX6_qKind 2 RX6 4 85) {s0 : Int32}  {m : MM} {z : (Int32 × MM)} (h : mj_X6_qKind_76 s0 m = some z) (hk : (fun z : (Int32 × MM) => gz_kI mS X G 2 (0, 0) cX6_qKind (mF z.2) z.1) z) : gz_V mS X G 2 (0, 0) (mF m) 76 [(0, .ref (gz_ad G 2000))] [.int s0] := by
  unfold mj_X6_qKind_76 at h
  refine gz_istore_n (pc := 76) (lw := [(1, .int s0), (0, .ref (gz_ad G 2000))]) hX dX6_qKind_76 rfl (by decide) rfl ?_
  refine gz_iload_n (pc := 77) hX dX6_qKind_77 rfl 0 rfl ?_
  refine gz_iconst (pc := 78) (v := (5 : Int32)) hX dX6_qKind_78 (by decide) ?_
  refine gz_icmp_ne (pc := 79) (tgt := 90) hX dX6_qKind_79 (by decide) (fun g1 => ?_) (fun g1 => ?_)
  · replace h := gz_if' g1 h
    refine gz_sub (lw := [(0, .ref (gz_ad G 2000)), (1, .int s0)]) [1, 0] rfl ?_
    exact wb_X6_qKind_90 hX h hk
  · replace h := gz_it' g1 h
    refine gz_aload_n (pc := 82) hX dX6_qKind_82 rfl 1 rfl ?_
    refine gz_aload_n (pc := 83) hX dX6_qKind_83 rfl 1 rfl ?_
    refine mg_76 (pc := 84) hX dX6_qKind_84 ?_
    obtain ⟨⟨⟨⟩, m3⟩, c4, h⟩ := gz_bd h
    refine mc_asks (pc := 87) hX rfl c4 ⟨Nat.le_of_ble_eq_true rfl, Nat.le_of_ble_eq_true rfl⟩ (rest := []) rfl (Nat.le_of_ble_eq_true rfl) dX6_qKind_87 ?_
    refine gz_sub (lw := [(0, .ref (gz_ad G 2000)), (1, .int s0)]) [1, 0] rfl ?_
    exact wb_X6_qKind_90 hX h hk
noncomputable def mf_qKind  (m : MM) : Option (Int32 × MM) :=
  ((mf_takes 1072 m).bind fun (r1, m2) => (if r1 = (0 : Int32) then ((mf_takes 1073 m2).bind fun (r5, m6) => (if r5 = (0 : Int32) then ((mf_takes 1074 m6).bind fun (r9, m10) => (if r9 = (0 : Int32) then ((mf_takes 1075 m10).bind fun (r13, m14) => (if r13 = (0 : Int32) then ((mf_takes 1076 m14).bind fun (r17, m18) => (if r17 = (0 : Int32) then (mj_X6_qKind_76 (5 : Int32) m18) else (mj_X6_qKind_76 (4 : Int32) m18))) else (mj_X6_qKind_76 (3 : Int32) m14))) else (mj_X6_qKind_76 (2 : Int32) m10))) else (mj_X6_qKind_76 (1 : Int32) m6))) else (mj_X6_qKind_76 (0 : Int32) m2)))
theorem wm_qKind {X : gz_X} {G : gz_G} (hX : gz_C mS X G cX6_qKind 2 RX6 4 85)   {m : MM} {z : (Int32 × MM)} (h : mf_qKind  m = some z) (hk : (fun z : (Int32 × MM) => gz_kI mS X G 2 (0, 0) cX6_qKind (mF z.2) z.1) z) : gz_V mS X G 2 (0, 0) (mF m) 0 [(0, .ref (gz_ad G 2000))] [] := by
  unfold mf_qKind at h
  refine gz_aload_n (pc := 0) hX dX6_qKind_0 rfl 0 rfl ?_
  refine gz_aload_n (pc := 1) hX dX6_qKind_1 rfl 0 rfl ?_
  refine mg_71 (pc := 2) hX dX6_qKind_2 ?_
  obtain ⟨⟨r1, m2⟩, c3, h⟩ := gz_bd h
  refine mc_takes (pc := 5) hX rfl c3 ⟨Nat.le_of_ble_eq_true rfl, Nat.le_of_ble_eq_true rfl⟩ (rest := []) rfl (Nat.le_of_ble_eq_true rfl) dX6_qKind_5 ?_
  refine gz_if_eq (pc := 8) (tgt := 15) hX dX6_qKind_8 (by decide) (fun g4 => ?_) (fun g4 => ?_)
  · replace h := gz_it' g4 h
    refine gz_aload_n (pc := 15) hX dX6_qKind_15 rfl 0 rfl ?_
    refine gz_aload_n (pc := 16) hX dX6_qKind_16 rfl 0 rfl ?_
    refine mg_72 (pc := 17) hX dX6_qKind_17 ?_
    obtain ⟨⟨r5, m6⟩, c7, h⟩ := gz_bd h
    refine mc_takes (pc := 20) hX rfl c7 ⟨Nat.le_of_ble_eq_true rfl, Nat.le_of_ble_eq_true rfl⟩ (rest := []) rfl (Nat.le_of_ble_eq_true rfl) dX6_qKind_20 ?_
    refine gz_if_eq (pc := 23) (tgt := 30) hX dX6_qKind_23 (by decide) (fun g8 => ?_) (fun g8 => ?_)
    · replace h := gz_it' g8 h
      refine gz_aload_n (pc := 30) hX dX6_qKind_30 rfl 0 rfl ?_
      refine gz_aload_n (pc := 31) hX dX6_qKind_31 rfl 0 rfl ?_
      refine mg_73 (pc := 32) hX dX6_qKind_32 ?_
      obtain ⟨⟨r9, m10⟩, c11, h⟩ := gz_bd h
      refine mc_takes (pc := 35) hX rfl c11 ⟨Nat.le_of_ble_eq_true rfl, Nat.le_of_ble_eq_true rfl⟩ (rest := []) rfl (Nat.le_of_ble_eq_true rfl) dX6_qKind_35 ?_
      refine gz_if_eq (pc := 38) (tgt := 45) hX dX6_qKind_38 (by decide) (fun g12 => ?_) (fun g12 => ?_)
      · replace h := gz_it' g12 h
        refine gz_aload_n (pc := 45) hX dX6_qKind_45 rfl 0 rfl ?_
        refine gz_aload_n (pc := 46) hX dX6_qKind_46 rfl 0 rfl ?_
        refine mg_74 (pc := 47) hX dX6_qKind_47 ?_
        obtain ⟨⟨r13, m14⟩, c15, h⟩ := gz_bd h
        refine mc_takes (pc := 50) hX rfl c15 ⟨Nat.le_of_ble_eq_true rfl, Nat.le_of_ble_eq_true rfl⟩ (rest := []) rfl (Nat.le_of_ble_eq_true rfl) dX6_qKind_50 ?_
        refine gz_if_eq (pc := 53) (tgt := 60) hX dX6_qKind_53 (by decide) (fun g16 => ?_) (fun g16 => ?_)
        · replace h := gz_it' g16 h
          refine gz_aload_n (pc := 60) hX dX6_qKind_60 rfl 0 rfl ?_
          refine gz_aload_n (pc := 61) hX dX6_qKind_61 rfl 0 rfl ?_
          refine mg_75 (pc := 62) hX dX6_qKind_62 ?_
          obtain ⟨⟨r17, m18⟩, c19, h⟩ := gz_bd h
          refine mc_takes (pc := 65) hX rfl c19 ⟨Nat.le_of_ble_eq_true rfl, Nat.le_of_ble_eq_true rfl⟩ (rest := []) rfl (Nat.le_of_ble_eq_true rfl) dX6_qKind_65 ?_
          refine gz_if_eq (pc := 68) (tgt := 75) hX dX6_qKind_68 (by decide) (fun g20 => ?_) (fun g20 => ?_)
          · replace h := gz_it' g20 h
            refine gz_iconst (pc := 75) (v := (5 : Int32)) hX dX6_qKind_75 (by decide) ?_
            exact wb_X6_qKind_76 hX h hk
          · replace h := gz_if' g20 h
            refine gz_iconst (pc := 71) (v := (4 : Int32)) hX dX6_qKind_71 (by decide) ?_
            refine gz_goto (pc := 72) (tgt := 76) hX dX6_qKind_72 (by decide) ?_
            exact wb_X6_qKind_76 hX h hk
        · replace h := gz_if' g16 h
          refine gz_iconst (pc := 56) (v := (3 : Int32)) hX dX6_qKind_56 (by decide) ?_
          refine gz_goto (pc := 57) (tgt := 76) hX dX6_qKind_57 (by decide) ?_
          exact wb_X6_qKind_76 hX h hk
      · replace h := gz_if' g12 h
        refine gz_iconst (pc := 41) (v := (2 : Int32)) hX dX6_qKind_41 (by decide) ?_
        refine gz_goto (pc := 42) (tgt := 76) hX dX6_qKind_42 (by decide) ?_
        exact wb_X6_qKind_76 hX h hk
    · replace h := gz_if' g8 h
      refine gz_iconst (pc := 26) (v := (1 : Int32)) hX dX6_qKind_26 (by decide) ?_
      refine gz_goto (pc := 27) (tgt := 76) hX dX6_qKind_27 (by decide) ?_
      exact wb_X6_qKind_76 hX h hk
  · replace h := gz_if' g4 h
    refine gz_iconst (pc := 11) (v := (0 : Int32)) hX dX6_qKind_11 (by decide) ?_
    refine gz_goto (pc := 12) (tgt := 76) hX dX6_qKind_12 (by decide) ?_
    exact wb_X6_qKind_76 hX h hk
theorem mt_qKind {G : gz_G} {l : Launch}   {m m9 : MM} {r : Int32} (h : mf_qKind  m = some (r, m9)) : gz_Met mS G l yX6_qKind cX6_qKind 2 (some .int) (mRm 4 85) [.ref (gz_ad G 2000)] (mF m) (mF m9) (some (.int r)) :=
  gz_ofI (plainFor_of_name mz_plain) (Nat.le_of_ble_eq_true rfl) fun X _ hX hk => wm_qKind hX h hk
theorem mc_qKind {X : gz_X} {G : gz_G} {cc : ByteArray} {nL fr lo pc : Nat} {lv : List (Nat × Value)} {rest st0 : List Value} (hX : gz_C mS X G cc nL RX6 fr lo)   {m m9 : MM} {r : Int32} (h : mf_qKind  m = some (r, m9)) (hroom : 4 + 1 ≤ fr ∧ 8 + (2 + 11) + 85 ≤ lo) (hst : st0 = [.ref (gz_ad G 2000)] ++ rest) (hW : (rest.map fun v => v.category).sum ≤ 8) (hd : decode cc pc = .ok (.invokevirtual 673, 3)) (kk : gz_V mS X G nL (0, 0) (mF m9) (pc + 3) lv (.int r :: rest)) : gz_V mS X G nL (0, 0) (mF m) pc lv st0 :=
  gz_callV hX mz_E (As := []) (rest := rest) (q := (RX6, TX6, 104)) (ci := 0) (c := 2000) (mt_qKind (l := X.2.1) h) (lw_V q2612 q2614 qs160 q182 q2615) (n := 0) (by decide +kernel) hroom rfl rfl (by decide) rfl hst hW hd (rem := (0, 0)) kk
/-! qOf(IJI)J -/
noncomputable def mf_qOf (x1 : Int32) (x2 : Int64) (x4 : Int32) (m : MM) : Option (Int64 × MM) :=
  (if x1 = (0 : Int32) then ((mf_isThing x2 m).bind fun (r2, m3) => (if r2 = (0 : Int32) then some ((0 : Int64), m3) else (if gz_in x4 (8) then some (((((m3.1 1055 (gz_ix x4)) >>> ((x2.toInt32) &&& 31)).toInt64) &&& (1 : Int64)), m3) else none))) else ((mf_isHall x2 m).bind fun (r7, m8) => (if r7 = (0 : Int32) then some ((-1 : Int64), m8) else ((mf_hallOf x4 m8).bind fun (r11, m12) => (if gz_in (((8 : Int32) * r11) + (x2.toInt32)) (64) then some (((m12.1 1050 (gz_ix (((8 : Int32) * r11) + (x2.toInt32)))).toInt64), m12) else none)))))
theorem wm_qOf {X : gz_X} {G : gz_G} (hX : gz_C mS X G cX6_qOf 5 RX6 2 47) {x1 : Int32} {x2 : Int64} {x4 : Int32}  {m : MM} {z : (Int64 × MM)} (h : mf_qOf x1 x2 x4 m = some z) (hk : (fun z : (Int64 × MM) => gz_kL mS X G 5 (0, 0) cX6_qOf (mF z.2) z.1) z) : gz_V mS X G 5 (0, 0) (mF m) 0 [(0, .ref (gz_ad G 2000)), (1, .int x1), (2, .long x2), (4, .int x4)] [] := by
  unfold mf_qOf at h
  refine gz_iload_n (pc := 0) hX dX6_qOf_0 rfl 1 rfl ?_
  by_cases g1 : x1 = (0 : Int32)
  · replace h := gz_it' g1 h
    refine gz_lsw (pc := 1) (tgt := 20) (off := 19) hX dX6_qOf_1 (by decide) (by rw [g1]; decide) (by decide) ?_
    refine gz_aload_n (pc := 20) hX dX6_qOf_20 rfl 0 rfl ?_
    refine gz_lload_n (pc := 21) hX dX6_qOf_21 rfl 2 rfl ?_
    obtain ⟨⟨r2, m3⟩, c4, h⟩ := gz_bd h
    refine mc_isThing (pc := 22) hX c4 ⟨Nat.le_of_ble_eq_true rfl, Nat.le_of_ble_eq_true rfl⟩ (rest := []) rfl (Nat.le_of_ble_eq_true rfl) dX6_qOf_22 ?_
    refine gz_if_eq (pc := 25) (tgt := 44) hX dX6_qOf_25 (by decide) (fun g5 => ?_) (fun g5 => ?_)
    · replace h := gz_it' g5 h
      refine gz_lconst (pc := 44) (v := (0 : Int64)) hX dX6_qOf_44 (by decide) ?_
      obtain rfl := Option.some.inj h
      exact hk _ _ dX6_qOf_45
    · replace h := gz_if' g5 h
      refine gz_aload_n (pc := 28) hX dX6_qOf_28 rfl 0 rfl ?_
      refine mg_54 (pc := 29) hX dX6_qOf_29 ?_
      refine gz_iload (pc := 32) hX dX6_qOf_32 3 rfl ?_
      obtain ⟨g6, h⟩ := gz_gu h
      refine mz_iald (pc := 34) (c := 1055) (n := 8) hX rfl rfl g6 dX6_qOf_34 ?_
      refine gz_lload_n (pc := 35) hX dX6_qOf_35 rfl 2 rfl ?_
      refine gz_l2i (pc := 36) hX dX6_qOf_36 ?_
      refine gz_ishr (pc := 37) hX dX6_qOf_37 ?_
      refine gz_i2l (pc := 38) hX dX6_qOf_38 ?_
      refine gz_lconst (pc := 39) (v := (1 : Int64)) hX dX6_qOf_39 (by decide) ?_
      refine gz_land (pc := 40) hX dX6_qOf_40 ?_
      refine gz_goto (pc := 41) (tgt := 45) hX dX6_qOf_41 (by decide) ?_
      obtain rfl := Option.some.inj h
      exact hk _ _ dX6_qOf_45
  · replace h := gz_if' g1 h
    refine gz_lsw (pc := 1) (tgt := 46) (off := 45) hX dX6_qOf_1 (by decide) ((lv_osw g1 (by decide)).trans rfl) (by decide) ?_
    refine gz_aload_n (pc := 46) hX dX6_qOf_46 rfl 0 rfl ?_
    refine gz_lload_n (pc := 47) hX dX6_qOf_47 rfl 2 rfl ?_
    obtain ⟨⟨r7, m8⟩, c9, h⟩ := gz_bd h
    refine mc_isHall (pc := 48) hX c9 ⟨Nat.le_of_ble_eq_true rfl, Nat.le_of_ble_eq_true rfl⟩ (rest := []) rfl (Nat.le_of_ble_eq_true rfl) dX6_qOf_48 ?_
    refine gz_if_eq (pc := 51) (tgt := 75) hX dX6_qOf_51 (by decide) (fun g10 => ?_) (fun g10 => ?_)
    · replace h := gz_it' g10 h
      refine gz_ldc2 (pc := 75) (v := (-1 : Int64)) hX q2467 dX6_qOf_75 ?_
      obtain rfl := Option.some.inj h
      exact hk _ _ dX6_qOf_78
    · replace h := gz_if' g10 h
      refine gz_aload_n (pc := 54) hX dX6_qOf_54 rfl 0 rfl ?_
      refine mg_49 (pc := 55) hX dX6_qOf_55 ?_
      refine gz_bipush (pc := 58) (v := (8 : Int32)) hX dX6_qOf_58 (by decide) ?_
      refine gz_aload_n (pc := 60) hX dX6_qOf_60 rfl 0 rfl ?_
      refine gz_iload (pc := 61) hX dX6_qOf_61 3 rfl ?_
      obtain ⟨⟨r11, m12⟩, c13, h⟩ := gz_bd h
      refine mc_hallOf (pc := 63) hX c13 ⟨Nat.le_of_ble_eq_true rfl, Nat.le_of_ble_eq_true rfl⟩ (rest := [.int (8 : Int32), .ref (gz_ad G 1050)]) rfl (Nat.le_of_ble_eq_true rfl) dX6_qOf_63 ?_
      refine gz_imul (pc := 66) hX dX6_qOf_66 ?_
      refine gz_lload_n (pc := 67) hX dX6_qOf_67 rfl 2 rfl ?_
      refine gz_l2i (pc := 68) hX dX6_qOf_68 ?_
      refine gz_iadd (pc := 69) hX dX6_qOf_69 ?_
      obtain ⟨g14, h⟩ := gz_gu h
      refine mz_iald (pc := 70) (c := 1050) (n := 64) hX rfl rfl g14 dX6_qOf_70 ?_
      refine gz_i2l (pc := 71) hX dX6_qOf_71 ?_
      refine gz_goto (pc := 72) (tgt := 78) hX dX6_qOf_72 (by decide) ?_
      obtain rfl := Option.some.inj h
      exact hk _ _ dX6_qOf_78
theorem mt_qOf {G : gz_G} {l : Launch} {x1 : Int32} {x2 : Int64} {x4 : Int32}  {m m9 : MM} {r : Int64} (h : mf_qOf x1 x2 x4 m = some (r, m9)) : gz_Met mS G l yX6_qOf cX6_qOf 5 (some .long) (mRm 2 47) [.ref (gz_ad G 2000), .int x1, .long x2, .int x4] (mF m) (mF m9) (some (.long r)) :=
  gz_ofL (plainFor_of_name mz_plain) (Nat.le_of_ble_eq_true rfl) fun X _ hX hk => wm_qOf hX h hk
theorem mc_qOf {X : gz_X} {G : gz_G} {cc : ByteArray} {nL fr lo pc : Nat} {lv : List (Nat × Value)} {rest st0 : List Value} (hX : gz_C mS X G cc nL RX6 fr lo) {x1 : Int32} {x2 : Int64} {x4 : Int32}  {m m9 : MM} {r : Int64} (h : mf_qOf x1 x2 x4 m = some (r, m9)) (hroom : 2 + 1 ≤ fr ∧ 8 + (5 + 11) + 47 ≤ lo) (hst : st0 = [.int x4, .long x2, .int x1, .ref (gz_ad G 2000)] ++ rest) (hW : (rest.map fun v => v.category).sum ≤ 8) (hd : decode cc pc = .ok (.invokevirtual 663, 3)) (kk : gz_V mS X G nL (0, 0) (mF m9) (pc + 3) lv (.long r :: rest)) : gz_V mS X G nL (0, 0) (mF m) pc lv st0 :=
  gz_callV hX mz_E (As := [.int x1, .long x2, .int x4]) (rest := rest) (q := (RX6, TX6, 104)) (ci := 0) (c := 2000) (mt_qOf (l := X.2.1) h) (lw_V q2621 q2623 qs162 q182 q2624) (n := 3) (by decide +kernel) hroom rfl rfl (by decide) rfl hst hW hd (rem := (0, 0)) kk
/-! qTold(I)J -/
def mP_X6_qTold_7 (X : gz_X) (G : gz_G) (q : (Int32 × Int32 × MM)) : Prop := gz_V mS X G 4 (0, 0) (mF q.2.2) 7 [(0, .ref (gz_ad G 2000)), (1, .int q.1), (2, .int q.2.1)] []
noncomputable def mj_X6_qTold_162 (x1 : Int32) (x2 : Int32) (m : MM) : Option ((Int32 × Int32 × MM) ⊕ (Int64 × MM)) :=
  gz_let (x2 + (1 : Int32)) fun y1 => some (Sum.inl (x1, y1, m))
theorem wb_X6_qTold_162 {X : gz_X} {G : gz_G} (hX : gz_C mS X G cX6_qTold 4 RX6 4 87) {x1 : Int32} {x2 : Int32}  {m : MM} {z : ((Int32 × Int32 × MM) ⊕ (Int64 × MM))} (h : mj_X6_qTold_162 x1 x2 m = some z) (hk : (Sum.elim (mP_X6_qTold_7 X G) (fun z : (Int64 × MM) => gz_kL mS X G 4 (0, 0) cX6_qTold (mF z.2) z.1)) z) : gz_V mS X G 4 (0, 0) (mF m) 162 [(0, .ref (gz_ad G 2000)), (1, .int x1), (2, .int x2)] [] := by
  unfold mj_X6_qTold_162 at h
  obtain ⟨y1, ey1, h⟩ := gz_lt h
  refine gz_iinc (pc := 162) (v := y1) (lw := [(2, .int y1), (0, .ref (gz_ad G 2000)), (1, .int x1)]) hX dX6_qTold_162 (k := 2) rfl (by rw [ey1]; rfl) (by decide) rfl ?_
  refine gz_goto (pc := 165) (tgt := 7) hX dX6_qTold_165 (by decide) ?_
  refine gz_sub (lw := [(0, .ref (gz_ad G 2000)), (1, .int x1), (2, .int y1)]) [1, 2, 0] rfl ?_
  obtain rfl := Option.some.inj h
  exact hk
noncomputable def mb_X6_qTold_7 (x1 : Int32) (x2 : Int32) (m : MM) : Option ((Int32 × Int32 × MM) ⊕ (Int64 × MM)) :=
  (if (m.1 2000 93) ≤ x2 then (if gz_in (0 : Int32) (1700) then some (Sum.inr ((m.2 1099 (gz_ix (0 : Int32))), m)) else none) else (if gz_in x2 (1700) then gz_let ((m.1 1093 (gz_ix x2))) fun y4 => (if y4 < (1000 : Int32) then (if y4 < (60 : Int32) then (if y4 < (40 : Int32) then (if y4 = (13 : Int32) then ((mf_qPuts (1 : Int64) m).bind fun (_, m17) => (mj_X6_qTold_162 x1 x2 m17)) else (if y4 = (12 : Int32) then (if gz_in ((m.1 2000 99) - (1 : Int32)) (1700) then (if gz_in ((m.1 2000 99) - (1 : Int32)) (1700) then gz_let (msL m 1099 (gz_ix ((m.1 2000 99) - (1 : Int32))) ((1 : Int64) - (m.2 1099 (gz_ix ((m.1 2000 99) - (1 : Int32)))))) fun m15 => (mj_X6_qTold_162 x1 x2 m15) else none) else none) else ((mf_qJoins y4 m).bind fun (_, m11) => (mj_X6_qTold_162 x1 x2 m11)))) else ((mf_qPartOf (y4 - (40 : Int32)) x1 m).bind fun (r19, m20) => ((mf_qClip r19 m20).bind fun (r22, m23) => ((mf_qPuts r22 m23).bind fun (_, m26) => (mj_X6_qTold_162 x1 x2 m26))))) else (if gz_in ((m.1 2000 99) - (1 : Int32)) (1700) then ((mf_qOf (y4 - (60 : Int32)) (m.2 1099 (gz_ix ((m.1 2000 99) - (1 : Int32)))) x1 m).bind fun (r29, m30) => ((mf_qClip r29 m30).bind fun (r32, m33) => (if gz_in ((m.1 2000 99) - (1 : Int32)) (1700) then gz_let (msL m33 1099 (gz_ix ((m.1 2000 99) - (1 : Int32))) r32) fun m36 => (mj_X6_qTold_162 x1 x2 m36) else none))) else none)) else ((mf_qPuts ((y4 - (1000 : Int32)).toInt64) m).bind fun (_, m38) => (mj_X6_qTold_162 x1 x2 m38))) else none))
theorem wb_X6_qTold_7 {X : gz_X} {G : gz_G} (hX : gz_C mS X G cX6_qTold 4 RX6 4 87) {x1 : Int32} {x2 : Int32}  {m : MM} {z : ((Int32 × Int32 × MM) ⊕ (Int64 × MM))} (h : mb_X6_qTold_7 x1 x2 m = some z) (hk : (Sum.elim (mP_X6_qTold_7 X G) (fun z : (Int64 × MM) => gz_kL mS X G 4 (0, 0) cX6_qTold (mF z.2) z.1)) z) : gz_V mS X G 4 (0, 0) (mF m) 7 [(0, .ref (gz_ad G 2000)), (1, .int x1), (2, .int x2)] [] := by
  unfold mb_X6_qTold_7 at h
  refine gz_iload_n (pc := 7) hX dX6_qTold_7 rfl 2 rfl ?_
  refine gz_aload_n (pc := 8) hX dX6_qTold_8 rfl 0 rfl ?_
  refine mg_93 (pc := 9) hX dX6_qTold_9 ?_
  refine gz_icmp_ge (pc := 12) (tgt := 168) hX dX6_qTold_12 (by decide) (fun g1 => ?_) (fun g1 => ?_)
  · replace h := gz_it' g1 h
    refine gz_aload_n (pc := 168) hX dX6_qTold_168 rfl 0 rfl ?_
    refine mg_98 (pc := 169) hX dX6_qTold_169 ?_
    refine gz_iconst (pc := 172) (v := (0 : Int32)) hX dX6_qTold_172 (by decide) ?_
    obtain ⟨g2, h⟩ := gz_gu h
    refine mz_lald (pc := 173) (c := 1099) (n := 1700) hX rfl rfl g2 dX6_qTold_173 ?_
    obtain rfl := Option.some.inj h
    exact hk _ _ dX6_qTold_174
  · replace h := gz_if' g1 h
    refine gz_aload_n (pc := 15) hX dX6_qTold_15 rfl 0 rfl ?_
    refine mg_92 (pc := 16) hX dX6_qTold_16 ?_
    refine gz_iload_n (pc := 19) hX dX6_qTold_19 rfl 2 rfl ?_
    obtain ⟨g3, h⟩ := gz_gu h
    refine mz_iald (pc := 20) (c := 1093) (n := 1700) hX rfl rfl g3 dX6_qTold_20 ?_
    obtain ⟨y4, ey4, h⟩ := gz_lt h
    refine gz_topi ey4 ?_
    refine gz_istore_n (pc := 21) (lw := [(3, .int y4), (0, .ref (gz_ad G 2000)), (1, .int x1), (2, .int x2)]) hX dX6_qTold_21 rfl (by decide) rfl ?_
    refine gz_iload_n (pc := 22) hX dX6_qTold_22 rfl 0 rfl ?_
    refine gz_sipush (pc := 23) (v := (1000 : Int32)) hX dX6_qTold_23 (by decide) ?_
    refine gz_icmp_lt (pc := 26) (tgt := 42) hX dX6_qTold_26 (by decide) (fun g5 => ?_) (fun g5 => ?_)
    · replace h := gz_it' g5 h
      refine gz_iload_n (pc := 42) hX dX6_qTold_42 rfl 0 rfl ?_
      refine gz_bipush (pc := 43) (v := (60 : Int32)) hX dX6_qTold_43 (by decide) ?_
      refine gz_icmp_lt (pc := 45) (tgt := 85) hX dX6_qTold_45 (by decide) (fun g6 => ?_) (fun g6 => ?_)
      · replace h := gz_it' g6 h
        refine gz_iload_n (pc := 85) hX dX6_qTold_85 rfl 0 rfl ?_
        refine gz_bipush (pc := 86) (v := (40 : Int32)) hX dX6_qTold_86 (by decide) ?_
        refine gz_icmp_lt (pc := 88) (tgt := 110) hX dX6_qTold_88 (by decide) (fun g7 => ?_) (fun g7 => ?_)
        · replace h := gz_it' g7 h
          refine gz_iload_n (pc := 110) hX dX6_qTold_110 rfl 0 rfl ?_
          refine gz_bipush (pc := 111) (v := (13 : Int32)) hX dX6_qTold_111 (by decide) ?_
          refine gz_icmp_ne (pc := 113) (tgt := 124) hX dX6_qTold_113 (by decide) (fun g8 => ?_) (fun g8 => ?_)
          · replace h := gz_if' g8 h
            refine gz_iload_n (pc := 124) hX dX6_qTold_124 rfl 0 rfl ?_
            refine gz_bipush (pc := 125) (v := (12 : Int32)) hX dX6_qTold_125 (by decide) ?_
            refine gz_icmp_ne (pc := 127) (tgt := 157) hX dX6_qTold_127 (by decide) (fun g9 => ?_) (fun g9 => ?_)
            · replace h := gz_if' g9 h
              refine gz_aload_n (pc := 157) hX dX6_qTold_157 rfl 1 rfl ?_
              refine gz_iload_n (pc := 158) hX dX6_qTold_158 rfl 0 rfl ?_
              obtain ⟨⟨⟨⟩, m11⟩, c12, h⟩ := gz_bd h
              refine mc_qJoins (pc := 159) hX c12 ⟨Nat.le_of_ble_eq_true rfl, Nat.le_of_ble_eq_true rfl⟩ (rest := []) rfl (Nat.le_of_ble_eq_true rfl) dX6_qTold_159 ?_
              refine gz_sub (lw := [(0, .ref (gz_ad G 2000)), (1, .int x1), (2, .int x2)]) [1, 2, 3] rfl ?_
              exact wb_X6_qTold_162 hX h hk
            · replace h := gz_it' g9 h
              refine gz_aload_n (pc := 130) hX dX6_qTold_130 rfl 1 rfl ?_
              refine mg_98 (pc := 131) hX dX6_qTold_131 ?_
              refine gz_aload_n (pc := 134) hX dX6_qTold_134 rfl 1 rfl ?_
              refine mg_99 (pc := 135) hX dX6_qTold_135 ?_
              refine gz_iconst (pc := 138) (v := (1 : Int32)) hX dX6_qTold_138 (by decide) ?_
              refine gz_isub (pc := 139) hX dX6_qTold_139 ?_
              refine gz_lconst (pc := 140) (v := (1 : Int64)) hX dX6_qTold_140 (by decide) ?_
              refine gz_aload_n (pc := 141) hX dX6_qTold_141 rfl 1 rfl ?_
              refine mg_98 (pc := 142) hX dX6_qTold_142 ?_
              refine gz_aload_n (pc := 145) hX dX6_qTold_145 rfl 1 rfl ?_
              refine mg_99 (pc := 146) hX dX6_qTold_146 ?_
              refine gz_iconst (pc := 149) (v := (1 : Int32)) hX dX6_qTold_149 (by decide) ?_
              refine gz_isub (pc := 150) hX dX6_qTold_150 ?_
              obtain ⟨g13, h⟩ := gz_gu h
              refine mz_lald (pc := 151) (c := 1099) (n := 1700) hX rfl rfl g13 dX6_qTold_151 ?_
              refine gz_lsub (pc := 152) hX dX6_qTold_152 ?_
              obtain ⟨g14, h⟩ := gz_gu h
              obtain ⟨m15, em15, h⟩ := gz_lt h
              refine mz_last (pc := 153) (c := 1099) (n := 1700) hX rfl rfl g14 (Nat.le_of_ble_eq_true rfl) dX6_qTold_153 em15 ?_
              refine gz_goto (pc := 154) (tgt := 162) hX dX6_qTold_154 (by decide) ?_
              refine gz_sub (lw := [(0, .ref (gz_ad G 2000)), (1, .int x1), (2, .int x2)]) [1, 2, 3] rfl ?_
              exact wb_X6_qTold_162 hX h hk
          · replace h := gz_it' g8 h
            refine gz_aload_n (pc := 116) hX dX6_qTold_116 rfl 1 rfl ?_
            refine gz_lconst (pc := 117) (v := (1 : Int64)) hX dX6_qTold_117 (by decide) ?_
            obtain ⟨⟨⟨⟩, m17⟩, c18, h⟩ := gz_bd h
            refine mc_qPuts (pc := 118) hX c18 ⟨Nat.le_of_ble_eq_true rfl, Nat.le_of_ble_eq_true rfl⟩ (rest := []) rfl (Nat.le_of_ble_eq_true rfl) dX6_qTold_118 ?_
            refine gz_goto (pc := 121) (tgt := 162) hX dX6_qTold_121 (by decide) ?_
            refine gz_sub (lw := [(0, .ref (gz_ad G 2000)), (1, .int x1), (2, .int x2)]) [1, 2, 3] rfl ?_
            exact wb_X6_qTold_162 hX h hk
        · replace h := gz_if' g7 h
          refine gz_aload_n (pc := 91) hX dX6_qTold_91 rfl 1 rfl ?_
          refine gz_aload_n (pc := 92) hX dX6_qTold_92 rfl 1 rfl ?_
          refine gz_iload_n (pc := 93) hX dX6_qTold_93 rfl 0 rfl ?_
          refine gz_bipush (pc := 94) (v := (40 : Int32)) hX dX6_qTold_94 (by decide) ?_
          refine gz_isub (pc := 96) hX dX6_qTold_96 ?_
          refine gz_iload_n (pc := 97) hX dX6_qTold_97 rfl 2 rfl ?_
          obtain ⟨⟨r19, m20⟩, c21, h⟩ := gz_bd h
          refine mc_qPartOf (pc := 98) hX c21 ⟨Nat.le_of_ble_eq_true rfl, Nat.le_of_ble_eq_true rfl⟩ (rest := [.ref (gz_ad G 2000)]) rfl (Nat.le_of_ble_eq_true rfl) dX6_qTold_98 ?_
          obtain ⟨⟨r22, m23⟩, c24, h⟩ := gz_bd h
          refine mc_qClip (pc := 101) hX c24 ⟨Nat.le_of_ble_eq_true rfl, Nat.le_of_ble_eq_true rfl⟩ (rest := [.ref (gz_ad G 2000)]) rfl (Nat.le_of_ble_eq_true rfl) dX6_qTold_101 ?_
          obtain ⟨⟨⟨⟩, m26⟩, c27, h⟩ := gz_bd h
          refine mc_qPuts (pc := 104) hX c27 ⟨Nat.le_of_ble_eq_true rfl, Nat.le_of_ble_eq_true rfl⟩ (rest := []) rfl (Nat.le_of_ble_eq_true rfl) dX6_qTold_104 ?_
          refine gz_goto (pc := 107) (tgt := 162) hX dX6_qTold_107 (by decide) ?_
          refine gz_sub (lw := [(0, .ref (gz_ad G 2000)), (1, .int x1), (2, .int x2)]) [1, 2, 3] rfl ?_
          exact wb_X6_qTold_162 hX h hk
      · replace h := gz_if' g6 h
        refine gz_aload_n (pc := 48) hX dX6_qTold_48 rfl 1 rfl ?_
        refine mg_98 (pc := 49) hX dX6_qTold_49 ?_
        refine gz_aload_n (pc := 52) hX dX6_qTold_52 rfl 1 rfl ?_
        refine mg_99 (pc := 53) hX dX6_qTold_53 ?_
        refine gz_iconst (pc := 56) (v := (1 : Int32)) hX dX6_qTold_56 (by decide) ?_
        refine gz_isub (pc := 57) hX dX6_qTold_57 ?_
        refine gz_aload_n (pc := 58) hX dX6_qTold_58 rfl 1 rfl ?_
        refine gz_iload_n (pc := 59) hX dX6_qTold_59 rfl 0 rfl ?_
        refine gz_bipush (pc := 60) (v := (60 : Int32)) hX dX6_qTold_60 (by decide) ?_
        refine gz_isub (pc := 62) hX dX6_qTold_62 ?_
        refine gz_aload_n (pc := 63) hX dX6_qTold_63 rfl 1 rfl ?_
        refine mg_98 (pc := 64) hX dX6_qTold_64 ?_
        refine gz_aload_n (pc := 67) hX dX6_qTold_67 rfl 1 rfl ?_
        refine mg_99 (pc := 68) hX dX6_qTold_68 ?_
        refine gz_iconst (pc := 71) (v := (1 : Int32)) hX dX6_qTold_71 (by decide) ?_
        refine gz_isub (pc := 72) hX dX6_qTold_72 ?_
        obtain ⟨g28, h⟩ := gz_gu h
        refine mz_lald (pc := 73) (c := 1099) (n := 1700) hX rfl rfl g28 dX6_qTold_73 ?_
        refine gz_iload_n (pc := 74) hX dX6_qTold_74 rfl 2 rfl ?_
        obtain ⟨⟨r29, m30⟩, c31, h⟩ := gz_bd h
        refine mc_qOf (pc := 75) hX c31 ⟨Nat.le_of_ble_eq_true rfl, Nat.le_of_ble_eq_true rfl⟩ (rest := [.int ((m.1 2000 99) - (1 : Int32)), .ref (gz_ad G 1099)]) rfl (Nat.le_of_ble_eq_true rfl) dX6_qTold_75 ?_
        obtain ⟨⟨r32, m33⟩, c34, h⟩ := gz_bd h
        refine mc_qClip (pc := 78) hX c34 ⟨Nat.le_of_ble_eq_true rfl, Nat.le_of_ble_eq_true rfl⟩ (rest := [.int ((m.1 2000 99) - (1 : Int32)), .ref (gz_ad G 1099)]) rfl (Nat.le_of_ble_eq_true rfl) dX6_qTold_78 ?_
        obtain ⟨g35, h⟩ := gz_gu h
        obtain ⟨m36, em36, h⟩ := gz_lt h
        refine mz_last (pc := 81) (c := 1099) (n := 1700) hX rfl rfl g35 (Nat.le_of_ble_eq_true rfl) dX6_qTold_81 em36 ?_
        refine gz_goto (pc := 82) (tgt := 162) hX dX6_qTold_82 (by decide) ?_
        refine gz_sub (lw := [(0, .ref (gz_ad G 2000)), (1, .int x1), (2, .int x2)]) [1, 2, 3] rfl ?_
        exact wb_X6_qTold_162 hX h hk
    · replace h := gz_if' g5 h
      refine gz_aload_n (pc := 29) hX dX6_qTold_29 rfl 1 rfl ?_
      refine gz_iload_n (pc := 30) hX dX6_qTold_30 rfl 0 rfl ?_
      refine gz_sipush (pc := 31) (v := (1000 : Int32)) hX dX6_qTold_31 (by decide) ?_
      refine gz_isub (pc := 34) hX dX6_qTold_34 ?_
      refine gz_i2l (pc := 35) hX dX6_qTold_35 ?_
      obtain ⟨⟨⟨⟩, m38⟩, c39, h⟩ := gz_bd h
      refine mc_qPuts (pc := 36) hX c39 ⟨Nat.le_of_ble_eq_true rfl, Nat.le_of_ble_eq_true rfl⟩ (rest := []) rfl (Nat.le_of_ble_eq_true rfl) dX6_qTold_36 ?_
      refine gz_goto (pc := 39) (tgt := 162) hX dX6_qTold_39 (by decide) ?_
      refine gz_sub (lw := [(0, .ref (gz_ad G 2000)), (1, .int x1), (2, .int x2)]) [1, 2, 3] rfl ?_
      exact wb_X6_qTold_162 hX h hk
noncomputable def ml_X6_qTold_7 (x1 : Int32) (x2 : Int32) (m : MM) : Option (Int64 × MM) := gz_loop (fun q : (Int32 × Int32 × MM) => mb_X6_qTold_7 q.1 q.2.1 q.2.2) (x1, x2, m)
theorem wl_X6_qTold_7 {X : gz_X} {G : gz_G} (hX : gz_C mS X G cX6_qTold 4 RX6 4 87) {x1 : Int32} {x2 : Int32}  {m : MM} {z : (Int64 × MM)} (h : ml_X6_qTold_7 x1 x2 m = some z) (hk : (fun z : (Int64 × MM) => gz_kL mS X G 4 (0, 0) cX6_qTold (mF z.2) z.1) z) : gz_V mS X G 4 (0, 0) (mF m) 7 [(0, .ref (gz_ad G 2000)), (1, .int x1), (2, .int x2)] [] := by
  have hp : mP_X6_qTold_7 X G (x1, x2, m) := gz_loop_ind (fun q z hz hkz => wb_X6_qTold_7 hX  hz hkz) h hk
  exact hp
noncomputable def mf_qTold (x1 : Int32) (m : MM) : Option (Int64 × MM) :=
  gz_let (msI m 2000 99 (0 : Int32)) fun m1 => (ml_X6_qTold_7 x1 (0 : Int32) m1)
theorem wm_qTold {X : gz_X} {G : gz_G} (hX : gz_C mS X G cX6_qTold 4 RX6 4 87) {x1 : Int32}  {m : MM} {z : (Int64 × MM)} (h : mf_qTold x1 m = some z) (hk : (fun z : (Int64 × MM) => gz_kL mS X G 4 (0, 0) cX6_qTold (mF z.2) z.1) z) : gz_V mS X G 4 (0, 0) (mF m) 0 [(0, .ref (gz_ad G 2000)), (1, .int x1)] [] := by
  unfold mf_qTold at h
  refine gz_aload_n (pc := 0) hX dX6_qTold_0 rfl 0 rfl ?_
  refine gz_iconst (pc := 1) (v := (0 : Int32)) hX dX6_qTold_1 (by decide) ?_
  obtain ⟨m1, em1, h⟩ := gz_lt h
  refine mp_99 (pc := 2) hX dX6_qTold_2 em1 ?_
  refine gz_iconst (pc := 5) (v := (0 : Int32)) hX dX6_qTold_5 (by decide) ?_
  refine gz_istore_n (pc := 6) (lw := [(2, .int (0 : Int32)), (0, .ref (gz_ad G 2000)), (1, .int x1)]) hX dX6_qTold_6 rfl (by decide) rfl ?_
  refine gz_sub (lw := [(0, .ref (gz_ad G 2000)), (1, .int x1), (2, .int (0 : Int32))]) [1, 2, 0] rfl ?_
  exact wl_X6_qTold_7 hX h hk
theorem mt_qTold {G : gz_G} {l : Launch} {x1 : Int32}  {m m9 : MM} {r : Int64} (h : mf_qTold x1 m = some (r, m9)) : gz_Met mS G l yX6_qTold cX6_qTold 4 (some .long) (mRm 4 87) [.ref (gz_ad G 2000), .int x1] (mF m) (mF m9) (some (.long r)) :=
  gz_ofL (plainFor_of_name mz_plain) (Nat.le_of_ble_eq_true rfl) fun X _ hX hk => wm_qTold hX h hk
theorem mc_qTold {X : gz_X} {G : gz_G} {cc : ByteArray} {nL fr lo pc : Nat} {lv : List (Nat × Value)} {rest st0 : List Value} (hX : gz_C mS X G cc nL RX6 fr lo) {x1 : Int32}  {m m9 : MM} {r : Int64} (h : mf_qTold x1 m = some (r, m9)) (hroom : 4 + 1 ≤ fr ∧ 8 + (4 + 11) + 87 ≤ lo) (hst : st0 = [.int x1, .ref (gz_ad G 2000)] ++ rest) (hW : (rest.map fun v => v.category).sum ≤ 8) (hd : decode cc pc = .ok (.invokevirtual 678, 3)) (kk : gz_V mS X G nL (0, 0) (mF m9) (pc + 3) lv (.long r :: rest)) : gz_V mS X G nL (0, 0) (mF m) pc lv st0 :=
  gz_callV hX mz_E (As := [.int x1]) (rest := rest) (q := (RX6, TX6, 104)) (ci := 0) (c := 2000) (mt_qTold (l := X.2.1) h) (lw_V q2617 q2619 qs161 q182 q2620) (n := 1) (by decide +kernel) hroom rfl rfl (by decide) rfl hst hW hd (rem := (0, 0)) kk
/-! qTakes(IJI)V -/
noncomputable def mj_X6_qTakes_133  (m : MM) : Option (Unit × MM) :=
  gz_let (msI m 2000 101 (0 : Int32)) fun m1 => some ((), m1)
theorem wb_X6_qTakes_133 {X : gz_X} {G : gz_G} (hX : gz_C mS X G cX6_qTakes 6 RX6 0 0)   {m : MM} {z : (Unit × MM)} (h : mj_X6_qTakes_133  m = some z) (hk : (fun z : (Unit × MM) => gz_kV mS X G 6 (0, 0) cX6_qTakes (mF z.2)) z) : gz_V mS X G 6 (0, 0) (mF m) 133 [(0, .ref (gz_ad G 2000))] [] := by
  unfold mj_X6_qTakes_133 at h
  refine gz_aload_n (pc := 133) hX dX6_qTakes_133 rfl 0 rfl ?_
  refine gz_iconst (pc := 134) (v := (0 : Int32)) hX dX6_qTakes_134 (by decide) ?_
  obtain ⟨m1, em1, h⟩ := gz_lt h
  refine mp_101 (pc := 135) hX dX6_qTakes_135 (Or.inl rfl) em1 ?_
  obtain rfl := Option.some.inj h
  exact hk _ _ dX6_qTakes_138
noncomputable def mj_X6_qTakes_128 (x2 : Int64) (m : MM) : Option (Unit × MM) :=
  gz_let (msL m 2000 100 x2) fun m1 => (mj_X6_qTakes_133  m1)
theorem wb_X6_qTakes_128 {X : gz_X} {G : gz_G} (hX : gz_C mS X G cX6_qTakes 6 RX6 0 0) {x2 : Int64}  {m : MM} {z : (Unit × MM)} (h : mj_X6_qTakes_128 x2 m = some z) (hk : (fun z : (Unit × MM) => gz_kV mS X G 6 (0, 0) cX6_qTakes (mF z.2)) z) : gz_V mS X G 6 (0, 0) (mF m) 128 [(0, .ref (gz_ad G 2000)), (2, .long x2)] [] := by
  unfold mj_X6_qTakes_128 at h
  refine gz_aload_n (pc := 128) hX dX6_qTakes_128 rfl 0 rfl ?_
  refine gz_lload_n (pc := 129) hX dX6_qTakes_129 rfl 1 rfl ?_
  obtain ⟨m1, em1, h⟩ := gz_lt h
  refine mp_100 (pc := 130) hX dX6_qTakes_130 em1 ?_
  refine gz_sub (lw := [(0, .ref (gz_ad G 2000))]) [0] rfl ?_
  exact wb_X6_qTakes_133 hX h hk
noncomputable def mj_X6_qTakes_90 (x1 : Int32) (x2 : Int64) (m : MM) : Option (Unit × MM) :=
  (if x1 ≤ (3 : Int32) then (mj_X6_qTakes_133  m) else (if (m.1 2000 101) = (0 : Int32) then (if x1 = (4 : Int32) then (if x2 ≤ (m.2 2000 100) then (mj_X6_qTakes_133  m) else (mj_X6_qTakes_128 x2 m)) else (if (m.2 2000 100) ≤ x2 then (mj_X6_qTakes_133  m) else (mj_X6_qTakes_128 x2 m))) else (mj_X6_qTakes_128 x2 m)))
theorem wb_X6_qTakes_90 {X : gz_X} {G : gz_G} (hX : gz_C mS X G cX6_qTakes 6 RX6 0 0) {x1 : Int32} {x2 : Int64}  {m : MM} {z : (Unit × MM)} (h : mj_X6_qTakes_90 x1 x2 m = some z) (hk : (fun z : (Unit × MM) => gz_kV mS X G 6 (0, 0) cX6_qTakes (mF z.2)) z) : gz_V mS X G 6 (0, 0) (mF m) 90 [(0, .ref (gz_ad G 2000)), (1, .int x1), (2, .long x2)] [] := by
  unfold mj_X6_qTakes_90 at h
  refine gz_iload_n (pc := 90) hX dX6_qTakes_90 rfl 1 rfl ?_
  refine gz_iconst (pc := 91) (v := (3 : Int32)) hX dX6_qTakes_91 (by decide) ?_
  refine gz_icmp_le (pc := 92) (tgt := 133) hX dX6_qTakes_92 (by decide) (fun g1 => ?_) (fun g1 => ?_)
  · replace h := gz_it' g1 h
    refine gz_sub (lw := [(0, .ref (gz_ad G 2000))]) [0] rfl ?_
    exact wb_X6_qTakes_133 hX h hk
  · replace h := gz_if' g1 h
    refine gz_aload_n (pc := 95) hX dX6_qTakes_95 rfl 0 rfl ?_
    refine mg_101 (pc := 96) hX dX6_qTakes_96 ?_
    refine gz_if_ne (pc := 99) (tgt := 128) hX dX6_qTakes_99 (by decide) (fun g2 => ?_) (fun g2 => ?_)
    · replace h := gz_if' g2 h
      refine gz_sub (lw := [(0, .ref (gz_ad G 2000)), (2, .long x2)]) [0, 2] rfl ?_
      exact wb_X6_qTakes_128 hX h hk
    · replace h := gz_it' g2 h
      refine gz_iload_n (pc := 102) hX dX6_qTakes_102 rfl 1 rfl ?_
      refine gz_iconst (pc := 103) (v := (4 : Int32)) hX dX6_qTakes_103 (by decide) ?_
      refine gz_icmp_ne (pc := 104) (tgt := 119) hX dX6_qTakes_104 (by decide) (fun g3 => ?_) (fun g3 => ?_)
      · replace h := gz_if' g3 h
        refine gz_lload_n (pc := 119) hX dX6_qTakes_119 rfl 2 rfl ?_
        refine gz_aload_n (pc := 120) hX dX6_qTakes_120 rfl 0 rfl ?_
        refine mg_100 (pc := 121) hX dX6_qTakes_121 ?_
        refine gz_lcmp_ge (pc := 124) (tgt := 133) hX dX6_qTakes_124 dX6_qTakes_125 (by decide) (fun g4 => ?_) (fun g4 => ?_)
        · replace h := gz_it' g4 h
          refine gz_sub (lw := [(0, .ref (gz_ad G 2000))]) [0] rfl ?_
          exact wb_X6_qTakes_133 hX h hk
        · replace h := gz_if' g4 h
          refine gz_sub (lw := [(0, .ref (gz_ad G 2000)), (2, .long x2)]) [0, 2] rfl ?_
          exact wb_X6_qTakes_128 hX h hk
      · replace h := gz_it' g3 h
        refine gz_lload_n (pc := 107) hX dX6_qTakes_107 rfl 2 rfl ?_
        refine gz_aload_n (pc := 108) hX dX6_qTakes_108 rfl 0 rfl ?_
        refine mg_100 (pc := 109) hX dX6_qTakes_109 ?_
        refine gz_lcmp_le (pc := 112) (tgt := 133) hX dX6_qTakes_112 dX6_qTakes_113 (by decide) (fun g5 => ?_) (fun g5 => ?_)
        · replace h := gz_it' g5 h
          refine gz_sub (lw := [(0, .ref (gz_ad G 2000))]) [0] rfl ?_
          exact wb_X6_qTakes_133 hX h hk
        · replace h := gz_if' g5 h
          refine gz_goto (pc := 116) (tgt := 128) hX dX6_qTakes_116 (by decide) ?_
          refine gz_sub (lw := [(0, .ref (gz_ad G 2000)), (2, .long x2)]) [0, 2] rfl ?_
          exact wb_X6_qTakes_128 hX h hk
noncomputable def mj_X6_qTakes_75 (x1 : Int32) (x2 : Int64) (m : MM) : Option (Unit × MM) :=
  (if x1 = (3 : Int32) then gz_let (msL m 2000 100 ((m.2 2000 100) + x2)) fun m2 => (mj_X6_qTakes_90 x1 x2 m2) else (mj_X6_qTakes_90 x1 x2 m))
theorem wb_X6_qTakes_75 {X : gz_X} {G : gz_G} (hX : gz_C mS X G cX6_qTakes 6 RX6 0 0) {x1 : Int32} {x2 : Int64}  {m : MM} {z : (Unit × MM)} (h : mj_X6_qTakes_75 x1 x2 m = some z) (hk : (fun z : (Unit × MM) => gz_kV mS X G 6 (0, 0) cX6_qTakes (mF z.2)) z) : gz_V mS X G 6 (0, 0) (mF m) 75 [(0, .ref (gz_ad G 2000)), (1, .int x1), (2, .long x2)] [] := by
  unfold mj_X6_qTakes_75 at h
  refine gz_iload_n (pc := 75) hX dX6_qTakes_75 rfl 1 rfl ?_
  refine gz_iconst (pc := 76) (v := (3 : Int32)) hX dX6_qTakes_76 (by decide) ?_
  refine gz_icmp_ne (pc := 77) (tgt := 90) hX dX6_qTakes_77 (by decide) (fun g1 => ?_) (fun g1 => ?_)
  · replace h := gz_if' g1 h
    exact wb_X6_qTakes_90 hX h hk
  · replace h := gz_it' g1 h
    refine gz_aload_n (pc := 80) hX dX6_qTakes_80 rfl 0 rfl ?_
    refine gz_dup (pc := 81) hX dX6_qTakes_81 rfl ?_
    refine mg_100 (pc := 82) hX dX6_qTakes_82 ?_
    refine gz_lload_n (pc := 85) hX dX6_qTakes_85 rfl 2 rfl ?_
    refine gz_ladd (pc := 86) hX dX6_qTakes_86 ?_
    obtain ⟨m2, em2, h⟩ := gz_lt h
    refine mp_100 (pc := 87) hX dX6_qTakes_87 em2 ?_
    exact wb_X6_qTakes_90 hX h hk
noncomputable def mj_X6_qTakes_55 (x1 : Int32) (x2 : Int64) (x5 : Int32) (m : MM) : Option (Unit × MM) :=
  (if x1 = (2 : Int32) then (if x5 = (0 : Int32) then (mj_X6_qTakes_75 x1 x2 m) else gz_let (msL m 2000 100 ((m.2 2000 100) + (1 : Int64))) fun m3 => (mj_X6_qTakes_75 x1 x2 m3)) else (mj_X6_qTakes_75 x1 x2 m))
theorem wb_X6_qTakes_55 {X : gz_X} {G : gz_G} (hX : gz_C mS X G cX6_qTakes 6 RX6 0 0) {x1 : Int32} {x2 : Int64} {x5 : Int32}  {m : MM} {z : (Unit × MM)} (h : mj_X6_qTakes_55 x1 x2 x5 m = some z) (hk : (fun z : (Unit × MM) => gz_kV mS X G 6 (0, 0) cX6_qTakes (mF z.2)) z) : gz_V mS X G 6 (0, 0) (mF m) 55 [(0, .ref (gz_ad G 2000)), (1, .int x1), (2, .long x2), (5, .int x5)] [] := by
  unfold mj_X6_qTakes_55 at h
  refine gz_iload_n (pc := 55) hX dX6_qTakes_55 rfl 1 rfl ?_
  refine gz_iconst (pc := 56) (v := (2 : Int32)) hX dX6_qTakes_56 (by decide) ?_
  refine gz_icmp_ne (pc := 57) (tgt := 75) hX dX6_qTakes_57 (by decide) (fun g1 => ?_) (fun g1 => ?_)
  · replace h := gz_if' g1 h
    refine gz_sub (lw := [(0, .ref (gz_ad G 2000)), (1, .int x1), (2, .long x2)]) [0, 1, 2] rfl ?_
    exact wb_X6_qTakes_75 hX h hk
  · replace h := gz_it' g1 h
    refine gz_iload (pc := 60) hX dX6_qTakes_60 3 rfl ?_
    refine gz_if_eq (pc := 62) (tgt := 75) hX dX6_qTakes_62 (by decide) (fun g2 => ?_) (fun g2 => ?_)
    · replace h := gz_it' g2 h
      refine gz_sub (lw := [(0, .ref (gz_ad G 2000)), (1, .int x1), (2, .long x2)]) [0, 1, 2] rfl ?_
      exact wb_X6_qTakes_75 hX h hk
    · replace h := gz_if' g2 h
      refine gz_aload_n (pc := 65) hX dX6_qTakes_65 rfl 0 rfl ?_
      refine gz_dup (pc := 66) hX dX6_qTakes_66 rfl ?_
      refine mg_100 (pc := 67) hX dX6_qTakes_67 ?_
      refine gz_lconst (pc := 70) (v := (1 : Int64)) hX dX6_qTakes_70 (by decide) ?_
      refine gz_ladd (pc := 71) hX dX6_qTakes_71 ?_
      obtain ⟨m3, em3, h⟩ := gz_lt h
      refine mp_100 (pc := 72) hX dX6_qTakes_72 em3 ?_
      refine gz_sub (lw := [(0, .ref (gz_ad G 2000)), (1, .int x1), (2, .long x2)]) [0, 1, 2] rfl ?_
      exact wb_X6_qTakes_75 hX h hk
noncomputable def mj_X6_qTakes_48 (x1 : Int32) (x2 : Int64) (x4 : Int32) (x5 : Int32) (m : MM) : Option (Unit × MM) :=
  gz_let (msL m 2000 100 (x4.toInt64)) fun m1 => (mj_X6_qTakes_55 x1 x2 x5 m1)
theorem wb_X6_qTakes_48 {X : gz_X} {G : gz_G} (hX : gz_C mS X G cX6_qTakes 6 RX6 0 0) {x1 : Int32} {x2 : Int64} {x4 : Int32} {x5 : Int32}  {m : MM} {z : (Unit × MM)} (h : mj_X6_qTakes_48 x1 x2 x4 x5 m = some z) (hk : (fun z : (Unit × MM) => gz_kV mS X G 6 (0, 0) cX6_qTakes (mF z.2)) z) : gz_V mS X G 6 (0, 0) (mF m) 48 [(0, .ref (gz_ad G 2000)), (1, .int x1), (2, .long x2), (4, .int x4), (5, .int x5)] [] := by
  unfold mj_X6_qTakes_48 at h
  refine gz_aload_n (pc := 48) hX dX6_qTakes_48 rfl 0 rfl ?_
  refine gz_iload (pc := 49) hX dX6_qTakes_49 3 rfl ?_
  refine gz_i2l (pc := 51) hX dX6_qTakes_51 ?_
  obtain ⟨m1, em1, h⟩ := gz_lt h
  refine mp_100 (pc := 52) hX dX6_qTakes_52 em1 ?_
  refine gz_sub (lw := [(0, .ref (gz_ad G 2000)), (1, .int x1), (2, .long x2), (5, .int x5)]) [0, 1, 2, 4] rfl ?_
  exact wb_X6_qTakes_55 hX h hk
noncomputable def mj_X6_qTakes_38 (x1 : Int32) (x2 : Int64) (x4 : Int32) (x5 : Int32) (m : MM) : Option (Unit × MM) :=
  (if x1 = (1 : Int32) then (if x5 = (0 : Int32) then (mj_X6_qTakes_55 x1 x2 x5 m) else (mj_X6_qTakes_48 x1 x2 x4 x5 m)) else (mj_X6_qTakes_55 x1 x2 x5 m))
theorem wb_X6_qTakes_38 {X : gz_X} {G : gz_G} (hX : gz_C mS X G cX6_qTakes 6 RX6 0 0) {x1 : Int32} {x2 : Int64} {x4 : Int32} {x5 : Int32}  {m : MM} {z : (Unit × MM)} (h : mj_X6_qTakes_38 x1 x2 x4 x5 m = some z) (hk : (fun z : (Unit × MM) => gz_kV mS X G 6 (0, 0) cX6_qTakes (mF z.2)) z) : gz_V mS X G 6 (0, 0) (mF m) 38 [(0, .ref (gz_ad G 2000)), (1, .int x1), (2, .long x2), (4, .int x4), (5, .int x5)] [] := by
  unfold mj_X6_qTakes_38 at h
  refine gz_iload_n (pc := 38) hX dX6_qTakes_38 rfl 1 rfl ?_
  refine gz_iconst (pc := 39) (v := (1 : Int32)) hX dX6_qTakes_39 (by decide) ?_
  refine gz_icmp_ne (pc := 40) (tgt := 55) hX dX6_qTakes_40 (by decide) (fun g1 => ?_) (fun g1 => ?_)
  · replace h := gz_if' g1 h
    refine gz_sub (lw := [(0, .ref (gz_ad G 2000)), (1, .int x1), (2, .long x2), (5, .int x5)]) [0, 1, 2, 4] rfl ?_
    exact wb_X6_qTakes_55 hX h hk
  · replace h := gz_it' g1 h
    refine gz_iload (pc := 43) hX dX6_qTakes_43 4 rfl ?_
    refine gz_if_eq (pc := 45) (tgt := 55) hX dX6_qTakes_45 (by decide) (fun g2 => ?_) (fun g2 => ?_)
    · replace h := gz_it' g2 h
      refine gz_sub (lw := [(0, .ref (gz_ad G 2000)), (1, .int x1), (2, .long x2), (5, .int x5)]) [0, 1, 2, 4] rfl ?_
      exact wb_X6_qTakes_55 hX h hk
    · replace h := gz_if' g2 h
      exact wb_X6_qTakes_48 hX h hk
noncomputable def mj_X6_qTakes_16 (x1 : Int32) (x2 : Int64) (x4 : Int32) (s0 : Int32) (m : MM) : Option (Unit × MM) :=
  (if x1 = (0 : Int32) then (if s0 = (0 : Int32) then (mj_X6_qTakes_38 x1 x2 x4 s0 m) else (if (m.2 2000 100) = (-1 : Int64) then (mj_X6_qTakes_48 x1 x2 x4 s0 m) else (mj_X6_qTakes_38 x1 x2 x4 s0 m))) else (mj_X6_qTakes_38 x1 x2 x4 s0 m))
theorem wb_X6_qTakes_16 {X : gz_X} {G : gz_G} (hX : gz_C mS X G cX6_qTakes 6 RX6 0 0) {x1 : Int32} {x2 : Int64} {x4 : Int32} {s0 : Int32}  {m : MM} {z : (Unit × MM)} (h : mj_X6_qTakes_16 x1 x2 x4 s0 m = some z) (hk : (fun z : (Unit × MM) => gz_kV mS X G 6 (0, 0) cX6_qTakes (mF z.2)) z) : gz_V mS X G 6 (0, 0) (mF m) 16 [(0, .ref (gz_ad G 2000)), (1, .int x1), (2, .long x2), (4, .int x4)] [.int s0] := by
  unfold mj_X6_qTakes_16 at h
  refine gz_istore (pc := 16) (lw := [(5, .int s0), (0, .ref (gz_ad G 2000)), (1, .int x1), (2, .long x2), (4, .int x4)]) hX dX6_qTakes_16 (by decide) rfl ?_
  refine gz_iload_n (pc := 18) hX dX6_qTakes_18 rfl 2 rfl ?_
  refine gz_if_ne (pc := 19) (tgt := 38) hX dX6_qTakes_19 (by decide) (fun g1 => ?_) (fun g1 => ?_)
  · replace h := gz_if' g1 h
    refine gz_sub (lw := [(0, .ref (gz_ad G 2000)), (1, .int x1), (2, .long x2), (4, .int x4), (5, .int s0)]) [1, 2, 3, 4, 0] rfl ?_
    exact wb_X6_qTakes_38 hX h hk
  · replace h := gz_it' g1 h
    refine gz_iload (pc := 22) hX dX6_qTakes_22 0 rfl ?_
    refine gz_if_eq (pc := 24) (tgt := 38) hX dX6_qTakes_24 (by decide) (fun g2 => ?_) (fun g2 => ?_)
    · replace h := gz_it' g2 h
      refine gz_sub (lw := [(0, .ref (gz_ad G 2000)), (1, .int x1), (2, .long x2), (4, .int x4), (5, .int s0)]) [1, 2, 3, 4, 0] rfl ?_
      exact wb_X6_qTakes_38 hX h hk
    · replace h := gz_if' g2 h
      refine gz_aload_n (pc := 27) hX dX6_qTakes_27 rfl 1 rfl ?_
      refine mg_100 (pc := 28) hX dX6_qTakes_28 ?_
      refine gz_ldc2 (pc := 31) (v := (-1 : Int64)) hX q2467 dX6_qTakes_31 ?_
      refine gz_lcmp_eq (pc := 34) (tgt := 48) hX dX6_qTakes_34 dX6_qTakes_35 (by decide) (fun g3 => ?_) (fun g3 => ?_)
      · replace h := gz_it' g3 h
        refine gz_sub (lw := [(0, .ref (gz_ad G 2000)), (1, .int x1), (2, .long x2), (4, .int x4), (5, .int s0)]) [1, 2, 3, 4, 0] rfl ?_
        exact wb_X6_qTakes_48 hX h hk
      · replace h := gz_if' g3 h
        refine gz_sub (lw := [(0, .ref (gz_ad G 2000)), (1, .int x1), (2, .long x2), (4, .int x4), (5, .int s0)]) [1, 2, 3, 4, 0] rfl ?_
        exact wb_X6_qTakes_38 hX h hk
noncomputable def mj_X6_qTakes_15 (x1 : Int32) (x2 : Int64) (x4 : Int32) (m : MM) : Option (Unit × MM) :=
  (mj_X6_qTakes_16 x1 x2 x4 (0 : Int32) m)
theorem wb_X6_qTakes_15 {X : gz_X} {G : gz_G} (hX : gz_C mS X G cX6_qTakes 6 RX6 0 0) {x1 : Int32} {x2 : Int64} {x4 : Int32}  {m : MM} {z : (Unit × MM)} (h : mj_X6_qTakes_15 x1 x2 x4 m = some z) (hk : (fun z : (Unit × MM) => gz_kV mS X G 6 (0, 0) cX6_qTakes (mF z.2)) z) : gz_V mS X G 6 (0, 0) (mF m) 15 [(0, .ref (gz_ad G 2000)), (1, .int x1), (2, .long x2), (4, .int x4)] [] := by
  unfold mj_X6_qTakes_15 at h
  refine gz_iconst (pc := 15) (v := (0 : Int32)) hX dX6_qTakes_15 (by decide) ?_
  exact wb_X6_qTakes_16 hX h hk
noncomputable def mf_qTakes (x1 : Int32) (x2 : Int64) (x4 : Int32) (m : MM) : Option (Unit × MM) :=
  (if (3 : Int32) ≤ x1 then (mj_X6_qTakes_15 x1 x2 x4 m) else (if x2 = (1 : Int64) then (mj_X6_qTakes_16 x1 x2 x4 (1 : Int32) m) else (mj_X6_qTakes_15 x1 x2 x4 m)))
theorem wm_qTakes {X : gz_X} {G : gz_G} (hX : gz_C mS X G cX6_qTakes 6 RX6 0 0) {x1 : Int32} {x2 : Int64} {x4 : Int32}  {m : MM} {z : (Unit × MM)} (h : mf_qTakes x1 x2 x4 m = some z) (hk : (fun z : (Unit × MM) => gz_kV mS X G 6 (0, 0) cX6_qTakes (mF z.2)) z) : gz_V mS X G 6 (0, 0) (mF m) 0 [(0, .ref (gz_ad G 2000)), (1, .int x1), (2, .long x2), (4, .int x4)] [] := by
  unfold mf_qTakes at h
  refine gz_iload_n (pc := 0) hX dX6_qTakes_0 rfl 1 rfl ?_
  refine gz_iconst (pc := 1) (v := (3 : Int32)) hX dX6_qTakes_1 (by decide) ?_
  refine gz_icmp_ge (pc := 2) (tgt := 15) hX dX6_qTakes_2 (by decide) (fun g1 => ?_) (fun g1 => ?_)
  · replace h := gz_it' g1 h
    exact wb_X6_qTakes_15 hX h hk
  · replace h := gz_if' g1 h
    refine gz_lload_n (pc := 5) hX dX6_qTakes_5 rfl 2 rfl ?_
    refine gz_lconst (pc := 6) (v := (1 : Int64)) hX dX6_qTakes_6 (by decide) ?_
    refine gz_lcmp_ne (pc := 7) (tgt := 15) hX dX6_qTakes_7 dX6_qTakes_8 (by decide) (fun g2 => ?_) (fun g2 => ?_)
    · replace h := gz_if' g2 h
      exact wb_X6_qTakes_15 hX h hk
    · replace h := gz_it' g2 h
      refine gz_iconst (pc := 11) (v := (1 : Int32)) hX dX6_qTakes_11 (by decide) ?_
      refine gz_goto (pc := 12) (tgt := 16) hX dX6_qTakes_12 (by decide) ?_
      exact wb_X6_qTakes_16 hX h hk
theorem mt_qTakes {G : gz_G} {l : Launch} {x1 : Int32} {x2 : Int64} {x4 : Int32}  {m m9 : MM} (h : mf_qTakes x1 x2 x4 m = some ((), m9)) : gz_Met mS G l yX6_qTakes cX6_qTakes 6 none (mRm 0 0) [.ref (gz_ad G 2000), .int x1, .long x2, .int x4] (mF m) (mF m9) none :=
  gz_ofV (plainFor_of_name mz_plain) (Nat.le_of_ble_eq_true rfl) fun X _ hX hk => wm_qTakes hX h hk
theorem mc_qTakes {X : gz_X} {G : gz_G} {cc : ByteArray} {nL fr lo pc : Nat} {lv : List (Nat × Value)} {rest st0 : List Value} (hX : gz_C mS X G cc nL RX6 fr lo) {x1 : Int32} {x2 : Int64} {x4 : Int32}  {m m9 : MM} (h : mf_qTakes x1 x2 x4 m = some ((), m9)) (hroom : 0 + 1 ≤ fr ∧ 8 + (6 + 11) + 0 ≤ lo) (hst : st0 = [.int x4, .long x2, .int x1, .ref (gz_ad G 2000)] ++ rest) (hW : (rest.map fun v => v.category).sum ≤ 8) (hd : decode cc pc = .ok (.invokevirtual 682, 3)) (kk : gz_V mS X G nL (0, 0) (mF m9) (pc + 3) lv (rest)) : gz_V mS X G nL (0, 0) (mF m) pc lv st0 :=
  gz_callV hX mz_E (As := [.int x1, .long x2, .int x4]) (rest := rest) (q := (RX6, TX6, 104)) (ci := 0) (c := 2000) (mt_qTakes (l := X.2.1) h) (lw_V q2625 q2627 qs163 q182 q2628) (n := 3) (by decide +kernel) hroom rfl rfl (by decide) rfl hst hW hd (rem := (0, 0)) kk
/-! ask()J -/
def mP_X6_ask_167 (X : gz_X) (G : gz_G) (q : (Int32 × Int32 × MM)) : Prop := gz_V mS X G 3 (0, 0) (mF q.2.2) 167 [(0, .ref (gz_ad G 2000)), (1, .int q.1), (2, .int q.2.1)] []
def mP_X6_ask_199 (X : gz_X) (G : gz_G) (q : (Int32 × Int32 × MM)) : Prop := gz_V mS X G 3 (0, 0) (mF q.2.2) 199 [(0, .ref (gz_ad G 2000)), (1, .int q.1), (2, .int q.2.1)] []
noncomputable def mb_X6_ask_199 (x1 : Int32) (x2 : Int32) (m : MM) : Option ((Int32 × Int32 × MM) ⊕ (Int64 × MM)) :=
  ((mf_thingMany m).bind fun (r1, m2) => (if r1 ≤ x2 then some (Sum.inr ((m2.2 2000 100), m2)) else gz_let (msI m2 2000 55 x2) fun m5 => ((mf_qTold x2 m5).bind fun (r6, m7) => ((mf_qTakes x1 r6 x2 m7).bind fun (_, m10) => gz_let (x2 + (1 : Int32)) fun y12 => some (Sum.inl (x1, y12, m10))))))
theorem wb_X6_ask_199 {X : gz_X} {G : gz_G} (hX : gz_C mS X G cX6_ask 3 RX6 9 196) {x1 : Int32} {x2 : Int32}  {m : MM} {z : ((Int32 × Int32 × MM) ⊕ (Int64 × MM))} (h : mb_X6_ask_199 x1 x2 m = some z) (hk : (Sum.elim (mP_X6_ask_199 X G) (fun z : (Int64 × MM) => gz_kL mS X G 3 (0, 0) cX6_ask (mF z.2) z.1)) z) : gz_V mS X G 3 (0, 0) (mF m) 199 [(0, .ref (gz_ad G 2000)), (1, .int x1), (2, .int x2)] [] := by
  unfold mb_X6_ask_199 at h
  refine gz_iload_n (pc := 199) hX dX6_ask_199 rfl 2 rfl ?_
  refine gz_aload_n (pc := 200) hX dX6_ask_200 rfl 0 rfl ?_
  obtain ⟨⟨r1, m2⟩, c3, h⟩ := gz_bd h
  refine mc_thingMany (pc := 201) hX c3 ⟨Nat.le_of_ble_eq_true rfl, Nat.le_of_ble_eq_true rfl⟩ (rest := [.int x2]) rfl (Nat.le_of_ble_eq_true rfl) dX6_ask_201 ?_
  refine gz_icmp_ge (pc := 204) (tgt := 229) hX dX6_ask_204 (by decide) (fun g4 => ?_) (fun g4 => ?_)
  · replace h := gz_it' g4 h
    refine gz_aload_n (pc := 229) hX dX6_ask_229 rfl 0 rfl ?_
    refine mg_100 (pc := 230) hX dX6_ask_230 ?_
    obtain rfl := Option.some.inj h
    exact hk _ _ dX6_ask_233
  · replace h := gz_if' g4 h
    refine gz_aload_n (pc := 207) hX dX6_ask_207 rfl 0 rfl ?_
    refine gz_iload_n (pc := 208) hX dX6_ask_208 rfl 2 rfl ?_
    obtain ⟨m5, em5, h⟩ := gz_lt h
    refine mp_55 (pc := 209) hX dX6_ask_209 em5 ?_
    refine gz_aload_n (pc := 212) hX dX6_ask_212 rfl 0 rfl ?_
    refine gz_iload_n (pc := 213) hX dX6_ask_213 rfl 1 rfl ?_
    refine gz_aload_n (pc := 214) hX dX6_ask_214 rfl 0 rfl ?_
    refine gz_iload_n (pc := 215) hX dX6_ask_215 rfl 2 rfl ?_
    obtain ⟨⟨r6, m7⟩, c8, h⟩ := gz_bd h
    refine mc_qTold (pc := 216) hX c8 ⟨Nat.le_of_ble_eq_true rfl, Nat.le_of_ble_eq_true rfl⟩ (rest := [.int x1, .ref (gz_ad G 2000)]) rfl (Nat.le_of_ble_eq_true rfl) dX6_ask_216 ?_
    refine gz_iload_n (pc := 219) hX dX6_ask_219 rfl 2 rfl ?_
    obtain ⟨⟨⟨⟩, m10⟩, c11, h⟩ := gz_bd h
    refine mc_qTakes (pc := 220) hX c11 ⟨Nat.le_of_ble_eq_true rfl, Nat.le_of_ble_eq_true rfl⟩ (rest := []) rfl (Nat.le_of_ble_eq_true rfl) dX6_ask_220 ?_
    obtain ⟨y12, ey12, h⟩ := gz_lt h
    refine gz_iinc (pc := 223) (v := y12) (lw := [(2, .int y12), (0, .ref (gz_ad G 2000)), (1, .int x1)]) hX dX6_ask_223 (k := 2) rfl (by rw [ey12]; rfl) (by decide) rfl ?_
    refine gz_goto (pc := 226) (tgt := 199) hX dX6_ask_226 (by decide) ?_
    refine gz_sub (lw := [(0, .ref (gz_ad G 2000)), (1, .int x1), (2, .int y12)]) [1, 2, 0] rfl ?_
    obtain rfl := Option.some.inj h
    exact hk
noncomputable def ml_X6_ask_199 (x1 : Int32) (x2 : Int32) (m : MM) : Option (Int64 × MM) := gz_loop (fun q : (Int32 × Int32 × MM) => mb_X6_ask_199 q.1 q.2.1 q.2.2) (x1, x2, m)
theorem wl_X6_ask_199 {X : gz_X} {G : gz_G} (hX : gz_C mS X G cX6_ask 3 RX6 9 196) {x1 : Int32} {x2 : Int32}  {m : MM} {z : (Int64 × MM)} (h : ml_X6_ask_199 x1 x2 m = some z) (hk : (fun z : (Int64 × MM) => gz_kL mS X G 3 (0, 0) cX6_ask (mF z.2) z.1) z) : gz_V mS X G 3 (0, 0) (mF m) 199 [(0, .ref (gz_ad G 2000)), (1, .int x1), (2, .int x2)] [] := by
  have hp : mP_X6_ask_199 X G (x1, x2, m) := gz_loop_ind (fun q z hz hkz => wb_X6_ask_199 hX  hz hkz) h hk
  exact hp
noncomputable def mb_X6_ask_167 (x1 : Int32) (x2 : Int32) (m : MM) : Option ((Int32 × Int32 × MM) ⊕ (Int64 × MM)) :=
  ((mf_thingMany m).bind fun (r1, m2) => (if r1 ≤ x2 then gz_let (msI m2 2000 48 (3 : Int32)) fun m5 => (Option.map Sum.inr (ml_X6_ask_199 x1 (0 : Int32) m5)) else ((mf_endsOf x2 m2).bind fun (r6, m7) => (if gz_in x2 (8) then gz_let (msI m7 1055 (gz_ix x2) r6) fun m10 => gz_let (x2 + (1 : Int32)) fun y11 => some (Sum.inl (x1, y11, m10)) else none))))
theorem wb_X6_ask_167 {X : gz_X} {G : gz_G} (hX : gz_C mS X G cX6_ask 3 RX6 9 196) {x1 : Int32} {x2 : Int32}  {m : MM} {z : ((Int32 × Int32 × MM) ⊕ (Int64 × MM))} (h : mb_X6_ask_167 x1 x2 m = some z) (hk : (Sum.elim (mP_X6_ask_167 X G) (fun z : (Int64 × MM) => gz_kL mS X G 3 (0, 0) cX6_ask (mF z.2) z.1)) z) : gz_V mS X G 3 (0, 0) (mF m) 167 [(0, .ref (gz_ad G 2000)), (1, .int x1), (2, .int x2)] [] := by
  unfold mb_X6_ask_167 at h
  refine gz_iload_n (pc := 167) hX dX6_ask_167 rfl 2 rfl ?_
  refine gz_aload_n (pc := 168) hX dX6_ask_168 rfl 0 rfl ?_
  obtain ⟨⟨r1, m2⟩, c3, h⟩ := gz_bd h
  refine mc_thingMany (pc := 169) hX c3 ⟨Nat.le_of_ble_eq_true rfl, Nat.le_of_ble_eq_true rfl⟩ (rest := [.int x2]) rfl (Nat.le_of_ble_eq_true rfl) dX6_ask_169 ?_
  refine gz_icmp_ge (pc := 172) (tgt := 192) hX dX6_ask_172 (by decide) (fun g4 => ?_) (fun g4 => ?_)
  · replace h := gz_it' g4 h
    refine gz_aload_n (pc := 192) hX dX6_ask_192 rfl 0 rfl ?_
    refine gz_iconst (pc := 193) (v := (3 : Int32)) hX dX6_ask_193 (by decide) ?_
    obtain ⟨m5, em5, h⟩ := gz_lt h
    refine mp_48 (pc := 194) hX dX6_ask_194 em5 ?_
    refine gz_iconst (pc := 197) (v := (0 : Int32)) hX dX6_ask_197 (by decide) ?_
    refine gz_istore_n (pc := 198) (lw := [(2, .int (0 : Int32)), (0, .ref (gz_ad G 2000)), (1, .int x1)]) hX dX6_ask_198 rfl (by decide) rfl ?_
    refine gz_sub (lw := [(0, .ref (gz_ad G 2000)), (1, .int x1), (2, .int (0 : Int32))]) [1, 2, 0] rfl ?_
    obtain ⟨z0, hm0, rfl⟩ := gz_mp h
    exact wl_X6_ask_199 hX hm0 hk
  · replace h := gz_if' g4 h
    refine gz_aload_n (pc := 175) hX dX6_ask_175 rfl 0 rfl ?_
    refine mg_54 (pc := 176) hX dX6_ask_176 ?_
    refine gz_iload_n (pc := 179) hX dX6_ask_179 rfl 2 rfl ?_
    refine gz_aload_n (pc := 180) hX dX6_ask_180 rfl 0 rfl ?_
    refine gz_iload_n (pc := 181) hX dX6_ask_181 rfl 2 rfl ?_
    obtain ⟨⟨r6, m7⟩, c8, h⟩ := gz_bd h
    refine mc_endsOf (pc := 182) hX c8 ⟨Nat.le_of_ble_eq_true rfl, Nat.le_of_ble_eq_true rfl⟩ (rest := [.int x2, .ref (gz_ad G 1055)]) rfl (Nat.le_of_ble_eq_true rfl) dX6_ask_182 ?_
    obtain ⟨g9, h⟩ := gz_gu h
    obtain ⟨m10, em10, h⟩ := gz_lt h
    refine mz_iast (pc := 185) (c := 1055) (n := 8) hX rfl rfl g9 (Nat.le_of_ble_eq_true rfl) dX6_ask_185 em10 ?_
    obtain ⟨y11, ey11, h⟩ := gz_lt h
    refine gz_iinc (pc := 186) (v := y11) (lw := [(2, .int y11), (0, .ref (gz_ad G 2000)), (1, .int x1)]) hX dX6_ask_186 (k := 2) rfl (by rw [ey11]; rfl) (by decide) rfl ?_
    refine gz_goto (pc := 189) (tgt := 167) hX dX6_ask_189 (by decide) ?_
    refine gz_sub (lw := [(0, .ref (gz_ad G 2000)), (1, .int x1), (2, .int y11)]) [1, 2, 0] rfl ?_
    obtain rfl := Option.some.inj h
    exact hk
noncomputable def ml_X6_ask_167 (x1 : Int32) (x2 : Int32) (m : MM) : Option (Int64 × MM) := gz_loop (fun q : (Int32 × Int32 × MM) => mb_X6_ask_167 q.1 q.2.1 q.2.2) (x1, x2, m)
theorem wl_X6_ask_167 {X : gz_X} {G : gz_G} (hX : gz_C mS X G cX6_ask 3 RX6 9 196) {x1 : Int32} {x2 : Int32}  {m : MM} {z : (Int64 × MM)} (h : ml_X6_ask_167 x1 x2 m = some z) (hk : (fun z : (Int64 × MM) => gz_kL mS X G 3 (0, 0) cX6_ask (mF z.2) z.1) z) : gz_V mS X G 3 (0, 0) (mF m) 167 [(0, .ref (gz_ad G 2000)), (1, .int x1), (2, .int x2)] [] := by
  have hp : mP_X6_ask_167 X G (x1, x2, m) := gz_loop_ind (fun q z hz hkz => wb_X6_ask_167 hX  hz hkz) h hk
  exact hp
noncomputable def mj_X6_ask_157 (x1 : Int32) (s0 : Int64) (m : MM) : Option (Int64 × MM) :=
  gz_let (msL m 2000 100 s0) fun m1 => gz_let (msI m1 2000 101 (1 : Int32)) fun m2 => (ml_X6_ask_167 x1 (0 : Int32) m2)
theorem wb_X6_ask_157 {X : gz_X} {G : gz_G} (hX : gz_C mS X G cX6_ask 3 RX6 9 196) {x1 : Int32} {s0 : Int64}  {m : MM} {z : (Int64 × MM)} (h : mj_X6_ask_157 x1 s0 m = some z) (hk : (fun z : (Int64 × MM) => gz_kL mS X G 3 (0, 0) cX6_ask (mF z.2) z.1) z) : gz_V mS X G 3 (0, 0) (mF m) 157 [(0, .ref (gz_ad G 2000)), (1, .int x1)] [.long s0, .ref (gz_ad G 2000)] := by
  unfold mj_X6_ask_157 at h
  obtain ⟨m1, em1, h⟩ := gz_lt h
  refine mp_100 (pc := 157) hX dX6_ask_157 em1 ?_
  refine gz_aload_n (pc := 160) hX dX6_ask_160 rfl 0 rfl ?_
  refine gz_iconst (pc := 161) (v := (1 : Int32)) hX dX6_ask_161 (by decide) ?_
  obtain ⟨m2, em2, h⟩ := gz_lt h
  refine mp_101 (pc := 162) hX dX6_ask_162 (Or.inr rfl) em2 ?_
  refine gz_iconst (pc := 165) (v := (0 : Int32)) hX dX6_ask_165 (by decide) ?_
  refine gz_istore_n (pc := 166) (lw := [(2, .int (0 : Int32)), (0, .ref (gz_ad G 2000)), (1, .int x1)]) hX dX6_ask_166 rfl (by decide) rfl ?_
  refine gz_sub (lw := [(0, .ref (gz_ad G 2000)), (1, .int x1), (2, .int (0 : Int32))]) [1, 2, 0] rfl ?_
  exact wl_X6_ask_167 hX h hk
noncomputable def mj_X6_ask_117 (x1 : Int32) (m : MM) : Option (Int64 × MM) :=
  gz_let (msI m 2000 7 (m.1 2000 5)) fun m1 => gz_let (msI m1 2000 8 (m1.1 2000 6)) fun m2 => (if (m2.1 2000 5) = (0 : Int32) then (if (2 : Int32) ≤ x1 then (mj_X6_ask_157 x1 (0 : Int64) m2) else (mj_X6_ask_157 x1 (-1 : Int64) m2)) else some ((-1000000000000000 : Int64), m2))
theorem wb_X6_ask_117 {X : gz_X} {G : gz_G} (hX : gz_C mS X G cX6_ask 3 RX6 9 196) {x1 : Int32}  {m : MM} {z : (Int64 × MM)} (h : mj_X6_ask_117 x1 m = some z) (hk : (fun z : (Int64 × MM) => gz_kL mS X G 3 (0, 0) cX6_ask (mF z.2) z.1) z) : gz_V mS X G 3 (0, 0) (mF m) 117 [(0, .ref (gz_ad G 2000)), (1, .int x1)] [] := by
  unfold mj_X6_ask_117 at h
  refine gz_aload_n (pc := 117) hX dX6_ask_117 rfl 0 rfl ?_
  refine gz_aload_n (pc := 118) hX dX6_ask_118 rfl 0 rfl ?_
  refine mg_5 (pc := 119) hX dX6_ask_119 ?_
  obtain ⟨m1, em1, h⟩ := gz_lt h
  refine mp_7 (pc := 122) hX dX6_ask_122 em1 ?_
  refine gz_aload_n (pc := 125) hX dX6_ask_125 rfl 0 rfl ?_
  refine gz_aload_n (pc := 126) hX dX6_ask_126 rfl 0 rfl ?_
  refine mg_6 (pc := 127) hX dX6_ask_127 ?_
  obtain ⟨m2, em2, h⟩ := gz_lt h
  refine mp_8 (pc := 130) hX dX6_ask_130 em2 ?_
  refine gz_aload_n (pc := 133) hX dX6_ask_133 rfl 0 rfl ?_
  refine mg_5 (pc := 134) hX dX6_ask_134 ?_
  refine gz_if_eq (pc := 137) (tgt := 144) hX dX6_ask_137 (by decide) (fun g3 => ?_) (fun g3 => ?_)
  · replace h := gz_it' g3 h
    refine gz_aload_n (pc := 144) hX dX6_ask_144 rfl 0 rfl ?_
    refine gz_iload_n (pc := 145) hX dX6_ask_145 rfl 1 rfl ?_
    refine gz_iconst (pc := 146) (v := (2 : Int32)) hX dX6_ask_146 (by decide) ?_
    refine gz_icmp_ge (pc := 147) (tgt := 156) hX dX6_ask_147 (by decide) (fun g4 => ?_) (fun g4 => ?_)
    · replace h := gz_it' g4 h
      refine gz_lconst (pc := 156) (v := (0 : Int64)) hX dX6_ask_156 (by decide) ?_
      exact wb_X6_ask_157 hX h hk
    · replace h := gz_if' g4 h
      refine gz_ldc2 (pc := 150) (v := (-1 : Int64)) hX q2467 dX6_ask_150 ?_
      refine gz_goto (pc := 153) (tgt := 157) hX dX6_ask_153 (by decide) ?_
      exact wb_X6_ask_157 hX h hk
  · replace h := gz_if' g3 h
    refine gz_ldc2 (pc := 140) (v := (-1000000000000000 : Int64)) hX q2616 dX6_ask_140 ?_
    obtain rfl := Option.some.inj h
    exact hk _ _ dX6_ask_143
noncomputable def mj_X6_ask_93 (x1 : Int32) (m : MM) : Option (Int64 × MM) :=
  (if (m.1 2000 5) = (0 : Int32) then ((mf_look m).bind fun (r2, m3) => (if r2 = (-1 : Int32) then (mj_X6_ask_117 x1 m3) else ((mf_fail (1 : Int32) (m3.1 2000 2) m3).bind fun (_, m7) => (mj_X6_ask_117 x1 m7)))) else (mj_X6_ask_117 x1 m))
theorem wb_X6_ask_93 {X : gz_X} {G : gz_G} (hX : gz_C mS X G cX6_ask 3 RX6 9 196) {x1 : Int32}  {m : MM} {z : (Int64 × MM)} (h : mj_X6_ask_93 x1 m = some z) (hk : (fun z : (Int64 × MM) => gz_kL mS X G 3 (0, 0) cX6_ask (mF z.2) z.1) z) : gz_V mS X G 3 (0, 0) (mF m) 93 [(0, .ref (gz_ad G 2000)), (1, .int x1)] [] := by
  unfold mj_X6_ask_93 at h
  refine gz_aload_n (pc := 93) hX dX6_ask_93 rfl 0 rfl ?_
  refine mg_5 (pc := 94) hX dX6_ask_94 ?_
  refine gz_if_ne (pc := 97) (tgt := 117) hX dX6_ask_97 (by decide) (fun g1 => ?_) (fun g1 => ?_)
  · replace h := gz_if' g1 h
    exact wb_X6_ask_117 hX h hk
  · replace h := gz_it' g1 h
    refine gz_aload_n (pc := 100) hX dX6_ask_100 rfl 0 rfl ?_
    obtain ⟨⟨r2, m3⟩, c4, h⟩ := gz_bd h
    refine mc_look (pc := 101) hX c4 ⟨Nat.le_of_ble_eq_true rfl, Nat.le_of_ble_eq_true rfl⟩ (rest := []) rfl (Nat.le_of_ble_eq_true rfl) dX6_ask_101 ?_
    refine gz_iconst (pc := 104) (v := (-1 : Int32)) hX dX6_ask_104 (by decide) ?_
    refine gz_icmp_eq (pc := 105) (tgt := 117) hX dX6_ask_105 (by decide) (fun g5 => ?_) (fun g5 => ?_)
    · replace h := gz_it' g5 h
      exact wb_X6_ask_117 hX h hk
    · replace h := gz_if' g5 h
      refine gz_aload_n (pc := 108) hX dX6_ask_108 rfl 0 rfl ?_
      refine gz_iconst (pc := 109) (v := (1 : Int32)) hX dX6_ask_109 (by decide) ?_
      refine gz_aload_n (pc := 110) hX dX6_ask_110 rfl 0 rfl ?_
      refine mg_2 (pc := 111) hX dX6_ask_111 ?_
      obtain ⟨⟨⟨⟩, m7⟩, c8, h⟩ := gz_bd h
      refine mc_fail (pc := 114) hX c8 ⟨Nat.le_of_ble_eq_true rfl, Nat.le_of_ble_eq_true rfl⟩ (rest := []) rfl (Nat.le_of_ble_eq_true rfl) dX6_ask_114 ?_
      exact wb_X6_ask_117 hX h hk
noncomputable def mj_X6_ask_82 (x1 : Int32) (m : MM) : Option (Int64 × MM) :=
  (if (m.1 2000 5) = (0 : Int32) then ((mf_qSums m).bind fun (_, m3) => (mj_X6_ask_93 x1 m3)) else (mj_X6_ask_93 x1 m))
theorem wb_X6_ask_82 {X : gz_X} {G : gz_G} (hX : gz_C mS X G cX6_ask 3 RX6 9 196) {x1 : Int32}  {m : MM} {z : (Int64 × MM)} (h : mj_X6_ask_82 x1 m = some z) (hk : (fun z : (Int64 × MM) => gz_kL mS X G 3 (0, 0) cX6_ask (mF z.2) z.1) z) : gz_V mS X G 3 (0, 0) (mF m) 82 [(0, .ref (gz_ad G 2000)), (1, .int x1)] [] := by
  unfold mj_X6_ask_82 at h
  refine gz_aload_n (pc := 82) hX dX6_ask_82 rfl 0 rfl ?_
  refine mg_5 (pc := 83) hX dX6_ask_83 ?_
  refine gz_if_ne (pc := 86) (tgt := 93) hX dX6_ask_86 (by decide) (fun g1 => ?_) (fun g1 => ?_)
  · replace h := gz_if' g1 h
    exact wb_X6_ask_93 hX h hk
  · replace h := gz_it' g1 h
    refine gz_aload_n (pc := 89) hX dX6_ask_89 rfl 0 rfl ?_
    obtain ⟨⟨⟨⟩, m3⟩, c4, h⟩ := gz_bd h
    refine mc_qSums (pc := 90) hX c4 ⟨Nat.le_of_ble_eq_true rfl, Nat.le_of_ble_eq_true rfl⟩ (rest := []) rfl (Nat.le_of_ble_eq_true rfl) dX6_ask_90 ?_
    exact wb_X6_ask_93 hX h hk
noncomputable def mf_ask  (m : MM) : Option (Int64 × MM) :=
  gz_let (msI m 2000 3 (m.1 2000 1)) fun m1 => gz_let (msI m1 2000 1 (0 : Int32)) fun m2 => gz_let (msI m2 2000 2 (0 : Int32)) fun m3 => gz_let (msI m3 2000 4 (-1 : Int32)) fun m4 => gz_let (msI m4 2000 5 (0 : Int32)) fun m5 => gz_let (msI m5 2000 6 (-1 : Int32)) fun m6 => gz_let (msI m6 2000 48 (3 : Int32)) fun m7 => gz_let (msI m7 2000 93 (0 : Int32)) fun m8 => gz_let (msI m8 2000 95 (0 : Int32)) fun m9 => gz_let (msI m9 2000 96 (0 : Int32)) fun m10 => gz_let (msI m10 2000 97 (0 : Int32)) fun m11 => ((mf_qKind m11).bind fun (r12, m13) => (if (m13.1 2000 5) = (0 : Int32) then (if (3 : Int32) ≤ r12 then (mj_X6_ask_82 r12 m13) else ((mf_qTest m13).bind fun (_, m18) => (mj_X6_ask_93 r12 m18))) else (mj_X6_ask_82 r12 m13)))
theorem wm_ask {X : gz_X} {G : gz_G} (hX : gz_C mS X G cX6_ask 3 RX6 9 196)   {m : MM} {z : (Int64 × MM)} (h : mf_ask  m = some z) (hk : (fun z : (Int64 × MM) => gz_kL mS X G 3 (0, 0) cX6_ask (mF z.2) z.1) z) : gz_V mS X G 3 (0, 0) (mF m) 0 [(0, .ref (gz_ad G 2000))] [] := by
  unfold mf_ask at h
  refine gz_aload_n (pc := 0) hX dX6_ask_0 rfl 0 rfl ?_
  refine gz_aload_n (pc := 1) hX dX6_ask_1 rfl 0 rfl ?_
  refine mg_1 (pc := 2) hX dX6_ask_2 ?_
  obtain ⟨m1, em1, h⟩ := gz_lt h
  refine mp_3 (pc := 5) hX dX6_ask_5 em1 ?_
  refine gz_aload_n (pc := 8) hX dX6_ask_8 rfl 0 rfl ?_
  refine gz_iconst (pc := 9) (v := (0 : Int32)) hX dX6_ask_9 (by decide) ?_
  obtain ⟨m2, em2, h⟩ := gz_lt h
  refine mp_1 (pc := 10) hX dX6_ask_10 em2 ?_
  refine gz_aload_n (pc := 13) hX dX6_ask_13 rfl 0 rfl ?_
  refine gz_iconst (pc := 14) (v := (0 : Int32)) hX dX6_ask_14 (by decide) ?_
  obtain ⟨m3, em3, h⟩ := gz_lt h
  refine mp_2 (pc := 15) hX dX6_ask_15 em3 ?_
  refine gz_aload_n (pc := 18) hX dX6_ask_18 rfl 0 rfl ?_
  refine gz_iconst (pc := 19) (v := (-1 : Int32)) hX dX6_ask_19 (by decide) ?_
  obtain ⟨m4, em4, h⟩ := gz_lt h
  refine mp_4 (pc := 20) hX dX6_ask_20 em4 ?_
  refine gz_aload_n (pc := 23) hX dX6_ask_23 rfl 0 rfl ?_
  refine gz_iconst (pc := 24) (v := (0 : Int32)) hX dX6_ask_24 (by decide) ?_
  obtain ⟨m5, em5, h⟩ := gz_lt h
  refine mp_5 (pc := 25) hX dX6_ask_25 em5 ?_
  refine gz_aload_n (pc := 28) hX dX6_ask_28 rfl 0 rfl ?_
  refine gz_iconst (pc := 29) (v := (-1 : Int32)) hX dX6_ask_29 (by decide) ?_
  obtain ⟨m6, em6, h⟩ := gz_lt h
  refine mp_6 (pc := 30) hX dX6_ask_30 em6 ?_
  refine gz_aload_n (pc := 33) hX dX6_ask_33 rfl 0 rfl ?_
  refine gz_iconst (pc := 34) (v := (3 : Int32)) hX dX6_ask_34 (by decide) ?_
  obtain ⟨m7, em7, h⟩ := gz_lt h
  refine mp_48 (pc := 35) hX dX6_ask_35 em7 ?_
  refine gz_aload_n (pc := 38) hX dX6_ask_38 rfl 0 rfl ?_
  refine gz_iconst (pc := 39) (v := (0 : Int32)) hX dX6_ask_39 (by decide) ?_
  obtain ⟨m8, em8, h⟩ := gz_lt h
  refine mp_93 (pc := 40) hX dX6_ask_40 em8 ?_
  refine gz_aload_n (pc := 43) hX dX6_ask_43 rfl 0 rfl ?_
  refine gz_iconst (pc := 44) (v := (0 : Int32)) hX dX6_ask_44 (by decide) ?_
  obtain ⟨m9, em9, h⟩ := gz_lt h
  refine mp_95 (pc := 45) hX dX6_ask_45 em9 ?_
  refine gz_aload_n (pc := 48) hX dX6_ask_48 rfl 0 rfl ?_
  refine gz_iconst (pc := 49) (v := (0 : Int32)) hX dX6_ask_49 (by decide) ?_
  obtain ⟨m10, em10, h⟩ := gz_lt h
  refine mp_96 (pc := 50) hX dX6_ask_50 em10 ?_
  refine gz_aload_n (pc := 53) hX dX6_ask_53 rfl 0 rfl ?_
  refine gz_iconst (pc := 54) (v := (0 : Int32)) hX dX6_ask_54 (by decide) ?_
  obtain ⟨m11, em11, h⟩ := gz_lt h
  refine mp_97 (pc := 55) hX dX6_ask_55 em11 ?_
  refine gz_aload_n (pc := 58) hX dX6_ask_58 rfl 0 rfl ?_
  obtain ⟨⟨r12, m13⟩, c14, h⟩ := gz_bd h
  refine mc_qKind (pc := 59) hX c14 ⟨Nat.le_of_ble_eq_true rfl, Nat.le_of_ble_eq_true rfl⟩ (rest := []) rfl (Nat.le_of_ble_eq_true rfl) dX6_ask_59 ?_
  refine gz_istore_n (pc := 62) (lw := [(1, .int r12), (0, .ref (gz_ad G 2000))]) hX dX6_ask_62 rfl (by decide) rfl ?_
  refine gz_aload_n (pc := 63) hX dX6_ask_63 rfl 1 rfl ?_
  refine mg_5 (pc := 64) hX dX6_ask_64 ?_
  refine gz_if_ne (pc := 67) (tgt := 82) hX dX6_ask_67 (by decide) (fun g15 => ?_) (fun g15 => ?_)
  · replace h := gz_if' g15 h
    refine gz_sub (lw := [(0, .ref (gz_ad G 2000)), (1, .int r12)]) [1, 0] rfl ?_
    exact wb_X6_ask_82 hX h hk
  · replace h := gz_it' g15 h
    refine gz_iload_n (pc := 70) hX dX6_ask_70 rfl 0 rfl ?_
    refine gz_iconst (pc := 71) (v := (3 : Int32)) hX dX6_ask_71 (by decide) ?_
    refine gz_icmp_ge (pc := 72) (tgt := 82) hX dX6_ask_72 (by decide) (fun g16 => ?_) (fun g16 => ?_)
    · replace h := gz_it' g16 h
      refine gz_sub (lw := [(0, .ref (gz_ad G 2000)), (1, .int r12)]) [1, 0] rfl ?_
      exact wb_X6_ask_82 hX h hk
    · replace h := gz_if' g16 h
      refine gz_aload_n (pc := 75) hX dX6_ask_75 rfl 1 rfl ?_
      obtain ⟨⟨⟨⟩, m18⟩, c19, h⟩ := gz_bd h
      refine mc_qTest (pc := 76) hX c19 ⟨Nat.le_of_ble_eq_true rfl, Nat.le_of_ble_eq_true rfl⟩ (rest := []) rfl (Nat.le_of_ble_eq_true rfl) dX6_ask_76 ?_
      refine gz_goto (pc := 79) (tgt := 93) hX dX6_ask_79 (by decide) ?_
      refine gz_sub (lw := [(0, .ref (gz_ad G 2000)), (1, .int r12)]) [1, 0] rfl ?_
      exact wb_X6_ask_93 hX h hk
theorem mt_ask {G : gz_G} {l : Launch}   {m m9 : MM} {r : Int64} (h : mf_ask  m = some (r, m9)) : gz_Met mS G l yX6_ask cX6_ask 3 (some .long) (mRm 9 196) [.ref (gz_ad G 2000)] (mF m) (mF m9) (some (.long r)) :=
  gz_ofL (plainFor_of_name mz_plain) (Nat.le_of_ble_eq_true rfl) fun X _ hX hk => wm_ask hX h hk
/-! writes(I)V -/
noncomputable def mf_writes (x1 : Int32) (m : MM) : Option (Unit × MM) :=
  (if gz_in (m.1 2000 103) (32) then gz_let (msI m 1103 (gz_ix (m.1 2000 103)) x1) fun m2 => gz_let (msI m2 2000 103 ((m2.1 2000 103) + (1 : Int32))) fun m3 => some ((), m3) else none)
theorem wm_writes {X : gz_X} {G : gz_G} (hX : gz_C mS X G cX6_writes 2 RX6 0 0) {x1 : Int32}  {m : MM} {z : (Unit × MM)} (h : mf_writes x1 m = some z) (hk : (fun z : (Unit × MM) => gz_kV mS X G 2 (0, 0) cX6_writes (mF z.2)) z) : gz_V mS X G 2 (0, 0) (mF m) 0 [(0, .ref (gz_ad G 2000)), (1, .int x1)] [] := by
  unfold mf_writes at h
  refine gz_aload_n (pc := 0) hX dX6_writes_0 rfl 0 rfl ?_
  refine mg_102 (pc := 1) hX dX6_writes_1 ?_
  refine gz_aload_n (pc := 4) hX dX6_writes_4 rfl 0 rfl ?_
  refine mg_103 (pc := 5) hX dX6_writes_5 ?_
  refine gz_iload_n (pc := 8) hX dX6_writes_8 rfl 1 rfl ?_
  obtain ⟨g1, h⟩ := gz_gu h
  obtain ⟨m2, em2, h⟩ := gz_lt h
  refine mz_iast (pc := 9) (c := 1103) (n := 32) hX rfl rfl g1 (Nat.le_of_ble_eq_true rfl) dX6_writes_9 em2 ?_
  refine gz_aload_n (pc := 10) hX dX6_writes_10 rfl 0 rfl ?_
  refine gz_dup (pc := 11) hX dX6_writes_11 rfl ?_
  refine mg_103 (pc := 12) hX dX6_writes_12 ?_
  refine gz_iconst (pc := 15) (v := (1 : Int32)) hX dX6_writes_15 (by decide) ?_
  refine gz_iadd (pc := 16) hX dX6_writes_16 ?_
  obtain ⟨m3, em3, h⟩ := gz_lt h
  refine mp_103 (pc := 17) hX dX6_writes_17 em3 ?_
  obtain rfl := Option.some.inj h
  exact hk _ _ dX6_writes_20
theorem mt_writes {G : gz_G} {l : Launch} {x1 : Int32}  {m m9 : MM} (h : mf_writes x1 m = some ((), m9)) : gz_Met mS G l yX6_writes cX6_writes 2 none (mRm 0 0) [.ref (gz_ad G 2000), .int x1] (mF m) (mF m9) none :=
  gz_ofV (plainFor_of_name mz_plain) (Nat.le_of_ble_eq_true rfl) fun X _ hX hk => wm_writes hX h hk
theorem mc_writes {X : gz_X} {G : gz_G} {cc : ByteArray} {nL fr lo pc : Nat} {lv : List (Nat × Value)} {rest st0 : List Value} (hX : gz_C mS X G cc nL RX6 fr lo) {x1 : Int32}  {m m9 : MM} (h : mf_writes x1 m = some ((), m9)) (hroom : 0 + 1 ≤ fr ∧ 8 + (2 + 11) + 0 ≤ lo) (hst : st0 = [.int x1, .ref (gz_ad G 2000)] ++ rest) (hW : (rest.map fun v => v.category).sum ≤ 8) (hd : decode cc pc = .ok (.invokevirtual 689, 3)) (kk : gz_V mS X G nL (0, 0) (mF m9) (pc + 3) lv (rest)) : gz_V mS X G nL (0, 0) (mF m) pc lv st0 :=
  gz_callV hX mz_E (As := [.int x1]) (rest := rest) (q := (RX6, TX6, 104)) (ci := 0) (c := 2000) (mt_writes (l := X.2.1) h) (lw_V q2633 q2635 qs164 q182 q2636) (n := 1) (by decide +kernel) hroom rfl rfl (by decide) rfl hst hW hd (rem := (0, 0)) kk
/-! checked([II)I -/
def mP_X6_checked_6 (X : gz_X) (G : gz_G) (c0 : Nat) (q : (Int32 × Int32 × Int32 × MM)) : Prop := gz_V mS X G 4 (0, 0) (mF q.2.2.2) 6 [(0, .ref (gz_ad G c0)), (1, .int q.1), (2, .int q.2.1), (3, .int q.2.2.1)] []
noncomputable def mb_X6_checked_6 (c0 : Nat) (x1 : Int32) (x2 : Int32) (x3 : Int32) (m : MM) : Option ((Int32 × Int32 × Int32 × MM) ⊕ (Int32 × MM)) :=
  (if x1 ≤ x3 then some (Sum.inr (x2, m)) else (if gz_in x3 (nM c0) then gz_let (((((3 : Int32) * x2) + (m.1 c0 (gz_ix x3))) - (((3 : Int32) * x2) + (m.1 c0 (gz_ix x3))) / (251 : Int32) * (251 : Int32))) fun y3 => gz_let (x3 + (1 : Int32)) fun y4 => some (Sum.inl (x1, y3, y4, m)) else none))
theorem wb_X6_checked_6 {X : gz_X} {G : gz_G} (hX : gz_C mS X G cX6_checked 4 RX6 0 0) {c0 : Nat} {x1 : Int32} {x2 : Int32} {x3 : Int32} (hc_0 : kM c0 = 101) {m : MM} {z : ((Int32 × Int32 × Int32 × MM) ⊕ (Int32 × MM))} (h : mb_X6_checked_6 c0 x1 x2 x3 m = some z) (hk : (Sum.elim (mP_X6_checked_6 X G c0) (fun z : (Int32 × MM) => gz_kI mS X G 4 (0, 0) cX6_checked (mF z.2) z.1)) z) : gz_V mS X G 4 (0, 0) (mF m) 6 [(0, .ref (gz_ad G c0)), (1, .int x1), (2, .int x2), (3, .int x3)] [] := by
  unfold mb_X6_checked_6 at h
  refine gz_iload_n (pc := 6) hX dX6_checked_6 rfl 3 rfl ?_
  refine gz_iload_n (pc := 7) hX dX6_checked_7 rfl 1 rfl ?_
  refine gz_icmp_ge (pc := 8) (tgt := 29) hX dX6_checked_8 (by decide) (fun g1 => ?_) (fun g1 => ?_)
  · replace h := gz_it' g1 h
    refine gz_iload_n (pc := 29) hX dX6_checked_29 rfl 2 rfl ?_
    obtain rfl := Option.some.inj h
    exact hk _ _ dX6_checked_30
  · replace h := gz_if' g1 h
    refine gz_iconst (pc := 11) (v := (3 : Int32)) hX dX6_checked_11 (by decide) ?_
    refine gz_iload_n (pc := 12) hX dX6_checked_12 rfl 2 rfl ?_
    refine gz_imul (pc := 13) hX dX6_checked_13 ?_
    refine gz_aload_n (pc := 14) hX dX6_checked_14 rfl 0 rfl ?_
    refine gz_iload_n (pc := 15) hX dX6_checked_15 rfl 3 rfl ?_
    obtain ⟨g2, h⟩ := gz_gu h
    refine mz_iald (pc := 16) (c := c0) (n := nM c0) hX hc_0 rfl g2 dX6_checked_16 ?_
    refine gz_iadd (pc := 17) hX dX6_checked_17 ?_
    refine gz_sipush (pc := 18) (v := (251 : Int32)) hX dX6_checked_18 (by decide) ?_
    refine gz_irem (pc := 21) hX dX6_checked_21 (by decide) ?_
    obtain ⟨y3, ey3, h⟩ := gz_lt h
    refine gz_topi ey3 ?_
    refine gz_istore_n (pc := 22) (lw := [(2, .int y3), (0, .ref (gz_ad G c0)), (1, .int x1), (3, .int x3)]) hX dX6_checked_22 rfl (by decide) rfl ?_
    obtain ⟨y4, ey4, h⟩ := gz_lt h
    refine gz_iinc (pc := 23) (v := y4) (lw := [(3, .int y4), (2, .int y3), (0, .ref (gz_ad G c0)), (1, .int x1)]) hX dX6_checked_23 (k := 3) rfl (by rw [ey4]; rfl) (by decide) rfl ?_
    refine gz_goto (pc := 26) (tgt := 6) hX dX6_checked_26 (by decide) ?_
    refine gz_sub (lw := [(0, .ref (gz_ad G c0)), (1, .int x1), (2, .int y3), (3, .int y4)]) [2, 3, 1, 0] rfl ?_
    obtain rfl := Option.some.inj h
    exact hk
noncomputable def ml_X6_checked_6 (c0 : Nat) (x1 : Int32) (x2 : Int32) (x3 : Int32) (m : MM) : Option (Int32 × MM) := gz_loop (fun q : (Int32 × Int32 × Int32 × MM) => mb_X6_checked_6 c0 q.1 q.2.1 q.2.2.1 q.2.2.2) (x1, x2, x3, m)
theorem wl_X6_checked_6 {X : gz_X} {G : gz_G} (hX : gz_C mS X G cX6_checked 4 RX6 0 0) {c0 : Nat} {x1 : Int32} {x2 : Int32} {x3 : Int32} (hc_0 : kM c0 = 101) {m : MM} {z : (Int32 × MM)} (h : ml_X6_checked_6 c0 x1 x2 x3 m = some z) (hk : (fun z : (Int32 × MM) => gz_kI mS X G 4 (0, 0) cX6_checked (mF z.2) z.1) z) : gz_V mS X G 4 (0, 0) (mF m) 6 [(0, .ref (gz_ad G c0)), (1, .int x1), (2, .int x2), (3, .int x3)] [] := by
  have hp : mP_X6_checked_6 X G c0 (x1, x2, x3, m) := gz_loop_ind (fun q z hz hkz => wb_X6_checked_6 hX hc_0 hz hkz) h hk
  exact hp
noncomputable def mf_checked (c0 : Nat) (x1 : Int32) (m : MM) : Option (Int32 × MM) :=
  (ml_X6_checked_6 c0 x1 (211 : Int32) (0 : Int32) m)
theorem wm_checked {X : gz_X} {G : gz_G} (hX : gz_C mS X G cX6_checked 4 RX6 0 0) {c0 : Nat} {x1 : Int32} (hc_0 : kM c0 = 101) {m : MM} {z : (Int32 × MM)} (h : mf_checked c0 x1 m = some z) (hk : (fun z : (Int32 × MM) => gz_kI mS X G 4 (0, 0) cX6_checked (mF z.2) z.1) z) : gz_V mS X G 4 (0, 0) (mF m) 0 [(0, .ref (gz_ad G c0)), (1, .int x1)] [] := by
  unfold mf_checked at h
  refine gz_sipush (pc := 0) (v := (211 : Int32)) hX dX6_checked_0 (by decide) ?_
  refine gz_istore_n (pc := 3) (lw := [(2, .int (211 : Int32)), (0, .ref (gz_ad G c0)), (1, .int x1)]) hX dX6_checked_3 rfl (by decide) rfl ?_
  refine gz_iconst (pc := 4) (v := (0 : Int32)) hX dX6_checked_4 (by decide) ?_
  refine gz_istore_n (pc := 5) (lw := [(3, .int (0 : Int32)), (2, .int (211 : Int32)), (0, .ref (gz_ad G c0)), (1, .int x1)]) hX dX6_checked_5 rfl (by decide) rfl ?_
  refine gz_sub (lw := [(0, .ref (gz_ad G c0)), (1, .int x1), (2, .int (211 : Int32)), (3, .int (0 : Int32))]) [2, 3, 1, 0] rfl ?_
  exact wl_X6_checked_6 hX hc_0 h hk
theorem mt_checked {G : gz_G} {l : Launch} {c0 : Nat} {x1 : Int32} (hc_0 : kM c0 = 101) {m m9 : MM} {r : Int32} (h : mf_checked c0 x1 m = some (r, m9)) : gz_Met mS G l yX6_checked cX6_checked 4 (some .int) (mRm 0 0) [.ref (gz_ad G c0), .int x1] (mF m) (mF m9) (some (.int r)) :=
  gz_ofI (plainFor_of_name mz_plain) (Nat.le_of_ble_eq_true rfl) fun X _ hX hk => wm_checked hX hc_0 h hk
theorem mc_checked {X : gz_X} {G : gz_G} {cc : ByteArray} {nL fr lo pc : Nat} {lv : List (Nat × Value)} {rest st0 : List Value} (hX : gz_C mS X G cc nL RX6 fr lo) {c0 : Nat} {x1 : Int32} (hc_0 : kM c0 = 101) {m m9 : MM} {r : Int32} (h : mf_checked c0 x1 m = some (r, m9)) (hroom : 0 + 1 ≤ fr ∧ 8 + (4 + 11) + 0 ≤ lo) (hst : st0 = [.int x1, .ref (gz_ad G c0)] ++ rest) (hW : (rest.map fun v => v.category).sum ≤ 8) (hd : decode cc pc = .ok (.invokestatic 692, 3)) (kk : gz_V mS X G nL (0, 0) (mF m9) (pc + 3) lv (.int r :: rest)) : gz_V mS X G nL (0, 0) (mF m) pc lv st0 :=
  gz_callS hX mz_E (As := [.ref (gz_ad G c0), .int x1]) (rest := rest) (mt_checked (l := X.2.1) hc_0 h) (lw_S q2637 q2638 q182 q2639) (n := 2) (by decide +kernel) hroom rfl hst hW hd (rem := (0, 0)) kk
/-! image()I -/
def mP_X6_image_45 (X : gz_X) (G : gz_G) (q : (Int32 × MM)) : Prop := gz_V mS X G 2 (0, 0) (mF q.2) 45 [(0, .ref (gz_ad G 2000)), (1, .int q.1)] []
def mP_X6_image_73 (X : gz_X) (G : gz_G) (q : (Int32 × MM)) : Prop := gz_V mS X G 2 (0, 0) (mF q.2) 73 [(0, .ref (gz_ad G 2000)), (1, .int q.1)] []
noncomputable def mb_X6_image_73 (x1 : Int32) (m : MM) : Option ((Int32 × MM) ⊕ (Int32 × MM)) :=
  ((mf_thingMany m).bind fun (r1, m2) => (if ((2 : Int32) * r1) ≤ x1 then ((mf_checked 1103 (m2.1 2000 103) m2).bind fun (r5, m6) => ((mf_writes r5 m6).bind fun (_, m9) => some (Sum.inr ((m9.1 2000 103), m9)))) else (if gz_in ((14 : Int32) + x1) (151) then ((mf_writes (m2.1 1051 (gz_ix ((14 : Int32) + x1))) m2).bind fun (_, m13) => gz_let (x1 + (1 : Int32)) fun y15 => some (Sum.inl (y15, m13))) else none)))
theorem wb_X6_image_73 {X : gz_X} {G : gz_G} (hX : gz_C mS X G cX6_image 2 RX6 1 23) {x1 : Int32}  {m : MM} {z : ((Int32 × MM) ⊕ (Int32 × MM))} (h : mb_X6_image_73 x1 m = some z) (hk : (Sum.elim (mP_X6_image_73 X G) (fun z : (Int32 × MM) => gz_kI mS X G 2 (0, 0) cX6_image (mF z.2) z.1)) z) : gz_V mS X G 2 (0, 0) (mF m) 73 [(0, .ref (gz_ad G 2000)), (1, .int x1)] [] := by
  unfold mb_X6_image_73 at h
  refine gz_iload_n (pc := 73) hX dX6_image_73 rfl 1 rfl ?_
  refine gz_iconst (pc := 74) (v := (2 : Int32)) hX dX6_image_74 (by decide) ?_
  refine gz_aload_n (pc := 75) hX dX6_image_75 rfl 0 rfl ?_
  obtain ⟨⟨r1, m2⟩, c3, h⟩ := gz_bd h
  refine mc_thingMany (pc := 76) hX c3 ⟨Nat.le_of_ble_eq_true rfl, Nat.le_of_ble_eq_true rfl⟩ (rest := [.int (2 : Int32), .int x1]) rfl (Nat.le_of_ble_eq_true rfl) dX6_image_76 ?_
  refine gz_imul (pc := 79) hX dX6_image_79 ?_
  refine gz_icmp_ge (pc := 80) (tgt := 102) hX dX6_image_80 (by decide) (fun g4 => ?_) (fun g4 => ?_)
  · replace h := gz_it' g4 h
    refine gz_aload_n (pc := 102) hX dX6_image_102 rfl 0 rfl ?_
    refine gz_aload_n (pc := 103) hX dX6_image_103 rfl 0 rfl ?_
    refine mg_102 (pc := 104) hX dX6_image_104 ?_
    refine gz_aload_n (pc := 107) hX dX6_image_107 rfl 0 rfl ?_
    refine mg_103 (pc := 108) hX dX6_image_108 ?_
    obtain ⟨⟨r5, m6⟩, c7, h⟩ := gz_bd h
    refine mc_checked (pc := 111) hX rfl c7 ⟨Nat.le_of_ble_eq_true rfl, Nat.le_of_ble_eq_true rfl⟩ (rest := [.ref (gz_ad G 2000)]) rfl (Nat.le_of_ble_eq_true rfl) dX6_image_111 ?_
    obtain ⟨⟨⟨⟩, m9⟩, c10, h⟩ := gz_bd h
    refine mc_writes (pc := 114) hX c10 ⟨Nat.le_of_ble_eq_true rfl, Nat.le_of_ble_eq_true rfl⟩ (rest := []) rfl (Nat.le_of_ble_eq_true rfl) dX6_image_114 ?_
    refine gz_aload_n (pc := 117) hX dX6_image_117 rfl 0 rfl ?_
    refine mg_103 (pc := 118) hX dX6_image_118 ?_
    obtain rfl := Option.some.inj h
    exact hk _ _ dX6_image_121
  · replace h := gz_if' g4 h
    refine gz_aload_n (pc := 83) hX dX6_image_83 rfl 0 rfl ?_
    refine gz_aload_n (pc := 84) hX dX6_image_84 rfl 0 rfl ?_
    refine mg_50 (pc := 85) hX dX6_image_85 ?_
    refine gz_bipush (pc := 88) (v := (14 : Int32)) hX dX6_image_88 (by decide) ?_
    refine gz_iload_n (pc := 90) hX dX6_image_90 rfl 1 rfl ?_
    refine gz_iadd (pc := 91) hX dX6_image_91 ?_
    obtain ⟨g11, h⟩ := gz_gu h
    refine mz_iald (pc := 92) (c := 1051) (n := 151) hX rfl rfl g11 dX6_image_92 ?_
    obtain ⟨⟨⟨⟩, m13⟩, c14, h⟩ := gz_bd h
    refine mc_writes (pc := 93) hX c14 ⟨Nat.le_of_ble_eq_true rfl, Nat.le_of_ble_eq_true rfl⟩ (rest := []) rfl (Nat.le_of_ble_eq_true rfl) dX6_image_93 ?_
    obtain ⟨y15, ey15, h⟩ := gz_lt h
    refine gz_iinc (pc := 96) (v := y15) (lw := [(1, .int y15), (0, .ref (gz_ad G 2000))]) hX dX6_image_96 (k := 1) rfl (by rw [ey15]; rfl) (by decide) rfl ?_
    refine gz_goto (pc := 99) (tgt := 73) hX dX6_image_99 (by decide) ?_
    refine gz_sub (lw := [(0, .ref (gz_ad G 2000)), (1, .int y15)]) [1, 0] rfl ?_
    obtain rfl := Option.some.inj h
    exact hk
noncomputable def ml_X6_image_73 (x1 : Int32) (m : MM) : Option (Int32 × MM) := gz_loop (fun q : (Int32 × MM) => mb_X6_image_73 q.1 q.2) (x1, m)
theorem wl_X6_image_73 {X : gz_X} {G : gz_G} (hX : gz_C mS X G cX6_image 2 RX6 1 23) {x1 : Int32}  {m : MM} {z : (Int32 × MM)} (h : ml_X6_image_73 x1 m = some z) (hk : (fun z : (Int32 × MM) => gz_kI mS X G 2 (0, 0) cX6_image (mF z.2) z.1) z) : gz_V mS X G 2 (0, 0) (mF m) 73 [(0, .ref (gz_ad G 2000)), (1, .int x1)] [] := by
  have hp : mP_X6_image_73 X G (x1, m) := gz_loop_ind (fun q z hz hkz => wb_X6_image_73 hX  hz hkz) h hk
  exact hp
noncomputable def mb_X6_image_45 (x1 : Int32) (m : MM) : Option ((Int32 × MM) ⊕ (Int32 × MM)) :=
  ((mf_tieMany m).bind fun (r1, m2) => (if r1 ≤ x1 then (Option.map Sum.inr (ml_X6_image_73 (0 : Int32) m2)) else (if gz_in ((2 : Int32) + x1) (151) then ((mf_writes (m2.1 1051 (gz_ix ((2 : Int32) + x1))) m2).bind fun (_, m7) => gz_let (x1 + (1 : Int32)) fun y9 => some (Sum.inl (y9, m7))) else none)))
theorem wb_X6_image_45 {X : gz_X} {G : gz_G} (hX : gz_C mS X G cX6_image 2 RX6 1 23) {x1 : Int32}  {m : MM} {z : ((Int32 × MM) ⊕ (Int32 × MM))} (h : mb_X6_image_45 x1 m = some z) (hk : (Sum.elim (mP_X6_image_45 X G) (fun z : (Int32 × MM) => gz_kI mS X G 2 (0, 0) cX6_image (mF z.2) z.1)) z) : gz_V mS X G 2 (0, 0) (mF m) 45 [(0, .ref (gz_ad G 2000)), (1, .int x1)] [] := by
  unfold mb_X6_image_45 at h
  refine gz_iload_n (pc := 45) hX dX6_image_45 rfl 1 rfl ?_
  refine gz_aload_n (pc := 46) hX dX6_image_46 rfl 0 rfl ?_
  obtain ⟨⟨r1, m2⟩, c3, h⟩ := gz_bd h
  refine mc_tieMany (pc := 47) hX c3 ⟨Nat.le_of_ble_eq_true rfl, Nat.le_of_ble_eq_true rfl⟩ (rest := [.int x1]) rfl (Nat.le_of_ble_eq_true rfl) dX6_image_47 ?_
  refine gz_icmp_ge (pc := 50) (tgt := 71) hX dX6_image_50 (by decide) (fun g4 => ?_) (fun g4 => ?_)
  · replace h := gz_it' g4 h
    refine gz_iconst (pc := 71) (v := (0 : Int32)) hX dX6_image_71 (by decide) ?_
    refine gz_istore_n (pc := 72) (lw := [(1, .int (0 : Int32)), (0, .ref (gz_ad G 2000))]) hX dX6_image_72 rfl (by decide) rfl ?_
    refine gz_sub (lw := [(0, .ref (gz_ad G 2000)), (1, .int (0 : Int32))]) [1, 0] rfl ?_
    obtain ⟨z0, hm0, rfl⟩ := gz_mp h
    exact wl_X6_image_73 hX hm0 hk
  · replace h := gz_if' g4 h
    refine gz_aload_n (pc := 53) hX dX6_image_53 rfl 0 rfl ?_
    refine gz_aload_n (pc := 54) hX dX6_image_54 rfl 0 rfl ?_
    refine mg_50 (pc := 55) hX dX6_image_55 ?_
    refine gz_iconst (pc := 58) (v := (2 : Int32)) hX dX6_image_58 (by decide) ?_
    refine gz_iload_n (pc := 59) hX dX6_image_59 rfl 1 rfl ?_
    refine gz_iadd (pc := 60) hX dX6_image_60 ?_
    obtain ⟨g5, h⟩ := gz_gu h
    refine mz_iald (pc := 61) (c := 1051) (n := 151) hX rfl rfl g5 dX6_image_61 ?_
    obtain ⟨⟨⟨⟩, m7⟩, c8, h⟩ := gz_bd h
    refine mc_writes (pc := 62) hX c8 ⟨Nat.le_of_ble_eq_true rfl, Nat.le_of_ble_eq_true rfl⟩ (rest := []) rfl (Nat.le_of_ble_eq_true rfl) dX6_image_62 ?_
    obtain ⟨y9, ey9, h⟩ := gz_lt h
    refine gz_iinc (pc := 65) (v := y9) (lw := [(1, .int y9), (0, .ref (gz_ad G 2000))]) hX dX6_image_65 (k := 1) rfl (by rw [ey9]; rfl) (by decide) rfl ?_
    refine gz_goto (pc := 68) (tgt := 45) hX dX6_image_68 (by decide) ?_
    refine gz_sub (lw := [(0, .ref (gz_ad G 2000)), (1, .int y9)]) [1, 0] rfl ?_
    obtain rfl := Option.some.inj h
    exact hk
noncomputable def ml_X6_image_45 (x1 : Int32) (m : MM) : Option (Int32 × MM) := gz_loop (fun q : (Int32 × MM) => mb_X6_image_45 q.1 q.2) (x1, m)
theorem wl_X6_image_45 {X : gz_X} {G : gz_G} (hX : gz_C mS X G cX6_image 2 RX6 1 23) {x1 : Int32}  {m : MM} {z : (Int32 × MM)} (h : ml_X6_image_45 x1 m = some z) (hk : (fun z : (Int32 × MM) => gz_kI mS X G 2 (0, 0) cX6_image (mF z.2) z.1) z) : gz_V mS X G 2 (0, 0) (mF m) 45 [(0, .ref (gz_ad G 2000)), (1, .int x1)] [] := by
  have hp : mP_X6_image_45 X G (x1, m) := gz_loop_ind (fun q z hz hkz => wb_X6_image_45 hX  hz hkz) h hk
  exact hp
noncomputable def mf_image  (m : MM) : Option (Int32 × MM) :=
  gz_let (msI m 2000 103 (0 : Int32)) fun m1 => (if gz_in (0 : Int32) (151) then ((mf_writes ((m1.1 1051 (gz_ix (0 : Int32))) / (256 : Int32)) m1).bind fun (_, m4) => (if gz_in (0 : Int32) (151) then ((mf_writes ((m4.1 1051 (gz_ix (0 : Int32))) - (m4.1 1051 (gz_ix (0 : Int32))) / (256 : Int32) * (256 : Int32)) m4).bind fun (_, m8) => (if gz_in (1 : Int32) (151) then ((mf_writes (m8.1 1051 (gz_ix (1 : Int32))) m8).bind fun (_, m12) => (ml_X6_image_45 (0 : Int32) m12)) else none)) else none)) else none)
theorem wm_image {X : gz_X} {G : gz_G} (hX : gz_C mS X G cX6_image 2 RX6 1 23)   {m : MM} {z : (Int32 × MM)} (h : mf_image  m = some z) (hk : (fun z : (Int32 × MM) => gz_kI mS X G 2 (0, 0) cX6_image (mF z.2) z.1) z) : gz_V mS X G 2 (0, 0) (mF m) 0 [(0, .ref (gz_ad G 2000))] [] := by
  unfold mf_image at h
  refine gz_aload_n (pc := 0) hX dX6_image_0 rfl 0 rfl ?_
  refine gz_iconst (pc := 1) (v := (0 : Int32)) hX dX6_image_1 (by decide) ?_
  obtain ⟨m1, em1, h⟩ := gz_lt h
  refine mp_103 (pc := 2) hX dX6_image_2 em1 ?_
  refine gz_aload_n (pc := 5) hX dX6_image_5 rfl 0 rfl ?_
  refine gz_aload_n (pc := 6) hX dX6_image_6 rfl 0 rfl ?_
  refine mg_50 (pc := 7) hX dX6_image_7 ?_
  refine gz_iconst (pc := 10) (v := (0 : Int32)) hX dX6_image_10 (by decide) ?_
  obtain ⟨g2, h⟩ := gz_gu h
  refine mz_iald (pc := 11) (c := 1051) (n := 151) hX rfl rfl g2 dX6_image_11 ?_
  refine gz_sipush (pc := 12) (v := (256 : Int32)) hX dX6_image_12 (by decide) ?_
  refine gz_idiv (pc := 15) hX dX6_image_15 (by decide) ?_
  obtain ⟨⟨⟨⟩, m4⟩, c5, h⟩ := gz_bd h
  refine mc_writes (pc := 16) hX c5 ⟨Nat.le_of_ble_eq_true rfl, Nat.le_of_ble_eq_true rfl⟩ (rest := []) rfl (Nat.le_of_ble_eq_true rfl) dX6_image_16 ?_
  refine gz_aload_n (pc := 19) hX dX6_image_19 rfl 0 rfl ?_
  refine gz_aload_n (pc := 20) hX dX6_image_20 rfl 0 rfl ?_
  refine mg_50 (pc := 21) hX dX6_image_21 ?_
  refine gz_iconst (pc := 24) (v := (0 : Int32)) hX dX6_image_24 (by decide) ?_
  obtain ⟨g6, h⟩ := gz_gu h
  refine mz_iald (pc := 25) (c := 1051) (n := 151) hX rfl rfl g6 dX6_image_25 ?_
  refine gz_sipush (pc := 26) (v := (256 : Int32)) hX dX6_image_26 (by decide) ?_
  refine gz_irem (pc := 29) hX dX6_image_29 (by decide) ?_
  obtain ⟨⟨⟨⟩, m8⟩, c9, h⟩ := gz_bd h
  refine mc_writes (pc := 30) hX c9 ⟨Nat.le_of_ble_eq_true rfl, Nat.le_of_ble_eq_true rfl⟩ (rest := []) rfl (Nat.le_of_ble_eq_true rfl) dX6_image_30 ?_
  refine gz_aload_n (pc := 33) hX dX6_image_33 rfl 0 rfl ?_
  refine gz_aload_n (pc := 34) hX dX6_image_34 rfl 0 rfl ?_
  refine mg_50 (pc := 35) hX dX6_image_35 ?_
  refine gz_iconst (pc := 38) (v := (1 : Int32)) hX dX6_image_38 (by decide) ?_
  obtain ⟨g10, h⟩ := gz_gu h
  refine mz_iald (pc := 39) (c := 1051) (n := 151) hX rfl rfl g10 dX6_image_39 ?_
  obtain ⟨⟨⟨⟩, m12⟩, c13, h⟩ := gz_bd h
  refine mc_writes (pc := 40) hX c13 ⟨Nat.le_of_ble_eq_true rfl, Nat.le_of_ble_eq_true rfl⟩ (rest := []) rfl (Nat.le_of_ble_eq_true rfl) dX6_image_40 ?_
  refine gz_iconst (pc := 43) (v := (0 : Int32)) hX dX6_image_43 (by decide) ?_
  refine gz_istore_n (pc := 44) (lw := [(1, .int (0 : Int32)), (0, .ref (gz_ad G 2000))]) hX dX6_image_44 rfl (by decide) rfl ?_
  refine gz_sub (lw := [(0, .ref (gz_ad G 2000)), (1, .int (0 : Int32))]) [1, 0] rfl ?_
  exact wl_X6_image_45 hX h hk
theorem mt_image {G : gz_G} {l : Launch}   {m m9 : MM} {r : Int32} (h : mf_image  m = some (r, m9)) : gz_Met mS G l yX6_image cX6_image 2 (some .int) (mRm 1 23) [.ref (gz_ad G 2000)] (mF m) (mF m9) (some (.int r)) :=
  gz_ofI (plainFor_of_name mz_plain) (Nat.le_of_ble_eq_true rfl) fun X _ hX hk => wm_image hX h hk
/-! octet(I)I -/
noncomputable def mj_X6_octet_21  (m : MM) : Option (Int32 × MM) :=
  some ((-1 : Int32), m)
theorem wb_X6_octet_21 {X : gz_X} {G : gz_G} (hX : gz_C mS X G cX6_octet 2 RX6 0 0)   {m : MM} {z : (Int32 × MM)} (h : mj_X6_octet_21  m = some z) (hk : (fun z : (Int32 × MM) => gz_kI mS X G 2 (0, 0) cX6_octet (mF z.2) z.1) z) : gz_V mS X G 2 (0, 0) (mF m) 21 [(0, .ref (gz_ad G 2000))] [] := by
  unfold mj_X6_octet_21 at h
  refine gz_iconst (pc := 21) (v := (-1 : Int32)) hX dX6_octet_21 (by decide) ?_
  obtain rfl := Option.some.inj h
  exact hk _ _ dX6_octet_22
noncomputable def mf_octet (x1 : Int32) (m : MM) : Option (Int32 × MM) :=
  (if x1 < (0 : Int32) then (mj_X6_octet_21  m) else (if (m.1 2000 103) ≤ x1 then (mj_X6_octet_21  m) else (if gz_in x1 (32) then some ((m.1 1103 (gz_ix x1)), m) else none)))
theorem wm_octet {X : gz_X} {G : gz_G} (hX : gz_C mS X G cX6_octet 2 RX6 0 0) {x1 : Int32}  {m : MM} {z : (Int32 × MM)} (h : mf_octet x1 m = some z) (hk : (fun z : (Int32 × MM) => gz_kI mS X G 2 (0, 0) cX6_octet (mF z.2) z.1) z) : gz_V mS X G 2 (0, 0) (mF m) 0 [(0, .ref (gz_ad G 2000)), (1, .int x1)] [] := by
  unfold mf_octet at h
  refine gz_iload_n (pc := 0) hX dX6_octet_0 rfl 1 rfl ?_
  refine gz_if_lt (pc := 1) (tgt := 21) hX dX6_octet_1 (by decide) (fun g1 => ?_) (fun g1 => ?_)
  · replace h := gz_it' g1 h
    refine gz_sub (lw := [(0, .ref (gz_ad G 2000))]) [0] rfl ?_
    exact wb_X6_octet_21 hX h hk
  · replace h := gz_if' g1 h
    refine gz_iload_n (pc := 4) hX dX6_octet_4 rfl 1 rfl ?_
    refine gz_aload_n (pc := 5) hX dX6_octet_5 rfl 0 rfl ?_
    refine mg_103 (pc := 6) hX dX6_octet_6 ?_
    refine gz_icmp_ge (pc := 9) (tgt := 21) hX dX6_octet_9 (by decide) (fun g2 => ?_) (fun g2 => ?_)
    · replace h := gz_it' g2 h
      refine gz_sub (lw := [(0, .ref (gz_ad G 2000))]) [0] rfl ?_
      exact wb_X6_octet_21 hX h hk
    · replace h := gz_if' g2 h
      refine gz_aload_n (pc := 12) hX dX6_octet_12 rfl 0 rfl ?_
      refine mg_102 (pc := 13) hX dX6_octet_13 ?_
      refine gz_iload_n (pc := 16) hX dX6_octet_16 rfl 1 rfl ?_
      obtain ⟨g3, h⟩ := gz_gu h
      refine mz_iald (pc := 17) (c := 1103) (n := 32) hX rfl rfl g3 dX6_octet_17 ?_
      refine gz_goto (pc := 18) (tgt := 22) hX dX6_octet_18 (by decide) ?_
      obtain rfl := Option.some.inj h
      exact hk _ _ dX6_octet_22
theorem mt_octet {G : gz_G} {l : Launch} {x1 : Int32}  {m m9 : MM} {r : Int32} (h : mf_octet x1 m = some (r, m9)) : gz_Met mS G l yX6_octet cX6_octet 2 (some .int) (mRm 0 0) [.ref (gz_ad G 2000), .int x1] (mF m) (mF m9) (some (.int r)) :=
  gz_ofI (plainFor_of_name mz_plain) (Nat.le_of_ble_eq_true rfl) fun X _ hX hk => wm_octet hX h hk
/-! isImage(I)Z -/
noncomputable def mj_X6_isImage_91  (m : MM) : Option (Int32 × MM) :=
  some ((0 : Int32), m)
theorem wb_X6_isImage_91 {X : gz_X} {G : gz_G} (hX : gz_C mS X G cX6_isImage 4 RX6 1 23)   {m : MM} {z : (Int32 × MM)} (h : mj_X6_isImage_91  m = some z) (hk : (fun z : (Int32 × MM) => gz_kZ mS X G 4 (0, 0) cX6_isImage (mF z.2) z.1) z) : gz_V mS X G 4 (0, 0) (mF m) 91 [(0, .ref (gz_ad G 2000))] [] := by
  unfold mj_X6_isImage_91 at h
  refine gz_iconst (pc := 91) (v := (0 : Int32)) hX dX6_isImage_91 (by decide) ?_
  obtain rfl := Option.some.inj h
  exact hk _ _ dX6_isImage_92 (Or.inl rfl)
def mP_X6_isImage_95 (X : gz_X) (G : gz_G) (q : (Int32 × Int32 × Int32 × MM)) : Prop := gz_V mS X G 4 (0, 0) (mF q.2.2.2) 95 [(0, .ref (gz_ad G 2000)), (1, .int q.1), (2, .int q.2.1), (3, .int q.2.2.1)] []
def mP_X6_isImage_120 (X : gz_X) (G : gz_G) (q : (Int32 × Int32 × MM)) : Prop := gz_V mS X G 4 (0, 0) (mF q.2.2) 120 [(0, .ref (gz_ad G 2000)), (1, .int q.1), (3, .int q.2.1)] []
noncomputable def mj_X6_isImage_164  (m : MM) : Option (Int32 × MM) :=
  some ((0 : Int32), m)
theorem wb_X6_isImage_164 {X : gz_X} {G : gz_G} (hX : gz_C mS X G cX6_isImage 4 RX6 1 23)   {m : MM} {z : (Int32 × MM)} (h : mj_X6_isImage_164  m = some z) (hk : (fun z : (Int32 × MM) => gz_kZ mS X G 4 (0, 0) cX6_isImage (mF z.2) z.1) z) : gz_V mS X G 4 (0, 0) (mF m) 164 [(0, .ref (gz_ad G 2000))] [] := by
  unfold mj_X6_isImage_164 at h
  refine gz_iconst (pc := 164) (v := (0 : Int32)) hX dX6_isImage_164 (by decide) ?_
  obtain rfl := Option.some.inj h
  exact hk _ _ dX6_isImage_165 (Or.inl rfl)
noncomputable def mj_X6_isImage_161 (x1 : Int32) (x3 : Int32) (s0 : Int32) (s1 : Int32) (m : MM) : Option ((Int32 × Int32 × MM) ⊕ (Int32 × MM)) :=
  (if s1 ≤ s0 then gz_let (x3 + (2 : Int32)) fun y2 => some (Sum.inl (x1, y2, m)) else (Option.map Sum.inr (mj_X6_isImage_164  m)))
theorem wb_X6_isImage_161 {X : gz_X} {G : gz_G} (hX : gz_C mS X G cX6_isImage 4 RX6 1 23) {x1 : Int32} {x3 : Int32} {s0 : Int32} {s1 : Int32}  {m : MM} {z : ((Int32 × Int32 × MM) ⊕ (Int32 × MM))} (h : mj_X6_isImage_161 x1 x3 s0 s1 m = some z) (hk : (Sum.elim (mP_X6_isImage_120 X G) (fun z : (Int32 × MM) => gz_kZ mS X G 4 (0, 0) cX6_isImage (mF z.2) z.1)) z) : gz_V mS X G 4 (0, 0) (mF m) 161 [(0, .ref (gz_ad G 2000)), (1, .int x1), (3, .int x3)] [.int s0, .int s1] := by
  unfold mj_X6_isImage_161 at h
  refine gz_icmp_le (pc := 161) (tgt := 166) hX dX6_isImage_161 (by decide) (fun g1 => ?_) (fun g1 => ?_)
  · replace h := gz_it' g1 h
    obtain ⟨y2, ey2, h⟩ := gz_lt h
    refine gz_iinc (pc := 166) (v := y2) (lw := [(3, .int y2), (0, .ref (gz_ad G 2000)), (1, .int x1)]) hX dX6_isImage_166 (k := 2) rfl (by rw [ey2]; rfl) (by decide) rfl ?_
    refine gz_goto (pc := 169) (tgt := 120) hX dX6_isImage_169 (by decide) ?_
    refine gz_sub (lw := [(0, .ref (gz_ad G 2000)), (1, .int x1), (3, .int y2)]) [1, 2, 0] rfl ?_
    obtain rfl := Option.some.inj h
    exact hk
  · replace h := gz_if' g1 h
    refine gz_sub (lw := [(0, .ref (gz_ad G 2000))]) [0] rfl ?_
    obtain ⟨z0, hm0, rfl⟩ := gz_mp h
    exact wb_X6_isImage_164 hX hm0 hk
noncomputable def mb_X6_isImage_120 (x1 : Int32) (x3 : Int32) (m : MM) : Option ((Int32 × Int32 × MM) ⊕ (Int32 × MM)) :=
  (if (x1 - (1 : Int32)) ≤ x3 then some (Sum.inr ((1 : Int32), m)) else (if gz_in x3 (1600) then (if (99 : Int32) < (m.1 1001 (gz_ix x3)) then (Option.map Sum.inr (mj_X6_isImage_164  m)) else (if gz_in (x3 + (1 : Int32)) (1600) then (if gz_in x3 (1600) then (if (m.1 1001 (gz_ix x3)) ≤ (0 : Int32) then (mj_X6_isImage_161 x1 x3 (99 : Int32) (m.1 1001 (gz_ix (x3 + (1 : Int32)))) m) else (mj_X6_isImage_161 x1 x3 (0 : Int32) (m.1 1001 (gz_ix (x3 + (1 : Int32)))) m)) else none) else none)) else none))
theorem wb_X6_isImage_120 {X : gz_X} {G : gz_G} (hX : gz_C mS X G cX6_isImage 4 RX6 1 23) {x1 : Int32} {x3 : Int32}  {m : MM} {z : ((Int32 × Int32 × MM) ⊕ (Int32 × MM))} (h : mb_X6_isImage_120 x1 x3 m = some z) (hk : (Sum.elim (mP_X6_isImage_120 X G) (fun z : (Int32 × MM) => gz_kZ mS X G 4 (0, 0) cX6_isImage (mF z.2) z.1)) z) : gz_V mS X G 4 (0, 0) (mF m) 120 [(0, .ref (gz_ad G 2000)), (1, .int x1), (3, .int x3)] [] := by
  unfold mb_X6_isImage_120 at h
  refine gz_iload_n (pc := 120) hX dX6_isImage_120 rfl 2 rfl ?_
  refine gz_iload_n (pc := 121) hX dX6_isImage_121 rfl 1 rfl ?_
  refine gz_iconst (pc := 122) (v := (1 : Int32)) hX dX6_isImage_122 (by decide) ?_
  refine gz_isub (pc := 123) hX dX6_isImage_123 ?_
  refine gz_icmp_ge (pc := 124) (tgt := 172) hX dX6_isImage_124 (by decide) (fun g1 => ?_) (fun g1 => ?_)
  · replace h := gz_it' g1 h
    refine gz_iconst (pc := 172) (v := (1 : Int32)) hX dX6_isImage_172 (by decide) ?_
    obtain rfl := Option.some.inj h
    exact hk _ _ dX6_isImage_173 (Or.inr rfl)
  · replace h := gz_if' g1 h
    refine gz_aload_n (pc := 127) hX dX6_isImage_127 rfl 0 rfl ?_
    refine mg_0 (pc := 128) hX dX6_isImage_128 ?_
    refine gz_iload_n (pc := 131) hX dX6_isImage_131 rfl 2 rfl ?_
    obtain ⟨g2, h⟩ := gz_gu h
    refine mz_iald (pc := 132) (c := 1001) (n := 1600) hX rfl rfl g2 dX6_isImage_132 ?_
    refine gz_bipush (pc := 133) (v := (99 : Int32)) hX dX6_isImage_133 (by decide) ?_
    refine gz_icmp_gt (pc := 135) (tgt := 164) hX dX6_isImage_135 (by decide) (fun g3 => ?_) (fun g3 => ?_)
    · replace h := gz_it' g3 h
      refine gz_sub (lw := [(0, .ref (gz_ad G 2000))]) [0] rfl ?_
      obtain ⟨z0, hm0, rfl⟩ := gz_mp h
      exact wb_X6_isImage_164 hX hm0 hk
    · replace h := gz_if' g3 h
      refine gz_aload_n (pc := 138) hX dX6_isImage_138 rfl 0 rfl ?_
      refine mg_0 (pc := 139) hX dX6_isImage_139 ?_
      refine gz_iload_n (pc := 142) hX dX6_isImage_142 rfl 2 rfl ?_
      refine gz_iconst (pc := 143) (v := (1 : Int32)) hX dX6_isImage_143 (by decide) ?_
      refine gz_iadd (pc := 144) hX dX6_isImage_144 ?_
      obtain ⟨g4, h⟩ := gz_gu h
      refine mz_iald (pc := 145) (c := 1001) (n := 1600) hX rfl rfl g4 dX6_isImage_145 ?_
      refine gz_aload_n (pc := 146) hX dX6_isImage_146 rfl 0 rfl ?_
      refine mg_0 (pc := 147) hX dX6_isImage_147 ?_
      refine gz_iload_n (pc := 150) hX dX6_isImage_150 rfl 2 rfl ?_
      obtain ⟨g5, h⟩ := gz_gu h
      refine mz_iald (pc := 151) (c := 1001) (n := 1600) hX rfl rfl g5 dX6_isImage_151 ?_
      refine gz_if_le (pc := 152) (tgt := 159) hX dX6_isImage_152 (by decide) (fun g6 => ?_) (fun g6 => ?_)
      · replace h := gz_it' g6 h
        refine gz_bipush (pc := 159) (v := (99 : Int32)) hX dX6_isImage_159 (by decide) ?_
        exact wb_X6_isImage_161 hX h hk
      · replace h := gz_if' g6 h
        refine gz_iconst (pc := 155) (v := (0 : Int32)) hX dX6_isImage_155 (by decide) ?_
        refine gz_goto (pc := 156) (tgt := 161) hX dX6_isImage_156 (by decide) ?_
        exact wb_X6_isImage_161 hX h hk
noncomputable def ml_X6_isImage_120 (x1 : Int32) (x3 : Int32) (m : MM) : Option (Int32 × MM) := gz_loop (fun q : (Int32 × Int32 × MM) => mb_X6_isImage_120 q.1 q.2.1 q.2.2) (x1, x3, m)
theorem wl_X6_isImage_120 {X : gz_X} {G : gz_G} (hX : gz_C mS X G cX6_isImage 4 RX6 1 23) {x1 : Int32} {x3 : Int32}  {m : MM} {z : (Int32 × MM)} (h : ml_X6_isImage_120 x1 x3 m = some z) (hk : (fun z : (Int32 × MM) => gz_kZ mS X G 4 (0, 0) cX6_isImage (mF z.2) z.1) z) : gz_V mS X G 4 (0, 0) (mF m) 120 [(0, .ref (gz_ad G 2000)), (1, .int x1), (3, .int x3)] [] := by
  have hp : mP_X6_isImage_120 X G (x1, x3, m) := gz_loop_ind (fun q z hz hkz => wb_X6_isImage_120 hX  hz hkz) h hk
  exact hp
noncomputable def mb_X6_isImage_95 (x1 : Int32) (x2 : Int32) (x3 : Int32) (m : MM) : Option ((Int32 × Int32 × Int32 × MM) ⊕ (Int32 × MM)) :=
  (if x2 ≤ x3 then (Option.map Sum.inr (ml_X6_isImage_120 x1 x2 m)) else (if gz_in x3 (1600) then (if (m.1 1001 (gz_ix x3)) ≤ (1 : Int32) then gz_let (x3 + (1 : Int32)) fun y4 => some (Sum.inl (x1, x2, y4, m)) else some (Sum.inr ((0 : Int32), m))) else none))
theorem wb_X6_isImage_95 {X : gz_X} {G : gz_G} (hX : gz_C mS X G cX6_isImage 4 RX6 1 23) {x1 : Int32} {x2 : Int32} {x3 : Int32}  {m : MM} {z : ((Int32 × Int32 × Int32 × MM) ⊕ (Int32 × MM))} (h : mb_X6_isImage_95 x1 x2 x3 m = some z) (hk : (Sum.elim (mP_X6_isImage_95 X G) (fun z : (Int32 × MM) => gz_kZ mS X G 4 (0, 0) cX6_isImage (mF z.2) z.1)) z) : gz_V mS X G 4 (0, 0) (mF m) 95 [(0, .ref (gz_ad G 2000)), (1, .int x1), (2, .int x2), (3, .int x3)] [] := by
  unfold mb_X6_isImage_95 at h
  refine gz_iload_n (pc := 95) hX dX6_isImage_95 rfl 3 rfl ?_
  refine gz_iload_n (pc := 96) hX dX6_isImage_96 rfl 2 rfl ?_
  refine gz_icmp_ge (pc := 97) (tgt := 118) hX dX6_isImage_97 (by decide) (fun g1 => ?_) (fun g1 => ?_)
  · replace h := gz_it' g1 h
    refine gz_iload_n (pc := 118) hX dX6_isImage_118 rfl 2 rfl ?_
    refine gz_istore_n (pc := 119) (lw := [(3, .int x2), (0, .ref (gz_ad G 2000)), (1, .int x1), (2, .int x2)]) hX dX6_isImage_119 rfl (by decide) rfl ?_
    refine gz_sub (lw := [(0, .ref (gz_ad G 2000)), (1, .int x1), (3, .int x2)]) [1, 2, 0] rfl ?_
    obtain ⟨z0, hm0, rfl⟩ := gz_mp h
    exact wl_X6_isImage_120 hX hm0 hk
  · replace h := gz_if' g1 h
    refine gz_aload_n (pc := 100) hX dX6_isImage_100 rfl 0 rfl ?_
    refine mg_0 (pc := 101) hX dX6_isImage_101 ?_
    refine gz_iload_n (pc := 104) hX dX6_isImage_104 rfl 3 rfl ?_
    obtain ⟨g2, h⟩ := gz_gu h
    refine mz_iald (pc := 105) (c := 1001) (n := 1600) hX rfl rfl g2 dX6_isImage_105 ?_
    refine gz_iconst (pc := 106) (v := (1 : Int32)) hX dX6_isImage_106 (by decide) ?_
    refine gz_icmp_le (pc := 107) (tgt := 112) hX dX6_isImage_107 (by decide) (fun g3 => ?_) (fun g3 => ?_)
    · replace h := gz_it' g3 h
      obtain ⟨y4, ey4, h⟩ := gz_lt h
      refine gz_iinc (pc := 112) (v := y4) (lw := [(3, .int y4), (0, .ref (gz_ad G 2000)), (1, .int x1), (2, .int x2)]) hX dX6_isImage_112 (k := 3) rfl (by rw [ey4]; rfl) (by decide) rfl ?_
      refine gz_goto (pc := 115) (tgt := 95) hX dX6_isImage_115 (by decide) ?_
      refine gz_sub (lw := [(0, .ref (gz_ad G 2000)), (1, .int x1), (2, .int x2), (3, .int y4)]) [1, 2, 3, 0] rfl ?_
      obtain rfl := Option.some.inj h
      exact hk
    · replace h := gz_if' g3 h
      refine gz_iconst (pc := 110) (v := (0 : Int32)) hX dX6_isImage_110 (by decide) ?_
      obtain rfl := Option.some.inj h
      exact hk _ _ dX6_isImage_111 (Or.inl rfl)
noncomputable def ml_X6_isImage_95 (x1 : Int32) (x2 : Int32) (x3 : Int32) (m : MM) : Option (Int32 × MM) := gz_loop (fun q : (Int32 × Int32 × Int32 × MM) => mb_X6_isImage_95 q.1 q.2.1 q.2.2.1 q.2.2.2) (x1, x2, x3, m)
theorem wl_X6_isImage_95 {X : gz_X} {G : gz_G} (hX : gz_C mS X G cX6_isImage 4 RX6 1 23) {x1 : Int32} {x2 : Int32} {x3 : Int32}  {m : MM} {z : (Int32 × MM)} (h : ml_X6_isImage_95 x1 x2 x3 m = some z) (hk : (fun z : (Int32 × MM) => gz_kZ mS X G 4 (0, 0) cX6_isImage (mF z.2) z.1) z) : gz_V mS X G 4 (0, 0) (mF m) 95 [(0, .ref (gz_ad G 2000)), (1, .int x1), (2, .int x2), (3, .int x3)] [] := by
  have hp : mP_X6_isImage_95 X G (x1, x2, x3, m) := gz_loop_ind (fun q z hz hkz => wb_X6_isImage_95 hX  hz hkz) h hk
  exact hp
noncomputable def mj_X6_isImage_88 (x1 : Int32) (x2 : Int32) (s0 : Int32) (s1 : Int32) (m : MM) : Option (Int32 × MM) :=
  (if s1 ≤ s0 then (ml_X6_isImage_95 x1 x2 (3 : Int32) m) else (mj_X6_isImage_91  m))
theorem wb_X6_isImage_88 {X : gz_X} {G : gz_G} (hX : gz_C mS X G cX6_isImage 4 RX6 1 23) {x1 : Int32} {x2 : Int32} {s0 : Int32} {s1 : Int32}  {m : MM} {z : (Int32 × MM)} (h : mj_X6_isImage_88 x1 x2 s0 s1 m = some z) (hk : (fun z : (Int32 × MM) => gz_kZ mS X G 4 (0, 0) cX6_isImage (mF z.2) z.1) z) : gz_V mS X G 4 (0, 0) (mF m) 88 [(0, .ref (gz_ad G 2000)), (1, .int x1), (2, .int x2)] [.int s0, .int s1] := by
  unfold mj_X6_isImage_88 at h
  refine gz_icmp_le (pc := 88) (tgt := 93) hX dX6_isImage_88 (by decide) (fun g1 => ?_) (fun g1 => ?_)
  · replace h := gz_it' g1 h
    refine gz_iconst (pc := 93) (v := (3 : Int32)) hX dX6_isImage_93 (by decide) ?_
    refine gz_istore_n (pc := 94) (lw := [(3, .int (3 : Int32)), (0, .ref (gz_ad G 2000)), (1, .int x1), (2, .int x2)]) hX dX6_isImage_94 rfl (by decide) rfl ?_
    refine gz_sub (lw := [(0, .ref (gz_ad G 2000)), (1, .int x1), (2, .int x2), (3, .int (3 : Int32))]) [1, 2, 3, 0] rfl ?_
    exact wl_X6_isImage_95 hX h hk
  · replace h := gz_if' g1 h
    refine gz_sub (lw := [(0, .ref (gz_ad G 2000))]) [0] rfl ?_
    exact wb_X6_isImage_91 hX h hk
noncomputable def mf_isImage (x1 : Int32) (m : MM) : Option (Int32 × MM) :=
  ((mf_tieMany m).bind fun (r1, m2) => gz_let (((3 : Int32) + r1)) fun y4 => ((mf_thingMany m2).bind fun (r5, m6) => (if x1 = ((y4 + ((2 : Int32) * r5)) + (1 : Int32)) then (if gz_in (x1 - (1 : Int32)) (1600) then ((mf_checked 1001 (x1 - (1 : Int32)) m6).bind fun (r10, m11) => (if (m6.1 1001 (gz_ix (x1 - (1 : Int32)))) = r10 then (if gz_in (0 : Int32) (1600) then (if gz_in (1 : Int32) (1600) then (if (999 : Int32) < (((256 : Int32) * (m11.1 1001 (gz_ix (0 : Int32)))) + (m11.1 1001 (gz_ix (1 : Int32)))) then (mj_X6_isImage_91  m11) else (if gz_in (2 : Int32) (1600) then ((mf_hallMany m11).bind fun (r18, m19) => (if r18 = (0 : Int32) then (mj_X6_isImage_88 x1 y4 (0 : Int32) (m11.1 1001 (gz_ix (2 : Int32))) m19) else ((mf_hallMany m19).bind fun (r22, m23) => (mj_X6_isImage_88 x1 y4 (r22 - (1 : Int32)) (m11.1 1001 (gz_ix (2 : Int32))) m23)))) else none)) else none) else none) else (mj_X6_isImage_91  m11))) else none) else (mj_X6_isImage_91  m6))))
theorem wm_isImage {X : gz_X} {G : gz_G} (hX : gz_C mS X G cX6_isImage 4 RX6 1 23) {x1 : Int32}  {m : MM} {z : (Int32 × MM)} (h : mf_isImage x1 m = some z) (hk : (fun z : (Int32 × MM) => gz_kZ mS X G 4 (0, 0) cX6_isImage (mF z.2) z.1) z) : gz_V mS X G 4 (0, 0) (mF m) 0 [(0, .ref (gz_ad G 2000)), (1, .int x1)] [] := by
  unfold mf_isImage at h
  refine gz_iconst (pc := 0) (v := (3 : Int32)) hX dX6_isImage_0 (by decide) ?_
  refine gz_aload_n (pc := 1) hX dX6_isImage_1 rfl 0 rfl ?_
  obtain ⟨⟨r1, m2⟩, c3, h⟩ := gz_bd h
  refine mc_tieMany (pc := 2) hX c3 ⟨Nat.le_of_ble_eq_true rfl, Nat.le_of_ble_eq_true rfl⟩ (rest := [.int (3 : Int32)]) rfl (Nat.le_of_ble_eq_true rfl) dX6_isImage_2 ?_
  refine gz_iadd (pc := 5) hX dX6_isImage_5 ?_
  obtain ⟨y4, ey4, h⟩ := gz_lt h
  refine gz_topi ey4 ?_
  refine gz_istore_n (pc := 6) (lw := [(2, .int y4), (0, .ref (gz_ad G 2000)), (1, .int x1)]) hX dX6_isImage_6 rfl (by decide) rfl ?_
  refine gz_iload_n (pc := 7) hX dX6_isImage_7 rfl 2 rfl ?_
  refine gz_iload_n (pc := 8) hX dX6_isImage_8 rfl 0 rfl ?_
  refine gz_iconst (pc := 9) (v := (2 : Int32)) hX dX6_isImage_9 (by decide) ?_
  refine gz_aload_n (pc := 10) hX dX6_isImage_10 rfl 1 rfl ?_
  obtain ⟨⟨r5, m6⟩, c7, h⟩ := gz_bd h
  refine mc_thingMany (pc := 11) hX c7 ⟨Nat.le_of_ble_eq_true rfl, Nat.le_of_ble_eq_true rfl⟩ (rest := [.int (2 : Int32), .int y4, .int x1]) rfl (Nat.le_of_ble_eq_true rfl) dX6_isImage_11 ?_
  refine gz_imul (pc := 14) hX dX6_isImage_14 ?_
  refine gz_iadd (pc := 15) hX dX6_isImage_15 ?_
  refine gz_iconst (pc := 16) (v := (1 : Int32)) hX dX6_isImage_16 (by decide) ?_
  refine gz_iadd (pc := 17) hX dX6_isImage_17 ?_
  refine gz_icmp_ne (pc := 18) (tgt := 91) hX dX6_isImage_18 (by decide) (fun g8 => ?_) (fun g8 => ?_)
  · replace h := gz_if' g8 h
    refine gz_sub (lw := [(0, .ref (gz_ad G 2000))]) [1] rfl ?_
    exact wb_X6_isImage_91 hX h hk
  · replace h := gz_it' g8 h
    refine gz_aload_n (pc := 21) hX dX6_isImage_21 rfl 1 rfl ?_
    refine mg_0 (pc := 22) hX dX6_isImage_22 ?_
    refine gz_iload_n (pc := 25) hX dX6_isImage_25 rfl 2 rfl ?_
    refine gz_iconst (pc := 26) (v := (1 : Int32)) hX dX6_isImage_26 (by decide) ?_
    refine gz_isub (pc := 27) hX dX6_isImage_27 ?_
    obtain ⟨g9, h⟩ := gz_gu h
    refine mz_iald (pc := 28) (c := 1001) (n := 1600) hX rfl rfl g9 dX6_isImage_28 ?_
    refine gz_aload_n (pc := 29) hX dX6_isImage_29 rfl 1 rfl ?_
    refine mg_0 (pc := 30) hX dX6_isImage_30 ?_
    refine gz_iload_n (pc := 33) hX dX6_isImage_33 rfl 2 rfl ?_
    refine gz_iconst (pc := 34) (v := (1 : Int32)) hX dX6_isImage_34 (by decide) ?_
    refine gz_isub (pc := 35) hX dX6_isImage_35 ?_
    obtain ⟨⟨r10, m11⟩, c12, h⟩ := gz_bd h
    refine mc_checked (pc := 36) hX rfl c12 ⟨Nat.le_of_ble_eq_true rfl, Nat.le_of_ble_eq_true rfl⟩ (rest := [.int (m6.1 1001 (gz_ix (x1 - (1 : Int32))))]) rfl (Nat.le_of_ble_eq_true rfl) dX6_isImage_36 ?_
    refine gz_icmp_ne (pc := 39) (tgt := 91) hX dX6_isImage_39 (by decide) (fun g13 => ?_) (fun g13 => ?_)
    · replace h := gz_if' g13 h
      refine gz_sub (lw := [(0, .ref (gz_ad G 2000))]) [1] rfl ?_
      exact wb_X6_isImage_91 hX h hk
    · replace h := gz_it' g13 h
      refine gz_sipush (pc := 42) (v := (256 : Int32)) hX dX6_isImage_42 (by decide) ?_
      refine gz_aload_n (pc := 45) hX dX6_isImage_45 rfl 1 rfl ?_
      refine mg_0 (pc := 46) hX dX6_isImage_46 ?_
      refine gz_iconst (pc := 49) (v := (0 : Int32)) hX dX6_isImage_49 (by decide) ?_
      obtain ⟨g14, h⟩ := gz_gu h
      refine mz_iald (pc := 50) (c := 1001) (n := 1600) hX rfl rfl g14 dX6_isImage_50 ?_
      refine gz_imul (pc := 51) hX dX6_isImage_51 ?_
      refine gz_aload_n (pc := 52) hX dX6_isImage_52 rfl 1 rfl ?_
      refine mg_0 (pc := 53) hX dX6_isImage_53 ?_
      refine gz_iconst (pc := 56) (v := (1 : Int32)) hX dX6_isImage_56 (by decide) ?_
      obtain ⟨g15, h⟩ := gz_gu h
      refine mz_iald (pc := 57) (c := 1001) (n := 1600) hX rfl rfl g15 dX6_isImage_57 ?_
      refine gz_iadd (pc := 58) hX dX6_isImage_58 ?_
      refine gz_sipush (pc := 59) (v := (999 : Int32)) hX dX6_isImage_59 (by decide) ?_
      refine gz_icmp_gt (pc := 62) (tgt := 91) hX dX6_isImage_62 (by decide) (fun g16 => ?_) (fun g16 => ?_)
      · replace h := gz_it' g16 h
        refine gz_sub (lw := [(0, .ref (gz_ad G 2000))]) [1] rfl ?_
        exact wb_X6_isImage_91 hX h hk
      · replace h := gz_if' g16 h
        refine gz_aload_n (pc := 65) hX dX6_isImage_65 rfl 1 rfl ?_
        refine mg_0 (pc := 66) hX dX6_isImage_66 ?_
        refine gz_iconst (pc := 69) (v := (2 : Int32)) hX dX6_isImage_69 (by decide) ?_
        obtain ⟨g17, h⟩ := gz_gu h
        refine mz_iald (pc := 70) (c := 1001) (n := 1600) hX rfl rfl g17 dX6_isImage_70 ?_
        refine gz_aload_n (pc := 71) hX dX6_isImage_71 rfl 1 rfl ?_
        obtain ⟨⟨r18, m19⟩, c20, h⟩ := gz_bd h
        refine mc_hallMany (pc := 72) hX c20 ⟨Nat.le_of_ble_eq_true rfl, Nat.le_of_ble_eq_true rfl⟩ (rest := [.int (m11.1 1001 (gz_ix (2 : Int32)))]) rfl (Nat.le_of_ble_eq_true rfl) dX6_isImage_72 ?_
        refine gz_if_ne (pc := 75) (tgt := 82) hX dX6_isImage_75 (by decide) (fun g21 => ?_) (fun g21 => ?_)
        · replace h := gz_if' g21 h
          refine gz_aload_n (pc := 82) hX dX6_isImage_82 rfl 1 rfl ?_
          obtain ⟨⟨r22, m23⟩, c24, h⟩ := gz_bd h
          refine mc_hallMany (pc := 83) hX c24 ⟨Nat.le_of_ble_eq_true rfl, Nat.le_of_ble_eq_true rfl⟩ (rest := [.int (m11.1 1001 (gz_ix (2 : Int32)))]) rfl (Nat.le_of_ble_eq_true rfl) dX6_isImage_83 ?_
          refine gz_iconst (pc := 86) (v := (1 : Int32)) hX dX6_isImage_86 (by decide) ?_
          refine gz_isub (pc := 87) hX dX6_isImage_87 ?_
          refine gz_sub (lw := [(0, .ref (gz_ad G 2000)), (1, .int x1), (2, .int y4)]) [1, 2, 0] rfl ?_
          exact wb_X6_isImage_88 hX h hk
        · replace h := gz_it' g21 h
          refine gz_iconst (pc := 78) (v := (0 : Int32)) hX dX6_isImage_78 (by decide) ?_
          refine gz_goto (pc := 79) (tgt := 88) hX dX6_isImage_79 (by decide) ?_
          refine gz_sub (lw := [(0, .ref (gz_ad G 2000)), (1, .int x1), (2, .int y4)]) [1, 2, 0] rfl ?_
          exact wb_X6_isImage_88 hX h hk
theorem mt_isImage {G : gz_G} {l : Launch} {x1 : Int32}  {m m9 : MM} {r : Int32} (h : mf_isImage x1 m = some (r, m9)) : gz_Met mS G l yX6_isImage cX6_isImage 4 (some .boolean) (mRm 1 23) [.ref (gz_ad G 2000), .int x1] (mF m) (mF m9) (some (.int r)) :=
  gz_ofZ (plainFor_of_name mz_plain) (Nat.le_of_ble_eq_true rfl) fun X _ hX hk => wm_isImage hX h hk
theorem mc_isImage {X : gz_X} {G : gz_G} {cc : ByteArray} {nL fr lo pc : Nat} {lv : List (Nat × Value)} {rest st0 : List Value} (hX : gz_C mS X G cc nL RX6 fr lo) {x1 : Int32}  {m m9 : MM} {r : Int32} (h : mf_isImage x1 m = some (r, m9)) (hroom : 1 + 1 ≤ fr ∧ 8 + (4 + 11) + 23 ≤ lo) (hst : st0 = [.int x1, .ref (gz_ad G 2000)] ++ rest) (hW : (rest.map fun v => v.category).sum ≤ 8) (hd : decode cc pc = .ok (.invokevirtual 696, 3)) (kk : gz_V mS X G nL (0, 0) (mF m9) (pc + 3) lv (.int r :: rest)) : gz_V mS X G nL (0, 0) (mF m) pc lv st0 :=
  gz_callV hX mz_E (As := [.int x1]) (rest := rest) (q := (RX6, TX6, 104)) (ci := 0) (c := 2000) (mt_isImage (l := X.2.1) h) (lw_V q2648 q2650 qs165 q182 q2651) (n := 1) (by decide +kernel) hroom rfl rfl (by decide) rfl hst hW hd (rem := (0, 0)) kk
