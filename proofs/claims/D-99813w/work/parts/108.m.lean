set_option maxRecDepth 100000
/-! isAsSeen(I)Z -/
def mP_X6_isAsSeen_2 (X : gz_X) (G : gz_G) (q : (Int32 × Int32 × MM)) : Prop := gz_V mS X G 3 (0, 0) (mF q.2.2) 2 [(0, .ref (gz_ad G 2000)), (1, .int q.1), (2, .int q.2.1)] []
noncomputable def mj_X6_isAsSeen_63 (x1 : Int32) (x2 : Int32) (m : MM) : Option ((Int32 × Int32 × MM) ⊕ (Int32 × MM)) :=
  gz_let (x2 + (1 : Int32)) fun y1 => some (Sum.inl (x1, y1, m))
theorem wb_X6_isAsSeen_63 {X : gz_X} {G : gz_G} (hX : gz_C mS X G cX6_isAsSeen 3 RX6 1 21) {x1 : Int32} {x2 : Int32}  {m : MM} {z : ((Int32 × Int32 × MM) ⊕ (Int32 × MM))} (h : mj_X6_isAsSeen_63 x1 x2 m = some z) (hk : (Sum.elim (mP_X6_isAsSeen_2 X G) (fun z : (Int32 × MM) => gz_kZ mS X G 3 (0, 0) cX6_isAsSeen (mF z.2) z.1)) z) : gz_V mS X G 3 (0, 0) (mF m) 63 [(0, .ref (gz_ad G 2000)), (1, .int x1), (2, .int x2)] [] := by
  unfold mj_X6_isAsSeen_63 at h
  obtain ⟨y1, ey1, h⟩ := gz_lt h
  refine gz_iinc (pc := 63) (v := y1) (lw := [(2, .int y1), (0, .ref (gz_ad G 2000)), (1, .int x1)]) hX dX6_isAsSeen_63 (k := 2) rfl (by rw [ey1]; rfl) (by decide) rfl ?_
  refine gz_goto (pc := 66) (tgt := 2) hX dX6_isAsSeen_66 (by decide) ?_
  refine gz_sub (lw := [(0, .ref (gz_ad G 2000)), (1, .int x1), (2, .int y1)]) [1, 2, 0] rfl ?_
  obtain rfl := Option.some.inj h
  exact hk
noncomputable def mj_X6_isAsSeen_61  (m : MM) : Option (Int32 × MM) :=
  some ((0 : Int32), m)
theorem wb_X6_isAsSeen_61 {X : gz_X} {G : gz_G} (hX : gz_C mS X G cX6_isAsSeen 3 RX6 1 21)   {m : MM} {z : (Int32 × MM)} (h : mj_X6_isAsSeen_61  m = some z) (hk : (fun z : (Int32 × MM) => gz_kZ mS X G 3 (0, 0) cX6_isAsSeen (mF z.2) z.1) z) : gz_V mS X G 3 (0, 0) (mF m) 61 [(0, .ref (gz_ad G 2000))] [] := by
  unfold mj_X6_isAsSeen_61 at h
  refine gz_iconst (pc := 61) (v := (0 : Int32)) hX dX6_isAsSeen_61 (by decide) ?_
  obtain rfl := Option.some.inj h
  exact hk _ _ dX6_isAsSeen_62 (Or.inl rfl)
noncomputable def mb_X6_isAsSeen_2 (x1 : Int32) (x2 : Int32) (m : MM) : Option ((Int32 × Int32 × MM) ⊕ (Int32 × MM)) :=
  (if (m.1 2000 64) ≤ x2 then some (Sum.inr ((1 : Int32), m)) else (if gz_in ((3 : Int32) * x2) (48) then (if (m.1 1066 (gz_ix ((3 : Int32) * x2))) = x1 then (if gz_in (0 : Int32) (151) then (if (999 : Int32) < (m.1 1051 (gz_ix (0 : Int32))) then (Option.map Sum.inr (mj_X6_isAsSeen_61  m)) else (if gz_in (((3 : Int32) * x2) + (1 : Int32)) (48) then ((mf_strengthOf (m.1 1066 (gz_ix (((3 : Int32) * x2) + (1 : Int32)))) m).bind fun (r7, m8) => (if gz_in (((3 : Int32) * x2) + (2 : Int32)) (48) then (if r7 = (m8.1 1066 (gz_ix (((3 : Int32) * x2) + (2 : Int32)))) then (mj_X6_isAsSeen_63 x1 x2 m8) else (Option.map Sum.inr (mj_X6_isAsSeen_61  m8))) else none)) else none)) else none) else (mj_X6_isAsSeen_63 x1 x2 m)) else none))
theorem wb_X6_isAsSeen_2 {X : gz_X} {G : gz_G} (hX : gz_C mS X G cX6_isAsSeen 3 RX6 1 21) {x1 : Int32} {x2 : Int32}  {m : MM} {z : ((Int32 × Int32 × MM) ⊕ (Int32 × MM))} (h : mb_X6_isAsSeen_2 x1 x2 m = some z) (hk : (Sum.elim (mP_X6_isAsSeen_2 X G) (fun z : (Int32 × MM) => gz_kZ mS X G 3 (0, 0) cX6_isAsSeen (mF z.2) z.1)) z) : gz_V mS X G 3 (0, 0) (mF m) 2 [(0, .ref (gz_ad G 2000)), (1, .int x1), (2, .int x2)] [] := by
  unfold mb_X6_isAsSeen_2 at h
  refine gz_iload_n (pc := 2) hX dX6_isAsSeen_2 rfl 2 rfl ?_
  refine gz_aload_n (pc := 3) hX dX6_isAsSeen_3 rfl 0 rfl ?_
  refine mg_64 (pc := 4) hX dX6_isAsSeen_4 ?_
  refine gz_icmp_ge (pc := 7) (tgt := 69) hX dX6_isAsSeen_7 (by decide) (fun g1 => ?_) (fun g1 => ?_)
  · replace h := gz_it' g1 h
    refine gz_iconst (pc := 69) (v := (1 : Int32)) hX dX6_isAsSeen_69 (by decide) ?_
    obtain rfl := Option.some.inj h
    exact hk _ _ dX6_isAsSeen_70 (Or.inr rfl)
  · replace h := gz_if' g1 h
    refine gz_aload_n (pc := 10) hX dX6_isAsSeen_10 rfl 0 rfl ?_
    refine mg_65 (pc := 11) hX dX6_isAsSeen_11 ?_
    refine gz_iconst (pc := 14) (v := (3 : Int32)) hX dX6_isAsSeen_14 (by decide) ?_
    refine gz_iload_n (pc := 15) hX dX6_isAsSeen_15 rfl 2 rfl ?_
    refine gz_imul (pc := 16) hX dX6_isAsSeen_16 ?_
    obtain ⟨g2, h⟩ := gz_gu h
    refine mz_iald (pc := 17) (c := 1066) (n := 48) hX rfl rfl g2 dX6_isAsSeen_17 ?_
    refine gz_iload_n (pc := 18) hX dX6_isAsSeen_18 rfl 1 rfl ?_
    refine gz_icmp_ne (pc := 19) (tgt := 63) hX dX6_isAsSeen_19 (by decide) (fun g3 => ?_) (fun g3 => ?_)
    · replace h := gz_if' g3 h
      exact wb_X6_isAsSeen_63 hX h hk
    · replace h := gz_it' g3 h
      refine gz_aload_n (pc := 22) hX dX6_isAsSeen_22 rfl 0 rfl ?_
      refine mg_50 (pc := 23) hX dX6_isAsSeen_23 ?_
      refine gz_iconst (pc := 26) (v := (0 : Int32)) hX dX6_isAsSeen_26 (by decide) ?_
      obtain ⟨g4, h⟩ := gz_gu h
      refine mz_iald (pc := 27) (c := 1051) (n := 151) hX rfl rfl g4 dX6_isAsSeen_27 ?_
      refine gz_sipush (pc := 28) (v := (999 : Int32)) hX dX6_isAsSeen_28 (by decide) ?_
      refine gz_icmp_gt (pc := 31) (tgt := 61) hX dX6_isAsSeen_31 (by decide) (fun g5 => ?_) (fun g5 => ?_)
      · replace h := gz_it' g5 h
        refine gz_sub (lw := [(0, .ref (gz_ad G 2000))]) [0] rfl ?_
        obtain ⟨z0, hm0, rfl⟩ := gz_mp h
        exact wb_X6_isAsSeen_61 hX hm0 hk
      · replace h := gz_if' g5 h
        refine gz_aload_n (pc := 34) hX dX6_isAsSeen_34 rfl 0 rfl ?_
        refine gz_aload_n (pc := 35) hX dX6_isAsSeen_35 rfl 0 rfl ?_
        refine mg_65 (pc := 36) hX dX6_isAsSeen_36 ?_
        refine gz_iconst (pc := 39) (v := (3 : Int32)) hX dX6_isAsSeen_39 (by decide) ?_
        refine gz_iload_n (pc := 40) hX dX6_isAsSeen_40 rfl 2 rfl ?_
        refine gz_imul (pc := 41) hX dX6_isAsSeen_41 ?_
        refine gz_iconst (pc := 42) (v := (1 : Int32)) hX dX6_isAsSeen_42 (by decide) ?_
        refine gz_iadd (pc := 43) hX dX6_isAsSeen_43 ?_
        obtain ⟨g6, h⟩ := gz_gu h
        refine mz_iald (pc := 44) (c := 1066) (n := 48) hX rfl rfl g6 dX6_isAsSeen_44 ?_
        obtain ⟨⟨r7, m8⟩, c9, h⟩ := gz_bd h
        refine mc_strengthOf (pc := 45) hX c9 ⟨Nat.le_of_ble_eq_true rfl, Nat.le_of_ble_eq_true rfl⟩ (rest := []) rfl (Nat.le_of_ble_eq_true rfl) dX6_isAsSeen_45 ?_
        refine gz_aload_n (pc := 48) hX dX6_isAsSeen_48 rfl 0 rfl ?_
        refine mg_65 (pc := 49) hX dX6_isAsSeen_49 ?_
        refine gz_iconst (pc := 52) (v := (3 : Int32)) hX dX6_isAsSeen_52 (by decide) ?_
        refine gz_iload_n (pc := 53) hX dX6_isAsSeen_53 rfl 2 rfl ?_
        refine gz_imul (pc := 54) hX dX6_isAsSeen_54 ?_
        refine gz_iconst (pc := 55) (v := (2 : Int32)) hX dX6_isAsSeen_55 (by decide) ?_
        refine gz_iadd (pc := 56) hX dX6_isAsSeen_56 ?_
        obtain ⟨g10, h⟩ := gz_gu h
        refine mz_iald (pc := 57) (c := 1066) (n := 48) hX rfl rfl g10 dX6_isAsSeen_57 ?_
        refine gz_icmp_eq (pc := 58) (tgt := 63) hX dX6_isAsSeen_58 (by decide) (fun g11 => ?_) (fun g11 => ?_)
        · replace h := gz_it' g11 h
          exact wb_X6_isAsSeen_63 hX h hk
        · replace h := gz_if' g11 h
          refine gz_sub (lw := [(0, .ref (gz_ad G 2000))]) [0] rfl ?_
          obtain ⟨z0, hm0, rfl⟩ := gz_mp h
          exact wb_X6_isAsSeen_61 hX hm0 hk
noncomputable def ml_X6_isAsSeen_2 (x1 : Int32) (x2 : Int32) (m : MM) : Option (Int32 × MM) := gz_loop (fun q : (Int32 × Int32 × MM) => mb_X6_isAsSeen_2 q.1 q.2.1 q.2.2) (x1, x2, m)
theorem wl_X6_isAsSeen_2 {X : gz_X} {G : gz_G} (hX : gz_C mS X G cX6_isAsSeen 3 RX6 1 21) {x1 : Int32} {x2 : Int32}  {m : MM} {z : (Int32 × MM)} (h : ml_X6_isAsSeen_2 x1 x2 m = some z) (hk : (fun z : (Int32 × MM) => gz_kZ mS X G 3 (0, 0) cX6_isAsSeen (mF z.2) z.1) z) : gz_V mS X G 3 (0, 0) (mF m) 2 [(0, .ref (gz_ad G 2000)), (1, .int x1), (2, .int x2)] [] := by
  have hp : mP_X6_isAsSeen_2 X G (x1, x2, m) := gz_loop_ind (fun q z hz hkz => wb_X6_isAsSeen_2 hX  hz hkz) h hk
  exact hp
noncomputable def mf_isAsSeen (x1 : Int32) (m : MM) : Option (Int32 × MM) :=
  (ml_X6_isAsSeen_2 x1 (0 : Int32) m)
theorem wm_isAsSeen {X : gz_X} {G : gz_G} (hX : gz_C mS X G cX6_isAsSeen 3 RX6 1 21) {x1 : Int32}  {m : MM} {z : (Int32 × MM)} (h : mf_isAsSeen x1 m = some z) (hk : (fun z : (Int32 × MM) => gz_kZ mS X G 3 (0, 0) cX6_isAsSeen (mF z.2) z.1) z) : gz_V mS X G 3 (0, 0) (mF m) 0 [(0, .ref (gz_ad G 2000)), (1, .int x1)] [] := by
  unfold mf_isAsSeen at h
  refine gz_iconst (pc := 0) (v := (0 : Int32)) hX dX6_isAsSeen_0 (by decide) ?_
  refine gz_istore_n (pc := 1) (lw := [(2, .int (0 : Int32)), (0, .ref (gz_ad G 2000)), (1, .int x1)]) hX dX6_isAsSeen_1 rfl (by decide) rfl ?_
  refine gz_sub (lw := [(0, .ref (gz_ad G 2000)), (1, .int x1), (2, .int (0 : Int32))]) [1, 2, 0] rfl ?_
  exact wl_X6_isAsSeen_2 hX h hk
theorem mt_isAsSeen {G : gz_G} {l : Launch} {x1 : Int32}  {m m9 : MM} {r : Int32} (h : mf_isAsSeen x1 m = some (r, m9)) : gz_Met mS G l yX6_isAsSeen cX6_isAsSeen 3 (some .boolean) (mRm 1 21) [.ref (gz_ad G 2000), .int x1] (mF m) (mF m9) (some (.int r)) :=
  gz_ofZ (plainFor_of_name mz_plain) (Nat.le_of_ble_eq_true rfl) fun X _ hX hk => wm_isAsSeen hX h hk
theorem mc_isAsSeen {X : gz_X} {G : gz_G} {cc : ByteArray} {nL fr lo pc : Nat} {lv : List (Nat × Value)} {rest st0 : List Value} (hX : gz_C mS X G cc nL RX6 fr lo) {x1 : Int32}  {m m9 : MM} {r : Int32} (h : mf_isAsSeen x1 m = some (r, m9)) (hroom : 1 + 1 ≤ fr ∧ 8 + (3 + 11) + 21 ≤ lo) (hst : st0 = [.int x1, .ref (gz_ad G 2000)] ++ rest) (hW : (rest.map fun v => v.category).sum ≤ 8) (hd : decode cc pc = .ok (.invokevirtual 562, 3)) (kk : gz_V mS X G nL (0, 0) (mF m9) (pc + 3) lv (.int r :: rest)) : gz_V mS X G nL (0, 0) (mF m) pc lv st0 :=
  gz_callV hX mz_E (As := [.int x1]) (rest := rest) (q := (RX6, TX6, 104)) (ci := 0) (c := 2000) (mt_isAsSeen (l := X.2.1) h) (lw_V q2544 q2546 qs154 q182 q2547) (n := 1) (by decide +kernel) hroom rfl rfl (by decide) rfl hst hW hd (rem := (0, 0)) kk
/-! heatSet(I)I -/
def mP_X6_heatSet_13 (X : gz_X) (G : gz_G) (q : (Int32 × Int32 × MM)) : Prop := gz_V mS X G 7 (0, 0) (mF q.2.2) 13 [(0, .ref (gz_ad G 2000)), (2, .int q.1), (3, .int q.2.1)] []
def mP_X6_heatSet_30 (X : gz_X) (G : gz_G) (q : (Int32 × Int32 × Int32 × Int32 × MM)) : Prop := gz_V mS X G 7 (0, 0) (mF q.2.2.2.2) 30 [(0, .ref (gz_ad G 2000)), (2, .int q.1), (3, .int q.2.1), (4, .int q.2.2.1), (5, .int q.2.2.2.1)] []
noncomputable def mj_X6_heatSet_126 (x2 : Int32) (x3 : Int32) (m : MM) : Option ((Int32 × Int32 × MM) ⊕ (Int32 × MM)) :=
  gz_let (x3 + (1 : Int32)) fun y1 => some (Sum.inl (x2, y1, m))
theorem wb_X6_heatSet_126 {X : gz_X} {G : gz_G} (hX : gz_C mS X G cX6_heatSet 7 RX6 6 132) {x2 : Int32} {x3 : Int32}  {m : MM} {z : ((Int32 × Int32 × MM) ⊕ (Int32 × MM))} (h : mj_X6_heatSet_126 x2 x3 m = some z) (hk : (Sum.elim (mP_X6_heatSet_13 X G) (fun z : (Int32 × MM) => gz_kI mS X G 7 (0, 0) cX6_heatSet (mF z.2) z.1)) z) : gz_V mS X G 7 (0, 0) (mF m) 126 [(0, .ref (gz_ad G 2000)), (2, .int x2), (3, .int x3)] [] := by
  unfold mj_X6_heatSet_126 at h
  obtain ⟨y1, ey1, h⟩ := gz_lt h
  refine gz_iinc (pc := 126) (v := y1) (lw := [(3, .int y1), (0, .ref (gz_ad G 2000)), (2, .int x2)]) hX dX6_heatSet_126 (k := 2) rfl (by rw [ey1]; rfl) (by decide) rfl ?_
  refine gz_goto (pc := 129) (tgt := 13) hX dX6_heatSet_129 (by decide) ?_
  refine gz_sub (lw := [(0, .ref (gz_ad G 2000)), (2, .int x2), (3, .int y1)]) [1, 2, 0] rfl ?_
  obtain rfl := Option.some.inj h
  exact hk
def mP_X6_heatSet_61 (X : gz_X) (G : gz_G) (q : (Int32 × Int32 × Int32 × Int32 × Int32 × MM)) : Prop := gz_V mS X G 7 (0, 0) (mF q.2.2.2.2.2) 61 [(0, .ref (gz_ad G 2000)), (2, .int q.1), (3, .int q.2.1), (4, .int q.2.2.1), (5, .int q.2.2.2.1), (6, .int q.2.2.2.2.1)] []
noncomputable def mb_X6_heatSet_61 (x2 : Int32) (x3 : Int32) (x4 : Int32) (x5 : Int32) (x6 : Int32) (m : MM) : Option ((Int32 × Int32 × Int32 × Int32 × Int32 × MM) ⊕ ((Int32 × Int32 × Int32 × Int32 × MM) ⊕ ((Int32 × Int32 × MM) ⊕ (Int32 × MM)))) :=
  ((mf_thingMany m).bind fun (r1, m2) => (if r1 ≤ x6 then ((mf_hourGoes m2).bind fun (_, m6) => gz_let (x5 + (1 : Int32)) fun y8 => some (Sum.inr (Sum.inl (x2, x3, x4, y8, m6)))) else ((mf_strengthOf x6 m2).bind fun (r9, m10) => (if gz_in ((((248 : Int32) * x3) + ((8 : Int32) * x5)) + x6) (2480) then gz_let (msI m10 1067 (gz_ix ((((248 : Int32) * x3) + ((8 : Int32) * x5)) + x6)) r9) fun m13 => gz_let (x6 + (1 : Int32)) fun y14 => some (Sum.inl (x2, x3, x4, x5, y14, m13)) else none))))
theorem wb_X6_heatSet_61 {X : gz_X} {G : gz_G} (hX : gz_C mS X G cX6_heatSet 7 RX6 6 132) {x2 : Int32} {x3 : Int32} {x4 : Int32} {x5 : Int32} {x6 : Int32}  {m : MM} {z : ((Int32 × Int32 × Int32 × Int32 × Int32 × MM) ⊕ ((Int32 × Int32 × Int32 × Int32 × MM) ⊕ ((Int32 × Int32 × MM) ⊕ (Int32 × MM))))} (h : mb_X6_heatSet_61 x2 x3 x4 x5 x6 m = some z) (hk : (Sum.elim (mP_X6_heatSet_61 X G) (Sum.elim (mP_X6_heatSet_30 X G) (Sum.elim (mP_X6_heatSet_13 X G) (fun z : (Int32 × MM) => gz_kI mS X G 7 (0, 0) cX6_heatSet (mF z.2) z.1)))) z) : gz_V mS X G 7 (0, 0) (mF m) 61 [(0, .ref (gz_ad G 2000)), (2, .int x2), (3, .int x3), (4, .int x4), (5, .int x5), (6, .int x6)] [] := by
  unfold mb_X6_heatSet_61 at h
  refine gz_iload (pc := 61) hX dX6_heatSet_61 5 rfl ?_
  refine gz_aload_n (pc := 63) hX dX6_heatSet_63 rfl 0 rfl ?_
  obtain ⟨⟨r1, m2⟩, c3, h⟩ := gz_bd h
  refine mc_thingMany (pc := 64) hX c3 ⟨Nat.le_of_ble_eq_true rfl, Nat.le_of_ble_eq_true rfl⟩ (rest := [.int x6]) rfl (Nat.le_of_ble_eq_true rfl) dX6_heatSet_64 ?_
  refine gz_icmp_ge (pc := 67) (tgt := 101) hX dX6_heatSet_67 (by decide) (fun g4 => ?_) (fun g4 => ?_)
  · replace h := gz_it' g4 h
    refine gz_aload_n (pc := 101) hX dX6_heatSet_101 rfl 0 rfl ?_
    obtain ⟨⟨⟨⟩, m6⟩, c7, h⟩ := gz_bd h
    refine mc_hourGoes (pc := 102) hX c7 ⟨Nat.le_of_ble_eq_true rfl, Nat.le_of_ble_eq_true rfl⟩ (rest := []) rfl (Nat.le_of_ble_eq_true rfl) dX6_heatSet_102 ?_
    obtain ⟨y8, ey8, h⟩ := gz_lt h
    refine gz_iinc (pc := 105) (v := y8) (lw := [(5, .int y8), (0, .ref (gz_ad G 2000)), (2, .int x2), (3, .int x3), (4, .int x4), (6, .int x6)]) hX dX6_heatSet_105 (k := 4) rfl (by rw [ey8]; rfl) (by decide) rfl ?_
    refine gz_goto (pc := 108) (tgt := 30) hX dX6_heatSet_108 (by decide) ?_
    refine gz_sub (lw := [(0, .ref (gz_ad G 2000)), (2, .int x2), (3, .int x3), (4, .int x4), (5, .int y8)]) [1, 2, 3, 4, 0] rfl ?_
    obtain rfl := Option.some.inj h
    exact hk
  · replace h := gz_if' g4 h
    refine gz_aload_n (pc := 70) hX dX6_heatSet_70 rfl 0 rfl ?_
    refine mg_66 (pc := 71) hX dX6_heatSet_71 ?_
    refine gz_sipush (pc := 74) (v := (248 : Int32)) hX dX6_heatSet_74 (by decide) ?_
    refine gz_iload_n (pc := 77) hX dX6_heatSet_77 rfl 2 rfl ?_
    refine gz_imul (pc := 78) hX dX6_heatSet_78 ?_
    refine gz_bipush (pc := 79) (v := (8 : Int32)) hX dX6_heatSet_79 (by decide) ?_
    refine gz_iload (pc := 81) hX dX6_heatSet_81 4 rfl ?_
    refine gz_imul (pc := 83) hX dX6_heatSet_83 ?_
    refine gz_iadd (pc := 84) hX dX6_heatSet_84 ?_
    refine gz_iload (pc := 85) hX dX6_heatSet_85 5 rfl ?_
    refine gz_iadd (pc := 87) hX dX6_heatSet_87 ?_
    refine gz_aload_n (pc := 88) hX dX6_heatSet_88 rfl 0 rfl ?_
    refine gz_iload (pc := 89) hX dX6_heatSet_89 5 rfl ?_
    obtain ⟨⟨r9, m10⟩, c11, h⟩ := gz_bd h
    refine mc_strengthOf (pc := 91) hX c11 ⟨Nat.le_of_ble_eq_true rfl, Nat.le_of_ble_eq_true rfl⟩ (rest := [.int ((((248 : Int32) * x3) + ((8 : Int32) * x5)) + x6), .ref (gz_ad G 1067)]) rfl (Nat.le_of_ble_eq_true rfl) dX6_heatSet_91 ?_
    obtain ⟨g12, h⟩ := gz_gu h
    obtain ⟨m13, em13, h⟩ := gz_lt h
    refine mz_iast (pc := 94) (c := 1067) (n := 2480) hX rfl rfl g12 (Nat.le_of_ble_eq_true rfl) dX6_heatSet_94 em13 ?_
    obtain ⟨y14, ey14, h⟩ := gz_lt h
    refine gz_iinc (pc := 95) (v := y14) (lw := [(6, .int y14), (0, .ref (gz_ad G 2000)), (2, .int x2), (3, .int x3), (4, .int x4), (5, .int x5)]) hX dX6_heatSet_95 (k := 5) rfl (by rw [ey14]; rfl) (by decide) rfl ?_
    refine gz_goto (pc := 98) (tgt := 61) hX dX6_heatSet_98 (by decide) ?_
    refine gz_sub (lw := [(0, .ref (gz_ad G 2000)), (2, .int x2), (3, .int x3), (4, .int x4), (5, .int x5), (6, .int y14)]) [1, 2, 3, 4, 5, 0] rfl ?_
    obtain rfl := Option.some.inj h
    exact hk
noncomputable def ml_X6_heatSet_61 (x2 : Int32) (x3 : Int32) (x4 : Int32) (x5 : Int32) (x6 : Int32) (m : MM) : Option ((Int32 × Int32 × Int32 × Int32 × MM) ⊕ ((Int32 × Int32 × MM) ⊕ (Int32 × MM))) := gz_loop (fun q : (Int32 × Int32 × Int32 × Int32 × Int32 × MM) => mb_X6_heatSet_61 q.1 q.2.1 q.2.2.1 q.2.2.2.1 q.2.2.2.2.1 q.2.2.2.2.2) (x2, x3, x4, x5, x6, m)
theorem wl_X6_heatSet_61 {X : gz_X} {G : gz_G} (hX : gz_C mS X G cX6_heatSet 7 RX6 6 132) {x2 : Int32} {x3 : Int32} {x4 : Int32} {x5 : Int32} {x6 : Int32}  {m : MM} {z : ((Int32 × Int32 × Int32 × Int32 × MM) ⊕ ((Int32 × Int32 × MM) ⊕ (Int32 × MM)))} (h : ml_X6_heatSet_61 x2 x3 x4 x5 x6 m = some z) (hk : (Sum.elim (mP_X6_heatSet_30 X G) (Sum.elim (mP_X6_heatSet_13 X G) (fun z : (Int32 × MM) => gz_kI mS X G 7 (0, 0) cX6_heatSet (mF z.2) z.1))) z) : gz_V mS X G 7 (0, 0) (mF m) 61 [(0, .ref (gz_ad G 2000)), (2, .int x2), (3, .int x3), (4, .int x4), (5, .int x5), (6, .int x6)] [] := by
  have hp : mP_X6_heatSet_61 X G (x2, x3, x4, x5, x6, m) := gz_loop_ind (fun q z hz hkz => wb_X6_heatSet_61 hX  hz hkz) h hk
  exact hp
noncomputable def mj_X6_heatSet_56 (x2 : Int32) (x3 : Int32) (x5 : Int32) (s0 : Int32) (m : MM) : Option ((Int32 × Int32 × Int32 × Int32 × MM) ⊕ ((Int32 × Int32 × MM) ⊕ (Int32 × MM))) :=
  (ml_X6_heatSet_61 x2 x3 s0 x5 (0 : Int32) m)
theorem wb_X6_heatSet_56 {X : gz_X} {G : gz_G} (hX : gz_C mS X G cX6_heatSet 7 RX6 6 132) {x2 : Int32} {x3 : Int32} {x5 : Int32} {s0 : Int32}  {m : MM} {z : ((Int32 × Int32 × Int32 × Int32 × MM) ⊕ ((Int32 × Int32 × MM) ⊕ (Int32 × MM)))} (h : mj_X6_heatSet_56 x2 x3 x5 s0 m = some z) (hk : (Sum.elim (mP_X6_heatSet_30 X G) (Sum.elim (mP_X6_heatSet_13 X G) (fun z : (Int32 × MM) => gz_kI mS X G 7 (0, 0) cX6_heatSet (mF z.2) z.1))) z) : gz_V mS X G 7 (0, 0) (mF m) 56 [(0, .ref (gz_ad G 2000)), (2, .int x2), (3, .int x3), (5, .int x5)] [.int s0] := by
  unfold mj_X6_heatSet_56 at h
  refine gz_istore (pc := 56) (lw := [(4, .int s0), (0, .ref (gz_ad G 2000)), (2, .int x2), (3, .int x3), (5, .int x5)]) hX dX6_heatSet_56 (by decide) rfl ?_
  refine gz_iconst (pc := 58) (v := (0 : Int32)) hX dX6_heatSet_58 (by decide) ?_
  refine gz_istore (pc := 59) (lw := [(6, .int (0 : Int32)), (4, .int s0), (0, .ref (gz_ad G 2000)), (2, .int x2), (3, .int x3), (5, .int x5)]) hX dX6_heatSet_59 (by decide) rfl ?_
  refine gz_sub (lw := [(0, .ref (gz_ad G 2000)), (2, .int x2), (3, .int x3), (4, .int s0), (5, .int x5), (6, .int (0 : Int32))]) [2, 3, 4, 1, 5, 0] rfl ?_
  exact wl_X6_heatSet_61 hX h hk
noncomputable def mj_X6_heatSet_55 (x2 : Int32) (x3 : Int32) (x5 : Int32) (m : MM) : Option ((Int32 × Int32 × Int32 × Int32 × MM) ⊕ ((Int32 × Int32 × MM) ⊕ (Int32 × MM))) :=
  (mj_X6_heatSet_56 x2 x3 x5 (0 : Int32) m)
theorem wb_X6_heatSet_55 {X : gz_X} {G : gz_G} (hX : gz_C mS X G cX6_heatSet 7 RX6 6 132) {x2 : Int32} {x3 : Int32} {x5 : Int32}  {m : MM} {z : ((Int32 × Int32 × Int32 × Int32 × MM) ⊕ ((Int32 × Int32 × MM) ⊕ (Int32 × MM)))} (h : mj_X6_heatSet_55 x2 x3 x5 m = some z) (hk : (Sum.elim (mP_X6_heatSet_30 X G) (Sum.elim (mP_X6_heatSet_13 X G) (fun z : (Int32 × MM) => gz_kI mS X G 7 (0, 0) cX6_heatSet (mF z.2) z.1))) z) : gz_V mS X G 7 (0, 0) (mF m) 55 [(0, .ref (gz_ad G 2000)), (2, .int x2), (3, .int x3), (5, .int x5)] [] := by
  unfold mj_X6_heatSet_55 at h
  refine gz_iconst (pc := 55) (v := (0 : Int32)) hX dX6_heatSet_55 (by decide) ?_
  exact wb_X6_heatSet_56 hX h hk
noncomputable def mb_X6_heatSet_30 (x2 : Int32) (x3 : Int32) (x4 : Int32) (x5 : Int32) (m : MM) : Option ((Int32 × Int32 × Int32 × Int32 × MM) ⊕ ((Int32 × Int32 × MM) ⊕ (Int32 × MM))) :=
  (if (30 : Int32) < x5 then ((mf_triesAnew m).bind fun (_, m3) => (if x4 = (0 : Int32) then (Option.map Sum.inr (mj_X6_heatSet_126 x2 x3 m3)) else gz_let ((x2 ||| ((1 : Int32) <<< (x3 &&& 31)))) fun y6 => (Option.map Sum.inr (mj_X6_heatSet_126 y6 x3 m3)))) else (if x4 = (0 : Int32) then (mj_X6_heatSet_55 x2 x3 x5 m) else ((mf_isAsSeen x5 m).bind fun (r8, m9) => (if r8 = (0 : Int32) then (mj_X6_heatSet_55 x2 x3 x5 m9) else (mj_X6_heatSet_56 x2 x3 x5 (1 : Int32) m9)))))
theorem wb_X6_heatSet_30 {X : gz_X} {G : gz_G} (hX : gz_C mS X G cX6_heatSet 7 RX6 6 132) {x2 : Int32} {x3 : Int32} {x4 : Int32} {x5 : Int32}  {m : MM} {z : ((Int32 × Int32 × Int32 × Int32 × MM) ⊕ ((Int32 × Int32 × MM) ⊕ (Int32 × MM)))} (h : mb_X6_heatSet_30 x2 x3 x4 x5 m = some z) (hk : (Sum.elim (mP_X6_heatSet_30 X G) (Sum.elim (mP_X6_heatSet_13 X G) (fun z : (Int32 × MM) => gz_kI mS X G 7 (0, 0) cX6_heatSet (mF z.2) z.1))) z) : gz_V mS X G 7 (0, 0) (mF m) 30 [(0, .ref (gz_ad G 2000)), (2, .int x2), (3, .int x3), (4, .int x4), (5, .int x5)] [] := by
  unfold mb_X6_heatSet_30 at h
  refine gz_iload (pc := 30) hX dX6_heatSet_30 4 rfl ?_
  refine gz_bipush (pc := 32) (v := (30 : Int32)) hX dX6_heatSet_32 (by decide) ?_
  refine gz_icmp_gt (pc := 34) (tgt := 111) hX dX6_heatSet_34 (by decide) (fun g1 => ?_) (fun g1 => ?_)
  · replace h := gz_it' g1 h
    refine gz_aload_n (pc := 111) hX dX6_heatSet_111 rfl 0 rfl ?_
    obtain ⟨⟨⟨⟩, m3⟩, c4, h⟩ := gz_bd h
    refine mc_triesAnew (pc := 112) hX c4 ⟨Nat.le_of_ble_eq_true rfl, Nat.le_of_ble_eq_true rfl⟩ (rest := []) rfl (Nat.le_of_ble_eq_true rfl) dX6_heatSet_112 ?_
    refine gz_iload (pc := 115) hX dX6_heatSet_115 3 rfl ?_
    refine gz_if_eq (pc := 117) (tgt := 126) hX dX6_heatSet_117 (by decide) (fun g5 => ?_) (fun g5 => ?_)
    · replace h := gz_it' g5 h
      refine gz_sub (lw := [(0, .ref (gz_ad G 2000)), (2, .int x2), (3, .int x3)]) [0, 1, 2] rfl ?_
      obtain ⟨z0, hm0, rfl⟩ := gz_mp h
      exact wb_X6_heatSet_126 hX hm0 hk
    · replace h := gz_if' g5 h
      refine gz_iload_n (pc := 120) hX dX6_heatSet_120 rfl 1 rfl ?_
      refine gz_iconst (pc := 121) (v := (1 : Int32)) hX dX6_heatSet_121 (by decide) ?_
      refine gz_iload_n (pc := 122) hX dX6_heatSet_122 rfl 2 rfl ?_
      refine gz_ishl (pc := 123) hX dX6_heatSet_123 ?_
      refine gz_ior (pc := 124) hX dX6_heatSet_124 ?_
      obtain ⟨y6, ey6, h⟩ := gz_lt h
      refine gz_topi ey6 ?_
      refine gz_istore_n (pc := 125) (lw := [(2, .int y6), (0, .ref (gz_ad G 2000)), (3, .int x3), (4, .int x4), (5, .int x5)]) hX dX6_heatSet_125 rfl (by decide) rfl ?_
      refine gz_sub (lw := [(0, .ref (gz_ad G 2000)), (2, .int y6), (3, .int x3)]) [1, 0, 2] rfl ?_
      obtain ⟨z0, hm0, rfl⟩ := gz_mp h
      exact wb_X6_heatSet_126 hX hm0 hk
  · replace h := gz_if' g1 h
    refine gz_iload (pc := 37) hX dX6_heatSet_37 3 rfl ?_
    refine gz_if_eq (pc := 39) (tgt := 55) hX dX6_heatSet_39 (by decide) (fun g7 => ?_) (fun g7 => ?_)
    · replace h := gz_it' g7 h
      refine gz_sub (lw := [(0, .ref (gz_ad G 2000)), (2, .int x2), (3, .int x3), (5, .int x5)]) [0, 1, 2, 4] rfl ?_
      exact wb_X6_heatSet_55 hX h hk
    · replace h := gz_if' g7 h
      refine gz_aload_n (pc := 42) hX dX6_heatSet_42 rfl 0 rfl ?_
      refine gz_iload (pc := 43) hX dX6_heatSet_43 4 rfl ?_
      obtain ⟨⟨r8, m9⟩, c10, h⟩ := gz_bd h
      refine mc_isAsSeen (pc := 45) hX c10 ⟨Nat.le_of_ble_eq_true rfl, Nat.le_of_ble_eq_true rfl⟩ (rest := []) rfl (Nat.le_of_ble_eq_true rfl) dX6_heatSet_45 ?_
      refine gz_if_eq (pc := 48) (tgt := 55) hX dX6_heatSet_48 (by decide) (fun g11 => ?_) (fun g11 => ?_)
      · replace h := gz_it' g11 h
        refine gz_sub (lw := [(0, .ref (gz_ad G 2000)), (2, .int x2), (3, .int x3), (5, .int x5)]) [0, 1, 2, 4] rfl ?_
        exact wb_X6_heatSet_55 hX h hk
      · replace h := gz_if' g11 h
        refine gz_iconst (pc := 51) (v := (1 : Int32)) hX dX6_heatSet_51 (by decide) ?_
        refine gz_goto (pc := 52) (tgt := 56) hX dX6_heatSet_52 (by decide) ?_
        refine gz_sub (lw := [(0, .ref (gz_ad G 2000)), (2, .int x2), (3, .int x3), (5, .int x5)]) [0, 1, 2, 4] rfl ?_
        exact wb_X6_heatSet_56 hX h hk
noncomputable def ml_X6_heatSet_30 (x2 : Int32) (x3 : Int32) (x4 : Int32) (x5 : Int32) (m : MM) : Option ((Int32 × Int32 × MM) ⊕ (Int32 × MM)) := gz_loop (fun q : (Int32 × Int32 × Int32 × Int32 × MM) => mb_X6_heatSet_30 q.1 q.2.1 q.2.2.1 q.2.2.2.1 q.2.2.2.2) (x2, x3, x4, x5, m)
theorem wl_X6_heatSet_30 {X : gz_X} {G : gz_G} (hX : gz_C mS X G cX6_heatSet 7 RX6 6 132) {x2 : Int32} {x3 : Int32} {x4 : Int32} {x5 : Int32}  {m : MM} {z : ((Int32 × Int32 × MM) ⊕ (Int32 × MM))} (h : ml_X6_heatSet_30 x2 x3 x4 x5 m = some z) (hk : (Sum.elim (mP_X6_heatSet_13 X G) (fun z : (Int32 × MM) => gz_kI mS X G 7 (0, 0) cX6_heatSet (mF z.2) z.1)) z) : gz_V mS X G 7 (0, 0) (mF m) 30 [(0, .ref (gz_ad G 2000)), (2, .int x2), (3, .int x3), (4, .int x4), (5, .int x5)] [] := by
  have hp : mP_X6_heatSet_30 X G (x2, x3, x4, x5, m) := gz_loop_ind (fun q z hz hkz => wb_X6_heatSet_30 hX  hz hkz) h hk
  exact hp
noncomputable def mb_X6_heatSet_13 (x2 : Int32) (x3 : Int32) (m : MM) : Option ((Int32 × Int32 × MM) ⊕ (Int32 × MM)) :=
  (if (10 : Int32) ≤ x3 then ((mf_takesBack m).bind fun (_, m3) => some (Sum.inr (x2, m3))) else gz_let (msI m 2000 53 x3) fun m5 => (ml_X6_heatSet_30 x2 x3 (1 : Int32) (0 : Int32) m5))
theorem wb_X6_heatSet_13 {X : gz_X} {G : gz_G} (hX : gz_C mS X G cX6_heatSet 7 RX6 6 132) {x2 : Int32} {x3 : Int32}  {m : MM} {z : ((Int32 × Int32 × MM) ⊕ (Int32 × MM))} (h : mb_X6_heatSet_13 x2 x3 m = some z) (hk : (Sum.elim (mP_X6_heatSet_13 X G) (fun z : (Int32 × MM) => gz_kI mS X G 7 (0, 0) cX6_heatSet (mF z.2) z.1)) z) : gz_V mS X G 7 (0, 0) (mF m) 13 [(0, .ref (gz_ad G 2000)), (2, .int x2), (3, .int x3)] [] := by
  unfold mb_X6_heatSet_13 at h
  refine gz_iload_n (pc := 13) hX dX6_heatSet_13 rfl 2 rfl ?_
  refine gz_bipush (pc := 14) (v := (10 : Int32)) hX dX6_heatSet_14 (by decide) ?_
  refine gz_icmp_ge (pc := 16) (tgt := 132) hX dX6_heatSet_16 (by decide) (fun g1 => ?_) (fun g1 => ?_)
  · replace h := gz_it' g1 h
    refine gz_aload_n (pc := 132) hX dX6_heatSet_132 rfl 0 rfl ?_
    obtain ⟨⟨⟨⟩, m3⟩, c4, h⟩ := gz_bd h
    refine mc_takesBack (pc := 133) hX c4 ⟨Nat.le_of_ble_eq_true rfl, Nat.le_of_ble_eq_true rfl⟩ (rest := []) rfl (Nat.le_of_ble_eq_true rfl) dX6_heatSet_133 ?_
    refine gz_iload_n (pc := 136) hX dX6_heatSet_136 rfl 1 rfl ?_
    obtain rfl := Option.some.inj h
    exact hk _ _ dX6_heatSet_137
  · replace h := gz_if' g1 h
    refine gz_aload_n (pc := 19) hX dX6_heatSet_19 rfl 0 rfl ?_
    refine gz_iload_n (pc := 20) hX dX6_heatSet_20 rfl 2 rfl ?_
    obtain ⟨m5, em5, h⟩ := gz_lt h
    refine mp_53 (pc := 21) hX dX6_heatSet_21 em5 ?_
    refine gz_iconst (pc := 24) (v := (1 : Int32)) hX dX6_heatSet_24 (by decide) ?_
    refine gz_istore (pc := 25) (lw := [(4, .int (1 : Int32)), (0, .ref (gz_ad G 2000)), (2, .int x2), (3, .int x3)]) hX dX6_heatSet_25 (by decide) rfl ?_
    refine gz_iconst (pc := 27) (v := (0 : Int32)) hX dX6_heatSet_27 (by decide) ?_
    refine gz_istore (pc := 28) (lw := [(5, .int (0 : Int32)), (4, .int (1 : Int32)), (0, .ref (gz_ad G 2000)), (2, .int x2), (3, .int x3)]) hX dX6_heatSet_28 (by decide) rfl ?_
    refine gz_sub (lw := [(0, .ref (gz_ad G 2000)), (2, .int x2), (3, .int x3), (4, .int (1 : Int32)), (5, .int (0 : Int32))]) [2, 3, 4, 1, 0] rfl ?_
    exact wl_X6_heatSet_30 hX h hk
noncomputable def ml_X6_heatSet_13 (x2 : Int32) (x3 : Int32) (m : MM) : Option (Int32 × MM) := gz_loop (fun q : (Int32 × Int32 × MM) => mb_X6_heatSet_13 q.1 q.2.1 q.2.2) (x2, x3, m)
theorem wl_X6_heatSet_13 {X : gz_X} {G : gz_G} (hX : gz_C mS X G cX6_heatSet 7 RX6 6 132) {x2 : Int32} {x3 : Int32}  {m : MM} {z : (Int32 × MM)} (h : ml_X6_heatSet_13 x2 x3 m = some z) (hk : (fun z : (Int32 × MM) => gz_kI mS X G 7 (0, 0) cX6_heatSet (mF z.2) z.1) z) : gz_V mS X G 7 (0, 0) (mF m) 13 [(0, .ref (gz_ad G 2000)), (2, .int x2), (3, .int x3)] [] := by
  have hp : mP_X6_heatSet_13 X G (x2, x3, m) := gz_loop_ind (fun q z hz hkz => wb_X6_heatSet_13 hX  hz hkz) h hk
  exact hp
noncomputable def mf_heatSet (x1 : Int32) (m : MM) : Option (Int32 × MM) :=
  ((mf_putsAside m).bind fun (_, m2) => gz_let (msI m2 2000 52 x1) fun m4 => (ml_X6_heatSet_13 (0 : Int32) (0 : Int32) m4))
theorem wm_heatSet {X : gz_X} {G : gz_G} (hX : gz_C mS X G cX6_heatSet 7 RX6 6 132) {x1 : Int32}  {m : MM} {z : (Int32 × MM)} (h : mf_heatSet x1 m = some z) (hk : (fun z : (Int32 × MM) => gz_kI mS X G 7 (0, 0) cX6_heatSet (mF z.2) z.1) z) : gz_V mS X G 7 (0, 0) (mF m) 0 [(0, .ref (gz_ad G 2000)), (1, .int x1)] [] := by
  unfold mf_heatSet at h
  refine gz_iconst (pc := 0) (v := (0 : Int32)) hX dX6_heatSet_0 (by decide) ?_
  refine gz_istore_n (pc := 1) (lw := [(2, .int (0 : Int32)), (0, .ref (gz_ad G 2000)), (1, .int x1)]) hX dX6_heatSet_1 rfl (by decide) rfl ?_
  refine gz_aload_n (pc := 2) hX dX6_heatSet_2 rfl 1 rfl ?_
  obtain ⟨⟨⟨⟩, m2⟩, c3, h⟩ := gz_bd h
  refine mc_putsAside (pc := 3) hX c3 ⟨Nat.le_of_ble_eq_true rfl, Nat.le_of_ble_eq_true rfl⟩ (rest := []) rfl (Nat.le_of_ble_eq_true rfl) dX6_heatSet_3 ?_
  refine gz_aload_n (pc := 6) hX dX6_heatSet_6 rfl 1 rfl ?_
  refine gz_iload_n (pc := 7) hX dX6_heatSet_7 rfl 2 rfl ?_
  obtain ⟨m4, em4, h⟩ := gz_lt h
  refine mp_52 (pc := 8) hX dX6_heatSet_8 em4 ?_
  refine gz_iconst (pc := 11) (v := (0 : Int32)) hX dX6_heatSet_11 (by decide) ?_
  refine gz_istore_n (pc := 12) (lw := [(3, .int (0 : Int32)), (2, .int (0 : Int32)), (0, .ref (gz_ad G 2000)), (1, .int x1)]) hX dX6_heatSet_12 rfl (by decide) rfl ?_
  refine gz_sub (lw := [(0, .ref (gz_ad G 2000)), (2, .int (0 : Int32)), (3, .int (0 : Int32))]) [2, 1, 0] rfl ?_
  exact wl_X6_heatSet_13 hX h hk
theorem mt_heatSet {G : gz_G} {l : Launch} {x1 : Int32}  {m m9 : MM} {r : Int32} (h : mf_heatSet x1 m = some (r, m9)) : gz_Met mS G l yX6_heatSet cX6_heatSet 7 (some .int) (mRm 6 132) [.ref (gz_ad G 2000), .int x1] (mF m) (mF m9) (some (.int r)) :=
  gz_ofI (plainFor_of_name mz_plain) (Nat.le_of_ble_eq_true rfl) fun X _ hX hk => wm_heatSet hX h hk
theorem mc_heatSet {X : gz_X} {G : gz_G} {cc : ByteArray} {nL fr lo pc : Nat} {lv : List (Nat × Value)} {rest st0 : List Value} (hX : gz_C mS X G cc nL RX6 fr lo) {x1 : Int32}  {m m9 : MM} {r : Int32} (h : mf_heatSet x1 m = some (r, m9)) (hroom : 6 + 1 ≤ fr ∧ 8 + (7 + 11) + 132 ≤ lo) (hst : st0 = [.int x1, .ref (gz_ad G 2000)] ++ rest) (hW : (rest.map fun v => v.category).sum ≤ 8) (hd : decode cc pc = .ok (.invokevirtual 565, 3)) (kk : gz_V mS X G nL (0, 0) (mF m9) (pc + 3) lv (.int r :: rest)) : gz_V mS X G nL (0, 0) (mF m) pc lv st0 :=
  gz_callV hX mz_E (As := [.int x1]) (rest := rest) (q := (RX6, TX6, 104)) (ci := 0) (c := 2000) (mt_heatSet (l := X.2.1) h) (lw_V q2540 q2542 qs153 q182 q2543) (n := 1) (by decide +kernel) hroom rfl rfl (by decide) rfl hst hW hd (rem := (0, 0)) kk
/-! heats(I)I -/
noncomputable def mf_heats (x1 : Int32) (m : MM) : Option (Int32 × MM) :=
  ((mf_isThing (x1.toInt64) m).bind fun (r1, m2) => (if r1 = (0 : Int32) then some ((-1 : Int32), m2) else ((mf_heatSet x1 m2).bind fun (r5, m6) => some (r5, m6))))
theorem wm_heats {X : gz_X} {G : gz_G} (hX : gz_C mS X G cX6_heats 2 RX6 7 158) {x1 : Int32}  {m : MM} {z : (Int32 × MM)} (h : mf_heats x1 m = some z) (hk : (fun z : (Int32 × MM) => gz_kI mS X G 2 (0, 0) cX6_heats (mF z.2) z.1) z) : gz_V mS X G 2 (0, 0) (mF m) 0 [(0, .ref (gz_ad G 2000)), (1, .int x1)] [] := by
  unfold mf_heats at h
  refine gz_aload_n (pc := 0) hX dX6_heats_0 rfl 0 rfl ?_
  refine gz_iload_n (pc := 1) hX dX6_heats_1 rfl 1 rfl ?_
  refine gz_i2l (pc := 2) hX dX6_heats_2 ?_
  obtain ⟨⟨r1, m2⟩, c3, h⟩ := gz_bd h
  refine mc_isThing (pc := 3) hX c3 ⟨Nat.le_of_ble_eq_true rfl, Nat.le_of_ble_eq_true rfl⟩ (rest := []) rfl (Nat.le_of_ble_eq_true rfl) dX6_heats_3 ?_
  refine gz_if_eq (pc := 6) (tgt := 17) hX dX6_heats_6 (by decide) (fun g4 => ?_) (fun g4 => ?_)
  · replace h := gz_it' g4 h
    refine gz_iconst (pc := 17) (v := (-1 : Int32)) hX dX6_heats_17 (by decide) ?_
    obtain rfl := Option.some.inj h
    exact hk _ _ dX6_heats_18
  · replace h := gz_if' g4 h
    refine gz_aload_n (pc := 9) hX dX6_heats_9 rfl 0 rfl ?_
    refine gz_iload_n (pc := 10) hX dX6_heats_10 rfl 1 rfl ?_
    obtain ⟨⟨r5, m6⟩, c7, h⟩ := gz_bd h
    refine mc_heatSet (pc := 11) hX c7 ⟨Nat.le_of_ble_eq_true rfl, Nat.le_of_ble_eq_true rfl⟩ (rest := []) rfl (Nat.le_of_ble_eq_true rfl) dX6_heats_11 ?_
    refine gz_goto (pc := 14) (tgt := 18) hX dX6_heats_14 (by decide) ?_
    obtain rfl := Option.some.inj h
    exact hk _ _ dX6_heats_18
theorem mt_heats {G : gz_G} {l : Launch} {x1 : Int32}  {m m9 : MM} {r : Int32} (h : mf_heats x1 m = some (r, m9)) : gz_Met mS G l yX6_heats cX6_heats 2 (some .int) (mRm 7 158) [.ref (gz_ad G 2000), .int x1] (mF m) (mF m9) (some (.int r)) :=
  gz_ofI (plainFor_of_name mz_plain) (Nat.le_of_ble_eq_true rfl) fun X _ hX hk => wm_heats hX h hk
/-! mostAlike(II)I -/
def mP_X6_mostAlike_5 (X : gz_X) (G : gz_G) (q : (Int32 × Int32 × Int32 × Int32 × MM)) : Prop := gz_V mS X G 7 (0, 0) (mF q.2.2.2.2) 5 [(0, .ref (gz_ad G 2000)), (1, .int q.1), (2, .int q.2.1), (3, .int q.2.2.1), (4, .int q.2.2.2.1)] []
def mP_X6_mostAlike_30 (X : gz_X) (G : gz_G) (q : (Int32 × Int32 × Int32 × Int32 × Int32 × Int32 × MM)) : Prop := gz_V mS X G 7 (0, 0) (mF q.2.2.2.2.2.2) 30 [(0, .ref (gz_ad G 2000)), (1, .int q.1), (2, .int q.2.1), (3, .int q.2.2.1), (4, .int q.2.2.2.1), (5, .int q.2.2.2.2.1), (6, .int q.2.2.2.2.2.1)] []
noncomputable def mj_X6_mostAlike_94 (x1 : Int32) (x2 : Int32) (x3 : Int32) (x4 : Int32) (m : MM) : Option ((Int32 × Int32 × Int32 × Int32 × MM) ⊕ (Int32 × MM)) :=
  gz_let (x4 + (1 : Int32)) fun y1 => some (Sum.inl (x1, x2, x3, y1, m))
theorem wb_X6_mostAlike_94 {X : gz_X} {G : gz_G} (hX : gz_C mS X G cX6_mostAlike 7 RX6 0 0) {x1 : Int32} {x2 : Int32} {x3 : Int32} {x4 : Int32}  {m : MM} {z : ((Int32 × Int32 × Int32 × Int32 × MM) ⊕ (Int32 × MM))} (h : mj_X6_mostAlike_94 x1 x2 x3 x4 m = some z) (hk : (Sum.elim (mP_X6_mostAlike_5 X G) (fun z : (Int32 × MM) => gz_kI mS X G 7 (0, 0) cX6_mostAlike (mF z.2) z.1)) z) : gz_V mS X G 7 (0, 0) (mF m) 94 [(0, .ref (gz_ad G 2000)), (1, .int x1), (2, .int x2), (3, .int x3), (4, .int x4)] [] := by
  unfold mj_X6_mostAlike_94 at h
  obtain ⟨y1, ey1, h⟩ := gz_lt h
  refine gz_iinc (pc := 94) (v := y1) (lw := [(4, .int y1), (0, .ref (gz_ad G 2000)), (1, .int x1), (2, .int x2), (3, .int x3)]) hX dX6_mostAlike_94 (k := 4) rfl (by rw [ey1]; rfl) (by decide) rfl ?_
  refine gz_goto (pc := 97) (tgt := 5) hX dX6_mostAlike_97 (by decide) ?_
  refine gz_sub (lw := [(0, .ref (gz_ad G 2000)), (1, .int x1), (2, .int x2), (3, .int x3), (4, .int y1)]) [1, 2, 3, 4, 0] rfl ?_
  obtain rfl := Option.some.inj h
  exact hk
noncomputable def mj_X6_mostAlike_79 (x1 : Int32) (x2 : Int32) (x3 : Int32) (x4 : Int32) (x5 : Int32) (x6 : Int32) (m : MM) : Option ((Int32 × Int32 × Int32 × Int32 × Int32 × Int32 × MM) ⊕ ((Int32 × Int32 × Int32 × Int32 × MM) ⊕ (Int32 × MM))) :=
  gz_let (x6 + (1 : Int32)) fun y1 => some (Sum.inl (x1, x2, x3, x4, x5, y1, m))
theorem wb_X6_mostAlike_79 {X : gz_X} {G : gz_G} (hX : gz_C mS X G cX6_mostAlike 7 RX6 0 0) {x1 : Int32} {x2 : Int32} {x3 : Int32} {x4 : Int32} {x5 : Int32} {x6 : Int32}  {m : MM} {z : ((Int32 × Int32 × Int32 × Int32 × Int32 × Int32 × MM) ⊕ ((Int32 × Int32 × Int32 × Int32 × MM) ⊕ (Int32 × MM)))} (h : mj_X6_mostAlike_79 x1 x2 x3 x4 x5 x6 m = some z) (hk : (Sum.elim (mP_X6_mostAlike_30 X G) (Sum.elim (mP_X6_mostAlike_5 X G) (fun z : (Int32 × MM) => gz_kI mS X G 7 (0, 0) cX6_mostAlike (mF z.2) z.1))) z) : gz_V mS X G 7 (0, 0) (mF m) 79 [(0, .ref (gz_ad G 2000)), (1, .int x1), (2, .int x2), (3, .int x3), (4, .int x4), (5, .int x5), (6, .int x6)] [] := by
  unfold mj_X6_mostAlike_79 at h
  obtain ⟨y1, ey1, h⟩ := gz_lt h
  refine gz_iinc (pc := 79) (v := y1) (lw := [(6, .int y1), (0, .ref (gz_ad G 2000)), (1, .int x1), (2, .int x2), (3, .int x3), (4, .int x4), (5, .int x5)]) hX dX6_mostAlike_79 (k := 6) rfl (by rw [ey1]; rfl) (by decide) rfl ?_
  refine gz_goto (pc := 82) (tgt := 30) hX dX6_mostAlike_82 (by decide) ?_
  refine gz_sub (lw := [(0, .ref (gz_ad G 2000)), (1, .int x1), (2, .int x2), (3, .int x3), (4, .int x4), (5, .int x5), (6, .int y1)]) [1, 2, 3, 4, 5, 6, 0] rfl ?_
  obtain rfl := Option.some.inj h
  exact hk
noncomputable def mb_X6_mostAlike_30 (x1 : Int32) (x2 : Int32) (x3 : Int32) (x4 : Int32) (x5 : Int32) (x6 : Int32) (m : MM) : Option ((Int32 × Int32 × Int32 × Int32 × Int32 × Int32 × MM) ⊕ ((Int32 × Int32 × Int32 × Int32 × MM) ⊕ (Int32 × MM))) :=
  (if (10 : Int32) ≤ x6 then (if x5 ≤ x3 then (Option.map Sum.inr (mj_X6_mostAlike_94 x1 x2 x3 x4 m)) else (Option.map Sum.inr (mj_X6_mostAlike_94 x1 x2 x5 x4 m))) else (if ((x1 >>> (x6 &&& 31)) &&& (1 : Int32)) = (1 : Int32) then (if gz_in (((248 : Int32) * x4) + x2) (2480) then (if gz_in (((248 : Int32) * x6) + x2) (2480) then (if (m.1 1067 (gz_ix (((248 : Int32) * x4) + x2))) = (m.1 1067 (gz_ix (((248 : Int32) * x6) + x2))) then gz_let (x5 + (1 : Int32)) fun y7 => (mj_X6_mostAlike_79 x1 x2 x3 x4 y7 x6 m) else (mj_X6_mostAlike_79 x1 x2 x3 x4 x5 x6 m)) else none) else none) else (mj_X6_mostAlike_79 x1 x2 x3 x4 x5 x6 m)))
theorem wb_X6_mostAlike_30 {X : gz_X} {G : gz_G} (hX : gz_C mS X G cX6_mostAlike 7 RX6 0 0) {x1 : Int32} {x2 : Int32} {x3 : Int32} {x4 : Int32} {x5 : Int32} {x6 : Int32}  {m : MM} {z : ((Int32 × Int32 × Int32 × Int32 × Int32 × Int32 × MM) ⊕ ((Int32 × Int32 × Int32 × Int32 × MM) ⊕ (Int32 × MM)))} (h : mb_X6_mostAlike_30 x1 x2 x3 x4 x5 x6 m = some z) (hk : (Sum.elim (mP_X6_mostAlike_30 X G) (Sum.elim (mP_X6_mostAlike_5 X G) (fun z : (Int32 × MM) => gz_kI mS X G 7 (0, 0) cX6_mostAlike (mF z.2) z.1))) z) : gz_V mS X G 7 (0, 0) (mF m) 30 [(0, .ref (gz_ad G 2000)), (1, .int x1), (2, .int x2), (3, .int x3), (4, .int x4), (5, .int x5), (6, .int x6)] [] := by
  unfold mb_X6_mostAlike_30 at h
  refine gz_iload (pc := 30) hX dX6_mostAlike_30 6 rfl ?_
  refine gz_bipush (pc := 32) (v := (10 : Int32)) hX dX6_mostAlike_32 (by decide) ?_
  refine gz_icmp_ge (pc := 34) (tgt := 85) hX dX6_mostAlike_34 (by decide) (fun g1 => ?_) (fun g1 => ?_)
  · replace h := gz_it' g1 h
    refine gz_iload (pc := 85) hX dX6_mostAlike_85 5 rfl ?_
    refine gz_iload_n (pc := 87) hX dX6_mostAlike_87 rfl 3 rfl ?_
    refine gz_icmp_le (pc := 88) (tgt := 94) hX dX6_mostAlike_88 (by decide) (fun g2 => ?_) (fun g2 => ?_)
    · replace h := gz_it' g2 h
      refine gz_sub (lw := [(0, .ref (gz_ad G 2000)), (1, .int x1), (2, .int x2), (3, .int x3), (4, .int x4)]) [0, 1, 2, 3, 4] rfl ?_
      obtain ⟨z0, hm0, rfl⟩ := gz_mp h
      exact wb_X6_mostAlike_94 hX hm0 hk
    · replace h := gz_if' g2 h
      refine gz_iload (pc := 91) hX dX6_mostAlike_91 5 rfl ?_
      refine gz_istore_n (pc := 93) (lw := [(3, .int x5), (0, .ref (gz_ad G 2000)), (1, .int x1), (2, .int x2), (4, .int x4), (5, .int x5), (6, .int x6)]) hX dX6_mostAlike_93 rfl (by decide) rfl ?_
      refine gz_sub (lw := [(0, .ref (gz_ad G 2000)), (1, .int x1), (2, .int x2), (3, .int x5), (4, .int x4)]) [1, 2, 3, 0, 4] rfl ?_
      obtain ⟨z0, hm0, rfl⟩ := gz_mp h
      exact wb_X6_mostAlike_94 hX hm0 hk
  · replace h := gz_if' g1 h
    refine gz_iload_n (pc := 37) hX dX6_mostAlike_37 rfl 1 rfl ?_
    refine gz_iload (pc := 38) hX dX6_mostAlike_38 6 rfl ?_
    refine gz_ishr (pc := 40) hX dX6_mostAlike_40 ?_
    refine gz_iconst (pc := 41) (v := (1 : Int32)) hX dX6_mostAlike_41 (by decide) ?_
    refine gz_iand (pc := 42) hX dX6_mostAlike_42 ?_
    refine gz_iconst (pc := 43) (v := (1 : Int32)) hX dX6_mostAlike_43 (by decide) ?_
    refine gz_icmp_ne (pc := 44) (tgt := 79) hX dX6_mostAlike_44 (by decide) (fun g3 => ?_) (fun g3 => ?_)
    · replace h := gz_if' g3 h
      exact wb_X6_mostAlike_79 hX h hk
    · replace h := gz_it' g3 h
      refine gz_aload_n (pc := 47) hX dX6_mostAlike_47 rfl 0 rfl ?_
      refine mg_66 (pc := 48) hX dX6_mostAlike_48 ?_
      refine gz_sipush (pc := 51) (v := (248 : Int32)) hX dX6_mostAlike_51 (by decide) ?_
      refine gz_iload (pc := 54) hX dX6_mostAlike_54 4 rfl ?_
      refine gz_imul (pc := 56) hX dX6_mostAlike_56 ?_
      refine gz_iload_n (pc := 57) hX dX6_mostAlike_57 rfl 2 rfl ?_
      refine gz_iadd (pc := 58) hX dX6_mostAlike_58 ?_
      obtain ⟨g4, h⟩ := gz_gu h
      refine mz_iald (pc := 59) (c := 1067) (n := 2480) hX rfl rfl g4 dX6_mostAlike_59 ?_
      refine gz_aload_n (pc := 60) hX dX6_mostAlike_60 rfl 0 rfl ?_
      refine mg_66 (pc := 61) hX dX6_mostAlike_61 ?_
      refine gz_sipush (pc := 64) (v := (248 : Int32)) hX dX6_mostAlike_64 (by decide) ?_
      refine gz_iload (pc := 67) hX dX6_mostAlike_67 6 rfl ?_
      refine gz_imul (pc := 69) hX dX6_mostAlike_69 ?_
      refine gz_iload_n (pc := 70) hX dX6_mostAlike_70 rfl 2 rfl ?_
      refine gz_iadd (pc := 71) hX dX6_mostAlike_71 ?_
      obtain ⟨g5, h⟩ := gz_gu h
      refine mz_iald (pc := 72) (c := 1067) (n := 2480) hX rfl rfl g5 dX6_mostAlike_72 ?_
      refine gz_icmp_ne (pc := 73) (tgt := 79) hX dX6_mostAlike_73 (by decide) (fun g6 => ?_) (fun g6 => ?_)
      · replace h := gz_if' g6 h
        exact wb_X6_mostAlike_79 hX h hk
      · replace h := gz_it' g6 h
        obtain ⟨y7, ey7, h⟩ := gz_lt h
        refine gz_iinc (pc := 76) (v := y7) (lw := [(5, .int y7), (0, .ref (gz_ad G 2000)), (1, .int x1), (2, .int x2), (3, .int x3), (4, .int x4), (6, .int x6)]) hX dX6_mostAlike_76 (k := 5) rfl (by rw [ey7]; rfl) (by decide) rfl ?_
        refine gz_sub (lw := [(0, .ref (gz_ad G 2000)), (1, .int x1), (2, .int x2), (3, .int x3), (4, .int x4), (5, .int y7), (6, .int x6)]) [1, 2, 3, 4, 5, 0, 6] rfl ?_
        exact wb_X6_mostAlike_79 hX h hk
noncomputable def ml_X6_mostAlike_30 (x1 : Int32) (x2 : Int32) (x3 : Int32) (x4 : Int32) (x5 : Int32) (x6 : Int32) (m : MM) : Option ((Int32 × Int32 × Int32 × Int32 × MM) ⊕ (Int32 × MM)) := gz_loop (fun q : (Int32 × Int32 × Int32 × Int32 × Int32 × Int32 × MM) => mb_X6_mostAlike_30 q.1 q.2.1 q.2.2.1 q.2.2.2.1 q.2.2.2.2.1 q.2.2.2.2.2.1 q.2.2.2.2.2.2) (x1, x2, x3, x4, x5, x6, m)
theorem wl_X6_mostAlike_30 {X : gz_X} {G : gz_G} (hX : gz_C mS X G cX6_mostAlike 7 RX6 0 0) {x1 : Int32} {x2 : Int32} {x3 : Int32} {x4 : Int32} {x5 : Int32} {x6 : Int32}  {m : MM} {z : ((Int32 × Int32 × Int32 × Int32 × MM) ⊕ (Int32 × MM))} (h : ml_X6_mostAlike_30 x1 x2 x3 x4 x5 x6 m = some z) (hk : (Sum.elim (mP_X6_mostAlike_5 X G) (fun z : (Int32 × MM) => gz_kI mS X G 7 (0, 0) cX6_mostAlike (mF z.2) z.1)) z) : gz_V mS X G 7 (0, 0) (mF m) 30 [(0, .ref (gz_ad G 2000)), (1, .int x1), (2, .int x2), (3, .int x3), (4, .int x4), (5, .int x5), (6, .int x6)] [] := by
  have hp : mP_X6_mostAlike_30 X G (x1, x2, x3, x4, x5, x6, m) := gz_loop_ind (fun q z hz hkz => wb_X6_mostAlike_30 hX  hz hkz) h hk
  exact hp
noncomputable def mb_X6_mostAlike_5 (x1 : Int32) (x2 : Int32) (x3 : Int32) (x4 : Int32) (m : MM) : Option ((Int32 × Int32 × Int32 × Int32 × MM) ⊕ (Int32 × MM)) :=
  (if (10 : Int32) ≤ x4 then some (Sum.inr (x3, m)) else (if ((x1 >>> (x4 &&& 31)) &&& (1 : Int32)) = (0 : Int32) then (mj_X6_mostAlike_94 x1 x2 x3 x4 m) else (ml_X6_mostAlike_30 x1 x2 x3 x4 (0 : Int32) (0 : Int32) m)))
theorem wb_X6_mostAlike_5 {X : gz_X} {G : gz_G} (hX : gz_C mS X G cX6_mostAlike 7 RX6 0 0) {x1 : Int32} {x2 : Int32} {x3 : Int32} {x4 : Int32}  {m : MM} {z : ((Int32 × Int32 × Int32 × Int32 × MM) ⊕ (Int32 × MM))} (h : mb_X6_mostAlike_5 x1 x2 x3 x4 m = some z) (hk : (Sum.elim (mP_X6_mostAlike_5 X G) (fun z : (Int32 × MM) => gz_kI mS X G 7 (0, 0) cX6_mostAlike (mF z.2) z.1)) z) : gz_V mS X G 7 (0, 0) (mF m) 5 [(0, .ref (gz_ad G 2000)), (1, .int x1), (2, .int x2), (3, .int x3), (4, .int x4)] [] := by
  unfold mb_X6_mostAlike_5 at h
  refine gz_iload (pc := 5) hX dX6_mostAlike_5 4 rfl ?_
  refine gz_bipush (pc := 7) (v := (10 : Int32)) hX dX6_mostAlike_7 (by decide) ?_
  refine gz_icmp_ge (pc := 9) (tgt := 100) hX dX6_mostAlike_9 (by decide) (fun g1 => ?_) (fun g1 => ?_)
  · replace h := gz_it' g1 h
    refine gz_iload_n (pc := 100) hX dX6_mostAlike_100 rfl 3 rfl ?_
    obtain rfl := Option.some.inj h
    exact hk _ _ dX6_mostAlike_101
  · replace h := gz_if' g1 h
    refine gz_iload_n (pc := 12) hX dX6_mostAlike_12 rfl 1 rfl ?_
    refine gz_iload (pc := 13) hX dX6_mostAlike_13 4 rfl ?_
    refine gz_ishr (pc := 15) hX dX6_mostAlike_15 ?_
    refine gz_iconst (pc := 16) (v := (1 : Int32)) hX dX6_mostAlike_16 (by decide) ?_
    refine gz_iand (pc := 17) hX dX6_mostAlike_17 ?_
    refine gz_if_ne (pc := 18) (tgt := 24) hX dX6_mostAlike_18 (by decide) (fun g2 => ?_) (fun g2 => ?_)
    · replace h := gz_if' g2 h
      refine gz_iconst (pc := 24) (v := (0 : Int32)) hX dX6_mostAlike_24 (by decide) ?_
      refine gz_istore (pc := 25) (lw := [(5, .int (0 : Int32)), (0, .ref (gz_ad G 2000)), (1, .int x1), (2, .int x2), (3, .int x3), (4, .int x4)]) hX dX6_mostAlike_25 (by decide) rfl ?_
      refine gz_iconst (pc := 27) (v := (0 : Int32)) hX dX6_mostAlike_27 (by decide) ?_
      refine gz_istore (pc := 28) (lw := [(6, .int (0 : Int32)), (5, .int (0 : Int32)), (0, .ref (gz_ad G 2000)), (1, .int x1), (2, .int x2), (3, .int x3), (4, .int x4)]) hX dX6_mostAlike_28 (by decide) rfl ?_
      refine gz_sub (lw := [(0, .ref (gz_ad G 2000)), (1, .int x1), (2, .int x2), (3, .int x3), (4, .int x4), (5, .int (0 : Int32)), (6, .int (0 : Int32))]) [2, 3, 4, 5, 6, 1, 0] rfl ?_
      exact wl_X6_mostAlike_30 hX h hk
    · replace h := gz_it' g2 h
      refine gz_goto (pc := 21) (tgt := 94) hX dX6_mostAlike_21 (by decide) ?_
      exact wb_X6_mostAlike_94 hX h hk
noncomputable def ml_X6_mostAlike_5 (x1 : Int32) (x2 : Int32) (x3 : Int32) (x4 : Int32) (m : MM) : Option (Int32 × MM) := gz_loop (fun q : (Int32 × Int32 × Int32 × Int32 × MM) => mb_X6_mostAlike_5 q.1 q.2.1 q.2.2.1 q.2.2.2.1 q.2.2.2.2) (x1, x2, x3, x4, m)
theorem wl_X6_mostAlike_5 {X : gz_X} {G : gz_G} (hX : gz_C mS X G cX6_mostAlike 7 RX6 0 0) {x1 : Int32} {x2 : Int32} {x3 : Int32} {x4 : Int32}  {m : MM} {z : (Int32 × MM)} (h : ml_X6_mostAlike_5 x1 x2 x3 x4 m = some z) (hk : (fun z : (Int32 × MM) => gz_kI mS X G 7 (0, 0) cX6_mostAlike (mF z.2) z.1) z) : gz_V mS X G 7 (0, 0) (mF m) 5 [(0, .ref (gz_ad G 2000)), (1, .int x1), (2, .int x2), (3, .int x3), (4, .int x4)] [] := by
  have hp : mP_X6_mostAlike_5 X G (x1, x2, x3, x4, m) := gz_loop_ind (fun q z hz hkz => wb_X6_mostAlike_5 hX  hz hkz) h hk
  exact hp
noncomputable def mf_mostAlike (x1 : Int32) (x2 : Int32) (m : MM) : Option (Int32 × MM) :=
  (ml_X6_mostAlike_5 x1 x2 (0 : Int32) (0 : Int32) m)
theorem wm_mostAlike {X : gz_X} {G : gz_G} (hX : gz_C mS X G cX6_mostAlike 7 RX6 0 0) {x1 : Int32} {x2 : Int32}  {m : MM} {z : (Int32 × MM)} (h : mf_mostAlike x1 x2 m = some z) (hk : (fun z : (Int32 × MM) => gz_kI mS X G 7 (0, 0) cX6_mostAlike (mF z.2) z.1) z) : gz_V mS X G 7 (0, 0) (mF m) 0 [(0, .ref (gz_ad G 2000)), (1, .int x1), (2, .int x2)] [] := by
  unfold mf_mostAlike at h
  refine gz_iconst (pc := 0) (v := (0 : Int32)) hX dX6_mostAlike_0 (by decide) ?_
  refine gz_istore_n (pc := 1) (lw := [(3, .int (0 : Int32)), (0, .ref (gz_ad G 2000)), (1, .int x1), (2, .int x2)]) hX dX6_mostAlike_1 rfl (by decide) rfl ?_
  refine gz_iconst (pc := 2) (v := (0 : Int32)) hX dX6_mostAlike_2 (by decide) ?_
  refine gz_istore (pc := 3) (lw := [(4, .int (0 : Int32)), (3, .int (0 : Int32)), (0, .ref (gz_ad G 2000)), (1, .int x1), (2, .int x2)]) hX dX6_mostAlike_3 (by decide) rfl ?_
  refine gz_sub (lw := [(0, .ref (gz_ad G 2000)), (1, .int x1), (2, .int x2), (3, .int (0 : Int32)), (4, .int (0 : Int32))]) [2, 3, 4, 1, 0] rfl ?_
  exact wl_X6_mostAlike_5 hX h hk
theorem mt_mostAlike {G : gz_G} {l : Launch} {x1 : Int32} {x2 : Int32}  {m m9 : MM} {r : Int32} (h : mf_mostAlike x1 x2 m = some (r, m9)) : gz_Met mS G l yX6_mostAlike cX6_mostAlike 7 (some .int) (mRm 0 0) [.ref (gz_ad G 2000), .int x1, .int x2] (mF m) (mF m9) (some (.int r)) :=
  gz_ofI (plainFor_of_name mz_plain) (Nat.le_of_ble_eq_true rfl) fun X _ hX hk => wm_mostAlike hX h hk
theorem mc_mostAlike {X : gz_X} {G : gz_G} {cc : ByteArray} {nL fr lo pc : Nat} {lv : List (Nat × Value)} {rest st0 : List Value} (hX : gz_C mS X G cc nL RX6 fr lo) {x1 : Int32} {x2 : Int32}  {m m9 : MM} {r : Int32} (h : mf_mostAlike x1 x2 m = some (r, m9)) (hroom : 0 + 1 ≤ fr ∧ 8 + (7 + 11) + 0 ≤ lo) (hst : st0 = [.int x2, .int x1, .ref (gz_ad G 2000)] ++ rest) (hW : (rest.map fun v => v.category).sum ≤ 8) (hd : decode cc pc = .ok (.invokevirtual 568, 3)) (kk : gz_V mS X G nL (0, 0) (mF m9) (pc + 3) lv (.int r :: rest)) : gz_V mS X G nL (0, 0) (mF m) pc lv st0 :=
  gz_callV hX mz_E (As := [.int x1, .int x2]) (rest := rest) (q := (RX6, TX6, 104)) (ci := 0) (c := 2000) (mt_mostAlike (l := X.2.1) h) (lw_V q2552 q2554 qs155 q182 q2555) (n := 2) (by decide +kernel) hroom rfl rfl (by decide) rfl hst hW hd (rem := (0, 0)) kk
/-! tells(II)I -/
noncomputable def mj_X6_tells_21  (m : MM) : Option (Int32 × MM) :=
  some ((-1 : Int32), m)
theorem wb_X6_tells_21 {X : gz_X} {G : gz_G} (hX : gz_C mS X G cX6_tells 10 RX6 7 158)   {m : MM} {z : (Int32 × MM)} (h : mj_X6_tells_21  m = some z) (hk : (fun z : (Int32 × MM) => gz_kI mS X G 10 (0, 0) cX6_tells (mF z.2) z.1) z) : gz_V mS X G 10 (0, 0) (mF m) 21 [(0, .ref (gz_ad G 2000))] [] := by
  unfold mj_X6_tells_21 at h
  refine gz_iconst (pc := 21) (v := (-1 : Int32)) hX dX6_tells_21 (by decide) ?_
  obtain rfl := Option.some.inj h
  exact hk _ _ dX6_tells_22
def mP_X6_tells_41 (X : gz_X) (G : gz_G) (q : (Int32 × Int32 × Int32 × Int32 × Int32 × Int32 × MM)) : Prop := gz_V mS X G 10 (0, 0) (mF q.2.2.2.2.2.2) 41 [(0, .ref (gz_ad G 2000)), (2, .int q.1), (3, .int q.2.1), (4, .int q.2.2.1), (5, .int q.2.2.2.1), (6, .int q.2.2.2.2.1), (7, .int q.2.2.2.2.2.1)] []
noncomputable def mj_X6_tells_124 (x2 : Int32) (x4 : Int32) (x5 : Int32) (x6 : Int32) (m : MM) : Option (Int32 × MM) :=
  (if x4 = (-1 : Int32) then some ((-1 : Int32), m) else (if x2 = (0 : Int32) then some (x4, m) else (if x2 = (1 : Int32) then some (x5, m) else some (x6, m))))
theorem wb_X6_tells_124 {X : gz_X} {G : gz_G} (hX : gz_C mS X G cX6_tells 10 RX6 7 158) {x2 : Int32} {x4 : Int32} {x5 : Int32} {x6 : Int32}  {m : MM} {z : (Int32 × MM)} (h : mj_X6_tells_124 x2 x4 x5 x6 m = some z) (hk : (fun z : (Int32 × MM) => gz_kI mS X G 10 (0, 0) cX6_tells (mF z.2) z.1) z) : gz_V mS X G 10 (0, 0) (mF m) 124 [(0, .ref (gz_ad G 2000)), (2, .int x2), (4, .int x4), (5, .int x5), (6, .int x6)] [] := by
  unfold mj_X6_tells_124 at h
  refine gz_iload (pc := 124) hX dX6_tells_124 2 rfl ?_
  refine gz_iconst (pc := 126) (v := (-1 : Int32)) hX dX6_tells_126 (by decide) ?_
  refine gz_icmp_ne (pc := 127) (tgt := 134) hX dX6_tells_127 (by decide) (fun g1 => ?_) (fun g1 => ?_)
  · replace h := gz_if' g1 h
    refine gz_iload_n (pc := 134) hX dX6_tells_134 rfl 1 rfl ?_
    refine gz_if_ne (pc := 135) (tgt := 143) hX dX6_tells_135 (by decide) (fun g2 => ?_) (fun g2 => ?_)
    · replace h := gz_if' g2 h
      refine gz_iload_n (pc := 143) hX dX6_tells_143 rfl 1 rfl ?_
      refine gz_iconst (pc := 144) (v := (1 : Int32)) hX dX6_tells_144 (by decide) ?_
      refine gz_icmp_ne (pc := 145) (tgt := 153) hX dX6_tells_145 (by decide) (fun g3 => ?_) (fun g3 => ?_)
      · replace h := gz_if' g3 h
        refine gz_iload (pc := 153) hX dX6_tells_153 4 rfl ?_
        obtain rfl := Option.some.inj h
        exact hk _ _ dX6_tells_155
      · replace h := gz_it' g3 h
        refine gz_iload (pc := 148) hX dX6_tells_148 3 rfl ?_
        refine gz_goto (pc := 150) (tgt := 155) hX dX6_tells_150 (by decide) ?_
        obtain rfl := Option.some.inj h
        exact hk _ _ dX6_tells_155
    · replace h := gz_it' g2 h
      refine gz_iload (pc := 138) hX dX6_tells_138 2 rfl ?_
      refine gz_goto (pc := 140) (tgt := 155) hX dX6_tells_140 (by decide) ?_
      obtain rfl := Option.some.inj h
      exact hk _ _ dX6_tells_155
  · replace h := gz_it' g1 h
    refine gz_iconst (pc := 130) (v := (-1 : Int32)) hX dX6_tells_130 (by decide) ?_
    refine gz_goto (pc := 131) (tgt := 155) hX dX6_tells_131 (by decide) ?_
    obtain rfl := Option.some.inj h
    exact hk _ _ dX6_tells_155
def mP_X6_tells_60 (X : gz_X) (G : gz_G) (q : (Int32 × Int32 × Int32 × Int32 × Int32 × Int32 × Int32 × MM)) : Prop := gz_V mS X G 10 (0, 0) (mF q.2.2.2.2.2.2.2) 60 [(0, .ref (gz_ad G 2000)), (2, .int q.1), (3, .int q.2.1), (4, .int q.2.2.1), (5, .int q.2.2.2.1), (6, .int q.2.2.2.2.1), (7, .int q.2.2.2.2.2.1), (8, .int q.2.2.2.2.2.2.1)] []
noncomputable def mj_X6_tells_112 (x2 : Int32) (x3 : Int32) (x4 : Int32) (x5 : Int32) (x6 : Int32) (x7 : Int32) (x8 : Int32) (m : MM) : Option ((Int32 × Int32 × Int32 × Int32 × Int32 × Int32 × Int32 × MM) ⊕ ((Int32 × Int32 × Int32 × Int32 × Int32 × Int32 × MM) ⊕ (Int32 × MM))) :=
  gz_let (x8 + (1 : Int32)) fun y1 => some (Sum.inl (x2, x3, x4, x5, x6, x7, y1, m))
theorem wb_X6_tells_112 {X : gz_X} {G : gz_G} (hX : gz_C mS X G cX6_tells 10 RX6 7 158) {x2 : Int32} {x3 : Int32} {x4 : Int32} {x5 : Int32} {x6 : Int32} {x7 : Int32} {x8 : Int32}  {m : MM} {z : ((Int32 × Int32 × Int32 × Int32 × Int32 × Int32 × Int32 × MM) ⊕ ((Int32 × Int32 × Int32 × Int32 × Int32 × Int32 × MM) ⊕ (Int32 × MM)))} (h : mj_X6_tells_112 x2 x3 x4 x5 x6 x7 x8 m = some z) (hk : (Sum.elim (mP_X6_tells_60 X G) (Sum.elim (mP_X6_tells_41 X G) (fun z : (Int32 × MM) => gz_kI mS X G 10 (0, 0) cX6_tells (mF z.2) z.1))) z) : gz_V mS X G 10 (0, 0) (mF m) 112 [(0, .ref (gz_ad G 2000)), (2, .int x2), (3, .int x3), (4, .int x4), (5, .int x5), (6, .int x6), (7, .int x7), (8, .int x8)] [] := by
  unfold mj_X6_tells_112 at h
  obtain ⟨y1, ey1, h⟩ := gz_lt h
  refine gz_iinc (pc := 112) (v := y1) (lw := [(8, .int y1), (0, .ref (gz_ad G 2000)), (2, .int x2), (3, .int x3), (4, .int x4), (5, .int x5), (6, .int x6), (7, .int x7)]) hX dX6_tells_112 (k := 7) rfl (by rw [ey1]; rfl) (by decide) rfl ?_
  refine gz_goto (pc := 115) (tgt := 60) hX dX6_tells_115 (by decide) ?_
  refine gz_sub (lw := [(0, .ref (gz_ad G 2000)), (2, .int x2), (3, .int x3), (4, .int x4), (5, .int x5), (6, .int x6), (7, .int x7), (8, .int y1)]) [1, 2, 3, 4, 5, 6, 7, 0] rfl ?_
  obtain rfl := Option.some.inj h
  exact hk
noncomputable def mj_X6_tells_100 (x2 : Int32) (x3 : Int32) (x7 : Int32) (x8 : Int32) (x9 : Int32) (m : MM) : Option ((Int32 × Int32 × Int32 × Int32 × Int32 × Int32 × Int32 × MM) ⊕ ((Int32 × Int32 × Int32 × Int32 × Int32 × Int32 × MM) ⊕ (Int32 × MM))) :=
  (mj_X6_tells_112 x2 x3 x7 x8 x9 x7 x8 m)
theorem wb_X6_tells_100 {X : gz_X} {G : gz_G} (hX : gz_C mS X G cX6_tells 10 RX6 7 158) {x2 : Int32} {x3 : Int32} {x7 : Int32} {x8 : Int32} {x9 : Int32}  {m : MM} {z : ((Int32 × Int32 × Int32 × Int32 × Int32 × Int32 × Int32 × MM) ⊕ ((Int32 × Int32 × Int32 × Int32 × Int32 × Int32 × MM) ⊕ (Int32 × MM)))} (h : mj_X6_tells_100 x2 x3 x7 x8 x9 m = some z) (hk : (Sum.elim (mP_X6_tells_60 X G) (Sum.elim (mP_X6_tells_41 X G) (fun z : (Int32 × MM) => gz_kI mS X G 10 (0, 0) cX6_tells (mF z.2) z.1))) z) : gz_V mS X G 10 (0, 0) (mF m) 100 [(0, .ref (gz_ad G 2000)), (2, .int x2), (3, .int x3), (7, .int x7), (8, .int x8), (9, .int x9)] [] := by
  unfold mj_X6_tells_100 at h
  refine gz_iload (pc := 100) hX dX6_tells_100 3 rfl ?_
  refine gz_istore (pc := 102) (lw := [(4, .int x7), (0, .ref (gz_ad G 2000)), (2, .int x2), (3, .int x3), (7, .int x7), (8, .int x8), (9, .int x9)]) hX dX6_tells_102 (by decide) rfl ?_
  refine gz_iload (pc := 104) hX dX6_tells_104 5 rfl ?_
  refine gz_istore (pc := 106) (lw := [(5, .int x8), (4, .int x7), (0, .ref (gz_ad G 2000)), (2, .int x2), (3, .int x3), (7, .int x7), (8, .int x8), (9, .int x9)]) hX dX6_tells_106 (by decide) rfl ?_
  refine gz_iload (pc := 108) hX dX6_tells_108 7 rfl ?_
  refine gz_istore (pc := 110) (lw := [(6, .int x9), (5, .int x8), (4, .int x7), (0, .ref (gz_ad G 2000)), (2, .int x2), (3, .int x3), (7, .int x7), (8, .int x8), (9, .int x9)]) hX dX6_tells_110 (by decide) rfl ?_
  refine gz_sub (lw := [(0, .ref (gz_ad G 2000)), (2, .int x2), (3, .int x3), (4, .int x7), (5, .int x8), (6, .int x9), (7, .int x7), (8, .int x8)]) [3, 4, 5, 2, 1, 0, 6, 7] rfl ?_
  exact wb_X6_tells_112 hX h hk
noncomputable def mb_X6_tells_60 (x2 : Int32) (x3 : Int32) (x4 : Int32) (x5 : Int32) (x6 : Int32) (x7 : Int32) (x8 : Int32) (m : MM) : Option ((Int32 × Int32 × Int32 × Int32 × Int32 × Int32 × Int32 × MM) ⊕ ((Int32 × Int32 × Int32 × Int32 × Int32 × Int32 × MM) ⊕ (Int32 × MM))) :=
  ((mf_thingMany m).bind fun (r1, m2) => (if r1 ≤ x8 then gz_let (x7 + (1 : Int32)) fun y5 => some (Sum.inr (Sum.inl (x2, x3, x4, x5, x6, y5, m2))) else ((mf_mostAlike x3 (((8 : Int32) * x7) + x8) m2).bind fun (r6, m7) => (if x4 = (-1 : Int32) then (mj_X6_tells_100 x2 x3 x7 x8 r6 m7) else (if r6 < x6 then (mj_X6_tells_100 x2 x3 x7 x8 r6 m7) else (mj_X6_tells_112 x2 x3 x4 x5 x6 x7 x8 m7))))))
theorem wb_X6_tells_60 {X : gz_X} {G : gz_G} (hX : gz_C mS X G cX6_tells 10 RX6 7 158) {x2 : Int32} {x3 : Int32} {x4 : Int32} {x5 : Int32} {x6 : Int32} {x7 : Int32} {x8 : Int32}  {m : MM} {z : ((Int32 × Int32 × Int32 × Int32 × Int32 × Int32 × Int32 × MM) ⊕ ((Int32 × Int32 × Int32 × Int32 × Int32 × Int32 × MM) ⊕ (Int32 × MM)))} (h : mb_X6_tells_60 x2 x3 x4 x5 x6 x7 x8 m = some z) (hk : (Sum.elim (mP_X6_tells_60 X G) (Sum.elim (mP_X6_tells_41 X G) (fun z : (Int32 × MM) => gz_kI mS X G 10 (0, 0) cX6_tells (mF z.2) z.1))) z) : gz_V mS X G 10 (0, 0) (mF m) 60 [(0, .ref (gz_ad G 2000)), (2, .int x2), (3, .int x3), (4, .int x4), (5, .int x5), (6, .int x6), (7, .int x7), (8, .int x8)] [] := by
  unfold mb_X6_tells_60 at h
  refine gz_iload (pc := 60) hX dX6_tells_60 7 rfl ?_
  refine gz_aload_n (pc := 62) hX dX6_tells_62 rfl 0 rfl ?_
  obtain ⟨⟨r1, m2⟩, c3, h⟩ := gz_bd h
  refine mc_thingMany (pc := 63) hX c3 ⟨Nat.le_of_ble_eq_true rfl, Nat.le_of_ble_eq_true rfl⟩ (rest := [.int x8]) rfl (Nat.le_of_ble_eq_true rfl) dX6_tells_63 ?_
  refine gz_icmp_ge (pc := 66) (tgt := 118) hX dX6_tells_66 (by decide) (fun g4 => ?_) (fun g4 => ?_)
  · replace h := gz_it' g4 h
    obtain ⟨y5, ey5, h⟩ := gz_lt h
    refine gz_iinc (pc := 118) (v := y5) (lw := [(7, .int y5), (0, .ref (gz_ad G 2000)), (2, .int x2), (3, .int x3), (4, .int x4), (5, .int x5), (6, .int x6), (8, .int x8)]) hX dX6_tells_118 (k := 6) rfl (by rw [ey5]; rfl) (by decide) rfl ?_
    refine gz_goto (pc := 121) (tgt := 41) hX dX6_tells_121 (by decide) ?_
    refine gz_sub (lw := [(0, .ref (gz_ad G 2000)), (2, .int x2), (3, .int x3), (4, .int x4), (5, .int x5), (6, .int x6), (7, .int y5)]) [1, 2, 3, 4, 5, 6, 0] rfl ?_
    obtain rfl := Option.some.inj h
    exact hk
  · replace h := gz_if' g4 h
    refine gz_aload_n (pc := 69) hX dX6_tells_69 rfl 0 rfl ?_
    refine gz_iload_n (pc := 70) hX dX6_tells_70 rfl 2 rfl ?_
    refine gz_bipush (pc := 71) (v := (8 : Int32)) hX dX6_tells_71 (by decide) ?_
    refine gz_iload (pc := 73) hX dX6_tells_73 6 rfl ?_
    refine gz_imul (pc := 75) hX dX6_tells_75 ?_
    refine gz_iload (pc := 76) hX dX6_tells_76 7 rfl ?_
    refine gz_iadd (pc := 78) hX dX6_tells_78 ?_
    obtain ⟨⟨r6, m7⟩, c8, h⟩ := gz_bd h
    refine mc_mostAlike (pc := 79) hX c8 ⟨Nat.le_of_ble_eq_true rfl, Nat.le_of_ble_eq_true rfl⟩ (rest := []) rfl (Nat.le_of_ble_eq_true rfl) dX6_tells_79 ?_
    refine gz_istore (pc := 82) (lw := [(9, .int r6), (0, .ref (gz_ad G 2000)), (2, .int x2), (3, .int x3), (4, .int x4), (5, .int x5), (6, .int x6), (7, .int x7), (8, .int x8)]) hX dX6_tells_82 (by decide) rfl ?_
    refine gz_iload (pc := 84) hX dX6_tells_84 4 rfl ?_
    refine gz_iconst (pc := 86) (v := (-1 : Int32)) hX dX6_tells_86 (by decide) ?_
    refine gz_icmp_eq (pc := 87) (tgt := 100) hX dX6_tells_87 (by decide) (fun g9 => ?_) (fun g9 => ?_)
    · replace h := gz_it' g9 h
      refine gz_sub (lw := [(0, .ref (gz_ad G 2000)), (2, .int x2), (3, .int x3), (7, .int x7), (8, .int x8), (9, .int r6)]) [1, 2, 3, 7, 8, 0] rfl ?_
      exact wb_X6_tells_100 hX h hk
    · replace h := gz_if' g9 h
      refine gz_iload (pc := 90) hX dX6_tells_90 0 rfl ?_
      refine gz_iload (pc := 92) hX dX6_tells_92 6 rfl ?_
      refine gz_icmp_lt (pc := 94) (tgt := 100) hX dX6_tells_94 (by decide) (fun g10 => ?_) (fun g10 => ?_)
      · replace h := gz_it' g10 h
        refine gz_sub (lw := [(0, .ref (gz_ad G 2000)), (2, .int x2), (3, .int x3), (7, .int x7), (8, .int x8), (9, .int r6)]) [1, 2, 3, 7, 8, 0] rfl ?_
        exact wb_X6_tells_100 hX h hk
      · replace h := gz_if' g10 h
        refine gz_goto (pc := 97) (tgt := 112) hX dX6_tells_97 (by decide) ?_
        refine gz_sub (lw := [(0, .ref (gz_ad G 2000)), (2, .int x2), (3, .int x3), (4, .int x4), (5, .int x5), (6, .int x6), (7, .int x7), (8, .int x8)]) [1, 2, 3, 4, 5, 6, 7, 8] rfl ?_
        exact wb_X6_tells_112 hX h hk
noncomputable def ml_X6_tells_60 (x2 : Int32) (x3 : Int32) (x4 : Int32) (x5 : Int32) (x6 : Int32) (x7 : Int32) (x8 : Int32) (m : MM) : Option ((Int32 × Int32 × Int32 × Int32 × Int32 × Int32 × MM) ⊕ (Int32 × MM)) := gz_loop (fun q : (Int32 × Int32 × Int32 × Int32 × Int32 × Int32 × Int32 × MM) => mb_X6_tells_60 q.1 q.2.1 q.2.2.1 q.2.2.2.1 q.2.2.2.2.1 q.2.2.2.2.2.1 q.2.2.2.2.2.2.1 q.2.2.2.2.2.2.2) (x2, x3, x4, x5, x6, x7, x8, m)
theorem wl_X6_tells_60 {X : gz_X} {G : gz_G} (hX : gz_C mS X G cX6_tells 10 RX6 7 158) {x2 : Int32} {x3 : Int32} {x4 : Int32} {x5 : Int32} {x6 : Int32} {x7 : Int32} {x8 : Int32}  {m : MM} {z : ((Int32 × Int32 × Int32 × Int32 × Int32 × Int32 × MM) ⊕ (Int32 × MM))} (h : ml_X6_tells_60 x2 x3 x4 x5 x6 x7 x8 m = some z) (hk : (Sum.elim (mP_X6_tells_41 X G) (fun z : (Int32 × MM) => gz_kI mS X G 10 (0, 0) cX6_tells (mF z.2) z.1)) z) : gz_V mS X G 10 (0, 0) (mF m) 60 [(0, .ref (gz_ad G 2000)), (2, .int x2), (3, .int x3), (4, .int x4), (5, .int x5), (6, .int x6), (7, .int x7), (8, .int x8)] [] := by
  have hp : mP_X6_tells_60 X G (x2, x3, x4, x5, x6, x7, x8, m) := gz_loop_ind (fun q z hz hkz => wb_X6_tells_60 hX  hz hkz) h hk
  exact hp
noncomputable def mb_X6_tells_41 (x2 : Int32) (x3 : Int32) (x4 : Int32) (x5 : Int32) (x6 : Int32) (x7 : Int32) (m : MM) : Option ((Int32 × Int32 × Int32 × Int32 × Int32 × Int32 × MM) ⊕ (Int32 × MM)) :=
  (if x3 = (0 : Int32) then (Option.map Sum.inr (mj_X6_tells_124 x2 x4 x5 x6 m)) else ((mf_isAhead x7 (1 : Int32) (30 : Int32) m).bind fun (r2, m3) => (if r2 = (0 : Int32) then (Option.map Sum.inr (mj_X6_tells_124 x2 x4 x5 x6 m3)) else (ml_X6_tells_60 x2 x3 x4 x5 x6 x7 (0 : Int32) m3))))
theorem wb_X6_tells_41 {X : gz_X} {G : gz_G} (hX : gz_C mS X G cX6_tells 10 RX6 7 158) {x2 : Int32} {x3 : Int32} {x4 : Int32} {x5 : Int32} {x6 : Int32} {x7 : Int32}  {m : MM} {z : ((Int32 × Int32 × Int32 × Int32 × Int32 × Int32 × MM) ⊕ (Int32 × MM))} (h : mb_X6_tells_41 x2 x3 x4 x5 x6 x7 m = some z) (hk : (Sum.elim (mP_X6_tells_41 X G) (fun z : (Int32 × MM) => gz_kI mS X G 10 (0, 0) cX6_tells (mF z.2) z.1)) z) : gz_V mS X G 10 (0, 0) (mF m) 41 [(0, .ref (gz_ad G 2000)), (2, .int x2), (3, .int x3), (4, .int x4), (5, .int x5), (6, .int x6), (7, .int x7)] [] := by
  unfold mb_X6_tells_41 at h
  refine gz_iload_n (pc := 41) hX dX6_tells_41 rfl 2 rfl ?_
  refine gz_if_eq (pc := 42) (tgt := 124) hX dX6_tells_42 (by decide) (fun g1 => ?_) (fun g1 => ?_)
  · replace h := gz_it' g1 h
    refine gz_sub (lw := [(0, .ref (gz_ad G 2000)), (2, .int x2), (4, .int x4), (5, .int x5), (6, .int x6)]) [0, 1, 3, 4, 5] rfl ?_
    obtain ⟨z0, hm0, rfl⟩ := gz_mp h
    exact wb_X6_tells_124 hX hm0 hk
  · replace h := gz_if' g1 h
    refine gz_aload_n (pc := 45) hX dX6_tells_45 rfl 0 rfl ?_
    refine gz_iload (pc := 46) hX dX6_tells_46 6 rfl ?_
    refine gz_iconst (pc := 48) (v := (1 : Int32)) hX dX6_tells_48 (by decide) ?_
    refine gz_bipush (pc := 49) (v := (30 : Int32)) hX dX6_tells_49 (by decide) ?_
    obtain ⟨⟨r2, m3⟩, c4, h⟩ := gz_bd h
    refine mc_isAhead (pc := 51) hX c4 ⟨Nat.le_of_ble_eq_true rfl, Nat.le_of_ble_eq_true rfl⟩ (rest := []) rfl (Nat.le_of_ble_eq_true rfl) dX6_tells_51 ?_
    refine gz_if_eq (pc := 54) (tgt := 124) hX dX6_tells_54 (by decide) (fun g5 => ?_) (fun g5 => ?_)
    · replace h := gz_it' g5 h
      refine gz_sub (lw := [(0, .ref (gz_ad G 2000)), (2, .int x2), (4, .int x4), (5, .int x5), (6, .int x6)]) [0, 1, 3, 4, 5] rfl ?_
      obtain ⟨z0, hm0, rfl⟩ := gz_mp h
      exact wb_X6_tells_124 hX hm0 hk
    · replace h := gz_if' g5 h
      refine gz_iconst (pc := 57) (v := (0 : Int32)) hX dX6_tells_57 (by decide) ?_
      refine gz_istore (pc := 58) (lw := [(8, .int (0 : Int32)), (0, .ref (gz_ad G 2000)), (2, .int x2), (3, .int x3), (4, .int x4), (5, .int x5), (6, .int x6), (7, .int x7)]) hX dX6_tells_58 (by decide) rfl ?_
      refine gz_sub (lw := [(0, .ref (gz_ad G 2000)), (2, .int x2), (3, .int x3), (4, .int x4), (5, .int x5), (6, .int x6), (7, .int x7), (8, .int (0 : Int32))]) [1, 2, 3, 4, 5, 6, 7, 0] rfl ?_
      exact wl_X6_tells_60 hX h hk
noncomputable def ml_X6_tells_41 (x2 : Int32) (x3 : Int32) (x4 : Int32) (x5 : Int32) (x6 : Int32) (x7 : Int32) (m : MM) : Option (Int32 × MM) := gz_loop (fun q : (Int32 × Int32 × Int32 × Int32 × Int32 × Int32 × MM) => mb_X6_tells_41 q.1 q.2.1 q.2.2.1 q.2.2.2.1 q.2.2.2.2.1 q.2.2.2.2.2.1 q.2.2.2.2.2.2) (x2, x3, x4, x5, x6, x7, m)
theorem wl_X6_tells_41 {X : gz_X} {G : gz_G} (hX : gz_C mS X G cX6_tells 10 RX6 7 158) {x2 : Int32} {x3 : Int32} {x4 : Int32} {x5 : Int32} {x6 : Int32} {x7 : Int32}  {m : MM} {z : (Int32 × MM)} (h : ml_X6_tells_41 x2 x3 x4 x5 x6 x7 m = some z) (hk : (fun z : (Int32 × MM) => gz_kI mS X G 10 (0, 0) cX6_tells (mF z.2) z.1) z) : gz_V mS X G 10 (0, 0) (mF m) 41 [(0, .ref (gz_ad G 2000)), (2, .int x2), (3, .int x3), (4, .int x4), (5, .int x5), (6, .int x6), (7, .int x7)] [] := by
  have hp : mP_X6_tells_41 X G (x2, x3, x4, x5, x6, x7, m) := gz_loop_ind (fun q z hz hkz => wb_X6_tells_41 hX  hz hkz) h hk
  exact hp
noncomputable def mf_tells (x1 : Int32) (x2 : Int32) (m : MM) : Option (Int32 × MM) :=
  ((mf_isThing (x1.toInt64) m).bind fun (r1, m2) => (if r1 = (0 : Int32) then (mj_X6_tells_21  m2) else ((mf_isIn (x2.toInt64) (0 : Int64) (2 : Int64) m2).bind fun (r5, m6) => (if r5 = (0 : Int32) then (mj_X6_tells_21  m6) else ((mf_heatSet x1 m6).bind fun (r9, m10) => (ml_X6_tells_41 x2 r9 (-1 : Int32) (-1 : Int32) (0 : Int32) (1 : Int32) m10))))))
theorem wm_tells {X : gz_X} {G : gz_G} (hX : gz_C mS X G cX6_tells 10 RX6 7 158) {x1 : Int32} {x2 : Int32}  {m : MM} {z : (Int32 × MM)} (h : mf_tells x1 x2 m = some z) (hk : (fun z : (Int32 × MM) => gz_kI mS X G 10 (0, 0) cX6_tells (mF z.2) z.1) z) : gz_V mS X G 10 (0, 0) (mF m) 0 [(0, .ref (gz_ad G 2000)), (1, .int x1), (2, .int x2)] [] := by
  unfold mf_tells at h
  refine gz_aload_n (pc := 0) hX dX6_tells_0 rfl 0 rfl ?_
  refine gz_iload_n (pc := 1) hX dX6_tells_1 rfl 1 rfl ?_
  refine gz_i2l (pc := 2) hX dX6_tells_2 ?_
  obtain ⟨⟨r1, m2⟩, c3, h⟩ := gz_bd h
  refine mc_isThing (pc := 3) hX c3 ⟨Nat.le_of_ble_eq_true rfl, Nat.le_of_ble_eq_true rfl⟩ (rest := []) rfl (Nat.le_of_ble_eq_true rfl) dX6_tells_3 ?_
  refine gz_if_eq (pc := 6) (tgt := 21) hX dX6_tells_6 (by decide) (fun g4 => ?_) (fun g4 => ?_)
  · replace h := gz_it' g4 h
    refine gz_sub (lw := [(0, .ref (gz_ad G 2000))]) [0] rfl ?_
    exact wb_X6_tells_21 hX h hk
  · replace h := gz_if' g4 h
    refine gz_iload_n (pc := 9) hX dX6_tells_9 rfl 2 rfl ?_
    refine gz_i2l (pc := 10) hX dX6_tells_10 ?_
    refine gz_lconst (pc := 11) (v := (0 : Int64)) hX dX6_tells_11 (by decide) ?_
    refine gz_ldc2 (pc := 12) (v := (2 : Int64)) hX q2418 dX6_tells_12 ?_
    obtain ⟨⟨r5, m6⟩, c7, h⟩ := gz_bd h
    refine mc_isIn (pc := 15) hX c7 ⟨Nat.le_of_ble_eq_true rfl, Nat.le_of_ble_eq_true rfl⟩ (rest := []) rfl (Nat.le_of_ble_eq_true rfl) dX6_tells_15 ?_
    refine gz_if_ne (pc := 18) (tgt := 23) hX dX6_tells_18 (by decide) (fun g8 => ?_) (fun g8 => ?_)
    · replace h := gz_if' g8 h
      refine gz_aload_n (pc := 23) hX dX6_tells_23 rfl 0 rfl ?_
      refine gz_iload_n (pc := 24) hX dX6_tells_24 rfl 1 rfl ?_
      obtain ⟨⟨r9, m10⟩, c11, h⟩ := gz_bd h
      refine mc_heatSet (pc := 25) hX c11 ⟨Nat.le_of_ble_eq_true rfl, Nat.le_of_ble_eq_true rfl⟩ (rest := []) rfl (Nat.le_of_ble_eq_true rfl) dX6_tells_25 ?_
      refine gz_istore_n (pc := 28) (lw := [(3, .int r9), (0, .ref (gz_ad G 2000)), (1, .int x1), (2, .int x2)]) hX dX6_tells_28 rfl (by decide) rfl ?_
      refine gz_iconst (pc := 29) (v := (-1 : Int32)) hX dX6_tells_29 (by decide) ?_
      refine gz_istore (pc := 30) (lw := [(4, .int (-1 : Int32)), (3, .int r9), (0, .ref (gz_ad G 2000)), (1, .int x1), (2, .int x2)]) hX dX6_tells_30 (by decide) rfl ?_
      refine gz_iconst (pc := 32) (v := (-1 : Int32)) hX dX6_tells_32 (by decide) ?_
      refine gz_istore (pc := 33) (lw := [(5, .int (-1 : Int32)), (4, .int (-1 : Int32)), (3, .int r9), (0, .ref (gz_ad G 2000)), (1, .int x1), (2, .int x2)]) hX dX6_tells_33 (by decide) rfl ?_
      refine gz_iconst (pc := 35) (v := (0 : Int32)) hX dX6_tells_35 (by decide) ?_
      refine gz_istore (pc := 36) (lw := [(6, .int (0 : Int32)), (5, .int (-1 : Int32)), (4, .int (-1 : Int32)), (3, .int r9), (0, .ref (gz_ad G 2000)), (1, .int x1), (2, .int x2)]) hX dX6_tells_36 (by decide) rfl ?_
      refine gz_iconst (pc := 38) (v := (1 : Int32)) hX dX6_tells_38 (by decide) ?_
      refine gz_istore (pc := 39) (lw := [(7, .int (1 : Int32)), (6, .int (0 : Int32)), (5, .int (-1 : Int32)), (4, .int (-1 : Int32)), (3, .int r9), (0, .ref (gz_ad G 2000)), (1, .int x1), (2, .int x2)]) hX dX6_tells_39 (by decide) rfl ?_
      refine gz_sub (lw := [(0, .ref (gz_ad G 2000)), (2, .int x2), (3, .int r9), (4, .int (-1 : Int32)), (5, .int (-1 : Int32)), (6, .int (0 : Int32)), (7, .int (1 : Int32))]) [5, 7, 4, 3, 2, 1, 0] rfl ?_
      exact wl_X6_tells_41 hX h hk
    · replace h := gz_it' g8 h
      refine gz_sub (lw := [(0, .ref (gz_ad G 2000))]) [0] rfl ?_
      exact wb_X6_tells_21 hX h hk
theorem mt_tells {G : gz_G} {l : Launch} {x1 : Int32} {x2 : Int32}  {m m9 : MM} {r : Int32} (h : mf_tells x1 x2 m = some (r, m9)) : gz_Met mS G l yX6_tells cX6_tells 10 (some .int) (mRm 7 158) [.ref (gz_ad G 2000), .int x1, .int x2] (mF m) (mF m9) (some (.int r)) :=
  gz_ofI (plainFor_of_name mz_plain) (Nat.le_of_ble_eq_true rfl) fun X _ hX hk => wm_tells hX h hk
/-! undo()Z -/
def mP_X6_undo_21 (X : gz_X) (G : gz_G) (q : (Int32 × MM)) : Prop := gz_V mS X G 2 (0, 0) (mF q.2) 21 [(0, .ref (gz_ad G 2000)), (1, .int q.1)] []
noncomputable def mb_X6_undo_21 (x1 : Int32) (m : MM) : Option ((Int32 × MM) ⊕ (Int32 × MM)) :=
  (if (151 : Int32) ≤ x1 then gz_let (msI m 2000 69 ((((m.1 2000 69) + (20 : Int32)) - (1 : Int32)) - (((m.1 2000 69) + (20 : Int32)) - (1 : Int32)) / (20 : Int32) * (20 : Int32))) fun m2 => gz_let (msI m2 2000 68 ((m2.1 2000 68) - (1 : Int32))) fun m3 => some (Sum.inr ((1 : Int32), m3)) else (if gz_in (((151 : Int32) * (m.1 2000 69)) + x1) (3020) then (if gz_in x1 (151) then gz_let (msI m 1051 (gz_ix x1) (m.1 1068 (gz_ix (((151 : Int32) * (m.1 2000 69)) + x1)))) fun m6 => gz_let (x1 + (1 : Int32)) fun y7 => some (Sum.inl (y7, m6)) else none) else none))
theorem wb_X6_undo_21 {X : gz_X} {G : gz_G} (hX : gz_C mS X G cX6_undo 2 RX6 0 0) {x1 : Int32}  {m : MM} {z : ((Int32 × MM) ⊕ (Int32 × MM))} (h : mb_X6_undo_21 x1 m = some z) (hk : (Sum.elim (mP_X6_undo_21 X G) (fun z : (Int32 × MM) => gz_kZ mS X G 2 (0, 0) cX6_undo (mF z.2) z.1)) z) : gz_V mS X G 2 (0, 0) (mF m) 21 [(0, .ref (gz_ad G 2000)), (1, .int x1)] [] := by
  unfold mb_X6_undo_21 at h
  refine gz_iload_n (pc := 21) hX dX6_undo_21 rfl 1 rfl ?_
  refine gz_sipush (pc := 22) (v := (151 : Int32)) hX dX6_undo_22 (by decide) ?_
  refine gz_icmp_ge (pc := 25) (tgt := 55) hX dX6_undo_25 (by decide) (fun g1 => ?_) (fun g1 => ?_)
  · replace h := gz_it' g1 h
    refine gz_aload_n (pc := 55) hX dX6_undo_55 rfl 0 rfl ?_
    refine gz_aload_n (pc := 56) hX dX6_undo_56 rfl 0 rfl ?_
    refine mg_69 (pc := 57) hX dX6_undo_57 ?_
    refine gz_bipush (pc := 60) (v := (20 : Int32)) hX dX6_undo_60 (by decide) ?_
    refine gz_iadd (pc := 62) hX dX6_undo_62 ?_
    refine gz_iconst (pc := 63) (v := (1 : Int32)) hX dX6_undo_63 (by decide) ?_
    refine gz_isub (pc := 64) hX dX6_undo_64 ?_
    refine gz_bipush (pc := 65) (v := (20 : Int32)) hX dX6_undo_65 (by decide) ?_
    refine gz_irem (pc := 67) hX dX6_undo_67 (by decide) ?_
    obtain ⟨m2, em2, h⟩ := gz_lt h
    refine mp_69 (pc := 68) hX dX6_undo_68 em2 ?_
    refine gz_aload_n (pc := 71) hX dX6_undo_71 rfl 0 rfl ?_
    refine gz_dup (pc := 72) hX dX6_undo_72 rfl ?_
    refine mg_68 (pc := 73) hX dX6_undo_73 ?_
    refine gz_iconst (pc := 76) (v := (1 : Int32)) hX dX6_undo_76 (by decide) ?_
    refine gz_isub (pc := 77) hX dX6_undo_77 ?_
    obtain ⟨m3, em3, h⟩ := gz_lt h
    refine mp_68 (pc := 78) hX dX6_undo_78 em3 ?_
    refine gz_iconst (pc := 81) (v := (1 : Int32)) hX dX6_undo_81 (by decide) ?_
    obtain rfl := Option.some.inj h
    exact hk _ _ dX6_undo_82 (Or.inr rfl)
  · replace h := gz_if' g1 h
    refine gz_aload_n (pc := 28) hX dX6_undo_28 rfl 0 rfl ?_
    refine mg_50 (pc := 29) hX dX6_undo_29 ?_
    refine gz_iload_n (pc := 32) hX dX6_undo_32 rfl 1 rfl ?_
    refine gz_aload_n (pc := 33) hX dX6_undo_33 rfl 0 rfl ?_
    refine mg_67 (pc := 34) hX dX6_undo_34 ?_
    refine gz_sipush (pc := 37) (v := (151 : Int32)) hX dX6_undo_37 (by decide) ?_
    refine gz_aload_n (pc := 40) hX dX6_undo_40 rfl 0 rfl ?_
    refine mg_69 (pc := 41) hX dX6_undo_41 ?_
    refine gz_imul (pc := 44) hX dX6_undo_44 ?_
    refine gz_iload_n (pc := 45) hX dX6_undo_45 rfl 1 rfl ?_
    refine gz_iadd (pc := 46) hX dX6_undo_46 ?_
    obtain ⟨g4, h⟩ := gz_gu h
    refine mz_iald (pc := 47) (c := 1068) (n := 3020) hX rfl rfl g4 dX6_undo_47 ?_
    obtain ⟨g5, h⟩ := gz_gu h
    obtain ⟨m6, em6, h⟩ := gz_lt h
    refine mz_iast (pc := 48) (c := 1051) (n := 151) hX rfl rfl g5 (Nat.le_of_ble_eq_true rfl) dX6_undo_48 em6 ?_
    obtain ⟨y7, ey7, h⟩ := gz_lt h
    refine gz_iinc (pc := 49) (v := y7) (lw := [(1, .int y7), (0, .ref (gz_ad G 2000))]) hX dX6_undo_49 (k := 1) rfl (by rw [ey7]; rfl) (by decide) rfl ?_
    refine gz_goto (pc := 52) (tgt := 21) hX dX6_undo_52 (by decide) ?_
    refine gz_sub (lw := [(0, .ref (gz_ad G 2000)), (1, .int y7)]) [1, 0] rfl ?_
    obtain rfl := Option.some.inj h
    exact hk
noncomputable def ml_X6_undo_21 (x1 : Int32) (m : MM) : Option (Int32 × MM) := gz_loop (fun q : (Int32 × MM) => mb_X6_undo_21 q.1 q.2) (x1, m)
theorem wl_X6_undo_21 {X : gz_X} {G : gz_G} (hX : gz_C mS X G cX6_undo 2 RX6 0 0) {x1 : Int32}  {m : MM} {z : (Int32 × MM)} (h : ml_X6_undo_21 x1 m = some z) (hk : (fun z : (Int32 × MM) => gz_kZ mS X G 2 (0, 0) cX6_undo (mF z.2) z.1) z) : gz_V mS X G 2 (0, 0) (mF m) 21 [(0, .ref (gz_ad G 2000)), (1, .int x1)] [] := by
  have hp : mP_X6_undo_21 X G (x1, m) := gz_loop_ind (fun q z hz hkz => wb_X6_undo_21 hX  hz hkz) h hk
  exact hp
noncomputable def mf_undo  (m : MM) : Option (Int32 × MM) :=
  (if (m.1 2000 68) = (0 : Int32) then (if gz_in (4 : Int32) (6) then (if gz_in (4 : Int32) (6) then gz_let (msI m 1010 (gz_ix (4 : Int32)) ((m.1 1010 (gz_ix (4 : Int32))) + (1 : Int32))) fun m4 => some ((0 : Int32), m4) else none) else none) else (ml_X6_undo_21 (0 : Int32) m))
theorem wm_undo {X : gz_X} {G : gz_G} (hX : gz_C mS X G cX6_undo 2 RX6 0 0)   {m : MM} {z : (Int32 × MM)} (h : mf_undo  m = some z) (hk : (fun z : (Int32 × MM) => gz_kZ mS X G 2 (0, 0) cX6_undo (mF z.2) z.1) z) : gz_V mS X G 2 (0, 0) (mF m) 0 [(0, .ref (gz_ad G 2000))] [] := by
  unfold mf_undo at h
  refine gz_aload_n (pc := 0) hX dX6_undo_0 rfl 0 rfl ?_
  refine mg_68 (pc := 1) hX dX6_undo_1 ?_
  refine gz_if_ne (pc := 4) (tgt := 19) hX dX6_undo_4 (by decide) (fun g1 => ?_) (fun g1 => ?_)
  · replace h := gz_if' g1 h
    refine gz_iconst (pc := 19) (v := (0 : Int32)) hX dX6_undo_19 (by decide) ?_
    refine gz_istore_n (pc := 20) (lw := [(1, .int (0 : Int32)), (0, .ref (gz_ad G 2000))]) hX dX6_undo_20 rfl (by decide) rfl ?_
    refine gz_sub (lw := [(0, .ref (gz_ad G 2000)), (1, .int (0 : Int32))]) [1, 0] rfl ?_
    exact wl_X6_undo_21 hX h hk
  · replace h := gz_it' g1 h
    refine gz_aload_n (pc := 7) hX dX6_undo_7 rfl 0 rfl ?_
    refine mg_9 (pc := 8) hX dX6_undo_8 ?_
    refine gz_iconst (pc := 11) (v := (4 : Int32)) hX dX6_undo_11 (by decide) ?_
    refine gz_dup2_11 (pc := 12) hX dX6_undo_12 rfl rfl ?_
    obtain ⟨g2, h⟩ := gz_gu h
    refine mz_iald (pc := 13) (c := 1010) (n := 6) hX rfl rfl g2 dX6_undo_13 ?_
    refine gz_iconst (pc := 14) (v := (1 : Int32)) hX dX6_undo_14 (by decide) ?_
    refine gz_iadd (pc := 15) hX dX6_undo_15 ?_
    obtain ⟨g3, h⟩ := gz_gu h
    obtain ⟨m4, em4, h⟩ := gz_lt h
    refine mz_iast (pc := 16) (c := 1010) (n := 6) hX rfl rfl g3 (Nat.le_of_ble_eq_true rfl) dX6_undo_16 em4 ?_
    refine gz_iconst (pc := 17) (v := (0 : Int32)) hX dX6_undo_17 (by decide) ?_
    obtain rfl := Option.some.inj h
    exact hk _ _ dX6_undo_18 (Or.inl rfl)
theorem mt_undo {G : gz_G} {l : Launch}   {m m9 : MM} {r : Int32} (h : mf_undo  m = some (r, m9)) : gz_Met mS G l yX6_undo cX6_undo 2 (some .boolean) (mRm 0 0) [.ref (gz_ad G 2000)] (mF m) (mF m9) (some (.int r)) :=
  gz_ofZ (plainFor_of_name mz_plain) (Nat.le_of_ble_eq_true rfl) fun X _ hX hk => wm_undo hX h hk
/-! keeps()V -/
def mP_X6_keeps_15 (X : gz_X) (G : gz_G) (q : (Int32 × MM)) : Prop := gz_V mS X G 2 (0, 0) (mF q.2) 15 [(0, .ref (gz_ad G 2000)), (1, .int q.1)] []
noncomputable def mb_X6_keeps_15 (x1 : Int32) (m : MM) : Option ((Int32 × MM) ⊕ (Unit × MM)) :=
  (if (151 : Int32) ≤ x1 then (if (20 : Int32) ≤ (m.1 2000 68) then some (Sum.inr ((), m)) else gz_let (msI m 2000 68 ((m.1 2000 68) + (1 : Int32))) fun m3 => some (Sum.inr ((), m3))) else (if gz_in x1 (151) then (if gz_in (((151 : Int32) * (m.1 2000 69)) + x1) (3020) then gz_let (msI m 1068 (gz_ix (((151 : Int32) * (m.1 2000 69)) + x1)) (m.1 1051 (gz_ix x1))) fun m6 => gz_let (x1 + (1 : Int32)) fun y7 => some (Sum.inl (y7, m6)) else none) else none))
theorem wb_X6_keeps_15 {X : gz_X} {G : gz_G} (hX : gz_C mS X G cX6_keeps 2 RX6 0 0) {x1 : Int32}  {m : MM} {z : ((Int32 × MM) ⊕ (Unit × MM))} (h : mb_X6_keeps_15 x1 m = some z) (hk : (Sum.elim (mP_X6_keeps_15 X G) (fun z : (Unit × MM) => gz_kV mS X G 2 (0, 0) cX6_keeps (mF z.2))) z) : gz_V mS X G 2 (0, 0) (mF m) 15 [(0, .ref (gz_ad G 2000)), (1, .int x1)] [] := by
  unfold mb_X6_keeps_15 at h
  refine gz_iload_n (pc := 15) hX dX6_keeps_15 rfl 1 rfl ?_
  refine gz_sipush (pc := 16) (v := (151 : Int32)) hX dX6_keeps_16 (by decide) ?_
  refine gz_icmp_ge (pc := 19) (tgt := 49) hX dX6_keeps_19 (by decide) (fun g1 => ?_) (fun g1 => ?_)
  · replace h := gz_it' g1 h
    refine gz_aload_n (pc := 49) hX dX6_keeps_49 rfl 0 rfl ?_
    refine mg_68 (pc := 50) hX dX6_keeps_50 ?_
    refine gz_bipush (pc := 53) (v := (20 : Int32)) hX dX6_keeps_53 (by decide) ?_
    refine gz_icmp_ge (pc := 55) (tgt := 68) hX dX6_keeps_55 (by decide) (fun g2 => ?_) (fun g2 => ?_)
    · replace h := gz_it' g2 h
      obtain rfl := Option.some.inj h
      exact hk _ _ dX6_keeps_68
    · replace h := gz_if' g2 h
      refine gz_aload_n (pc := 58) hX dX6_keeps_58 rfl 0 rfl ?_
      refine gz_dup (pc := 59) hX dX6_keeps_59 rfl ?_
      refine mg_68 (pc := 60) hX dX6_keeps_60 ?_
      refine gz_iconst (pc := 63) (v := (1 : Int32)) hX dX6_keeps_63 (by decide) ?_
      refine gz_iadd (pc := 64) hX dX6_keeps_64 ?_
      obtain ⟨m3, em3, h⟩ := gz_lt h
      refine mp_68 (pc := 65) hX dX6_keeps_65 em3 ?_
      obtain rfl := Option.some.inj h
      exact hk _ _ dX6_keeps_68
  · replace h := gz_if' g1 h
    refine gz_aload_n (pc := 22) hX dX6_keeps_22 rfl 0 rfl ?_
    refine mg_67 (pc := 23) hX dX6_keeps_23 ?_
    refine gz_sipush (pc := 26) (v := (151 : Int32)) hX dX6_keeps_26 (by decide) ?_
    refine gz_aload_n (pc := 29) hX dX6_keeps_29 rfl 0 rfl ?_
    refine mg_69 (pc := 30) hX dX6_keeps_30 ?_
    refine gz_imul (pc := 33) hX dX6_keeps_33 ?_
    refine gz_iload_n (pc := 34) hX dX6_keeps_34 rfl 1 rfl ?_
    refine gz_iadd (pc := 35) hX dX6_keeps_35 ?_
    refine gz_aload_n (pc := 36) hX dX6_keeps_36 rfl 0 rfl ?_
    refine mg_50 (pc := 37) hX dX6_keeps_37 ?_
    refine gz_iload_n (pc := 40) hX dX6_keeps_40 rfl 1 rfl ?_
    obtain ⟨g4, h⟩ := gz_gu h
    refine mz_iald (pc := 41) (c := 1051) (n := 151) hX rfl rfl g4 dX6_keeps_41 ?_
    obtain ⟨g5, h⟩ := gz_gu h
    obtain ⟨m6, em6, h⟩ := gz_lt h
    refine mz_iast (pc := 42) (c := 1068) (n := 3020) hX rfl rfl g5 (Nat.le_of_ble_eq_true rfl) dX6_keeps_42 em6 ?_
    obtain ⟨y7, ey7, h⟩ := gz_lt h
    refine gz_iinc (pc := 43) (v := y7) (lw := [(1, .int y7), (0, .ref (gz_ad G 2000))]) hX dX6_keeps_43 (k := 1) rfl (by rw [ey7]; rfl) (by decide) rfl ?_
    refine gz_goto (pc := 46) (tgt := 15) hX dX6_keeps_46 (by decide) ?_
    refine gz_sub (lw := [(0, .ref (gz_ad G 2000)), (1, .int y7)]) [1, 0] rfl ?_
    obtain rfl := Option.some.inj h
    exact hk
noncomputable def ml_X6_keeps_15 (x1 : Int32) (m : MM) : Option (Unit × MM) := gz_loop (fun q : (Int32 × MM) => mb_X6_keeps_15 q.1 q.2) (x1, m)
theorem wl_X6_keeps_15 {X : gz_X} {G : gz_G} (hX : gz_C mS X G cX6_keeps 2 RX6 0 0) {x1 : Int32}  {m : MM} {z : (Unit × MM)} (h : ml_X6_keeps_15 x1 m = some z) (hk : (fun z : (Unit × MM) => gz_kV mS X G 2 (0, 0) cX6_keeps (mF z.2)) z) : gz_V mS X G 2 (0, 0) (mF m) 15 [(0, .ref (gz_ad G 2000)), (1, .int x1)] [] := by
  have hp : mP_X6_keeps_15 X G (x1, m) := gz_loop_ind (fun q z hz hkz => wb_X6_keeps_15 hX  hz hkz) h hk
  exact hp
noncomputable def mf_keeps  (m : MM) : Option (Unit × MM) :=
  gz_let (msI m 2000 69 (((m.1 2000 69) + (1 : Int32)) - ((m.1 2000 69) + (1 : Int32)) / (20 : Int32) * (20 : Int32))) fun m1 => (ml_X6_keeps_15 (0 : Int32) m1)
theorem wm_keeps {X : gz_X} {G : gz_G} (hX : gz_C mS X G cX6_keeps 2 RX6 0 0)   {m : MM} {z : (Unit × MM)} (h : mf_keeps  m = some z) (hk : (fun z : (Unit × MM) => gz_kV mS X G 2 (0, 0) cX6_keeps (mF z.2)) z) : gz_V mS X G 2 (0, 0) (mF m) 0 [(0, .ref (gz_ad G 2000))] [] := by
  unfold mf_keeps at h
  refine gz_aload_n (pc := 0) hX dX6_keeps_0 rfl 0 rfl ?_
  refine gz_aload_n (pc := 1) hX dX6_keeps_1 rfl 0 rfl ?_
  refine mg_69 (pc := 2) hX dX6_keeps_2 ?_
  refine gz_iconst (pc := 5) (v := (1 : Int32)) hX dX6_keeps_5 (by decide) ?_
  refine gz_iadd (pc := 6) hX dX6_keeps_6 ?_
  refine gz_bipush (pc := 7) (v := (20 : Int32)) hX dX6_keeps_7 (by decide) ?_
  refine gz_irem (pc := 9) hX dX6_keeps_9 (by decide) ?_
  obtain ⟨m1, em1, h⟩ := gz_lt h
  refine mp_69 (pc := 10) hX dX6_keeps_10 em1 ?_
  refine gz_iconst (pc := 13) (v := (0 : Int32)) hX dX6_keeps_13 (by decide) ?_
  refine gz_istore_n (pc := 14) (lw := [(1, .int (0 : Int32)), (0, .ref (gz_ad G 2000))]) hX dX6_keeps_14 rfl (by decide) rfl ?_
  refine gz_sub (lw := [(0, .ref (gz_ad G 2000)), (1, .int (0 : Int32))]) [1, 0] rfl ?_
  exact wl_X6_keeps_15 hX h hk
theorem mt_keeps {G : gz_G} {l : Launch}   {m m9 : MM} (h : mf_keeps  m = some ((), m9)) : gz_Met mS G l yX6_keeps cX6_keeps 2 none (mRm 0 0) [.ref (gz_ad G 2000)] (mF m) (mF m9) none :=
  gz_ofV (plainFor_of_name mz_plain) (Nat.le_of_ble_eq_true rfl) fun X _ hX hk => wm_keeps hX h hk
theorem mc_keeps {X : gz_X} {G : gz_G} {cc : ByteArray} {nL fr lo pc : Nat} {lv : List (Nat × Value)} {rest st0 : List Value} (hX : gz_C mS X G cc nL RX6 fr lo)   {m m9 : MM} (h : mf_keeps  m = some ((), m9)) (hroom : 0 + 1 ≤ fr ∧ 8 + (2 + 11) + 0 ≤ lo) (hst : st0 = [.ref (gz_ad G 2000)] ++ rest) (hW : (rest.map fun v => v.category).sum ≤ 8) (hd : decode cc pc = .ok (.invokevirtual 574, 3)) (kk : gz_V mS X G nL (0, 0) (mF m9) (pc + 3) lv (rest)) : gz_V mS X G nL (0, 0) (mF m) pc lv st0 :=
  gz_callV hX mz_E (As := []) (rest := rest) (q := (RX6, TX6, 104)) (ci := 0) (c := 2000) (mt_keeps (l := X.2.1) h) (lw_V q2564 q2566 qs156 q182 q2567) (n := 0) (by decide +kernel) hroom rfl rfl (by decide) rfl hst hW hd (rem := (0, 0)) kk
/-! go(I)I -/
noncomputable def mj_X6_go_59  (m : MM) : Option (Int32 × MM) :=
  ((mf_refuses (2 : Int32) m).bind fun (r1, m2) => some (r1, m2))
theorem wb_X6_go_59 {X : gz_X} {G : gz_G} (hX : gz_C mS X G cX6_go 3 RX6 7 154)   {m : MM} {z : (Int32 × MM)} (h : mj_X6_go_59  m = some z) (hk : (fun z : (Int32 × MM) => gz_kI mS X G 3 (0, 0) cX6_go (mF z.2) z.1) z) : gz_V mS X G 3 (0, 0) (mF m) 59 [(0, .ref (gz_ad G 2000))] [] := by
  unfold mj_X6_go_59 at h
  refine gz_aload_n (pc := 59) hX dX6_go_59 rfl 0 rfl ?_
  refine gz_iconst (pc := 60) (v := (2 : Int32)) hX dX6_go_60 (by decide) ?_
  obtain ⟨⟨r1, m2⟩, c3, h⟩ := gz_bd h
  refine mc_refuses (pc := 61) hX c3 ⟨Nat.le_of_ble_eq_true rfl, Nat.le_of_ble_eq_true rfl⟩ (rest := []) rfl (Nat.le_of_ble_eq_true rfl) dX6_go_61 ?_
  obtain rfl := Option.some.inj h
  exact hk _ _ dX6_go_64
noncomputable def mj_X6_go_39 (x1 : Int32) (s0 : Int32) (m : MM) : Option (Int32 × MM) :=
  (if s0 = (-1 : Int32) then (mj_X6_go_59  m) else (if gz_in (0 : Int32) (151) then (if ((m.1 1051 (gz_ix (0 : Int32))) + s0) ≤ (999 : Int32) then ((mf_keeps m).bind fun (_, m5) => ((mf_hoursGo s0 m5).bind fun (_, m8) => (if gz_in (1 : Int32) (151) then gz_let (msI m8 1051 (gz_ix (1 : Int32)) x1) fun m11 => some (s0, m11) else none))) else (mj_X6_go_59  m)) else none))
theorem wb_X6_go_39 {X : gz_X} {G : gz_G} (hX : gz_C mS X G cX6_go 3 RX6 7 154) {x1 : Int32} {s0 : Int32}  {m : MM} {z : (Int32 × MM)} (h : mj_X6_go_39 x1 s0 m = some z) (hk : (fun z : (Int32 × MM) => gz_kI mS X G 3 (0, 0) cX6_go (mF z.2) z.1) z) : gz_V mS X G 3 (0, 0) (mF m) 39 [(0, .ref (gz_ad G 2000)), (1, .int x1)] [.int s0] := by
  unfold mj_X6_go_39 at h
  refine gz_istore_n (pc := 39) (lw := [(2, .int s0), (0, .ref (gz_ad G 2000)), (1, .int x1)]) hX dX6_go_39 rfl (by decide) rfl ?_
  refine gz_iload_n (pc := 40) hX dX6_go_40 rfl 0 rfl ?_
  refine gz_iconst (pc := 41) (v := (-1 : Int32)) hX dX6_go_41 (by decide) ?_
  refine gz_icmp_eq (pc := 42) (tgt := 59) hX dX6_go_42 (by decide) (fun g1 => ?_) (fun g1 => ?_)
  · replace h := gz_it' g1 h
    refine gz_sub (lw := [(0, .ref (gz_ad G 2000))]) [1] rfl ?_
    exact wb_X6_go_59 hX h hk
  · replace h := gz_if' g1 h
    refine gz_aload_n (pc := 45) hX dX6_go_45 rfl 1 rfl ?_
    refine mg_50 (pc := 46) hX dX6_go_46 ?_
    refine gz_iconst (pc := 49) (v := (0 : Int32)) hX dX6_go_49 (by decide) ?_
    obtain ⟨g2, h⟩ := gz_gu h
    refine mz_iald (pc := 50) (c := 1051) (n := 151) hX rfl rfl g2 dX6_go_50 ?_
    refine gz_iload_n (pc := 51) hX dX6_go_51 rfl 0 rfl ?_
    refine gz_iadd (pc := 52) hX dX6_go_52 ?_
    refine gz_sipush (pc := 53) (v := (999 : Int32)) hX dX6_go_53 (by decide) ?_
    refine gz_icmp_le (pc := 56) (tgt := 65) hX dX6_go_56 (by decide) (fun g3 => ?_) (fun g3 => ?_)
    · replace h := gz_it' g3 h
      refine gz_aload_n (pc := 65) hX dX6_go_65 rfl 1 rfl ?_
      obtain ⟨⟨⟨⟩, m5⟩, c6, h⟩ := gz_bd h
      refine mc_keeps (pc := 66) hX c6 ⟨Nat.le_of_ble_eq_true rfl, Nat.le_of_ble_eq_true rfl⟩ (rest := []) rfl (Nat.le_of_ble_eq_true rfl) dX6_go_66 ?_
      refine gz_aload_n (pc := 69) hX dX6_go_69 rfl 1 rfl ?_
      refine gz_iload_n (pc := 70) hX dX6_go_70 rfl 0 rfl ?_
      obtain ⟨⟨⟨⟩, m8⟩, c9, h⟩ := gz_bd h
      refine mc_hoursGo (pc := 71) hX c9 ⟨Nat.le_of_ble_eq_true rfl, Nat.le_of_ble_eq_true rfl⟩ (rest := []) rfl (Nat.le_of_ble_eq_true rfl) dX6_go_71 ?_
      refine gz_aload_n (pc := 74) hX dX6_go_74 rfl 1 rfl ?_
      refine mg_50 (pc := 75) hX dX6_go_75 ?_
      refine gz_iconst (pc := 78) (v := (1 : Int32)) hX dX6_go_78 (by decide) ?_
      refine gz_iload_n (pc := 79) hX dX6_go_79 rfl 2 rfl ?_
      obtain ⟨g10, h⟩ := gz_gu h
      obtain ⟨m11, em11, h⟩ := gz_lt h
      refine mz_iast (pc := 80) (c := 1051) (n := 151) hX rfl rfl g10 (Nat.le_of_ble_eq_true rfl) dX6_go_80 em11 ?_
      refine gz_iload_n (pc := 81) hX dX6_go_81 rfl 0 rfl ?_
      obtain rfl := Option.some.inj h
      exact hk _ _ dX6_go_82
    · replace h := gz_if' g3 h
      refine gz_sub (lw := [(0, .ref (gz_ad G 2000))]) [1] rfl ?_
      exact wb_X6_go_59 hX h hk
noncomputable def mj_X6_go_38 (x1 : Int32) (m : MM) : Option (Int32 × MM) :=
  (mj_X6_go_39 x1 (-1 : Int32) m)
theorem wb_X6_go_38 {X : gz_X} {G : gz_G} (hX : gz_C mS X G cX6_go 3 RX6 7 154) {x1 : Int32}  {m : MM} {z : (Int32 × MM)} (h : mj_X6_go_38 x1 m = some z) (hk : (fun z : (Int32 × MM) => gz_kI mS X G 3 (0, 0) cX6_go (mF z.2) z.1) z) : gz_V mS X G 3 (0, 0) (mF m) 38 [(0, .ref (gz_ad G 2000)), (1, .int x1)] [] := by
  unfold mj_X6_go_38 at h
  refine gz_iconst (pc := 38) (v := (-1 : Int32)) hX dX6_go_38 (by decide) ?_
  exact wb_X6_go_39 hX h hk
noncomputable def mf_go (x1 : Int32) (m : MM) : Option (Int32 × MM) :=
  ((mf_isHall (x1.toInt64) m).bind fun (r1, m2) => (if r1 = (0 : Int32) then (mj_X6_go_38 x1 m2) else (if gz_in (1 : Int32) (151) then (if x1 = (m2.1 1051 (gz_ix (1 : Int32))) then (mj_X6_go_38 x1 m2) else (if gz_in (1 : Int32) (151) then (if gz_in (((8 : Int32) * (m2.1 1051 (gz_ix (1 : Int32)))) + x1) (64) then (mj_X6_go_39 x1 (m2.1 1050 (gz_ix (((8 : Int32) * (m2.1 1051 (gz_ix (1 : Int32)))) + x1))) m2) else none) else none)) else none)))
theorem wm_go {X : gz_X} {G : gz_G} (hX : gz_C mS X G cX6_go 3 RX6 7 154) {x1 : Int32}  {m : MM} {z : (Int32 × MM)} (h : mf_go x1 m = some z) (hk : (fun z : (Int32 × MM) => gz_kI mS X G 3 (0, 0) cX6_go (mF z.2) z.1) z) : gz_V mS X G 3 (0, 0) (mF m) 0 [(0, .ref (gz_ad G 2000)), (1, .int x1)] [] := by
  unfold mf_go at h
  refine gz_aload_n (pc := 0) hX dX6_go_0 rfl 0 rfl ?_
  refine gz_iload_n (pc := 1) hX dX6_go_1 rfl 1 rfl ?_
  refine gz_i2l (pc := 2) hX dX6_go_2 ?_
  obtain ⟨⟨r1, m2⟩, c3, h⟩ := gz_bd h
  refine mc_isHall (pc := 3) hX c3 ⟨Nat.le_of_ble_eq_true rfl, Nat.le_of_ble_eq_true rfl⟩ (rest := []) rfl (Nat.le_of_ble_eq_true rfl) dX6_go_3 ?_
  refine gz_if_eq (pc := 6) (tgt := 38) hX dX6_go_6 (by decide) (fun g4 => ?_) (fun g4 => ?_)
  · replace h := gz_it' g4 h
    exact wb_X6_go_38 hX h hk
  · replace h := gz_if' g4 h
    refine gz_iload_n (pc := 9) hX dX6_go_9 rfl 1 rfl ?_
    refine gz_aload_n (pc := 10) hX dX6_go_10 rfl 0 rfl ?_
    refine mg_50 (pc := 11) hX dX6_go_11 ?_
    refine gz_iconst (pc := 14) (v := (1 : Int32)) hX dX6_go_14 (by decide) ?_
    obtain ⟨g5, h⟩ := gz_gu h
    refine mz_iald (pc := 15) (c := 1051) (n := 151) hX rfl rfl g5 dX6_go_15 ?_
    refine gz_icmp_eq (pc := 16) (tgt := 38) hX dX6_go_16 (by decide) (fun g6 => ?_) (fun g6 => ?_)
    · replace h := gz_it' g6 h
      exact wb_X6_go_38 hX h hk
    · replace h := gz_if' g6 h
      refine gz_aload_n (pc := 19) hX dX6_go_19 rfl 0 rfl ?_
      refine mg_49 (pc := 20) hX dX6_go_20 ?_
      refine gz_bipush (pc := 23) (v := (8 : Int32)) hX dX6_go_23 (by decide) ?_
      refine gz_aload_n (pc := 25) hX dX6_go_25 rfl 0 rfl ?_
      refine mg_50 (pc := 26) hX dX6_go_26 ?_
      refine gz_iconst (pc := 29) (v := (1 : Int32)) hX dX6_go_29 (by decide) ?_
      obtain ⟨g7, h⟩ := gz_gu h
      refine mz_iald (pc := 30) (c := 1051) (n := 151) hX rfl rfl g7 dX6_go_30 ?_
      refine gz_imul (pc := 31) hX dX6_go_31 ?_
      refine gz_iload_n (pc := 32) hX dX6_go_32 rfl 1 rfl ?_
      refine gz_iadd (pc := 33) hX dX6_go_33 ?_
      obtain ⟨g8, h⟩ := gz_gu h
      refine mz_iald (pc := 34) (c := 1050) (n := 64) hX rfl rfl g8 dX6_go_34 ?_
      refine gz_goto (pc := 35) (tgt := 39) hX dX6_go_35 (by decide) ?_
      exact wb_X6_go_39 hX h hk
theorem mt_go {G : gz_G} {l : Launch} {x1 : Int32}  {m m9 : MM} {r : Int32} (h : mf_go x1 m = some (r, m9)) : gz_Met mS G l yX6_go cX6_go 3 (some .int) (mRm 7 154) [.ref (gz_ad G 2000), .int x1] (mF m) (mF m9) (some (.int r)) :=
  gz_ofI (plainFor_of_name mz_plain) (Nat.le_of_ble_eq_true rfl) fun X _ hX hk => wm_go hX h hk
/-! isWhereHeIs(I)Z -/
noncomputable def mj_X6_isWhereHeIs_27  (m : MM) : Option (Int32 × MM) :=
  some ((0 : Int32), m)
theorem wb_X6_isWhereHeIs_27 {X : gz_X} {G : gz_G} (hX : gz_C mS X G cX6_isWhereHeIs 2 RX6 2 47)   {m : MM} {z : (Int32 × MM)} (h : mj_X6_isWhereHeIs_27  m = some z) (hk : (fun z : (Int32 × MM) => gz_kZ mS X G 2 (0, 0) cX6_isWhereHeIs (mF z.2) z.1) z) : gz_V mS X G 2 (0, 0) (mF m) 27 [(0, .ref (gz_ad G 2000))] [] := by
  unfold mj_X6_isWhereHeIs_27 at h
  refine gz_iconst (pc := 27) (v := (0 : Int32)) hX dX6_isWhereHeIs_27 (by decide) ?_
  obtain rfl := Option.some.inj h
  exact hk _ _ dX6_isWhereHeIs_28 (Or.inl rfl)
noncomputable def mf_isWhereHeIs (x1 : Int32) (m : MM) : Option (Int32 × MM) :=
  ((mf_isThing (x1.toInt64) m).bind fun (r1, m2) => (if r1 = (0 : Int32) then (mj_X6_isWhereHeIs_27  m2) else ((mf_hallOf x1 m2).bind fun (r5, m6) => (if gz_in (1 : Int32) (151) then (if r5 = (m6.1 1051 (gz_ix (1 : Int32))) then some ((1 : Int32), m6) else (mj_X6_isWhereHeIs_27  m6)) else none))))
theorem wm_isWhereHeIs {X : gz_X} {G : gz_G} (hX : gz_C mS X G cX6_isWhereHeIs 2 RX6 2 47) {x1 : Int32}  {m : MM} {z : (Int32 × MM)} (h : mf_isWhereHeIs x1 m = some z) (hk : (fun z : (Int32 × MM) => gz_kZ mS X G 2 (0, 0) cX6_isWhereHeIs (mF z.2) z.1) z) : gz_V mS X G 2 (0, 0) (mF m) 0 [(0, .ref (gz_ad G 2000)), (1, .int x1)] [] := by
  unfold mf_isWhereHeIs at h
  refine gz_aload_n (pc := 0) hX dX6_isWhereHeIs_0 rfl 0 rfl ?_
  refine gz_iload_n (pc := 1) hX dX6_isWhereHeIs_1 rfl 1 rfl ?_
  refine gz_i2l (pc := 2) hX dX6_isWhereHeIs_2 ?_
  obtain ⟨⟨r1, m2⟩, c3, h⟩ := gz_bd h
  refine mc_isThing (pc := 3) hX c3 ⟨Nat.le_of_ble_eq_true rfl, Nat.le_of_ble_eq_true rfl⟩ (rest := []) rfl (Nat.le_of_ble_eq_true rfl) dX6_isWhereHeIs_3 ?_
  refine gz_if_eq (pc := 6) (tgt := 27) hX dX6_isWhereHeIs_6 (by decide) (fun g4 => ?_) (fun g4 => ?_)
  · replace h := gz_it' g4 h
    refine gz_sub (lw := [(0, .ref (gz_ad G 2000))]) [0] rfl ?_
    exact wb_X6_isWhereHeIs_27 hX h hk
  · replace h := gz_if' g4 h
    refine gz_aload_n (pc := 9) hX dX6_isWhereHeIs_9 rfl 0 rfl ?_
    refine gz_iload_n (pc := 10) hX dX6_isWhereHeIs_10 rfl 1 rfl ?_
    obtain ⟨⟨r5, m6⟩, c7, h⟩ := gz_bd h
    refine mc_hallOf (pc := 11) hX c7 ⟨Nat.le_of_ble_eq_true rfl, Nat.le_of_ble_eq_true rfl⟩ (rest := []) rfl (Nat.le_of_ble_eq_true rfl) dX6_isWhereHeIs_11 ?_
    refine gz_aload_n (pc := 14) hX dX6_isWhereHeIs_14 rfl 0 rfl ?_
    refine mg_50 (pc := 15) hX dX6_isWhereHeIs_15 ?_
    refine gz_iconst (pc := 18) (v := (1 : Int32)) hX dX6_isWhereHeIs_18 (by decide) ?_
    obtain ⟨g8, h⟩ := gz_gu h
    refine mz_iald (pc := 19) (c := 1051) (n := 151) hX rfl rfl g8 dX6_isWhereHeIs_19 ?_
    refine gz_icmp_ne (pc := 20) (tgt := 27) hX dX6_isWhereHeIs_20 (by decide) (fun g9 => ?_) (fun g9 => ?_)
    · replace h := gz_if' g9 h
      refine gz_sub (lw := [(0, .ref (gz_ad G 2000))]) [0] rfl ?_
      exact wb_X6_isWhereHeIs_27 hX h hk
    · replace h := gz_it' g9 h
      refine gz_iconst (pc := 23) (v := (1 : Int32)) hX dX6_isWhereHeIs_23 (by decide) ?_
      refine gz_goto (pc := 24) (tgt := 28) hX dX6_isWhereHeIs_24 (by decide) ?_
      obtain rfl := Option.some.inj h
      exact hk _ _ dX6_isWhereHeIs_28 (Or.inr rfl)
theorem mt_isWhereHeIs {G : gz_G} {l : Launch} {x1 : Int32}  {m m9 : MM} {r : Int32} (h : mf_isWhereHeIs x1 m = some (r, m9)) : gz_Met mS G l yX6_isWhereHeIs cX6_isWhereHeIs 2 (some .boolean) (mRm 2 47) [.ref (gz_ad G 2000), .int x1] (mF m) (mF m9) (some (.int r)) :=
  gz_ofZ (plainFor_of_name mz_plain) (Nat.le_of_ble_eq_true rfl) fun X _ hX hk => wm_isWhereHeIs hX h hk
theorem mc_isWhereHeIs {X : gz_X} {G : gz_G} {cc : ByteArray} {nL fr lo pc : Nat} {lv : List (Nat × Value)} {rest st0 : List Value} (hX : gz_C mS X G cc nL RX6 fr lo) {x1 : Int32}  {m m9 : MM} {r : Int32} (h : mf_isWhereHeIs x1 m = some (r, m9)) (hroom : 2 + 1 ≤ fr ∧ 8 + (2 + 11) + 47 ≤ lo) (hst : st0 = [.int x1, .ref (gz_ad G 2000)] ++ rest) (hW : (rest.map fun v => v.category).sum ≤ 8) (hd : decode cc pc = .ok (.invokevirtual 577, 3)) (kk : gz_V mS X G nL (0, 0) (mF m9) (pc + 3) lv (.int r :: rest)) : gz_V mS X G nL (0, 0) (mF m) pc lv st0 :=
  gz_callV hX mz_E (As := [.int x1]) (rest := rest) (q := (RX6, TX6, 104)) (ci := 0) (c := 2000) (mt_isWhereHeIs (l := X.2.1) h) (lw_V q2572 q2574 qs157 q182 q2575) (n := 1) (by decide +kernel) hroom rfl rfl (by decide) rfl hst hW hd (rem := (0, 0)) kk
/-! snuff(I)I -/
noncomputable def mj_X6_snuff_24  (m : MM) : Option (Int32 × MM) :=
  ((mf_refuses (2 : Int32) m).bind fun (r1, m2) => some (r1, m2))
theorem wb_X6_snuff_24 {X : gz_X} {G : gz_G} (hX : gz_C mS X G cX6_snuff 3 RX6 6 132)   {m : MM} {z : (Int32 × MM)} (h : mj_X6_snuff_24  m = some z) (hk : (fun z : (Int32 × MM) => gz_kI mS X G 3 (0, 0) cX6_snuff (mF z.2) z.1) z) : gz_V mS X G 3 (0, 0) (mF m) 24 [(0, .ref (gz_ad G 2000))] [] := by
  unfold mj_X6_snuff_24 at h
  refine gz_aload_n (pc := 24) hX dX6_snuff_24 rfl 0 rfl ?_
  refine gz_iconst (pc := 25) (v := (2 : Int32)) hX dX6_snuff_25 (by decide) ?_
  obtain ⟨⟨r1, m2⟩, c3, h⟩ := gz_bd h
  refine mc_refuses (pc := 26) hX c3 ⟨Nat.le_of_ble_eq_true rfl, Nat.le_of_ble_eq_true rfl⟩ (rest := []) rfl (Nat.le_of_ble_eq_true rfl) dX6_snuff_26 ?_
  obtain rfl := Option.some.inj h
  exact hk _ _ dX6_snuff_29
noncomputable def mf_snuff (x1 : Int32) (m : MM) : Option (Int32 × MM) :=
  ((mf_isWhereHeIs x1 m).bind fun (r1, m2) => (if r1 = (0 : Int32) then (mj_X6_snuff_24  m2) else ((mf_doesBurn x1 m2).bind fun (r5, m6) => (if r5 = (0 : Int32) then (mj_X6_snuff_24  m6) else ((mf_doesMind x1 m6).bind fun (r9, m10) => (if r9 = (0 : Int32) then ((mf_keeps m10).bind fun (_, m14) => ((mf_burningSet m14).bind fun (r16, m17) => ((mf_bits r16 m17).bind fun (r19, m20) => ((mf_putsOut x1 m20).bind fun (_, m23) => ((mf_burningSet m23).bind fun (r25, m26) => ((mf_bits r25 m26).bind fun (r28, m29) => some ((r19 - r28), m29))))))) else (mj_X6_snuff_24  m10)))))))
theorem wm_snuff {X : gz_X} {G : gz_G} (hX : gz_C mS X G cX6_snuff 3 RX6 6 132) {x1 : Int32}  {m : MM} {z : (Int32 × MM)} (h : mf_snuff x1 m = some z) (hk : (fun z : (Int32 × MM) => gz_kI mS X G 3 (0, 0) cX6_snuff (mF z.2) z.1) z) : gz_V mS X G 3 (0, 0) (mF m) 0 [(0, .ref (gz_ad G 2000)), (1, .int x1)] [] := by
  unfold mf_snuff at h
  refine gz_aload_n (pc := 0) hX dX6_snuff_0 rfl 0 rfl ?_
  refine gz_iload_n (pc := 1) hX dX6_snuff_1 rfl 1 rfl ?_
  obtain ⟨⟨r1, m2⟩, c3, h⟩ := gz_bd h
  refine mc_isWhereHeIs (pc := 2) hX c3 ⟨Nat.le_of_ble_eq_true rfl, Nat.le_of_ble_eq_true rfl⟩ (rest := []) rfl (Nat.le_of_ble_eq_true rfl) dX6_snuff_2 ?_
  refine gz_if_eq (pc := 5) (tgt := 24) hX dX6_snuff_5 (by decide) (fun g4 => ?_) (fun g4 => ?_)
  · replace h := gz_it' g4 h
    refine gz_sub (lw := [(0, .ref (gz_ad G 2000))]) [0] rfl ?_
    exact wb_X6_snuff_24 hX h hk
  · replace h := gz_if' g4 h
    refine gz_aload_n (pc := 8) hX dX6_snuff_8 rfl 0 rfl ?_
    refine gz_iload_n (pc := 9) hX dX6_snuff_9 rfl 1 rfl ?_
    obtain ⟨⟨r5, m6⟩, c7, h⟩ := gz_bd h
    refine mc_doesBurn (pc := 10) hX c7 ⟨Nat.le_of_ble_eq_true rfl, Nat.le_of_ble_eq_true rfl⟩ (rest := []) rfl (Nat.le_of_ble_eq_true rfl) dX6_snuff_10 ?_
    refine gz_if_eq (pc := 13) (tgt := 24) hX dX6_snuff_13 (by decide) (fun g8 => ?_) (fun g8 => ?_)
    · replace h := gz_it' g8 h
      refine gz_sub (lw := [(0, .ref (gz_ad G 2000))]) [0] rfl ?_
      exact wb_X6_snuff_24 hX h hk
    · replace h := gz_if' g8 h
      refine gz_aload_n (pc := 16) hX dX6_snuff_16 rfl 0 rfl ?_
      refine gz_iload_n (pc := 17) hX dX6_snuff_17 rfl 1 rfl ?_
      obtain ⟨⟨r9, m10⟩, c11, h⟩ := gz_bd h
      refine mc_doesMind (pc := 18) hX c11 ⟨Nat.le_of_ble_eq_true rfl, Nat.le_of_ble_eq_true rfl⟩ (rest := []) rfl (Nat.le_of_ble_eq_true rfl) dX6_snuff_18 ?_
      refine gz_if_eq (pc := 21) (tgt := 30) hX dX6_snuff_21 (by decide) (fun g12 => ?_) (fun g12 => ?_)
      · replace h := gz_it' g12 h
        refine gz_aload_n (pc := 30) hX dX6_snuff_30 rfl 0 rfl ?_
        obtain ⟨⟨⟨⟩, m14⟩, c15, h⟩ := gz_bd h
        refine mc_keeps (pc := 31) hX c15 ⟨Nat.le_of_ble_eq_true rfl, Nat.le_of_ble_eq_true rfl⟩ (rest := []) rfl (Nat.le_of_ble_eq_true rfl) dX6_snuff_31 ?_
        refine gz_aload_n (pc := 34) hX dX6_snuff_34 rfl 0 rfl ?_
        obtain ⟨⟨r16, m17⟩, c18, h⟩ := gz_bd h
        refine mc_burningSet (pc := 35) hX c18 ⟨Nat.le_of_ble_eq_true rfl, Nat.le_of_ble_eq_true rfl⟩ (rest := []) rfl (Nat.le_of_ble_eq_true rfl) dX6_snuff_35 ?_
        obtain ⟨⟨r19, m20⟩, c21, h⟩ := gz_bd h
        refine mc_bits (pc := 38) hX c21 ⟨Nat.le_of_ble_eq_true rfl, Nat.le_of_ble_eq_true rfl⟩ (rest := []) rfl (Nat.le_of_ble_eq_true rfl) dX6_snuff_38 ?_
        refine gz_istore_n (pc := 41) (lw := [(2, .int r19), (0, .ref (gz_ad G 2000)), (1, .int x1)]) hX dX6_snuff_41 rfl (by decide) rfl ?_
        refine gz_aload_n (pc := 42) hX dX6_snuff_42 rfl 1 rfl ?_
        refine gz_iload_n (pc := 43) hX dX6_snuff_43 rfl 2 rfl ?_
        obtain ⟨⟨⟨⟩, m23⟩, c24, h⟩ := gz_bd h
        refine mc_putsOut (pc := 44) hX c24 ⟨Nat.le_of_ble_eq_true rfl, Nat.le_of_ble_eq_true rfl⟩ (rest := []) rfl (Nat.le_of_ble_eq_true rfl) dX6_snuff_44 ?_
        refine gz_iload_n (pc := 47) hX dX6_snuff_47 rfl 0 rfl ?_
        refine gz_aload_n (pc := 48) hX dX6_snuff_48 rfl 1 rfl ?_
        obtain ⟨⟨r25, m26⟩, c27, h⟩ := gz_bd h
        refine mc_burningSet (pc := 49) hX c27 ⟨Nat.le_of_ble_eq_true rfl, Nat.le_of_ble_eq_true rfl⟩ (rest := [.int r19]) rfl (Nat.le_of_ble_eq_true rfl) dX6_snuff_49 ?_
        obtain ⟨⟨r28, m29⟩, c30, h⟩ := gz_bd h
        refine mc_bits (pc := 52) hX c30 ⟨Nat.le_of_ble_eq_true rfl, Nat.le_of_ble_eq_true rfl⟩ (rest := [.int r19]) rfl (Nat.le_of_ble_eq_true rfl) dX6_snuff_52 ?_
        refine gz_isub (pc := 55) hX dX6_snuff_55 ?_
        obtain rfl := Option.some.inj h
        exact hk _ _ dX6_snuff_56
      · replace h := gz_if' g12 h
        refine gz_sub (lw := [(0, .ref (gz_ad G 2000))]) [0] rfl ?_
        exact wb_X6_snuff_24 hX h hk
theorem mt_snuff {G : gz_G} {l : Launch} {x1 : Int32}  {m m9 : MM} {r : Int32} (h : mf_snuff x1 m = some (r, m9)) : gz_Met mS G l yX6_snuff cX6_snuff 3 (some .int) (mRm 6 132) [.ref (gz_ad G 2000), .int x1] (mF m) (mF m9) (some (.int r)) :=
  gz_ofI (plainFor_of_name mz_plain) (Nat.le_of_ble_eq_true rfl) fun X _ hX hk => wm_snuff hX h hk
/-! isRefused()Z -/
noncomputable def mf_isRefused  (m : MM) : Option (Int32 × MM) :=
  (if gz_in (2 : Int32) (6) then (if gz_in (2 : Int32) (6) then gz_let (msI m 1010 (gz_ix (2 : Int32)) ((m.1 1010 (gz_ix (2 : Int32))) + (1 : Int32))) fun m3 => some ((0 : Int32), m3) else none) else none)
theorem wm_isRefused {X : gz_X} {G : gz_G} (hX : gz_C mS X G cX6_isRefused 1 RX6 0 0)   {m : MM} {z : (Int32 × MM)} (h : mf_isRefused  m = some z) (hk : (fun z : (Int32 × MM) => gz_kZ mS X G 1 (0, 0) cX6_isRefused (mF z.2) z.1) z) : gz_V mS X G 1 (0, 0) (mF m) 0 [(0, .ref (gz_ad G 2000))] [] := by
  unfold mf_isRefused at h
  refine gz_aload_n (pc := 0) hX dX6_isRefused_0 rfl 0 rfl ?_
  refine mg_9 (pc := 1) hX dX6_isRefused_1 ?_
  refine gz_iconst (pc := 4) (v := (2 : Int32)) hX dX6_isRefused_4 (by decide) ?_
  refine gz_dup2_11 (pc := 5) hX dX6_isRefused_5 rfl rfl ?_
  obtain ⟨g1, h⟩ := gz_gu h
  refine mz_iald (pc := 6) (c := 1010) (n := 6) hX rfl rfl g1 dX6_isRefused_6 ?_
  refine gz_iconst (pc := 7) (v := (1 : Int32)) hX dX6_isRefused_7 (by decide) ?_
  refine gz_iadd (pc := 8) hX dX6_isRefused_8 ?_
  obtain ⟨g2, h⟩ := gz_gu h
  obtain ⟨m3, em3, h⟩ := gz_lt h
  refine mz_iast (pc := 9) (c := 1010) (n := 6) hX rfl rfl g2 (Nat.le_of_ble_eq_true rfl) dX6_isRefused_9 em3 ?_
  refine gz_iconst (pc := 10) (v := (0 : Int32)) hX dX6_isRefused_10 (by decide) ?_
  obtain rfl := Option.some.inj h
  exact hk _ _ dX6_isRefused_11 (Or.inl rfl)
theorem mt_isRefused {G : gz_G} {l : Launch}   {m m9 : MM} {r : Int32} (h : mf_isRefused  m = some (r, m9)) : gz_Met mS G l yX6_isRefused cX6_isRefused 1 (some .boolean) (mRm 0 0) [.ref (gz_ad G 2000)] (mF m) (mF m9) (some (.int r)) :=
  gz_ofZ (plainFor_of_name mz_plain) (Nat.le_of_ble_eq_true rfl) fun X _ hX hk => wm_isRefused hX h hk
theorem mc_isRefused {X : gz_X} {G : gz_G} {cc : ByteArray} {nL fr lo pc : Nat} {lv : List (Nat × Value)} {rest st0 : List Value} (hX : gz_C mS X G cc nL RX6 fr lo)   {m m9 : MM} {r : Int32} (h : mf_isRefused  m = some (r, m9)) (hroom : 0 + 1 ≤ fr ∧ 8 + (1 + 11) + 0 ≤ lo) (hst : st0 = [.ref (gz_ad G 2000)] ++ rest) (hW : (rest.map fun v => v.category).sum ≤ 8) (hd : decode cc pc = .ok (.invokevirtual 580, 3)) (kk : gz_V mS X G nL (0, 0) (mF m9) (pc + 3) lv (.int r :: rest)) : gz_V mS X G nL (0, 0) (mF m) pc lv st0 :=
  gz_callV hX mz_E (As := []) (rest := rest) (q := (RX6, TX6, 104)) (ci := 0) (c := 2000) (mt_isRefused (l := X.2.1) h) (lw_V q2580 q2582 qs158 q182 q2583) (n := 0) (by decide +kernel) hroom rfl rfl (by decide) rfl hst hW hd (rem := (0, 0)) kk
/-! light(I)Z -/
noncomputable def mj_X6_light_31  (m : MM) : Option (Int32 × MM) :=
  ((mf_isRefused m).bind fun (r1, m2) => (if r1 = 0 ∨ r1 = 1 then some (r1, m2) else none))
theorem wb_X6_light_31 {X : gz_X} {G : gz_G} (hX : gz_C mS X G cX6_light 2 RX6 3 68)   {m : MM} {z : (Int32 × MM)} (h : mj_X6_light_31  m = some z) (hk : (fun z : (Int32 × MM) => gz_kZ mS X G 2 (0, 0) cX6_light (mF z.2) z.1) z) : gz_V mS X G 2 (0, 0) (mF m) 31 [(0, .ref (gz_ad G 2000))] [] := by
  unfold mj_X6_light_31 at h
  refine gz_aload_n (pc := 31) hX dX6_light_31 rfl 0 rfl ?_
  obtain ⟨⟨r1, m2⟩, c3, h⟩ := gz_bd h
  refine mc_isRefused (pc := 32) hX c3 ⟨Nat.le_of_ble_eq_true rfl, Nat.le_of_ble_eq_true rfl⟩ (rest := []) rfl (Nat.le_of_ble_eq_true rfl) dX6_light_32 ?_
  obtain ⟨g4, h⟩ := gz_gu h
  obtain rfl := Option.some.inj h
  exact hk _ _ dX6_light_35 g4
noncomputable def mf_light (x1 : Int32) (m : MM) : Option (Int32 × MM) :=
  ((mf_isWhereHeIs x1 m).bind fun (r1, m2) => (if r1 = (0 : Int32) then (mj_X6_light_31  m2) else ((mf_doesBurn x1 m2).bind fun (r5, m6) => (if r5 = (0 : Int32) then ((mf_burningSet m6).bind fun (r9, m10) => ((mf_nextTo r9 m10).bind fun (r12, m13) => (if ((r12 >>> (x1 &&& 31)) &&& (1 : Int32)) = (0 : Int32) then (mj_X6_light_31  m13) else ((mf_keeps m13).bind fun (_, m17) => (if gz_in ((14 : Int32) + ((2 : Int32) * x1)) (151) then gz_let (msI m17 1051 (gz_ix ((14 : Int32) + ((2 : Int32) * x1))) (10 : Int32)) fun m20 => (if gz_in ((15 : Int32) + ((2 : Int32) * x1)) (151) then gz_let (msI m20 1051 (gz_ix ((15 : Int32) + ((2 : Int32) * x1))) (0 : Int32)) fun m22 => some ((1 : Int32), m22) else none) else none))))) else (mj_X6_light_31  m6)))))
theorem wm_light {X : gz_X} {G : gz_G} (hX : gz_C mS X G cX6_light 2 RX6 3 68) {x1 : Int32}  {m : MM} {z : (Int32 × MM)} (h : mf_light x1 m = some z) (hk : (fun z : (Int32 × MM) => gz_kZ mS X G 2 (0, 0) cX6_light (mF z.2) z.1) z) : gz_V mS X G 2 (0, 0) (mF m) 0 [(0, .ref (gz_ad G 2000)), (1, .int x1)] [] := by
  unfold mf_light at h
  refine gz_aload_n (pc := 0) hX dX6_light_0 rfl 0 rfl ?_
  refine gz_iload_n (pc := 1) hX dX6_light_1 rfl 1 rfl ?_
  obtain ⟨⟨r1, m2⟩, c3, h⟩ := gz_bd h
  refine mc_isWhereHeIs (pc := 2) hX c3 ⟨Nat.le_of_ble_eq_true rfl, Nat.le_of_ble_eq_true rfl⟩ (rest := []) rfl (Nat.le_of_ble_eq_true rfl) dX6_light_2 ?_
  refine gz_if_eq (pc := 5) (tgt := 31) hX dX6_light_5 (by decide) (fun g4 => ?_) (fun g4 => ?_)
  · replace h := gz_it' g4 h
    refine gz_sub (lw := [(0, .ref (gz_ad G 2000))]) [0] rfl ?_
    exact wb_X6_light_31 hX h hk
  · replace h := gz_if' g4 h
    refine gz_aload_n (pc := 8) hX dX6_light_8 rfl 0 rfl ?_
    refine gz_iload_n (pc := 9) hX dX6_light_9 rfl 1 rfl ?_
    obtain ⟨⟨r5, m6⟩, c7, h⟩ := gz_bd h
    refine mc_doesBurn (pc := 10) hX c7 ⟨Nat.le_of_ble_eq_true rfl, Nat.le_of_ble_eq_true rfl⟩ (rest := []) rfl (Nat.le_of_ble_eq_true rfl) dX6_light_10 ?_
    refine gz_if_ne (pc := 13) (tgt := 31) hX dX6_light_13 (by decide) (fun g8 => ?_) (fun g8 => ?_)
    · replace h := gz_if' g8 h
      refine gz_sub (lw := [(0, .ref (gz_ad G 2000))]) [0] rfl ?_
      exact wb_X6_light_31 hX h hk
    · replace h := gz_it' g8 h
      refine gz_aload_n (pc := 16) hX dX6_light_16 rfl 0 rfl ?_
      refine gz_aload_n (pc := 17) hX dX6_light_17 rfl 0 rfl ?_
      obtain ⟨⟨r9, m10⟩, c11, h⟩ := gz_bd h
      refine mc_burningSet (pc := 18) hX c11 ⟨Nat.le_of_ble_eq_true rfl, Nat.le_of_ble_eq_true rfl⟩ (rest := [.ref (gz_ad G 2000)]) rfl (Nat.le_of_ble_eq_true rfl) dX6_light_18 ?_
      obtain ⟨⟨r12, m13⟩, c14, h⟩ := gz_bd h
      refine mc_nextTo (pc := 21) hX c14 ⟨Nat.le_of_ble_eq_true rfl, Nat.le_of_ble_eq_true rfl⟩ (rest := []) rfl (Nat.le_of_ble_eq_true rfl) dX6_light_21 ?_
      refine gz_iload_n (pc := 24) hX dX6_light_24 rfl 1 rfl ?_
      refine gz_ishr (pc := 25) hX dX6_light_25 ?_
      refine gz_iconst (pc := 26) (v := (1 : Int32)) hX dX6_light_26 (by decide) ?_
      refine gz_iand (pc := 27) hX dX6_light_27 ?_
      refine gz_if_ne (pc := 28) (tgt := 36) hX dX6_light_28 (by decide) (fun g15 => ?_) (fun g15 => ?_)
      · replace h := gz_if' g15 h
        refine gz_aload_n (pc := 36) hX dX6_light_36 rfl 0 rfl ?_
        obtain ⟨⟨⟨⟩, m17⟩, c18, h⟩ := gz_bd h
        refine mc_keeps (pc := 37) hX c18 ⟨Nat.le_of_ble_eq_true rfl, Nat.le_of_ble_eq_true rfl⟩ (rest := []) rfl (Nat.le_of_ble_eq_true rfl) dX6_light_37 ?_
        refine gz_aload_n (pc := 40) hX dX6_light_40 rfl 0 rfl ?_
        refine mg_50 (pc := 41) hX dX6_light_41 ?_
        refine gz_bipush (pc := 44) (v := (14 : Int32)) hX dX6_light_44 (by decide) ?_
        refine gz_iconst (pc := 46) (v := (2 : Int32)) hX dX6_light_46 (by decide) ?_
        refine gz_iload_n (pc := 47) hX dX6_light_47 rfl 1 rfl ?_
        refine gz_imul (pc := 48) hX dX6_light_48 ?_
        refine gz_iadd (pc := 49) hX dX6_light_49 ?_
        refine gz_bipush (pc := 50) (v := (10 : Int32)) hX dX6_light_50 (by decide) ?_
        obtain ⟨g19, h⟩ := gz_gu h
        obtain ⟨m20, em20, h⟩ := gz_lt h
        refine mz_iast (pc := 52) (c := 1051) (n := 151) hX rfl rfl g19 (Nat.le_of_ble_eq_true rfl) dX6_light_52 em20 ?_
        refine gz_aload_n (pc := 53) hX dX6_light_53 rfl 0 rfl ?_
        refine mg_50 (pc := 54) hX dX6_light_54 ?_
        refine gz_bipush (pc := 57) (v := (15 : Int32)) hX dX6_light_57 (by decide) ?_
        refine gz_iconst (pc := 59) (v := (2 : Int32)) hX dX6_light_59 (by decide) ?_
        refine gz_iload_n (pc := 60) hX dX6_light_60 rfl 1 rfl ?_
        refine gz_imul (pc := 61) hX dX6_light_61 ?_
        refine gz_iadd (pc := 62) hX dX6_light_62 ?_
        refine gz_iconst (pc := 63) (v := (0 : Int32)) hX dX6_light_63 (by decide) ?_
        obtain ⟨g21, h⟩ := gz_gu h
        obtain ⟨m22, em22, h⟩ := gz_lt h
        refine mz_iast (pc := 64) (c := 1051) (n := 151) hX rfl rfl g21 (Nat.le_of_ble_eq_true rfl) dX6_light_64 em22 ?_
        refine gz_iconst (pc := 65) (v := (1 : Int32)) hX dX6_light_65 (by decide) ?_
        obtain rfl := Option.some.inj h
        exact hk _ _ dX6_light_66 (Or.inr rfl)
      · replace h := gz_it' g15 h
        refine gz_sub (lw := [(0, .ref (gz_ad G 2000))]) [0] rfl ?_
        exact wb_X6_light_31 hX h hk
theorem mt_light {G : gz_G} {l : Launch} {x1 : Int32}  {m m9 : MM} {r : Int32} (h : mf_light x1 m = some (r, m9)) : gz_Met mS G l yX6_light cX6_light 2 (some .boolean) (mRm 3 68) [.ref (gz_ad G 2000), .int x1] (mF m) (mF m9) (some (.int r)) :=
  gz_ofZ (plainFor_of_name mz_plain) (Nat.le_of_ble_eq_true rfl) fun X _ hX hk => wm_light hX h hk
/-! bind(II)Z -/
noncomputable def mj_X6_bind_30  (m : MM) : Option (Int32 × MM) :=
  ((mf_isRefused m).bind fun (r1, m2) => (if r1 = 0 ∨ r1 = 1 then some (r1, m2) else none))
theorem wb_X6_bind_30 {X : gz_X} {G : gz_G} (hX : gz_C mS X G cX6_bind 3 RX6 2 46)   {m : MM} {z : (Int32 × MM)} (h : mj_X6_bind_30  m = some z) (hk : (fun z : (Int32 × MM) => gz_kZ mS X G 3 (0, 0) cX6_bind (mF z.2) z.1) z) : gz_V mS X G 3 (0, 0) (mF m) 30 [(0, .ref (gz_ad G 2000))] [] := by
  unfold mj_X6_bind_30 at h
  refine gz_aload_n (pc := 30) hX dX6_bind_30 rfl 0 rfl ?_
  obtain ⟨⟨r1, m2⟩, c3, h⟩ := gz_bd h
  refine mc_isRefused (pc := 31) hX c3 ⟨Nat.le_of_ble_eq_true rfl, Nat.le_of_ble_eq_true rfl⟩ (rest := []) rfl (Nat.le_of_ble_eq_true rfl) dX6_bind_31 ?_
  obtain ⟨g4, h⟩ := gz_gu h
  obtain rfl := Option.some.inj h
  exact hk _ _ dX6_bind_34 g4
noncomputable def mf_bind (x1 : Int32) (x2 : Int32) (m : MM) : Option (Int32 × MM) :=
  ((mf_isTie x1 m).bind fun (r1, m2) => (if r1 = (0 : Int32) then (mj_X6_bind_30  m2) else ((mf_isIn (x2.toInt64) (0 : Int64) (1 : Int64) m2).bind fun (r5, m6) => (if r5 = (0 : Int32) then (mj_X6_bind_30  m6) else (if gz_in ((2 : Int32) + x1) (151) then (if (m6.1 1051 (gz_ix ((2 : Int32) + x1))) = x2 then (mj_X6_bind_30  m6) else ((mf_keeps m6).bind fun (_, m12) => (if gz_in ((2 : Int32) + x1) (151) then gz_let (msI m12 1051 (gz_ix ((2 : Int32) + x1)) x2) fun m15 => some ((1 : Int32), m15) else none))) else none)))))
theorem wm_bind {X : gz_X} {G : gz_G} (hX : gz_C mS X G cX6_bind 3 RX6 2 46) {x1 : Int32} {x2 : Int32}  {m : MM} {z : (Int32 × MM)} (h : mf_bind x1 x2 m = some z) (hk : (fun z : (Int32 × MM) => gz_kZ mS X G 3 (0, 0) cX6_bind (mF z.2) z.1) z) : gz_V mS X G 3 (0, 0) (mF m) 0 [(0, .ref (gz_ad G 2000)), (1, .int x1), (2, .int x2)] [] := by
  unfold mf_bind at h
  refine gz_aload_n (pc := 0) hX dX6_bind_0 rfl 0 rfl ?_
  refine gz_iload_n (pc := 1) hX dX6_bind_1 rfl 1 rfl ?_
  obtain ⟨⟨r1, m2⟩, c3, h⟩ := gz_bd h
  refine mc_isTie (pc := 2) hX c3 ⟨Nat.le_of_ble_eq_true rfl, Nat.le_of_ble_eq_true rfl⟩ (rest := []) rfl (Nat.le_of_ble_eq_true rfl) dX6_bind_2 ?_
  refine gz_if_eq (pc := 5) (tgt := 30) hX dX6_bind_5 (by decide) (fun g4 => ?_) (fun g4 => ?_)
  · replace h := gz_it' g4 h
    refine gz_sub (lw := [(0, .ref (gz_ad G 2000))]) [0] rfl ?_
    exact wb_X6_bind_30 hX h hk
  · replace h := gz_if' g4 h
    refine gz_iload_n (pc := 8) hX dX6_bind_8 rfl 2 rfl ?_
    refine gz_i2l (pc := 9) hX dX6_bind_9 ?_
    refine gz_lconst (pc := 10) (v := (0 : Int64)) hX dX6_bind_10 (by decide) ?_
    refine gz_lconst (pc := 11) (v := (1 : Int64)) hX dX6_bind_11 (by decide) ?_
    obtain ⟨⟨r5, m6⟩, c7, h⟩ := gz_bd h
    refine mc_isIn (pc := 12) hX c7 ⟨Nat.le_of_ble_eq_true rfl, Nat.le_of_ble_eq_true rfl⟩ (rest := []) rfl (Nat.le_of_ble_eq_true rfl) dX6_bind_12 ?_
    refine gz_if_eq (pc := 15) (tgt := 30) hX dX6_bind_15 (by decide) (fun g8 => ?_) (fun g8 => ?_)
    · replace h := gz_it' g8 h
      refine gz_sub (lw := [(0, .ref (gz_ad G 2000))]) [0] rfl ?_
      exact wb_X6_bind_30 hX h hk
    · replace h := gz_if' g8 h
      refine gz_aload_n (pc := 18) hX dX6_bind_18 rfl 0 rfl ?_
      refine mg_50 (pc := 19) hX dX6_bind_19 ?_
      refine gz_iconst (pc := 22) (v := (2 : Int32)) hX dX6_bind_22 (by decide) ?_
      refine gz_iload_n (pc := 23) hX dX6_bind_23 rfl 1 rfl ?_
      refine gz_iadd (pc := 24) hX dX6_bind_24 ?_
      obtain ⟨g9, h⟩ := gz_gu h
      refine mz_iald (pc := 25) (c := 1051) (n := 151) hX rfl rfl g9 dX6_bind_25 ?_
      refine gz_iload_n (pc := 26) hX dX6_bind_26 rfl 2 rfl ?_
      refine gz_icmp_ne (pc := 27) (tgt := 35) hX dX6_bind_27 (by decide) (fun g10 => ?_) (fun g10 => ?_)
      · replace h := gz_if' g10 h
        refine gz_aload_n (pc := 35) hX dX6_bind_35 rfl 0 rfl ?_
        obtain ⟨⟨⟨⟩, m12⟩, c13, h⟩ := gz_bd h
        refine mc_keeps (pc := 36) hX c13 ⟨Nat.le_of_ble_eq_true rfl, Nat.le_of_ble_eq_true rfl⟩ (rest := []) rfl (Nat.le_of_ble_eq_true rfl) dX6_bind_36 ?_
        refine gz_aload_n (pc := 39) hX dX6_bind_39 rfl 0 rfl ?_
        refine mg_50 (pc := 40) hX dX6_bind_40 ?_
        refine gz_iconst (pc := 43) (v := (2 : Int32)) hX dX6_bind_43 (by decide) ?_
        refine gz_iload_n (pc := 44) hX dX6_bind_44 rfl 1 rfl ?_
        refine gz_iadd (pc := 45) hX dX6_bind_45 ?_
        refine gz_iload_n (pc := 46) hX dX6_bind_46 rfl 2 rfl ?_
        obtain ⟨g14, h⟩ := gz_gu h
        obtain ⟨m15, em15, h⟩ := gz_lt h
        refine mz_iast (pc := 47) (c := 1051) (n := 151) hX rfl rfl g14 (Nat.le_of_ble_eq_true rfl) dX6_bind_47 em15 ?_
        refine gz_iconst (pc := 48) (v := (1 : Int32)) hX dX6_bind_48 (by decide) ?_
        obtain rfl := Option.some.inj h
        exact hk _ _ dX6_bind_49 (Or.inr rfl)
      · replace h := gz_it' g10 h
        refine gz_sub (lw := [(0, .ref (gz_ad G 2000))]) [0] rfl ?_
        exact wb_X6_bind_30 hX h hk
theorem mt_bind {G : gz_G} {l : Launch} {x1 : Int32} {x2 : Int32}  {m m9 : MM} {r : Int32} (h : mf_bind x1 x2 m = some (r, m9)) : gz_Met mS G l yX6_bind cX6_bind 3 (some .boolean) (mRm 2 46) [.ref (gz_ad G 2000), .int x1, .int x2] (mF m) (mF m9) (some (.int r)) :=
  gz_ofZ (plainFor_of_name mz_plain) (Nat.le_of_ble_eq_true rfl) fun X _ hX hk => wm_bind hX h hk
/-! hours(I)I -/
noncomputable def mf_hours (x1 : Int32) (m : MM) : Option (Int32 × MM) :=
  ((mf_isAhead x1 (1 : Int32) (100 : Int32) m).bind fun (r1, m2) => (if r1 = (0 : Int32) then ((mf_refuses (3 : Int32) m2).bind fun (r11, m12) => some (r11, m12)) else ((mf_keeps m2).bind fun (_, m6) => ((mf_hoursGo x1 m6).bind fun (_, m9) => some ((m9.1 2000 57), m9)))))
theorem wm_hours {X : gz_X} {G : gz_G} (hX : gz_C mS X G cX6_hours 2 RX6 7 154) {x1 : Int32}  {m : MM} {z : (Int32 × MM)} (h : mf_hours x1 m = some z) (hk : (fun z : (Int32 × MM) => gz_kI mS X G 2 (0, 0) cX6_hours (mF z.2) z.1) z) : gz_V mS X G 2 (0, 0) (mF m) 0 [(0, .ref (gz_ad G 2000)), (1, .int x1)] [] := by
  unfold mf_hours at h
  refine gz_aload_n (pc := 0) hX dX6_hours_0 rfl 0 rfl ?_
  refine gz_iload_n (pc := 1) hX dX6_hours_1 rfl 1 rfl ?_
  refine gz_iconst (pc := 2) (v := (1 : Int32)) hX dX6_hours_2 (by decide) ?_
  refine gz_bipush (pc := 3) (v := (100 : Int32)) hX dX6_hours_3 (by decide) ?_
  obtain ⟨⟨r1, m2⟩, c3, h⟩ := gz_bd h
  refine mc_isAhead (pc := 5) hX c3 ⟨Nat.le_of_ble_eq_true rfl, Nat.le_of_ble_eq_true rfl⟩ (rest := []) rfl (Nat.le_of_ble_eq_true rfl) dX6_hours_5 ?_
  refine gz_if_ne (pc := 8) (tgt := 17) hX dX6_hours_8 (by decide) (fun g4 => ?_) (fun g4 => ?_)
  · replace h := gz_if' g4 h
    refine gz_aload_n (pc := 17) hX dX6_hours_17 rfl 0 rfl ?_
    obtain ⟨⟨⟨⟩, m6⟩, c7, h⟩ := gz_bd h
    refine mc_keeps (pc := 18) hX c7 ⟨Nat.le_of_ble_eq_true rfl, Nat.le_of_ble_eq_true rfl⟩ (rest := []) rfl (Nat.le_of_ble_eq_true rfl) dX6_hours_18 ?_
    refine gz_aload_n (pc := 21) hX dX6_hours_21 rfl 0 rfl ?_
    refine gz_iload_n (pc := 22) hX dX6_hours_22 rfl 1 rfl ?_
    obtain ⟨⟨⟨⟩, m9⟩, c10, h⟩ := gz_bd h
    refine mc_hoursGo (pc := 23) hX c10 ⟨Nat.le_of_ble_eq_true rfl, Nat.le_of_ble_eq_true rfl⟩ (rest := []) rfl (Nat.le_of_ble_eq_true rfl) dX6_hours_23 ?_
    refine gz_aload_n (pc := 26) hX dX6_hours_26 rfl 0 rfl ?_
    refine mg_57 (pc := 27) hX dX6_hours_27 ?_
    obtain rfl := Option.some.inj h
    exact hk _ _ dX6_hours_30
  · replace h := gz_it' g4 h
    refine gz_aload_n (pc := 11) hX dX6_hours_11 rfl 0 rfl ?_
    refine gz_iconst (pc := 12) (v := (3 : Int32)) hX dX6_hours_12 (by decide) ?_
    obtain ⟨⟨r11, m12⟩, c13, h⟩ := gz_bd h
    refine mc_refuses (pc := 13) hX c13 ⟨Nat.le_of_ble_eq_true rfl, Nat.le_of_ble_eq_true rfl⟩ (rest := []) rfl (Nat.le_of_ble_eq_true rfl) dX6_hours_13 ?_
    obtain rfl := Option.some.inj h
    exact hk _ _ dX6_hours_16
theorem mt_hours {G : gz_G} {l : Launch} {x1 : Int32}  {m m9 : MM} {r : Int32} (h : mf_hours x1 m = some (r, m9)) : gz_Met mS G l yX6_hours cX6_hours 2 (some .int) (mRm 7 154) [.ref (gz_ad G 2000), .int x1] (mF m) (mF m9) (some (.int r)) :=
  gz_ofI (plainFor_of_name mz_plain) (Nat.le_of_ble_eq_true rfl) fun X _ hX hk => wm_hours hX h hk
/-! seed(I)Z -/
noncomputable def mf_seed (x1 : Int32) (m : MM) : Option (Int32 × MM) :=
  (if (0 : Int32) ≤ x1 then gz_let (msL m 2000 70 (x1.toInt64)) fun m2 => some ((1 : Int32), m2) else (if gz_in (5 : Int32) (6) then (if gz_in (5 : Int32) (6) then gz_let (msI m 1010 (gz_ix (5 : Int32)) ((m.1 1010 (gz_ix (5 : Int32))) + (1 : Int32))) fun m5 => some ((0 : Int32), m5) else none) else none))
theorem wm_seed {X : gz_X} {G : gz_G} (hX : gz_C mS X G cX6_seed 2 RX6 0 0) {x1 : Int32}  {m : MM} {z : (Int32 × MM)} (h : mf_seed x1 m = some z) (hk : (fun z : (Int32 × MM) => gz_kZ mS X G 2 (0, 0) cX6_seed (mF z.2) z.1) z) : gz_V mS X G 2 (0, 0) (mF m) 0 [(0, .ref (gz_ad G 2000)), (1, .int x1)] [] := by
  unfold mf_seed at h
  refine gz_iload_n (pc := 0) hX dX6_seed_0 rfl 1 rfl ?_
  refine gz_if_ge (pc := 1) (tgt := 16) hX dX6_seed_1 (by decide) (fun g1 => ?_) (fun g1 => ?_)
  · replace h := gz_it' g1 h
    refine gz_aload_n (pc := 16) hX dX6_seed_16 rfl 0 rfl ?_
    refine gz_iload_n (pc := 17) hX dX6_seed_17 rfl 1 rfl ?_
    refine gz_i2l (pc := 18) hX dX6_seed_18 ?_
    obtain ⟨m2, em2, h⟩ := gz_lt h
    refine mp_70 (pc := 19) hX dX6_seed_19 em2 ?_
    refine gz_iconst (pc := 22) (v := (1 : Int32)) hX dX6_seed_22 (by decide) ?_
    obtain rfl := Option.some.inj h
    exact hk _ _ dX6_seed_23 (Or.inr rfl)
  · replace h := gz_if' g1 h
    refine gz_aload_n (pc := 4) hX dX6_seed_4 rfl 0 rfl ?_
    refine mg_9 (pc := 5) hX dX6_seed_5 ?_
    refine gz_iconst (pc := 8) (v := (5 : Int32)) hX dX6_seed_8 (by decide) ?_
    refine gz_dup2_11 (pc := 9) hX dX6_seed_9 rfl rfl ?_
    obtain ⟨g3, h⟩ := gz_gu h
    refine mz_iald (pc := 10) (c := 1010) (n := 6) hX rfl rfl g3 dX6_seed_10 ?_
    refine gz_iconst (pc := 11) (v := (1 : Int32)) hX dX6_seed_11 (by decide) ?_
    refine gz_iadd (pc := 12) hX dX6_seed_12 ?_
    obtain ⟨g4, h⟩ := gz_gu h
    obtain ⟨m5, em5, h⟩ := gz_lt h
    refine mz_iast (pc := 13) (c := 1010) (n := 6) hX rfl rfl g4 (Nat.le_of_ble_eq_true rfl) dX6_seed_13 em5 ?_
    refine gz_iconst (pc := 14) (v := (0 : Int32)) hX dX6_seed_14 (by decide) ?_
    obtain rfl := Option.some.inj h
    exact hk _ _ dX6_seed_15 (Or.inl rfl)
theorem mt_seed {G : gz_G} {l : Launch} {x1 : Int32}  {m m9 : MM} {r : Int32} (h : mf_seed x1 m = some (r, m9)) : gz_Met mS G l yX6_seed cX6_seed 2 (some .boolean) (mRm 0 0) [.ref (gz_ad G 2000), .int x1] (mF m) (mF m9) (some (.int r)) :=
  gz_ofZ (plainFor_of_name mz_plain) (Nat.le_of_ble_eq_true rfl) fun X _ hX hk => wm_seed hX h hk
