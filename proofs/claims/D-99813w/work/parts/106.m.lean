set_option maxRecDepth 100000
/-! takesBack()V -/
noncomputable def mf_takesBack  (m : MM) : Option (Unit × MM) :=
  ((mf_triesAnew m).bind fun (_, m2) => gz_let (msI m2 2000 52 (-1 : Int32)) fun m4 => gz_let (msI m4 2000 56 (0 : Int32)) fun m5 => some ((), m5))
theorem wm_takesBack {X : gz_X} {G : gz_G} (hX : gz_C mS X G cX6_takesBack 1 RX6 1 21)   {m : MM} {z : (Unit × MM)} (h : mf_takesBack  m = some z) (hk : (fun z : (Unit × MM) => gz_kV mS X G 1 (0, 0) cX6_takesBack (mF z.2)) z) : gz_V mS X G 1 (0, 0) (mF m) 0 [(0, .ref (gz_ad G 2000))] [] := by
  unfold mf_takesBack at h
  refine gz_aload_n (pc := 0) hX dX6_takesBack_0 rfl 0 rfl ?_
  obtain ⟨⟨⟨⟩, m2⟩, c3, h⟩ := gz_bd h
  refine mc_triesAnew (pc := 1) hX c3 ⟨Nat.le_of_ble_eq_true rfl, Nat.le_of_ble_eq_true rfl⟩ (rest := []) rfl (Nat.le_of_ble_eq_true rfl) dX6_takesBack_1 ?_
  refine gz_aload_n (pc := 4) hX dX6_takesBack_4 rfl 0 rfl ?_
  refine gz_iconst (pc := 5) (v := (-1 : Int32)) hX dX6_takesBack_5 (by decide) ?_
  obtain ⟨m4, em4, h⟩ := gz_lt h
  refine mp_52 (pc := 6) hX dX6_takesBack_6 em4 ?_
  refine gz_aload_n (pc := 9) hX dX6_takesBack_9 rfl 0 rfl ?_
  refine gz_iconst (pc := 10) (v := (0 : Int32)) hX dX6_takesBack_10 (by decide) ?_
  obtain ⟨m5, em5, h⟩ := gz_lt h
  refine mp_56 (pc := 11) hX dX6_takesBack_11 (Or.inl rfl) em5 ?_
  obtain rfl := Option.some.inj h
  exact hk _ _ dX6_takesBack_14
theorem mt_takesBack {G : gz_G} {l : Launch}   {m m9 : MM} (h : mf_takesBack  m = some ((), m9)) : gz_Met mS G l yX6_takesBack cX6_takesBack 1 none (mRm 1 21) [.ref (gz_ad G 2000)] (mF m) (mF m9) none :=
  gz_ofV (plainFor_of_name mz_plain) (Nat.le_of_ble_eq_true rfl) fun X _ hX hk => wm_takesBack hX h hk
theorem mc_takesBack {X : gz_X} {G : gz_G} {cc : ByteArray} {nL fr lo pc : Nat} {lv : List (Nat × Value)} {rest st0 : List Value} (hX : gz_C mS X G cc nL RX6 fr lo)   {m m9 : MM} (h : mf_takesBack  m = some ((), m9)) (hroom : 1 + 1 ≤ fr ∧ 8 + (1 + 11) + 21 ≤ lo) (hst : st0 = [.ref (gz_ad G 2000)] ++ rest) (hW : (rest.map fun v => v.category).sum ≤ 8) (hd : decode cc pc = .ok (.invokevirtual 524, 3)) (kk : gz_V mS X G nL (0, 0) (mF m9) (pc + 3) lv (rest)) : gz_V mS X G nL (0, 0) (mF m) pc lv st0 :=
  gz_callV hX mz_E (As := []) (rest := rest) (q := (RX6, TX6, 104)) (ci := 0) (c := 2000) (mt_takesBack (l := X.2.1) h) (lw_V q2451 q2453 qs140 q182 q2454) (n := 0) (by decide +kernel) hroom rfl rfl (by decide) rfl hst hW hd (rem := (0, 0)) kk
/-! later(II)I -/
noncomputable def mj_X6_later_20  (m : MM) : Option (Int32 × MM) :=
  some ((-1 : Int32), m)
theorem wb_X6_later_20 {X : gz_X} {G : gz_G} (hX : gz_C mS X G cX6_later 4 RX6 7 154)   {m : MM} {z : (Int32 × MM)} (h : mj_X6_later_20  m = some z) (hk : (fun z : (Int32 × MM) => gz_kI mS X G 4 (0, 0) cX6_later (mF z.2) z.1) z) : gz_V mS X G 4 (0, 0) (mF m) 20 [(0, .ref (gz_ad G 2000))] [] := by
  unfold mj_X6_later_20 at h
  refine gz_iconst (pc := 20) (v := (-1 : Int32)) hX dX6_later_20 (by decide) ?_
  obtain rfl := Option.some.inj h
  exact hk _ _ dX6_later_21
noncomputable def mf_later (x1 : Int32) (x2 : Int32) (m : MM) : Option (Int32 × MM) :=
  ((mf_isThing (x1.toInt64) m).bind fun (r1, m2) => (if r1 = (0 : Int32) then (mj_X6_later_20  m2) else ((mf_isAhead x2 (0 : Int32) (60 : Int32) m2).bind fun (r5, m6) => (if r5 = (0 : Int32) then (mj_X6_later_20  m6) else ((mf_putsAside m6).bind fun (_, m10) => ((mf_hoursGo x2 m10).bind fun (_, m13) => ((mf_strengthOf x1 m13).bind fun (r15, m16) => ((mf_takesBack m16).bind fun (_, m19) => some (r15, m19)))))))))
theorem wm_later {X : gz_X} {G : gz_G} (hX : gz_C mS X G cX6_later 4 RX6 7 154) {x1 : Int32} {x2 : Int32}  {m : MM} {z : (Int32 × MM)} (h : mf_later x1 x2 m = some z) (hk : (fun z : (Int32 × MM) => gz_kI mS X G 4 (0, 0) cX6_later (mF z.2) z.1) z) : gz_V mS X G 4 (0, 0) (mF m) 0 [(0, .ref (gz_ad G 2000)), (1, .int x1), (2, .int x2)] [] := by
  unfold mf_later at h
  refine gz_aload_n (pc := 0) hX dX6_later_0 rfl 0 rfl ?_
  refine gz_iload_n (pc := 1) hX dX6_later_1 rfl 1 rfl ?_
  refine gz_i2l (pc := 2) hX dX6_later_2 ?_
  obtain ⟨⟨r1, m2⟩, c3, h⟩ := gz_bd h
  refine mc_isThing (pc := 3) hX c3 ⟨Nat.le_of_ble_eq_true rfl, Nat.le_of_ble_eq_true rfl⟩ (rest := []) rfl (Nat.le_of_ble_eq_true rfl) dX6_later_3 ?_
  refine gz_if_eq (pc := 6) (tgt := 20) hX dX6_later_6 (by decide) (fun g4 => ?_) (fun g4 => ?_)
  · replace h := gz_it' g4 h
    refine gz_sub (lw := [(0, .ref (gz_ad G 2000))]) [0] rfl ?_
    exact wb_X6_later_20 hX h hk
  · replace h := gz_if' g4 h
    refine gz_aload_n (pc := 9) hX dX6_later_9 rfl 0 rfl ?_
    refine gz_iload_n (pc := 10) hX dX6_later_10 rfl 2 rfl ?_
    refine gz_iconst (pc := 11) (v := (0 : Int32)) hX dX6_later_11 (by decide) ?_
    refine gz_bipush (pc := 12) (v := (60 : Int32)) hX dX6_later_12 (by decide) ?_
    obtain ⟨⟨r5, m6⟩, c7, h⟩ := gz_bd h
    refine mc_isAhead (pc := 14) hX c7 ⟨Nat.le_of_ble_eq_true rfl, Nat.le_of_ble_eq_true rfl⟩ (rest := []) rfl (Nat.le_of_ble_eq_true rfl) dX6_later_14 ?_
    refine gz_if_ne (pc := 17) (tgt := 22) hX dX6_later_17 (by decide) (fun g8 => ?_) (fun g8 => ?_)
    · replace h := gz_if' g8 h
      refine gz_aload_n (pc := 22) hX dX6_later_22 rfl 0 rfl ?_
      obtain ⟨⟨⟨⟩, m10⟩, c11, h⟩ := gz_bd h
      refine mc_putsAside (pc := 23) hX c11 ⟨Nat.le_of_ble_eq_true rfl, Nat.le_of_ble_eq_true rfl⟩ (rest := []) rfl (Nat.le_of_ble_eq_true rfl) dX6_later_23 ?_
      refine gz_aload_n (pc := 26) hX dX6_later_26 rfl 0 rfl ?_
      refine gz_iload_n (pc := 27) hX dX6_later_27 rfl 2 rfl ?_
      obtain ⟨⟨⟨⟩, m13⟩, c14, h⟩ := gz_bd h
      refine mc_hoursGo (pc := 28) hX c14 ⟨Nat.le_of_ble_eq_true rfl, Nat.le_of_ble_eq_true rfl⟩ (rest := []) rfl (Nat.le_of_ble_eq_true rfl) dX6_later_28 ?_
      refine gz_aload_n (pc := 31) hX dX6_later_31 rfl 0 rfl ?_
      refine gz_iload_n (pc := 32) hX dX6_later_32 rfl 1 rfl ?_
      obtain ⟨⟨r15, m16⟩, c17, h⟩ := gz_bd h
      refine mc_strengthOf (pc := 33) hX c17 ⟨Nat.le_of_ble_eq_true rfl, Nat.le_of_ble_eq_true rfl⟩ (rest := []) rfl (Nat.le_of_ble_eq_true rfl) dX6_later_33 ?_
      refine gz_istore_n (pc := 36) (lw := [(3, .int r15), (0, .ref (gz_ad G 2000)), (1, .int x1), (2, .int x2)]) hX dX6_later_36 rfl (by decide) rfl ?_
      refine gz_aload_n (pc := 37) hX dX6_later_37 rfl 1 rfl ?_
      obtain ⟨⟨⟨⟩, m19⟩, c20, h⟩ := gz_bd h
      refine mc_takesBack (pc := 38) hX c20 ⟨Nat.le_of_ble_eq_true rfl, Nat.le_of_ble_eq_true rfl⟩ (rest := []) rfl (Nat.le_of_ble_eq_true rfl) dX6_later_38 ?_
      refine gz_iload_n (pc := 41) hX dX6_later_41 rfl 0 rfl ?_
      obtain rfl := Option.some.inj h
      exact hk _ _ dX6_later_42
    · replace h := gz_it' g8 h
      refine gz_sub (lw := [(0, .ref (gz_ad G 2000))]) [0] rfl ?_
      exact wb_X6_later_20 hX h hk
theorem mt_later {G : gz_G} {l : Launch} {x1 : Int32} {x2 : Int32}  {m m9 : MM} {r : Int32} (h : mf_later x1 x2 m = some (r, m9)) : gz_Met mS G l yX6_later cX6_later 4 (some .int) (mRm 7 154) [.ref (gz_ad G 2000), .int x1, .int x2] (mF m) (mF m9) (some (.int r)) :=
  gz_ofI (plainFor_of_name mz_plain) (Nat.le_of_ble_eq_true rfl) fun X _ hX hk => wm_later hX h hk
/-! dies(I)I -/
def mP_X6_dies_17 (X : gz_X) (G : gz_G) (q : (Int32 × Int32 × MM)) : Prop := gz_V mS X G 4 (0, 0) (mF q.2.2) 17 [(0, .ref (gz_ad G 2000)), (1, .int q.1), (2, .int q.2.1)] []
noncomputable def mj_X6_dies_66 (x2 : Int32) (s0 : Int32) (m : MM) : Option (Int32 × MM) :=
  ((mf_takesBack m).bind fun (_, m2) => (if s0 = (0 : Int32) then some ((-1 : Int32), m2) else some (x2, m2)))
theorem wb_X6_dies_66 {X : gz_X} {G : gz_G} (hX : gz_C mS X G cX6_dies 4 RX6 6 132) {x2 : Int32} {s0 : Int32}  {m : MM} {z : (Int32 × MM)} (h : mj_X6_dies_66 x2 s0 m = some z) (hk : (fun z : (Int32 × MM) => gz_kI mS X G 4 (0, 0) cX6_dies (mF z.2) z.1) z) : gz_V mS X G 4 (0, 0) (mF m) 66 [(0, .ref (gz_ad G 2000)), (2, .int x2)] [.int s0] := by
  unfold mj_X6_dies_66 at h
  refine gz_istore_n (pc := 66) (lw := [(3, .int s0), (0, .ref (gz_ad G 2000)), (2, .int x2)]) hX dX6_dies_66 rfl (by decide) rfl ?_
  refine gz_aload_n (pc := 67) hX dX6_dies_67 rfl 1 rfl ?_
  obtain ⟨⟨⟨⟩, m2⟩, c3, h⟩ := gz_bd h
  refine mc_takesBack (pc := 68) hX c3 ⟨Nat.le_of_ble_eq_true rfl, Nat.le_of_ble_eq_true rfl⟩ (rest := []) rfl (Nat.le_of_ble_eq_true rfl) dX6_dies_68 ?_
  refine gz_iload_n (pc := 71) hX dX6_dies_71 rfl 0 rfl ?_
  refine gz_if_eq (pc := 72) (tgt := 79) hX dX6_dies_72 (by decide) (fun g4 => ?_) (fun g4 => ?_)
  · replace h := gz_it' g4 h
    refine gz_iconst (pc := 79) (v := (-1 : Int32)) hX dX6_dies_79 (by decide) ?_
    obtain rfl := Option.some.inj h
    exact hk _ _ dX6_dies_80
  · replace h := gz_if' g4 h
    refine gz_iload_n (pc := 75) hX dX6_dies_75 rfl 2 rfl ?_
    refine gz_goto (pc := 76) (tgt := 80) hX dX6_dies_76 (by decide) ?_
    obtain rfl := Option.some.inj h
    exact hk _ _ dX6_dies_80
noncomputable def mj_X6_dies_53 (x1 : Int32) (x2 : Int32) (m : MM) : Option (Int32 × MM) :=
  ((mf_doesBurn x1 m).bind fun (r1, m2) => (if r1 = (0 : Int32) then (mj_X6_dies_66 x2 (1 : Int32) m2) else (mj_X6_dies_66 x2 (0 : Int32) m2)))
theorem wb_X6_dies_53 {X : gz_X} {G : gz_G} (hX : gz_C mS X G cX6_dies 4 RX6 6 132) {x1 : Int32} {x2 : Int32}  {m : MM} {z : (Int32 × MM)} (h : mj_X6_dies_53 x1 x2 m = some z) (hk : (fun z : (Int32 × MM) => gz_kI mS X G 4 (0, 0) cX6_dies (mF z.2) z.1) z) : gz_V mS X G 4 (0, 0) (mF m) 53 [(0, .ref (gz_ad G 2000)), (1, .int x1), (2, .int x2)] [] := by
  unfold mj_X6_dies_53 at h
  refine gz_aload_n (pc := 53) hX dX6_dies_53 rfl 0 rfl ?_
  refine gz_iload_n (pc := 54) hX dX6_dies_54 rfl 1 rfl ?_
  obtain ⟨⟨r1, m2⟩, c3, h⟩ := gz_bd h
  refine mc_doesBurn (pc := 55) hX c3 ⟨Nat.le_of_ble_eq_true rfl, Nat.le_of_ble_eq_true rfl⟩ (rest := []) rfl (Nat.le_of_ble_eq_true rfl) dX6_dies_55 ?_
  refine gz_if_ne (pc := 58) (tgt := 65) hX dX6_dies_58 (by decide) (fun g4 => ?_) (fun g4 => ?_)
  · replace h := gz_if' g4 h
    refine gz_iconst (pc := 65) (v := (0 : Int32)) hX dX6_dies_65 (by decide) ?_
    refine gz_sub (lw := [(0, .ref (gz_ad G 2000)), (2, .int x2)]) [0, 2] rfl ?_
    exact wb_X6_dies_66 hX h hk
  · replace h := gz_it' g4 h
    refine gz_iconst (pc := 61) (v := (1 : Int32)) hX dX6_dies_61 (by decide) ?_
    refine gz_goto (pc := 62) (tgt := 66) hX dX6_dies_62 (by decide) ?_
    refine gz_sub (lw := [(0, .ref (gz_ad G 2000)), (2, .int x2)]) [0, 2] rfl ?_
    exact wb_X6_dies_66 hX h hk
noncomputable def mb_X6_dies_17 (x1 : Int32) (x2 : Int32) (m : MM) : Option ((Int32 × Int32 × MM) ⊕ (Int32 × MM)) :=
  ((mf_doesBurn x1 m).bind fun (r1, m2) => (if r1 = (0 : Int32) then (Option.map Sum.inr (mj_X6_dies_53 x1 x2 m2)) else (if (60 : Int32) ≤ x2 then (Option.map Sum.inr (mj_X6_dies_53 x1 x2 m2)) else (if gz_in (0 : Int32) (151) then (if (999 : Int32) ≤ (m2.1 1051 (gz_ix (0 : Int32))) then (Option.map Sum.inr (mj_X6_dies_53 x1 x2 m2)) else ((mf_hourGoes m2).bind fun (_, m9) => gz_let (x2 + (1 : Int32)) fun y11 => some (Sum.inl (x1, y11, m9)))) else none))))
theorem wb_X6_dies_17 {X : gz_X} {G : gz_G} (hX : gz_C mS X G cX6_dies 4 RX6 6 132) {x1 : Int32} {x2 : Int32}  {m : MM} {z : ((Int32 × Int32 × MM) ⊕ (Int32 × MM))} (h : mb_X6_dies_17 x1 x2 m = some z) (hk : (Sum.elim (mP_X6_dies_17 X G) (fun z : (Int32 × MM) => gz_kI mS X G 4 (0, 0) cX6_dies (mF z.2) z.1)) z) : gz_V mS X G 4 (0, 0) (mF m) 17 [(0, .ref (gz_ad G 2000)), (1, .int x1), (2, .int x2)] [] := by
  unfold mb_X6_dies_17 at h
  refine gz_aload_n (pc := 17) hX dX6_dies_17 rfl 0 rfl ?_
  refine gz_iload_n (pc := 18) hX dX6_dies_18 rfl 1 rfl ?_
  obtain ⟨⟨r1, m2⟩, c3, h⟩ := gz_bd h
  refine mc_doesBurn (pc := 19) hX c3 ⟨Nat.le_of_ble_eq_true rfl, Nat.le_of_ble_eq_true rfl⟩ (rest := []) rfl (Nat.le_of_ble_eq_true rfl) dX6_dies_19 ?_
  refine gz_if_eq (pc := 22) (tgt := 53) hX dX6_dies_22 (by decide) (fun g4 => ?_) (fun g4 => ?_)
  · replace h := gz_it' g4 h
    obtain ⟨z0, hm0, rfl⟩ := gz_mp h
    exact wb_X6_dies_53 hX hm0 hk
  · replace h := gz_if' g4 h
    refine gz_iload_n (pc := 25) hX dX6_dies_25 rfl 2 rfl ?_
    refine gz_bipush (pc := 26) (v := (60 : Int32)) hX dX6_dies_26 (by decide) ?_
    refine gz_icmp_ge (pc := 28) (tgt := 53) hX dX6_dies_28 (by decide) (fun g5 => ?_) (fun g5 => ?_)
    · replace h := gz_it' g5 h
      obtain ⟨z0, hm0, rfl⟩ := gz_mp h
      exact wb_X6_dies_53 hX hm0 hk
    · replace h := gz_if' g5 h
      refine gz_aload_n (pc := 31) hX dX6_dies_31 rfl 0 rfl ?_
      refine mg_50 (pc := 32) hX dX6_dies_32 ?_
      refine gz_iconst (pc := 35) (v := (0 : Int32)) hX dX6_dies_35 (by decide) ?_
      obtain ⟨g6, h⟩ := gz_gu h
      refine mz_iald (pc := 36) (c := 1051) (n := 151) hX rfl rfl g6 dX6_dies_36 ?_
      refine gz_sipush (pc := 37) (v := (999 : Int32)) hX dX6_dies_37 (by decide) ?_
      refine gz_icmp_ge (pc := 40) (tgt := 53) hX dX6_dies_40 (by decide) (fun g7 => ?_) (fun g7 => ?_)
      · replace h := gz_it' g7 h
        obtain ⟨z0, hm0, rfl⟩ := gz_mp h
        exact wb_X6_dies_53 hX hm0 hk
      · replace h := gz_if' g7 h
        refine gz_aload_n (pc := 43) hX dX6_dies_43 rfl 0 rfl ?_
        obtain ⟨⟨⟨⟩, m9⟩, c10, h⟩ := gz_bd h
        refine mc_hourGoes (pc := 44) hX c10 ⟨Nat.le_of_ble_eq_true rfl, Nat.le_of_ble_eq_true rfl⟩ (rest := []) rfl (Nat.le_of_ble_eq_true rfl) dX6_dies_44 ?_
        obtain ⟨y11, ey11, h⟩ := gz_lt h
        refine gz_iinc (pc := 47) (v := y11) (lw := [(2, .int y11), (0, .ref (gz_ad G 2000)), (1, .int x1)]) hX dX6_dies_47 (k := 2) rfl (by rw [ey11]; rfl) (by decide) rfl ?_
        refine gz_goto (pc := 50) (tgt := 17) hX dX6_dies_50 (by decide) ?_
        refine gz_sub (lw := [(0, .ref (gz_ad G 2000)), (1, .int x1), (2, .int y11)]) [1, 2, 0] rfl ?_
        obtain rfl := Option.some.inj h
        exact hk
noncomputable def ml_X6_dies_17 (x1 : Int32) (x2 : Int32) (m : MM) : Option (Int32 × MM) := gz_loop (fun q : (Int32 × Int32 × MM) => mb_X6_dies_17 q.1 q.2.1 q.2.2) (x1, x2, m)
theorem wl_X6_dies_17 {X : gz_X} {G : gz_G} (hX : gz_C mS X G cX6_dies 4 RX6 6 132) {x1 : Int32} {x2 : Int32}  {m : MM} {z : (Int32 × MM)} (h : ml_X6_dies_17 x1 x2 m = some z) (hk : (fun z : (Int32 × MM) => gz_kI mS X G 4 (0, 0) cX6_dies (mF z.2) z.1) z) : gz_V mS X G 4 (0, 0) (mF m) 17 [(0, .ref (gz_ad G 2000)), (1, .int x1), (2, .int x2)] [] := by
  have hp : mP_X6_dies_17 X G (x1, x2, m) := gz_loop_ind (fun q z hz hkz => wb_X6_dies_17 hX  hz hkz) h hk
  exact hp
noncomputable def mf_dies (x1 : Int32) (m : MM) : Option (Int32 × MM) :=
  ((mf_isThing (x1.toInt64) m).bind fun (r1, m2) => (if r1 = (0 : Int32) then some ((-1 : Int32), m2) else ((mf_putsAside m2).bind fun (_, m6) => (ml_X6_dies_17 x1 (0 : Int32) m6))))
theorem wm_dies {X : gz_X} {G : gz_G} (hX : gz_C mS X G cX6_dies 4 RX6 6 132) {x1 : Int32}  {m : MM} {z : (Int32 × MM)} (h : mf_dies x1 m = some z) (hk : (fun z : (Int32 × MM) => gz_kI mS X G 4 (0, 0) cX6_dies (mF z.2) z.1) z) : gz_V mS X G 4 (0, 0) (mF m) 0 [(0, .ref (gz_ad G 2000)), (1, .int x1)] [] := by
  unfold mf_dies at h
  refine gz_aload_n (pc := 0) hX dX6_dies_0 rfl 0 rfl ?_
  refine gz_iload_n (pc := 1) hX dX6_dies_1 rfl 1 rfl ?_
  refine gz_i2l (pc := 2) hX dX6_dies_2 ?_
  obtain ⟨⟨r1, m2⟩, c3, h⟩ := gz_bd h
  refine mc_isThing (pc := 3) hX c3 ⟨Nat.le_of_ble_eq_true rfl, Nat.le_of_ble_eq_true rfl⟩ (rest := []) rfl (Nat.le_of_ble_eq_true rfl) dX6_dies_3 ?_
  refine gz_if_ne (pc := 6) (tgt := 11) hX dX6_dies_6 (by decide) (fun g4 => ?_) (fun g4 => ?_)
  · replace h := gz_if' g4 h
    refine gz_iconst (pc := 11) (v := (0 : Int32)) hX dX6_dies_11 (by decide) ?_
    refine gz_istore_n (pc := 12) (lw := [(2, .int (0 : Int32)), (0, .ref (gz_ad G 2000)), (1, .int x1)]) hX dX6_dies_12 rfl (by decide) rfl ?_
    refine gz_aload_n (pc := 13) hX dX6_dies_13 rfl 1 rfl ?_
    obtain ⟨⟨⟨⟩, m6⟩, c7, h⟩ := gz_bd h
    refine mc_putsAside (pc := 14) hX c7 ⟨Nat.le_of_ble_eq_true rfl, Nat.le_of_ble_eq_true rfl⟩ (rest := []) rfl (Nat.le_of_ble_eq_true rfl) dX6_dies_14 ?_
    refine gz_sub (lw := [(0, .ref (gz_ad G 2000)), (1, .int x1), (2, .int (0 : Int32))]) [1, 2, 0] rfl ?_
    exact wl_X6_dies_17 hX h hk
  · replace h := gz_it' g4 h
    refine gz_iconst (pc := 9) (v := (-1 : Int32)) hX dX6_dies_9 (by decide) ?_
    obtain rfl := Option.some.inj h
    exact hk _ _ dX6_dies_10
theorem mt_dies {G : gz_G} {l : Launch} {x1 : Int32}  {m m9 : MM} {r : Int32} (h : mf_dies x1 m = some (r, m9)) : gz_Met mS G l yX6_dies cX6_dies 4 (some .int) (mRm 6 132) [.ref (gz_ad G 2000), .int x1] (mF m) (mF m9) (some (.int r)) :=
  gz_ofI (plainFor_of_name mz_plain) (Nat.le_of_ble_eq_true rfl) fun X _ hX hk => wm_dies hX h hk
/-! putsOut(I)V -/
def mP_X6_putsOut_14 (X : gz_X) (G : gz_G) (q : (Int32 × Int32 × MM)) : Prop := gz_V mS X G 4 (0, 0) (mF q.2.2) 14 [(0, .ref (gz_ad G 2000)), (2, .int q.1), (3, .int q.2.1)] []
noncomputable def mj_X6_putsOut_45 (x2 : Int32) (x3 : Int32) (m : MM) : Option ((Int32 × Int32 × MM) ⊕ (Unit × MM)) :=
  gz_let (x3 + (1 : Int32)) fun y1 => some (Sum.inl (x2, y1, m))
theorem wb_X6_putsOut_45 {X : gz_X} {G : gz_G} (hX : gz_C mS X G cX6_putsOut 4 RX6 2 45) {x2 : Int32} {x3 : Int32}  {m : MM} {z : ((Int32 × Int32 × MM) ⊕ (Unit × MM))} (h : mj_X6_putsOut_45 x2 x3 m = some z) (hk : (Sum.elim (mP_X6_putsOut_14 X G) (fun z : (Unit × MM) => gz_kV mS X G 4 (0, 0) cX6_putsOut (mF z.2))) z) : gz_V mS X G 4 (0, 0) (mF m) 45 [(0, .ref (gz_ad G 2000)), (2, .int x2), (3, .int x3)] [] := by
  unfold mj_X6_putsOut_45 at h
  obtain ⟨y1, ey1, h⟩ := gz_lt h
  refine gz_iinc (pc := 45) (v := y1) (lw := [(3, .int y1), (0, .ref (gz_ad G 2000)), (2, .int x2)]) hX dX6_putsOut_45 (k := 2) rfl (by rw [ey1]; rfl) (by decide) rfl ?_
  refine gz_goto (pc := 48) (tgt := 14) hX dX6_putsOut_48 (by decide) ?_
  refine gz_sub (lw := [(0, .ref (gz_ad G 2000)), (2, .int x2), (3, .int y1)]) [1, 2, 0] rfl ?_
  obtain rfl := Option.some.inj h
  exact hk
noncomputable def mb_X6_putsOut_14 (x2 : Int32) (x3 : Int32) (m : MM) : Option ((Int32 × Int32 × MM) ⊕ (Unit × MM)) :=
  ((mf_thingMany m).bind fun (r1, m2) => (if r1 ≤ x3 then some (Sum.inr ((), m2)) else (if ((x2 >>> (x3 &&& 31)) &&& (1 : Int32)) = (1 : Int32) then ((mf_doesBurn x3 m2).bind fun (r6, m7) => (if r6 = (0 : Int32) then (mj_X6_putsOut_45 x2 x3 m7) else ((mf_goesOut x3 (2 : Int32) m7).bind fun (_, m11) => (mj_X6_putsOut_45 x2 x3 m11)))) else (mj_X6_putsOut_45 x2 x3 m2))))
theorem wb_X6_putsOut_14 {X : gz_X} {G : gz_G} (hX : gz_C mS X G cX6_putsOut 4 RX6 2 45) {x2 : Int32} {x3 : Int32}  {m : MM} {z : ((Int32 × Int32 × MM) ⊕ (Unit × MM))} (h : mb_X6_putsOut_14 x2 x3 m = some z) (hk : (Sum.elim (mP_X6_putsOut_14 X G) (fun z : (Unit × MM) => gz_kV mS X G 4 (0, 0) cX6_putsOut (mF z.2))) z) : gz_V mS X G 4 (0, 0) (mF m) 14 [(0, .ref (gz_ad G 2000)), (2, .int x2), (3, .int x3)] [] := by
  unfold mb_X6_putsOut_14 at h
  refine gz_iload_n (pc := 14) hX dX6_putsOut_14 rfl 2 rfl ?_
  refine gz_aload_n (pc := 15) hX dX6_putsOut_15 rfl 0 rfl ?_
  obtain ⟨⟨r1, m2⟩, c3, h⟩ := gz_bd h
  refine mc_thingMany (pc := 16) hX c3 ⟨Nat.le_of_ble_eq_true rfl, Nat.le_of_ble_eq_true rfl⟩ (rest := [.int x3]) rfl (Nat.le_of_ble_eq_true rfl) dX6_putsOut_16 ?_
  refine gz_icmp_ge (pc := 19) (tgt := 51) hX dX6_putsOut_19 (by decide) (fun g4 => ?_) (fun g4 => ?_)
  · replace h := gz_it' g4 h
    obtain rfl := Option.some.inj h
    exact hk _ _ dX6_putsOut_51
  · replace h := gz_if' g4 h
    refine gz_iload_n (pc := 22) hX dX6_putsOut_22 rfl 1 rfl ?_
    refine gz_iload_n (pc := 23) hX dX6_putsOut_23 rfl 2 rfl ?_
    refine gz_ishr (pc := 24) hX dX6_putsOut_24 ?_
    refine gz_iconst (pc := 25) (v := (1 : Int32)) hX dX6_putsOut_25 (by decide) ?_
    refine gz_iand (pc := 26) hX dX6_putsOut_26 ?_
    refine gz_iconst (pc := 27) (v := (1 : Int32)) hX dX6_putsOut_27 (by decide) ?_
    refine gz_icmp_ne (pc := 28) (tgt := 45) hX dX6_putsOut_28 (by decide) (fun g5 => ?_) (fun g5 => ?_)
    · replace h := gz_if' g5 h
      exact wb_X6_putsOut_45 hX h hk
    · replace h := gz_it' g5 h
      refine gz_aload_n (pc := 31) hX dX6_putsOut_31 rfl 0 rfl ?_
      refine gz_iload_n (pc := 32) hX dX6_putsOut_32 rfl 2 rfl ?_
      obtain ⟨⟨r6, m7⟩, c8, h⟩ := gz_bd h
      refine mc_doesBurn (pc := 33) hX c8 ⟨Nat.le_of_ble_eq_true rfl, Nat.le_of_ble_eq_true rfl⟩ (rest := []) rfl (Nat.le_of_ble_eq_true rfl) dX6_putsOut_33 ?_
      refine gz_if_eq (pc := 36) (tgt := 45) hX dX6_putsOut_36 (by decide) (fun g9 => ?_) (fun g9 => ?_)
      · replace h := gz_it' g9 h
        exact wb_X6_putsOut_45 hX h hk
      · replace h := gz_if' g9 h
        refine gz_aload_n (pc := 39) hX dX6_putsOut_39 rfl 0 rfl ?_
        refine gz_iload_n (pc := 40) hX dX6_putsOut_40 rfl 2 rfl ?_
        refine gz_iconst (pc := 41) (v := (2 : Int32)) hX dX6_putsOut_41 (by decide) ?_
        obtain ⟨⟨⟨⟩, m11⟩, c12, h⟩ := gz_bd h
        refine mc_goesOut (pc := 42) hX c12 ⟨Nat.le_of_ble_eq_true rfl, Nat.le_of_ble_eq_true rfl⟩ (rest := []) rfl (Nat.le_of_ble_eq_true rfl) dX6_putsOut_42 ?_
        exact wb_X6_putsOut_45 hX h hk
noncomputable def ml_X6_putsOut_14 (x2 : Int32) (x3 : Int32) (m : MM) : Option (Unit × MM) := gz_loop (fun q : (Int32 × Int32 × MM) => mb_X6_putsOut_14 q.1 q.2.1 q.2.2) (x2, x3, m)
theorem wl_X6_putsOut_14 {X : gz_X} {G : gz_G} (hX : gz_C mS X G cX6_putsOut 4 RX6 2 45) {x2 : Int32} {x3 : Int32}  {m : MM} {z : (Unit × MM)} (h : ml_X6_putsOut_14 x2 x3 m = some z) (hk : (fun z : (Unit × MM) => gz_kV mS X G 4 (0, 0) cX6_putsOut (mF z.2)) z) : gz_V mS X G 4 (0, 0) (mF m) 14 [(0, .ref (gz_ad G 2000)), (2, .int x2), (3, .int x3)] [] := by
  have hp : mP_X6_putsOut_14 X G (x2, x3, m) := gz_loop_ind (fun q z hz hkz => wb_X6_putsOut_14 hX  hz hkz) h hk
  exact hp
noncomputable def mf_putsOut (x1 : Int32) (m : MM) : Option (Unit × MM) :=
  ((mf_endsOf x1 m).bind fun (r1, m2) => ((mf_goesOut x1 (1 : Int32) m2).bind fun (_, m5) => (ml_X6_putsOut_14 r1 (0 : Int32) m5)))
theorem wm_putsOut {X : gz_X} {G : gz_G} (hX : gz_C mS X G cX6_putsOut 4 RX6 2 45) {x1 : Int32}  {m : MM} {z : (Unit × MM)} (h : mf_putsOut x1 m = some z) (hk : (fun z : (Unit × MM) => gz_kV mS X G 4 (0, 0) cX6_putsOut (mF z.2)) z) : gz_V mS X G 4 (0, 0) (mF m) 0 [(0, .ref (gz_ad G 2000)), (1, .int x1)] [] := by
  unfold mf_putsOut at h
  refine gz_aload_n (pc := 0) hX dX6_putsOut_0 rfl 0 rfl ?_
  refine gz_iload_n (pc := 1) hX dX6_putsOut_1 rfl 1 rfl ?_
  obtain ⟨⟨r1, m2⟩, c3, h⟩ := gz_bd h
  refine mc_endsOf (pc := 2) hX c3 ⟨Nat.le_of_ble_eq_true rfl, Nat.le_of_ble_eq_true rfl⟩ (rest := []) rfl (Nat.le_of_ble_eq_true rfl) dX6_putsOut_2 ?_
  refine gz_istore_n (pc := 5) (lw := [(2, .int r1), (0, .ref (gz_ad G 2000)), (1, .int x1)]) hX dX6_putsOut_5 rfl (by decide) rfl ?_
  refine gz_aload_n (pc := 6) hX dX6_putsOut_6 rfl 1 rfl ?_
  refine gz_iload_n (pc := 7) hX dX6_putsOut_7 rfl 2 rfl ?_
  refine gz_iconst (pc := 8) (v := (1 : Int32)) hX dX6_putsOut_8 (by decide) ?_
  obtain ⟨⟨⟨⟩, m5⟩, c6, h⟩ := gz_bd h
  refine mc_goesOut (pc := 9) hX c6 ⟨Nat.le_of_ble_eq_true rfl, Nat.le_of_ble_eq_true rfl⟩ (rest := []) rfl (Nat.le_of_ble_eq_true rfl) dX6_putsOut_9 ?_
  refine gz_iconst (pc := 12) (v := (0 : Int32)) hX dX6_putsOut_12 (by decide) ?_
  refine gz_istore_n (pc := 13) (lw := [(3, .int (0 : Int32)), (2, .int r1), (0, .ref (gz_ad G 2000)), (1, .int x1)]) hX dX6_putsOut_13 rfl (by decide) rfl ?_
  refine gz_sub (lw := [(0, .ref (gz_ad G 2000)), (2, .int r1), (3, .int (0 : Int32))]) [2, 1, 0] rfl ?_
  exact wl_X6_putsOut_14 hX h hk
theorem mt_putsOut {G : gz_G} {l : Launch} {x1 : Int32}  {m m9 : MM} (h : mf_putsOut x1 m = some ((), m9)) : gz_Met mS G l yX6_putsOut cX6_putsOut 4 none (mRm 2 45) [.ref (gz_ad G 2000), .int x1] (mF m) (mF m9) none :=
  gz_ofV (plainFor_of_name mz_plain) (Nat.le_of_ble_eq_true rfl) fun X _ hX hk => wm_putsOut hX h hk
theorem mc_putsOut {X : gz_X} {G : gz_G} {cc : ByteArray} {nL fr lo pc : Nat} {lv : List (Nat × Value)} {rest st0 : List Value} (hX : gz_C mS X G cc nL RX6 fr lo) {x1 : Int32}  {m m9 : MM} (h : mf_putsOut x1 m = some ((), m9)) (hroom : 2 + 1 ≤ fr ∧ 8 + (4 + 11) + 45 ≤ lo) (hst : st0 = [.int x1, .ref (gz_ad G 2000)] ++ rest) (hW : (rest.map fun v => v.category).sum ≤ 8) (hd : decode cc pc = .ok (.invokevirtual 527, 3)) (kk : gz_V mS X G nL (0, 0) (mF m9) (pc + 3) lv (rest)) : gz_V mS X G nL (0, 0) (mF m) pc lv st0 :=
  gz_callV hX mz_E (As := [.int x1]) (rest := rest) (q := (RX6, TX6, 104)) (ci := 0) (c := 2000) (mt_putsOut (l := X.2.1) h) (lw_V q2480 q2482 qs145 q182 q2483) (n := 1) (by decide +kernel) hroom rfl rfl (by decide) rfl hst hW hd (rem := (0, 0)) kk
/-! isVisited(I)Z -/
noncomputable def mj_X6_isVisited_50  (m : MM) : Option (Int32 × MM) :=
  some ((0 : Int32), m)
theorem wb_X6_isVisited_50 {X : gz_X} {G : gz_G} (hX : gz_C mS X G cX6_isVisited 4 RX6 7 154)   {m : MM} {z : (Int32 × MM)} (h : mj_X6_isVisited_50  m = some z) (hk : (fun z : (Int32 × MM) => gz_kZ mS X G 4 (0, 0) cX6_isVisited (mF z.2) z.1) z) : gz_V mS X G 4 (0, 0) (mF m) 50 [(0, .ref (gz_ad G 2000))] [] := by
  unfold mj_X6_isVisited_50 at h
  refine gz_iconst (pc := 50) (v := (0 : Int32)) hX dX6_isVisited_50 (by decide) ?_
  obtain rfl := Option.some.inj h
  exact hk _ _ dX6_isVisited_51 (Or.inl rfl)
def mP_X6_isVisited_70 (X : gz_X) (G : gz_G) (q : (Int32 × Int32 × MM)) : Prop := gz_V mS X G 4 (0, 0) (mF q.2.2) 70 [(0, .ref (gz_ad G 2000)), (1, .int q.1), (3, .int q.2.1)] []
noncomputable def mj_X6_isVisited_131  (m : MM) : Option (Int32 × MM) :=
  some ((1 : Int32), m)
theorem wb_X6_isVisited_131 {X : gz_X} {G : gz_G} (hX : gz_C mS X G cX6_isVisited 4 RX6 7 154)   {m : MM} {z : (Int32 × MM)} (h : mj_X6_isVisited_131  m = some z) (hk : (fun z : (Int32 × MM) => gz_kZ mS X G 4 (0, 0) cX6_isVisited (mF z.2) z.1) z) : gz_V mS X G 4 (0, 0) (mF m) 131 [(0, .ref (gz_ad G 2000))] [] := by
  unfold mj_X6_isVisited_131 at h
  refine gz_iconst (pc := 131) (v := (1 : Int32)) hX dX6_isVisited_131 (by decide) ?_
  obtain rfl := Option.some.inj h
  exact hk _ _ dX6_isVisited_132 (Or.inr rfl)
noncomputable def mj_X6_isVisited_108 (x1 : Int32) (m : MM) : Option (Int32 × MM) :=
  ((mf_doesMind x1 m).bind fun (r1, m2) => (if r1 = (0 : Int32) then ((mf_doesBurn x1 m2).bind fun (r5, m6) => (if r5 = (0 : Int32) then (mj_X6_isVisited_131  m6) else ((mf_putsOut x1 m6).bind fun (_, m10) => (mj_X6_isVisited_131  m10)))) else some ((0 : Int32), m2)))
theorem wb_X6_isVisited_108 {X : gz_X} {G : gz_G} (hX : gz_C mS X G cX6_isVisited 4 RX6 7 154) {x1 : Int32}  {m : MM} {z : (Int32 × MM)} (h : mj_X6_isVisited_108 x1 m = some z) (hk : (fun z : (Int32 × MM) => gz_kZ mS X G 4 (0, 0) cX6_isVisited (mF z.2) z.1) z) : gz_V mS X G 4 (0, 0) (mF m) 108 [(0, .ref (gz_ad G 2000)), (1, .int x1)] [] := by
  unfold mj_X6_isVisited_108 at h
  refine gz_aload_n (pc := 108) hX dX6_isVisited_108 rfl 0 rfl ?_
  refine gz_iload_n (pc := 109) hX dX6_isVisited_109 rfl 1 rfl ?_
  obtain ⟨⟨r1, m2⟩, c3, h⟩ := gz_bd h
  refine mc_doesMind (pc := 110) hX c3 ⟨Nat.le_of_ble_eq_true rfl, Nat.le_of_ble_eq_true rfl⟩ (rest := []) rfl (Nat.le_of_ble_eq_true rfl) dX6_isVisited_110 ?_
  refine gz_if_eq (pc := 113) (tgt := 118) hX dX6_isVisited_113 (by decide) (fun g4 => ?_) (fun g4 => ?_)
  · replace h := gz_it' g4 h
    refine gz_aload_n (pc := 118) hX dX6_isVisited_118 rfl 0 rfl ?_
    refine gz_iload_n (pc := 119) hX dX6_isVisited_119 rfl 1 rfl ?_
    obtain ⟨⟨r5, m6⟩, c7, h⟩ := gz_bd h
    refine mc_doesBurn (pc := 120) hX c7 ⟨Nat.le_of_ble_eq_true rfl, Nat.le_of_ble_eq_true rfl⟩ (rest := []) rfl (Nat.le_of_ble_eq_true rfl) dX6_isVisited_120 ?_
    refine gz_if_eq (pc := 123) (tgt := 131) hX dX6_isVisited_123 (by decide) (fun g8 => ?_) (fun g8 => ?_)
    · replace h := gz_it' g8 h
      refine gz_sub (lw := [(0, .ref (gz_ad G 2000))]) [0] rfl ?_
      exact wb_X6_isVisited_131 hX h hk
    · replace h := gz_if' g8 h
      refine gz_aload_n (pc := 126) hX dX6_isVisited_126 rfl 0 rfl ?_
      refine gz_iload_n (pc := 127) hX dX6_isVisited_127 rfl 1 rfl ?_
      obtain ⟨⟨⟨⟩, m10⟩, c11, h⟩ := gz_bd h
      refine mc_putsOut (pc := 128) hX c11 ⟨Nat.le_of_ble_eq_true rfl, Nat.le_of_ble_eq_true rfl⟩ (rest := []) rfl (Nat.le_of_ble_eq_true rfl) dX6_isVisited_128 ?_
      refine gz_sub (lw := [(0, .ref (gz_ad G 2000))]) [0] rfl ?_
      exact wb_X6_isVisited_131 hX h hk
  · replace h := gz_if' g4 h
    refine gz_iconst (pc := 116) (v := (0 : Int32)) hX dX6_isVisited_116 (by decide) ?_
    obtain rfl := Option.some.inj h
    exact hk _ _ dX6_isVisited_117 (Or.inl rfl)
noncomputable def mb_X6_isVisited_70 (x1 : Int32) (x3 : Int32) (m : MM) : Option ((Int32 × Int32 × MM) ⊕ (Int32 × MM)) :=
  (if (20 : Int32) ≤ x3 then (Option.map Sum.inr (mj_X6_isVisited_108 x1 m)) else ((mf_doesMind x1 m).bind fun (r2, m3) => (if r2 = (0 : Int32) then (Option.map Sum.inr (mj_X6_isVisited_108 x1 m3)) else (if gz_in (0 : Int32) (151) then (if (m3.1 1051 (gz_ix (0 : Int32))) = (999 : Int32) then some (Sum.inr ((0 : Int32), m3)) else ((mf_hourGoes m3).bind fun (_, m9) => gz_let (x3 + (1 : Int32)) fun y11 => some (Sum.inl (x1, y11, m9)))) else none))))
theorem wb_X6_isVisited_70 {X : gz_X} {G : gz_G} (hX : gz_C mS X G cX6_isVisited 4 RX6 7 154) {x1 : Int32} {x3 : Int32}  {m : MM} {z : ((Int32 × Int32 × MM) ⊕ (Int32 × MM))} (h : mb_X6_isVisited_70 x1 x3 m = some z) (hk : (Sum.elim (mP_X6_isVisited_70 X G) (fun z : (Int32 × MM) => gz_kZ mS X G 4 (0, 0) cX6_isVisited (mF z.2) z.1)) z) : gz_V mS X G 4 (0, 0) (mF m) 70 [(0, .ref (gz_ad G 2000)), (1, .int x1), (3, .int x3)] [] := by
  unfold mb_X6_isVisited_70 at h
  refine gz_iload_n (pc := 70) hX dX6_isVisited_70 rfl 2 rfl ?_
  refine gz_bipush (pc := 71) (v := (20 : Int32)) hX dX6_isVisited_71 (by decide) ?_
  refine gz_icmp_ge (pc := 73) (tgt := 108) hX dX6_isVisited_73 (by decide) (fun g1 => ?_) (fun g1 => ?_)
  · replace h := gz_it' g1 h
    refine gz_sub (lw := [(0, .ref (gz_ad G 2000)), (1, .int x1)]) [0, 1] rfl ?_
    obtain ⟨z0, hm0, rfl⟩ := gz_mp h
    exact wb_X6_isVisited_108 hX hm0 hk
  · replace h := gz_if' g1 h
    refine gz_aload_n (pc := 76) hX dX6_isVisited_76 rfl 0 rfl ?_
    refine gz_iload_n (pc := 77) hX dX6_isVisited_77 rfl 1 rfl ?_
    obtain ⟨⟨r2, m3⟩, c4, h⟩ := gz_bd h
    refine mc_doesMind (pc := 78) hX c4 ⟨Nat.le_of_ble_eq_true rfl, Nat.le_of_ble_eq_true rfl⟩ (rest := []) rfl (Nat.le_of_ble_eq_true rfl) dX6_isVisited_78 ?_
    refine gz_if_eq (pc := 81) (tgt := 108) hX dX6_isVisited_81 (by decide) (fun g5 => ?_) (fun g5 => ?_)
    · replace h := gz_it' g5 h
      refine gz_sub (lw := [(0, .ref (gz_ad G 2000)), (1, .int x1)]) [0, 1] rfl ?_
      obtain ⟨z0, hm0, rfl⟩ := gz_mp h
      exact wb_X6_isVisited_108 hX hm0 hk
    · replace h := gz_if' g5 h
      refine gz_aload_n (pc := 84) hX dX6_isVisited_84 rfl 0 rfl ?_
      refine mg_50 (pc := 85) hX dX6_isVisited_85 ?_
      refine gz_iconst (pc := 88) (v := (0 : Int32)) hX dX6_isVisited_88 (by decide) ?_
      obtain ⟨g6, h⟩ := gz_gu h
      refine mz_iald (pc := 89) (c := 1051) (n := 151) hX rfl rfl g6 dX6_isVisited_89 ?_
      refine gz_sipush (pc := 90) (v := (999 : Int32)) hX dX6_isVisited_90 (by decide) ?_
      refine gz_icmp_ne (pc := 93) (tgt := 98) hX dX6_isVisited_93 (by decide) (fun g7 => ?_) (fun g7 => ?_)
      · replace h := gz_if' g7 h
        refine gz_aload_n (pc := 98) hX dX6_isVisited_98 rfl 0 rfl ?_
        obtain ⟨⟨⟨⟩, m9⟩, c10, h⟩ := gz_bd h
        refine mc_hourGoes (pc := 99) hX c10 ⟨Nat.le_of_ble_eq_true rfl, Nat.le_of_ble_eq_true rfl⟩ (rest := []) rfl (Nat.le_of_ble_eq_true rfl) dX6_isVisited_99 ?_
        obtain ⟨y11, ey11, h⟩ := gz_lt h
        refine gz_iinc (pc := 102) (v := y11) (lw := [(3, .int y11), (0, .ref (gz_ad G 2000)), (1, .int x1)]) hX dX6_isVisited_102 (k := 2) rfl (by rw [ey11]; rfl) (by decide) rfl ?_
        refine gz_goto (pc := 105) (tgt := 70) hX dX6_isVisited_105 (by decide) ?_
        refine gz_sub (lw := [(0, .ref (gz_ad G 2000)), (1, .int x1), (3, .int y11)]) [1, 2, 0] rfl ?_
        obtain rfl := Option.some.inj h
        exact hk
      · replace h := gz_it' g7 h
        refine gz_iconst (pc := 96) (v := (0 : Int32)) hX dX6_isVisited_96 (by decide) ?_
        obtain rfl := Option.some.inj h
        exact hk _ _ dX6_isVisited_97 (Or.inl rfl)
noncomputable def ml_X6_isVisited_70 (x1 : Int32) (x3 : Int32) (m : MM) : Option (Int32 × MM) := gz_loop (fun q : (Int32 × Int32 × MM) => mb_X6_isVisited_70 q.1 q.2.1 q.2.2) (x1, x3, m)
theorem wl_X6_isVisited_70 {X : gz_X} {G : gz_G} (hX : gz_C mS X G cX6_isVisited 4 RX6 7 154) {x1 : Int32} {x3 : Int32}  {m : MM} {z : (Int32 × MM)} (h : ml_X6_isVisited_70 x1 x3 m = some z) (hk : (fun z : (Int32 × MM) => gz_kZ mS X G 4 (0, 0) cX6_isVisited (mF z.2) z.1) z) : gz_V mS X G 4 (0, 0) (mF m) 70 [(0, .ref (gz_ad G 2000)), (1, .int x1), (3, .int x3)] [] := by
  have hp : mP_X6_isVisited_70 X G (x1, x3, m) := gz_loop_ind (fun q z hz hkz => wb_X6_isVisited_70 hX  hz hkz) h hk
  exact hp
noncomputable def mf_isVisited (x1 : Int32) (m : MM) : Option (Int32 × MM) :=
  ((mf_doesBurn x1 m).bind fun (r1, m2) => (if r1 = (0 : Int32) then some ((1 : Int32), m2) else (if gz_in (1 : Int32) (151) then ((mf_hallOf x1 m2).bind fun (r6, m7) => (if gz_in (((8 : Int32) * (m2.1 1051 (gz_ix (1 : Int32)))) + r6) (64) then gz_let ((m7.1 1050 (gz_ix (((8 : Int32) * (m2.1 1051 (gz_ix (1 : Int32)))) + r6)))) fun y10 => (if y10 = (-1 : Int32) then (mj_X6_isVisited_50  m7) else (if gz_in (0 : Int32) (151) then (if ((m7.1 1051 (gz_ix (0 : Int32))) + y10) ≤ (999 : Int32) then ((mf_hoursGo y10 m7).bind fun (_, m15) => ((mf_hallOf x1 m15).bind fun (r17, m18) => (if gz_in (1 : Int32) (151) then gz_let (msI m18 1051 (gz_ix (1 : Int32)) r17) fun m21 => (ml_X6_isVisited_70 x1 (0 : Int32) m21) else none))) else (mj_X6_isVisited_50  m7)) else none)) else none)) else none)))
theorem wm_isVisited {X : gz_X} {G : gz_G} (hX : gz_C mS X G cX6_isVisited 4 RX6 7 154) {x1 : Int32}  {m : MM} {z : (Int32 × MM)} (h : mf_isVisited x1 m = some z) (hk : (fun z : (Int32 × MM) => gz_kZ mS X G 4 (0, 0) cX6_isVisited (mF z.2) z.1) z) : gz_V mS X G 4 (0, 0) (mF m) 0 [(0, .ref (gz_ad G 2000)), (1, .int x1)] [] := by
  unfold mf_isVisited at h
  refine gz_aload_n (pc := 0) hX dX6_isVisited_0 rfl 0 rfl ?_
  refine gz_iload_n (pc := 1) hX dX6_isVisited_1 rfl 1 rfl ?_
  obtain ⟨⟨r1, m2⟩, c3, h⟩ := gz_bd h
  refine mc_doesBurn (pc := 2) hX c3 ⟨Nat.le_of_ble_eq_true rfl, Nat.le_of_ble_eq_true rfl⟩ (rest := []) rfl (Nat.le_of_ble_eq_true rfl) dX6_isVisited_2 ?_
  refine gz_if_ne (pc := 5) (tgt := 10) hX dX6_isVisited_5 (by decide) (fun g4 => ?_) (fun g4 => ?_)
  · replace h := gz_if' g4 h
    refine gz_aload_n (pc := 10) hX dX6_isVisited_10 rfl 0 rfl ?_
    refine mg_49 (pc := 11) hX dX6_isVisited_11 ?_
    refine gz_bipush (pc := 14) (v := (8 : Int32)) hX dX6_isVisited_14 (by decide) ?_
    refine gz_aload_n (pc := 16) hX dX6_isVisited_16 rfl 0 rfl ?_
    refine mg_50 (pc := 17) hX dX6_isVisited_17 ?_
    refine gz_iconst (pc := 20) (v := (1 : Int32)) hX dX6_isVisited_20 (by decide) ?_
    obtain ⟨g5, h⟩ := gz_gu h
    refine mz_iald (pc := 21) (c := 1051) (n := 151) hX rfl rfl g5 dX6_isVisited_21 ?_
    refine gz_imul (pc := 22) hX dX6_isVisited_22 ?_
    refine gz_aload_n (pc := 23) hX dX6_isVisited_23 rfl 0 rfl ?_
    refine gz_iload_n (pc := 24) hX dX6_isVisited_24 rfl 1 rfl ?_
    obtain ⟨⟨r6, m7⟩, c8, h⟩ := gz_bd h
    refine mc_hallOf (pc := 25) hX c8 ⟨Nat.le_of_ble_eq_true rfl, Nat.le_of_ble_eq_true rfl⟩ (rest := [.int ((8 : Int32) * (m2.1 1051 (gz_ix (1 : Int32)))), .ref (gz_ad G 1050)]) rfl (Nat.le_of_ble_eq_true rfl) dX6_isVisited_25 ?_
    refine gz_iadd (pc := 28) hX dX6_isVisited_28 ?_
    obtain ⟨g9, h⟩ := gz_gu h
    refine mz_iald (pc := 29) (c := 1050) (n := 64) hX rfl rfl g9 dX6_isVisited_29 ?_
    obtain ⟨y10, ey10, h⟩ := gz_lt h
    refine gz_topi ey10 ?_
    refine gz_istore_n (pc := 30) (lw := [(2, .int y10), (0, .ref (gz_ad G 2000)), (1, .int x1)]) hX dX6_isVisited_30 rfl (by decide) rfl ?_
    refine gz_iload_n (pc := 31) hX dX6_isVisited_31 rfl 0 rfl ?_
    refine gz_iconst (pc := 32) (v := (-1 : Int32)) hX dX6_isVisited_32 (by decide) ?_
    refine gz_icmp_eq (pc := 33) (tgt := 50) hX dX6_isVisited_33 (by decide) (fun g11 => ?_) (fun g11 => ?_)
    · replace h := gz_it' g11 h
      refine gz_sub (lw := [(0, .ref (gz_ad G 2000))]) [1] rfl ?_
      exact wb_X6_isVisited_50 hX h hk
    · replace h := gz_if' g11 h
      refine gz_aload_n (pc := 36) hX dX6_isVisited_36 rfl 1 rfl ?_
      refine mg_50 (pc := 37) hX dX6_isVisited_37 ?_
      refine gz_iconst (pc := 40) (v := (0 : Int32)) hX dX6_isVisited_40 (by decide) ?_
      obtain ⟨g12, h⟩ := gz_gu h
      refine mz_iald (pc := 41) (c := 1051) (n := 151) hX rfl rfl g12 dX6_isVisited_41 ?_
      refine gz_iload_n (pc := 42) hX dX6_isVisited_42 rfl 0 rfl ?_
      refine gz_iadd (pc := 43) hX dX6_isVisited_43 ?_
      refine gz_sipush (pc := 44) (v := (999 : Int32)) hX dX6_isVisited_44 (by decide) ?_
      refine gz_icmp_le (pc := 47) (tgt := 52) hX dX6_isVisited_47 (by decide) (fun g13 => ?_) (fun g13 => ?_)
      · replace h := gz_it' g13 h
        refine gz_aload_n (pc := 52) hX dX6_isVisited_52 rfl 1 rfl ?_
        refine gz_iload_n (pc := 53) hX dX6_isVisited_53 rfl 0 rfl ?_
        obtain ⟨⟨⟨⟩, m15⟩, c16, h⟩ := gz_bd h
        refine mc_hoursGo (pc := 54) hX c16 ⟨Nat.le_of_ble_eq_true rfl, Nat.le_of_ble_eq_true rfl⟩ (rest := []) rfl (Nat.le_of_ble_eq_true rfl) dX6_isVisited_54 ?_
        refine gz_aload_n (pc := 57) hX dX6_isVisited_57 rfl 1 rfl ?_
        refine mg_50 (pc := 58) hX dX6_isVisited_58 ?_
        refine gz_iconst (pc := 61) (v := (1 : Int32)) hX dX6_isVisited_61 (by decide) ?_
        refine gz_aload_n (pc := 62) hX dX6_isVisited_62 rfl 1 rfl ?_
        refine gz_iload_n (pc := 63) hX dX6_isVisited_63 rfl 2 rfl ?_
        obtain ⟨⟨r17, m18⟩, c19, h⟩ := gz_bd h
        refine mc_hallOf (pc := 64) hX c19 ⟨Nat.le_of_ble_eq_true rfl, Nat.le_of_ble_eq_true rfl⟩ (rest := [.int (1 : Int32), .ref (gz_ad G 1051)]) rfl (Nat.le_of_ble_eq_true rfl) dX6_isVisited_64 ?_
        obtain ⟨g20, h⟩ := gz_gu h
        obtain ⟨m21, em21, h⟩ := gz_lt h
        refine mz_iast (pc := 67) (c := 1051) (n := 151) hX rfl rfl g20 (Nat.le_of_ble_eq_true rfl) dX6_isVisited_67 em21 ?_
        refine gz_iconst (pc := 68) (v := (0 : Int32)) hX dX6_isVisited_68 (by decide) ?_
        refine gz_istore_n (pc := 69) (lw := [(3, .int (0 : Int32)), (2, .int y10), (0, .ref (gz_ad G 2000)), (1, .int x1)]) hX dX6_isVisited_69 rfl (by decide) rfl ?_
        refine gz_sub (lw := [(0, .ref (gz_ad G 2000)), (1, .int x1), (3, .int (0 : Int32))]) [2, 3, 0] rfl ?_
        exact wl_X6_isVisited_70 hX h hk
      · replace h := gz_if' g13 h
        refine gz_sub (lw := [(0, .ref (gz_ad G 2000))]) [1] rfl ?_
        exact wb_X6_isVisited_50 hX h hk
  · replace h := gz_it' g4 h
    refine gz_iconst (pc := 8) (v := (1 : Int32)) hX dX6_isVisited_8 (by decide) ?_
    obtain rfl := Option.some.inj h
    exact hk _ _ dX6_isVisited_9 (Or.inr rfl)
theorem mt_isVisited {G : gz_G} {l : Launch} {x1 : Int32}  {m m9 : MM} {r : Int32} (h : mf_isVisited x1 m = some (r, m9)) : gz_Met mS G l yX6_isVisited cX6_isVisited 4 (some .boolean) (mRm 7 154) [.ref (gz_ad G 2000), .int x1] (mF m) (mF m9) (some (.int r)) :=
  gz_ofZ (plainFor_of_name mz_plain) (Nat.le_of_ble_eq_true rfl) fun X _ hX hk => wm_isVisited hX h hk
theorem mc_isVisited {X : gz_X} {G : gz_G} {cc : ByteArray} {nL fr lo pc : Nat} {lv : List (Nat × Value)} {rest st0 : List Value} (hX : gz_C mS X G cc nL RX6 fr lo) {x1 : Int32}  {m m9 : MM} {r : Int32} (h : mf_isVisited x1 m = some (r, m9)) (hroom : 7 + 1 ≤ fr ∧ 8 + (4 + 11) + 154 ≤ lo) (hst : st0 = [.int x1, .ref (gz_ad G 2000)] ++ rest) (hW : (rest.map fun v => v.category).sum ≤ 8) (hd : decode cc pc = .ok (.invokevirtual 530, 3)) (kk : gz_V mS X G nL (0, 0) (mF m9) (pc + 3) lv (.int r :: rest)) : gz_V mS X G nL (0, 0) (mF m) pc lv st0 :=
  gz_callV hX mz_E (As := [.int x1]) (rest := rest) (q := (RX6, TX6, 104)) (ci := 0) (c := 2000) (mt_isVisited (l := X.2.1) h) (lw_V q2476 q2478 qs144 q182 q2479) (n := 1) (by decide +kernel) hroom rfl rfl (by decide) rfl hst hW hd (rem := (0, 0)) kk
/-! hoursBy(I)I -/
def mP_X6_hoursBy_4 (X : gz_X) (G : gz_G) (q : (Int32 × Int32 × Int32 × MM)) : Prop := gz_V mS X G 4 (0, 0) (mF q.2.2.2) 4 [(0, .ref (gz_ad G 2000)), (1, .int q.1), (2, .int q.2.1), (3, .int q.2.2.1)] []
noncomputable def mj_X6_hoursBy_51 (s0 : Int32) (m : MM) : Option (Int32 × MM) :=
  ((mf_triesAnew m).bind fun (_, m2) => some (s0, m2))
theorem wb_X6_hoursBy_51 {X : gz_X} {G : gz_G} (hX : gz_C mS X G cX6_hoursBy 4 RX6 8 177) {s0 : Int32}  {m : MM} {z : (Int32 × MM)} (h : mj_X6_hoursBy_51 s0 m = some z) (hk : (fun z : (Int32 × MM) => gz_kI mS X G 4 (0, 0) cX6_hoursBy (mF z.2) z.1) z) : gz_V mS X G 4 (0, 0) (mF m) 51 [(0, .ref (gz_ad G 2000))] [.int s0] := by
  unfold mj_X6_hoursBy_51 at h
  refine gz_istore_n (pc := 51) (lw := [(3, .int s0), (0, .ref (gz_ad G 2000))]) hX dX6_hoursBy_51 rfl (by decide) rfl ?_
  refine gz_aload_n (pc := 52) hX dX6_hoursBy_52 rfl 1 rfl ?_
  obtain ⟨⟨⟨⟩, m2⟩, c3, h⟩ := gz_bd h
  refine mc_triesAnew (pc := 53) hX c3 ⟨Nat.le_of_ble_eq_true rfl, Nat.le_of_ble_eq_true rfl⟩ (rest := []) rfl (Nat.le_of_ble_eq_true rfl) dX6_hoursBy_53 ?_
  refine gz_iload_n (pc := 56) hX dX6_hoursBy_56 rfl 0 rfl ?_
  obtain rfl := Option.some.inj h
  exact hk _ _ dX6_hoursBy_57
noncomputable def mj_X6_hoursBy_30 (x2 : Int32) (m : MM) : Option (Int32 × MM) :=
  (if x2 = (0 : Int32) then (mj_X6_hoursBy_51 (-1 : Int32) m) else (if gz_in (0 : Int32) (151) then (if gz_in (0 : Int32) (30) then (mj_X6_hoursBy_51 ((m.1 1051 (gz_ix (0 : Int32))) - (m.1 1052 (gz_ix (0 : Int32)))) m) else none) else none))
theorem wb_X6_hoursBy_30 {X : gz_X} {G : gz_G} (hX : gz_C mS X G cX6_hoursBy 4 RX6 8 177) {x2 : Int32}  {m : MM} {z : (Int32 × MM)} (h : mj_X6_hoursBy_30 x2 m = some z) (hk : (fun z : (Int32 × MM) => gz_kI mS X G 4 (0, 0) cX6_hoursBy (mF z.2) z.1) z) : gz_V mS X G 4 (0, 0) (mF m) 30 [(0, .ref (gz_ad G 2000)), (2, .int x2)] [] := by
  unfold mj_X6_hoursBy_30 at h
  refine gz_iload_n (pc := 30) hX dX6_hoursBy_30 rfl 1 rfl ?_
  refine gz_if_eq (pc := 31) (tgt := 50) hX dX6_hoursBy_31 (by decide) (fun g1 => ?_) (fun g1 => ?_)
  · replace h := gz_it' g1 h
    refine gz_iconst (pc := 50) (v := (-1 : Int32)) hX dX6_hoursBy_50 (by decide) ?_
    refine gz_sub (lw := [(0, .ref (gz_ad G 2000))]) [0] rfl ?_
    exact wb_X6_hoursBy_51 hX h hk
  · replace h := gz_if' g1 h
    refine gz_aload_n (pc := 34) hX dX6_hoursBy_34 rfl 0 rfl ?_
    refine mg_50 (pc := 35) hX dX6_hoursBy_35 ?_
    refine gz_iconst (pc := 38) (v := (0 : Int32)) hX dX6_hoursBy_38 (by decide) ?_
    obtain ⟨g2, h⟩ := gz_gu h
    refine mz_iald (pc := 39) (c := 1051) (n := 151) hX rfl rfl g2 dX6_hoursBy_39 ?_
    refine gz_aload_n (pc := 40) hX dX6_hoursBy_40 rfl 0 rfl ?_
    refine mg_51 (pc := 41) hX dX6_hoursBy_41 ?_
    refine gz_iconst (pc := 44) (v := (0 : Int32)) hX dX6_hoursBy_44 (by decide) ?_
    obtain ⟨g3, h⟩ := gz_gu h
    refine mz_iald (pc := 45) (c := 1052) (n := 30) hX rfl rfl g3 dX6_hoursBy_45 ?_
    refine gz_isub (pc := 46) hX dX6_hoursBy_46 ?_
    refine gz_goto (pc := 47) (tgt := 51) hX dX6_hoursBy_47 (by decide) ?_
    refine gz_sub (lw := [(0, .ref (gz_ad G 2000))]) [0] rfl ?_
    exact wb_X6_hoursBy_51 hX h hk
noncomputable def mb_X6_hoursBy_4 (x1 : Int32) (x2 : Int32) (x3 : Int32) (m : MM) : Option ((Int32 × Int32 × Int32 × MM) ⊕ (Int32 × MM)) :=
  (if x1 ≤ x3 then (Option.map Sum.inr (mj_X6_hoursBy_30 x2 m)) else (if x2 = (0 : Int32) then (Option.map Sum.inr (mj_X6_hoursBy_30 x2 m)) else (if gz_in x3 (4) then ((mf_isVisited (m.1 1060 (gz_ix x3)) m).bind fun (r4, m5) => gz_let (x3 + (1 : Int32)) fun y7 => some (Sum.inl (x1, r4, y7, m5))) else none)))
theorem wb_X6_hoursBy_4 {X : gz_X} {G : gz_G} (hX : gz_C mS X G cX6_hoursBy 4 RX6 8 177) {x1 : Int32} {x2 : Int32} {x3 : Int32}  {m : MM} {z : ((Int32 × Int32 × Int32 × MM) ⊕ (Int32 × MM))} (h : mb_X6_hoursBy_4 x1 x2 x3 m = some z) (hk : (Sum.elim (mP_X6_hoursBy_4 X G) (fun z : (Int32 × MM) => gz_kI mS X G 4 (0, 0) cX6_hoursBy (mF z.2) z.1)) z) : gz_V mS X G 4 (0, 0) (mF m) 4 [(0, .ref (gz_ad G 2000)), (1, .int x1), (2, .int x2), (3, .int x3)] [] := by
  unfold mb_X6_hoursBy_4 at h
  refine gz_iload_n (pc := 4) hX dX6_hoursBy_4 rfl 3 rfl ?_
  refine gz_iload_n (pc := 5) hX dX6_hoursBy_5 rfl 1 rfl ?_
  refine gz_icmp_ge (pc := 6) (tgt := 30) hX dX6_hoursBy_6 (by decide) (fun g1 => ?_) (fun g1 => ?_)
  · replace h := gz_it' g1 h
    refine gz_sub (lw := [(0, .ref (gz_ad G 2000)), (2, .int x2)]) [0, 2] rfl ?_
    obtain ⟨z0, hm0, rfl⟩ := gz_mp h
    exact wb_X6_hoursBy_30 hX hm0 hk
  · replace h := gz_if' g1 h
    refine gz_iload_n (pc := 9) hX dX6_hoursBy_9 rfl 2 rfl ?_
    refine gz_if_eq (pc := 10) (tgt := 30) hX dX6_hoursBy_10 (by decide) (fun g2 => ?_) (fun g2 => ?_)
    · replace h := gz_it' g2 h
      refine gz_sub (lw := [(0, .ref (gz_ad G 2000)), (2, .int x2)]) [0, 2] rfl ?_
      obtain ⟨z0, hm0, rfl⟩ := gz_mp h
      exact wb_X6_hoursBy_30 hX hm0 hk
    · replace h := gz_if' g2 h
      refine gz_aload_n (pc := 13) hX dX6_hoursBy_13 rfl 0 rfl ?_
      refine gz_aload_n (pc := 14) hX dX6_hoursBy_14 rfl 0 rfl ?_
      refine mg_59 (pc := 15) hX dX6_hoursBy_15 ?_
      refine gz_iload_n (pc := 18) hX dX6_hoursBy_18 rfl 3 rfl ?_
      obtain ⟨g3, h⟩ := gz_gu h
      refine mz_iald (pc := 19) (c := 1060) (n := 4) hX rfl rfl g3 dX6_hoursBy_19 ?_
      obtain ⟨⟨r4, m5⟩, c6, h⟩ := gz_bd h
      refine mc_isVisited (pc := 20) hX c6 ⟨Nat.le_of_ble_eq_true rfl, Nat.le_of_ble_eq_true rfl⟩ (rest := []) rfl (Nat.le_of_ble_eq_true rfl) dX6_hoursBy_20 ?_
      refine gz_istore_n (pc := 23) (lw := [(2, .int r4), (0, .ref (gz_ad G 2000)), (1, .int x1), (3, .int x3)]) hX dX6_hoursBy_23 rfl (by decide) rfl ?_
      obtain ⟨y7, ey7, h⟩ := gz_lt h
      refine gz_iinc (pc := 24) (v := y7) (lw := [(3, .int y7), (2, .int r4), (0, .ref (gz_ad G 2000)), (1, .int x1)]) hX dX6_hoursBy_24 (k := 3) rfl (by rw [ey7]; rfl) (by decide) rfl ?_
      refine gz_goto (pc := 27) (tgt := 4) hX dX6_hoursBy_27 (by decide) ?_
      refine gz_sub (lw := [(0, .ref (gz_ad G 2000)), (1, .int x1), (2, .int r4), (3, .int y7)]) [2, 3, 1, 0] rfl ?_
      obtain rfl := Option.some.inj h
      exact hk
noncomputable def ml_X6_hoursBy_4 (x1 : Int32) (x2 : Int32) (x3 : Int32) (m : MM) : Option (Int32 × MM) := gz_loop (fun q : (Int32 × Int32 × Int32 × MM) => mb_X6_hoursBy_4 q.1 q.2.1 q.2.2.1 q.2.2.2) (x1, x2, x3, m)
theorem wl_X6_hoursBy_4 {X : gz_X} {G : gz_G} (hX : gz_C mS X G cX6_hoursBy 4 RX6 8 177) {x1 : Int32} {x2 : Int32} {x3 : Int32}  {m : MM} {z : (Int32 × MM)} (h : ml_X6_hoursBy_4 x1 x2 x3 m = some z) (hk : (fun z : (Int32 × MM) => gz_kI mS X G 4 (0, 0) cX6_hoursBy (mF z.2) z.1) z) : gz_V mS X G 4 (0, 0) (mF m) 4 [(0, .ref (gz_ad G 2000)), (1, .int x1), (2, .int x2), (3, .int x3)] [] := by
  have hp : mP_X6_hoursBy_4 X G (x1, x2, x3, m) := gz_loop_ind (fun q z hz hkz => wb_X6_hoursBy_4 hX  hz hkz) h hk
  exact hp
noncomputable def mf_hoursBy (x1 : Int32) (m : MM) : Option (Int32 × MM) :=
  (ml_X6_hoursBy_4 x1 (1 : Int32) (0 : Int32) m)
theorem wm_hoursBy {X : gz_X} {G : gz_G} (hX : gz_C mS X G cX6_hoursBy 4 RX6 8 177) {x1 : Int32}  {m : MM} {z : (Int32 × MM)} (h : mf_hoursBy x1 m = some z) (hk : (fun z : (Int32 × MM) => gz_kI mS X G 4 (0, 0) cX6_hoursBy (mF z.2) z.1) z) : gz_V mS X G 4 (0, 0) (mF m) 0 [(0, .ref (gz_ad G 2000)), (1, .int x1)] [] := by
  unfold mf_hoursBy at h
  refine gz_iconst (pc := 0) (v := (1 : Int32)) hX dX6_hoursBy_0 (by decide) ?_
  refine gz_istore_n (pc := 1) (lw := [(2, .int (1 : Int32)), (0, .ref (gz_ad G 2000)), (1, .int x1)]) hX dX6_hoursBy_1 rfl (by decide) rfl ?_
  refine gz_iconst (pc := 2) (v := (0 : Int32)) hX dX6_hoursBy_2 (by decide) ?_
  refine gz_istore_n (pc := 3) (lw := [(3, .int (0 : Int32)), (2, .int (1 : Int32)), (0, .ref (gz_ad G 2000)), (1, .int x1)]) hX dX6_hoursBy_3 rfl (by decide) rfl ?_
  refine gz_sub (lw := [(0, .ref (gz_ad G 2000)), (1, .int x1), (2, .int (1 : Int32)), (3, .int (0 : Int32))]) [2, 3, 1, 0] rfl ?_
  exact wl_X6_hoursBy_4 hX h hk
theorem mt_hoursBy {G : gz_G} {l : Launch} {x1 : Int32}  {m m9 : MM} {r : Int32} (h : mf_hoursBy x1 m = some (r, m9)) : gz_Met mS G l yX6_hoursBy cX6_hoursBy 4 (some .int) (mRm 8 177) [.ref (gz_ad G 2000), .int x1] (mF m) (mF m9) (some (.int r)) :=
  gz_ofI (plainFor_of_name mz_plain) (Nat.le_of_ble_eq_true rfl) fun X _ hX hk => wm_hoursBy hX h hk
theorem mc_hoursBy {X : gz_X} {G : gz_G} {cc : ByteArray} {nL fr lo pc : Nat} {lv : List (Nat × Value)} {rest st0 : List Value} (hX : gz_C mS X G cc nL RX6 fr lo) {x1 : Int32}  {m m9 : MM} {r : Int32} (h : mf_hoursBy x1 m = some (r, m9)) (hroom : 8 + 1 ≤ fr ∧ 8 + (4 + 11) + 177 ≤ lo) (hst : st0 = [.int x1, .ref (gz_ad G 2000)] ++ rest) (hW : (rest.map fun v => v.category).sum ≤ 8) (hd : decode cc pc = .ok (.invokevirtual 533, 3)) (kk : gz_V mS X G nL (0, 0) (mF m9) (pc + 3) lv (.int r :: rest)) : gz_V mS X G nL (0, 0) (mF m) pc lv st0 :=
  gz_callV hX mz_E (As := [.int x1]) (rest := rest) (q := (RX6, TX6, 104)) (ci := 0) (c := 2000) (mt_hoursBy (l := X.2.1) h) (lw_V q2472 q2474 qs143 q182 q2475) (n := 1) (by decide +kernel) hroom rfl rfl (by decide) rfl hst hW hd (rem := (0, 0)) kk
/-! goesOn(I)Z -/
def mP_X6_goesOn_4 (X : gz_X) (G : gz_G) (q : (Int32 × Int32 × MM)) : Prop := gz_V mS X G 7 (0, 0) (mF q.2.2) 4 [(0, .ref (gz_ad G 2000)), (1, .int q.1), (2, .int q.2.1)] []
def mP_X6_goesOn_41 (X : gz_X) (G : gz_G) (q : (Int32 × Int32 × Int32 × MM)) : Prop := gz_V mS X G 7 (0, 0) (mF q.2.2.2) 41 [(0, .ref (gz_ad G 2000)), (1, .int q.1), (2, .int q.2.1), (3, .int q.2.2.1)] []
def mP_X6_goesOn_100 (X : gz_X) (G : gz_G) (q : (Int32 × Int32 × MM)) : Prop := gz_V mS X G 7 (0, 0) (mF q.2.2) 100 [(0, .ref (gz_ad G 2000)), (5, .int q.1), (6, .int q.2.1)] []
noncomputable def mb_X6_goesOn_100 (x5 : Int32) (x6 : Int32) (m : MM) : Option ((Int32 × Int32 × MM) ⊕ (Int32 × MM)) :=
  (if x6 ≤ x5 then some (Sum.inr ((1 : Int32), m)) else (if gz_in x5 (4) then gz_let ((m.1 1060 (gz_ix x5))) fun y3 => (if gz_in x6 (4) then (if gz_in x5 (4) then gz_let (msI m 1060 (gz_ix x5) (m.1 1060 (gz_ix x6))) fun m6 => (if gz_in x6 (4) then gz_let (msI m6 1060 (gz_ix x6) y3) fun m8 => gz_let (x5 + (1 : Int32)) fun y9 => gz_let (x6 + (-1 : Int32)) fun y10 => some (Sum.inl (y9, y10, m8)) else none) else none) else none) else none))
theorem wb_X6_goesOn_100 {X : gz_X} {G : gz_G} (hX : gz_C mS X G cX6_goesOn 7 RX6 0 0) {x5 : Int32} {x6 : Int32}  {m : MM} {z : ((Int32 × Int32 × MM) ⊕ (Int32 × MM))} (h : mb_X6_goesOn_100 x5 x6 m = some z) (hk : (Sum.elim (mP_X6_goesOn_100 X G) (fun z : (Int32 × MM) => gz_kZ mS X G 7 (0, 0) cX6_goesOn (mF z.2) z.1)) z) : gz_V mS X G 7 (0, 0) (mF m) 100 [(0, .ref (gz_ad G 2000)), (5, .int x5), (6, .int x6)] [] := by
  unfold mb_X6_goesOn_100 at h
  refine gz_iload (pc := 100) hX dX6_goesOn_100 1 rfl ?_
  refine gz_iload (pc := 102) hX dX6_goesOn_102 2 rfl ?_
  refine gz_icmp_ge (pc := 104) (tgt := 148) hX dX6_goesOn_104 (by decide) (fun g1 => ?_) (fun g1 => ?_)
  · replace h := gz_it' g1 h
    refine gz_iconst (pc := 148) (v := (1 : Int32)) hX dX6_goesOn_148 (by decide) ?_
    obtain rfl := Option.some.inj h
    exact hk _ _ dX6_goesOn_149 (Or.inr rfl)
  · replace h := gz_if' g1 h
    refine gz_aload_n (pc := 107) hX dX6_goesOn_107 rfl 0 rfl ?_
    refine mg_59 (pc := 108) hX dX6_goesOn_108 ?_
    refine gz_iload (pc := 111) hX dX6_goesOn_111 1 rfl ?_
    obtain ⟨g2, h⟩ := gz_gu h
    refine mz_iald (pc := 113) (c := 1060) (n := 4) hX rfl rfl g2 dX6_goesOn_113 ?_
    obtain ⟨y3, ey3, h⟩ := gz_lt h
    refine gz_topi ey3 ?_
    refine gz_istore (pc := 114) (lw := [(4, .int y3), (0, .ref (gz_ad G 2000)), (5, .int x5), (6, .int x6)]) hX dX6_goesOn_114 (by decide) rfl ?_
    refine gz_aload_n (pc := 116) hX dX6_goesOn_116 rfl 1 rfl ?_
    refine mg_59 (pc := 117) hX dX6_goesOn_117 ?_
    refine gz_iload (pc := 120) hX dX6_goesOn_120 2 rfl ?_
    refine gz_aload_n (pc := 122) hX dX6_goesOn_122 rfl 1 rfl ?_
    refine mg_59 (pc := 123) hX dX6_goesOn_123 ?_
    refine gz_iload (pc := 126) hX dX6_goesOn_126 3 rfl ?_
    obtain ⟨g4, h⟩ := gz_gu h
    refine mz_iald (pc := 128) (c := 1060) (n := 4) hX rfl rfl g4 dX6_goesOn_128 ?_
    obtain ⟨g5, h⟩ := gz_gu h
    obtain ⟨m6, em6, h⟩ := gz_lt h
    refine mz_iast (pc := 129) (c := 1060) (n := 4) hX rfl rfl g5 (Nat.le_of_ble_eq_true rfl) dX6_goesOn_129 em6 ?_
    refine gz_aload_n (pc := 130) hX dX6_goesOn_130 rfl 1 rfl ?_
    refine mg_59 (pc := 131) hX dX6_goesOn_131 ?_
    refine gz_iload (pc := 134) hX dX6_goesOn_134 3 rfl ?_
    refine gz_iload (pc := 136) hX dX6_goesOn_136 0 rfl ?_
    obtain ⟨g7, h⟩ := gz_gu h
    obtain ⟨m8, em8, h⟩ := gz_lt h
    refine mz_iast (pc := 138) (c := 1060) (n := 4) hX rfl rfl g7 (Nat.le_of_ble_eq_true rfl) dX6_goesOn_138 em8 ?_
    obtain ⟨y9, ey9, h⟩ := gz_lt h
    refine gz_iinc (pc := 139) (v := y9) (lw := [(5, .int y9), (4, .int y3), (0, .ref (gz_ad G 2000)), (6, .int x6)]) hX dX6_goesOn_139 (k := 2) rfl (by rw [ey9]; rfl) (by decide) rfl ?_
    obtain ⟨y10, ey10, h⟩ := gz_lt h
    refine gz_iinc (pc := 142) (v := y10) (lw := [(6, .int y10), (5, .int y9), (4, .int y3), (0, .ref (gz_ad G 2000))]) hX dX6_goesOn_142 (k := 3) rfl (by rw [ey10]; rfl) (by decide) rfl ?_
    refine gz_goto (pc := 145) (tgt := 100) hX dX6_goesOn_145 (by decide) ?_
    refine gz_sub (lw := [(0, .ref (gz_ad G 2000)), (5, .int y9), (6, .int y10)]) [3, 1, 0] rfl ?_
    obtain rfl := Option.some.inj h
    exact hk
noncomputable def ml_X6_goesOn_100 (x5 : Int32) (x6 : Int32) (m : MM) : Option (Int32 × MM) := gz_loop (fun q : (Int32 × Int32 × MM) => mb_X6_goesOn_100 q.1 q.2.1 q.2.2) (x5, x6, m)
theorem wl_X6_goesOn_100 {X : gz_X} {G : gz_G} (hX : gz_C mS X G cX6_goesOn 7 RX6 0 0) {x5 : Int32} {x6 : Int32}  {m : MM} {z : (Int32 × MM)} (h : ml_X6_goesOn_100 x5 x6 m = some z) (hk : (fun z : (Int32 × MM) => gz_kZ mS X G 7 (0, 0) cX6_goesOn (mF z.2) z.1) z) : gz_V mS X G 7 (0, 0) (mF m) 100 [(0, .ref (gz_ad G 2000)), (5, .int x5), (6, .int x6)] [] := by
  have hp : mP_X6_goesOn_100 X G (x5, x6, m) := gz_loop_ind (fun q z hz hkz => wb_X6_goesOn_100 hX  hz hkz) h hk
  exact hp
noncomputable def mb_X6_goesOn_41 (x1 : Int32) (x2 : Int32) (x3 : Int32) (m : MM) : Option ((Int32 × Int32 × Int32 × MM) ⊕ (Int32 × MM)) :=
  (if gz_in x3 (4) then (if gz_in x2 (4) then (if (m.1 1060 (gz_ix x2)) ≤ (m.1 1060 (gz_ix x3)) then (if gz_in x2 (4) then gz_let ((m.1 1060 (gz_ix x2))) fun y5 => (if gz_in x3 (4) then (if gz_in x2 (4) then gz_let (msI m 1060 (gz_ix x2) (m.1 1060 (gz_ix x3))) fun m8 => (if gz_in x3 (4) then gz_let (msI m8 1060 (gz_ix x3) y5) fun m10 => gz_let ((x2 + (1 : Int32))) fun y11 => gz_let ((x1 - (1 : Int32))) fun y12 => (Option.map Sum.inr (ml_X6_goesOn_100 y11 y12 m10)) else none) else none) else none) else none) else gz_let (x3 + (-1 : Int32)) fun y13 => some (Sum.inl (x1, x2, y13, m))) else none) else none)
theorem wb_X6_goesOn_41 {X : gz_X} {G : gz_G} (hX : gz_C mS X G cX6_goesOn 7 RX6 0 0) {x1 : Int32} {x2 : Int32} {x3 : Int32}  {m : MM} {z : ((Int32 × Int32 × Int32 × MM) ⊕ (Int32 × MM))} (h : mb_X6_goesOn_41 x1 x2 x3 m = some z) (hk : (Sum.elim (mP_X6_goesOn_41 X G) (fun z : (Int32 × MM) => gz_kZ mS X G 7 (0, 0) cX6_goesOn (mF z.2) z.1)) z) : gz_V mS X G 7 (0, 0) (mF m) 41 [(0, .ref (gz_ad G 2000)), (1, .int x1), (2, .int x2), (3, .int x3)] [] := by
  unfold mb_X6_goesOn_41 at h
  refine gz_aload_n (pc := 41) hX dX6_goesOn_41 rfl 0 rfl ?_
  refine mg_59 (pc := 42) hX dX6_goesOn_42 ?_
  refine gz_iload_n (pc := 45) hX dX6_goesOn_45 rfl 3 rfl ?_
  obtain ⟨g1, h⟩ := gz_gu h
  refine mz_iald (pc := 46) (c := 1060) (n := 4) hX rfl rfl g1 dX6_goesOn_46 ?_
  refine gz_aload_n (pc := 47) hX dX6_goesOn_47 rfl 0 rfl ?_
  refine mg_59 (pc := 48) hX dX6_goesOn_48 ?_
  refine gz_iload_n (pc := 51) hX dX6_goesOn_51 rfl 2 rfl ?_
  obtain ⟨g2, h⟩ := gz_gu h
  refine mz_iald (pc := 52) (c := 1060) (n := 4) hX rfl rfl g2 dX6_goesOn_52 ?_
  refine gz_icmp_ge (pc := 53) (tgt := 62) hX dX6_goesOn_53 (by decide) (fun g3 => ?_) (fun g3 => ?_)
  · replace h := gz_it' g3 h
    refine gz_aload_n (pc := 62) hX dX6_goesOn_62 rfl 0 rfl ?_
    refine mg_59 (pc := 63) hX dX6_goesOn_63 ?_
    refine gz_iload_n (pc := 66) hX dX6_goesOn_66 rfl 2 rfl ?_
    obtain ⟨g4, h⟩ := gz_gu h
    refine mz_iald (pc := 67) (c := 1060) (n := 4) hX rfl rfl g4 dX6_goesOn_67 ?_
    obtain ⟨y5, ey5, h⟩ := gz_lt h
    refine gz_topi ey5 ?_
    refine gz_istore (pc := 68) (lw := [(4, .int y5), (0, .ref (gz_ad G 2000)), (1, .int x1), (2, .int x2), (3, .int x3)]) hX dX6_goesOn_68 (by decide) rfl ?_
    refine gz_aload_n (pc := 70) hX dX6_goesOn_70 rfl 1 rfl ?_
    refine mg_59 (pc := 71) hX dX6_goesOn_71 ?_
    refine gz_iload_n (pc := 74) hX dX6_goesOn_74 rfl 3 rfl ?_
    refine gz_aload_n (pc := 75) hX dX6_goesOn_75 rfl 1 rfl ?_
    refine mg_59 (pc := 76) hX dX6_goesOn_76 ?_
    refine gz_iload_n (pc := 79) hX dX6_goesOn_79 rfl 4 rfl ?_
    obtain ⟨g6, h⟩ := gz_gu h
    refine mz_iald (pc := 80) (c := 1060) (n := 4) hX rfl rfl g6 dX6_goesOn_80 ?_
    obtain ⟨g7, h⟩ := gz_gu h
    obtain ⟨m8, em8, h⟩ := gz_lt h
    refine mz_iast (pc := 81) (c := 1060) (n := 4) hX rfl rfl g7 (Nat.le_of_ble_eq_true rfl) dX6_goesOn_81 em8 ?_
    refine gz_aload_n (pc := 82) hX dX6_goesOn_82 rfl 1 rfl ?_
    refine mg_59 (pc := 83) hX dX6_goesOn_83 ?_
    refine gz_iload_n (pc := 86) hX dX6_goesOn_86 rfl 4 rfl ?_
    refine gz_iload (pc := 87) hX dX6_goesOn_87 0 rfl ?_
    obtain ⟨g9, h⟩ := gz_gu h
    obtain ⟨m10, em10, h⟩ := gz_lt h
    refine mz_iast (pc := 89) (c := 1060) (n := 4) hX rfl rfl g9 (Nat.le_of_ble_eq_true rfl) dX6_goesOn_89 em10 ?_
    refine gz_iload_n (pc := 90) hX dX6_goesOn_90 rfl 3 rfl ?_
    refine gz_iconst (pc := 91) (v := (1 : Int32)) hX dX6_goesOn_91 (by decide) ?_
    refine gz_iadd (pc := 92) hX dX6_goesOn_92 ?_
    obtain ⟨y11, ey11, h⟩ := gz_lt h
    refine gz_topi ey11 ?_
    refine gz_istore (pc := 93) (lw := [(5, .int y11), (4, .int y5), (0, .ref (gz_ad G 2000)), (1, .int x1), (2, .int x2), (3, .int x3)]) hX dX6_goesOn_93 (by decide) rfl ?_
    refine gz_iload_n (pc := 95) hX dX6_goesOn_95 rfl 3 rfl ?_
    refine gz_iconst (pc := 96) (v := (1 : Int32)) hX dX6_goesOn_96 (by decide) ?_
    refine gz_isub (pc := 97) hX dX6_goesOn_97 ?_
    obtain ⟨y12, ey12, h⟩ := gz_lt h
    refine gz_topi ey12 ?_
    refine gz_istore (pc := 98) (lw := [(6, .int y12), (5, .int y11), (4, .int y5), (0, .ref (gz_ad G 2000)), (1, .int x1), (2, .int x2), (3, .int x3)]) hX dX6_goesOn_98 (by decide) rfl ?_
    refine gz_sub (lw := [(0, .ref (gz_ad G 2000)), (5, .int y11), (6, .int y12)]) [3, 1, 0] rfl ?_
    obtain ⟨z0, hm0, rfl⟩ := gz_mp h
    exact wl_X6_goesOn_100 hX hm0 hk
  · replace h := gz_if' g3 h
    obtain ⟨y13, ey13, h⟩ := gz_lt h
    refine gz_iinc (pc := 56) (v := y13) (lw := [(3, .int y13), (0, .ref (gz_ad G 2000)), (1, .int x1), (2, .int x2)]) hX dX6_goesOn_56 (k := 3) rfl (by rw [ey13]; rfl) (by decide) rfl ?_
    refine gz_goto (pc := 59) (tgt := 41) hX dX6_goesOn_59 (by decide) ?_
    refine gz_sub (lw := [(0, .ref (gz_ad G 2000)), (1, .int x1), (2, .int x2), (3, .int y13)]) [1, 2, 3, 0] rfl ?_
    obtain rfl := Option.some.inj h
    exact hk
noncomputable def ml_X6_goesOn_41 (x1 : Int32) (x2 : Int32) (x3 : Int32) (m : MM) : Option (Int32 × MM) := gz_loop (fun q : (Int32 × Int32 × Int32 × MM) => mb_X6_goesOn_41 q.1 q.2.1 q.2.2.1 q.2.2.2) (x1, x2, x3, m)
theorem wl_X6_goesOn_41 {X : gz_X} {G : gz_G} (hX : gz_C mS X G cX6_goesOn 7 RX6 0 0) {x1 : Int32} {x2 : Int32} {x3 : Int32}  {m : MM} {z : (Int32 × MM)} (h : ml_X6_goesOn_41 x1 x2 x3 m = some z) (hk : (fun z : (Int32 × MM) => gz_kZ mS X G 7 (0, 0) cX6_goesOn (mF z.2) z.1) z) : gz_V mS X G 7 (0, 0) (mF m) 41 [(0, .ref (gz_ad G 2000)), (1, .int x1), (2, .int x2), (3, .int x3)] [] := by
  have hp : mP_X6_goesOn_41 X G (x1, x2, x3, m) := gz_loop_ind (fun q z hz hkz => wb_X6_goesOn_41 hX  hz hkz) h hk
  exact hp
noncomputable def mj_X6_goesOn_31 (x1 : Int32) (x2 : Int32) (m : MM) : Option (Int32 × MM) :=
  (if (0 : Int32) ≤ x2 then gz_let ((x1 - (1 : Int32))) fun y2 => (ml_X6_goesOn_41 x1 x2 y2 m) else some ((0 : Int32), m))
theorem wb_X6_goesOn_31 {X : gz_X} {G : gz_G} (hX : gz_C mS X G cX6_goesOn 7 RX6 0 0) {x1 : Int32} {x2 : Int32}  {m : MM} {z : (Int32 × MM)} (h : mj_X6_goesOn_31 x1 x2 m = some z) (hk : (fun z : (Int32 × MM) => gz_kZ mS X G 7 (0, 0) cX6_goesOn (mF z.2) z.1) z) : gz_V mS X G 7 (0, 0) (mF m) 31 [(0, .ref (gz_ad G 2000)), (1, .int x1), (2, .int x2)] [] := by
  unfold mj_X6_goesOn_31 at h
  refine gz_iload_n (pc := 31) hX dX6_goesOn_31 rfl 2 rfl ?_
  refine gz_if_ge (pc := 32) (tgt := 37) hX dX6_goesOn_32 (by decide) (fun g1 => ?_) (fun g1 => ?_)
  · replace h := gz_it' g1 h
    refine gz_iload_n (pc := 37) hX dX6_goesOn_37 rfl 1 rfl ?_
    refine gz_iconst (pc := 38) (v := (1 : Int32)) hX dX6_goesOn_38 (by decide) ?_
    refine gz_isub (pc := 39) hX dX6_goesOn_39 ?_
    obtain ⟨y2, ey2, h⟩ := gz_lt h
    refine gz_topi ey2 ?_
    refine gz_istore_n (pc := 40) (lw := [(3, .int y2), (0, .ref (gz_ad G 2000)), (1, .int x1), (2, .int x2)]) hX dX6_goesOn_40 rfl (by decide) rfl ?_
    refine gz_sub (lw := [(0, .ref (gz_ad G 2000)), (1, .int x1), (2, .int x2), (3, .int y2)]) [1, 2, 3, 0] rfl ?_
    exact wl_X6_goesOn_41 hX h hk
  · replace h := gz_if' g1 h
    refine gz_iconst (pc := 35) (v := (0 : Int32)) hX dX6_goesOn_35 (by decide) ?_
    obtain rfl := Option.some.inj h
    exact hk _ _ dX6_goesOn_36 (Or.inl rfl)
noncomputable def mb_X6_goesOn_4 (x1 : Int32) (x2 : Int32) (m : MM) : Option ((Int32 × Int32 × MM) ⊕ (Int32 × MM)) :=
  (if x2 < (0 : Int32) then (Option.map Sum.inr (mj_X6_goesOn_31 x1 x2 m)) else (if gz_in x2 (4) then (if gz_in (x2 + (1 : Int32)) (4) then (if (m.1 1060 (gz_ix x2)) ≤ (m.1 1060 (gz_ix (x2 + (1 : Int32)))) then (Option.map Sum.inr (mj_X6_goesOn_31 x1 x2 m)) else gz_let (x2 + (-1 : Int32)) fun y5 => some (Sum.inl (x1, y5, m))) else none) else none))
theorem wb_X6_goesOn_4 {X : gz_X} {G : gz_G} (hX : gz_C mS X G cX6_goesOn 7 RX6 0 0) {x1 : Int32} {x2 : Int32}  {m : MM} {z : ((Int32 × Int32 × MM) ⊕ (Int32 × MM))} (h : mb_X6_goesOn_4 x1 x2 m = some z) (hk : (Sum.elim (mP_X6_goesOn_4 X G) (fun z : (Int32 × MM) => gz_kZ mS X G 7 (0, 0) cX6_goesOn (mF z.2) z.1)) z) : gz_V mS X G 7 (0, 0) (mF m) 4 [(0, .ref (gz_ad G 2000)), (1, .int x1), (2, .int x2)] [] := by
  unfold mb_X6_goesOn_4 at h
  refine gz_iload_n (pc := 4) hX dX6_goesOn_4 rfl 2 rfl ?_
  refine gz_if_lt (pc := 5) (tgt := 31) hX dX6_goesOn_5 (by decide) (fun g1 => ?_) (fun g1 => ?_)
  · replace h := gz_it' g1 h
    obtain ⟨z0, hm0, rfl⟩ := gz_mp h
    exact wb_X6_goesOn_31 hX hm0 hk
  · replace h := gz_if' g1 h
    refine gz_aload_n (pc := 8) hX dX6_goesOn_8 rfl 0 rfl ?_
    refine mg_59 (pc := 9) hX dX6_goesOn_9 ?_
    refine gz_iload_n (pc := 12) hX dX6_goesOn_12 rfl 2 rfl ?_
    obtain ⟨g2, h⟩ := gz_gu h
    refine mz_iald (pc := 13) (c := 1060) (n := 4) hX rfl rfl g2 dX6_goesOn_13 ?_
    refine gz_aload_n (pc := 14) hX dX6_goesOn_14 rfl 0 rfl ?_
    refine mg_59 (pc := 15) hX dX6_goesOn_15 ?_
    refine gz_iload_n (pc := 18) hX dX6_goesOn_18 rfl 2 rfl ?_
    refine gz_iconst (pc := 19) (v := (1 : Int32)) hX dX6_goesOn_19 (by decide) ?_
    refine gz_iadd (pc := 20) hX dX6_goesOn_20 ?_
    obtain ⟨g3, h⟩ := gz_gu h
    refine mz_iald (pc := 21) (c := 1060) (n := 4) hX rfl rfl g3 dX6_goesOn_21 ?_
    refine gz_icmp_le (pc := 22) (tgt := 31) hX dX6_goesOn_22 (by decide) (fun g4 => ?_) (fun g4 => ?_)
    · replace h := gz_it' g4 h
      obtain ⟨z0, hm0, rfl⟩ := gz_mp h
      exact wb_X6_goesOn_31 hX hm0 hk
    · replace h := gz_if' g4 h
      obtain ⟨y5, ey5, h⟩ := gz_lt h
      refine gz_iinc (pc := 25) (v := y5) (lw := [(2, .int y5), (0, .ref (gz_ad G 2000)), (1, .int x1)]) hX dX6_goesOn_25 (k := 2) rfl (by rw [ey5]; rfl) (by decide) rfl ?_
      refine gz_goto (pc := 28) (tgt := 4) hX dX6_goesOn_28 (by decide) ?_
      refine gz_sub (lw := [(0, .ref (gz_ad G 2000)), (1, .int x1), (2, .int y5)]) [1, 2, 0] rfl ?_
      obtain rfl := Option.some.inj h
      exact hk
noncomputable def ml_X6_goesOn_4 (x1 : Int32) (x2 : Int32) (m : MM) : Option (Int32 × MM) := gz_loop (fun q : (Int32 × Int32 × MM) => mb_X6_goesOn_4 q.1 q.2.1 q.2.2) (x1, x2, m)
theorem wl_X6_goesOn_4 {X : gz_X} {G : gz_G} (hX : gz_C mS X G cX6_goesOn 7 RX6 0 0) {x1 : Int32} {x2 : Int32}  {m : MM} {z : (Int32 × MM)} (h : ml_X6_goesOn_4 x1 x2 m = some z) (hk : (fun z : (Int32 × MM) => gz_kZ mS X G 7 (0, 0) cX6_goesOn (mF z.2) z.1) z) : gz_V mS X G 7 (0, 0) (mF m) 4 [(0, .ref (gz_ad G 2000)), (1, .int x1), (2, .int x2)] [] := by
  have hp : mP_X6_goesOn_4 X G (x1, x2, m) := gz_loop_ind (fun q z hz hkz => wb_X6_goesOn_4 hX  hz hkz) h hk
  exact hp
noncomputable def mf_goesOn (x1 : Int32) (m : MM) : Option (Int32 × MM) :=
  gz_let ((x1 - (2 : Int32))) fun y1 => (ml_X6_goesOn_4 x1 y1 m)
theorem wm_goesOn {X : gz_X} {G : gz_G} (hX : gz_C mS X G cX6_goesOn 7 RX6 0 0) {x1 : Int32}  {m : MM} {z : (Int32 × MM)} (h : mf_goesOn x1 m = some z) (hk : (fun z : (Int32 × MM) => gz_kZ mS X G 7 (0, 0) cX6_goesOn (mF z.2) z.1) z) : gz_V mS X G 7 (0, 0) (mF m) 0 [(0, .ref (gz_ad G 2000)), (1, .int x1)] [] := by
  unfold mf_goesOn at h
  refine gz_iload_n (pc := 0) hX dX6_goesOn_0 rfl 1 rfl ?_
  refine gz_iconst (pc := 1) (v := (2 : Int32)) hX dX6_goesOn_1 (by decide) ?_
  refine gz_isub (pc := 2) hX dX6_goesOn_2 ?_
  obtain ⟨y1, ey1, h⟩ := gz_lt h
  refine gz_topi ey1 ?_
  refine gz_istore_n (pc := 3) (lw := [(2, .int y1), (0, .ref (gz_ad G 2000)), (1, .int x1)]) hX dX6_goesOn_3 rfl (by decide) rfl ?_
  refine gz_sub (lw := [(0, .ref (gz_ad G 2000)), (1, .int x1), (2, .int y1)]) [1, 2, 0] rfl ?_
  exact wl_X6_goesOn_4 hX h hk
theorem mt_goesOn {G : gz_G} {l : Launch} {x1 : Int32}  {m m9 : MM} {r : Int32} (h : mf_goesOn x1 m = some (r, m9)) : gz_Met mS G l yX6_goesOn cX6_goesOn 7 (some .boolean) (mRm 0 0) [.ref (gz_ad G 2000), .int x1] (mF m) (mF m9) (some (.int r)) :=
  gz_ofZ (plainFor_of_name mz_plain) (Nat.le_of_ble_eq_true rfl) fun X _ hX hk => wm_goesOn hX h hk
theorem mc_goesOn {X : gz_X} {G : gz_G} {cc : ByteArray} {nL fr lo pc : Nat} {lv : List (Nat × Value)} {rest st0 : List Value} (hX : gz_C mS X G cc nL RX6 fr lo) {x1 : Int32}  {m m9 : MM} {r : Int32} (h : mf_goesOn x1 m = some (r, m9)) (hroom : 0 + 1 ≤ fr ∧ 8 + (7 + 11) + 0 ≤ lo) (hst : st0 = [.int x1, .ref (gz_ad G 2000)] ++ rest) (hW : (rest.map fun v => v.category).sum ≤ 8) (hd : decode cc pc = .ok (.invokevirtual 536, 3)) (kk : gz_V mS X G nL (0, 0) (mF m9) (pc + 3) lv (.int r :: rest)) : gz_V mS X G nL (0, 0) (mF m) pc lv st0 :=
  gz_callV hX mz_E (As := [.int x1]) (rest := rest) (q := (RX6, TX6, 104)) (ci := 0) (c := 2000) (mt_goesOn (l := X.2.1) h) (lw_V q2484 q2486 qs146 q182 q2487) (n := 1) (by decide +kernel) hroom rfl rfl (by decide) rfl hst hW hd (rem := (0, 0)) kk
/-! laysRound(I)I -/
def mP_X6_laysRound_7 (X : gz_X) (G : gz_G) (q : (Int32 × Int32 × Int32 × Int32 × MM)) : Prop := gz_V mS X G 7 (0, 0) (mF q.2.2.2.2) 7 [(0, .ref (gz_ad G 2000)), (1, .int q.1), (2, .int q.2.1), (3, .int q.2.2.1), (4, .int q.2.2.2.1)] []
def mP_X6_laysRound_46 (X : gz_X) (G : gz_G) (q : (Int32 × Int32 × Int32 × MM)) : Prop := gz_V mS X G 7 (0, 0) (mF q.2.2.2) 46 [(0, .ref (gz_ad G 2000)), (2, .int q.1), (3, .int q.2.1), (4, .int q.2.2.1)] []
noncomputable def mj_X6_laysRound_107 (x2 : Int32) (x3 : Int32) (m : MM) : Option ((Int32 × Int32 × Int32 × MM) ⊕ (Int32 × MM)) :=
  ((mf_goesOn x2 m).bind fun (r1, m2) => some (Sum.inl (x2, x3, r1, m2)))
theorem wb_X6_laysRound_107 {X : gz_X} {G : gz_G} (hX : gz_C mS X G cX6_laysRound 7 RX6 9 200) {x2 : Int32} {x3 : Int32}  {m : MM} {z : ((Int32 × Int32 × Int32 × MM) ⊕ (Int32 × MM))} (h : mj_X6_laysRound_107 x2 x3 m = some z) (hk : (Sum.elim (mP_X6_laysRound_46 X G) (fun z : (Int32 × MM) => gz_kI mS X G 7 (0, 0) cX6_laysRound (mF z.2) z.1)) z) : gz_V mS X G 7 (0, 0) (mF m) 107 [(0, .ref (gz_ad G 2000)), (2, .int x2), (3, .int x3)] [] := by
  unfold mj_X6_laysRound_107 at h
  refine gz_aload_n (pc := 107) hX dX6_laysRound_107 rfl 0 rfl ?_
  refine gz_iload_n (pc := 108) hX dX6_laysRound_108 rfl 1 rfl ?_
  obtain ⟨⟨r1, m2⟩, c3, h⟩ := gz_bd h
  refine mc_goesOn (pc := 109) hX c3 ⟨Nat.le_of_ble_eq_true rfl, Nat.le_of_ble_eq_true rfl⟩ (rest := []) rfl (Nat.le_of_ble_eq_true rfl) dX6_laysRound_109 ?_
  refine gz_istore (pc := 112) (lw := [(4, .int r1), (0, .ref (gz_ad G 2000)), (2, .int x2), (3, .int x3)]) hX dX6_laysRound_112 (by decide) rfl ?_
  refine gz_goto (pc := 114) (tgt := 46) hX dX6_laysRound_114 (by decide) ?_
  refine gz_sub (lw := [(0, .ref (gz_ad G 2000)), (2, .int x2), (3, .int x3), (4, .int r1)]) [1, 2, 3, 0] rfl ?_
  obtain rfl := Option.some.inj h
  exact hk
def mP_X6_laysRound_81 (X : gz_X) (G : gz_G) (q : (Int32 × Int32 × Int32 × MM)) : Prop := gz_V mS X G 7 (0, 0) (mF q.2.2.2) 81 [(0, .ref (gz_ad G 2000)), (2, .int q.1), (3, .int q.2.1), (6, .int q.2.2.1)] []
noncomputable def mb_X6_laysRound_81 (x2 : Int32) (x3 : Int32) (x6 : Int32) (m : MM) : Option ((Int32 × Int32 × Int32 × MM) ⊕ ((Int32 × Int32 × Int32 × MM) ⊕ (Int32 × MM))) :=
  (if x2 ≤ x6 then (Option.map Sum.inr (mj_X6_laysRound_107 x2 x3 m)) else (if gz_in x6 (4) then (if gz_in x6 (4) then gz_let (msI m 1061 (gz_ix x6) (m.1 1060 (gz_ix x6))) fun m4 => gz_let (x6 + (1 : Int32)) fun y5 => some (Sum.inl (x2, x3, y5, m4)) else none) else none))
theorem wb_X6_laysRound_81 {X : gz_X} {G : gz_G} (hX : gz_C mS X G cX6_laysRound 7 RX6 9 200) {x2 : Int32} {x3 : Int32} {x6 : Int32}  {m : MM} {z : ((Int32 × Int32 × Int32 × MM) ⊕ ((Int32 × Int32 × Int32 × MM) ⊕ (Int32 × MM)))} (h : mb_X6_laysRound_81 x2 x3 x6 m = some z) (hk : (Sum.elim (mP_X6_laysRound_81 X G) (Sum.elim (mP_X6_laysRound_46 X G) (fun z : (Int32 × MM) => gz_kI mS X G 7 (0, 0) cX6_laysRound (mF z.2) z.1))) z) : gz_V mS X G 7 (0, 0) (mF m) 81 [(0, .ref (gz_ad G 2000)), (2, .int x2), (3, .int x3), (6, .int x6)] [] := by
  unfold mb_X6_laysRound_81 at h
  refine gz_iload (pc := 81) hX dX6_laysRound_81 3 rfl ?_
  refine gz_iload_n (pc := 83) hX dX6_laysRound_83 rfl 1 rfl ?_
  refine gz_icmp_ge (pc := 84) (tgt := 107) hX dX6_laysRound_84 (by decide) (fun g1 => ?_) (fun g1 => ?_)
  · replace h := gz_it' g1 h
    refine gz_sub (lw := [(0, .ref (gz_ad G 2000)), (2, .int x2), (3, .int x3)]) [0, 1, 2] rfl ?_
    obtain ⟨z0, hm0, rfl⟩ := gz_mp h
    exact wb_X6_laysRound_107 hX hm0 hk
  · replace h := gz_if' g1 h
    refine gz_aload_n (pc := 87) hX dX6_laysRound_87 rfl 0 rfl ?_
    refine mg_60 (pc := 88) hX dX6_laysRound_88 ?_
    refine gz_iload (pc := 91) hX dX6_laysRound_91 3 rfl ?_
    refine gz_aload_n (pc := 93) hX dX6_laysRound_93 rfl 0 rfl ?_
    refine mg_59 (pc := 94) hX dX6_laysRound_94 ?_
    refine gz_iload (pc := 97) hX dX6_laysRound_97 3 rfl ?_
    obtain ⟨g2, h⟩ := gz_gu h
    refine mz_iald (pc := 99) (c := 1060) (n := 4) hX rfl rfl g2 dX6_laysRound_99 ?_
    obtain ⟨g3, h⟩ := gz_gu h
    obtain ⟨m4, em4, h⟩ := gz_lt h
    refine mz_iast (pc := 100) (c := 1061) (n := 4) hX rfl rfl g3 (Nat.le_of_ble_eq_true rfl) dX6_laysRound_100 em4 ?_
    obtain ⟨y5, ey5, h⟩ := gz_lt h
    refine gz_iinc (pc := 101) (v := y5) (lw := [(6, .int y5), (0, .ref (gz_ad G 2000)), (2, .int x2), (3, .int x3)]) hX dX6_laysRound_101 (k := 3) rfl (by rw [ey5]; rfl) (by decide) rfl ?_
    refine gz_goto (pc := 104) (tgt := 81) hX dX6_laysRound_104 (by decide) ?_
    refine gz_sub (lw := [(0, .ref (gz_ad G 2000)), (2, .int x2), (3, .int x3), (6, .int y5)]) [1, 2, 3, 0] rfl ?_
    obtain rfl := Option.some.inj h
    exact hk
noncomputable def ml_X6_laysRound_81 (x2 : Int32) (x3 : Int32) (x6 : Int32) (m : MM) : Option ((Int32 × Int32 × Int32 × MM) ⊕ (Int32 × MM)) := gz_loop (fun q : (Int32 × Int32 × Int32 × MM) => mb_X6_laysRound_81 q.1 q.2.1 q.2.2.1 q.2.2.2) (x2, x3, x6, m)
theorem wl_X6_laysRound_81 {X : gz_X} {G : gz_G} (hX : gz_C mS X G cX6_laysRound 7 RX6 9 200) {x2 : Int32} {x3 : Int32} {x6 : Int32}  {m : MM} {z : ((Int32 × Int32 × Int32 × MM) ⊕ (Int32 × MM))} (h : ml_X6_laysRound_81 x2 x3 x6 m = some z) (hk : (Sum.elim (mP_X6_laysRound_46 X G) (fun z : (Int32 × MM) => gz_kI mS X G 7 (0, 0) cX6_laysRound (mF z.2) z.1)) z) : gz_V mS X G 7 (0, 0) (mF m) 81 [(0, .ref (gz_ad G 2000)), (2, .int x2), (3, .int x3), (6, .int x6)] [] := by
  have hp : mP_X6_laysRound_81 X G (x2, x3, x6, m) := gz_loop_ind (fun q z hz hkz => wb_X6_laysRound_81 hX  hz hkz) h hk
  exact hp
noncomputable def mj_X6_laysRound_75 (x2 : Int32) (x5 : Int32) (m : MM) : Option ((Int32 × Int32 × Int32 × MM) ⊕ (Int32 × MM)) :=
  (ml_X6_laysRound_81 x2 x5 (0 : Int32) m)
theorem wb_X6_laysRound_75 {X : gz_X} {G : gz_G} (hX : gz_C mS X G cX6_laysRound 7 RX6 9 200) {x2 : Int32} {x5 : Int32}  {m : MM} {z : ((Int32 × Int32 × Int32 × MM) ⊕ (Int32 × MM))} (h : mj_X6_laysRound_75 x2 x5 m = some z) (hk : (Sum.elim (mP_X6_laysRound_46 X G) (fun z : (Int32 × MM) => gz_kI mS X G 7 (0, 0) cX6_laysRound (mF z.2) z.1)) z) : gz_V mS X G 7 (0, 0) (mF m) 75 [(0, .ref (gz_ad G 2000)), (2, .int x2), (5, .int x5)] [] := by
  unfold mj_X6_laysRound_75 at h
  refine gz_iload (pc := 75) hX dX6_laysRound_75 2 rfl ?_
  refine gz_istore_n (pc := 77) (lw := [(3, .int x5), (0, .ref (gz_ad G 2000)), (2, .int x2), (5, .int x5)]) hX dX6_laysRound_77 rfl (by decide) rfl ?_
  refine gz_iconst (pc := 78) (v := (0 : Int32)) hX dX6_laysRound_78 (by decide) ?_
  refine gz_istore (pc := 79) (lw := [(6, .int (0 : Int32)), (3, .int x5), (0, .ref (gz_ad G 2000)), (2, .int x2), (5, .int x5)]) hX dX6_laysRound_79 (by decide) rfl ?_
  refine gz_sub (lw := [(0, .ref (gz_ad G 2000)), (2, .int x2), (3, .int x5), (6, .int (0 : Int32))]) [2, 3, 1, 0] rfl ?_
  exact wl_X6_laysRound_81 hX h hk
noncomputable def mb_X6_laysRound_46 (x2 : Int32) (x3 : Int32) (x4 : Int32) (m : MM) : Option ((Int32 × Int32 × Int32 × MM) ⊕ (Int32 × MM)) :=
  (if x4 = (0 : Int32) then some (Sum.inr (x3, m)) else ((mf_hoursBy x2 m).bind fun (r2, m3) => (if r2 = (-1 : Int32) then (mj_X6_laysRound_107 x2 x3 m3) else (if x3 = (-1 : Int32) then (mj_X6_laysRound_75 x2 r2 m3) else (if x3 ≤ r2 then (mj_X6_laysRound_107 x2 x3 m3) else (mj_X6_laysRound_75 x2 r2 m3))))))
theorem wb_X6_laysRound_46 {X : gz_X} {G : gz_G} (hX : gz_C mS X G cX6_laysRound 7 RX6 9 200) {x2 : Int32} {x3 : Int32} {x4 : Int32}  {m : MM} {z : ((Int32 × Int32 × Int32 × MM) ⊕ (Int32 × MM))} (h : mb_X6_laysRound_46 x2 x3 x4 m = some z) (hk : (Sum.elim (mP_X6_laysRound_46 X G) (fun z : (Int32 × MM) => gz_kI mS X G 7 (0, 0) cX6_laysRound (mF z.2) z.1)) z) : gz_V mS X G 7 (0, 0) (mF m) 46 [(0, .ref (gz_ad G 2000)), (2, .int x2), (3, .int x3), (4, .int x4)] [] := by
  unfold mb_X6_laysRound_46 at h
  refine gz_iload (pc := 46) hX dX6_laysRound_46 3 rfl ?_
  refine gz_if_eq (pc := 48) (tgt := 117) hX dX6_laysRound_48 (by decide) (fun g1 => ?_) (fun g1 => ?_)
  · replace h := gz_it' g1 h
    refine gz_iload_n (pc := 117) hX dX6_laysRound_117 rfl 2 rfl ?_
    obtain rfl := Option.some.inj h
    exact hk _ _ dX6_laysRound_118
  · replace h := gz_if' g1 h
    refine gz_aload_n (pc := 51) hX dX6_laysRound_51 rfl 0 rfl ?_
    refine gz_iload_n (pc := 52) hX dX6_laysRound_52 rfl 1 rfl ?_
    obtain ⟨⟨r2, m3⟩, c4, h⟩ := gz_bd h
    refine mc_hoursBy (pc := 53) hX c4 ⟨Nat.le_of_ble_eq_true rfl, Nat.le_of_ble_eq_true rfl⟩ (rest := []) rfl (Nat.le_of_ble_eq_true rfl) dX6_laysRound_53 ?_
    refine gz_istore (pc := 56) (lw := [(5, .int r2), (0, .ref (gz_ad G 2000)), (2, .int x2), (3, .int x3), (4, .int x4)]) hX dX6_laysRound_56 (by decide) rfl ?_
    refine gz_iload (pc := 58) hX dX6_laysRound_58 0 rfl ?_
    refine gz_iconst (pc := 60) (v := (-1 : Int32)) hX dX6_laysRound_60 (by decide) ?_
    refine gz_icmp_eq (pc := 61) (tgt := 107) hX dX6_laysRound_61 (by decide) (fun g5 => ?_) (fun g5 => ?_)
    · replace h := gz_it' g5 h
      refine gz_sub (lw := [(0, .ref (gz_ad G 2000)), (2, .int x2), (3, .int x3)]) [1, 2, 3] rfl ?_
      exact wb_X6_laysRound_107 hX h hk
    · replace h := gz_if' g5 h
      refine gz_iload_n (pc := 64) hX dX6_laysRound_64 rfl 3 rfl ?_
      refine gz_iconst (pc := 65) (v := (-1 : Int32)) hX dX6_laysRound_65 (by decide) ?_
      refine gz_icmp_eq (pc := 66) (tgt := 75) hX dX6_laysRound_66 (by decide) (fun g6 => ?_) (fun g6 => ?_)
      · replace h := gz_it' g6 h
        refine gz_sub (lw := [(0, .ref (gz_ad G 2000)), (2, .int x2), (5, .int r2)]) [1, 2, 0] rfl ?_
        exact wb_X6_laysRound_75 hX h hk
      · replace h := gz_if' g6 h
        refine gz_iload (pc := 69) hX dX6_laysRound_69 0 rfl ?_
        refine gz_iload_n (pc := 71) hX dX6_laysRound_71 rfl 3 rfl ?_
        refine gz_icmp_ge (pc := 72) (tgt := 107) hX dX6_laysRound_72 (by decide) (fun g7 => ?_) (fun g7 => ?_)
        · replace h := gz_it' g7 h
          refine gz_sub (lw := [(0, .ref (gz_ad G 2000)), (2, .int x2), (3, .int x3)]) [1, 2, 3] rfl ?_
          exact wb_X6_laysRound_107 hX h hk
        · replace h := gz_if' g7 h
          refine gz_sub (lw := [(0, .ref (gz_ad G 2000)), (2, .int x2), (5, .int r2)]) [1, 2, 0] rfl ?_
          exact wb_X6_laysRound_75 hX h hk
noncomputable def ml_X6_laysRound_46 (x2 : Int32) (x3 : Int32) (x4 : Int32) (m : MM) : Option (Int32 × MM) := gz_loop (fun q : (Int32 × Int32 × Int32 × MM) => mb_X6_laysRound_46 q.1 q.2.1 q.2.2.1 q.2.2.2) (x2, x3, x4, m)
theorem wl_X6_laysRound_46 {X : gz_X} {G : gz_G} (hX : gz_C mS X G cX6_laysRound 7 RX6 9 200) {x2 : Int32} {x3 : Int32} {x4 : Int32}  {m : MM} {z : (Int32 × MM)} (h : ml_X6_laysRound_46 x2 x3 x4 m = some z) (hk : (fun z : (Int32 × MM) => gz_kI mS X G 7 (0, 0) cX6_laysRound (mF z.2) z.1) z) : gz_V mS X G 7 (0, 0) (mF m) 46 [(0, .ref (gz_ad G 2000)), (2, .int x2), (3, .int x3), (4, .int x4)] [] := by
  have hp : mP_X6_laysRound_46 X G (x2, x3, x4, m) := gz_loop_ind (fun q z hz hkz => wb_X6_laysRound_46 hX  hz hkz) h hk
  exact hp
noncomputable def mj_X6_laysRound_37 (x1 : Int32) (x2 : Int32) (x3 : Int32) (x4 : Int32) (m : MM) : Option ((Int32 × Int32 × Int32 × Int32 × MM) ⊕ (Int32 × MM)) :=
  gz_let (x4 + (1 : Int32)) fun y1 => some (Sum.inl (x1, x2, x3, y1, m))
theorem wb_X6_laysRound_37 {X : gz_X} {G : gz_G} (hX : gz_C mS X G cX6_laysRound 7 RX6 9 200) {x1 : Int32} {x2 : Int32} {x3 : Int32} {x4 : Int32}  {m : MM} {z : ((Int32 × Int32 × Int32 × Int32 × MM) ⊕ (Int32 × MM))} (h : mj_X6_laysRound_37 x1 x2 x3 x4 m = some z) (hk : (Sum.elim (mP_X6_laysRound_7 X G) (fun z : (Int32 × MM) => gz_kI mS X G 7 (0, 0) cX6_laysRound (mF z.2) z.1)) z) : gz_V mS X G 7 (0, 0) (mF m) 37 [(0, .ref (gz_ad G 2000)), (1, .int x1), (2, .int x2), (3, .int x3), (4, .int x4)] [] := by
  unfold mj_X6_laysRound_37 at h
  obtain ⟨y1, ey1, h⟩ := gz_lt h
  refine gz_iinc (pc := 37) (v := y1) (lw := [(4, .int y1), (0, .ref (gz_ad G 2000)), (1, .int x1), (2, .int x2), (3, .int x3)]) hX dX6_laysRound_37 (k := 4) rfl (by rw [ey1]; rfl) (by decide) rfl ?_
  refine gz_goto (pc := 40) (tgt := 7) hX dX6_laysRound_40 (by decide) ?_
  refine gz_sub (lw := [(0, .ref (gz_ad G 2000)), (1, .int x1), (2, .int x2), (3, .int x3), (4, .int y1)]) [1, 2, 3, 4, 0] rfl ?_
  obtain rfl := Option.some.inj h
  exact hk
noncomputable def mb_X6_laysRound_7 (x1 : Int32) (x2 : Int32) (x3 : Int32) (x4 : Int32) (m : MM) : Option ((Int32 × Int32 × Int32 × Int32 × MM) ⊕ (Int32 × MM)) :=
  ((mf_thingMany m).bind fun (r1, m2) => (if r1 ≤ x4 then (Option.map Sum.inr (ml_X6_laysRound_46 x2 x3 (1 : Int32) m2)) else (if ((x1 >>> (x4 &&& 31)) &&& (1 : Int32)) = (1 : Int32) then (if gz_in x2 (4) then gz_let (msI m2 1060 (gz_ix x2) x4) fun m7 => gz_let (x2 + (1 : Int32)) fun y8 => (mj_X6_laysRound_37 x1 y8 x3 x4 m7) else none) else (mj_X6_laysRound_37 x1 x2 x3 x4 m2))))
theorem wb_X6_laysRound_7 {X : gz_X} {G : gz_G} (hX : gz_C mS X G cX6_laysRound 7 RX6 9 200) {x1 : Int32} {x2 : Int32} {x3 : Int32} {x4 : Int32}  {m : MM} {z : ((Int32 × Int32 × Int32 × Int32 × MM) ⊕ (Int32 × MM))} (h : mb_X6_laysRound_7 x1 x2 x3 x4 m = some z) (hk : (Sum.elim (mP_X6_laysRound_7 X G) (fun z : (Int32 × MM) => gz_kI mS X G 7 (0, 0) cX6_laysRound (mF z.2) z.1)) z) : gz_V mS X G 7 (0, 0) (mF m) 7 [(0, .ref (gz_ad G 2000)), (1, .int x1), (2, .int x2), (3, .int x3), (4, .int x4)] [] := by
  unfold mb_X6_laysRound_7 at h
  refine gz_iload (pc := 7) hX dX6_laysRound_7 4 rfl ?_
  refine gz_aload_n (pc := 9) hX dX6_laysRound_9 rfl 0 rfl ?_
  obtain ⟨⟨r1, m2⟩, c3, h⟩ := gz_bd h
  refine mc_thingMany (pc := 10) hX c3 ⟨Nat.le_of_ble_eq_true rfl, Nat.le_of_ble_eq_true rfl⟩ (rest := [.int x4]) rfl (Nat.le_of_ble_eq_true rfl) dX6_laysRound_10 ?_
  refine gz_icmp_ge (pc := 13) (tgt := 43) hX dX6_laysRound_13 (by decide) (fun g4 => ?_) (fun g4 => ?_)
  · replace h := gz_it' g4 h
    refine gz_iconst (pc := 43) (v := (1 : Int32)) hX dX6_laysRound_43 (by decide) ?_
    refine gz_istore (pc := 44) (lw := [(4, .int (1 : Int32)), (0, .ref (gz_ad G 2000)), (1, .int x1), (2, .int x2), (3, .int x3)]) hX dX6_laysRound_44 (by decide) rfl ?_
    refine gz_sub (lw := [(0, .ref (gz_ad G 2000)), (2, .int x2), (3, .int x3), (4, .int (1 : Int32))]) [1, 3, 4, 0] rfl ?_
    obtain ⟨z0, hm0, rfl⟩ := gz_mp h
    exact wl_X6_laysRound_46 hX hm0 hk
  · replace h := gz_if' g4 h
    refine gz_iload_n (pc := 16) hX dX6_laysRound_16 rfl 1 rfl ?_
    refine gz_iload (pc := 17) hX dX6_laysRound_17 4 rfl ?_
    refine gz_ishr (pc := 19) hX dX6_laysRound_19 ?_
    refine gz_iconst (pc := 20) (v := (1 : Int32)) hX dX6_laysRound_20 (by decide) ?_
    refine gz_iand (pc := 21) hX dX6_laysRound_21 ?_
    refine gz_iconst (pc := 22) (v := (1 : Int32)) hX dX6_laysRound_22 (by decide) ?_
    refine gz_icmp_ne (pc := 23) (tgt := 37) hX dX6_laysRound_23 (by decide) (fun g5 => ?_) (fun g5 => ?_)
    · replace h := gz_if' g5 h
      exact wb_X6_laysRound_37 hX h hk
    · replace h := gz_it' g5 h
      refine gz_aload_n (pc := 26) hX dX6_laysRound_26 rfl 0 rfl ?_
      refine mg_59 (pc := 27) hX dX6_laysRound_27 ?_
      refine gz_iload_n (pc := 30) hX dX6_laysRound_30 rfl 2 rfl ?_
      refine gz_iload (pc := 31) hX dX6_laysRound_31 4 rfl ?_
      obtain ⟨g6, h⟩ := gz_gu h
      obtain ⟨m7, em7, h⟩ := gz_lt h
      refine mz_iast (pc := 33) (c := 1060) (n := 4) hX rfl rfl g6 (Nat.le_of_ble_eq_true rfl) dX6_laysRound_33 em7 ?_
      obtain ⟨y8, ey8, h⟩ := gz_lt h
      refine gz_iinc (pc := 34) (v := y8) (lw := [(2, .int y8), (0, .ref (gz_ad G 2000)), (1, .int x1), (3, .int x3), (4, .int x4)]) hX dX6_laysRound_34 (k := 2) rfl (by rw [ey8]; rfl) (by decide) rfl ?_
      refine gz_sub (lw := [(0, .ref (gz_ad G 2000)), (1, .int x1), (2, .int y8), (3, .int x3), (4, .int x4)]) [1, 2, 0, 3, 4] rfl ?_
      exact wb_X6_laysRound_37 hX h hk
noncomputable def ml_X6_laysRound_7 (x1 : Int32) (x2 : Int32) (x3 : Int32) (x4 : Int32) (m : MM) : Option (Int32 × MM) := gz_loop (fun q : (Int32 × Int32 × Int32 × Int32 × MM) => mb_X6_laysRound_7 q.1 q.2.1 q.2.2.1 q.2.2.2.1 q.2.2.2.2) (x1, x2, x3, x4, m)
theorem wl_X6_laysRound_7 {X : gz_X} {G : gz_G} (hX : gz_C mS X G cX6_laysRound 7 RX6 9 200) {x1 : Int32} {x2 : Int32} {x3 : Int32} {x4 : Int32}  {m : MM} {z : (Int32 × MM)} (h : ml_X6_laysRound_7 x1 x2 x3 x4 m = some z) (hk : (fun z : (Int32 × MM) => gz_kI mS X G 7 (0, 0) cX6_laysRound (mF z.2) z.1) z) : gz_V mS X G 7 (0, 0) (mF m) 7 [(0, .ref (gz_ad G 2000)), (1, .int x1), (2, .int x2), (3, .int x3), (4, .int x4)] [] := by
  have hp : mP_X6_laysRound_7 X G (x1, x2, x3, x4, m) := gz_loop_ind (fun q z hz hkz => wb_X6_laysRound_7 hX  hz hkz) h hk
  exact hp
noncomputable def mf_laysRound (x1 : Int32) (m : MM) : Option (Int32 × MM) :=
  (ml_X6_laysRound_7 x1 (0 : Int32) (-1 : Int32) (0 : Int32) m)
theorem wm_laysRound {X : gz_X} {G : gz_G} (hX : gz_C mS X G cX6_laysRound 7 RX6 9 200) {x1 : Int32}  {m : MM} {z : (Int32 × MM)} (h : mf_laysRound x1 m = some z) (hk : (fun z : (Int32 × MM) => gz_kI mS X G 7 (0, 0) cX6_laysRound (mF z.2) z.1) z) : gz_V mS X G 7 (0, 0) (mF m) 0 [(0, .ref (gz_ad G 2000)), (1, .int x1)] [] := by
  unfold mf_laysRound at h
  refine gz_iconst (pc := 0) (v := (0 : Int32)) hX dX6_laysRound_0 (by decide) ?_
  refine gz_istore_n (pc := 1) (lw := [(2, .int (0 : Int32)), (0, .ref (gz_ad G 2000)), (1, .int x1)]) hX dX6_laysRound_1 rfl (by decide) rfl ?_
  refine gz_iconst (pc := 2) (v := (-1 : Int32)) hX dX6_laysRound_2 (by decide) ?_
  refine gz_istore_n (pc := 3) (lw := [(3, .int (-1 : Int32)), (2, .int (0 : Int32)), (0, .ref (gz_ad G 2000)), (1, .int x1)]) hX dX6_laysRound_3 rfl (by decide) rfl ?_
  refine gz_iconst (pc := 4) (v := (0 : Int32)) hX dX6_laysRound_4 (by decide) ?_
  refine gz_istore (pc := 5) (lw := [(4, .int (0 : Int32)), (3, .int (-1 : Int32)), (2, .int (0 : Int32)), (0, .ref (gz_ad G 2000)), (1, .int x1)]) hX dX6_laysRound_5 (by decide) rfl ?_
  refine gz_sub (lw := [(0, .ref (gz_ad G 2000)), (1, .int x1), (2, .int (0 : Int32)), (3, .int (-1 : Int32)), (4, .int (0 : Int32))]) [3, 4, 2, 1, 0] rfl ?_
  exact wl_X6_laysRound_7 hX h hk
theorem mt_laysRound {G : gz_G} {l : Launch} {x1 : Int32}  {m m9 : MM} {r : Int32} (h : mf_laysRound x1 m = some (r, m9)) : gz_Met mS G l yX6_laysRound cX6_laysRound 7 (some .int) (mRm 9 200) [.ref (gz_ad G 2000), .int x1] (mF m) (mF m9) (some (.int r)) :=
  gz_ofI (plainFor_of_name mz_plain) (Nat.le_of_ble_eq_true rfl) fun X _ hX hk => wm_laysRound hX h hk
theorem mc_laysRound {X : gz_X} {G : gz_G} {cc : ByteArray} {nL fr lo pc : Nat} {lv : List (Nat × Value)} {rest st0 : List Value} (hX : gz_C mS X G cc nL RX6 fr lo) {x1 : Int32}  {m m9 : MM} {r : Int32} (h : mf_laysRound x1 m = some (r, m9)) (hroom : 9 + 1 ≤ fr ∧ 8 + (7 + 11) + 200 ≤ lo) (hst : st0 = [.int x1, .ref (gz_ad G 2000)] ++ rest) (hW : (rest.map fun v => v.category).sum ≤ 8) (hd : decode cc pc = .ok (.invokevirtual 541, 3)) (kk : gz_V mS X G nL (0, 0) (mF m9) (pc + 3) lv (.int r :: rest)) : gz_V mS X G nL (0, 0) (mF m) pc lv st0 :=
  gz_callV hX mz_E (As := [.int x1]) (rest := rest) (q := (RX6, TX6, 104)) (ci := 0) (c := 2000) (mt_laysRound (l := X.2.1) h) (lw_V q2468 q2470 qs142 q182 q2471) (n := 1) (by decide +kernel) hroom rfl rfl (by decide) rfl hst hW hd (rem := (0, 0)) kk
/-! round(II)I -/
noncomputable def mj_X6_round_43  (m : MM) : Option (Int32 × MM) :=
  some ((-1 : Int32), m)
theorem wb_X6_round_43 {X : gz_X} {G : gz_G} (hX : gz_C mS X G cX6_round 5 RX6 10 226)   {m : MM} {z : (Int32 × MM)} (h : mj_X6_round_43  m = some z) (hk : (fun z : (Int32 × MM) => gz_kI mS X G 5 (0, 0) cX6_round (mF z.2) z.1) z) : gz_V mS X G 5 (0, 0) (mF m) 43 [(0, .ref (gz_ad G 2000))] [] := by
  unfold mj_X6_round_43 at h
  refine gz_iconst (pc := 43) (v := (-1 : Int32)) hX dX6_round_43 (by decide) ?_
  obtain rfl := Option.some.inj h
  exact hk _ _ dX6_round_44
noncomputable def mj_X6_round_71 (x4 : Int32) (m : MM) : Option (Int32 × MM) :=
  some (x4, m)
theorem wb_X6_round_71 {X : gz_X} {G : gz_G} (hX : gz_C mS X G cX6_round 5 RX6 10 226) {x4 : Int32}  {m : MM} {z : (Int32 × MM)} (h : mj_X6_round_71 x4 m = some z) (hk : (fun z : (Int32 × MM) => gz_kI mS X G 5 (0, 0) cX6_round (mF z.2) z.1) z) : gz_V mS X G 5 (0, 0) (mF m) 71 [(0, .ref (gz_ad G 2000)), (4, .int x4)] [] := by
  unfold mj_X6_round_71 at h
  refine gz_iload (pc := 71) hX dX6_round_71 1 rfl ?_
  refine gz_goto (pc := 73) (tgt := 82) hX dX6_round_73 (by decide) ?_
  obtain rfl := Option.some.inj h
  exact hk _ _ dX6_round_82
noncomputable def mf_round (x1 : Int32) (x2 : Int32) (m : MM) : Option (Int32 × MM) :=
  ((mf_burningSet m).bind fun (r1, m2) => (if x1 ≤ (0 : Int32) then (mj_X6_round_43  m2) else (if (x1 &&& (r1 ^^^ (-1 : Int32))) = (0 : Int32) then ((mf_bits x1 m2).bind fun (r6, m7) => (if (4 : Int32) < r6 then (mj_X6_round_43  m7) else ((mf_bits x1 m7).bind fun (r10, m11) => ((mf_isIn (x2.toInt64) (-1 : Int64) ((r10 - (1 : Int32)).toInt64) m11).bind fun (r13, m14) => (if r13 = (0 : Int32) then (mj_X6_round_43  m14) else ((mf_putsAside m14).bind fun (_, m18) => ((mf_laysRound x1 m18).bind fun (r20, m21) => ((mf_takesBack m21).bind fun (_, m24) => (if r20 = (-1 : Int32) then (mj_X6_round_71 r20 m24) else (if x2 = (-1 : Int32) then (mj_X6_round_71 r20 m24) else (if gz_in x2 (4) then some ((m24.1 1061 (gz_ix x2)), m24) else none))))))))))) else (mj_X6_round_43  m2))))
theorem wm_round {X : gz_X} {G : gz_G} (hX : gz_C mS X G cX6_round 5 RX6 10 226) {x1 : Int32} {x2 : Int32}  {m : MM} {z : (Int32 × MM)} (h : mf_round x1 x2 m = some z) (hk : (fun z : (Int32 × MM) => gz_kI mS X G 5 (0, 0) cX6_round (mF z.2) z.1) z) : gz_V mS X G 5 (0, 0) (mF m) 0 [(0, .ref (gz_ad G 2000)), (1, .int x1), (2, .int x2)] [] := by
  unfold mf_round at h
  refine gz_aload_n (pc := 0) hX dX6_round_0 rfl 0 rfl ?_
  obtain ⟨⟨r1, m2⟩, c3, h⟩ := gz_bd h
  refine mc_burningSet (pc := 1) hX c3 ⟨Nat.le_of_ble_eq_true rfl, Nat.le_of_ble_eq_true rfl⟩ (rest := []) rfl (Nat.le_of_ble_eq_true rfl) dX6_round_1 ?_
  refine gz_istore_n (pc := 4) (lw := [(3, .int r1), (0, .ref (gz_ad G 2000)), (1, .int x1), (2, .int x2)]) hX dX6_round_4 rfl (by decide) rfl ?_
  refine gz_iload_n (pc := 5) hX dX6_round_5 rfl 2 rfl ?_
  refine gz_if_le (pc := 6) (tgt := 43) hX dX6_round_6 (by decide) (fun g4 => ?_) (fun g4 => ?_)
  · replace h := gz_it' g4 h
    refine gz_sub (lw := [(0, .ref (gz_ad G 2000))]) [1] rfl ?_
    exact wb_X6_round_43 hX h hk
  · replace h := gz_if' g4 h
    refine gz_iload_n (pc := 9) hX dX6_round_9 rfl 2 rfl ?_
    refine gz_iload_n (pc := 10) hX dX6_round_10 rfl 0 rfl ?_
    refine gz_iconst (pc := 11) (v := (-1 : Int32)) hX dX6_round_11 (by decide) ?_
    refine gz_ixor (pc := 12) hX dX6_round_12 ?_
    refine gz_iand (pc := 13) hX dX6_round_13 ?_
    refine gz_if_ne (pc := 14) (tgt := 43) hX dX6_round_14 (by decide) (fun g5 => ?_) (fun g5 => ?_)
    · replace h := gz_if' g5 h
      refine gz_sub (lw := [(0, .ref (gz_ad G 2000))]) [1] rfl ?_
      exact wb_X6_round_43 hX h hk
    · replace h := gz_it' g5 h
      refine gz_iload_n (pc := 17) hX dX6_round_17 rfl 2 rfl ?_
      obtain ⟨⟨r6, m7⟩, c8, h⟩ := gz_bd h
      refine mc_bits (pc := 18) hX c8 ⟨Nat.le_of_ble_eq_true rfl, Nat.le_of_ble_eq_true rfl⟩ (rest := []) rfl (Nat.le_of_ble_eq_true rfl) dX6_round_18 ?_
      refine gz_iconst (pc := 21) (v := (4 : Int32)) hX dX6_round_21 (by decide) ?_
      refine gz_icmp_gt (pc := 22) (tgt := 43) hX dX6_round_22 (by decide) (fun g9 => ?_) (fun g9 => ?_)
      · replace h := gz_it' g9 h
        refine gz_sub (lw := [(0, .ref (gz_ad G 2000))]) [1] rfl ?_
        exact wb_X6_round_43 hX h hk
      · replace h := gz_if' g9 h
        refine gz_iload_n (pc := 25) hX dX6_round_25 rfl 3 rfl ?_
        refine gz_i2l (pc := 26) hX dX6_round_26 ?_
        refine gz_ldc2 (pc := 27) (v := (-1 : Int64)) hX q2467 dX6_round_27 ?_
        refine gz_iload_n (pc := 30) hX dX6_round_30 rfl 2 rfl ?_
        obtain ⟨⟨r10, m11⟩, c12, h⟩ := gz_bd h
        refine mc_bits (pc := 31) hX c12 ⟨Nat.le_of_ble_eq_true rfl, Nat.le_of_ble_eq_true rfl⟩ (rest := [.long (-1 : Int64), .long (x2.toInt64)]) rfl (Nat.le_of_ble_eq_true rfl) dX6_round_31 ?_
        refine gz_iconst (pc := 34) (v := (1 : Int32)) hX dX6_round_34 (by decide) ?_
        refine gz_isub (pc := 35) hX dX6_round_35 ?_
        refine gz_i2l (pc := 36) hX dX6_round_36 ?_
        obtain ⟨⟨r13, m14⟩, c15, h⟩ := gz_bd h
        refine mc_isIn (pc := 37) hX c15 ⟨Nat.le_of_ble_eq_true rfl, Nat.le_of_ble_eq_true rfl⟩ (rest := []) rfl (Nat.le_of_ble_eq_true rfl) dX6_round_37 ?_
        refine gz_if_ne (pc := 40) (tgt := 45) hX dX6_round_40 (by decide) (fun g16 => ?_) (fun g16 => ?_)
        · replace h := gz_if' g16 h
          refine gz_aload_n (pc := 45) hX dX6_round_45 rfl 1 rfl ?_
          obtain ⟨⟨⟨⟩, m18⟩, c19, h⟩ := gz_bd h
          refine mc_putsAside (pc := 46) hX c19 ⟨Nat.le_of_ble_eq_true rfl, Nat.le_of_ble_eq_true rfl⟩ (rest := []) rfl (Nat.le_of_ble_eq_true rfl) dX6_round_46 ?_
          refine gz_aload_n (pc := 49) hX dX6_round_49 rfl 1 rfl ?_
          refine gz_iload_n (pc := 50) hX dX6_round_50 rfl 2 rfl ?_
          obtain ⟨⟨r20, m21⟩, c22, h⟩ := gz_bd h
          refine mc_laysRound (pc := 51) hX c22 ⟨Nat.le_of_ble_eq_true rfl, Nat.le_of_ble_eq_true rfl⟩ (rest := []) rfl (Nat.le_of_ble_eq_true rfl) dX6_round_51 ?_
          refine gz_istore (pc := 54) (lw := [(4, .int r20), (3, .int r1), (0, .ref (gz_ad G 2000)), (1, .int x1), (2, .int x2)]) hX dX6_round_54 (by decide) rfl ?_
          refine gz_aload_n (pc := 56) hX dX6_round_56 rfl 2 rfl ?_
          obtain ⟨⟨⟨⟩, m24⟩, c25, h⟩ := gz_bd h
          refine mc_takesBack (pc := 57) hX c25 ⟨Nat.le_of_ble_eq_true rfl, Nat.le_of_ble_eq_true rfl⟩ (rest := []) rfl (Nat.le_of_ble_eq_true rfl) dX6_round_57 ?_
          refine gz_iload (pc := 60) hX dX6_round_60 0 rfl ?_
          refine gz_iconst (pc := 62) (v := (-1 : Int32)) hX dX6_round_62 (by decide) ?_
          refine gz_icmp_eq (pc := 63) (tgt := 71) hX dX6_round_63 (by decide) (fun g26 => ?_) (fun g26 => ?_)
          · replace h := gz_it' g26 h
            refine gz_sub (lw := [(0, .ref (gz_ad G 2000)), (4, .int r20)]) [2, 0] rfl ?_
            exact wb_X6_round_71 hX h hk
          · replace h := gz_if' g26 h
            refine gz_iload_n (pc := 66) hX dX6_round_66 rfl 4 rfl ?_
            refine gz_iconst (pc := 67) (v := (-1 : Int32)) hX dX6_round_67 (by decide) ?_
            refine gz_icmp_ne (pc := 68) (tgt := 76) hX dX6_round_68 (by decide) (fun g27 => ?_) (fun g27 => ?_)
            · replace h := gz_if' g27 h
              refine gz_aload_n (pc := 76) hX dX6_round_76 rfl 2 rfl ?_
              refine mg_60 (pc := 77) hX dX6_round_77 ?_
              refine gz_iload_n (pc := 80) hX dX6_round_80 rfl 4 rfl ?_
              obtain ⟨g28, h⟩ := gz_gu h
              refine mz_iald (pc := 81) (c := 1061) (n := 4) hX rfl rfl g28 dX6_round_81 ?_
              obtain rfl := Option.some.inj h
              exact hk _ _ dX6_round_82
            · replace h := gz_it' g27 h
              refine gz_sub (lw := [(0, .ref (gz_ad G 2000)), (4, .int r20)]) [2, 0] rfl ?_
              exact wb_X6_round_71 hX h hk
        · replace h := gz_it' g16 h
          refine gz_sub (lw := [(0, .ref (gz_ad G 2000))]) [1] rfl ?_
          exact wb_X6_round_43 hX h hk
theorem mt_round {G : gz_G} {l : Launch} {x1 : Int32} {x2 : Int32}  {m m9 : MM} {r : Int32} (h : mf_round x1 x2 m = some (r, m9)) : gz_Met mS G l yX6_round cX6_round 5 (some .int) (mRm 10 226) [.ref (gz_ad G 2000), .int x1, .int x2] (mF m) (mF m9) (some (.int r)) :=
  gz_ofI (plainFor_of_name mz_plain) (Nat.le_of_ble_eq_true rfl) fun X _ hX hk => wm_round hX h hk
/-! least()I -/
def mP_X6_least_9 (X : gz_X) (G : gz_G) (q : (Int32 × Int32 × Int32 × MM)) : Prop := gz_V mS X G 6 (0, 0) (mF q.2.2.2) 9 [(0, .ref (gz_ad G 2000)), (1, .int q.1), (2, .int q.2.1), (3, .int q.2.2.1)] []
def mP_X6_least_40 (X : gz_X) (G : gz_G) (q : (Int32 × Int32 × Int32 × MM)) : Prop := gz_V mS X G 6 (0, 0) (mF q.2.2.2) 40 [(0, .ref (gz_ad G 2000)), (1, .int q.1), (2, .int q.2.1), (3, .int q.2.2.1)] []
noncomputable def mj_X6_least_131 (x1 : Int32) (x2 : Int32) (x3 : Int32) (m : MM) : Option ((Int32 × Int32 × Int32 × MM) ⊕ (Int32 × MM)) :=
  gz_let (x3 + (1 : Int32)) fun y1 => some (Sum.inl (x1, x2, y1, m))
theorem wb_X6_least_131 {X : gz_X} {G : gz_G} (hX : gz_C mS X G cX6_least 6 RX6 3 64) {x1 : Int32} {x2 : Int32} {x3 : Int32}  {m : MM} {z : ((Int32 × Int32 × Int32 × MM) ⊕ (Int32 × MM))} (h : mj_X6_least_131 x1 x2 x3 m = some z) (hk : (Sum.elim (mP_X6_least_40 X G) (fun z : (Int32 × MM) => gz_kI mS X G 6 (0, 0) cX6_least (mF z.2) z.1)) z) : gz_V mS X G 6 (0, 0) (mF m) 131 [(0, .ref (gz_ad G 2000)), (1, .int x1), (2, .int x2), (3, .int x3)] [] := by
  unfold mj_X6_least_131 at h
  obtain ⟨y1, ey1, h⟩ := gz_lt h
  refine gz_iinc (pc := 131) (v := y1) (lw := [(3, .int y1), (0, .ref (gz_ad G 2000)), (1, .int x1), (2, .int x2)]) hX dX6_least_131 (k := 3) rfl (by rw [ey1]; rfl) (by decide) rfl ?_
  refine gz_goto (pc := 134) (tgt := 40) hX dX6_least_134 (by decide) ?_
  refine gz_sub (lw := [(0, .ref (gz_ad G 2000)), (1, .int x1), (2, .int x2), (3, .int y1)]) [1, 2, 3, 0] rfl ?_
  obtain rfl := Option.some.inj h
  exact hk
def mP_X6_least_83 (X : gz_X) (G : gz_G) (q : (Int32 × Int32 × Int32 × Int32 × Int32 × MM)) : Prop := gz_V mS X G 6 (0, 0) (mF q.2.2.2.2.2) 83 [(0, .ref (gz_ad G 2000)), (1, .int q.1), (2, .int q.2.1), (3, .int q.2.2.1), (4, .int q.2.2.2.1), (5, .int q.2.2.2.2.1)] []
noncomputable def mj_X6_least_114 (x1 : Int32) (x2 : Int32) (x3 : Int32) (x4 : Int32) (x5 : Int32) (m : MM) : Option ((Int32 × Int32 × Int32 × Int32 × Int32 × MM) ⊕ ((Int32 × Int32 × Int32 × MM) ⊕ (Int32 × MM))) :=
  gz_let (x5 + (1 : Int32)) fun y1 => some (Sum.inl (x1, x2, x3, x4, y1, m))
theorem wb_X6_least_114 {X : gz_X} {G : gz_G} (hX : gz_C mS X G cX6_least 6 RX6 3 64) {x1 : Int32} {x2 : Int32} {x3 : Int32} {x4 : Int32} {x5 : Int32}  {m : MM} {z : ((Int32 × Int32 × Int32 × Int32 × Int32 × MM) ⊕ ((Int32 × Int32 × Int32 × MM) ⊕ (Int32 × MM)))} (h : mj_X6_least_114 x1 x2 x3 x4 x5 m = some z) (hk : (Sum.elim (mP_X6_least_83 X G) (Sum.elim (mP_X6_least_40 X G) (fun z : (Int32 × MM) => gz_kI mS X G 6 (0, 0) cX6_least (mF z.2) z.1))) z) : gz_V mS X G 6 (0, 0) (mF m) 114 [(0, .ref (gz_ad G 2000)), (1, .int x1), (2, .int x2), (3, .int x3), (4, .int x4), (5, .int x5)] [] := by
  unfold mj_X6_least_114 at h
  obtain ⟨y1, ey1, h⟩ := gz_lt h
  refine gz_iinc (pc := 114) (v := y1) (lw := [(5, .int y1), (0, .ref (gz_ad G 2000)), (1, .int x1), (2, .int x2), (3, .int x3), (4, .int x4)]) hX dX6_least_114 (k := 5) rfl (by rw [ey1]; rfl) (by decide) rfl ?_
  refine gz_goto (pc := 117) (tgt := 83) hX dX6_least_117 (by decide) ?_
  refine gz_sub (lw := [(0, .ref (gz_ad G 2000)), (1, .int x1), (2, .int x2), (3, .int x3), (4, .int x4), (5, .int y1)]) [1, 2, 3, 4, 5, 0] rfl ?_
  obtain rfl := Option.some.inj h
  exact hk
noncomputable def mb_X6_least_83 (x1 : Int32) (x2 : Int32) (x3 : Int32) (x4 : Int32) (x5 : Int32) (m : MM) : Option ((Int32 × Int32 × Int32 × Int32 × Int32 × MM) ⊕ ((Int32 × Int32 × Int32 × MM) ⊕ (Int32 × MM))) :=
  ((mf_thingMany m).bind fun (r1, m2) => (if r1 ≤ x5 then (if (x1 &&& (x4 ^^^ (-1 : Int32))) = (0 : Int32) then (Option.map Sum.inr (mj_X6_least_131 x1 x3 x3 m2)) else (Option.map Sum.inr (mj_X6_least_131 x1 x2 x3 m2))) else (if ((x3 >>> (x5 &&& 31)) &&& (1 : Int32)) = (1 : Int32) then (if gz_in x5 (8) then gz_let ((x4 ||| (m2.1 1055 (gz_ix x5)))) fun y8 => (mj_X6_least_114 x1 x2 x3 y8 x5 m2) else none) else (mj_X6_least_114 x1 x2 x3 x4 x5 m2))))
theorem wb_X6_least_83 {X : gz_X} {G : gz_G} (hX : gz_C mS X G cX6_least 6 RX6 3 64) {x1 : Int32} {x2 : Int32} {x3 : Int32} {x4 : Int32} {x5 : Int32}  {m : MM} {z : ((Int32 × Int32 × Int32 × Int32 × Int32 × MM) ⊕ ((Int32 × Int32 × Int32 × MM) ⊕ (Int32 × MM)))} (h : mb_X6_least_83 x1 x2 x3 x4 x5 m = some z) (hk : (Sum.elim (mP_X6_least_83 X G) (Sum.elim (mP_X6_least_40 X G) (fun z : (Int32 × MM) => gz_kI mS X G 6 (0, 0) cX6_least (mF z.2) z.1))) z) : gz_V mS X G 6 (0, 0) (mF m) 83 [(0, .ref (gz_ad G 2000)), (1, .int x1), (2, .int x2), (3, .int x3), (4, .int x4), (5, .int x5)] [] := by
  unfold mb_X6_least_83 at h
  refine gz_iload (pc := 83) hX dX6_least_83 5 rfl ?_
  refine gz_aload_n (pc := 85) hX dX6_least_85 rfl 0 rfl ?_
  obtain ⟨⟨r1, m2⟩, c3, h⟩ := gz_bd h
  refine mc_thingMany (pc := 86) hX c3 ⟨Nat.le_of_ble_eq_true rfl, Nat.le_of_ble_eq_true rfl⟩ (rest := [.int x5]) rfl (Nat.le_of_ble_eq_true rfl) dX6_least_86 ?_
  refine gz_icmp_ge (pc := 89) (tgt := 120) hX dX6_least_89 (by decide) (fun g4 => ?_) (fun g4 => ?_)
  · replace h := gz_it' g4 h
    refine gz_iload_n (pc := 120) hX dX6_least_120 rfl 1 rfl ?_
    refine gz_iload (pc := 121) hX dX6_least_121 4 rfl ?_
    refine gz_iconst (pc := 123) (v := (-1 : Int32)) hX dX6_least_123 (by decide) ?_
    refine gz_ixor (pc := 124) hX dX6_least_124 ?_
    refine gz_iand (pc := 125) hX dX6_least_125 ?_
    refine gz_if_ne (pc := 126) (tgt := 131) hX dX6_least_126 (by decide) (fun g5 => ?_) (fun g5 => ?_)
    · replace h := gz_if' g5 h
      refine gz_sub (lw := [(0, .ref (gz_ad G 2000)), (1, .int x1), (2, .int x2), (3, .int x3)]) [0, 1, 2, 3] rfl ?_
      obtain ⟨z0, hm0, rfl⟩ := gz_mp h
      exact wb_X6_least_131 hX hm0 hk
    · replace h := gz_it' g5 h
      refine gz_iload_n (pc := 129) hX dX6_least_129 rfl 3 rfl ?_
      refine gz_istore_n (pc := 130) (lw := [(2, .int x3), (0, .ref (gz_ad G 2000)), (1, .int x1), (3, .int x3), (4, .int x4), (5, .int x5)]) hX dX6_least_130 rfl (by decide) rfl ?_
      refine gz_sub (lw := [(0, .ref (gz_ad G 2000)), (1, .int x1), (2, .int x3), (3, .int x3)]) [1, 2, 0, 3] rfl ?_
      obtain ⟨z0, hm0, rfl⟩ := gz_mp h
      exact wb_X6_least_131 hX hm0 hk
  · replace h := gz_if' g4 h
    refine gz_iload_n (pc := 92) hX dX6_least_92 rfl 3 rfl ?_
    refine gz_iload (pc := 93) hX dX6_least_93 5 rfl ?_
    refine gz_ishr (pc := 95) hX dX6_least_95 ?_
    refine gz_iconst (pc := 96) (v := (1 : Int32)) hX dX6_least_96 (by decide) ?_
    refine gz_iand (pc := 97) hX dX6_least_97 ?_
    refine gz_iconst (pc := 98) (v := (1 : Int32)) hX dX6_least_98 (by decide) ?_
    refine gz_icmp_ne (pc := 99) (tgt := 114) hX dX6_least_99 (by decide) (fun g6 => ?_) (fun g6 => ?_)
    · replace h := gz_if' g6 h
      exact wb_X6_least_114 hX h hk
    · replace h := gz_it' g6 h
      refine gz_iload (pc := 102) hX dX6_least_102 4 rfl ?_
      refine gz_aload_n (pc := 104) hX dX6_least_104 rfl 0 rfl ?_
      refine mg_54 (pc := 105) hX dX6_least_105 ?_
      refine gz_iload (pc := 108) hX dX6_least_108 5 rfl ?_
      obtain ⟨g7, h⟩ := gz_gu h
      refine mz_iald (pc := 110) (c := 1055) (n := 8) hX rfl rfl g7 dX6_least_110 ?_
      refine gz_ior (pc := 111) hX dX6_least_111 ?_
      obtain ⟨y8, ey8, h⟩ := gz_lt h
      refine gz_topi ey8 ?_
      refine gz_istore (pc := 112) (lw := [(4, .int y8), (0, .ref (gz_ad G 2000)), (1, .int x1), (2, .int x2), (3, .int x3), (5, .int x5)]) hX dX6_least_112 (by decide) rfl ?_
      refine gz_sub (lw := [(0, .ref (gz_ad G 2000)), (1, .int x1), (2, .int x2), (3, .int x3), (4, .int y8), (5, .int x5)]) [1, 2, 3, 4, 0, 5] rfl ?_
      exact wb_X6_least_114 hX h hk
noncomputable def ml_X6_least_83 (x1 : Int32) (x2 : Int32) (x3 : Int32) (x4 : Int32) (x5 : Int32) (m : MM) : Option ((Int32 × Int32 × Int32 × MM) ⊕ (Int32 × MM)) := gz_loop (fun q : (Int32 × Int32 × Int32 × Int32 × Int32 × MM) => mb_X6_least_83 q.1 q.2.1 q.2.2.1 q.2.2.2.1 q.2.2.2.2.1 q.2.2.2.2.2) (x1, x2, x3, x4, x5, m)
theorem wl_X6_least_83 {X : gz_X} {G : gz_G} (hX : gz_C mS X G cX6_least 6 RX6 3 64) {x1 : Int32} {x2 : Int32} {x3 : Int32} {x4 : Int32} {x5 : Int32}  {m : MM} {z : ((Int32 × Int32 × Int32 × MM) ⊕ (Int32 × MM))} (h : ml_X6_least_83 x1 x2 x3 x4 x5 m = some z) (hk : (Sum.elim (mP_X6_least_40 X G) (fun z : (Int32 × MM) => gz_kI mS X G 6 (0, 0) cX6_least (mF z.2) z.1)) z) : gz_V mS X G 6 (0, 0) (mF m) 83 [(0, .ref (gz_ad G 2000)), (1, .int x1), (2, .int x2), (3, .int x3), (4, .int x4), (5, .int x5)] [] := by
  have hp : mP_X6_least_83 X G (x1, x2, x3, x4, x5, m) := gz_loop_ind (fun q z hz hkz => wb_X6_least_83 hX  hz hkz) h hk
  exact hp
noncomputable def mj_X6_least_77 (x1 : Int32) (x2 : Int32) (x3 : Int32) (m : MM) : Option ((Int32 × Int32 × Int32 × MM) ⊕ (Int32 × MM)) :=
  (ml_X6_least_83 x1 x2 x3 (0 : Int32) (0 : Int32) m)
theorem wb_X6_least_77 {X : gz_X} {G : gz_G} (hX : gz_C mS X G cX6_least 6 RX6 3 64) {x1 : Int32} {x2 : Int32} {x3 : Int32}  {m : MM} {z : ((Int32 × Int32 × Int32 × MM) ⊕ (Int32 × MM))} (h : mj_X6_least_77 x1 x2 x3 m = some z) (hk : (Sum.elim (mP_X6_least_40 X G) (fun z : (Int32 × MM) => gz_kI mS X G 6 (0, 0) cX6_least (mF z.2) z.1)) z) : gz_V mS X G 6 (0, 0) (mF m) 77 [(0, .ref (gz_ad G 2000)), (1, .int x1), (2, .int x2), (3, .int x3)] [] := by
  unfold mj_X6_least_77 at h
  refine gz_iconst (pc := 77) (v := (0 : Int32)) hX dX6_least_77 (by decide) ?_
  refine gz_istore (pc := 78) (lw := [(4, .int (0 : Int32)), (0, .ref (gz_ad G 2000)), (1, .int x1), (2, .int x2), (3, .int x3)]) hX dX6_least_78 (by decide) rfl ?_
  refine gz_iconst (pc := 80) (v := (0 : Int32)) hX dX6_least_80 (by decide) ?_
  refine gz_istore (pc := 81) (lw := [(5, .int (0 : Int32)), (4, .int (0 : Int32)), (0, .ref (gz_ad G 2000)), (1, .int x1), (2, .int x2), (3, .int x3)]) hX dX6_least_81 (by decide) rfl ?_
  refine gz_sub (lw := [(0, .ref (gz_ad G 2000)), (1, .int x1), (2, .int x2), (3, .int x3), (4, .int (0 : Int32)), (5, .int (0 : Int32))]) [2, 3, 4, 5, 1, 0] rfl ?_
  exact wl_X6_least_83 hX h hk
noncomputable def mb_X6_least_40 (x1 : Int32) (x2 : Int32) (x3 : Int32) (m : MM) : Option ((Int32 × Int32 × Int32 × MM) ⊕ (Int32 × MM)) :=
  ((mf_thingMany m).bind fun (r1, m2) => (if ((1 : Int32) <<< (r1 &&& 31)) ≤ x3 then some (Sum.inr (x2, m2)) else (if (x3 &&& (x1 ^^^ (-1 : Int32))) = (0 : Int32) then (if x2 = (-1 : Int32) then (mj_X6_least_77 x1 x2 x3 m2) else ((mf_bits x3 m2).bind fun (r7, m8) => ((mf_bits x2 m8).bind fun (r10, m11) => (if r7 < r10 then (mj_X6_least_77 x1 x2 x3 m11) else (mj_X6_least_131 x1 x2 x3 m11))))) else (mj_X6_least_131 x1 x2 x3 m2))))
theorem wb_X6_least_40 {X : gz_X} {G : gz_G} (hX : gz_C mS X G cX6_least 6 RX6 3 64) {x1 : Int32} {x2 : Int32} {x3 : Int32}  {m : MM} {z : ((Int32 × Int32 × Int32 × MM) ⊕ (Int32 × MM))} (h : mb_X6_least_40 x1 x2 x3 m = some z) (hk : (Sum.elim (mP_X6_least_40 X G) (fun z : (Int32 × MM) => gz_kI mS X G 6 (0, 0) cX6_least (mF z.2) z.1)) z) : gz_V mS X G 6 (0, 0) (mF m) 40 [(0, .ref (gz_ad G 2000)), (1, .int x1), (2, .int x2), (3, .int x3)] [] := by
  unfold mb_X6_least_40 at h
  refine gz_iload_n (pc := 40) hX dX6_least_40 rfl 3 rfl ?_
  refine gz_iconst (pc := 41) (v := (1 : Int32)) hX dX6_least_41 (by decide) ?_
  refine gz_aload_n (pc := 42) hX dX6_least_42 rfl 0 rfl ?_
  obtain ⟨⟨r1, m2⟩, c3, h⟩ := gz_bd h
  refine mc_thingMany (pc := 43) hX c3 ⟨Nat.le_of_ble_eq_true rfl, Nat.le_of_ble_eq_true rfl⟩ (rest := [.int (1 : Int32), .int x3]) rfl (Nat.le_of_ble_eq_true rfl) dX6_least_43 ?_
  refine gz_ishl (pc := 46) hX dX6_least_46 ?_
  refine gz_icmp_ge (pc := 47) (tgt := 137) hX dX6_least_47 (by decide) (fun g4 => ?_) (fun g4 => ?_)
  · replace h := gz_it' g4 h
    refine gz_iload_n (pc := 137) hX dX6_least_137 rfl 2 rfl ?_
    obtain rfl := Option.some.inj h
    exact hk _ _ dX6_least_138
  · replace h := gz_if' g4 h
    refine gz_iload_n (pc := 50) hX dX6_least_50 rfl 3 rfl ?_
    refine gz_iload_n (pc := 51) hX dX6_least_51 rfl 1 rfl ?_
    refine gz_iconst (pc := 52) (v := (-1 : Int32)) hX dX6_least_52 (by decide) ?_
    refine gz_ixor (pc := 53) hX dX6_least_53 ?_
    refine gz_iand (pc := 54) hX dX6_least_54 ?_
    refine gz_if_ne (pc := 55) (tgt := 131) hX dX6_least_55 (by decide) (fun g5 => ?_) (fun g5 => ?_)
    · replace h := gz_if' g5 h
      exact wb_X6_least_131 hX h hk
    · replace h := gz_it' g5 h
      refine gz_iload_n (pc := 58) hX dX6_least_58 rfl 2 rfl ?_
      refine gz_iconst (pc := 59) (v := (-1 : Int32)) hX dX6_least_59 (by decide) ?_
      refine gz_icmp_eq (pc := 60) (tgt := 77) hX dX6_least_60 (by decide) (fun g6 => ?_) (fun g6 => ?_)
      · replace h := gz_it' g6 h
        exact wb_X6_least_77 hX h hk
      · replace h := gz_if' g6 h
        refine gz_iload_n (pc := 63) hX dX6_least_63 rfl 3 rfl ?_
        obtain ⟨⟨r7, m8⟩, c9, h⟩ := gz_bd h
        refine mc_bits (pc := 64) hX c9 ⟨Nat.le_of_ble_eq_true rfl, Nat.le_of_ble_eq_true rfl⟩ (rest := []) rfl (Nat.le_of_ble_eq_true rfl) dX6_least_64 ?_
        refine gz_iload_n (pc := 67) hX dX6_least_67 rfl 2 rfl ?_
        obtain ⟨⟨r10, m11⟩, c12, h⟩ := gz_bd h
        refine mc_bits (pc := 68) hX c12 ⟨Nat.le_of_ble_eq_true rfl, Nat.le_of_ble_eq_true rfl⟩ (rest := [.int r7]) rfl (Nat.le_of_ble_eq_true rfl) dX6_least_68 ?_
        refine gz_icmp_lt (pc := 71) (tgt := 77) hX dX6_least_71 (by decide) (fun g13 => ?_) (fun g13 => ?_)
        · replace h := gz_it' g13 h
          exact wb_X6_least_77 hX h hk
        · replace h := gz_if' g13 h
          refine gz_goto (pc := 74) (tgt := 131) hX dX6_least_74 (by decide) ?_
          exact wb_X6_least_131 hX h hk
noncomputable def ml_X6_least_40 (x1 : Int32) (x2 : Int32) (x3 : Int32) (m : MM) : Option (Int32 × MM) := gz_loop (fun q : (Int32 × Int32 × Int32 × MM) => mb_X6_least_40 q.1 q.2.1 q.2.2.1 q.2.2.2) (x1, x2, x3, m)
theorem wl_X6_least_40 {X : gz_X} {G : gz_G} (hX : gz_C mS X G cX6_least 6 RX6 3 64) {x1 : Int32} {x2 : Int32} {x3 : Int32}  {m : MM} {z : (Int32 × MM)} (h : ml_X6_least_40 x1 x2 x3 m = some z) (hk : (fun z : (Int32 × MM) => gz_kI mS X G 6 (0, 0) cX6_least (mF z.2) z.1) z) : gz_V mS X G 6 (0, 0) (mF m) 40 [(0, .ref (gz_ad G 2000)), (1, .int x1), (2, .int x2), (3, .int x3)] [] := by
  have hp : mP_X6_least_40 X G (x1, x2, x3, m) := gz_loop_ind (fun q z hz hkz => wb_X6_least_40 hX  hz hkz) h hk
  exact hp
noncomputable def mb_X6_least_9 (x1 : Int32) (x2 : Int32) (x3 : Int32) (m : MM) : Option ((Int32 × Int32 × Int32 × MM) ⊕ (Int32 × MM)) :=
  ((mf_thingMany m).bind fun (r1, m2) => (if r1 ≤ x3 then (Option.map Sum.inr (ml_X6_least_40 x1 x2 (0 : Int32) m2)) else ((mf_endsOf x3 m2).bind fun (r5, m6) => (if gz_in x3 (8) then gz_let (msI m6 1055 (gz_ix x3) (r5 ||| ((1 : Int32) <<< (x3 &&& 31)))) fun m9 => gz_let (x3 + (1 : Int32)) fun y10 => some (Sum.inl (x1, x2, y10, m9)) else none))))
theorem wb_X6_least_9 {X : gz_X} {G : gz_G} (hX : gz_C mS X G cX6_least 6 RX6 3 64) {x1 : Int32} {x2 : Int32} {x3 : Int32}  {m : MM} {z : ((Int32 × Int32 × Int32 × MM) ⊕ (Int32 × MM))} (h : mb_X6_least_9 x1 x2 x3 m = some z) (hk : (Sum.elim (mP_X6_least_9 X G) (fun z : (Int32 × MM) => gz_kI mS X G 6 (0, 0) cX6_least (mF z.2) z.1)) z) : gz_V mS X G 6 (0, 0) (mF m) 9 [(0, .ref (gz_ad G 2000)), (1, .int x1), (2, .int x2), (3, .int x3)] [] := by
  unfold mb_X6_least_9 at h
  refine gz_iload_n (pc := 9) hX dX6_least_9 rfl 3 rfl ?_
  refine gz_aload_n (pc := 10) hX dX6_least_10 rfl 0 rfl ?_
  obtain ⟨⟨r1, m2⟩, c3, h⟩ := gz_bd h
  refine mc_thingMany (pc := 11) hX c3 ⟨Nat.le_of_ble_eq_true rfl, Nat.le_of_ble_eq_true rfl⟩ (rest := [.int x3]) rfl (Nat.le_of_ble_eq_true rfl) dX6_least_11 ?_
  refine gz_icmp_ge (pc := 14) (tgt := 38) hX dX6_least_14 (by decide) (fun g4 => ?_) (fun g4 => ?_)
  · replace h := gz_it' g4 h
    refine gz_iconst (pc := 38) (v := (0 : Int32)) hX dX6_least_38 (by decide) ?_
    refine gz_istore_n (pc := 39) (lw := [(3, .int (0 : Int32)), (0, .ref (gz_ad G 2000)), (1, .int x1), (2, .int x2)]) hX dX6_least_39 rfl (by decide) rfl ?_
    refine gz_sub (lw := [(0, .ref (gz_ad G 2000)), (1, .int x1), (2, .int x2), (3, .int (0 : Int32))]) [1, 2, 3, 0] rfl ?_
    obtain ⟨z0, hm0, rfl⟩ := gz_mp h
    exact wl_X6_least_40 hX hm0 hk
  · replace h := gz_if' g4 h
    refine gz_aload_n (pc := 17) hX dX6_least_17 rfl 0 rfl ?_
    refine mg_54 (pc := 18) hX dX6_least_18 ?_
    refine gz_iload_n (pc := 21) hX dX6_least_21 rfl 3 rfl ?_
    refine gz_aload_n (pc := 22) hX dX6_least_22 rfl 0 rfl ?_
    refine gz_iload_n (pc := 23) hX dX6_least_23 rfl 3 rfl ?_
    obtain ⟨⟨r5, m6⟩, c7, h⟩ := gz_bd h
    refine mc_endsOf (pc := 24) hX c7 ⟨Nat.le_of_ble_eq_true rfl, Nat.le_of_ble_eq_true rfl⟩ (rest := [.int x3, .ref (gz_ad G 1055)]) rfl (Nat.le_of_ble_eq_true rfl) dX6_least_24 ?_
    refine gz_iconst (pc := 27) (v := (1 : Int32)) hX dX6_least_27 (by decide) ?_
    refine gz_iload_n (pc := 28) hX dX6_least_28 rfl 3 rfl ?_
    refine gz_ishl (pc := 29) hX dX6_least_29 ?_
    refine gz_ior (pc := 30) hX dX6_least_30 ?_
    obtain ⟨g8, h⟩ := gz_gu h
    obtain ⟨m9, em9, h⟩ := gz_lt h
    refine mz_iast (pc := 31) (c := 1055) (n := 8) hX rfl rfl g8 (Nat.le_of_ble_eq_true rfl) dX6_least_31 em9 ?_
    obtain ⟨y10, ey10, h⟩ := gz_lt h
    refine gz_iinc (pc := 32) (v := y10) (lw := [(3, .int y10), (0, .ref (gz_ad G 2000)), (1, .int x1), (2, .int x2)]) hX dX6_least_32 (k := 3) rfl (by rw [ey10]; rfl) (by decide) rfl ?_
    refine gz_goto (pc := 35) (tgt := 9) hX dX6_least_35 (by decide) ?_
    refine gz_sub (lw := [(0, .ref (gz_ad G 2000)), (1, .int x1), (2, .int x2), (3, .int y10)]) [1, 2, 3, 0] rfl ?_
    obtain rfl := Option.some.inj h
    exact hk
noncomputable def ml_X6_least_9 (x1 : Int32) (x2 : Int32) (x3 : Int32) (m : MM) : Option (Int32 × MM) := gz_loop (fun q : (Int32 × Int32 × Int32 × MM) => mb_X6_least_9 q.1 q.2.1 q.2.2.1 q.2.2.2) (x1, x2, x3, m)
theorem wl_X6_least_9 {X : gz_X} {G : gz_G} (hX : gz_C mS X G cX6_least 6 RX6 3 64) {x1 : Int32} {x2 : Int32} {x3 : Int32}  {m : MM} {z : (Int32 × MM)} (h : ml_X6_least_9 x1 x2 x3 m = some z) (hk : (fun z : (Int32 × MM) => gz_kI mS X G 6 (0, 0) cX6_least (mF z.2) z.1) z) : gz_V mS X G 6 (0, 0) (mF m) 9 [(0, .ref (gz_ad G 2000)), (1, .int x1), (2, .int x2), (3, .int x3)] [] := by
  have hp : mP_X6_least_9 X G (x1, x2, x3, m) := gz_loop_ind (fun q z hz hkz => wb_X6_least_9 hX  hz hkz) h hk
  exact hp
noncomputable def mf_least  (m : MM) : Option (Int32 × MM) :=
  ((mf_burningSet m).bind fun (r1, m2) => (ml_X6_least_9 r1 (-1 : Int32) (0 : Int32) m2))
theorem wm_least {X : gz_X} {G : gz_G} (hX : gz_C mS X G cX6_least 6 RX6 3 64)   {m : MM} {z : (Int32 × MM)} (h : mf_least  m = some z) (hk : (fun z : (Int32 × MM) => gz_kI mS X G 6 (0, 0) cX6_least (mF z.2) z.1) z) : gz_V mS X G 6 (0, 0) (mF m) 0 [(0, .ref (gz_ad G 2000))] [] := by
  unfold mf_least at h
  refine gz_aload_n (pc := 0) hX dX6_least_0 rfl 0 rfl ?_
  obtain ⟨⟨r1, m2⟩, c3, h⟩ := gz_bd h
  refine mc_burningSet (pc := 1) hX c3 ⟨Nat.le_of_ble_eq_true rfl, Nat.le_of_ble_eq_true rfl⟩ (rest := []) rfl (Nat.le_of_ble_eq_true rfl) dX6_least_1 ?_
  refine gz_istore_n (pc := 4) (lw := [(1, .int r1), (0, .ref (gz_ad G 2000))]) hX dX6_least_4 rfl (by decide) rfl ?_
  refine gz_iconst (pc := 5) (v := (-1 : Int32)) hX dX6_least_5 (by decide) ?_
  refine gz_istore_n (pc := 6) (lw := [(2, .int (-1 : Int32)), (1, .int r1), (0, .ref (gz_ad G 2000))]) hX dX6_least_6 rfl (by decide) rfl ?_
  refine gz_iconst (pc := 7) (v := (0 : Int32)) hX dX6_least_7 (by decide) ?_
  refine gz_istore_n (pc := 8) (lw := [(3, .int (0 : Int32)), (2, .int (-1 : Int32)), (1, .int r1), (0, .ref (gz_ad G 2000))]) hX dX6_least_8 rfl (by decide) rfl ?_
  refine gz_sub (lw := [(0, .ref (gz_ad G 2000)), (1, .int r1), (2, .int (-1 : Int32)), (3, .int (0 : Int32))]) [3, 2, 1, 0] rfl ?_
  exact wl_X6_least_9 hX h hk
theorem mt_least {G : gz_G} {l : Launch}   {m m9 : MM} {r : Int32} (h : mf_least  m = some (r, m9)) : gz_Met mS G l yX6_least cX6_least 6 (some .int) (mRm 3 64) [.ref (gz_ad G 2000)] (mF m) (mF m9) (some (.int r)) :=
  gz_ofI (plainFor_of_name mz_plain) (Nat.le_of_ble_eq_true rfl) fun X _ hX hk => wm_least hX h hk
/-! goesBy(II)I -/
noncomputable def mj_X6_goesBy_60  (m : MM) : Option (Int32 × MM) :=
  some ((-1 : Int32), m)
theorem wb_X6_goesBy_60 {X : gz_X} {G : gz_G} (hX : gz_C mS X G cX6_goesBy 3 RX6 1 21)   {m : MM} {z : (Int32 × MM)} (h : mj_X6_goesBy_60  m = some z) (hk : (fun z : (Int32 × MM) => gz_kI mS X G 3 (0, 0) cX6_goesBy (mF z.2) z.1) z) : gz_V mS X G 3 (0, 0) (mF m) 60 [(0, .ref (gz_ad G 2000))] [] := by
  unfold mj_X6_goesBy_60 at h
  refine gz_iconst (pc := 60) (v := (-1 : Int32)) hX dX6_goesBy_60 (by decide) ?_
  obtain rfl := Option.some.inj h
  exact hk _ _ dX6_goesBy_61
noncomputable def mj_X6_goesBy_34 (x1 : Int32) (x2 : Int32) (m : MM) : Option (Int32 × MM) :=
  (if gz_in x1 (12) then (if (m.1 1062 (gz_ix x1)) = (0 : Int32) then (mj_X6_goesBy_60  m) else ((mf_toOf x1 m).bind fun (r3, m4) => (if r3 = x2 then ((mf_fromOf x1 m4).bind fun (r7, m8) => some (r7, m8)) else (mj_X6_goesBy_60  m4)))) else none)
theorem wb_X6_goesBy_34 {X : gz_X} {G : gz_G} (hX : gz_C mS X G cX6_goesBy 3 RX6 1 21) {x1 : Int32} {x2 : Int32}  {m : MM} {z : (Int32 × MM)} (h : mj_X6_goesBy_34 x1 x2 m = some z) (hk : (fun z : (Int32 × MM) => gz_kI mS X G 3 (0, 0) cX6_goesBy (mF z.2) z.1) z) : gz_V mS X G 3 (0, 0) (mF m) 34 [(0, .ref (gz_ad G 2000)), (1, .int x1), (2, .int x2)] [] := by
  unfold mj_X6_goesBy_34 at h
  refine gz_aload_n (pc := 34) hX dX6_goesBy_34 rfl 0 rfl ?_
  refine mg_61 (pc := 35) hX dX6_goesBy_35 ?_
  refine gz_iload_n (pc := 38) hX dX6_goesBy_38 rfl 1 rfl ?_
  obtain ⟨g1, h⟩ := gz_gu h
  refine mz_zald (pc := 39) (c := 1062) (n := 12) hX rfl rfl g1 dX6_goesBy_39 ?_
  refine gz_if_eq (pc := 40) (tgt := 60) hX dX6_goesBy_40 (by decide) (fun g2 => ?_) (fun g2 => ?_)
  · replace h := gz_it' g2 h
    refine gz_sub (lw := [(0, .ref (gz_ad G 2000))]) [0] rfl ?_
    exact wb_X6_goesBy_60 hX h hk
  · replace h := gz_if' g2 h
    refine gz_aload_n (pc := 43) hX dX6_goesBy_43 rfl 0 rfl ?_
    refine gz_iload_n (pc := 44) hX dX6_goesBy_44 rfl 1 rfl ?_
    obtain ⟨⟨r3, m4⟩, c5, h⟩ := gz_bd h
    refine mc_toOf (pc := 45) hX c5 ⟨Nat.le_of_ble_eq_true rfl, Nat.le_of_ble_eq_true rfl⟩ (rest := []) rfl (Nat.le_of_ble_eq_true rfl) dX6_goesBy_45 ?_
    refine gz_iload_n (pc := 48) hX dX6_goesBy_48 rfl 2 rfl ?_
    refine gz_icmp_ne (pc := 49) (tgt := 60) hX dX6_goesBy_49 (by decide) (fun g6 => ?_) (fun g6 => ?_)
    · replace h := gz_if' g6 h
      refine gz_sub (lw := [(0, .ref (gz_ad G 2000))]) [0] rfl ?_
      exact wb_X6_goesBy_60 hX h hk
    · replace h := gz_it' g6 h
      refine gz_aload_n (pc := 52) hX dX6_goesBy_52 rfl 0 rfl ?_
      refine gz_iload_n (pc := 53) hX dX6_goesBy_53 rfl 1 rfl ?_
      obtain ⟨⟨r7, m8⟩, c9, h⟩ := gz_bd h
      refine mc_fromOf (pc := 54) hX c9 ⟨Nat.le_of_ble_eq_true rfl, Nat.le_of_ble_eq_true rfl⟩ (rest := []) rfl (Nat.le_of_ble_eq_true rfl) dX6_goesBy_54 ?_
      refine gz_goto (pc := 57) (tgt := 61) hX dX6_goesBy_57 (by decide) ?_
      obtain rfl := Option.some.inj h
      exact hk _ _ dX6_goesBy_61
noncomputable def mf_goesBy (x1 : Int32) (x2 : Int32) (m : MM) : Option (Int32 × MM) :=
  ((mf_doesHold x1 m).bind fun (r1, m2) => (if r1 = (0 : Int32) then some ((-1 : Int32), m2) else (if gz_in x1 (12) then (if (m2.1 1062 (gz_ix x1)) = (0 : Int32) then ((mf_fromOf x1 m2).bind fun (r7, m8) => (if r7 = x2 then ((mf_toOf x1 m8).bind fun (r11, m12) => some (r11, m12)) else (mj_X6_goesBy_34 x1 x2 m8))) else (mj_X6_goesBy_34 x1 x2 m2)) else none)))
theorem wm_goesBy {X : gz_X} {G : gz_G} (hX : gz_C mS X G cX6_goesBy 3 RX6 1 21) {x1 : Int32} {x2 : Int32}  {m : MM} {z : (Int32 × MM)} (h : mf_goesBy x1 x2 m = some z) (hk : (fun z : (Int32 × MM) => gz_kI mS X G 3 (0, 0) cX6_goesBy (mF z.2) z.1) z) : gz_V mS X G 3 (0, 0) (mF m) 0 [(0, .ref (gz_ad G 2000)), (1, .int x1), (2, .int x2)] [] := by
  unfold mf_goesBy at h
  refine gz_aload_n (pc := 0) hX dX6_goesBy_0 rfl 0 rfl ?_
  refine gz_iload_n (pc := 1) hX dX6_goesBy_1 rfl 1 rfl ?_
  obtain ⟨⟨r1, m2⟩, c3, h⟩ := gz_bd h
  refine mc_doesHold (pc := 2) hX c3 ⟨Nat.le_of_ble_eq_true rfl, Nat.le_of_ble_eq_true rfl⟩ (rest := []) rfl (Nat.le_of_ble_eq_true rfl) dX6_goesBy_2 ?_
  refine gz_if_ne (pc := 5) (tgt := 10) hX dX6_goesBy_5 (by decide) (fun g4 => ?_) (fun g4 => ?_)
  · replace h := gz_if' g4 h
    refine gz_aload_n (pc := 10) hX dX6_goesBy_10 rfl 0 rfl ?_
    refine mg_61 (pc := 11) hX dX6_goesBy_11 ?_
    refine gz_iload_n (pc := 14) hX dX6_goesBy_14 rfl 1 rfl ?_
    obtain ⟨g5, h⟩ := gz_gu h
    refine mz_zald (pc := 15) (c := 1062) (n := 12) hX rfl rfl g5 dX6_goesBy_15 ?_
    refine gz_if_ne (pc := 16) (tgt := 34) hX dX6_goesBy_16 (by decide) (fun g6 => ?_) (fun g6 => ?_)
    · replace h := gz_if' g6 h
      exact wb_X6_goesBy_34 hX h hk
    · replace h := gz_it' g6 h
      refine gz_aload_n (pc := 19) hX dX6_goesBy_19 rfl 0 rfl ?_
      refine gz_iload_n (pc := 20) hX dX6_goesBy_20 rfl 1 rfl ?_
      obtain ⟨⟨r7, m8⟩, c9, h⟩ := gz_bd h
      refine mc_fromOf (pc := 21) hX c9 ⟨Nat.le_of_ble_eq_true rfl, Nat.le_of_ble_eq_true rfl⟩ (rest := []) rfl (Nat.le_of_ble_eq_true rfl) dX6_goesBy_21 ?_
      refine gz_iload_n (pc := 24) hX dX6_goesBy_24 rfl 2 rfl ?_
      refine gz_icmp_ne (pc := 25) (tgt := 34) hX dX6_goesBy_25 (by decide) (fun g10 => ?_) (fun g10 => ?_)
      · replace h := gz_if' g10 h
        exact wb_X6_goesBy_34 hX h hk
      · replace h := gz_it' g10 h
        refine gz_aload_n (pc := 28) hX dX6_goesBy_28 rfl 0 rfl ?_
        refine gz_iload_n (pc := 29) hX dX6_goesBy_29 rfl 1 rfl ?_
        obtain ⟨⟨r11, m12⟩, c13, h⟩ := gz_bd h
        refine mc_toOf (pc := 30) hX c13 ⟨Nat.le_of_ble_eq_true rfl, Nat.le_of_ble_eq_true rfl⟩ (rest := []) rfl (Nat.le_of_ble_eq_true rfl) dX6_goesBy_30 ?_
        obtain rfl := Option.some.inj h
        exact hk _ _ dX6_goesBy_33
  · replace h := gz_it' g4 h
    refine gz_iconst (pc := 8) (v := (-1 : Int32)) hX dX6_goesBy_8 (by decide) ?_
    obtain rfl := Option.some.inj h
    exact hk _ _ dX6_goesBy_9
theorem mt_goesBy {G : gz_G} {l : Launch} {x1 : Int32} {x2 : Int32}  {m m9 : MM} {r : Int32} (h : mf_goesBy x1 x2 m = some (r, m9)) : gz_Met mS G l yX6_goesBy cX6_goesBy 3 (some .int) (mRm 1 21) [.ref (gz_ad G 2000), .int x1, .int x2] (mF m) (mF m9) (some (.int r)) :=
  gz_ofI (plainFor_of_name mz_plain) (Nat.le_of_ble_eq_true rfl) fun X _ hX hk => wm_goesBy hX h hk
theorem mc_goesBy {X : gz_X} {G : gz_G} {cc : ByteArray} {nL fr lo pc : Nat} {lv : List (Nat × Value)} {rest st0 : List Value} (hX : gz_C mS X G cc nL RX6 fr lo) {x1 : Int32} {x2 : Int32}  {m m9 : MM} {r : Int32} (h : mf_goesBy x1 x2 m = some (r, m9)) (hroom : 1 + 1 ≤ fr ∧ 8 + (3 + 11) + 21 ≤ lo) (hst : st0 = [.int x2, .int x1, .ref (gz_ad G 2000)] ++ rest) (hW : (rest.map fun v => v.category).sum ≤ 8) (hd : decode cc pc = .ok (.invokevirtual 544, 3)) (kk : gz_V mS X G nL (0, 0) (mF m9) (pc + 3) lv (.int r :: rest)) : gz_V mS X G nL (0, 0) (mF m) pc lv st0 :=
  gz_callV hX mz_E (As := [.int x1, .int x2]) (rest := rest) (q := (RX6, TX6, 104)) (ci := 0) (c := 2000) (mt_goesBy (l := X.2.1) h) (lw_V q2500 q2502 qs148 q182 q2503) (n := 2) (by decide +kernel) hroom rfl rfl (by decide) rfl hst hW hd (rem := (0, 0)) kk
