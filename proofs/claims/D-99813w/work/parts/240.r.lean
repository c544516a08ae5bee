set_option maxRecDepth 100000
theorem Rcp_X5_3_5 {X : gz_X} {G : gz_G} {cc : ByteArray} {nL fr lo pc : Nat} {rem : Nat × Nat} {m m9 : gM} {lv : List (Nat × Value)} {st : List Value} (hX : gz_C cR X G cc nL RX5 fr lo) (hn0 : X.2.2.2.2.2.2.2.2.1.name = "<init>") {c : Nat} {r : Nat} (hK : clR m.1 m.2.1 m.2.2.2.2.1 → m.1 c = 5 + 1) (hw : 1000 ≤ c) (hs : r ≠ 0) (hd : decode cc pc = .ok (.putfield 3, 3)) (hm : m9 = gz_sP m c 9 r) (kk : gz_V cR X G nL rem m9 (pc + 3) lv st) : gz_V cR X G nL rem m pc lv (.ref (gz_ad G r) :: .ref (gz_ad G c) :: st) := by
  subst hm
  exact gz_putff hX (C := RX5) (T := TX5) (N := 10) (ci := 5) (k := 9) (μ' := gz_sP m c 9 r) (v := .ref (gz_ad G r)) rfl (by decide) in_X5 tyX5 tyX5_ok nmX5 (by decide) (hX.2.2.2.2.1 _ q435) (fun _ h => h) rfl hn0 rfl rfl rfl rfl hd hK hw rfl rfl rfl (fun d tc j h => gz_sP_o d tc j h) (by intro j; rw [← gz_rfp hs]; exact gz_sP_v (fun j => ftC 5 j) rfl j) (fun h => h) kk
theorem Rcp_X5_15_5 {X : gz_X} {G : gz_G} {cc : ByteArray} {nL fr lo pc : Nat} {rem : Nat × Nat} {m m9 : gM} {lv : List (Nat × Value)} {st : List Value} (hX : gz_C cR X G cc nL RX5 fr lo) (hn0 : X.2.2.2.2.2.2.2.2.1.name = "<init>") {c : Nat} {r : Nat} (hK : clR m.1 m.2.1 m.2.2.2.2.1 → m.1 c = 5 + 1) (hw : 1000 ≤ c) (hs : r ≠ 0) (hd : decode cc pc = .ok (.putfield 15, 3)) (hm : m9 = gz_sP m c 4 r) (kk : gz_V cR X G nL rem m9 (pc + 3) lv st) : gz_V cR X G nL rem m pc lv (.ref (gz_ad G r) :: .ref (gz_ad G c) :: st) := by
  subst hm
  exact gz_putff hX (C := RX5) (T := TX5) (N := 10) (ci := 5) (k := 4) (μ' := gz_sP m c 4 r) (v := .ref (gz_ad G r)) rfl (by decide) in_X5 tyX5 tyX5_ok nmX5 (by decide) (hX.2.2.2.2.1 _ q426) (fun _ h => h) rfl hn0 rfl rfl rfl rfl hd hK hw rfl rfl rfl (fun d tc j h => gz_sP_o d tc j h) (by intro j; rw [← gz_rfp hs]; exact gz_sP_v (fun j => ftC 5 j) rfl j) (fun h => h) kk
theorem Rcp_X5_19_5 {X : gz_X} {G : gz_G} {cc : ByteArray} {nL fr lo pc : Nat} {rem : Nat × Nat} {m m9 : gM} {lv : List (Nat × Value)} {st : List Value} (hX : gz_C cR X G cc nL RX5 fr lo) (hn0 : X.2.2.2.2.2.2.2.2.1.name = "<init>") {c : Nat} {r : Nat} (hK : clR m.1 m.2.1 m.2.2.2.2.1 → m.1 c = 5 + 1) (hw : 1000 ≤ c) (hs : r ≠ 0) (hd : decode cc pc = .ok (.putfield 19, 3)) (hm : m9 = gz_sP m c 5 r) (kk : gz_V cR X G nL rem m9 (pc + 3) lv st) : gz_V cR X G nL rem m pc lv (.ref (gz_ad G r) :: .ref (gz_ad G c) :: st) := by
  subst hm
  exact gz_putff hX (C := RX5) (T := TX5) (N := 10) (ci := 5) (k := 5) (μ' := gz_sP m c 5 r) (v := .ref (gz_ad G r)) rfl (by decide) in_X5 tyX5 tyX5_ok nmX5 (by decide) (hX.2.2.2.2.1 _ q428) (fun _ h => h) rfl hn0 rfl rfl rfl rfl hd hK hw rfl rfl rfl (fun d tc j h => gz_sP_o d tc j h) (by intro j; rw [← gz_rfp hs]; exact gz_sP_v (fun j => ftC 5 j) rfl j) (fun h => h) kk
theorem Rcp_X5_22_5 {X : gz_X} {G : gz_G} {cc : ByteArray} {nL fr lo pc : Nat} {rem : Nat × Nat} {m m9 : gM} {lv : List (Nat × Value)} {st : List Value} (hX : gz_C cR X G cc nL RX5 fr lo) (hn0 : X.2.2.2.2.2.2.2.2.1.name = "<init>") {c : Nat} {r : Nat} (hK : clR m.1 m.2.1 m.2.2.2.2.1 → m.1 c = 5 + 1) (hw : 1000 ≤ c) (hs : r ≠ 0) (hd : decode cc pc = .ok (.putfield 22, 3)) (hm : m9 = gz_sP m c 6 r) (kk : gz_V cR X G nL rem m9 (pc + 3) lv st) : gz_V cR X G nL rem m pc lv (.ref (gz_ad G r) :: .ref (gz_ad G c) :: st) := by
  subst hm
  exact gz_putff hX (C := RX5) (T := TX5) (N := 10) (ci := 5) (k := 6) (μ' := gz_sP m c 6 r) (v := .ref (gz_ad G r)) rfl (by decide) in_X5 tyX5 tyX5_ok nmX5 (by decide) (hX.2.2.2.2.1 _ q429) (fun _ h => h) rfl hn0 rfl rfl rfl rfl hd hK hw rfl rfl rfl (fun d tc j h => gz_sP_o d tc j h) (by intro j; rw [← gz_rfp hs]; exact gz_sP_v (fun j => ftC 5 j) rfl j) (fun h => h) kk
theorem Rcp_X5_25_5 {X : gz_X} {G : gz_G} {cc : ByteArray} {nL fr lo pc : Nat} {rem : Nat × Nat} {m m9 : gM} {lv : List (Nat × Value)} {st : List Value} (hX : gz_C cR X G cc nL RX5 fr lo) (hn0 : X.2.2.2.2.2.2.2.2.1.name = "<init>") {c : Nat} {r : Nat} (hK : clR m.1 m.2.1 m.2.2.2.2.1 → m.1 c = 5 + 1) (hw : 1000 ≤ c) (hs : r ≠ 0) (hd : decode cc pc = .ok (.putfield 25, 3)) (hm : m9 = gz_sP m c 7 r) (kk : gz_V cR X G nL rem m9 (pc + 3) lv st) : gz_V cR X G nL rem m pc lv (.ref (gz_ad G r) :: .ref (gz_ad G c) :: st) := by
  subst hm
  exact gz_putff hX (C := RX5) (T := TX5) (N := 10) (ci := 5) (k := 7) (μ' := gz_sP m c 7 r) (v := .ref (gz_ad G r)) rfl (by decide) in_X5 tyX5 tyX5_ok nmX5 (by decide) (hX.2.2.2.2.1 _ q431) (fun _ h => h) rfl hn0 rfl rfl rfl rfl hd hK hw rfl rfl rfl (fun d tc j h => gz_sP_o d tc j h) (by intro j; rw [← gz_rfp hs]; exact gz_sP_v (fun j => ftC 5 j) rfl j) (fun h => h) kk
theorem Rcp_X5_30_5 {X : gz_X} {G : gz_G} {cc : ByteArray} {nL fr lo pc : Nat} {rem : Nat × Nat} {m m9 : gM} {lv : List (Nat × Value)} {st : List Value} (hX : gz_C cR X G cc nL RX5 fr lo) (hn0 : X.2.2.2.2.2.2.2.2.1.name = "<init>") {c : Nat} {r : Nat} (hK : clR m.1 m.2.1 m.2.2.2.2.1 → m.1 c = 5 + 1) (hw : 1000 ≤ c) (hs : r ≠ 0) (hd : decode cc pc = .ok (.putfield 30, 3)) (hm : m9 = gz_sP m c 8 r) (kk : gz_V cR X G nL rem m9 (pc + 3) lv st) : gz_V cR X G nL rem m pc lv (.ref (gz_ad G r) :: .ref (gz_ad G c) :: st) := by
  subst hm
  exact gz_putff hX (C := RX5) (T := TX5) (N := 10) (ci := 5) (k := 8) (μ' := gz_sP m c 8 r) (v := .ref (gz_ad G r)) rfl (by decide) in_X5 tyX5 tyX5_ok nmX5 (by decide) (hX.2.2.2.2.1 _ q433) (fun _ h => h) rfl hn0 rfl rfl rfl rfl hd hK hw rfl rfl rfl (fun d tc j h => gz_sP_o d tc j h) (by intro j; rw [← gz_rfp hs]; exact gz_sP_v (fun j => ftC 5 j) rfl j) (fun h => h) kk
/-! FirstSnuffer$State.<init>(LFirstSnuffer;)V -/
noncomputable def Rcf_X5_init (c0 : Nat) (c1 : Nat) (m : gM) : Option (Unit × gM) :=
  (if gK m c0 = 6 then (if 1000 ≤ c0 then (if c1 ≠ 0 then gz_let (gz_sP m c0 9 c1) fun m4 => (if 0 ≤ (8 : Int32) ∧ gz_ix (8 : Int32) * 4 ≤ 536870912 ∧ gZ m4 ≠ 0 then gz_let (gz_al m4 (0 + 101) (gz_ix (8 : Int32)) (gz_ix (8 : Int32))) fun m6 => (if gK m6 c0 = 6 then (if 1000 ≤ c0 then (if (gZ m4) ≠ 0 then gz_let (gz_sP m6 c0 4 (gZ m4)) fun m10 => (if 0 ≤ (8 : Int32) ∧ gz_ix (8 : Int32) * 4 ≤ 536870912 ∧ gZ m10 ≠ 0 then gz_let (gz_al m10 (0 + 101) (gz_ix (8 : Int32)) (gz_ix (8 : Int32))) fun m12 => (if gK m12 c0 = 6 then (if 1000 ≤ c0 then (if (gZ m10) ≠ 0 then gz_let (gz_sP m12 c0 5 (gZ m10)) fun m16 => (if 0 ≤ (8 : Int32) ∧ gz_ix (8 : Int32) * 4 ≤ 536870912 ∧ gZ m16 ≠ 0 then gz_let (gz_al m16 (0 + 101) (gz_ix (8 : Int32)) (gz_ix (8 : Int32))) fun m18 => (if gK m18 c0 = 6 then (if 1000 ≤ c0 then (if (gZ m16) ≠ 0 then gz_let (gz_sP m18 c0 6 (gZ m16)) fun m22 => (if 0 ≤ (8 : Int32) ∧ gz_ix (8 : Int32) * 4 ≤ 536870912 ∧ gZ m22 ≠ 0 then gz_let (gz_al m22 (0 + 101) (gz_ix (8 : Int32)) (gz_ix (8 : Int32))) fun m24 => (if gK m24 c0 = 6 then (if 1000 ≤ c0 then (if (gZ m22) ≠ 0 then gz_let (gz_sP m24 c0 7 (gZ m22)) fun m28 => (if gZ m28 ≠ 0 then gz_let (rk2 40 3 m28) fun m30 => (if gK m30 c0 = 6 then (if 1000 ≤ c0 then (if (gZ m28) ≠ 0 then gz_let (gz_sP m30 c0 8 (gZ m28)) fun m34 => some ((), m34) else none) else none) else none) else none) else none) else none) else none) else none) else none) else none) else none) else none) else none) else none) else none) else none) else none) else none) else none) else none) else none) else none) else none)
theorem Rwm_X5_init {X : gz_X} {G : gz_G} {zE : Nat × Nat} (hX : gz_C cR X G cX5_init 2 RX5 1 20) (hn0 : X.2.2.2.2.2.2.2.2.1.name = "<init>") {c0 : Nat} {c1 : Nat}  {m : gM} {z : (Unit × gM)} (h : Rcf_X5_init c0 c1 m = some z) (hk : (fun z : (Unit × gM) => gz_kVa cR X G 2 zE cX5_init z.2) z) : gz_Va cR X G 2 zE m 0 [(0, .ref (gz_ad G c0)), (1, .ref (gz_ad G c1))] [] := by
  unfold Rcf_X5_init at h
  refine gz_Vs (fun _ kk => gz_aload_n (pc := 0) hX dX5_init_0 rfl 0 rfl kk) rfl ?_
  refine gz_Vs (fun _ kk => gz_aload_n (pc := 1) hX dX5_init_1 rfl 1 rfl kk) rfl ?_
  obtain ⟨g1, h⟩ := gz_gu h
  obtain ⟨g2, h⟩ := gz_gu h
  obtain ⟨g3, h⟩ := gz_gu h
  obtain ⟨m4, em4, h⟩ := gz_lt h
  refine gz_Vs (fun _ kk => Rcp_X5_3_5 (pc := 2) hX hn0 (c := c0) (fun _ => g1) g2 g3 dX5_init_2 em4 kk) (by rw [em4]; rfl) ?_
  refine gz_Vs (fun _ kk => gz_aload_n (pc := 5) hX dX5_init_5 rfl 0 rfl kk) rfl ?_
  refine gz_Vs (fun _ kk => gz_objI (pc := 6) hX q416 q214 q215 ⟨Nat.le_of_ble_eq_true rfl, Nat.le_of_ble_eq_true rfl⟩ (Nat.le_of_ble_eq_true rfl) dX5_init_6 kk) rfl ?_
  refine gz_Vs (fun _ kk => gz_aload_n (pc := 9) hX dX5_init_9 rfl 0 rfl kk) rfl ?_
  refine gz_Vs (fun _ kk => gz_bipush (pc := 10) (v := (8 : Int32)) hX dX5_init_10 (by decide) kk) rfl ?_
  obtain ⟨g5, h⟩ := gz_gu h
  obtain ⟨m6, em6, h⟩ := gz_lt h
  refine gz_Vn (fun _ kk => gz_newa (pc := 12) (t := 0) (N := gz_ix (8 : Int32)) hX rfl rfl q457 rfl ⟨⟨g5.1, Nat.lt_succ_self _⟩, rfl⟩ g5.2.1 g5.2.2 (fun _ _ => trivial) dX5_init_12 em6 kk) em6 ?_
  obtain ⟨g7, h⟩ := gz_gu h
  obtain ⟨g8, h⟩ := gz_gu h
  obtain ⟨g9, h⟩ := gz_gu h
  obtain ⟨m10, em10, h⟩ := gz_lt h
  refine gz_Vs (fun _ kk => Rcp_X5_15_5 (pc := 14) hX hn0 (c := c0) (fun _ => g7) g8 g9 dX5_init_14 em10 kk) (by rw [em10]; rfl) ?_
  refine gz_Vs (fun _ kk => gz_aload_n (pc := 17) hX dX5_init_17 rfl 0 rfl kk) rfl ?_
  refine gz_Vs (fun _ kk => gz_bipush (pc := 18) (v := (8 : Int32)) hX dX5_init_18 (by decide) kk) rfl ?_
  obtain ⟨g11, h⟩ := gz_gu h
  obtain ⟨m12, em12, h⟩ := gz_lt h
  refine gz_Vn (fun _ kk => gz_newa (pc := 20) (t := 0) (N := gz_ix (8 : Int32)) hX rfl rfl q457 rfl ⟨⟨g11.1, Nat.lt_succ_self _⟩, rfl⟩ g11.2.1 g11.2.2 (fun _ _ => trivial) dX5_init_20 em12 kk) em12 ?_
  obtain ⟨g13, h⟩ := gz_gu h
  obtain ⟨g14, h⟩ := gz_gu h
  obtain ⟨g15, h⟩ := gz_gu h
  obtain ⟨m16, em16, h⟩ := gz_lt h
  refine gz_Vs (fun _ kk => Rcp_X5_19_5 (pc := 22) hX hn0 (c := c0) (fun _ => g13) g14 g15 dX5_init_22 em16 kk) (by rw [em16]; rfl) ?_
  refine gz_Vs (fun _ kk => gz_aload_n (pc := 25) hX dX5_init_25 rfl 0 rfl kk) rfl ?_
  refine gz_Vs (fun _ kk => gz_bipush (pc := 26) (v := (8 : Int32)) hX dX5_init_26 (by decide) kk) rfl ?_
  obtain ⟨g17, h⟩ := gz_gu h
  obtain ⟨m18, em18, h⟩ := gz_lt h
  refine gz_Vn (fun _ kk => gz_newa (pc := 28) (t := 0) (N := gz_ix (8 : Int32)) hX rfl rfl q457 rfl ⟨⟨g17.1, Nat.lt_succ_self _⟩, rfl⟩ g17.2.1 g17.2.2 (fun _ _ => trivial) dX5_init_28 em18 kk) em18 ?_
  obtain ⟨g19, h⟩ := gz_gu h
  obtain ⟨g20, h⟩ := gz_gu h
  obtain ⟨g21, h⟩ := gz_gu h
  obtain ⟨m22, em22, h⟩ := gz_lt h
  refine gz_Vs (fun _ kk => Rcp_X5_22_5 (pc := 30) hX hn0 (c := c0) (fun _ => g19) g20 g21 dX5_init_30 em22 kk) (by rw [em22]; rfl) ?_
  refine gz_Vs (fun _ kk => gz_aload_n (pc := 33) hX dX5_init_33 rfl 0 rfl kk) rfl ?_
  refine gz_Vs (fun _ kk => gz_bipush (pc := 34) (v := (8 : Int32)) hX dX5_init_34 (by decide) kk) rfl ?_
  obtain ⟨g23, h⟩ := gz_gu h
  obtain ⟨m24, em24, h⟩ := gz_lt h
  refine gz_Vn (fun _ kk => gz_newa (pc := 36) (t := 0) (N := gz_ix (8 : Int32)) hX rfl rfl q457 rfl ⟨⟨g23.1, Nat.lt_succ_self _⟩, rfl⟩ g23.2.1 g23.2.2 (fun _ _ => trivial) dX5_init_36 em24 kk) em24 ?_
  obtain ⟨g25, h⟩ := gz_gu h
  obtain ⟨g26, h⟩ := gz_gu h
  obtain ⟨g27, h⟩ := gz_gu h
  obtain ⟨m28, em28, h⟩ := gz_lt h
  refine gz_Vs (fun _ kk => Rcp_X5_25_5 (pc := 38) hX hn0 (c := c0) (fun _ => g25) g26 g27 dX5_init_38 em28 kk) (by rw [em28]; rfl) ?_
  refine gz_Vs (fun _ kk => gz_aload_n (pc := 41) hX dX5_init_41 rfl 0 rfl kk) rfl ?_
  refine gz_Vs (fun _ kk => gz_bipush (pc := 42) (v := (40 : Int32)) hX dX5_init_42 (by decide) kk) rfl ?_
  refine gz_Vs (fun _ kk => gz_iconst (pc := 44) (v := (3 : Int32)) hX dX5_init_44 (by decide) kk) rfl ?_
  obtain ⟨g29, h⟩ := gz_gu h
  obtain ⟨m30, em30, h⟩ := gz_lt h
  refine gz_Vc (k := 41) (n := 160) (fun _ kk => gz_multi2 (pc := 45) (t := 7) (f := rk2 40 3) (k := 41) (n := 160) hX q417 (rz_n7 hX) (rMk2 hX ⟨by decide, rfl⟩ ⟨by decide, rfl⟩) g29 dX5_init_45 em30 kk) ⟨by rw [em30]; exact (rk2_z 40 3 _).1, by rw [em30]; exact (rk2_z 40 3 _).2⟩ ?_
  obtain ⟨g31, h⟩ := gz_gu h
  obtain ⟨g32, h⟩ := gz_gu h
  obtain ⟨g33, h⟩ := gz_gu h
  obtain ⟨m34, em34, h⟩ := gz_lt h
  refine gz_Vs (fun _ kk => Rcp_X5_30_5 (pc := 49) hX hn0 (c := c0) (fun _ => g31) g32 g33 dX5_init_49 em34 kk) (by rw [em34]; rfl) ?_
  obtain rfl := Option.some.inj h
  exact hk _ _ dX5_init_52
theorem Rct_X5_init {G : gz_G} {l : Launch} {c0 : Nat} {c1 : Nat}  {m m9 : gM} (h : Rcf_X5_init c0 c1 m = some ((), m9)) : gz_Met cR G l yX5_init cX5_init 2 none (mRc 1 20 (gZ m9 - gZ m) (gW m9 - gW m)) [.ref (gz_ad G c0), .ref (gz_ad G c1)] m m9 none :=
  gz_ofVc (by decide +kernel) (Nat.le_of_ble_eq_true rfl) fun X _ hn hX hk => (Rwm_X5_init (zE := m9.2.2.2.2.2) hX hn h (fun pc lv hd => gz_Ve (hk pc lv hd))).2
/-! java/util/AbstractCollection.<init>()V -/
noncomputable def Rcf_J0_init (c0 : Nat) (m : gM) : Option (Unit × gM) :=
  some ((), m)
theorem Rwm_J0_init {X : gz_X} {G : gz_G} (hX : gz_C cR X G cJ0_init 1 RJ0 1 20) (hn0 : X.2.2.2.2.2.2.2.2.1.name = "<init>") {c0 : Nat}  {m : gM} {z : (Unit × gM)} (h : Rcf_J0_init c0 m = some z) (hk : (fun z : (Unit × gM) => gz_kV cR X G 1 (0, 0) cJ0_init z.2) z) : gz_V cR X G 1 (0, 0) m 0 [(0, .ref (gz_ad G c0))] [] := by
  unfold Rcf_J0_init at h
  refine gz_aload_n (pc := 0) hX dJ0_init_0 rfl 0 rfl ?_
  refine gz_objI (pc := 1) hX q233 q214 q215 ⟨Nat.le_of_ble_eq_true rfl, Nat.le_of_ble_eq_true rfl⟩ (Nat.le_of_ble_eq_true rfl) dJ0_init_1 ?_
  obtain rfl := Option.some.inj h
  exact hk _ _ dJ0_init_4
theorem Rct_J0_init {G : gz_G} {l : Launch} {c0 : Nat}  {m m9 : gM} (h : Rcf_J0_init c0 m = some ((), m9)) : gz_Met cR G l yJ0_init cJ0_init 1 none (mRm 1 20) [.ref (gz_ad G c0)] m m9 none :=
  gz_ofVc (by decide +kernel) (Nat.le_of_ble_eq_true rfl) fun X _ hn hX hk => Rwm_J0_init hX hn h hk
theorem Rcp_J3_7_3 {X : gz_X} {G : gz_G} {cc : ByteArray} {nL fr lo pc : Nat} {rem : Nat × Nat} {m m9 : gM} {lv : List (Nat × Value)} {st : List Value} (hX : gz_C cR X G cc nL RJ3 fr lo) {c : Nat} {r : Nat} (hK : clR m.1 m.2.1 m.2.2.2.2.1 → m.1 c = 3 + 1) (hw : 1000 ≤ c) (hs : r ≠ 0) (hd : decode cc pc = .ok (.putfield 7, 3)) (hm : m9 = gz_sP m c 0 r) (kk : gz_V cR X G nL rem m9 (pc + 3) lv st) : gz_V cR X G nL rem m pc lv (.ref (gz_ad G r) :: .ref (gz_ad G c) :: st) := by
  subst hm
  exact gz_putf hX (C := RX3) (T := TX3) (N := 8) (ci := 3) (k := 0) (μ' := gz_sP m c 0 r) (v := .ref (gz_ad G r)) rfl (by decide) in_X3 tyX3 tyX3_ok nmX3 (by decide) (Or.inl (hX.2.2.2.2.1 _ q354)) rfl rfl rfl rfl hd hK hw rfl rfl rfl (fun d tc j h => gz_sP_o d tc j h) (by intro j; rw [← gz_rfp hs]; exact gz_sP_v (fun j => ftC 3 j) rfl j) (fun h => h) kk
theorem Rcp_J3_17_3q {X : gz_X} {G : gz_G} {cc : ByteArray} {nL fr lo pc : Nat} {rem : Nat × Nat} {m m9 : gM} {lv : List (Nat × Value)} {st : List Value} (hX : gz_C cR X G cc nL RJ3 fr lo) {c : Nat} {r : Nat} (hK : clR m.1 m.2.1 m.2.2.2.2.1 → m.1 c = 3 + 1) (hw : 1000 ≤ c) (hd : decode cc pc = .ok (.putfield 17, 3)) (hm : m9 = gz_sP m c 1 r) (kk : gz_V cR X G nL rem m9 (pc + 3) lv st) : gz_V cR X G nL rem m pc lv (gz_rf (gz_ad G) r :: .ref (gz_ad G c) :: st) := by
  subst hm
  exact gz_putf hX (C := RX3) (T := TX3) (N := 8) (ci := 3) (k := 1) (μ' := gz_sP m c 1 r) (v := gz_rf (gz_ad G) r) rfl (by decide) in_X3 tyX3 tyX3_ok nmX3 (by decide) (Or.inl (hX.2.2.2.2.1 _ q355)) rfl rfl (by unfold gz_rf; split <;> rfl) (by unfold gz_rf; split <;> rfl) hd hK hw rfl rfl rfl (fun d tc j h => gz_sP_o d tc j h) (gz_sP_v (fun j => ftC 3 j) rfl) (fun h => h) kk
theorem Rcp_J3_24_3q {X : gz_X} {G : gz_G} {cc : ByteArray} {nL fr lo pc : Nat} {rem : Nat × Nat} {m m9 : gM} {lv : List (Nat × Value)} {st : List Value} (hX : gz_C cR X G cc nL RJ3 fr lo) {c : Nat} {r : Nat} (hK : clR m.1 m.2.1 m.2.2.2.2.1 → m.1 c = 3 + 1) (hw : 1000 ≤ c) (hd : decode cc pc = .ok (.putfield 24, 3)) (hm : m9 = gz_sP m c 2 r) (kk : gz_V cR X G nL rem m9 (pc + 3) lv st) : gz_V cR X G nL rem m pc lv (gz_rf (gz_ad G) r :: .ref (gz_ad G c) :: st) := by
  subst hm
  exact gz_putf hX (C := RX3) (T := TX3) (N := 8) (ci := 3) (k := 2) (μ' := gz_sP m c 2 r) (v := gz_rf (gz_ad G) r) rfl (by decide) in_X3 tyX3 tyX3_ok nmX3 (by decide) (Or.inl (hX.2.2.2.2.1 _ q356)) rfl rfl (by unfold gz_rf; split <;> rfl) (by unfold gz_rf; split <;> rfl) hd hK hw rfl rfl rfl (fun d tc j h => gz_sP_o d tc j h) (gz_sP_v (fun j => ftC 3 j) rfl) (fun h => h) kk
theorem Rcp_J3_17_3n {X : gz_X} {G : gz_G} {cc : ByteArray} {nL fr lo pc : Nat} {rem : Nat × Nat} {m m9 : gM} {lv : List (Nat × Value)} {st : List Value} (hX : gz_C cR X G cc nL RJ3 fr lo) {c : Nat} (hK : clR m.1 m.2.1 m.2.2.2.2.1 → m.1 c = 3 + 1) (hw : 1000 ≤ c) (hd : decode cc pc = .ok (.putfield 17, 3)) (hm : m9 = gz_sP m c 1 0) (kk : gz_V cR X G nL rem m9 (pc + 3) lv st) : gz_V cR X G nL rem m pc lv (.null :: .ref (gz_ad G c) :: st) := by
  subst hm
  exact gz_putf hX (C := RX3) (T := TX3) (N := 8) (ci := 3) (k := 1) (μ' := gz_sP m c 1 0) (v := .null) rfl (by decide) in_X3 tyX3 tyX3_ok nmX3 (by decide) (Or.inl (hX.2.2.2.2.1 _ q355)) rfl rfl rfl rfl hd hK hw rfl rfl rfl (fun d tc j h => gz_sP_o d tc j h) (gz_sP_v (fun j => ftC 3 j) rfl) (fun h => h) kk
theorem Rcp_J3_31_3n {X : gz_X} {G : gz_G} {cc : ByteArray} {nL fr lo pc : Nat} {rem : Nat × Nat} {m m9 : gM} {lv : List (Nat × Value)} {st : List Value} (hX : gz_C cR X G cc nL RJ3 fr lo) {c : Nat} (hK : clR m.1 m.2.1 m.2.2.2.2.1 → m.1 c = 3 + 1) (hw : 1000 ≤ c) (hd : decode cc pc = .ok (.putfield 31, 3)) (hm : m9 = gz_sP m c 3 0) (kk : gz_V cR X G nL rem m9 (pc + 3) lv st) : gz_V cR X G nL rem m pc lv (.null :: .ref (gz_ad G c) :: st) := by
  subst hm
  exact gz_putf hX (C := RX3) (T := TX3) (N := 8) (ci := 3) (k := 3) (μ' := gz_sP m c 3 0) (v := .null) rfl (by decide) in_X3 tyX3 tyX3_ok nmX3 (by decide) (Or.inl (hX.2.2.2.2.1 _ q353)) rfl rfl rfl rfl hd hK hw rfl rfl rfl (fun d tc j h => gz_sP_o d tc j h) (gz_sP_v (fun j => ftC 3 j) rfl) (fun h => h) kk
theorem Rcp_J3_7_3n {X : gz_X} {G : gz_G} {cc : ByteArray} {nL fr lo pc : Nat} {rem : Nat × Nat} {m m9 : gM} {lv : List (Nat × Value)} {st : List Value} (hX : gz_C cR X G cc nL RJ3 fr lo) {c : Nat} (hK : clR m.1 m.2.1 m.2.2.2.2.1 → m.1 c = 3 + 1) (hw : 1000 ≤ c) (hd : decode cc pc = .ok (.putfield 7, 3)) (hm : m9 = gz_sP m c 0 0) (kk : gz_V cR X G nL rem m9 (pc + 3) lv st) : gz_V cR X G nL rem m pc lv (.null :: .ref (gz_ad G c) :: st) := by
  subst hm
  exact gz_putf hX (C := RX3) (T := TX3) (N := 8) (ci := 3) (k := 0) (μ' := gz_sP m c 0 0) (v := .null) rfl (by decide) in_X3 tyX3 tyX3_ok nmX3 (by decide) (Or.inl (hX.2.2.2.2.1 _ q354)) rfl rfl rfl rfl hd hK hw rfl rfl rfl (fun d tc j h => gz_sP_o d tc j h) (gz_sP_v (fun j => ftC 3 j) rfl) (fun h => h) kk
theorem Rcp_J3_24_3n {X : gz_X} {G : gz_G} {cc : ByteArray} {nL fr lo pc : Nat} {rem : Nat × Nat} {m m9 : gM} {lv : List (Nat × Value)} {st : List Value} (hX : gz_C cR X G cc nL RJ3 fr lo) {c : Nat} (hK : clR m.1 m.2.1 m.2.2.2.2.1 → m.1 c = 3 + 1) (hw : 1000 ≤ c) (hd : decode cc pc = .ok (.putfield 24, 3)) (hm : m9 = gz_sP m c 2 0) (kk : gz_V cR X G nL rem m9 (pc + 3) lv st) : gz_V cR X G nL rem m pc lv (.null :: .ref (gz_ad G c) :: st) := by
  subst hm
  exact gz_putf hX (C := RX3) (T := TX3) (N := 8) (ci := 3) (k := 2) (μ' := gz_sP m c 2 0) (v := .null) rfl (by decide) in_X3 tyX3 tyX3_ok nmX3 (by decide) (Or.inl (hX.2.2.2.2.1 _ q356)) rfl rfl rfl rfl hd hK hw rfl rfl rfl (fun d tc j h => gz_sP_o d tc j h) (gz_sP_v (fun j => ftC 3 j) rfl) (fun h => h) kk
/-! java/lang/Throwable.<init>(Ljava/lang/String;Ljava/lang/Throwable;ZZ)V -/
noncomputable def Rmj_J3_init_2_41 (u1 u2 : Nat) (c0 : Nat) (x3 : Int32) (m : gM) : Option (Unit × gM) :=
  (if gK m c0 = 4 then (if 1000 ≤ c0 then gz_let (gz_sP m c0 3 0) fun m3 => (if gK m3 c0 = 4 then (if 1000 ≤ c0 then gz_let (gz_sP m3 c0 0 0) fun m6 => (if x3 = (0 : Int32) then (if gK m6 c0 = 4 then (if 1000 ≤ c0 then gz_let (gz_sP m6 c0 2 0) fun m10 => some ((), m10) else none) else none) else some ((), m6)) else none) else none) else none) else none)
theorem Rwb_J3_init_2_41 {X : gz_X} {G : gz_G} {u1 u2 : Nat} (hX : gz_C cR X G cJ3_init_2 5 RJ3 1 20) (hn0 : X.2.2.2.2.2.2.2.2.1.name = "<init>") (hu : u1 = gz_ad G 8 ∧ u2 = gz_ad G 9) {c0 : Nat} {x3 : Int32}  {m : gM} {z : (Unit × gM)} (h : Rmj_J3_init_2_41 u1 u2 c0 x3 m = some z) (hk : (fun z : (Unit × gM) => gz_kV cR X G 5 (0, 0) cJ3_init_2 z.2) z) : gz_V cR X G 5 (0, 0) m 41 [(0, .ref (gz_ad G c0)), (1, .null), (2, .null), (3, .int x3)] [] := by
  unfold Rmj_J3_init_2_41 at h
  refine gz_aload_n (pc := 41) hX dJ3_init_2_41 rfl 0 rfl ?_
  refine gz_aloadP_n (pc := 42) (r := 0) hX dJ3_init_2_42 rfl 1 rfl ?_
  obtain ⟨g1, h⟩ := gz_gu h
  obtain ⟨g2, h⟩ := gz_gu h
  obtain ⟨m3, em3, h⟩ := gz_lt h
  refine Rcp_J3_31_3n (pc := 43) hX (c := c0) (fun _ => g1) g2 dJ3_init_2_43 em3 ?_
  refine gz_aload_n (pc := 46) hX dJ3_init_2_46 rfl 0 rfl ?_
  refine gz_aloadP_n (pc := 47) (r := 0) hX dJ3_init_2_47 rfl 2 rfl ?_
  obtain ⟨g4, h⟩ := gz_gu h
  obtain ⟨g5, h⟩ := gz_gu h
  obtain ⟨m6, em6, h⟩ := gz_lt h
  refine Rcp_J3_7_3n (pc := 48) hX (c := c0) (fun _ => g4) g5 dJ3_init_2_48 em6 ?_
  refine gz_iload_n (pc := 51) hX dJ3_init_2_51 rfl 3 rfl ?_
  refine gz_if_ne (pc := 52) (tgt := 60) hX dJ3_init_2_52 (by decide) (fun g7 => ?_) (fun g7 => ?_)
  · replace h := gz_if' g7 h
    obtain rfl := Option.some.inj h
    exact hk _ _ dJ3_init_2_60
  · replace h := gz_it' g7 h
    refine gz_aload_n (pc := 55) hX dJ3_init_2_55 rfl 0 rfl ?_
    refine gz_null (pc := 56) hX dJ3_init_2_56 ?_
    obtain ⟨g8, h⟩ := gz_gu h
    obtain ⟨g9, h⟩ := gz_gu h
    obtain ⟨m10, em10, h⟩ := gz_lt h
    refine Rcp_J3_24_3n (pc := 57) hX (c := c0) (fun _ => g8) g9 dJ3_init_2_57 em10 ?_
    obtain rfl := Option.some.inj h
    exact hk _ _ dJ3_init_2_60
noncomputable def Rcf_J3_init_2 (u1 u2 : Nat) (c0 : Nat) (x3 : Int32) (x4 : Int32) (m : gM) : Option (Unit × gM) :=
  (if gK m c0 = 4 then (if 1000 ≤ c0 then (if c0 ≠ 0 then gz_let (gz_sP m c0 0 c0) fun m4 => (if gK m4 c0 = 4 then (if 1000 ≤ c0 then gz_let (gz_sP m4 c0 1 u1) fun m7 => (if gK m7 c0 = 4 then (if 1000 ≤ c0 then gz_let (gz_sP m7 c0 2 u2) fun m10 => (if x4 = (0 : Int32) then (if gK m10 c0 = 4 then (if 1000 ≤ c0 then gz_let (gz_sP m10 c0 1 0) fun m14 => (Rmj_J3_init_2_41 u1 u2 c0 x3 m14) else none) else none) else none) else none) else none) else none) else none) else none) else none) else none)
theorem Rwm_J3_init_2 {X : gz_X} {G : gz_G} {u1 u2 : Nat} (hX : gz_C cR X G cJ3_init_2 5 RJ3 1 20) (hn0 : X.2.2.2.2.2.2.2.2.1.name = "<init>") (hu : u1 = gz_ad G 8 ∧ u2 = gz_ad G 9) {c0 : Nat} {x3 : Int32} {x4 : Int32}  {m : gM} {z : (Unit × gM)} (h : Rcf_J3_init_2 u1 u2 c0 x3 x4 m = some z) (hk : (fun z : (Unit × gM) => gz_kV cR X G 5 (0, 0) cJ3_init_2 z.2) z) : gz_V cR X G 5 (0, 0) m 0 [(0, .ref (gz_ad G c0)), (1, .null), (2, .null), (3, .int x3), (4, .int x4)] [] := by
  unfold Rcf_J3_init_2 at h
  refine gz_aload_n (pc := 0) hX dJ3_init_2_0 rfl 0 rfl ?_
  refine gz_objI (pc := 1) hX q322 q214 q215 ⟨Nat.le_of_ble_eq_true rfl, Nat.le_of_ble_eq_true rfl⟩ (Nat.le_of_ble_eq_true rfl) dJ3_init_2_1 ?_
  refine gz_aload_n (pc := 4) hX dJ3_init_2_4 rfl 0 rfl ?_
  refine gz_aload_n (pc := 5) hX dJ3_init_2_5 rfl 0 rfl ?_
  obtain ⟨g1, h⟩ := gz_gu h
  obtain ⟨g2, h⟩ := gz_gu h
  obtain ⟨g3, h⟩ := gz_gu h
  obtain ⟨m4, em4, h⟩ := gz_lt h
  refine Rcp_J3_7_3 (pc := 6) hX (c := c0) (fun _ => g1) g2 g3 dJ3_init_2_6 em4 ?_
  refine gz_aload_n (pc := 9) hX dJ3_init_2_9 rfl 0 rfl ?_
  refine gz_gets (pc := 10) (v := gz_rf (gz_ad G) u1) hX (by rw [hu.1]; exact (rz_u hX).1) (Or.inl (hX.2.2.2.2.1 _ q323)) dJ3_init_2_10 ?_
  obtain ⟨g5, h⟩ := gz_gu h
  obtain ⟨g6, h⟩ := gz_gu h
  obtain ⟨m7, em7, h⟩ := gz_lt h
  refine Rcp_J3_17_3q (pc := 13) hX (c := c0) (fun _ => g5) g6 dJ3_init_2_13 em7 ?_
  refine gz_aload_n (pc := 16) hX dJ3_init_2_16 rfl 0 rfl ?_
  refine gz_gets (pc := 17) (v := gz_rf (gz_ad G) u2) hX (by rw [hu.2]; exact (rz_u hX).2) (Or.inl (hX.2.2.2.2.1 _ q325)) dJ3_init_2_17 ?_
  obtain ⟨g8, h⟩ := gz_gu h
  obtain ⟨g9, h⟩ := gz_gu h
  obtain ⟨m10, em10, h⟩ := gz_lt h
  refine Rcp_J3_24_3q (pc := 20) hX (c := c0) (fun _ => g8) g9 dJ3_init_2_20 em10 ?_
  refine gz_iload (pc := 23) hX dJ3_init_2_23 4 rfl ?_
  refine gz_if_eq (pc := 25) (tgt := 36) hX dJ3_init_2_25 (by decide) (fun g11 => ?_) (fun g11 => ?_)
  · replace h := gz_it' g11 h
    refine gz_aload_n (pc := 36) hX dJ3_init_2_36 rfl 0 rfl ?_
    refine gz_null (pc := 37) hX dJ3_init_2_37 ?_
    obtain ⟨g12, h⟩ := gz_gu h
    obtain ⟨g13, h⟩ := gz_gu h
    obtain ⟨m14, em14, h⟩ := gz_lt h
    refine Rcp_J3_17_3n (pc := 38) hX (c := c0) (fun _ => g12) g13 dJ3_init_2_38 em14 ?_
    refine gz_sub (lw := [(0, .ref (gz_ad G c0)), (1, .null), (2, .null), (3, .int x3)]) [0, 1, 2, 3] rfl ?_
    exact Rwb_J3_init_2_41 hX hn0 hu h hk
  · replace h := gz_if' g11 h
    refine gz_aload_n (pc := 28) hX dJ3_init_2_28 rfl 0 rfl ?_
    exact nomatch h
theorem Rct_J3_init_2 {G : gz_G} {l : Launch} {u1 u2 : Nat} {c0 : Nat} {x3 : Int32} {x4 : Int32} (hu : u1 = gz_ad G 8 ∧ u2 = gz_ad G 9)  {m m9 : gM} (h : Rcf_J3_init_2 u1 u2 c0 x3 x4 m = some ((), m9)) : gz_Met cR G l yJ3_init_2 cJ3_init_2 5 none (mRm 1 20) [.ref (gz_ad G c0), .null, .null, .int x3, .int x4] m m9 none :=
  gz_ofVc (by decide +kernel) (Nat.le_of_ble_eq_true rfl) fun X _ hn hX hk => Rwm_J3_init_2 hX hn hu h hk
/-! java/lang/Math.min(II)I -/
noncomputable def Rcf_J8_min (x0 : Int32) (x1 : Int32) (m : gM) : Option (Int32 × gM) :=
  (if x1 < x0 then some (x1, m) else some (x0, m))
theorem Rwm_J8_min {X : gz_X} {G : gz_G} (hX : gz_C cR X G cJ8_min 2 RJ8 0 0) {x0 : Int32} {x1 : Int32}  {m : gM} {z : (Int32 × gM)} (h : Rcf_J8_min x0 x1 m = some z) (hk : (fun z : (Int32 × gM) => gz_kI cR X G 2 (0, 0) cJ8_min z.2 z.1) z) : gz_V cR X G 2 (0, 0) m 0 [(0, .int x0), (1, .int x1)] [] := by
  unfold Rcf_J8_min at h
  refine gz_iload_n (pc := 0) hX dJ8_min_0 rfl 0 rfl ?_
  refine gz_iload_n (pc := 1) hX dJ8_min_1 rfl 1 rfl ?_
  refine gz_icmp_gt (pc := 2) (tgt := 9) hX dJ8_min_2 (by decide) (fun g1 => ?_) (fun g1 => ?_)
  · replace h := gz_it' g1 h
    refine gz_iload_n (pc := 9) hX dJ8_min_9 rfl 1 rfl ?_
    obtain rfl := Option.some.inj h
    exact hk _ _ dJ8_min_10
  · replace h := gz_if' g1 h
    refine gz_iload_n (pc := 5) hX dJ8_min_5 rfl 0 rfl ?_
    refine gz_goto (pc := 6) (tgt := 10) hX dJ8_min_6 (by decide) ?_
    obtain rfl := Option.some.inj h
    exact hk _ _ dJ8_min_10
theorem Rct_J8_min {G : gz_G} {l : Launch} {x0 : Int32} {x1 : Int32}  {m m9 : gM} {r : Int32} (h : Rcf_J8_min x0 x1 m = some (r, m9)) : gz_Met cR G l yJ8_min cJ8_min 2 (some .int) (mRm 0 0) [.int x0, .int x1] m m9 (some (.int r)) :=
  gz_ofI (by decide +kernel) (Nat.le_of_ble_eq_true rfl) fun X _ hX hk => Rwm_J8_min hX h hk
theorem Rcp_X4_7_4 {X : gz_X} {G : gz_G} {cc : ByteArray} {nL fr lo pc : Nat} {rem : Nat × Nat} {m m9 : gM} {lv : List (Nat × Value)} {st : List Value} (hX : gz_C cR X G cc nL RX4 fr lo) (hn0 : X.2.2.2.2.2.2.2.2.1.name = "<init>") {c : Nat} {r : Nat} (hK : clR m.1 m.2.1 m.2.2.2.2.1 → m.1 c = 4 + 1) (hw : 1000 ≤ c) (hs : r ≠ 0) (hd : decode cc pc = .ok (.putfield 7, 3)) (hm : m9 = gz_sP m c 0 r) (kk : gz_V cR X G nL rem m9 (pc + 3) lv st) : gz_V cR X G nL rem m pc lv (.ref (gz_ad G r) :: .ref (gz_ad G c) :: st) := by
  subst hm
  exact gz_putff hX (C := RX4) (T := TX4) (N := 1) (ci := 4) (k := 0) (μ' := gz_sP m c 0 r) (v := .ref (gz_ad G r)) rfl (by decide) in_X4 tyX4 tyX4_ok nmX4 (by decide) (hX.2.2.2.2.1 _ q401) (fun _ h => h) rfl hn0 rfl rfl rfl rfl hd hK hw rfl rfl rfl (fun d tc j h => gz_sP_o d tc j h) (by intro j; rw [← gz_rfp hs]; exact gz_sP_v (fun j => ftC 4 j) rfl j) (fun h => h) kk
/-! FirstSnuffer$Moment.<init>()V -/
noncomputable def Rcf_X4_init (c0 : Nat) (m : gM) : Option (Unit × gM) :=
  (if 0 ≤ (7 : Int32) ∧ gz_ix (7 : Int32) * 8 ≤ 536870912 ∧ gZ m ≠ 0 then gz_let (gz_al m (4 + 101) (gz_ix (7 : Int32)) (gz_ix (7 : Int32))) fun m2 => (if gK m2 c0 = 5 then (if 1000 ≤ c0 then (if (gZ m) ≠ 0 then gz_let (gz_sP m2 c0 0 (gZ m)) fun m6 => some ((), m6) else none) else none) else none) else none)
theorem Rwm_X4_init {X : gz_X} {G : gz_G} {zE : Nat × Nat} (hX : gz_C cR X G cX4_init 1 RX4 1 20) (hn0 : X.2.2.2.2.2.2.2.2.1.name = "<init>") {c0 : Nat}  {m : gM} {z : (Unit × gM)} (h : Rcf_X4_init c0 m = some z) (hk : (fun z : (Unit × gM) => gz_kVa cR X G 1 zE cX4_init z.2) z) : gz_Va cR X G 1 zE m 0 [(0, .ref (gz_ad G c0))] [] := by
  unfold Rcf_X4_init at h
  refine gz_Vs (fun _ kk => gz_aload_n (pc := 0) hX dX4_init_0 rfl 0 rfl kk) rfl ?_
  refine gz_Vs (fun _ kk => gz_objI (pc := 1) hX q400 q214 q215 ⟨Nat.le_of_ble_eq_true rfl, Nat.le_of_ble_eq_true rfl⟩ (Nat.le_of_ble_eq_true rfl) dX4_init_1 kk) rfl ?_
  refine gz_Vs (fun _ kk => gz_aload_n (pc := 4) hX dX4_init_4 rfl 0 rfl kk) rfl ?_
  refine gz_Vs (fun _ kk => gz_bipush (pc := 5) (v := (7 : Int32)) hX dX4_init_5 (by decide) kk) rfl ?_
  obtain ⟨g1, h⟩ := gz_gu h
  obtain ⟨m2, em2, h⟩ := gz_lt h
  refine gz_Vn (fun _ kk => gz_newa (pc := 7) (t := 4) (N := gz_ix (7 : Int32)) hX rfl rfl q408 rfl ⟨⟨g1.1, Nat.lt_succ_self _⟩, rfl⟩ g1.2.1 g1.2.2 (fun _ _ => trivial) dX4_init_7 em2 kk) em2 ?_
  obtain ⟨g3, h⟩ := gz_gu h
  obtain ⟨g4, h⟩ := gz_gu h
  obtain ⟨g5, h⟩ := gz_gu h
  obtain ⟨m6, em6, h⟩ := gz_lt h
  refine gz_Vs (fun _ kk => Rcp_X4_7_4 (pc := 9) hX hn0 (c := c0) (fun _ => g3) g4 g5 dX4_init_9 em6 kk) (by rw [em6]; rfl) ?_
  obtain rfl := Option.some.inj h
  exact hk _ _ dX4_init_12
theorem Rct_X4_init {G : gz_G} {l : Launch} {c0 : Nat}  {m m9 : gM} (h : Rcf_X4_init c0 m = some ((), m9)) : gz_Met cR G l yX4_init cX4_init 1 none (mRc 1 20 (gZ m9 - gZ m) (gW m9 - gW m)) [.ref (gz_ad G c0)] m m9 none :=
  gz_ofVc (by decide +kernel) (Nat.le_of_ble_eq_true rfl) fun X _ hn hX hk => (Rwm_X4_init (zE := m9.2.2.2.2.2) hX hn h (fun pc lv hd => gz_Ve (hk pc lv hd))).2
theorem Rcc_J4_16 {X : gz_X} {G : gz_G} {cc : ByteArray} {nL fr lo pc : Nat} {rem : Nat × Nat} {lv : List (Nat × Value)} {rest st0 : List Value} (hX : gz_C cR X G cc nL RJ4 fr lo) {u1 u2 : Nat} {c0 : Nat} {x3 : Int32} {x4 : Int32} {m m9 : gM} (hu : u1 = gz_ad G 8 ∧ u2 = gz_ad G 9)  (h : Rcf_J3_init_2 u1 u2 c0 x3 x4 m = some ((), m9)) (hroom : 1 + 1 ≤ fr ∧ 8 + (5 + 11) + 20 ≤ lo) (hst : st0 = [.int x4, .int x3, .null, .null, .ref (gz_ad G c0)] ++ rest) (hW : (rest.map fun v => v.category).sum ≤ 8) (hd : decode cc pc = .ok (.invokespecial 16, 3)) (kk : gz_V cR X G nL rem m9 (pc + 3) lv (rest)) : gz_V cR X G nL rem m pc lv st0 :=
  gz_callI hX Rcs_E (As := [.null, .null, .int x3, .int x4]) (rest := rest) (c := c0) (Rct_J3_init_2 (l := X.2.1) hu h) q347 q173 q345 q346 rfl (n := 4) (by decide +kernel) hroom rfl hst hW hd (rem := rem) kk
/-! java/lang/Exception.<init>(Ljava/lang/String;Ljava/lang/Throwable;ZZ)V -/
noncomputable def Rcf_J4_init (u1 u2 : Nat) (c0 : Nat) (x3 : Int32) (x4 : Int32) (m : gM) : Option (Unit × gM) :=
  ((Rcf_J3_init_2 u1 u2 c0 x3 x4 m).bind fun (_, m2) => some ((), m2))
theorem Rwm_J4_init {X : gz_X} {G : gz_G} {u1 u2 : Nat} (hX : gz_C cR X G cJ4_init 5 RJ4 2 44) (hn0 : X.2.2.2.2.2.2.2.2.1.name = "<init>") (hu : u1 = gz_ad G 8 ∧ u2 = gz_ad G 9) {c0 : Nat} {x3 : Int32} {x4 : Int32}  {m : gM} {z : (Unit × gM)} (h : Rcf_J4_init u1 u2 c0 x3 x4 m = some z) (hk : (fun z : (Unit × gM) => gz_kV cR X G 5 (0, 0) cJ4_init z.2) z) : gz_V cR X G 5 (0, 0) m 0 [(0, .ref (gz_ad G c0)), (1, .null), (2, .null), (3, .int x3), (4, .int x4)] [] := by
  unfold Rcf_J4_init at h
  refine gz_aload_n (pc := 0) hX dJ4_init_0 rfl 0 rfl ?_
  refine gz_aloadP_n (pc := 1) (r := 0) hX dJ4_init_1 rfl 1 rfl ?_
  refine gz_aloadP_n (pc := 2) (r := 0) hX dJ4_init_2 rfl 2 rfl ?_
  refine gz_iload_n (pc := 3) hX dJ4_init_3 rfl 3 rfl ?_
  refine gz_iload (pc := 4) hX dJ4_init_4 4 rfl ?_
  obtain ⟨⟨⟨⟩, m2⟩, c3, h⟩ := gz_bd h
  refine Rcc_J4_16 (pc := 6) hX hu c3 ⟨Nat.le_of_ble_eq_true rfl, Nat.le_of_ble_eq_true rfl⟩ (rest := []) rfl (Nat.le_of_ble_eq_true rfl) dJ4_init_6 ?_
  obtain rfl := Option.some.inj h
  exact hk _ _ dJ4_init_9
theorem Rct_J4_init {G : gz_G} {l : Launch} {u1 u2 : Nat} {c0 : Nat} {x3 : Int32} {x4 : Int32} (hu : u1 = gz_ad G 8 ∧ u2 = gz_ad G 9)  {m m9 : gM} (h : Rcf_J4_init u1 u2 c0 x3 x4 m = some ((), m9)) : gz_Met cR G l yJ4_init cJ4_init 5 none (mRm 2 44) [.ref (gz_ad G c0), .null, .null, .int x3, .int x4] m m9 none :=
  gz_ofVc (by decide +kernel) (Nat.le_of_ble_eq_true rfl) fun X _ hn hX hk => Rwm_J4_init hX hn hu h hk
/-! jdk/internal/util/Preconditions.checkIndex(IILjava/util/function/BiFunction;)I -/
noncomputable def Rcf_J7_checkIndex (x0 : Int32) (x1 : Int32) (m : gM) : Option (Int32 × gM) :=
  (if x0 < (0 : Int32) then none else (if x0 < x1 then some (x0, m) else none))
theorem Rwm_J7_checkIndex {X : gz_X} {G : gz_G} (hX : gz_C cR X G cJ7_checkIndex 3 RJ7 0 0) {x0 : Int32} {x1 : Int32} {w2 : Value}  {m : gM} {z : (Int32 × gM)} (h : Rcf_J7_checkIndex x0 x1 m = some z) (hk : (fun z : (Int32 × gM) => gz_kI cR X G 3 (0, 0) cJ7_checkIndex z.2 z.1) z) : gz_V cR X G 3 (0, 0) m 0 [(0, .int x0), (1, .int x1), (2, w2)] [] := by
  unfold Rcf_J7_checkIndex at h
  refine gz_iload_n (pc := 0) hX dJ7_checkIndex_0 rfl 0 rfl ?_
  refine gz_if_lt (pc := 1) (tgt := 9) hX dJ7_checkIndex_1 (by decide) (fun g1 => ?_) (fun g1 => ?_)
  · replace h := gz_it' g1 h
    exact nomatch h
  · replace h := gz_if' g1 h
    refine gz_iload_n (pc := 4) hX dJ7_checkIndex_4 rfl 0 rfl ?_
    refine gz_iload_n (pc := 5) hX dJ7_checkIndex_5 rfl 1 rfl ?_
    refine gz_icmp_lt (pc := 6) (tgt := 16) hX dJ7_checkIndex_6 (by decide) (fun g2 => ?_) (fun g2 => ?_)
    · replace h := gz_it' g2 h
      refine gz_iload_n (pc := 16) hX dJ7_checkIndex_16 rfl 0 rfl ?_
      obtain rfl := Option.some.inj h
      exact hk _ _ dJ7_checkIndex_17
    · replace h := gz_if' g2 h
      exact nomatch h
theorem Rct_J7_checkIndex {G : gz_G} {l : Launch} {x0 : Int32} {x1 : Int32} {w2 : Value}  (hw2 : w2 = .null ∨ ∃ a, w2 = .ref a) {m m9 : gM} {r : Int32} (h : Rcf_J7_checkIndex x0 x1 m = some (r, m9)) : gz_Met cR G l yJ7_checkIndex cJ7_checkIndex 3 (some .int) (mRm 0 0) [.int x0, .int x1, w2] m m9 (some (.int r)) := by
  rcases hw2 with rfl | ⟨_, rfl⟩ <;> exact gz_ofI (by decide +kernel) (Nat.le_of_ble_eq_true rfl) fun X _ hX hk => Rwm_J7_checkIndex hX h hk
theorem Rcg_J2_48_20 {X : gz_X} {G : gz_G} {cc : ByteArray} {nL fr lo pc : Nat} {rem : Nat × Nat} {m : gM} {lv : List (Nat × Value)} {st : List Value} (hX : gz_C cR X G cc nL RJ2 fr lo) {c : Nat} {v : Value} (hK : clR m.1 m.2.1 m.2.2.2.2.1 → m.1 c = 20 + 1) (hv : clR m.1 m.2.1 m.2.2.2.2.1 → gz_u (gz_ad G) m (ftC 20 2) c 2 = v) (hd : decode cc pc = .ok (.getfield 48, 3)) (kk : gz_V cR X G nL rem m (pc + 3) lv (v :: st)) : gz_V cR X G nL rem m pc lv (.ref (gz_ad G c) :: st) :=
  gz_getf hX (C := RJ2) (T := TJ2) (N := 3) (ci := 20) (k := 2) rfl (by decide) in_J2 (by decide) (Or.inl (hX.2.2.2.2.1 _ q239)) hd hK hv kk
/-! java/util/ArrayList.size()I -/
noncomputable def Rcf_J2_size (c0 : Nat) (m : gM) : Option (Int32 × gM) :=
  (if gK m c0 = 21 then some ((gI m c0 2), m) else none)
theorem Rwm_J2_size {X : gz_X} {G : gz_G} (hX : gz_C cR X G cJ2_size 1 RJ2 0 0) {c0 : Nat}  {m : gM} {z : (Int32 × gM)} (h : Rcf_J2_size c0 m = some z) (hk : (fun z : (Int32 × gM) => gz_kI cR X G 1 (0, 0) cJ2_size z.2 z.1) z) : gz_V cR X G 1 (0, 0) m 0 [(0, .ref (gz_ad G c0))] [] := by
  unfold Rcf_J2_size at h
  refine gz_aload_n (pc := 0) hX dJ2_size_0 rfl 0 rfl ?_
  obtain ⟨g1, h⟩ := gz_gu h
  refine Rcg_J2_48_20 (pc := 1) hX (c := c0) (v := .int (gI m c0 2)) (fun _ => g1) (fun _ => rfl) dJ2_size_1 ?_
  obtain rfl := Option.some.inj h
  exact hk _ _ dJ2_size_4
theorem Rct_J2_size {G : gz_G} {l : Launch} {c0 : Nat}  {m m9 : gM} {r : Int32} (h : Rcf_J2_size c0 m = some (r, m9)) : gz_Met cR G l yJ2_size cJ2_size 1 (some .int) (mRm 0 0) [.ref (gz_ad G c0)] m m9 (some (.int r)) :=
  gz_ofI (by decide +kernel) (Nat.le_of_ble_eq_true rfl) fun X _ hX hk => Rwm_J2_size hX h hk
theorem Rcg_J2_9_20 {X : gz_X} {G : gz_G} {cc : ByteArray} {nL fr lo pc : Nat} {rem : Nat × Nat} {m : gM} {lv : List (Nat × Value)} {st : List Value} (hX : gz_C cR X G cc nL RJ2 fr lo) {c : Nat} {v : Value} (hK : clR m.1 m.2.1 m.2.2.2.2.1 → m.1 c = 20 + 1) (hv : clR m.1 m.2.1 m.2.2.2.2.1 → gz_u (gz_ad G) m (ftC 20 1) c 1 = v) (hd : decode cc pc = .ok (.getfield 9, 3)) (kk : gz_V cR X G nL rem m (pc + 3) lv (v :: st)) : gz_V cR X G nL rem m pc lv (.ref (gz_ad G c) :: st) :=
  gz_getf hX (C := RJ2) (T := TJ2) (N := 3) (ci := 20) (k := 1) rfl (by decide) in_J2 (by decide) (Or.inl (hX.2.2.2.2.1 _ q238)) hd hK hv kk
/-! java/util/ArrayList.elementData(I)Ljava/lang/Object; -/
noncomputable def Rcf_J2_elementData (c0 : Nat) (x1 : Int32) (m : gM) : Option (Nat × gM) :=
  (if gK m c0 = 21 then gz_let (gP m c0 1) fun r2 => (if r2 ≠ 0 then (if gK m r2 = 106 then (if gz_in x1 (gN m r2) then gz_let (gP m r2 (gz_ix x1)) fun r6 => (if r6 ≠ 0 then some (r6, m) else none) else none) else none) else none) else none)
theorem Rwm_J2_elementData {X : gz_X} {G : gz_G} (hX : gz_C cR X G cJ2_elementData 2 RJ2 0 0) {c0 : Nat} {x1 : Int32}  {m : gM} {z : (Nat × gM)} (h : Rcf_J2_elementData c0 x1 m = some z) (hk : (fun z : (Nat × gM) => gz_kR cR X G 2 (0, 0) cJ2_elementData z.2 z.1) z) : gz_V cR X G 2 (0, 0) m 0 [(0, .ref (gz_ad G c0)), (1, .int x1)] [] := by
  unfold Rcf_J2_elementData at h
  refine gz_aload_n (pc := 0) hX dJ2_elementData_0 rfl 0 rfl ?_
  obtain ⟨g1, h⟩ := gz_gu h
  obtain ⟨r2, er2, h⟩ := gz_lt h
  obtain ⟨g3, h⟩ := gz_gu h
  refine Rcg_J2_9_20 (pc := 1) hX (c := c0) (v := .ref (gz_ad G r2)) (fun _ => g1) (fun _ => gz_rq er2 g3) dJ2_elementData_1 ?_
  refine gz_iload_n (pc := 4) hX dJ2_elementData_4 rfl 1 rfl ?_
  obtain ⟨g4, h⟩ := gz_gu h
  obtain ⟨g5, h⟩ := gz_gu h
  obtain ⟨r6, er6, h⟩ := gz_lt h
  obtain ⟨g7, h⟩ := gz_gu h
  refine gz_aald (pc := 5) (c := r2) (t := 5) (n := gN m r2) hX rfl rfl rfl (v := .ref (gz_ad G r6)) (fun _ => ⟨g4, rfl⟩) g5 (fun _ => gz_rq er6 g7) dJ2_elementData_5 ?_
  obtain rfl := Option.some.inj h
  exact hk _ _ dJ2_elementData_6
theorem Rct_J2_elementData {G : gz_G} {l : Launch} {c0 : Nat} {x1 : Int32}  {m m9 : gM} {r : Nat} (h : Rcf_J2_elementData c0 x1 m = some (r, m9)) : gz_Met cR G l yJ2_elementData cJ2_elementData 2 (some (.object "java/lang/Object")) (mRm 0 0) [.ref (gz_ad G c0), .int x1] m m9 (some (.ref (gz_ad G r))) :=
  gz_ofR (Or.inl ⟨_, rfl⟩) (by decide +kernel) (Nat.le_of_ble_eq_true rfl) fun X _ hX hk => Rwm_J2_elementData hX h hk
theorem Rcc_J6_105 {X : gz_X} {G : gz_G} {cc : ByteArray} {nL fr lo pc : Nat} {rem : Nat × Nat} {lv : List (Nat × Value)} {rest st0 : List Value} (hX : gz_C cR X G cc nL RJ6 fr lo) {x0 : Int32} {x1 : Int32} {w2 : Value} {m m9 : gM}  (hw2 : w2 = .null ∨ ∃ a, w2 = .ref a) {r : Int32} (h : Rcf_J7_checkIndex x0 x1 m = some (r, m9)) (hroom : 0 + 1 ≤ fr ∧ 8 + (3 + 11) + 0 ≤ lo) (hst : st0 = [w2, .int x1, .int x0] ++ rest) (hW : (rest.map fun v => v.category).sum ≤ 8) (hd : decode cc pc = .ok (.invokestatic 105, 3)) (kk : gz_V cR X G nL rem m9 (pc + 3) lv (.int r :: rest)) : gz_V cR X G nL rem m pc lv st0 :=
  gz_callS hX Rcs_E (As := [.int x0, .int x1, w2]) (rest := rest) (Rct_J7_checkIndex (l := X.2.1) hw2 h) (lw_S q485 q486 q180 q487) (n := 3) (by decide +kernel) hroom rfl hst hW hd (rem := rem) kk
/-! java/util/Objects.checkIndex(II)I -/
noncomputable def Rcf_J6_checkIndex (x0 : Int32) (x1 : Int32) (m : gM) : Option (Int32 × gM) :=
  ((Rcf_J7_checkIndex x0 x1 m).bind fun (r1, m2) => some (r1, m2))
theorem Rwm_J6_checkIndex {X : gz_X} {G : gz_G} (hX : gz_C cR X G cJ6_checkIndex 2 RJ6 1 22) {x0 : Int32} {x1 : Int32}  {m : gM} {z : (Int32 × gM)} (h : Rcf_J6_checkIndex x0 x1 m = some z) (hk : (fun z : (Int32 × gM) => gz_kI cR X G 2 (0, 0) cJ6_checkIndex z.2 z.1) z) : gz_V cR X G 2 (0, 0) m 0 [(0, .int x0), (1, .int x1)] [] := by
  unfold Rcf_J6_checkIndex at h
  refine gz_iload_n (pc := 0) hX dJ6_checkIndex_0 rfl 0 rfl ?_
  refine gz_iload_n (pc := 1) hX dJ6_checkIndex_1 rfl 1 rfl ?_
  refine gz_null (pc := 2) hX dJ6_checkIndex_2 ?_
  obtain ⟨⟨r1, m2⟩, c3, h⟩ := gz_bd h
  refine Rcc_J6_105 (pc := 3) hX (Or.inl rfl) c3 ⟨Nat.le_of_ble_eq_true rfl, Nat.le_of_ble_eq_true rfl⟩ (rest := []) rfl (Nat.le_of_ble_eq_true rfl) dJ6_checkIndex_3 ?_
  obtain rfl := Option.some.inj h
  exact hk _ _ dJ6_checkIndex_6
theorem Rct_J6_checkIndex {G : gz_G} {l : Launch} {x0 : Int32} {x1 : Int32}  {m m9 : gM} {r : Int32} (h : Rcf_J6_checkIndex x0 x1 m = some (r, m9)) : gz_Met cR G l yJ6_checkIndex cJ6_checkIndex 2 (some .int) (mRm 1 22) [.int x0, .int x1] m m9 (some (.int r)) :=
  gz_ofI (by decide +kernel) (Nat.le_of_ble_eq_true rfl) fun X _ hX hk => Rwm_J6_checkIndex hX h hk
theorem Rcc_J5_16 {X : gz_X} {G : gz_G} {cc : ByteArray} {nL fr lo pc : Nat} {rem : Nat × Nat} {lv : List (Nat × Value)} {rest st0 : List Value} (hX : gz_C cR X G cc nL RJ5 fr lo) {u1 u2 : Nat} {c0 : Nat} {x3 : Int32} {x4 : Int32} {m m9 : gM} (hu : u1 = gz_ad G 8 ∧ u2 = gz_ad G 9)  (h : Rcf_J4_init u1 u2 c0 x3 x4 m = some ((), m9)) (hroom : 2 + 1 ≤ fr ∧ 8 + (5 + 11) + 44 ≤ lo) (hst : st0 = [.int x4, .int x3, .null, .null, .ref (gz_ad G c0)] ++ rest) (hW : (rest.map fun v => v.category).sum ≤ 8) (hd : decode cc pc = .ok (.invokespecial 16, 3)) (kk : gz_V cR X G nL rem m9 (pc + 3) lv (rest)) : gz_V cR X G nL rem m pc lv st0 :=
  gz_callI hX Rcs_E (As := [.null, .null, .int x3, .int x4]) (rest := rest) (c := c0) (Rct_J4_init (l := X.2.1) hu h) q344 q174 q342 q343 rfl (n := 4) (by decide +kernel) hroom rfl hst hW hd (rem := rem) kk
/-! java/lang/RuntimeException.<init>(Ljava/lang/String;Ljava/lang/Throwable;ZZ)V -/
noncomputable def Rcf_J5_init (u1 u2 : Nat) (c0 : Nat) (x3 : Int32) (x4 : Int32) (m : gM) : Option (Unit × gM) :=
  ((Rcf_J4_init u1 u2 c0 x3 x4 m).bind fun (_, m2) => some ((), m2))
theorem Rwm_J5_init {X : gz_X} {G : gz_G} {u1 u2 : Nat} (hX : gz_C cR X G cJ5_init 5 RJ5 3 68) (hn0 : X.2.2.2.2.2.2.2.2.1.name = "<init>") (hu : u1 = gz_ad G 8 ∧ u2 = gz_ad G 9) {c0 : Nat} {x3 : Int32} {x4 : Int32}  {m : gM} {z : (Unit × gM)} (h : Rcf_J5_init u1 u2 c0 x3 x4 m = some z) (hk : (fun z : (Unit × gM) => gz_kV cR X G 5 (0, 0) cJ5_init z.2) z) : gz_V cR X G 5 (0, 0) m 0 [(0, .ref (gz_ad G c0)), (1, .null), (2, .null), (3, .int x3), (4, .int x4)] [] := by
  unfold Rcf_J5_init at h
  refine gz_aload_n (pc := 0) hX dJ5_init_0 rfl 0 rfl ?_
  refine gz_aloadP_n (pc := 1) (r := 0) hX dJ5_init_1 rfl 1 rfl ?_
  refine gz_aloadP_n (pc := 2) (r := 0) hX dJ5_init_2 rfl 2 rfl ?_
  refine gz_iload_n (pc := 3) hX dJ5_init_3 rfl 3 rfl ?_
  refine gz_iload (pc := 4) hX dJ5_init_4 4 rfl ?_
  obtain ⟨⟨⟨⟩, m2⟩, c3, h⟩ := gz_bd h
  refine Rcc_J5_16 (pc := 6) hX hu c3 ⟨Nat.le_of_ble_eq_true rfl, Nat.le_of_ble_eq_true rfl⟩ (rest := []) rfl (Nat.le_of_ble_eq_true rfl) dJ5_init_6 ?_
  obtain rfl := Option.some.inj h
  exact hk _ _ dJ5_init_9
theorem Rct_J5_init {G : gz_G} {l : Launch} {u1 u2 : Nat} {c0 : Nat} {x3 : Int32} {x4 : Int32} (hu : u1 = gz_ad G 8 ∧ u2 = gz_ad G 9)  {m m9 : gM} (h : Rcf_J5_init u1 u2 c0 x3 x4 m = some ((), m9)) : gz_Met cR G l yJ5_init cJ5_init 5 none (mRm 3 68) [.ref (gz_ad G c0), .null, .null, .int x3, .int x4] m m9 none :=
  gz_ofVc (by decide +kernel) (Nat.le_of_ble_eq_true rfl) fun X _ hn hX hk => Rwm_J5_init hX hn hu h hk
theorem Rcc_J1_1 {X : gz_X} {G : gz_G} {cc : ByteArray} {nL fr lo pc : Nat} {rem : Nat × Nat} {lv : List (Nat × Value)} {rest st0 : List Value} (hX : gz_C cR X G cc nL RJ1 fr lo) {c0 : Nat} {m m9 : gM}  (h : Rcf_J0_init c0 m = some ((), m9)) (hroom : 1 + 1 ≤ fr ∧ 8 + (1 + 11) + 20 ≤ lo) (hst : st0 = [.ref (gz_ad G c0)] ++ rest) (hW : (rest.map fun v => v.category).sum ≤ 8) (hd : decode cc pc = .ok (.invokespecial 1, 3)) (kk : gz_V cR X G nL rem m9 (pc + 3) lv (rest)) : gz_V cR X G nL rem m pc lv st0 :=
  gz_callI hX Rcs_E (As := []) (rest := rest) (c := c0) (Rct_J0_init (l := X.2.1) h) q232 q169 q230 q231 rfl (n := 0) (by decide +kernel) hroom rfl hst hW hd (rem := rem) kk
theorem Rcp_J1_7_20 {X : gz_X} {G : gz_G} {cc : ByteArray} {nL fr lo pc : Nat} {rem : Nat × Nat} {m m9 : gM} {lv : List (Nat × Value)} {st : List Value} (hX : gz_C cR X G cc nL RJ1 fr lo) {c : Nat} {x : Int32} (hK : clR m.1 m.2.1 m.2.2.2.2.1 → m.1 c = 20 + 1) (hw : 1000 ≤ c) (hd : decode cc pc = .ok (.putfield 7, 3)) (hm : m9 = gz_sI m c 0 x) (kk : gz_V cR X G nL rem m9 (pc + 3) lv st) : gz_V cR X G nL rem m pc lv (.int x :: .ref (gz_ad G c) :: st) := by
  subst hm
  exact gz_putf hX (C := RJ2) (T := TJ2) (N := 3) (ci := 20) (k := 0) (ty := .int) (μ' := gz_sI m c 0 x) rfl (by decide) in_J2 tyJ2 tyJ2_ok nmJ2 (by decide) (Or.inl (hX.2.2.2.2.1 _ q240)) rfl rfl rfl rfl hd hK hw rfl rfl rfl (fun d tc j h => gz_sI_o d tc j h) (gz_sI_v (fun j => ftC 20 j) rfl) (fun h => h) kk
/-! java/util/AbstractList.<init>()V -/
noncomputable def Rcf_J1_init (c0 : Nat) (m : gM) : Option (Unit × gM) :=
  ((Rcf_J0_init c0 m).bind fun (_, m2) => (if gK m2 c0 = 21 then (if 1000 ≤ c0 then gz_let (gz_sI m2 c0 0 (0 : Int32)) fun m6 => some ((), m6) else none) else none))
theorem Rwm_J1_init {X : gz_X} {G : gz_G} (hX : gz_C cR X G cJ1_init 1 RJ1 2 40) (hn0 : X.2.2.2.2.2.2.2.2.1.name = "<init>") {c0 : Nat}  {m : gM} {z : (Unit × gM)} (h : Rcf_J1_init c0 m = some z) (hk : (fun z : (Unit × gM) => gz_kV cR X G 1 (0, 0) cJ1_init z.2) z) : gz_V cR X G 1 (0, 0) m 0 [(0, .ref (gz_ad G c0))] [] := by
  unfold Rcf_J1_init at h
  refine gz_aload_n (pc := 0) hX dJ1_init_0 rfl 0 rfl ?_
  obtain ⟨⟨⟨⟩, m2⟩, c3, h⟩ := gz_bd h
  refine Rcc_J1_1 (pc := 1) hX c3 ⟨Nat.le_of_ble_eq_true rfl, Nat.le_of_ble_eq_true rfl⟩ (rest := []) rfl (Nat.le_of_ble_eq_true rfl) dJ1_init_1 ?_
  refine gz_aload_n (pc := 4) hX dJ1_init_4 rfl 0 rfl ?_
  refine gz_iconst (pc := 5) (v := (0 : Int32)) hX dJ1_init_5 (by decide) ?_
  obtain ⟨g4, h⟩ := gz_gu h
  obtain ⟨g5, h⟩ := gz_gu h
  obtain ⟨m6, em6, h⟩ := gz_lt h
  refine Rcp_J1_7_20 (pc := 6) hX (c := c0) (fun _ => g4) g5 dJ1_init_6 em6 ?_
  obtain rfl := Option.some.inj h
  exact hk _ _ dJ1_init_9
theorem Rct_J1_init {G : gz_G} {l : Launch} {c0 : Nat}  {m m9 : gM} (h : Rcf_J1_init c0 m = some ((), m9)) : gz_Met cR G l yJ1_init cJ1_init 1 none (mRm 2 40) [.ref (gz_ad G c0)] m m9 none :=
  gz_ofVc (by decide +kernel) (Nat.le_of_ble_eq_true rfl) fun X _ hn hX hk => Rwm_J1_init hX hn h hk
theorem Rcc_X3_1 {X : gz_X} {G : gz_G} {cc : ByteArray} {nL fr lo pc : Nat} {rem : Nat × Nat} {lv : List (Nat × Value)} {rest st0 : List Value} (hX : gz_C cR X G cc nL RX3 fr lo) {u1 u2 : Nat} {c0 : Nat} {x3 : Int32} {x4 : Int32} {m m9 : gM} (hu : u1 = gz_ad G 8 ∧ u2 = gz_ad G 9)  (h : Rcf_J5_init u1 u2 c0 x3 x4 m = some ((), m9)) (hroom : 3 + 1 ≤ fr ∧ 8 + (5 + 11) + 68 ≤ lo) (hst : st0 = [.int x4, .int x3, .null, .null, .ref (gz_ad G c0)] ++ rest) (hW : (rest.map fun v => v.category).sum ≤ 8) (hd : decode cc pc = .ok (.invokespecial 1, 3)) (kk : gz_V cR X G nL rem m9 (pc + 3) lv (rest)) : gz_V cR X G nL rem m pc lv st0 :=
  gz_callI hX Rcs_E (As := [.null, .null, .int x3, .int x4]) (rest := rest) (c := c0) (Rct_J5_init (l := X.2.1) hu h) q341 q175 q339 q340 rfl (n := 4) (by decide +kernel) hroom rfl hst hW hd (rem := rem) kk
/-! FirstSnuffer$Fault.<init>()V -/
noncomputable def Rcf_X3_init (u1 u2 : Nat) (c0 : Nat) (m : gM) : Option (Unit × gM) :=
  ((Rcf_J5_init u1 u2 c0 (0 : Int32) (0 : Int32) m).bind fun (_, m2) => some ((), m2))
theorem Rwm_X3_init {X : gz_X} {G : gz_G} {u1 u2 : Nat} (hX : gz_C cR X G cX3_init 1 RX3 4 92) (hn0 : X.2.2.2.2.2.2.2.2.1.name = "<init>") (hu : u1 = gz_ad G 8 ∧ u2 = gz_ad G 9) {c0 : Nat}  {m : gM} {z : (Unit × gM)} (h : Rcf_X3_init u1 u2 c0 m = some z) (hk : (fun z : (Unit × gM) => gz_kV cR X G 1 (0, 0) cX3_init z.2) z) : gz_V cR X G 1 (0, 0) m 0 [(0, .ref (gz_ad G c0))] [] := by
  unfold Rcf_X3_init at h
  refine gz_aload_n (pc := 0) hX dX3_init_0 rfl 0 rfl ?_
  refine gz_null (pc := 1) hX dX3_init_1 ?_
  refine gz_null (pc := 2) hX dX3_init_2 ?_
  refine gz_iconst (pc := 3) (v := (0 : Int32)) hX dX3_init_3 (by decide) ?_
  refine gz_iconst (pc := 4) (v := (0 : Int32)) hX dX3_init_4 (by decide) ?_
  obtain ⟨⟨⟨⟩, m2⟩, c3, h⟩ := gz_bd h
  refine Rcc_X3_1 (pc := 5) hX hu c3 ⟨Nat.le_of_ble_eq_true rfl, Nat.le_of_ble_eq_true rfl⟩ (rest := []) rfl (Nat.le_of_ble_eq_true rfl) dX3_init_5 ?_
  obtain rfl := Option.some.inj h
  exact hk _ _ dX3_init_8
theorem Rct_X3_init {G : gz_G} {l : Launch} {u1 u2 : Nat} {c0 : Nat} (hu : u1 = gz_ad G 8 ∧ u2 = gz_ad G 9)  {m m9 : gM} (h : Rcf_X3_init u1 u2 c0 m = some ((), m9)) : gz_Met cR G l yX3_init cX3_init 1 none (mRm 4 92) [.ref (gz_ad G c0)] m m9 none :=
  gz_ofVc (by decide +kernel) (Nat.le_of_ble_eq_true rfl) fun X _ hn hX hk => Rwm_X3_init hX hn hu h hk
theorem Rcc_J2_1 {X : gz_X} {G : gz_G} {cc : ByteArray} {nL fr lo pc : Nat} {rem : Nat × Nat} {lv : List (Nat × Value)} {rest st0 : List Value} (hX : gz_C cR X G cc nL RJ2 fr lo) {c0 : Nat} {m m9 : gM}  (h : Rcf_J1_init c0 m = some ((), m9)) (hroom : 2 + 1 ≤ fr ∧ 8 + (1 + 11) + 40 ≤ lo) (hst : st0 = [.ref (gz_ad G c0)] ++ rest) (hW : (rest.map fun v => v.category).sum ≤ 8) (hd : decode cc pc = .ok (.invokespecial 1, 3)) (kk : gz_V cR X G nL rem m9 (pc + 3) lv (rest)) : gz_V cR X G nL rem m pc lv st0 :=
  gz_callI hX Rcs_E (As := []) (rest := rest) (c := c0) (Rct_J1_init (l := X.2.1) h) q229 q170 q227 q228 rfl (n := 0) (by decide +kernel) hroom rfl hst hW hd (rem := rem) kk
theorem Rcs_J2_15 {X : gz_X} {G : gz_G} {cc : ByteArray} {nL fr lo pc : Nat} {rem : Nat × Nat} {m : gM} {lv : List (Nat × Value)} {st : List Value} (hX : gz_C cR X G cc nL RJ2 fr lo) (hd : decode cc pc = .ok (.getstatic 15, 3)) (kk : gz_V cR X G nL rem m (pc + 3) lv (.ref (gz_ad G 14) :: st)) : gz_V cR X G nL rem m pc lv st := gz_gets hX ((Rcz_s hX).2.2.1 _ (List.mem_of_getElem? (show cSr[4]? = some ("java/util/ArrayList", "EMPTY_ELEMENTDATA", "[Ljava/lang/Object;", 14) from rfl))) (Or.inl (hX.2.2.2.2.1 _ q236)) hd kk
theorem Rcp_J2_9_20 {X : gz_X} {G : gz_G} {cc : ByteArray} {nL fr lo pc : Nat} {rem : Nat × Nat} {m m9 : gM} {lv : List (Nat × Value)} {st : List Value} (hX : gz_C cR X G cc nL RJ2 fr lo) {c : Nat} {r : Nat} (hK : clR m.1 m.2.1 m.2.2.2.2.1 → m.1 c = 20 + 1) (hw : 1000 ≤ c) (hs : r ≠ 0) (hd : decode cc pc = .ok (.putfield 9, 3)) (hm : m9 = gz_sP m c 1 r) (kk : gz_V cR X G nL rem m9 (pc + 3) lv st) : gz_V cR X G nL rem m pc lv (.ref (gz_ad G r) :: .ref (gz_ad G c) :: st) := by
  subst hm
  exact gz_putf hX (C := RJ2) (T := TJ2) (N := 3) (ci := 20) (k := 1) (μ' := gz_sP m c 1 r) (v := .ref (gz_ad G r)) rfl (by decide) in_J2 tyJ2 tyJ2_ok nmJ2 (by decide) (Or.inl (hX.2.2.2.2.1 _ q238)) rfl rfl rfl rfl hd hK hw rfl rfl rfl (fun d tc j h => gz_sP_o d tc j h) (by intro j; rw [← gz_rfp hs]; exact gz_sP_v (fun j => ftC 20 j) rfl j) (fun h => h) kk
/-! java/util/ArrayList.<init>(I)V -/
noncomputable def Rcf_J2_init (c0 : Nat) (x1 : Int32) (m : gM) : Option (Unit × gM) :=
  ((Rcf_J1_init c0 m).bind fun (_, m2) => (if m2.2.2.2.2.2 = m.2.2.2.2.2 then (if x1 ≤ (0 : Int32) then (if x1 = (0 : Int32) then (if gK m2 c0 = 21 then (if 1000 ≤ c0 then (if 14 ≠ 0 then gz_let (gz_sP m2 c0 1 14) fun m10 => some ((), m10) else none) else none) else none) else none) else (if 0 ≤ x1 ∧ gz_ix x1 * 4 ≤ 536870912 ∧ gZ m2 ≠ 0 then gz_let (gz_al m2 (5 + 101) (gz_ix x1) (gz_ix x1)) fun m12 => (if gK m12 c0 = 21 then (if 1000 ≤ c0 then (if (gZ m2) ≠ 0 then gz_let (gz_sP m12 c0 1 (gZ m2)) fun m16 => some ((), m16) else none) else none) else none) else none)) else none))
theorem Rwm_J2_init {X : gz_X} {G : gz_G} {zE : Nat × Nat} (hX : gz_C cR X G cJ2_init 2 RJ2 3 60) (hn0 : X.2.2.2.2.2.2.2.2.1.name = "<init>") {c0 : Nat} {x1 : Int32}  {m : gM} {z : (Unit × gM)} (h : Rcf_J2_init c0 x1 m = some z) (hk : (fun z : (Unit × gM) => gz_kVa cR X G 2 zE cJ2_init z.2) z) : gz_Va cR X G 2 zE m 0 [(0, .ref (gz_ad G c0)), (1, .int x1)] [] := by
  unfold Rcf_J2_init at h
  refine gz_Vs (fun _ kk => gz_aload_n (pc := 0) hX dJ2_init_0 rfl 0 rfl kk) rfl ?_
  obtain ⟨⟨⟨⟩, m2⟩, c3, h⟩ := gz_bd h
  obtain ⟨g4, h⟩ := gz_gu h
  refine gz_Vs (fun _ kk => Rcc_J2_1 (pc := 1) hX c3 ⟨Nat.le_of_ble_eq_true rfl, Nat.le_of_ble_eq_true rfl⟩ (rest := []) rfl (Nat.le_of_ble_eq_true rfl) dJ2_init_1 kk) g4 ?_
  refine gz_Vs (fun _ kk => gz_iload_n (pc := 4) hX dJ2_init_4 rfl 1 rfl kk) rfl ?_
  refine gz_Vif (μ1 := m) (μ2 := m) (fun _ k1 k2 => gz_if_le (pc := 5) (tgt := 19) hX dJ2_init_5 (by decide) k1 k2) (by first | exact Classical.em _ | exact (Classical.em _).symm) (fun g5 => ?_) (fun g5 => ?_)
  · replace h := gz_it' g5 h
    refine gz_Vs (fun _ kk => gz_iload_n (pc := 19) hX dJ2_init_19 rfl 1 rfl kk) rfl ?_
    refine gz_Vif (μ1 := m) (μ2 := m) (fun _ k1 k2 => gz_if_ne (pc := 20) (tgt := 33) hX dJ2_init_20 (by decide) k1 k2) (by first | exact Classical.em _ | exact (Classical.em _).symm) (fun g6 => ?_) (fun g6 => ?_)
    · replace h := gz_if' g6 h
      exact nomatch h
    · replace h := gz_it' g6 h
      refine gz_Vs (fun _ kk => gz_aload_n (pc := 23) hX dJ2_init_23 rfl 0 rfl kk) rfl ?_
      refine gz_Vs (fun _ kk => Rcs_J2_15 (pc := 24) hX dJ2_init_24 kk) rfl ?_
      obtain ⟨g7, h⟩ := gz_gu h
      obtain ⟨g8, h⟩ := gz_gu h
      obtain ⟨g9, h⟩ := gz_gu h
      obtain ⟨m10, em10, h⟩ := gz_lt h
      refine gz_Vs (fun _ kk => Rcp_J2_9_20 (pc := 27) hX (c := c0) (fun _ => g7) g8 g9 dJ2_init_27 em10 kk) (by rw [em10]; rfl) ?_
      refine gz_Vs (fun _ kk => gz_goto (pc := 30) (tgt := 60) hX dJ2_init_30 (by decide) kk) rfl ?_
      obtain rfl := Option.some.inj h
      exact hk _ _ dJ2_init_60
  · replace h := gz_if' g5 h
    refine gz_Vs (fun _ kk => gz_aload_n (pc := 8) hX dJ2_init_8 rfl 0 rfl kk) rfl ?_
    refine gz_Vs (fun _ kk => gz_iload_n (pc := 9) hX dJ2_init_9 rfl 1 rfl kk) rfl ?_
    obtain ⟨g11, h⟩ := gz_gu h
    obtain ⟨m12, em12, h⟩ := gz_lt h
    refine gz_Vn (fun _ kk => gz_anew (pc := 10) (t := 5) (N := gz_ix x1) hX rfl rfl q234 (Rcz_s hX).2.2.2.1.1 ⟨⟨g11.1, Nat.lt_succ_self _⟩, rfl⟩ g11.2.1 g11.2.2 (fun _ _ => trivial) dJ2_init_10 em12 kk) em12 ?_
    obtain ⟨g13, h⟩ := gz_gu h
    obtain ⟨g14, h⟩ := gz_gu h
    obtain ⟨g15, h⟩ := gz_gu h
    obtain ⟨m16, em16, h⟩ := gz_lt h
    refine gz_Vs (fun _ kk => Rcp_J2_9_20 (pc := 13) hX (c := c0) (fun _ => g13) g14 g15 dJ2_init_13 em16 kk) (by rw [em16]; rfl) ?_
    refine gz_Vs (fun _ kk => gz_goto (pc := 16) (tgt := 60) hX dJ2_init_16 (by decide) kk) rfl ?_
    obtain rfl := Option.some.inj h
    exact hk _ _ dJ2_init_60
theorem Rct_J2_init {G : gz_G} {l : Launch} {c0 : Nat} {x1 : Int32}  {m m9 : gM} (h : Rcf_J2_init c0 x1 m = some ((), m9)) : gz_Met cR G l yJ2_init cJ2_init 2 none (mRc 3 60 (gZ m9 - gZ m) (gW m9 - gW m)) [.ref (gz_ad G c0), .int x1] m m9 none :=
  gz_ofVc (by decide +kernel) (Nat.le_of_ble_eq_true rfl) fun X _ hn hX hk => (Rwm_J2_init (zE := m9.2.2.2.2.2) hX hn h (fun pc lv hd => gz_Ve (hk pc lv hd))).2
theorem Rcc_J2_118 {X : gz_X} {G : gz_G} {cc : ByteArray} {nL fr lo pc : Nat} {rem : Nat × Nat} {lv : List (Nat × Value)} {rest st0 : List Value} (hX : gz_C cR X G cc nL RJ2 fr lo) {x0 : Int32} {x1 : Int32} {m m9 : gM}  {r : Int32} (h : Rcf_J6_checkIndex x0 x1 m = some (r, m9)) (hroom : 1 + 1 ≤ fr ∧ 8 + (2 + 11) + 22 ≤ lo) (hst : st0 = [.int x1, .int x0] ++ rest) (hW : (rest.map fun v => v.category).sum ≤ 8) (hd : decode cc pc = .ok (.invokestatic 118, 3)) (kk : gz_V cR X G nL rem m9 (pc + 3) lv (.int r :: rest)) : gz_V cR X G nL rem m pc lv st0 :=
  gz_callS hX Rcs_E (As := [.int x0, .int x1]) (rest := rest) (Rct_J6_checkIndex (l := X.2.1) h) (lw_S q482 q483 q179 q484) (n := 2) (by decide +kernel) hroom rfl hst hW hd (rem := rem) kk
theorem Rcc_J2_123 {X : gz_X} {G : gz_G} {cc : ByteArray} {nL fr lo pc : Nat} {rem : Nat × Nat} {lv : List (Nat × Value)} {rest st0 : List Value} (hX : gz_C cR X G cc nL RJ2 fr lo) {c0 : Nat} {x1 : Int32} {m m9 : gM} (hK : clR m.1 m.2.1 m.2.2.2.2.1 → m.1 c0 = 20 + 1)  {r : Nat} (h : Rcf_J2_elementData c0 x1 m = some (r, m9)) (hroom : 0 + 1 ≤ fr ∧ 8 + (2 + 11) + 0 ≤ lo) (hst : st0 = [.int x1, .ref (gz_ad G c0)] ++ rest) (hW : (rest.map fun v => v.category).sum ≤ 8) (hd : decode cc pc = .ok (.invokevirtual 123, 3)) (kk : gz_V cR X G nL rem m9 (pc + 3) lv (.ref (gz_ad G r) :: rest)) : gz_V cR X G nL rem m pc lv st0 :=
  gz_callV2 hX Rcs_E (As := [.int x1]) (rest := rest) (q := (RJ2, TJ2, 3)) (ci := 20) (c := c0) (Rct_J2_elementData (l := X.2.1) h) (lw_V q488 q489 q490 q171 q491) (n := 1) (by decide +kernel) hroom rfl rfl (by decide) hK hst hW hd (rem := rem) kk
/-! java/util/ArrayList.get(I)Ljava/lang/Object; -/
noncomputable def Rcf_J2_get (c0 : Nat) (x1 : Int32) (m : gM) : Option (Nat × gM) :=
  (if gK m c0 = 21 then ((Rcf_J6_checkIndex x1 (gI m c0 2) m).bind fun (r2, m3) => (if gK m3 c0 = 21 then ((Rcf_J2_elementData c0 x1 m3).bind fun (r6, m7) => some (r6, m7)) else none)) else none)
theorem Rwm_J2_get {X : gz_X} {G : gz_G} (hX : gz_C cR X G cJ2_get 2 RJ2 2 43) {c0 : Nat} {x1 : Int32}  {m : gM} {z : (Nat × gM)} (h : Rcf_J2_get c0 x1 m = some z) (hk : (fun z : (Nat × gM) => gz_kR cR X G 2 (0, 0) cJ2_get z.2 z.1) z) : gz_V cR X G 2 (0, 0) m 0 [(0, .ref (gz_ad G c0)), (1, .int x1)] [] := by
  unfold Rcf_J2_get at h
  refine gz_iload_n (pc := 0) hX dJ2_get_0 rfl 1 rfl ?_
  refine gz_aload_n (pc := 1) hX dJ2_get_1 rfl 0 rfl ?_
  obtain ⟨g1, h⟩ := gz_gu h
  refine Rcg_J2_48_20 (pc := 2) hX (c := c0) (v := .int (gI m c0 2)) (fun _ => g1) (fun _ => rfl) dJ2_get_2 ?_
  obtain ⟨⟨r2, m3⟩, c4, h⟩ := gz_bd h
  refine Rcc_J2_118 (pc := 5) hX c4 ⟨Nat.le_of_ble_eq_true rfl, Nat.le_of_ble_eq_true rfl⟩ (rest := []) rfl (Nat.le_of_ble_eq_true rfl) dJ2_get_5 ?_
  refine gz_pop (pc := 8) hX dJ2_get_8 rfl ?_
  refine gz_aload_n (pc := 9) hX dJ2_get_9 rfl 0 rfl ?_
  refine gz_iload_n (pc := 10) hX dJ2_get_10 rfl 1 rfl ?_
  obtain ⟨g5, h⟩ := gz_gu h
  obtain ⟨⟨r6, m7⟩, c8, h⟩ := gz_bd h
  refine Rcc_J2_123 (pc := 11) hX (fun _ => g5) c8 ⟨Nat.le_of_ble_eq_true rfl, Nat.le_of_ble_eq_true rfl⟩ (rest := []) rfl (Nat.le_of_ble_eq_true rfl) dJ2_get_11 ?_
  obtain rfl := Option.some.inj h
  exact hk _ _ dJ2_get_14
theorem Rct_J2_get {G : gz_G} {l : Launch} {c0 : Nat} {x1 : Int32}  {m m9 : gM} {r : Nat} (h : Rcf_J2_get c0 x1 m = some (r, m9)) : gz_Met cR G l yJ2_get cJ2_get 2 (some (.object "java/lang/Object")) (mRm 2 43) [.ref (gz_ad G c0), .int x1] m m9 (some (.ref (gz_ad G r))) :=
  gz_ofR (Or.inl ⟨_, rfl⟩) (by decide +kernel) (Nat.le_of_ble_eq_true rfl) fun X _ hX hk => Rwm_J2_get hX h hk
theorem Rcp_X2_3_2 {X : gz_X} {G : gz_G} {cc : ByteArray} {nL fr lo pc : Nat} {rem : Nat × Nat} {m m9 : gM} {lv : List (Nat × Value)} {st : List Value} (hX : gz_C cR X G cc nL RX2 fr lo) (hn0 : X.2.2.2.2.2.2.2.2.1.name = "<init>") {c : Nat} {r : Nat} (hK : clR m.1 m.2.1 m.2.2.2.2.1 → m.1 c = 2 + 1) (hw : 1000 ≤ c) (hs : r ≠ 0) (hd : decode cc pc = .ok (.putfield 3, 3)) (hm : m9 = gz_sP m c 7 r) (kk : gz_V cR X G nL rem m9 (pc + 3) lv st) : gz_V cR X G nL rem m pc lv (.ref (gz_ad G r) :: .ref (gz_ad G c) :: st) := by
  subst hm
  exact gz_putff hX (C := RX2) (T := TX2) (N := 8) (ci := 2) (k := 7) (μ' := gz_sP m c 7 r) (v := .ref (gz_ad G r)) rfl (by decide) in_X2 tyX2 tyX2_ok nmX2 (by decide) (hX.2.2.2.2.1 _ q377) (fun _ h => h) rfl hn0 rfl rfl rfl rfl hd hK hw rfl rfl rfl (fun d tc j h => gz_sP_o d tc j h) (by intro j; rw [← gz_rfp hs]; exact gz_sP_v (fun j => ftC 2 j) rfl j) (fun h => h) kk
theorem Rcn_X2_15 {X : gz_X} {G : gz_G} {cc : ByteArray} {nL fr lo pc : Nat} {rem : Nat × Nat} {m m9 : gM} {lv : List (Nat × Value)} {st : List Value} (hX : gz_C cR X G cc nL RX2 fr lo) (hz : gZ m ≠ 0) (hd : decode cc pc = .ok (.new 15, 3)) (hm : m9 = gz_al m (3 + 1) 0 8) (kk : gz_V cR X G nL rem m9 (pc + 3) lv (.ref (gz_ad G (gZ m)) :: st)) : gz_V cR X G nL (rem.1 + 1, rem.2 + 8) m pc lv st :=
  gz_new hX (C := RX3) (T := TX3) (N := 8) (ci := 3) rfl (by decide) in_X3 tyX3 tyX3_ok (by decide +kernel) q297 q298 q176 hz (fun _ _ => trivial) hd hm kk
theorem Rcc_X2_17 {X : gz_X} {G : gz_G} {cc : ByteArray} {nL fr lo pc : Nat} {rem : Nat × Nat} {lv : List (Nat × Value)} {rest st0 : List Value} (hX : gz_C cR X G cc nL RX2 fr lo) {u1 u2 : Nat} {c0 : Nat} {m m9 : gM} (hu : u1 = gz_ad G 8 ∧ u2 = gz_ad G 9)  (h : Rcf_X3_init u1 u2 c0 m = some ((), m9)) (hroom : 4 + 1 ≤ fr ∧ 8 + (1 + 11) + 92 ≤ lo) (hst : st0 = [.ref (gz_ad G c0)] ++ rest) (hW : (rest.map fun v => v.category).sum ≤ 8) (hd : decode cc pc = .ok (.invokespecial 17, 3)) (kk : gz_V cR X G nL rem m9 (pc + 3) lv (rest)) : gz_V cR X G nL rem m pc lv st0 :=
  gz_callI hX Rcs_E (As := []) (rest := rest) (c := c0) (Rct_X3_init (l := X.2.1) hu h) q338 q176 q336 q337 rfl (n := 0) (by decide +kernel) hroom rfl hst hW hd (rem := rem) kk
theorem Rcp_X2_18_2 {X : gz_X} {G : gz_G} {cc : ByteArray} {nL fr lo pc : Nat} {rem : Nat × Nat} {m m9 : gM} {lv : List (Nat × Value)} {st : List Value} (hX : gz_C cR X G cc nL RX2 fr lo) (hn0 : X.2.2.2.2.2.2.2.2.1.name = "<init>") {c : Nat} {r : Nat} (hK : clR m.1 m.2.1 m.2.2.2.2.1 → m.1 c = 2 + 1) (hw : 1000 ≤ c) (hs : r ≠ 0) (hd : decode cc pc = .ok (.putfield 18, 3)) (hm : m9 = gz_sP m c 0 r) (kk : gz_V cR X G nL rem m9 (pc + 3) lv st) : gz_V cR X G nL rem m pc lv (.ref (gz_ad G r) :: .ref (gz_ad G c) :: st) := by
  subst hm
  exact gz_putff hX (C := RX2) (T := TX2) (N := 8) (ci := 2) (k := 0) (μ' := gz_sP m c 0 r) (v := .ref (gz_ad G r)) rfl (by decide) in_X2 tyX2 tyX2_ok nmX2 (by decide) (hX.2.2.2.2.1 _ q370) (fun _ h => h) rfl hn0 rfl rfl rfl rfl hd hK hw rfl rfl rfl (fun d tc j h => gz_sP_o d tc j h) (by intro j; rw [← gz_rfp hs]; exact gz_sP_v (fun j => ftC 2 j) rfl j) (fun h => h) kk
/-! FirstSnuffer$Reader.<init>(LFirstSnuffer;)V -/
noncomputable def Rcf_X2_init (u1 u2 : Nat) (c0 : Nat) (c1 : Nat) (m : gM) : Option (Unit × gM) :=
  (if gK m c0 = 3 then (if 1000 ≤ c0 then (if c1 ≠ 0 then gz_let (gz_sP m c0 7 c1) fun m4 => (if gZ m4 ≠ 0 then gz_let (gz_al m4 (3 + 1) 0 8) fun m6 => ((Rcf_X3_init u1 u2 (gZ m4) m6).bind fun (_, m8) => (if m8.2.2.2.2.2 = m6.2.2.2.2.2 then (if gK m8 c0 = 3 then (if 1000 ≤ c0 then (if (gZ m4) ≠ 0 then gz_let (gz_sP m8 c0 0 (gZ m4)) fun m14 => some ((), m14) else none) else none) else none) else none)) else none) else none) else none) else none)
theorem Rwm_X2_init {X : gz_X} {G : gz_G} {zE : Nat × Nat} {u1 u2 : Nat} (hX : gz_C cR X G cX2_init 2 RX2 5 112) (hn0 : X.2.2.2.2.2.2.2.2.1.name = "<init>") (hu : u1 = gz_ad G 8 ∧ u2 = gz_ad G 9) {c0 : Nat} {c1 : Nat}  {m : gM} {z : (Unit × gM)} (h : Rcf_X2_init u1 u2 c0 c1 m = some z) (hk : (fun z : (Unit × gM) => gz_kVa cR X G 2 zE cX2_init z.2) z) : gz_Va cR X G 2 zE m 0 [(0, .ref (gz_ad G c0)), (1, .ref (gz_ad G c1))] [] := by
  unfold Rcf_X2_init at h
  refine gz_Vs (fun _ kk => gz_aload_n (pc := 0) hX dX2_init_0 rfl 0 rfl kk) rfl ?_
  refine gz_Vs (fun _ kk => gz_aload_n (pc := 1) hX dX2_init_1 rfl 1 rfl kk) rfl ?_
  obtain ⟨g1, h⟩ := gz_gu h
  obtain ⟨g2, h⟩ := gz_gu h
  obtain ⟨g3, h⟩ := gz_gu h
  obtain ⟨m4, em4, h⟩ := gz_lt h
  refine gz_Vs (fun _ kk => Rcp_X2_3_2 (pc := 2) hX hn0 (c := c0) (fun _ => g1) g2 g3 dX2_init_2 em4 kk) (by rw [em4]; rfl) ?_
  refine gz_Vs (fun _ kk => gz_aload_n (pc := 5) hX dX2_init_5 rfl 0 rfl kk) rfl ?_
  refine gz_Vs (fun _ kk => gz_objI (pc := 6) hX q296 q214 q215 ⟨Nat.le_of_ble_eq_true rfl, Nat.le_of_ble_eq_true rfl⟩ (Nat.le_of_ble_eq_true rfl) dX2_init_6 kk) rfl ?_
  refine gz_Vs (fun _ kk => gz_aload_n (pc := 9) hX dX2_init_9 rfl 0 rfl kk) rfl ?_
  obtain ⟨g5, h⟩ := gz_gu h
  obtain ⟨m6, em6, h⟩ := gz_lt h
  refine gz_Vn (fun _ kk => Rcn_X2_15 (pc := 10) hX g5 dX2_init_10 em6 kk) em6 ?_
  refine gz_Vs (fun _ kk => gz_dup (pc := 13) hX dX2_init_13 rfl kk) rfl ?_
  obtain ⟨⟨⟨⟩, m8⟩, c9, h⟩ := gz_bd h
  obtain ⟨g10, h⟩ := gz_gu h
  refine gz_Vs (fun _ kk => Rcc_X2_17 (pc := 14) hX hu c9 ⟨Nat.le_of_ble_eq_true rfl, Nat.le_of_ble_eq_true rfl⟩ (rest := [.ref (gz_ad G (gZ m4)), .ref (gz_ad G c0)]) rfl (Nat.le_of_ble_eq_true rfl) dX2_init_14 kk) g10 ?_
  obtain ⟨g11, h⟩ := gz_gu h
  obtain ⟨g12, h⟩ := gz_gu h
  obtain ⟨g13, h⟩ := gz_gu h
  obtain ⟨m14, em14, h⟩ := gz_lt h
  refine gz_Vs (fun _ kk => Rcp_X2_18_2 (pc := 17) hX hn0 (c := c0) (fun _ => g11) g12 g13 dX2_init_17 em14 kk) (by rw [em14]; rfl) ?_
  obtain rfl := Option.some.inj h
  exact hk _ _ dX2_init_20
theorem Rct_X2_init {G : gz_G} {l : Launch} {u1 u2 : Nat} {c0 : Nat} {c1 : Nat} (hu : u1 = gz_ad G 8 ∧ u2 = gz_ad G 9)  {m m9 : gM} (h : Rcf_X2_init u1 u2 c0 c1 m = some ((), m9)) : gz_Met cR G l yX2_init cX2_init 2 none (mRc 5 112 (gZ m9 - gZ m) (gW m9 - gW m)) [.ref (gz_ad G c0), .ref (gz_ad G c1)] m m9 none :=
  gz_ofVc (by decide +kernel) (Nat.le_of_ble_eq_true rfl) fun X _ hn hX hk => (Rwm_X2_init (zE := m9.2.2.2.2.2) hX hn hu h (fun pc lv hd => gz_Ve (hk pc lv hd))).2
theorem Rcn_X1_9 {X : gz_X} {G : gz_G} {cc : ByteArray} {nL fr lo pc : Nat} {rem : Nat × Nat} {m m9 : gM} {lv : List (Nat × Value)} {st : List Value} (hX : gz_C cR X G cc nL RX1 fr lo) (hz : gZ m ≠ 0) (hd : decode cc pc = .ok (.new 9, 3)) (hm : m9 = gz_al m (20 + 1) 0 3) (kk : gz_V cR X G nL rem m9 (pc + 3) lv (.ref (gz_ad G (gZ m)) :: st)) : gz_V cR X G nL (rem.1 + 1, rem.2 + 3) m pc lv st :=
  gz_new hX (C := RJ2) (T := TJ2) (N := 3) (ci := 20) rfl (by decide) in_J2 tyJ2 tyJ2_ok (by decide +kernel) q222 q223 q171 hz (fun _ _ => trivial) hd hm kk
theorem Rcc_X1_11 {X : gz_X} {G : gz_G} {cc : ByteArray} {nL fr lo pc : Nat} {rem : Nat × Nat} {lv : List (Nat × Value)} {rest st0 : List Value} (hX : gz_C cR X G cc nL RX1 fr lo) {c0 : Nat} {x1 : Int32} {m m9 : gM}  (h : Rcf_J2_init c0 x1 m = some ((), m9)) (hroom : 3 + 1 ≤ fr ∧ 8 + (2 + 11) + 60 ≤ lo) (hst : st0 = [.int x1, .ref (gz_ad G c0)] ++ rest) (hW : (rest.map fun v => v.category).sum ≤ 8) (hd : decode cc pc = .ok (.invokespecial 11, 3)) (kk : gz_V cR X G nL rem m9 (pc + 3) lv (rest)) : gz_V cR X G nL (rem.1 + (gZ m9 - gZ m), rem.2 + (gW m9 - gW m)) m pc lv st0 :=
  gz_callI hX Rcs_E (As := [.int x1]) (rest := rest) (c := c0) (Rct_J2_init (l := X.2.1) h) q226 q171 q224 q225 rfl (n := 1) (by decide +kernel) hroom rfl hst hW hd (rem := rem) kk
theorem Rcp_X1_14_1 {X : gz_X} {G : gz_G} {cc : ByteArray} {nL fr lo pc : Nat} {rem : Nat × Nat} {m m9 : gM} {lv : List (Nat × Value)} {st : List Value} (hX : gz_C cR X G cc nL RX1 fr lo) (hn0 : X.2.2.2.2.2.2.2.2.1.name = "<init>") {c : Nat} {r : Nat} (hK : clR m.1 m.2.1 m.2.2.2.2.1 → m.1 c = 1 + 1) (hw : 1000 ≤ c) (hs : r ≠ 0) (hd : decode cc pc = .ok (.putfield 14, 3)) (hm : m9 = gz_sP m c 3 r) (kk : gz_V cR X G nL rem m9 (pc + 3) lv st) : gz_V cR X G nL rem m pc lv (.ref (gz_ad G r) :: .ref (gz_ad G c) :: st) := by
  subst hm
  exact gz_putff hX (C := RX1) (T := TX1) (N := 9) (ci := 1) (k := 3) (μ' := gz_sP m c 3 r) (v := .ref (gz_ad G r)) rfl (by decide) in_X1 tyX1 tyX1_ok nmX1 (by decide) (hX.2.2.2.2.1 _ q256) (fun _ h => h) rfl hn0 rfl rfl rfl rfl hd hK hw rfl rfl rfl (fun d tc j h => gz_sP_o d tc j h) (by intro j; rw [← gz_rfp hs]; exact gz_sP_v (fun j => ftC 1 j) rfl j) (fun h => h) kk
theorem Rcp_X1_20_1 {X : gz_X} {G : gz_G} {cc : ByteArray} {nL fr lo pc : Nat} {rem : Nat × Nat} {m m9 : gM} {lv : List (Nat × Value)} {st : List Value} (hX : gz_C cR X G cc nL RX1 fr lo) (hn0 : X.2.2.2.2.2.2.2.2.1.name = "<init>") {c : Nat} {r : Nat} (hK : clR m.1 m.2.1 m.2.2.2.2.1 → m.1 c = 1 + 1) (hw : 1000 ≤ c) (hs : r ≠ 0) (hd : decode cc pc = .ok (.putfield 20, 3)) (hm : m9 = gz_sP m c 4 r) (kk : gz_V cR X G nL rem m9 (pc + 3) lv st) : gz_V cR X G nL rem m pc lv (.ref (gz_ad G r) :: .ref (gz_ad G c) :: st) := by
  subst hm
  exact gz_putff hX (C := RX1) (T := TX1) (N := 9) (ci := 1) (k := 4) (μ' := gz_sP m c 4 r) (v := .ref (gz_ad G r)) rfl (by decide) in_X1 tyX1 tyX1_ok nmX1 (by decide) (hX.2.2.2.2.1 _ q259) (fun _ h => h) rfl hn0 rfl rfl rfl rfl hd hK hw rfl rfl rfl (fun d tc j h => gz_sP_o d tc j h) (by intro j; rw [← gz_rfp hs]; exact gz_sP_v (fun j => ftC 1 j) rfl j) (fun h => h) kk
theorem Rcp_X1_23_1 {X : gz_X} {G : gz_G} {cc : ByteArray} {nL fr lo pc : Nat} {rem : Nat × Nat} {m m9 : gM} {lv : List (Nat × Value)} {st : List Value} (hX : gz_C cR X G cc nL RX1 fr lo) (hn0 : X.2.2.2.2.2.2.2.2.1.name = "<init>") {c : Nat} {r : Nat} (hK : clR m.1 m.2.1 m.2.2.2.2.1 → m.1 c = 1 + 1) (hw : 1000 ≤ c) (hs : r ≠ 0) (hd : decode cc pc = .ok (.putfield 23, 3)) (hm : m9 = gz_sP m c 5 r) (kk : gz_V cR X G nL rem m9 (pc + 3) lv st) : gz_V cR X G nL rem m pc lv (.ref (gz_ad G r) :: .ref (gz_ad G c) :: st) := by
  subst hm
  exact gz_putff hX (C := RX1) (T := TX1) (N := 9) (ci := 1) (k := 5) (μ' := gz_sP m c 5 r) (v := .ref (gz_ad G r)) rfl (by decide) in_X1 tyX1 tyX1_ok nmX1 (by decide) (hX.2.2.2.2.1 _ q262) (fun _ h => h) rfl hn0 rfl rfl rfl rfl hd hK hw rfl rfl rfl (fun d tc j h => gz_sP_o d tc j h) (by intro j; rw [← gz_rfp hs]; exact gz_sP_v (fun j => ftC 1 j) rfl j) (fun h => h) kk
theorem Rcp_X1_26_1 {X : gz_X} {G : gz_G} {cc : ByteArray} {nL fr lo pc : Nat} {rem : Nat × Nat} {m m9 : gM} {lv : List (Nat × Value)} {st : List Value} (hX : gz_C cR X G cc nL RX1 fr lo) (hn0 : X.2.2.2.2.2.2.2.2.1.name = "<init>") {c : Nat} {r : Nat} (hK : clR m.1 m.2.1 m.2.2.2.2.1 → m.1 c = 1 + 1) (hw : 1000 ≤ c) (hs : r ≠ 0) (hd : decode cc pc = .ok (.putfield 26, 3)) (hm : m9 = gz_sP m c 6 r) (kk : gz_V cR X G nL rem m9 (pc + 3) lv st) : gz_V cR X G nL rem m pc lv (.ref (gz_ad G r) :: .ref (gz_ad G c) :: st) := by
  subst hm
  exact gz_putff hX (C := RX1) (T := TX1) (N := 9) (ci := 1) (k := 6) (μ' := gz_sP m c 6 r) (v := .ref (gz_ad G r)) rfl (by decide) in_X1 tyX1 tyX1_ok nmX1 (by decide) (hX.2.2.2.2.1 _ q265) (fun _ h => h) rfl hn0 rfl rfl rfl rfl hd hK hw rfl rfl rfl (fun d tc j h => gz_sP_o d tc j h) (by intro j; rw [← gz_rfp hs]; exact gz_sP_v (fun j => ftC 1 j) rfl j) (fun h => h) kk
/-! FirstSnuffer$Household.<init>()V -/
noncomputable def Rcf_X1_init (c0 : Nat) (m : gM) : Option (Unit × gM) :=
  (if gZ m ≠ 0 then gz_let (gz_al m (20 + 1) 0 3) fun m2 => ((Rcf_J2_init (gZ m) (4 : Int32) m2).bind fun (_, m4) => (if gZ m2 ≤ gZ m4 ∧ gW m2 ≤ gW m4 then (if gK m4 c0 = 2 then (if 1000 ≤ c0 then (if (gZ m) ≠ 0 then gz_let (gz_sP m4 c0 3 (gZ m)) fun m10 => (if gZ m10 ≠ 0 then gz_let (gz_al m10 (20 + 1) 0 3) fun m12 => ((Rcf_J2_init (gZ m10) (4 : Int32) m12).bind fun (_, m14) => (if gZ m12 ≤ gZ m14 ∧ gW m12 ≤ gW m14 then (if gK m14 c0 = 2 then (if 1000 ≤ c0 then (if (gZ m10) ≠ 0 then gz_let (gz_sP m14 c0 4 (gZ m10)) fun m20 => (if gZ m20 ≠ 0 then gz_let (gz_al m20 (20 + 1) 0 3) fun m22 => ((Rcf_J2_init (gZ m20) (4 : Int32) m22).bind fun (_, m24) => (if gZ m22 ≤ gZ m24 ∧ gW m22 ≤ gW m24 then (if gK m24 c0 = 2 then (if 1000 ≤ c0 then (if (gZ m20) ≠ 0 then gz_let (gz_sP m24 c0 5 (gZ m20)) fun m30 => (if gZ m30 ≠ 0 then gz_let (gz_al m30 (20 + 1) 0 3) fun m32 => ((Rcf_J2_init (gZ m30) (4 : Int32) m32).bind fun (_, m34) => (if gZ m32 ≤ gZ m34 ∧ gW m32 ≤ gW m34 then (if gK m34 c0 = 2 then (if 1000 ≤ c0 then (if (gZ m30) ≠ 0 then gz_let (gz_sP m34 c0 6 (gZ m30)) fun m40 => some ((), m40) else none) else none) else none) else none)) else none) else none) else none) else none) else none)) else none) else none) else none) else none) else none)) else none) else none) else none) else none) else none)) else none)
theorem Rwm_X1_init {X : gz_X} {G : gz_G} {zE : Nat × Nat} (hX : gz_C cR X G cX1_init 1 RX1 4 81) (hn0 : X.2.2.2.2.2.2.2.2.1.name = "<init>") {c0 : Nat}  {m : gM} {z : (Unit × gM)} (h : Rcf_X1_init c0 m = some z) (hk : (fun z : (Unit × gM) => gz_kVa cR X G 1 zE cX1_init z.2) z) : gz_Va cR X G 1 zE m 0 [(0, .ref (gz_ad G c0))] [] := by
  unfold Rcf_X1_init at h
  refine gz_Vs (fun _ kk => gz_aload_n (pc := 0) hX dX1_init_0 rfl 0 rfl kk) rfl ?_
  refine gz_Vs (fun _ kk => gz_objI (pc := 1) hX q221 q214 q215 ⟨Nat.le_of_ble_eq_true rfl, Nat.le_of_ble_eq_true rfl⟩ (Nat.le_of_ble_eq_true rfl) dX1_init_1 kk) rfl ?_
  refine gz_Vs (fun _ kk => gz_aload_n (pc := 4) hX dX1_init_4 rfl 0 rfl kk) rfl ?_
  obtain ⟨g1, h⟩ := gz_gu h
  obtain ⟨m2, em2, h⟩ := gz_lt h
  refine gz_Vn (fun _ kk => Rcn_X1_9 (pc := 5) hX g1 dX1_init_5 em2 kk) em2 ?_
  refine gz_Vs (fun _ kk => gz_dup (pc := 8) hX dX1_init_8 rfl kk) rfl ?_
  refine gz_Vs (fun _ kk => gz_iconst (pc := 9) (v := (4 : Int32)) hX dX1_init_9 (by decide) kk) rfl ?_
  obtain ⟨⟨⟨⟩, m4⟩, c5, h⟩ := gz_bd h
  obtain ⟨g6, h⟩ := gz_gu h
  refine gz_Vc (k := gZ m4 - gZ m2) (n := gW m4 - gW m2) (fun _ kk => Rcc_X1_11 (pc := 10) hX c5 ⟨Nat.le_of_ble_eq_true rfl, Nat.le_of_ble_eq_true rfl⟩ (rest := [.ref (gz_ad G (gZ m)), .ref (gz_ad G c0)]) rfl (Nat.le_of_ble_eq_true rfl) dX1_init_10 kk) ⟨by have := g6.1; dsimp only [gZ] at *; omega, by have := g6.2; dsimp only [gW] at *; omega⟩ ?_
  obtain ⟨g7, h⟩ := gz_gu h
  obtain ⟨g8, h⟩ := gz_gu h
  obtain ⟨g9, h⟩ := gz_gu h
  obtain ⟨m10, em10, h⟩ := gz_lt h
  refine gz_Vs (fun _ kk => Rcp_X1_14_1 (pc := 13) hX hn0 (c := c0) (fun _ => g7) g8 g9 dX1_init_13 em10 kk) (by rw [em10]; rfl) ?_
  refine gz_Vs (fun _ kk => gz_aload_n (pc := 16) hX dX1_init_16 rfl 0 rfl kk) rfl ?_
  obtain ⟨g11, h⟩ := gz_gu h
  obtain ⟨m12, em12, h⟩ := gz_lt h
  refine gz_Vn (fun _ kk => Rcn_X1_9 (pc := 17) hX g11 dX1_init_17 em12 kk) em12 ?_
  refine gz_Vs (fun _ kk => gz_dup (pc := 20) hX dX1_init_20 rfl kk) rfl ?_
  refine gz_Vs (fun _ kk => gz_iconst (pc := 21) (v := (4 : Int32)) hX dX1_init_21 (by decide) kk) rfl ?_
  obtain ⟨⟨⟨⟩, m14⟩, c15, h⟩ := gz_bd h
  obtain ⟨g16, h⟩ := gz_gu h
  refine gz_Vc (k := gZ m14 - gZ m12) (n := gW m14 - gW m12) (fun _ kk => Rcc_X1_11 (pc := 22) hX c15 ⟨Nat.le_of_ble_eq_true rfl, Nat.le_of_ble_eq_true rfl⟩ (rest := [.ref (gz_ad G (gZ m10)), .ref (gz_ad G c0)]) rfl (Nat.le_of_ble_eq_true rfl) dX1_init_22 kk) ⟨by have := g16.1; dsimp only [gZ] at *; omega, by have := g16.2; dsimp only [gW] at *; omega⟩ ?_
  obtain ⟨g17, h⟩ := gz_gu h
  obtain ⟨g18, h⟩ := gz_gu h
  obtain ⟨g19, h⟩ := gz_gu h
  obtain ⟨m20, em20, h⟩ := gz_lt h
  refine gz_Vs (fun _ kk => Rcp_X1_20_1 (pc := 25) hX hn0 (c := c0) (fun _ => g17) g18 g19 dX1_init_25 em20 kk) (by rw [em20]; rfl) ?_
  refine gz_Vs (fun _ kk => gz_aload_n (pc := 28) hX dX1_init_28 rfl 0 rfl kk) rfl ?_
  obtain ⟨g21, h⟩ := gz_gu h
  obtain ⟨m22, em22, h⟩ := gz_lt h
  refine gz_Vn (fun _ kk => Rcn_X1_9 (pc := 29) hX g21 dX1_init_29 em22 kk) em22 ?_
  refine gz_Vs (fun _ kk => gz_dup (pc := 32) hX dX1_init_32 rfl kk) rfl ?_
  refine gz_Vs (fun _ kk => gz_iconst (pc := 33) (v := (4 : Int32)) hX dX1_init_33 (by decide) kk) rfl ?_
  obtain ⟨⟨⟨⟩, m24⟩, c25, h⟩ := gz_bd h
  obtain ⟨g26, h⟩ := gz_gu h
  refine gz_Vc (k := gZ m24 - gZ m22) (n := gW m24 - gW m22) (fun _ kk => Rcc_X1_11 (pc := 34) hX c25 ⟨Nat.le_of_ble_eq_true rfl, Nat.le_of_ble_eq_true rfl⟩ (rest := [.ref (gz_ad G (gZ m20)), .ref (gz_ad G c0)]) rfl (Nat.le_of_ble_eq_true rfl) dX1_init_34 kk) ⟨by have := g26.1; dsimp only [gZ] at *; omega, by have := g26.2; dsimp only [gW] at *; omega⟩ ?_
  obtain ⟨g27, h⟩ := gz_gu h
  obtain ⟨g28, h⟩ := gz_gu h
  obtain ⟨g29, h⟩ := gz_gu h
  obtain ⟨m30, em30, h⟩ := gz_lt h
  refine gz_Vs (fun _ kk => Rcp_X1_23_1 (pc := 37) hX hn0 (c := c0) (fun _ => g27) g28 g29 dX1_init_37 em30 kk) (by rw [em30]; rfl) ?_
  refine gz_Vs (fun _ kk => gz_aload_n (pc := 40) hX dX1_init_40 rfl 0 rfl kk) rfl ?_
  obtain ⟨g31, h⟩ := gz_gu h
  obtain ⟨m32, em32, h⟩ := gz_lt h
  refine gz_Vn (fun _ kk => Rcn_X1_9 (pc := 41) hX g31 dX1_init_41 em32 kk) em32 ?_
  refine gz_Vs (fun _ kk => gz_dup (pc := 44) hX dX1_init_44 rfl kk) rfl ?_
  refine gz_Vs (fun _ kk => gz_iconst (pc := 45) (v := (4 : Int32)) hX dX1_init_45 (by decide) kk) rfl ?_
  obtain ⟨⟨⟨⟩, m34⟩, c35, h⟩ := gz_bd h
  obtain ⟨g36, h⟩ := gz_gu h
  refine gz_Vc (k := gZ m34 - gZ m32) (n := gW m34 - gW m32) (fun _ kk => Rcc_X1_11 (pc := 46) hX c35 ⟨Nat.le_of_ble_eq_true rfl, Nat.le_of_ble_eq_true rfl⟩ (rest := [.ref (gz_ad G (gZ m30)), .ref (gz_ad G c0)]) rfl (Nat.le_of_ble_eq_true rfl) dX1_init_46 kk) ⟨by have := g36.1; dsimp only [gZ] at *; omega, by have := g36.2; dsimp only [gW] at *; omega⟩ ?_
  obtain ⟨g37, h⟩ := gz_gu h
  obtain ⟨g38, h⟩ := gz_gu h
  obtain ⟨g39, h⟩ := gz_gu h
  obtain ⟨m40, em40, h⟩ := gz_lt h
  refine gz_Vs (fun _ kk => Rcp_X1_26_1 (pc := 49) hX hn0 (c := c0) (fun _ => g37) g38 g39 dX1_init_49 em40 kk) (by rw [em40]; rfl) ?_
  obtain rfl := Option.some.inj h
  exact hk _ _ dX1_init_52
theorem Rct_X1_init {G : gz_G} {l : Launch} {c0 : Nat}  {m m9 : gM} (h : Rcf_X1_init c0 m = some ((), m9)) : gz_Met cR G l yX1_init cX1_init 1 none (mRc 4 81 (gZ m9 - gZ m) (gW m9 - gW m)) [.ref (gz_ad G c0)] m m9 none :=
  gz_ofVc (by decide +kernel) (Nat.le_of_ble_eq_true rfl) fun X _ hn hX hk => (Rwm_X1_init (zE := m9.2.2.2.2.2) hX hn h (fun pc lv hd => gz_Ve (hk pc lv hd))).2
theorem Rcg_X0_31_0 {X : gz_X} {G : gz_G} {cc : ByteArray} {nL fr lo pc : Nat} {rem : Nat × Nat} {m : gM} {lv : List (Nat × Value)} {st : List Value} (hX : gz_C cR X G cc nL RX0 fr lo) {c : Nat} {v : Value} (hK : clR m.1 m.2.1 m.2.2.2.2.1 → m.1 c = 0 + 1) (hv : clR m.1 m.2.1 m.2.2.2.2.1 → gz_u (gz_ad G) m (ftC 0 0) c 0 = v) (hd : decode cc pc = .ok (.getfield 31, 3)) (kk : gz_V cR X G nL rem m (pc + 3) lv (v :: st)) : gz_V cR X G nL rem m pc lv (.ref (gz_ad G c) :: st) :=
  gz_getf hX (C := RX0) (T := TX0) (N := 28) (ci := 0) (k := 0) rfl (by decide) in_X0 (by decide) (Or.inl (hX.2.2.2.2.1 _ q500)) hd hK hv kk
theorem Rcg_X0_194_1 {X : gz_X} {G : gz_G} {cc : ByteArray} {nL fr lo pc : Nat} {rem : Nat × Nat} {m : gM} {lv : List (Nat × Value)} {st : List Value} (hX : gz_C cR X G cc nL RX0 fr lo) {c : Nat} {v : Value} (hK : clR m.1 m.2.1 m.2.2.2.2.1 → m.1 c = 1 + 1) (hv : clR m.1 m.2.1 m.2.2.2.2.1 → gz_u (gz_ad G) m (ftC 1 4) c 4 = v) (hd : decode cc pc = .ok (.getfield 194, 3)) (kk : gz_V cR X G nL rem m (pc + 3) lv (v :: st)) : gz_V cR X G nL rem m pc lv (.ref (gz_ad G c) :: st) :=
  gz_getf hX (C := RX1) (T := TX1) (N := 9) (ci := 1) (k := 4) rfl (by decide) in_X1 (by decide) (Or.inr ⟨_, va_Nw.use rfl (Rcz_n (Z := cR) hX q261 rfl)⟩) hd hK hv kk
theorem Rcc_X0_168 {X : gz_X} {G : gz_G} {cc : ByteArray} {nL fr lo pc : Nat} {rem : Nat × Nat} {lv : List (Nat × Value)} {rest st0 : List Value} (hX : gz_C cR X G cc nL RX0 fr lo) {c0 : Nat} {m m9 : gM} (hK : clR m.1 m.2.1 m.2.2.2.2.1 → m.1 c0 = 20 + 1)  {r : Int32} (h : Rcf_J2_size c0 m = some (r, m9)) (hroom : 0 + 1 ≤ fr ∧ 8 + (1 + 11) + 0 ≤ lo) (hst : st0 = [.ref (gz_ad G c0)] ++ rest) (hW : (rest.map fun v => v.category).sum ≤ 8) (hd : decode cc pc = .ok (.invokeinterface 168 1, 5)) (kk : gz_V cR X G nL rem m9 (pc + 5) lv (.int r :: rest)) : gz_V cR X G nL rem m pc lv st0 :=
  gz_callF hX Rcs_E (x := cLs) (As := []) (rest := rest) (q := (RJ2, TJ2, 3)) (ci := 20) (c := c0) (Rct_J2_size (l := X.2.1) h) (va_cwF 0 hX.2.2.2.2.1 (lw_app (by intro w hw; simp only [List.mem_cons, List.not_mem_nil, or_false] at hw; rcases hw with e | e | e | e <;> rw [e] <;> first | exact q464 | exact q468 | exact q470 | exact q171) (lw_meth q472)) rfl rfl rfl hX.2.2.2.2.2.1.2.1.2.2.1 (by decide +kernel) ⟨Nat.le_trans hroom.1 hX.2.2.2.2.2.2.1, Nat.le_trans hroom.2 hX.2.2.2.2.2.2.2⟩) rfl rfl (by decide) hK hst hW hd (rem := rem) kk
theorem Rcg_X0_68_0 {X : gz_X} {G : gz_G} {cc : ByteArray} {nL fr lo pc : Nat} {rem : Nat × Nat} {m : gM} {lv : List (Nat × Value)} {st : List Value} (hX : gz_C cR X G cc nL RX0 fr lo) {c : Nat} {v : Value} (hK : clR m.1 m.2.1 m.2.2.2.2.1 → m.1 c = 0 + 1) (hv : clR m.1 m.2.1 m.2.2.2.2.1 → gz_u (gz_ad G) m (ftC 0 9) c 9 = v) (hd : decode cc pc = .ok (.getfield 68, 3)) (kk : gz_V cR X G nL rem m (pc + 3) lv (v :: st)) : gz_V cR X G nL rem m pc lv (.ref (gz_ad G c) :: st) :=
  gz_getf hX (C := RX0) (T := TX0) (N := 28) (ci := 0) (k := 9) rfl (by decide) in_X0 (by decide) (Or.inl (hX.2.2.2.2.1 _ q511)) hd hK hv kk
theorem Rcc_X0_208 {X : gz_X} {G : gz_G} {cc : ByteArray} {nL fr lo pc : Nat} {rem : Nat × Nat} {lv : List (Nat × Value)} {rest st0 : List Value} (hX : gz_C cR X G cc nL RX0 fr lo) {x0 : Int32} {x1 : Int32} {m m9 : gM}  {r : Int32} (h : Rcf_J8_min x0 x1 m = some (r, m9)) (hroom : 0 + 1 ≤ fr ∧ 8 + (2 + 11) + 0 ≤ lo) (hst : st0 = [.int x1, .int x0] ++ rest) (hW : (rest.map fun v => v.category).sum ≤ 8) (hd : decode cc pc = .ok (.invokestatic 208, 3)) (kk : gz_V cR X G nL rem m9 (pc + 3) lv (.int r :: rest)) : gz_V cR X G nL rem m pc lv st0 :=
  gz_callS hX Rcs_E (As := [.int x0, .int x1]) (rest := rest) (Rct_J8_min (l := X.2.1) h) (lw_S q493 q494 q181 q495) (n := 2) (by decide +kernel) hroom rfl hst hW hd (rem := rem) kk
theorem Rcc_X0_185 {X : gz_X} {G : gz_G} {cc : ByteArray} {nL fr lo pc : Nat} {rem : Nat × Nat} {lv : List (Nat × Value)} {rest st0 : List Value} (hX : gz_C cR X G cc nL RX0 fr lo) {c0 : Nat} {x1 : Int32} {m m9 : gM} (hK : clR m.1 m.2.1 m.2.2.2.2.1 → m.1 c0 = 20 + 1)  {r : Nat} (h : Rcf_J2_get c0 x1 m = some (r, m9)) (hroom : 2 + 1 ≤ fr ∧ 8 + (2 + 11) + 43 ≤ lo) (hst : st0 = [.int x1, .ref (gz_ad G c0)] ++ rest) (hW : (rest.map fun v => v.category).sum ≤ 8) (hd : decode cc pc = .ok (.invokeinterface 185 2, 5)) (kk : gz_V cR X G nL rem m9 (pc + 5) lv (.ref (gz_ad G r) :: rest)) : gz_V cR X G nL rem m pc lv st0 :=
  gz_callF hX Rcs_E (x := cLg) (As := [.int x1]) (rest := rest) (q := (RJ2, TJ2, 3)) (ci := 20) (c := c0) (Rct_J2_get (l := X.2.1) h) (va_cwF 1 hX.2.2.2.2.1 (lw_app (by intro w hw; simp only [List.mem_cons, List.not_mem_nil, or_false] at hw; rcases hw with e | e | e | e <;> rw [e] <;> first | exact q474 | exact q477 | exact q479 | exact q171) (lw_meth q481)) rfl rfl rfl hX.2.2.2.2.2.1.2.1.2.2.2.1 (by decide +kernel) ⟨Nat.le_trans hroom.1 hX.2.2.2.2.2.2.1, Nat.le_trans hroom.2 hX.2.2.2.2.2.2.2⟩) rfl rfl (by decide) hK hst hW hd (rem := rem) kk
theorem Rck_X0_197 {X : gz_X} {G : gz_G} {cc : ByteArray} {nL fr lo pc : Nat} {rem : Nat × Nat} {m : gM} {lv : List (Nat × Value)} {st : List Value} (hX : gz_C cR X G cc nL RX0 fr lo) {c : Nat} (hK : m.1 c = 8) (hd : decode cc pc = .ok (.checkcast 197, 3)) (kk : gz_V cR X G nL rem m (pc + 3) lv (.ref (gz_ad G c) :: st)) : gz_V cR X G nL rem m pc lv (.ref (gz_ad G c) :: st) := by
  intro H locs ls cs hR hC hA hl
  have z := hK
  exact va_castS hX.1 hX.2.1 hX.2.2.2.1 (hX.2.2.2.2.1 _ q492) (hX.2.2.2.2.2.1.1.1 7 (RX8, TX8, 3) rfl).2 (gz_recv (X := X) hX.2.2.2.2.2.1 hR (ci := 7) (c := c) (q := (RX8, TX8, 3)) rfl (by decide) z) hd (kk H locs ls cs hR hC hA hl)
theorem Rcg_X0_199_7 {X : gz_X} {G : gz_G} {cc : ByteArray} {nL fr lo pc : Nat} {rem : Nat × Nat} {m : gM} {lv : List (Nat × Value)} {st : List Value} (hX : gz_C cR X G cc nL RX0 fr lo) {c : Nat} {v : Value} (hK : clR m.1 m.2.1 m.2.2.2.2.1 → m.1 c = 7 + 1) (hv : clR m.1 m.2.1 m.2.2.2.2.1 → gz_u (gz_ad G) m (ftC 7 0) c 0 = v) (hd : decode cc pc = .ok (.getfield 199, 3)) (kk : gz_V cR X G nL rem m (pc + 3) lv (v :: st)) : gz_V cR X G nL rem m pc lv (.ref (gz_ad G c) :: st) :=
  gz_getf hX (C := RX8) (T := TX8) (N := 3) (ci := 7) (k := 0) rfl (by decide) in_X8 (by decide) (Or.inr ⟨_, va_Nw.use rfl (Rcz_n (Z := cR) hX q951 rfl)⟩) hd hK hv kk
theorem Rcg_X0_202_7 {X : gz_X} {G : gz_G} {cc : ByteArray} {nL fr lo pc : Nat} {rem : Nat × Nat} {m : gM} {lv : List (Nat × Value)} {st : List Value} (hX : gz_C cR X G cc nL RX0 fr lo) {c : Nat} {v : Value} (hK : clR m.1 m.2.1 m.2.2.2.2.1 → m.1 c = 7 + 1) (hv : clR m.1 m.2.1 m.2.2.2.2.1 → gz_u (gz_ad G) m (ftC 7 1) c 1 = v) (hd : decode cc pc = .ok (.getfield 202, 3)) (kk : gz_V cR X G nL rem m (pc + 3) lv (v :: st)) : gz_V cR X G nL rem m pc lv (.ref (gz_ad G c) :: st) :=
  gz_getf hX (C := RX8) (T := TX8) (N := 3) (ci := 7) (k := 1) rfl (by decide) in_X8 (by decide) (Or.inr ⟨_, va_Nw.use rfl (Rcz_n (Z := cR) hX q953 rfl)⟩) hd hK hv kk
theorem Rcg_X0_205_7 {X : gz_X} {G : gz_G} {cc : ByteArray} {nL fr lo pc : Nat} {rem : Nat × Nat} {m : gM} {lv : List (Nat × Value)} {st : List Value} (hX : gz_C cR X G cc nL RX0 fr lo) {c : Nat} {v : Value} (hK : clR m.1 m.2.1 m.2.2.2.2.1 → m.1 c = 7 + 1) (hv : clR m.1 m.2.1 m.2.2.2.2.1 → gz_u (gz_ad G) m (ftC 7 2) c 2 = v) (hd : decode cc pc = .ok (.getfield 205, 3)) (kk : gz_V cR X G nL rem m (pc + 3) lv (v :: st)) : gz_V cR X G nL rem m pc lv (.ref (gz_ad G c) :: st) :=
  gz_getf hX (C := RX8) (T := TX8) (N := 3) (ci := 7) (k := 2) rfl (by decide) in_X8 (by decide) (Or.inr ⟨_, va_Nw.use rfl (Rcz_n (Z := cR) hX q955 rfl)⟩) hd hK hv kk
/-! FirstSnuffer.reckonsWays()V -/
def RmP_X0_reckonsWays_2 (X : gz_X) (G : gz_G) (c0 : Nat) (q : (Int32 × gM)) : Prop := gz_V cR X G 4 (0, 0) q.2 2 [(0, .ref (gz_ad G c0)), (1, .int q.1)] []
def RmP_X0_reckonsWays_49 (X : gz_X) (G : gz_G) (c0 : Nat) (q : (Int32 × gM)) : Prop := gz_V cR X G 4 (0, 0) q.2 49 [(0, .ref (gz_ad G c0)), (1, .int q.1)] []
def RmP_X0_reckonsWays_153 (X : gz_X) (G : gz_G) (c0 : Nat) (q : (Int32 × gM)) : Prop := gz_V cR X G 4 (0, 0) q.2 153 [(0, .ref (gz_ad G c0)), (1, .int q.1)] []
def RmP_X0_reckonsWays_161 (X : gz_X) (G : gz_G) (c0 : Nat) (q : (Int32 × Int32 × gM)) : Prop := gz_V cR X G 4 (0, 0) q.2.2 161 [(0, .ref (gz_ad G c0)), (1, .int q.1), (2, .int q.2.1)] []
def RmP_X0_reckonsWays_169 (X : gz_X) (G : gz_G) (c0 : Nat) (q : (Int32 × Int32 × Int32 × gM)) : Prop := gz_V cR X G 4 (0, 0) q.2.2.2 169 [(0, .ref (gz_ad G c0)), (1, .int q.1), (2, .int q.2.1), (3, .int q.2.2.1)] []
noncomputable def Rmb_X0_reckonsWays_169 (c0 : Nat) (x1 : Int32) (x2 : Int32) (x3 : Int32) (m : gM) : Option ((Int32 × Int32 × Int32 × gM) ⊕ ((Int32 × Int32 × gM) ⊕ ((Int32 × gM) ⊕ (Unit × gM)))) :=
  (if (8 : Int32) ≤ x3 then gz_let (x2 + (1 : Int32)) fun y2 => some (Sum.inr (Sum.inl (x1, y2, m))) else (if gK m c0 = 1 then gz_let (gP m c0 9) fun r4 => (if r4 ≠ 0 then (if gK m r4 = 108 then (if gz_in x2 (gN m r4) then gz_let (gP m r4 (gz_ix x2)) fun r8 => (if r8 ≠ 0 then (if gK m c0 = 1 then gz_let (gP m c0 9) fun r11 => (if r11 ≠ 0 then (if gK m r11 = 108 then (if gz_in x2 (gN m r11) then gz_let (gP m r11 (gz_ix x2)) fun r15 => (if r15 ≠ 0 then (if gK m r15 = 101 then (if gz_in x3 (gN m r15) then (if gK m c0 = 1 then gz_let (gP m c0 9) fun r20 => (if r20 ≠ 0 then (if gK m r20 = 108 then (if gz_in x2 (gN m r20) then gz_let (gP m r20 (gz_ix x2)) fun r24 => (if r24 ≠ 0 then (if gK m r24 = 101 then (if gz_in x1 (gN m r24) then (if gK m c0 = 1 then gz_let (gP m c0 9) fun r29 => (if r29 ≠ 0 then (if gK m r29 = 108 then (if gz_in x1 (gN m r29) then gz_let (gP m r29 (gz_ix x1)) fun r33 => (if r33 ≠ 0 then (if gK m r33 = 101 then (if gz_in x3 (gN m r33) then ((Rcf_J8_min (gI m r15 (gz_ix x3)) ((gI m r24 (gz_ix x1)) + (gI m r33 (gz_ix x3))) m).bind fun (r37, m38) => (if gK m38 r8 = 101 ∧ 1000 ≤ r8 then (if gz_in x3 (gN m38 r8) then gz_let (gz_sI m38 r8 (gz_ix x3) r37) fun m42 => gz_let (x3 + (1 : Int32)) fun y43 => some (Sum.inl (x1, x2, y43, m42)) else none) else none)) else none) else none) else none) else none) else none) else none) else none) else none) else none) else none) else none) else none) else none) else none) else none) else none) else none) else none) else none) else none) else none) else none) else none) else none) else none) else none))
theorem Rwb_X0_reckonsWays_169 {X : gz_X} {G : gz_G} (hX : gz_C cR X G cX0_reckonsWays 4 RX0 3 64) {c0 : Nat} {x1 : Int32} {x2 : Int32} {x3 : Int32}  {m : gM} {z : ((Int32 × Int32 × Int32 × gM) ⊕ ((Int32 × Int32 × gM) ⊕ ((Int32 × gM) ⊕ (Unit × gM))))} (h : Rmb_X0_reckonsWays_169 c0 x1 x2 x3 m = some z) (hk : (Sum.elim (RmP_X0_reckonsWays_169 X G c0) (Sum.elim (RmP_X0_reckonsWays_161 X G c0) (Sum.elim (RmP_X0_reckonsWays_153 X G c0) (fun z : (Unit × gM) => gz_kV cR X G 4 (0, 0) cX0_reckonsWays z.2)))) z) : gz_V cR X G 4 (0, 0) m 169 [(0, .ref (gz_ad G c0)), (1, .int x1), (2, .int x2), (3, .int x3)] [] := by
  unfold Rmb_X0_reckonsWays_169 at h
  refine gz_iload_n (pc := 169) hX dX0_reckonsWays_169 rfl 3 rfl ?_
  refine gz_bipush (pc := 170) (v := (8 : Int32)) hX dX0_reckonsWays_170 (by decide) ?_
  refine gz_icmp_ge (pc := 172) (tgt := 217) hX dX0_reckonsWays_172 (by decide) (fun g1 => ?_) (fun g1 => ?_)
  · replace h := gz_it' g1 h
    obtain ⟨y2, ey2, h⟩ := gz_lt h
    refine gz_iinc (pc := 217) (v := y2) (lw := [(2, .int y2), (0, .ref (gz_ad G c0)), (1, .int x1), (3, .int x3)]) hX dX0_reckonsWays_217 (k := 2) rfl (by rw [ey2]; rfl) (by decide) rfl ?_
    refine gz_goto (pc := 220) (tgt := 161) hX dX0_reckonsWays_220 (by decide) ?_
    refine gz_sub (lw := [(0, .ref (gz_ad G c0)), (1, .int x1), (2, .int y2)]) [1, 2, 0] rfl ?_
    obtain rfl := Option.some.inj h
    exact hk
  · replace h := gz_if' g1 h
    refine gz_aload_n (pc := 175) hX dX0_reckonsWays_175 rfl 0 rfl ?_
    obtain ⟨g3, h⟩ := gz_gu h
    obtain ⟨r4, er4, h⟩ := gz_lt h
    obtain ⟨g5, h⟩ := gz_gu h
    refine Rcg_X0_68_0 (pc := 176) hX (c := c0) (v := .ref (gz_ad G r4)) (fun _ => g3) (fun _ => gz_rq er4 g5) dX0_reckonsWays_176 ?_
    refine gz_iload_n (pc := 179) hX dX0_reckonsWays_179 rfl 2 rfl ?_
    obtain ⟨g6, h⟩ := gz_gu h
    obtain ⟨g7, h⟩ := gz_gu h
    obtain ⟨r8, er8, h⟩ := gz_lt h
    obtain ⟨g9, h⟩ := gz_gu h
    refine gz_aald (pc := 180) (c := r4) (t := 7) (n := gN m r4) hX rfl rfl rfl (v := .ref (gz_ad G r8)) (fun _ => ⟨g6, rfl⟩) g7 (fun _ => gz_rq er8 g9) dX0_reckonsWays_180 ?_
    refine gz_iload_n (pc := 181) hX dX0_reckonsWays_181 rfl 3 rfl ?_
    refine gz_aload_n (pc := 182) hX dX0_reckonsWays_182 rfl 0 rfl ?_
    obtain ⟨g10, h⟩ := gz_gu h
    obtain ⟨r11, er11, h⟩ := gz_lt h
    obtain ⟨g12, h⟩ := gz_gu h
    refine Rcg_X0_68_0 (pc := 183) hX (c := c0) (v := .ref (gz_ad G r11)) (fun _ => g10) (fun _ => gz_rq er11 g12) dX0_reckonsWays_183 ?_
    refine gz_iload_n (pc := 186) hX dX0_reckonsWays_186 rfl 2 rfl ?_
    obtain ⟨g13, h⟩ := gz_gu h
    obtain ⟨g14, h⟩ := gz_gu h
    obtain ⟨r15, er15, h⟩ := gz_lt h
    obtain ⟨g16, h⟩ := gz_gu h
    refine gz_aald (pc := 187) (c := r11) (t := 7) (n := gN m r11) hX rfl rfl rfl (v := .ref (gz_ad G r15)) (fun _ => ⟨g13, rfl⟩) g14 (fun _ => gz_rq er15 g16) dX0_reckonsWays_187 ?_
    refine gz_iload_n (pc := 188) hX dX0_reckonsWays_188 rfl 3 rfl ?_
    obtain ⟨g17, h⟩ := gz_gu h
    obtain ⟨g18, h⟩ := gz_gu h
    refine gz_iald2 (pc := 189) (c := r15) (n := gN m r15) hX rfl (fun _ => ⟨g17, rfl⟩) g18 dX0_reckonsWays_189 ?_
    refine gz_aload_n (pc := 190) hX dX0_reckonsWays_190 rfl 0 rfl ?_
    obtain ⟨g19, h⟩ := gz_gu h
    obtain ⟨r20, er20, h⟩ := gz_lt h
    obtain ⟨g21, h⟩ := gz_gu h
    refine Rcg_X0_68_0 (pc := 191) hX (c := c0) (v := .ref (gz_ad G r20)) (fun _ => g19) (fun _ => gz_rq er20 g21) dX0_reckonsWays_191 ?_
    refine gz_iload_n (pc := 194) hX dX0_reckonsWays_194 rfl 2 rfl ?_
    obtain ⟨g22, h⟩ := gz_gu h
    obtain ⟨g23, h⟩ := gz_gu h
    obtain ⟨r24, er24, h⟩ := gz_lt h
    obtain ⟨g25, h⟩ := gz_gu h
    refine gz_aald (pc := 195) (c := r20) (t := 7) (n := gN m r20) hX rfl rfl rfl (v := .ref (gz_ad G r24)) (fun _ => ⟨g22, rfl⟩) g23 (fun _ => gz_rq er24 g25) dX0_reckonsWays_195 ?_
    refine gz_iload_n (pc := 196) hX dX0_reckonsWays_196 rfl 1 rfl ?_
    obtain ⟨g26, h⟩ := gz_gu h
    obtain ⟨g27, h⟩ := gz_gu h
    refine gz_iald2 (pc := 197) (c := r24) (n := gN m r24) hX rfl (fun _ => ⟨g26, rfl⟩) g27 dX0_reckonsWays_197 ?_
    refine gz_aload_n (pc := 198) hX dX0_reckonsWays_198 rfl 0 rfl ?_
    obtain ⟨g28, h⟩ := gz_gu h
    obtain ⟨r29, er29, h⟩ := gz_lt h
    obtain ⟨g30, h⟩ := gz_gu h
    refine Rcg_X0_68_0 (pc := 199) hX (c := c0) (v := .ref (gz_ad G r29)) (fun _ => g28) (fun _ => gz_rq er29 g30) dX0_reckonsWays_199 ?_
    refine gz_iload_n (pc := 202) hX dX0_reckonsWays_202 rfl 1 rfl ?_
    obtain ⟨g31, h⟩ := gz_gu h
    obtain ⟨g32, h⟩ := gz_gu h
    obtain ⟨r33, er33, h⟩ := gz_lt h
    obtain ⟨g34, h⟩ := gz_gu h
    refine gz_aald (pc := 203) (c := r29) (t := 7) (n := gN m r29) hX rfl rfl rfl (v := .ref (gz_ad G r33)) (fun _ => ⟨g31, rfl⟩) g32 (fun _ => gz_rq er33 g34) dX0_reckonsWays_203 ?_
    refine gz_iload_n (pc := 204) hX dX0_reckonsWays_204 rfl 3 rfl ?_
    obtain ⟨g35, h⟩ := gz_gu h
    obtain ⟨g36, h⟩ := gz_gu h
    refine gz_iald2 (pc := 205) (c := r33) (n := gN m r33) hX rfl (fun _ => ⟨g35, rfl⟩) g36 dX0_reckonsWays_205 ?_
    refine gz_iadd (pc := 206) hX dX0_reckonsWays_206 ?_
    obtain ⟨⟨r37, m38⟩, c39, h⟩ := gz_bd h
    refine Rcc_X0_208 (pc := 207) hX c39 ⟨Nat.le_of_ble_eq_true rfl, Nat.le_of_ble_eq_true rfl⟩ (rest := [.int x3, .ref (gz_ad G r8)]) rfl (Nat.le_of_ble_eq_true rfl) dX0_reckonsWays_207 ?_
    obtain ⟨g40, h⟩ := gz_gu h
    obtain ⟨g41, h⟩ := gz_gu h
    obtain ⟨m42, em42, h⟩ := gz_lt h
    refine gz_iast2 (pc := 210) (c := r8) (n := gN m38 r8) hX rfl (fun _ => ⟨g40.1, rfl⟩) g40.2 g41 dX0_reckonsWays_210 em42 ?_
    obtain ⟨y43, ey43, h⟩ := gz_lt h
    refine gz_iinc (pc := 211) (v := y43) (lw := [(3, .int y43), (0, .ref (gz_ad G c0)), (1, .int x1), (2, .int x2)]) hX dX0_reckonsWays_211 (k := 3) rfl (by rw [ey43]; rfl) (by decide) rfl ?_
    refine gz_goto (pc := 214) (tgt := 169) hX dX0_reckonsWays_214 (by decide) ?_
    refine gz_sub (lw := [(0, .ref (gz_ad G c0)), (1, .int x1), (2, .int x2), (3, .int y43)]) [1, 2, 3, 0] rfl ?_
    obtain rfl := Option.some.inj h
    exact hk
noncomputable def Rml_X0_reckonsWays_169 (c0 : Nat) (x1 : Int32) (x2 : Int32) (x3 : Int32) (m : gM) : Option ((Int32 × Int32 × gM) ⊕ ((Int32 × gM) ⊕ (Unit × gM))) := gz_loop (fun q : (Int32 × Int32 × Int32 × gM) => Rmb_X0_reckonsWays_169 c0 q.1 q.2.1 q.2.2.1 q.2.2.2) (x1, x2, x3, m)
theorem Rwl_X0_reckonsWays_169 {X : gz_X} {G : gz_G} (hX : gz_C cR X G cX0_reckonsWays 4 RX0 3 64) {c0 : Nat} {x1 : Int32} {x2 : Int32} {x3 : Int32}  {m : gM} {z : ((Int32 × Int32 × gM) ⊕ ((Int32 × gM) ⊕ (Unit × gM)))} (h : Rml_X0_reckonsWays_169 c0 x1 x2 x3 m = some z) (hk : (Sum.elim (RmP_X0_reckonsWays_161 X G c0) (Sum.elim (RmP_X0_reckonsWays_153 X G c0) (fun z : (Unit × gM) => gz_kV cR X G 4 (0, 0) cX0_reckonsWays z.2))) z) : gz_V cR X G 4 (0, 0) m 169 [(0, .ref (gz_ad G c0)), (1, .int x1), (2, .int x2), (3, .int x3)] [] := by
  have hp : RmP_X0_reckonsWays_169 X G c0 (x1, x2, x3, m) := gz_loop_ind (fun q z hz hkz => Rwb_X0_reckonsWays_169 hX  hz hkz) h hk
  exact hp
noncomputable def Rmb_X0_reckonsWays_161 (c0 : Nat) (x1 : Int32) (x2 : Int32) (m : gM) : Option ((Int32 × Int32 × gM) ⊕ ((Int32 × gM) ⊕ (Unit × gM))) :=
  (if (8 : Int32) ≤ x2 then gz_let (x1 + (1 : Int32)) fun y2 => some (Sum.inr (Sum.inl (y2, m))) else (Rml_X0_reckonsWays_169 c0 x1 x2 (0 : Int32) m))
theorem Rwb_X0_reckonsWays_161 {X : gz_X} {G : gz_G} (hX : gz_C cR X G cX0_reckonsWays 4 RX0 3 64) {c0 : Nat} {x1 : Int32} {x2 : Int32}  {m : gM} {z : ((Int32 × Int32 × gM) ⊕ ((Int32 × gM) ⊕ (Unit × gM)))} (h : Rmb_X0_reckonsWays_161 c0 x1 x2 m = some z) (hk : (Sum.elim (RmP_X0_reckonsWays_161 X G c0) (Sum.elim (RmP_X0_reckonsWays_153 X G c0) (fun z : (Unit × gM) => gz_kV cR X G 4 (0, 0) cX0_reckonsWays z.2))) z) : gz_V cR X G 4 (0, 0) m 161 [(0, .ref (gz_ad G c0)), (1, .int x1), (2, .int x2)] [] := by
  unfold Rmb_X0_reckonsWays_161 at h
  refine gz_iload_n (pc := 161) hX dX0_reckonsWays_161 rfl 2 rfl ?_
  refine gz_bipush (pc := 162) (v := (8 : Int32)) hX dX0_reckonsWays_162 (by decide) ?_
  refine gz_icmp_ge (pc := 164) (tgt := 223) hX dX0_reckonsWays_164 (by decide) (fun g1 => ?_) (fun g1 => ?_)
  · replace h := gz_it' g1 h
    obtain ⟨y2, ey2, h⟩ := gz_lt h
    refine gz_iinc (pc := 223) (v := y2) (lw := [(1, .int y2), (0, .ref (gz_ad G c0)), (2, .int x2)]) hX dX0_reckonsWays_223 (k := 1) rfl (by rw [ey2]; rfl) (by decide) rfl ?_
    refine gz_goto (pc := 226) (tgt := 153) hX dX0_reckonsWays_226 (by decide) ?_
    refine gz_sub (lw := [(0, .ref (gz_ad G c0)), (1, .int y2)]) [1, 0] rfl ?_
    obtain rfl := Option.some.inj h
    exact hk
  · replace h := gz_if' g1 h
    refine gz_iconst (pc := 167) (v := (0 : Int32)) hX dX0_reckonsWays_167 (by decide) ?_
    refine gz_istore_n (pc := 168) (lw := [(3, .int (0 : Int32)), (0, .ref (gz_ad G c0)), (1, .int x1), (2, .int x2)]) hX dX0_reckonsWays_168 rfl (by decide) rfl ?_
    refine gz_sub (lw := [(0, .ref (gz_ad G c0)), (1, .int x1), (2, .int x2), (3, .int (0 : Int32))]) [1, 2, 3, 0] rfl ?_
    exact Rwl_X0_reckonsWays_169 hX h hk
noncomputable def Rml_X0_reckonsWays_161 (c0 : Nat) (x1 : Int32) (x2 : Int32) (m : gM) : Option ((Int32 × gM) ⊕ (Unit × gM)) := gz_loop (fun q : (Int32 × Int32 × gM) => Rmb_X0_reckonsWays_161 c0 q.1 q.2.1 q.2.2) (x1, x2, m)
theorem Rwl_X0_reckonsWays_161 {X : gz_X} {G : gz_G} (hX : gz_C cR X G cX0_reckonsWays 4 RX0 3 64) {c0 : Nat} {x1 : Int32} {x2 : Int32}  {m : gM} {z : ((Int32 × gM) ⊕ (Unit × gM))} (h : Rml_X0_reckonsWays_161 c0 x1 x2 m = some z) (hk : (Sum.elim (RmP_X0_reckonsWays_153 X G c0) (fun z : (Unit × gM) => gz_kV cR X G 4 (0, 0) cX0_reckonsWays z.2)) z) : gz_V cR X G 4 (0, 0) m 161 [(0, .ref (gz_ad G c0)), (1, .int x1), (2, .int x2)] [] := by
  have hp : RmP_X0_reckonsWays_161 X G c0 (x1, x2, m) := gz_loop_ind (fun q z hz hkz => Rwb_X0_reckonsWays_161 hX  hz hkz) h hk
  exact hp
noncomputable def Rmb_X0_reckonsWays_153 (c0 : Nat) (x1 : Int32) (m : gM) : Option ((Int32 × gM) ⊕ (Unit × gM)) :=
  (if (8 : Int32) ≤ x1 then some (Sum.inr ((), m)) else (Rml_X0_reckonsWays_161 c0 x1 (0 : Int32) m))
theorem Rwb_X0_reckonsWays_153 {X : gz_X} {G : gz_G} (hX : gz_C cR X G cX0_reckonsWays 4 RX0 3 64) {c0 : Nat} {x1 : Int32}  {m : gM} {z : ((Int32 × gM) ⊕ (Unit × gM))} (h : Rmb_X0_reckonsWays_153 c0 x1 m = some z) (hk : (Sum.elim (RmP_X0_reckonsWays_153 X G c0) (fun z : (Unit × gM) => gz_kV cR X G 4 (0, 0) cX0_reckonsWays z.2)) z) : gz_V cR X G 4 (0, 0) m 153 [(0, .ref (gz_ad G c0)), (1, .int x1)] [] := by
  unfold Rmb_X0_reckonsWays_153 at h
  refine gz_iload_n (pc := 153) hX dX0_reckonsWays_153 rfl 1 rfl ?_
  refine gz_bipush (pc := 154) (v := (8 : Int32)) hX dX0_reckonsWays_154 (by decide) ?_
  refine gz_icmp_ge (pc := 156) (tgt := 229) hX dX0_reckonsWays_156 (by decide) (fun g1 => ?_) (fun g1 => ?_)
  · replace h := gz_it' g1 h
    obtain rfl := Option.some.inj h
    exact hk _ _ dX0_reckonsWays_229
  · replace h := gz_if' g1 h
    refine gz_iconst (pc := 159) (v := (0 : Int32)) hX dX0_reckonsWays_159 (by decide) ?_
    refine gz_istore_n (pc := 160) (lw := [(2, .int (0 : Int32)), (0, .ref (gz_ad G c0)), (1, .int x1)]) hX dX0_reckonsWays_160 rfl (by decide) rfl ?_
    refine gz_sub (lw := [(0, .ref (gz_ad G c0)), (1, .int x1), (2, .int (0 : Int32))]) [1, 2, 0] rfl ?_
    exact Rwl_X0_reckonsWays_161 hX h hk
noncomputable def Rml_X0_reckonsWays_153 (c0 : Nat) (x1 : Int32) (m : gM) : Option (Unit × gM) := gz_loop (fun q : (Int32 × gM) => Rmb_X0_reckonsWays_153 c0 q.1 q.2) (x1, m)
theorem Rwl_X0_reckonsWays_153 {X : gz_X} {G : gz_G} (hX : gz_C cR X G cX0_reckonsWays 4 RX0 3 64) {c0 : Nat} {x1 : Int32}  {m : gM} {z : (Unit × gM)} (h : Rml_X0_reckonsWays_153 c0 x1 m = some z) (hk : (fun z : (Unit × gM) => gz_kV cR X G 4 (0, 0) cX0_reckonsWays z.2) z) : gz_V cR X G 4 (0, 0) m 153 [(0, .ref (gz_ad G c0)), (1, .int x1)] [] := by
  have hp : RmP_X0_reckonsWays_153 X G c0 (x1, m) := gz_loop_ind (fun q z hz hkz => Rwb_X0_reckonsWays_153 hX  hz hkz) h hk
  exact hp
noncomputable def Rmb_X0_reckonsWays_49 (c0 : Nat) (x1 : Int32) (m : gM) : Option ((Int32 × gM) ⊕ (Unit × gM)) :=
  (if gK m c0 = 1 then gz_let (gP m c0 0) fun r2 => (if r2 ≠ 0 then (if gK m r2 = 2 then gz_let (gP m r2 4) fun r5 => (if r5 ≠ 0 then (if gK m r5 = 21 then ((Rcf_J2_size r5 m).bind fun (r8, m9) => (if r8 ≤ x1 then (Option.map Sum.inr (Rml_X0_reckonsWays_153 c0 (0 : Int32) m9)) else (if gK m9 c0 = 1 then gz_let (gP m9 c0 0) fun r13 => (if r13 ≠ 0 then (if gK m9 r13 = 2 then gz_let (gP m9 r13 4) fun r16 => (if r16 ≠ 0 then (if gK m9 r16 = 21 then ((Rcf_J2_get r16 x1 m9).bind fun (r19, m20) => (if gK m20 r19 = 8 then (if gK m20 c0 = 1 then gz_let (gP m20 c0 9) fun r24 => (if r24 ≠ 0 then (if gK m20 r19 = 8 then (if gK m20 r24 = 108 then (if gz_in (gI m20 r19 0) (gN m20 r24) then gz_let (gP m20 r24 (gz_ix (gI m20 r19 0))) fun r29 => (if r29 ≠ 0 then (if gK m20 r19 = 8 then (if gK m20 c0 = 1 then gz_let (gP m20 c0 9) fun r33 => (if r33 ≠ 0 then (if gK m20 r19 = 8 then (if gK m20 r33 = 108 then (if gz_in (gI m20 r19 0) (gN m20 r33) then gz_let (gP m20 r33 (gz_ix (gI m20 r19 0))) fun r38 => (if r38 ≠ 0 then (if gK m20 r19 = 8 then (if gK m20 r38 = 101 then (if gz_in (gI m20 r19 1) (gN m20 r38) then (if gK m20 r19 = 8 then ((Rcf_J8_min (gI m20 r38 (gz_ix (gI m20 r19 1))) (gI m20 r19 2) m20).bind fun (r44, m45) => (if gK m45 r29 = 101 ∧ 1000 ≤ r29 then (if gz_in (gI m20 r19 1) (gN m45 r29) then gz_let (gz_sI m45 r29 (gz_ix (gI m20 r19 1)) r44) fun m49 => (if gK m49 c0 = 1 then gz_let (gP m49 c0 9) fun r51 => (if r51 ≠ 0 then (if gK m49 r19 = 8 then (if gK m49 r51 = 108 then (if gz_in (gI m49 r19 1) (gN m49 r51) then gz_let (gP m49 r51 (gz_ix (gI m49 r19 1))) fun r56 => (if r56 ≠ 0 then (if gK m49 r19 = 8 then (if gK m49 c0 = 1 then gz_let (gP m49 c0 9) fun r60 => (if r60 ≠ 0 then (if gK m49 r19 = 8 then (if gK m49 r60 = 108 then (if gz_in (gI m49 r19 0) (gN m49 r60) then gz_let (gP m49 r60 (gz_ix (gI m49 r19 0))) fun r65 => (if r65 ≠ 0 then (if gK m49 r19 = 8 then (if gK m49 r65 = 101 then (if gz_in (gI m49 r19 1) (gN m49 r65) then (if gK m49 r56 = 101 ∧ 1000 ≤ r56 then (if gz_in (gI m49 r19 0) (gN m49 r56) then gz_let (gz_sI m49 r56 (gz_ix (gI m49 r19 0)) (gI m49 r65 (gz_ix (gI m49 r19 1)))) fun m72 => gz_let (x1 + (1 : Int32)) fun y73 => some (Sum.inl (y73, m72)) else none) else none) else none) else none) else none) else none) else none) else none) else none) else none) else none) else none) else none) else none) else none) else none) else none) else none) else none) else none)) else none) else none) else none) else none) else none) else none) else none) else none) else none) else none) else none) else none) else none) else none) else none) else none) else none) else none)) else none) else none) else none) else none) else none))) else none) else none) else none) else none) else none)
theorem Rwb_X0_reckonsWays_49 {X : gz_X} {G : gz_G} (hX : gz_C cR X G cX0_reckonsWays 4 RX0 3 64) {c0 : Nat} {x1 : Int32}  {m : gM} {z : ((Int32 × gM) ⊕ (Unit × gM))} (h : Rmb_X0_reckonsWays_49 c0 x1 m = some z) (hk : (Sum.elim (RmP_X0_reckonsWays_49 X G c0) (fun z : (Unit × gM) => gz_kV cR X G 4 (0, 0) cX0_reckonsWays z.2)) z) : gz_V cR X G 4 (0, 0) m 49 [(0, .ref (gz_ad G c0)), (1, .int x1)] [] := by
  unfold Rmb_X0_reckonsWays_49 at h
  refine gz_iload_n (pc := 49) hX dX0_reckonsWays_49 rfl 1 rfl ?_
  refine gz_aload_n (pc := 50) hX dX0_reckonsWays_50 rfl 0 rfl ?_
  obtain ⟨g1, h⟩ := gz_gu h
  obtain ⟨r2, er2, h⟩ := gz_lt h
  obtain ⟨g3, h⟩ := gz_gu h
  refine Rcg_X0_31_0 (pc := 51) hX (c := c0) (v := .ref (gz_ad G r2)) (fun _ => g1) (fun _ => gz_rq er2 g3) dX0_reckonsWays_51 ?_
  obtain ⟨g4, h⟩ := gz_gu h
  obtain ⟨r5, er5, h⟩ := gz_lt h
  obtain ⟨g6, h⟩ := gz_gu h
  refine Rcg_X0_194_1 (pc := 54) hX (c := r2) (v := .ref (gz_ad G r5)) (fun _ => g4) (fun _ => gz_rq er5 g6) dX0_reckonsWays_54 ?_
  obtain ⟨g7, h⟩ := gz_gu h
  obtain ⟨⟨r8, m9⟩, c10, h⟩ := gz_bd h
  refine Rcc_X0_168 (pc := 57) hX (fun _ => g7) c10 ⟨Nat.le_of_ble_eq_true rfl, Nat.le_of_ble_eq_true rfl⟩ (rest := [.int x1]) rfl (Nat.le_of_ble_eq_true rfl) dX0_reckonsWays_57 ?_
  refine gz_icmp_ge (pc := 62) (tgt := 151) hX dX0_reckonsWays_62 (by decide) (fun g11 => ?_) (fun g11 => ?_)
  · replace h := gz_it' g11 h
    refine gz_iconst (pc := 151) (v := (0 : Int32)) hX dX0_reckonsWays_151 (by decide) ?_
    refine gz_istore_n (pc := 152) (lw := [(1, .int (0 : Int32)), (0, .ref (gz_ad G c0))]) hX dX0_reckonsWays_152 rfl (by decide) rfl ?_
    refine gz_sub (lw := [(0, .ref (gz_ad G c0)), (1, .int (0 : Int32))]) [1, 0] rfl ?_
    obtain ⟨z0, hm0, rfl⟩ := gz_mp h
    exact Rwl_X0_reckonsWays_153 hX hm0 hk
  · replace h := gz_if' g11 h
    refine gz_aload_n (pc := 65) hX dX0_reckonsWays_65 rfl 0 rfl ?_
    obtain ⟨g12, h⟩ := gz_gu h
    obtain ⟨r13, er13, h⟩ := gz_lt h
    obtain ⟨g14, h⟩ := gz_gu h
    refine Rcg_X0_31_0 (pc := 66) hX (c := c0) (v := .ref (gz_ad G r13)) (fun _ => g12) (fun _ => gz_rq er13 g14) dX0_reckonsWays_66 ?_
    obtain ⟨g15, h⟩ := gz_gu h
    obtain ⟨r16, er16, h⟩ := gz_lt h
    obtain ⟨g17, h⟩ := gz_gu h
    refine Rcg_X0_194_1 (pc := 69) hX (c := r13) (v := .ref (gz_ad G r16)) (fun _ => g15) (fun _ => gz_rq er16 g17) dX0_reckonsWays_69 ?_
    refine gz_iload_n (pc := 72) hX dX0_reckonsWays_72 rfl 1 rfl ?_
    obtain ⟨g18, h⟩ := gz_gu h
    obtain ⟨⟨r19, m20⟩, c21, h⟩ := gz_bd h
    refine Rcc_X0_185 (pc := 73) hX (fun _ => g18) c21 ⟨Nat.le_of_ble_eq_true rfl, Nat.le_of_ble_eq_true rfl⟩ (rest := []) rfl (Nat.le_of_ble_eq_true rfl) dX0_reckonsWays_73 ?_
    obtain ⟨g22, h⟩ := gz_gu h
    refine Rck_X0_197 (pc := 78) hX (c := r19) g22 dX0_reckonsWays_78 ?_
    refine gz_astore_n (pc := 81) (lw := [(2, .ref (gz_ad G r19)), (0, .ref (gz_ad G c0)), (1, .int x1)]) hX dX0_reckonsWays_81 rfl (by decide) rfl ?_
    refine gz_aload_n (pc := 82) hX dX0_reckonsWays_82 rfl 1 rfl ?_
    obtain ⟨g23, h⟩ := gz_gu h
    obtain ⟨r24, er24, h⟩ := gz_lt h
    obtain ⟨g25, h⟩ := gz_gu h
    refine Rcg_X0_68_0 (pc := 83) hX (c := c0) (v := .ref (gz_ad G r24)) (fun _ => g23) (fun _ => gz_rq er24 g25) dX0_reckonsWays_83 ?_
    refine gz_aload_n (pc := 86) hX dX0_reckonsWays_86 rfl 0 rfl ?_
    obtain ⟨g26, h⟩ := gz_gu h
    refine Rcg_X0_199_7 (pc := 87) hX (c := r19) (v := .int (gI m20 r19 0)) (fun _ => g26) (fun _ => rfl) dX0_reckonsWays_87 ?_
    obtain ⟨g27, h⟩ := gz_gu h
    obtain ⟨g28, h⟩ := gz_gu h
    obtain ⟨r29, er29, h⟩ := gz_lt h
    obtain ⟨g30, h⟩ := gz_gu h
    refine gz_aald (pc := 90) (c := r24) (t := 7) (n := gN m20 r24) hX rfl rfl rfl (v := .ref (gz_ad G r29)) (fun _ => ⟨g27, rfl⟩) g28 (fun _ => gz_rq er29 g30) dX0_reckonsWays_90 ?_
    refine gz_aload_n (pc := 91) hX dX0_reckonsWays_91 rfl 0 rfl ?_
    obtain ⟨g31, h⟩ := gz_gu h
    refine Rcg_X0_202_7 (pc := 92) hX (c := r19) (v := .int (gI m20 r19 1)) (fun _ => g31) (fun _ => rfl) dX0_reckonsWays_92 ?_
    refine gz_aload_n (pc := 95) hX dX0_reckonsWays_95 rfl 1 rfl ?_
    obtain ⟨g32, h⟩ := gz_gu h
    obtain ⟨r33, er33, h⟩ := gz_lt h
    obtain ⟨g34, h⟩ := gz_gu h
    refine Rcg_X0_68_0 (pc := 96) hX (c := c0) (v := .ref (gz_ad G r33)) (fun _ => g32) (fun _ => gz_rq er33 g34) dX0_reckonsWays_96 ?_
    refine gz_aload_n (pc := 99) hX dX0_reckonsWays_99 rfl 0 rfl ?_
    obtain ⟨g35, h⟩ := gz_gu h
    refine Rcg_X0_199_7 (pc := 100) hX (c := r19) (v := .int (gI m20 r19 0)) (fun _ => g35) (fun _ => rfl) dX0_reckonsWays_100 ?_
    obtain ⟨g36, h⟩ := gz_gu h
    obtain ⟨g37, h⟩ := gz_gu h
    obtain ⟨r38, er38, h⟩ := gz_lt h
    obtain ⟨g39, h⟩ := gz_gu h
    refine gz_aald (pc := 103) (c := r33) (t := 7) (n := gN m20 r33) hX rfl rfl rfl (v := .ref (gz_ad G r38)) (fun _ => ⟨g36, rfl⟩) g37 (fun _ => gz_rq er38 g39) dX0_reckonsWays_103 ?_
    refine gz_aload_n (pc := 104) hX dX0_reckonsWays_104 rfl 0 rfl ?_
    obtain ⟨g40, h⟩ := gz_gu h
    refine Rcg_X0_202_7 (pc := 105) hX (c := r19) (v := .int (gI m20 r19 1)) (fun _ => g40) (fun _ => rfl) dX0_reckonsWays_105 ?_
    obtain ⟨g41, h⟩ := gz_gu h
    obtain ⟨g42, h⟩ := gz_gu h
    refine gz_iald2 (pc := 108) (c := r38) (n := gN m20 r38) hX rfl (fun _ => ⟨g41, rfl⟩) g42 dX0_reckonsWays_108 ?_
    refine gz_aload_n (pc := 109) hX dX0_reckonsWays_109 rfl 0 rfl ?_
    obtain ⟨g43, h⟩ := gz_gu h
    refine Rcg_X0_205_7 (pc := 110) hX (c := r19) (v := .int (gI m20 r19 2)) (fun _ => g43) (fun _ => rfl) dX0_reckonsWays_110 ?_
    obtain ⟨⟨r44, m45⟩, c46, h⟩ := gz_bd h
    refine Rcc_X0_208 (pc := 113) hX c46 ⟨Nat.le_of_ble_eq_true rfl, Nat.le_of_ble_eq_true rfl⟩ (rest := [.int (gI m20 r19 1), .ref (gz_ad G r29)]) rfl (Nat.le_of_ble_eq_true rfl) dX0_reckonsWays_113 ?_
    obtain ⟨g47, h⟩ := gz_gu h
    obtain ⟨g48, h⟩ := gz_gu h
    obtain ⟨m49, em49, h⟩ := gz_lt h
    refine gz_iast2 (pc := 116) (c := r29) (n := gN m45 r29) hX rfl (fun _ => ⟨g47.1, rfl⟩) g47.2 g48 dX0_reckonsWays_116 em49 ?_
    refine gz_aload_n (pc := 117) hX dX0_reckonsWays_117 rfl 1 rfl ?_
    obtain ⟨g50, h⟩ := gz_gu h
    obtain ⟨r51, er51, h⟩ := gz_lt h
    obtain ⟨g52, h⟩ := gz_gu h
    refine Rcg_X0_68_0 (pc := 118) hX (c := c0) (v := .ref (gz_ad G r51)) (fun _ => g50) (fun _ => gz_rq er51 g52) dX0_reckonsWays_118 ?_
    refine gz_aload_n (pc := 121) hX dX0_reckonsWays_121 rfl 0 rfl ?_
    obtain ⟨g53, h⟩ := gz_gu h
    refine Rcg_X0_202_7 (pc := 122) hX (c := r19) (v := .int (gI m49 r19 1)) (fun _ => g53) (fun _ => rfl) dX0_reckonsWays_122 ?_
    obtain ⟨g54, h⟩ := gz_gu h
    obtain ⟨g55, h⟩ := gz_gu h
    obtain ⟨r56, er56, h⟩ := gz_lt h
    obtain ⟨g57, h⟩ := gz_gu h
    refine gz_aald (pc := 125) (c := r51) (t := 7) (n := gN m49 r51) hX rfl rfl rfl (v := .ref (gz_ad G r56)) (fun _ => ⟨g54, rfl⟩) g55 (fun _ => gz_rq er56 g57) dX0_reckonsWays_125 ?_
    refine gz_aload_n (pc := 126) hX dX0_reckonsWays_126 rfl 0 rfl ?_
    obtain ⟨g58, h⟩ := gz_gu h
    refine Rcg_X0_199_7 (pc := 127) hX (c := r19) (v := .int (gI m49 r19 0)) (fun _ => g58) (fun _ => rfl) dX0_reckonsWays_127 ?_
    refine gz_aload_n (pc := 130) hX dX0_reckonsWays_130 rfl 1 rfl ?_
    obtain ⟨g59, h⟩ := gz_gu h
    obtain ⟨r60, er60, h⟩ := gz_lt h
    obtain ⟨g61, h⟩ := gz_gu h
    refine Rcg_X0_68_0 (pc := 131) hX (c := c0) (v := .ref (gz_ad G r60)) (fun _ => g59) (fun _ => gz_rq er60 g61) dX0_reckonsWays_131 ?_
    refine gz_aload_n (pc := 134) hX dX0_reckonsWays_134 rfl 0 rfl ?_
    obtain ⟨g62, h⟩ := gz_gu h
    refine Rcg_X0_199_7 (pc := 135) hX (c := r19) (v := .int (gI m49 r19 0)) (fun _ => g62) (fun _ => rfl) dX0_reckonsWays_135 ?_
    obtain ⟨g63, h⟩ := gz_gu h
    obtain ⟨g64, h⟩ := gz_gu h
    obtain ⟨r65, er65, h⟩ := gz_lt h
    obtain ⟨g66, h⟩ := gz_gu h
    refine gz_aald (pc := 138) (c := r60) (t := 7) (n := gN m49 r60) hX rfl rfl rfl (v := .ref (gz_ad G r65)) (fun _ => ⟨g63, rfl⟩) g64 (fun _ => gz_rq er65 g66) dX0_reckonsWays_138 ?_
    refine gz_aload_n (pc := 139) hX dX0_reckonsWays_139 rfl 0 rfl ?_
    obtain ⟨g67, h⟩ := gz_gu h
    refine Rcg_X0_202_7 (pc := 140) hX (c := r19) (v := .int (gI m49 r19 1)) (fun _ => g67) (fun _ => rfl) dX0_reckonsWays_140 ?_
    obtain ⟨g68, h⟩ := gz_gu h
    obtain ⟨g69, h⟩ := gz_gu h
    refine gz_iald2 (pc := 143) (c := r65) (n := gN m49 r65) hX rfl (fun _ => ⟨g68, rfl⟩) g69 dX0_reckonsWays_143 ?_
    obtain ⟨g70, h⟩ := gz_gu h
    obtain ⟨g71, h⟩ := gz_gu h
    obtain ⟨m72, em72, h⟩ := gz_lt h
    refine gz_iast2 (pc := 144) (c := r56) (n := gN m49 r56) hX rfl (fun _ => ⟨g70.1, rfl⟩) g70.2 g71 dX0_reckonsWays_144 em72 ?_
    obtain ⟨y73, ey73, h⟩ := gz_lt h
    refine gz_iinc (pc := 145) (v := y73) (lw := [(1, .int y73), (2, .ref (gz_ad G r19)), (0, .ref (gz_ad G c0))]) hX dX0_reckonsWays_145 (k := 2) rfl (by rw [ey73]; rfl) (by decide) rfl ?_
    refine gz_goto (pc := 148) (tgt := 49) hX dX0_reckonsWays_148 (by decide) ?_
    refine gz_sub (lw := [(0, .ref (gz_ad G c0)), (1, .int y73)]) [2, 0] rfl ?_
    obtain rfl := Option.some.inj h
    exact hk
noncomputable def Rml_X0_reckonsWays_49 (c0 : Nat) (x1 : Int32) (m : gM) : Option (Unit × gM) := gz_loop (fun q : (Int32 × gM) => Rmb_X0_reckonsWays_49 c0 q.1 q.2) (x1, m)
theorem Rwl_X0_reckonsWays_49 {X : gz_X} {G : gz_G} (hX : gz_C cR X G cX0_reckonsWays 4 RX0 3 64) {c0 : Nat} {x1 : Int32}  {m : gM} {z : (Unit × gM)} (h : Rml_X0_reckonsWays_49 c0 x1 m = some z) (hk : (fun z : (Unit × gM) => gz_kV cR X G 4 (0, 0) cX0_reckonsWays z.2) z) : gz_V cR X G 4 (0, 0) m 49 [(0, .ref (gz_ad G c0)), (1, .int x1)] [] := by
  have hp : RmP_X0_reckonsWays_49 X G c0 (x1, m) := gz_loop_ind (fun q z hz hkz => Rwb_X0_reckonsWays_49 hX  hz hkz) h hk
  exact hp
def RmP_X0_reckonsWays_10 (X : gz_X) (G : gz_G) (c0 : Nat) (q : (Int32 × Int32 × gM)) : Prop := gz_V cR X G 4 (0, 0) q.2.2 10 [(0, .ref (gz_ad G c0)), (1, .int q.1), (2, .int q.2.1)] []
noncomputable def Rmj_X0_reckonsWays_34 (c0 : Nat) (x1 : Int32) (x2 : Int32) (s0 : Int32) (s1 : Int32) (s2 : Nat) (m : gM) : Option ((Int32 × Int32 × gM) ⊕ ((Int32 × gM) ⊕ (Unit × gM))) :=
  (if gK m s2 = 101 ∧ 1000 ≤ s2 then (if gz_in s1 (gN m s2) then gz_let (gz_sI m s2 (gz_ix s1) s0) fun m3 => gz_let (x2 + (1 : Int32)) fun y4 => some (Sum.inl (x1, y4, m3)) else none) else none)
theorem Rwb_X0_reckonsWays_34 {X : gz_X} {G : gz_G} (hX : gz_C cR X G cX0_reckonsWays 4 RX0 3 64) {c0 : Nat} {x1 : Int32} {x2 : Int32} {s0 : Int32} {s1 : Int32} {s2 : Nat}  {m : gM} {z : ((Int32 × Int32 × gM) ⊕ ((Int32 × gM) ⊕ (Unit × gM)))} (h : Rmj_X0_reckonsWays_34 c0 x1 x2 s0 s1 s2 m = some z) (hk : (Sum.elim (RmP_X0_reckonsWays_10 X G c0) (Sum.elim (RmP_X0_reckonsWays_2 X G c0) (fun z : (Unit × gM) => gz_kV cR X G 4 (0, 0) cX0_reckonsWays z.2))) z) : gz_V cR X G 4 (0, 0) m 34 [(0, .ref (gz_ad G c0)), (1, .int x1), (2, .int x2)] [.int s0, .int s1, .ref (gz_ad G s2)] := by
  unfold Rmj_X0_reckonsWays_34 at h
  obtain ⟨g1, h⟩ := gz_gu h
  obtain ⟨g2, h⟩ := gz_gu h
  obtain ⟨m3, em3, h⟩ := gz_lt h
  refine gz_iast2 (pc := 34) (c := s2) (n := gN m s2) hX rfl (fun _ => ⟨g1.1, rfl⟩) g1.2 g2 dX0_reckonsWays_34 em3 ?_
  obtain ⟨y4, ey4, h⟩ := gz_lt h
  refine gz_iinc (pc := 35) (v := y4) (lw := [(2, .int y4), (0, .ref (gz_ad G c0)), (1, .int x1)]) hX dX0_reckonsWays_35 (k := 2) rfl (by rw [ey4]; rfl) (by decide) rfl ?_
  refine gz_goto (pc := 38) (tgt := 10) hX dX0_reckonsWays_38 (by decide) ?_
  refine gz_sub (lw := [(0, .ref (gz_ad G c0)), (1, .int x1), (2, .int y4)]) [1, 2, 0] rfl ?_
  obtain rfl := Option.some.inj h
  exact hk
noncomputable def Rmb_X0_reckonsWays_10 (c0 : Nat) (x1 : Int32) (x2 : Int32) (m : gM) : Option ((Int32 × Int32 × gM) ⊕ ((Int32 × gM) ⊕ (Unit × gM))) :=
  (if (8 : Int32) ≤ x2 then gz_let (x1 + (1 : Int32)) fun y2 => some (Sum.inr (Sum.inl (y2, m))) else (if gK m c0 = 1 then gz_let (gP m c0 9) fun r4 => (if r4 ≠ 0 then (if gK m r4 = 108 then (if gz_in x1 (gN m r4) then gz_let (gP m r4 (gz_ix x1)) fun r8 => (if r8 ≠ 0 then (if x1 = x2 then (Rmj_X0_reckonsWays_34 c0 x1 x2 (0 : Int32) x2 r8 m) else (Rmj_X0_reckonsWays_34 c0 x1 x2 (100000000 : Int32) x2 r8 m)) else none) else none) else none) else none) else none))
theorem Rwb_X0_reckonsWays_10 {X : gz_X} {G : gz_G} (hX : gz_C cR X G cX0_reckonsWays 4 RX0 3 64) {c0 : Nat} {x1 : Int32} {x2 : Int32}  {m : gM} {z : ((Int32 × Int32 × gM) ⊕ ((Int32 × gM) ⊕ (Unit × gM)))} (h : Rmb_X0_reckonsWays_10 c0 x1 x2 m = some z) (hk : (Sum.elim (RmP_X0_reckonsWays_10 X G c0) (Sum.elim (RmP_X0_reckonsWays_2 X G c0) (fun z : (Unit × gM) => gz_kV cR X G 4 (0, 0) cX0_reckonsWays z.2))) z) : gz_V cR X G 4 (0, 0) m 10 [(0, .ref (gz_ad G c0)), (1, .int x1), (2, .int x2)] [] := by
  unfold Rmb_X0_reckonsWays_10 at h
  refine gz_iload_n (pc := 10) hX dX0_reckonsWays_10 rfl 2 rfl ?_
  refine gz_bipush (pc := 11) (v := (8 : Int32)) hX dX0_reckonsWays_11 (by decide) ?_
  refine gz_icmp_ge (pc := 13) (tgt := 41) hX dX0_reckonsWays_13 (by decide) (fun g1 => ?_) (fun g1 => ?_)
  · replace h := gz_it' g1 h
    obtain ⟨y2, ey2, h⟩ := gz_lt h
    refine gz_iinc (pc := 41) (v := y2) (lw := [(1, .int y2), (0, .ref (gz_ad G c0)), (2, .int x2)]) hX dX0_reckonsWays_41 (k := 1) rfl (by rw [ey2]; rfl) (by decide) rfl ?_
    refine gz_goto (pc := 44) (tgt := 2) hX dX0_reckonsWays_44 (by decide) ?_
    refine gz_sub (lw := [(0, .ref (gz_ad G c0)), (1, .int y2)]) [1, 0] rfl ?_
    obtain rfl := Option.some.inj h
    exact hk
  · replace h := gz_if' g1 h
    refine gz_aload_n (pc := 16) hX dX0_reckonsWays_16 rfl 0 rfl ?_
    obtain ⟨g3, h⟩ := gz_gu h
    obtain ⟨r4, er4, h⟩ := gz_lt h
    obtain ⟨g5, h⟩ := gz_gu h
    refine Rcg_X0_68_0 (pc := 17) hX (c := c0) (v := .ref (gz_ad G r4)) (fun _ => g3) (fun _ => gz_rq er4 g5) dX0_reckonsWays_17 ?_
    refine gz_iload_n (pc := 20) hX dX0_reckonsWays_20 rfl 1 rfl ?_
    obtain ⟨g6, h⟩ := gz_gu h
    obtain ⟨g7, h⟩ := gz_gu h
    obtain ⟨r8, er8, h⟩ := gz_lt h
    obtain ⟨g9, h⟩ := gz_gu h
    refine gz_aald (pc := 21) (c := r4) (t := 7) (n := gN m r4) hX rfl rfl rfl (v := .ref (gz_ad G r8)) (fun _ => ⟨g6, rfl⟩) g7 (fun _ => gz_rq er8 g9) dX0_reckonsWays_21 ?_
    refine gz_iload_n (pc := 22) hX dX0_reckonsWays_22 rfl 2 rfl ?_
    refine gz_iload_n (pc := 23) hX dX0_reckonsWays_23 rfl 1 rfl ?_
    refine gz_iload_n (pc := 24) hX dX0_reckonsWays_24 rfl 2 rfl ?_
    refine gz_icmp_ne (pc := 25) (tgt := 32) hX dX0_reckonsWays_25 (by decide) (fun g10 => ?_) (fun g10 => ?_)
    · replace h := gz_if' g10 h
      refine gz_ldc (pc := 32) (v := (100000000 : Int32)) hX q462 dX0_reckonsWays_32 ?_
      exact Rwb_X0_reckonsWays_34 hX h hk
    · replace h := gz_it' g10 h
      refine gz_iconst (pc := 28) (v := (0 : Int32)) hX dX0_reckonsWays_28 (by decide) ?_
      refine gz_goto (pc := 29) (tgt := 34) hX dX0_reckonsWays_29 (by decide) ?_
      exact Rwb_X0_reckonsWays_34 hX h hk
noncomputable def Rml_X0_reckonsWays_10 (c0 : Nat) (x1 : Int32) (x2 : Int32) (m : gM) : Option ((Int32 × gM) ⊕ (Unit × gM)) := gz_loop (fun q : (Int32 × Int32 × gM) => Rmb_X0_reckonsWays_10 c0 q.1 q.2.1 q.2.2) (x1, x2, m)
theorem Rwl_X0_reckonsWays_10 {X : gz_X} {G : gz_G} (hX : gz_C cR X G cX0_reckonsWays 4 RX0 3 64) {c0 : Nat} {x1 : Int32} {x2 : Int32}  {m : gM} {z : ((Int32 × gM) ⊕ (Unit × gM))} (h : Rml_X0_reckonsWays_10 c0 x1 x2 m = some z) (hk : (Sum.elim (RmP_X0_reckonsWays_2 X G c0) (fun z : (Unit × gM) => gz_kV cR X G 4 (0, 0) cX0_reckonsWays z.2)) z) : gz_V cR X G 4 (0, 0) m 10 [(0, .ref (gz_ad G c0)), (1, .int x1), (2, .int x2)] [] := by
  have hp : RmP_X0_reckonsWays_10 X G c0 (x1, x2, m) := gz_loop_ind (fun q z hz hkz => Rwb_X0_reckonsWays_10 hX  hz hkz) h hk
  exact hp
noncomputable def Rmb_X0_reckonsWays_2 (c0 : Nat) (x1 : Int32) (m : gM) : Option ((Int32 × gM) ⊕ (Unit × gM)) :=
  (if (8 : Int32) ≤ x1 then (Option.map Sum.inr (Rml_X0_reckonsWays_49 c0 (0 : Int32) m)) else (Rml_X0_reckonsWays_10 c0 x1 (0 : Int32) m))
theorem Rwb_X0_reckonsWays_2 {X : gz_X} {G : gz_G} (hX : gz_C cR X G cX0_reckonsWays 4 RX0 3 64) {c0 : Nat} {x1 : Int32}  {m : gM} {z : ((Int32 × gM) ⊕ (Unit × gM))} (h : Rmb_X0_reckonsWays_2 c0 x1 m = some z) (hk : (Sum.elim (RmP_X0_reckonsWays_2 X G c0) (fun z : (Unit × gM) => gz_kV cR X G 4 (0, 0) cX0_reckonsWays z.2)) z) : gz_V cR X G 4 (0, 0) m 2 [(0, .ref (gz_ad G c0)), (1, .int x1)] [] := by
  unfold Rmb_X0_reckonsWays_2 at h
  refine gz_iload_n (pc := 2) hX dX0_reckonsWays_2 rfl 1 rfl ?_
  refine gz_bipush (pc := 3) (v := (8 : Int32)) hX dX0_reckonsWays_3 (by decide) ?_
  refine gz_icmp_ge (pc := 5) (tgt := 47) hX dX0_reckonsWays_5 (by decide) (fun g1 => ?_) (fun g1 => ?_)
  · replace h := gz_it' g1 h
    refine gz_iconst (pc := 47) (v := (0 : Int32)) hX dX0_reckonsWays_47 (by decide) ?_
    refine gz_istore_n (pc := 48) (lw := [(1, .int (0 : Int32)), (0, .ref (gz_ad G c0))]) hX dX0_reckonsWays_48 rfl (by decide) rfl ?_
    refine gz_sub (lw := [(0, .ref (gz_ad G c0)), (1, .int (0 : Int32))]) [1, 0] rfl ?_
    obtain ⟨z0, hm0, rfl⟩ := gz_mp h
    exact Rwl_X0_reckonsWays_49 hX hm0 hk
  · replace h := gz_if' g1 h
    refine gz_iconst (pc := 8) (v := (0 : Int32)) hX dX0_reckonsWays_8 (by decide) ?_
    refine gz_istore_n (pc := 9) (lw := [(2, .int (0 : Int32)), (0, .ref (gz_ad G c0)), (1, .int x1)]) hX dX0_reckonsWays_9 rfl (by decide) rfl ?_
    refine gz_sub (lw := [(0, .ref (gz_ad G c0)), (1, .int x1), (2, .int (0 : Int32))]) [1, 2, 0] rfl ?_
    exact Rwl_X0_reckonsWays_10 hX h hk
noncomputable def Rml_X0_reckonsWays_2 (c0 : Nat) (x1 : Int32) (m : gM) : Option (Unit × gM) := gz_loop (fun q : (Int32 × gM) => Rmb_X0_reckonsWays_2 c0 q.1 q.2) (x1, m)
theorem Rwl_X0_reckonsWays_2 {X : gz_X} {G : gz_G} (hX : gz_C cR X G cX0_reckonsWays 4 RX0 3 64) {c0 : Nat} {x1 : Int32}  {m : gM} {z : (Unit × gM)} (h : Rml_X0_reckonsWays_2 c0 x1 m = some z) (hk : (fun z : (Unit × gM) => gz_kV cR X G 4 (0, 0) cX0_reckonsWays z.2) z) : gz_V cR X G 4 (0, 0) m 2 [(0, .ref (gz_ad G c0)), (1, .int x1)] [] := by
  have hp : RmP_X0_reckonsWays_2 X G c0 (x1, m) := gz_loop_ind (fun q z hz hkz => Rwb_X0_reckonsWays_2 hX  hz hkz) h hk
  exact hp
noncomputable def Rcf_X0_reckonsWays (c0 : Nat) (m : gM) : Option (Unit × gM) :=
  (Rml_X0_reckonsWays_2 c0 (0 : Int32) m)
theorem Rwm_X0_reckonsWays {X : gz_X} {G : gz_G} (hX : gz_C cR X G cX0_reckonsWays 4 RX0 3 64) {c0 : Nat}  {m : gM} {z : (Unit × gM)} (h : Rcf_X0_reckonsWays c0 m = some z) (hk : (fun z : (Unit × gM) => gz_kV cR X G 4 (0, 0) cX0_reckonsWays z.2) z) : gz_V cR X G 4 (0, 0) m 0 [(0, .ref (gz_ad G c0))] [] := by
  unfold Rcf_X0_reckonsWays at h
  refine gz_iconst (pc := 0) (v := (0 : Int32)) hX dX0_reckonsWays_0 (by decide) ?_
  refine gz_istore_n (pc := 1) (lw := [(1, .int (0 : Int32)), (0, .ref (gz_ad G c0))]) hX dX0_reckonsWays_1 rfl (by decide) rfl ?_
  refine gz_sub (lw := [(0, .ref (gz_ad G c0)), (1, .int (0 : Int32))]) [1, 0] rfl ?_
  exact Rwl_X0_reckonsWays_2 hX h hk
theorem Rct_X0_reckonsWays {G : gz_G} {l : Launch} {c0 : Nat}  {m m9 : gM} (h : Rcf_X0_reckonsWays c0 m = some ((), m9)) : gz_Met cR G l yX0_reckonsWays cX0_reckonsWays 4 none (mRm 3 64) [.ref (gz_ad G c0)] m m9 none :=
  gz_ofV (by decide +kernel) (Nat.le_of_ble_eq_true rfl) fun X _ hX hk => Rwm_X0_reckonsWays hX h hk
theorem Rcn_X0_28 {X : gz_X} {G : gz_G} {cc : ByteArray} {nL fr lo pc : Nat} {rem : Nat × Nat} {m m9 : gM} {lv : List (Nat × Value)} {st : List Value} (hX : gz_C cR X G cc nL RX0 fr lo) (hz : gZ m ≠ 0) (hd : decode cc pc = .ok (.new 28, 3)) (hm : m9 = gz_al m (1 + 1) 0 9) (kk : gz_V cR X G nL rem m9 (pc + 3) lv (.ref (gz_ad G (gZ m)) :: st)) : gz_V cR X G nL (rem.1 + 1, rem.2 + 9) m pc lv st :=
  gz_new hX (C := RX1) (T := TX1) (N := 9) (ci := 1) rfl (by decide) in_X1 tyX1 tyX1_ok (by decide +kernel) q216 q217 q168 hz (fun _ _ => trivial) hd hm kk
theorem Rcc_X0_30 {X : gz_X} {G : gz_G} {cc : ByteArray} {nL fr lo pc : Nat} {rem : Nat × Nat} {lv : List (Nat × Value)} {rest st0 : List Value} (hX : gz_C cR X G cc nL RX0 fr lo) {c0 : Nat} {m m9 : gM}  (h : Rcf_X1_init c0 m = some ((), m9)) (hroom : 4 + 1 ≤ fr ∧ 8 + (1 + 11) + 81 ≤ lo) (hst : st0 = [.ref (gz_ad G c0)] ++ rest) (hW : (rest.map fun v => v.category).sum ≤ 8) (hd : decode cc pc = .ok (.invokespecial 30, 3)) (kk : gz_V cR X G nL rem m9 (pc + 3) lv (rest)) : gz_V cR X G nL (rem.1 + (gZ m9 - gZ m), rem.2 + (gW m9 - gW m)) m pc lv st0 :=
  gz_callIN hX Rcs_E (As := []) (rest := rest) (c := c0) (Rct_X1_init (l := X.2.1) h) q220 (Rcz_n (Z := cR) hX q218 rfl) q168 q219 rfl (n := 0) (by decide +kernel) hroom rfl hst hW hd (rem := rem) kk
theorem Rcp_X0_31_0 {X : gz_X} {G : gz_G} {cc : ByteArray} {nL fr lo pc : Nat} {rem : Nat × Nat} {m m9 : gM} {lv : List (Nat × Value)} {st : List Value} (hX : gz_C cR X G cc nL RX0 fr lo) {c : Nat} {r : Nat} (hK : clR m.1 m.2.1 m.2.2.2.2.1 → m.1 c = 0 + 1) (hw : 1000 ≤ c) (hs : r ≠ 0) (hd : decode cc pc = .ok (.putfield 31, 3)) (hm : m9 = gz_sP m c 0 r) (kk : gz_V cR X G nL rem m9 (pc + 3) lv st) : gz_V cR X G nL rem m pc lv (.ref (gz_ad G r) :: .ref (gz_ad G c) :: st) := by
  subst hm
  exact gz_putf hX (C := RX0) (T := TX0) (N := 28) (ci := 0) (k := 0) (μ' := gz_sP m c 0 r) (v := .ref (gz_ad G r)) rfl (by decide) in_X0 tyX0 tyX0_ok nmX0 (by decide) (Or.inl (hX.2.2.2.2.1 _ q500)) rfl rfl rfl rfl hd hK hw rfl rfl rfl (fun d tc j h => gz_sP_o d tc j h) (by intro j; rw [← gz_rfp hs]; exact gz_sP_v (fun j => ftC 0 j) rfl j) (fun h => h) kk
theorem Rcp_X0_35_0 {X : gz_X} {G : gz_G} {cc : ByteArray} {nL fr lo pc : Nat} {rem : Nat × Nat} {m m9 : gM} {lv : List (Nat × Value)} {st : List Value} (hX : gz_C cR X G cc nL RX0 fr lo) (hn0 : X.2.2.2.2.2.2.2.2.1.name = "<init>") {c : Nat} {r : Nat} (hK : clR m.1 m.2.1 m.2.2.2.2.1 → m.1 c = 0 + 1) (hw : 1000 ≤ c) (hs : r ≠ 0) (hd : decode cc pc = .ok (.putfield 35, 3)) (hm : m9 = gz_sP m c 1 r) (kk : gz_V cR X G nL rem m9 (pc + 3) lv st) : gz_V cR X G nL rem m pc lv (.ref (gz_ad G r) :: .ref (gz_ad G c) :: st) := by
  subst hm
  exact gz_putff hX (C := RX0) (T := TX0) (N := 28) (ci := 0) (k := 1) (μ' := gz_sP m c 1 r) (v := .ref (gz_ad G r)) rfl (by decide) in_X0 tyX0 tyX0_ok nmX0 (by decide) (hX.2.2.2.2.1 _ q502) (fun _ h => h) rfl hn0 rfl rfl rfl rfl hd hK hw rfl rfl rfl (fun d tc j h => gz_sP_o d tc j h) (by intro j; rw [← gz_rfp hs]; exact gz_sP_v (fun j => ftC 0 j) rfl j) (fun h => h) kk
theorem Rcp_X0_39_0 {X : gz_X} {G : gz_G} {cc : ByteArray} {nL fr lo pc : Nat} {rem : Nat × Nat} {m m9 : gM} {lv : List (Nat × Value)} {st : List Value} (hX : gz_C cR X G cc nL RX0 fr lo) {c : Nat} {x : Int32} (hK : clR m.1 m.2.1 m.2.2.2.2.1 → m.1 c = 0 + 1) (hw : 1000 ≤ c) (hd : decode cc pc = .ok (.putfield 39, 3)) (hm : m9 = gz_sI m c 4 x) (kk : gz_V cR X G nL rem m9 (pc + 3) lv st) : gz_V cR X G nL rem m pc lv (.int x :: .ref (gz_ad G c) :: st) := by
  subst hm
  exact gz_putf hX (C := RX0) (T := TX0) (N := 28) (ci := 0) (k := 4) (ty := .int) (μ' := gz_sI m c 4 x) rfl (by decide) in_X0 tyX0 tyX0_ok nmX0 (by decide) (Or.inl (hX.2.2.2.2.1 _ q505)) rfl rfl rfl rfl hd hK hw rfl rfl rfl (fun d tc j h => gz_sI_o d tc j h) (gz_sI_v (fun j => ftC 0 j) rfl) (fun h => h) kk
theorem Rcn_X0_43 {X : gz_X} {G : gz_G} {cc : ByteArray} {nL fr lo pc : Nat} {rem : Nat × Nat} {m m9 : gM} {lv : List (Nat × Value)} {st : List Value} (hX : gz_C cR X G cc nL RX0 fr lo) (hz : gZ m ≠ 0) (hd : decode cc pc = .ok (.new 43, 3)) (hm : m9 = gz_al m (2 + 1) 0 8) (kk : gz_V cR X G nL rem m9 (pc + 3) lv (.ref (gz_ad G (gZ m)) :: st)) : gz_V cR X G nL (rem.1 + 1, rem.2 + 8) m pc lv st :=
  gz_new hX (C := RX2) (T := TX2) (N := 8) (ci := 2) rfl (by decide) in_X2 tyX2 tyX2_ok (by decide +kernel) q291 q292 q172 hz (fun _ _ => trivial) hd hm kk
theorem Rcc_X0_45 {X : gz_X} {G : gz_G} {cc : ByteArray} {nL fr lo pc : Nat} {rem : Nat × Nat} {lv : List (Nat × Value)} {rest st0 : List Value} (hX : gz_C cR X G cc nL RX0 fr lo) {u1 u2 : Nat} {c0 : Nat} {c1 : Nat} {m m9 : gM} (hu : u1 = gz_ad G 8 ∧ u2 = gz_ad G 9)  (h : Rcf_X2_init u1 u2 c0 c1 m = some ((), m9)) (hroom : 5 + 1 ≤ fr ∧ 8 + (2 + 11) + 112 ≤ lo) (hst : st0 = [.ref (gz_ad G c1), .ref (gz_ad G c0)] ++ rest) (hW : (rest.map fun v => v.category).sum ≤ 8) (hd : decode cc pc = .ok (.invokespecial 45, 3)) (kk : gz_V cR X G nL rem m9 (pc + 3) lv (rest)) : gz_V cR X G nL (rem.1 + (gZ m9 - gZ m), rem.2 + (gW m9 - gW m)) m pc lv st0 :=
  gz_callIN hX Rcs_E (As := [.ref (gz_ad G c1)]) (rest := rest) (c := c0) (Rct_X2_init (l := X.2.1) hu h) q295 (Rcz_n (Z := cR) hX q293 rfl) q172 q294 rfl (n := 1) (by decide +kernel) hroom rfl hst hW hd (rem := rem) kk
theorem Rcp_X0_48_0 {X : gz_X} {G : gz_G} {cc : ByteArray} {nL fr lo pc : Nat} {rem : Nat × Nat} {m m9 : gM} {lv : List (Nat × Value)} {st : List Value} (hX : gz_C cR X G cc nL RX0 fr lo) (hn0 : X.2.2.2.2.2.2.2.2.1.name = "<init>") {c : Nat} {r : Nat} (hK : clR m.1 m.2.1 m.2.2.2.2.1 → m.1 c = 0 + 1) (hw : 1000 ≤ c) (hs : r ≠ 0) (hd : decode cc pc = .ok (.putfield 48, 3)) (hm : m9 = gz_sP m c 5 r) (kk : gz_V cR X G nL rem m9 (pc + 3) lv st) : gz_V cR X G nL rem m pc lv (.ref (gz_ad G r) :: .ref (gz_ad G c) :: st) := by
  subst hm
  exact gz_putff hX (C := RX0) (T := TX0) (N := 28) (ci := 0) (k := 5) (μ' := gz_sP m c 5 r) (v := .ref (gz_ad G r)) rfl (by decide) in_X0 tyX0 tyX0_ok nmX0 (by decide) (hX.2.2.2.2.1 _ q506) (fun _ h => h) rfl hn0 rfl rfl rfl rfl hd hK hw rfl rfl rfl (fun d tc j h => gz_sP_o d tc j h) (by intro j; rw [← gz_rfp hs]; exact gz_sP_v (fun j => ftC 0 j) rfl j) (fun h => h) kk
theorem Rcn_X0_52 {X : gz_X} {G : gz_G} {cc : ByteArray} {nL fr lo pc : Nat} {rem : Nat × Nat} {m m9 : gM} {lv : List (Nat × Value)} {st : List Value} (hX : gz_C cR X G cc nL RX0 fr lo) (hz : gZ m ≠ 0) (hd : decode cc pc = .ok (.new 52, 3)) (hm : m9 = gz_al m (4 + 1) 0 1) (kk : gz_V cR X G nL rem m9 (pc + 3) lv (.ref (gz_ad G (gZ m)) :: st)) : gz_V cR X G nL (rem.1 + 1, rem.2 + 1) m pc lv st :=
  gz_new hX (C := RX4) (T := TX4) (N := 1) (ci := 4) rfl (by decide) in_X4 tyX4 tyX4_ok (by decide +kernel) q395 q396 q177 hz (fun _ _ => trivial) hd hm kk
theorem Rcc_X0_54 {X : gz_X} {G : gz_G} {cc : ByteArray} {nL fr lo pc : Nat} {rem : Nat × Nat} {lv : List (Nat × Value)} {rest st0 : List Value} (hX : gz_C cR X G cc nL RX0 fr lo) {c0 : Nat} {m m9 : gM}  (h : Rcf_X4_init c0 m = some ((), m9)) (hroom : 1 + 1 ≤ fr ∧ 8 + (1 + 11) + 20 ≤ lo) (hst : st0 = [.ref (gz_ad G c0)] ++ rest) (hW : (rest.map fun v => v.category).sum ≤ 8) (hd : decode cc pc = .ok (.invokespecial 54, 3)) (kk : gz_V cR X G nL rem m9 (pc + 3) lv (rest)) : gz_V cR X G nL (rem.1 + (gZ m9 - gZ m), rem.2 + (gW m9 - gW m)) m pc lv st0 :=
  gz_callIN hX Rcs_E (As := []) (rest := rest) (c := c0) (Rct_X4_init (l := X.2.1) h) q399 (Rcz_n (Z := cR) hX q397 rfl) q177 q398 rfl (n := 0) (by decide +kernel) hroom rfl hst hW hd (rem := rem) kk
theorem Rcp_X0_55_0 {X : gz_X} {G : gz_G} {cc : ByteArray} {nL fr lo pc : Nat} {rem : Nat × Nat} {m m9 : gM} {lv : List (Nat × Value)} {st : List Value} (hX : gz_C cR X G cc nL RX0 fr lo) (hn0 : X.2.2.2.2.2.2.2.2.1.name = "<init>") {c : Nat} {r : Nat} (hK : clR m.1 m.2.1 m.2.2.2.2.1 → m.1 c = 0 + 1) (hw : 1000 ≤ c) (hs : r ≠ 0) (hd : decode cc pc = .ok (.putfield 55, 3)) (hm : m9 = gz_sP m c 6 r) (kk : gz_V cR X G nL rem m9 (pc + 3) lv st) : gz_V cR X G nL rem m pc lv (.ref (gz_ad G r) :: .ref (gz_ad G c) :: st) := by
  subst hm
  exact gz_putff hX (C := RX0) (T := TX0) (N := 28) (ci := 0) (k := 6) (μ' := gz_sP m c 6 r) (v := .ref (gz_ad G r)) rfl (by decide) in_X0 tyX0 tyX0_ok nmX0 (by decide) (hX.2.2.2.2.1 _ q508) (fun _ h => h) rfl hn0 rfl rfl rfl rfl hd hK hw rfl rfl rfl (fun d tc j h => gz_sP_o d tc j h) (by intro j; rw [← gz_rfp hs]; exact gz_sP_v (fun j => ftC 0 j) rfl j) (fun h => h) kk
theorem Rcp_X0_59_0 {X : gz_X} {G : gz_G} {cc : ByteArray} {nL fr lo pc : Nat} {rem : Nat × Nat} {m m9 : gM} {lv : List (Nat × Value)} {st : List Value} (hX : gz_C cR X G cc nL RX0 fr lo) (hn0 : X.2.2.2.2.2.2.2.2.1.name = "<init>") {c : Nat} {r : Nat} (hK : clR m.1 m.2.1 m.2.2.2.2.1 → m.1 c = 0 + 1) (hw : 1000 ≤ c) (hs : r ≠ 0) (hd : decode cc pc = .ok (.putfield 59, 3)) (hm : m9 = gz_sP m c 7 r) (kk : gz_V cR X G nL rem m9 (pc + 3) lv st) : gz_V cR X G nL rem m pc lv (.ref (gz_ad G r) :: .ref (gz_ad G c) :: st) := by
  subst hm
  exact gz_putff hX (C := RX0) (T := TX0) (N := 28) (ci := 0) (k := 7) (μ' := gz_sP m c 7 r) (v := .ref (gz_ad G r)) rfl (by decide) in_X0 tyX0 tyX0_ok nmX0 (by decide) (hX.2.2.2.2.1 _ q509) (fun _ h => h) rfl hn0 rfl rfl rfl rfl hd hK hw rfl rfl rfl (fun d tc j h => gz_sP_o d tc j h) (by intro j; rw [← gz_rfp hs]; exact gz_sP_v (fun j => ftC 0 j) rfl j) (fun h => h) kk
theorem Rcp_X0_62_0 {X : gz_X} {G : gz_G} {cc : ByteArray} {nL fr lo pc : Nat} {rem : Nat × Nat} {m m9 : gM} {lv : List (Nat × Value)} {st : List Value} (hX : gz_C cR X G cc nL RX0 fr lo) (hn0 : X.2.2.2.2.2.2.2.2.1.name = "<init>") {c : Nat} {r : Nat} (hK : clR m.1 m.2.1 m.2.2.2.2.1 → m.1 c = 0 + 1) (hw : 1000 ≤ c) (hs : r ≠ 0) (hd : decode cc pc = .ok (.putfield 62, 3)) (hm : m9 = gz_sP m c 8 r) (kk : gz_V cR X G nL rem m9 (pc + 3) lv st) : gz_V cR X G nL rem m pc lv (.ref (gz_ad G r) :: .ref (gz_ad G c) :: st) := by
  subst hm
  exact gz_putff hX (C := RX0) (T := TX0) (N := 28) (ci := 0) (k := 8) (μ' := gz_sP m c 8 r) (v := .ref (gz_ad G r)) rfl (by decide) in_X0 tyX0 tyX0_ok nmX0 (by decide) (hX.2.2.2.2.1 _ q510) (fun _ h => h) rfl hn0 rfl rfl rfl rfl hd hK hw rfl rfl rfl (fun d tc j h => gz_sP_o d tc j h) (by intro j; rw [← gz_rfp hs]; exact gz_sP_v (fun j => ftC 0 j) rfl j) (fun h => h) kk
theorem Rcp_X0_68_0 {X : gz_X} {G : gz_G} {cc : ByteArray} {nL fr lo pc : Nat} {rem : Nat × Nat} {m m9 : gM} {lv : List (Nat × Value)} {st : List Value} (hX : gz_C cR X G cc nL RX0 fr lo) (hn0 : X.2.2.2.2.2.2.2.2.1.name = "<init>") {c : Nat} {r : Nat} (hK : clR m.1 m.2.1 m.2.2.2.2.1 → m.1 c = 0 + 1) (hw : 1000 ≤ c) (hs : r ≠ 0) (hd : decode cc pc = .ok (.putfield 68, 3)) (hm : m9 = gz_sP m c 9 r) (kk : gz_V cR X G nL rem m9 (pc + 3) lv st) : gz_V cR X G nL rem m pc lv (.ref (gz_ad G r) :: .ref (gz_ad G c) :: st) := by
  subst hm
  exact gz_putff hX (C := RX0) (T := TX0) (N := 28) (ci := 0) (k := 9) (μ' := gz_sP m c 9 r) (v := .ref (gz_ad G r)) rfl (by decide) in_X0 tyX0 tyX0_ok nmX0 (by decide) (hX.2.2.2.2.1 _ q511) (fun _ h => h) rfl hn0 rfl rfl rfl rfl hd hK hw rfl rfl rfl (fun d tc j h => gz_sP_o d tc j h) (by intro j; rw [← gz_rfp hs]; exact gz_sP_v (fun j => ftC 0 j) rfl j) (fun h => h) kk
theorem Rcn_X0_71 {X : gz_X} {G : gz_G} {cc : ByteArray} {nL fr lo pc : Nat} {rem : Nat × Nat} {m m9 : gM} {lv : List (Nat × Value)} {st : List Value} (hX : gz_C cR X G cc nL RX0 fr lo) (hz : gZ m ≠ 0) (hd : decode cc pc = .ok (.new 71, 3)) (hm : m9 = gz_al m (5 + 1) 0 10) (kk : gz_V cR X G nL rem m9 (pc + 3) lv (.ref (gz_ad G (gZ m)) :: st)) : gz_V cR X G nL (rem.1 + 1, rem.2 + 10) m pc lv st :=
  gz_new hX (C := RX5) (T := TX5) (N := 10) (ci := 5) rfl (by decide) in_X5 tyX5 tyX5_ok (by decide +kernel) q411 q412 q178 hz (fun _ _ => trivial) hd hm kk
theorem Rcc_X0_73 {X : gz_X} {G : gz_G} {cc : ByteArray} {nL fr lo pc : Nat} {rem : Nat × Nat} {lv : List (Nat × Value)} {rest st0 : List Value} (hX : gz_C cR X G cc nL RX0 fr lo) {c0 : Nat} {c1 : Nat} {m m9 : gM}  (h : Rcf_X5_init c0 c1 m = some ((), m9)) (hroom : 1 + 1 ≤ fr ∧ 8 + (2 + 11) + 20 ≤ lo) (hst : st0 = [.ref (gz_ad G c1), .ref (gz_ad G c0)] ++ rest) (hW : (rest.map fun v => v.category).sum ≤ 8) (hd : decode cc pc = .ok (.invokespecial 73, 3)) (kk : gz_V cR X G nL rem m9 (pc + 3) lv (rest)) : gz_V cR X G nL (rem.1 + (gZ m9 - gZ m), rem.2 + (gW m9 - gW m)) m pc lv st0 :=
  gz_callIN hX Rcs_E (As := [.ref (gz_ad G c1)]) (rest := rest) (c := c0) (Rct_X5_init (l := X.2.1) h) q415 (Rcz_n (Z := cR) hX q413 rfl) q178 q414 rfl (n := 1) (by decide +kernel) hroom rfl hst hW hd (rem := rem) kk
theorem Rcp_X0_74_0 {X : gz_X} {G : gz_G} {cc : ByteArray} {nL fr lo pc : Nat} {rem : Nat × Nat} {m m9 : gM} {lv : List (Nat × Value)} {st : List Value} (hX : gz_C cR X G cc nL RX0 fr lo) (hn0 : X.2.2.2.2.2.2.2.2.1.name = "<init>") {c : Nat} {r : Nat} (hK : clR m.1 m.2.1 m.2.2.2.2.1 → m.1 c = 0 + 1) (hw : 1000 ≤ c) (hs : r ≠ 0) (hd : decode cc pc = .ok (.putfield 74, 3)) (hm : m9 = gz_sP m c 10 r) (kk : gz_V cR X G nL rem m9 (pc + 3) lv st) : gz_V cR X G nL rem m pc lv (.ref (gz_ad G r) :: .ref (gz_ad G c) :: st) := by
  subst hm
  exact gz_putff hX (C := RX0) (T := TX0) (N := 28) (ci := 0) (k := 10) (μ' := gz_sP m c 10 r) (v := .ref (gz_ad G r)) rfl (by decide) in_X0 tyX0 tyX0_ok nmX0 (by decide) (hX.2.2.2.2.1 _ q512) (fun _ h => h) rfl hn0 rfl rfl rfl rfl hd hK hw rfl rfl rfl (fun d tc j h => gz_sP_o d tc j h) (by intro j; rw [← gz_rfp hs]; exact gz_sP_v (fun j => ftC 0 j) rfl j) (fun h => h) kk
theorem Rcp_X0_78_0 {X : gz_X} {G : gz_G} {cc : ByteArray} {nL fr lo pc : Nat} {rem : Nat × Nat} {m m9 : gM} {lv : List (Nat × Value)} {st : List Value} (hX : gz_C cR X G cc nL RX0 fr lo) (hn0 : X.2.2.2.2.2.2.2.2.1.name = "<init>") {c : Nat} {r : Nat} (hK : clR m.1 m.2.1 m.2.2.2.2.1 → m.1 c = 0 + 1) (hw : 1000 ≤ c) (hs : r ≠ 0) (hd : decode cc pc = .ok (.putfield 78, 3)) (hm : m9 = gz_sP m c 11 r) (kk : gz_V cR X G nL rem m9 (pc + 3) lv st) : gz_V cR X G nL rem m pc lv (.ref (gz_ad G r) :: .ref (gz_ad G c) :: st) := by
  subst hm
  exact gz_putff hX (C := RX0) (T := TX0) (N := 28) (ci := 0) (k := 11) (μ' := gz_sP m c 11 r) (v := .ref (gz_ad G r)) rfl (by decide) in_X0 tyX0 tyX0_ok nmX0 (by decide) (hX.2.2.2.2.1 _ q513) (fun _ h => h) rfl hn0 rfl rfl rfl rfl hd hK hw rfl rfl rfl (fun d tc j h => gz_sP_o d tc j h) (by intro j; rw [← gz_rfp hs]; exact gz_sP_v (fun j => ftC 0 j) rfl j) (fun h => h) kk
theorem Rcc_X0_81 {X : gz_X} {G : gz_G} {cc : ByteArray} {nL fr lo pc : Nat} {rem : Nat × Nat} {lv : List (Nat × Value)} {rest st0 : List Value} (hX : gz_C cR X G cc nL RX0 fr lo) {c0 : Nat} {m m9 : gM} (hK : clR m.1 m.2.1 m.2.2.2.2.1 → m.1 c0 = 0 + 1)  (h : Rcf_X0_reckonsWays c0 m = some ((), m9)) (hroom : 3 + 1 ≤ fr ∧ 8 + (4 + 11) + 64 ≤ lo) (hst : st0 = [.ref (gz_ad G c0)] ++ rest) (hW : (rest.map fun v => v.category).sum ≤ 8) (hd : decode cc pc = .ok (.invokevirtual 81, 3)) (kk : gz_V cR X G nL rem m9 (pc + 3) lv (rest)) : gz_V cR X G nL rem m pc lv st0 :=
  gz_callV2 hX Rcs_E (As := []) (rest := rest) (q := (RX0, TX0, 28)) (ci := 0) (c := c0) (Rct_X0_reckonsWays (l := X.2.1) h) (lw_V q458 q460 qs1 q167 q461) (n := 0) (by decide +kernel) hroom rfl rfl (by decide) hK hst hW hd (rem := rem) kk
theorem Rcp_X0_84_0 {X : gz_X} {G : gz_G} {cc : ByteArray} {nL fr lo pc : Nat} {rem : Nat × Nat} {m m9 : gM} {lv : List (Nat × Value)} {st : List Value} (hX : gz_C cR X G cc nL RX0 fr lo) (hn0 : X.2.2.2.2.2.2.2.2.1.name = "<init>") {c : Nat} {r : Nat} (hK : clR m.1 m.2.1 m.2.2.2.2.1 → m.1 c = 0 + 1) (hw : 1000 ≤ c) (hs : r ≠ 0) (hd : decode cc pc = .ok (.putfield 84, 3)) (hm : m9 = gz_sP m c 12 r) (kk : gz_V cR X G nL rem m9 (pc + 3) lv st) : gz_V cR X G nL rem m pc lv (.ref (gz_ad G r) :: .ref (gz_ad G c) :: st) := by
  subst hm
  exact gz_putff hX (C := RX0) (T := TX0) (N := 28) (ci := 0) (k := 12) (μ' := gz_sP m c 12 r) (v := .ref (gz_ad G r)) rfl (by decide) in_X0 tyX0 tyX0_ok nmX0 (by decide) (hX.2.2.2.2.1 _ q514) (fun _ h => h) rfl hn0 rfl rfl rfl rfl hd hK hw rfl rfl rfl (fun d tc j h => gz_sP_o d tc j h) (by intro j; rw [← gz_rfp hs]; exact gz_sP_v (fun j => ftC 0 j) rfl j) (fun h => h) kk
theorem Rcp_X0_87_0 {X : gz_X} {G : gz_G} {cc : ByteArray} {nL fr lo pc : Nat} {rem : Nat × Nat} {m m9 : gM} {lv : List (Nat × Value)} {st : List Value} (hX : gz_C cR X G cc nL RX0 fr lo) (hn0 : X.2.2.2.2.2.2.2.2.1.name = "<init>") {c : Nat} {r : Nat} (hK : clR m.1 m.2.1 m.2.2.2.2.1 → m.1 c = 0 + 1) (hw : 1000 ≤ c) (hs : r ≠ 0) (hd : decode cc pc = .ok (.putfield 87, 3)) (hm : m9 = gz_sP m c 13 r) (kk : gz_V cR X G nL rem m9 (pc + 3) lv st) : gz_V cR X G nL rem m pc lv (.ref (gz_ad G r) :: .ref (gz_ad G c) :: st) := by
  subst hm
  exact gz_putff hX (C := RX0) (T := TX0) (N := 28) (ci := 0) (k := 13) (μ' := gz_sP m c 13 r) (v := .ref (gz_ad G r)) rfl (by decide) in_X0 tyX0 tyX0_ok nmX0 (by decide) (hX.2.2.2.2.1 _ q515) (fun _ h => h) rfl hn0 rfl rfl rfl rfl hd hK hw rfl rfl rfl (fun d tc j h => gz_sP_o d tc j h) (by intro j; rw [← gz_rfp hs]; exact gz_sP_v (fun j => ftC 0 j) rfl j) (fun h => h) kk
theorem Rcp_X0_90_0 {X : gz_X} {G : gz_G} {cc : ByteArray} {nL fr lo pc : Nat} {rem : Nat × Nat} {m m9 : gM} {lv : List (Nat × Value)} {st : List Value} (hX : gz_C cR X G cc nL RX0 fr lo) (hn0 : X.2.2.2.2.2.2.2.2.1.name = "<init>") {c : Nat} {r : Nat} (hK : clR m.1 m.2.1 m.2.2.2.2.1 → m.1 c = 0 + 1) (hw : 1000 ≤ c) (hs : r ≠ 0) (hd : decode cc pc = .ok (.putfield 90, 3)) (hm : m9 = gz_sP m c 15 r) (kk : gz_V cR X G nL rem m9 (pc + 3) lv st) : gz_V cR X G nL rem m pc lv (.ref (gz_ad G r) :: .ref (gz_ad G c) :: st) := by
  subst hm
  exact gz_putff hX (C := RX0) (T := TX0) (N := 28) (ci := 0) (k := 15) (μ' := gz_sP m c 15 r) (v := .ref (gz_ad G r)) rfl (by decide) in_X0 tyX0 tyX0_ok nmX0 (by decide) (hX.2.2.2.2.1 _ q517) (fun _ h => h) rfl hn0 rfl rfl rfl rfl hd hK hw rfl rfl rfl (fun d tc j h => gz_sP_o d tc j h) (by intro j; rw [← gz_rfp hs]; exact gz_sP_v (fun j => ftC 0 j) rfl j) (fun h => h) kk
theorem Rcp_X0_94_0 {X : gz_X} {G : gz_G} {cc : ByteArray} {nL fr lo pc : Nat} {rem : Nat × Nat} {m m9 : gM} {lv : List (Nat × Value)} {st : List Value} (hX : gz_C cR X G cc nL RX0 fr lo) (hn0 : X.2.2.2.2.2.2.2.2.1.name = "<init>") {c : Nat} {r : Nat} (hK : clR m.1 m.2.1 m.2.2.2.2.1 → m.1 c = 0 + 1) (hw : 1000 ≤ c) (hs : r ≠ 0) (hd : decode cc pc = .ok (.putfield 94, 3)) (hm : m9 = gz_sP m c 16 r) (kk : gz_V cR X G nL rem m9 (pc + 3) lv st) : gz_V cR X G nL rem m pc lv (.ref (gz_ad G r) :: .ref (gz_ad G c) :: st) := by
  subst hm
  exact gz_putff hX (C := RX0) (T := TX0) (N := 28) (ci := 0) (k := 16) (μ' := gz_sP m c 16 r) (v := .ref (gz_ad G r)) rfl (by decide) in_X0 tyX0 tyX0_ok nmX0 (by decide) (hX.2.2.2.2.1 _ q518) (fun _ h => h) rfl hn0 rfl rfl rfl rfl hd hK hw rfl rfl rfl (fun d tc j h => gz_sP_o d tc j h) (by intro j; rw [← gz_rfp hs]; exact gz_sP_v (fun j => ftC 0 j) rfl j) (fun h => h) kk
theorem Rcp_X0_97_0 {X : gz_X} {G : gz_G} {cc : ByteArray} {nL fr lo pc : Nat} {rem : Nat × Nat} {m m9 : gM} {lv : List (Nat × Value)} {st : List Value} (hX : gz_C cR X G cc nL RX0 fr lo) (hn0 : X.2.2.2.2.2.2.2.2.1.name = "<init>") {c : Nat} {r : Nat} (hK : clR m.1 m.2.1 m.2.2.2.2.1 → m.1 c = 0 + 1) (hw : 1000 ≤ c) (hs : r ≠ 0) (hd : decode cc pc = .ok (.putfield 97, 3)) (hm : m9 = gz_sP m c 17 r) (kk : gz_V cR X G nL rem m9 (pc + 3) lv st) : gz_V cR X G nL rem m pc lv (.ref (gz_ad G r) :: .ref (gz_ad G c) :: st) := by
  subst hm
  exact gz_putff hX (C := RX0) (T := TX0) (N := 28) (ci := 0) (k := 17) (μ' := gz_sP m c 17 r) (v := .ref (gz_ad G r)) rfl (by decide) in_X0 tyX0 tyX0_ok nmX0 (by decide) (hX.2.2.2.2.1 _ q519) (fun _ h => h) rfl hn0 rfl rfl rfl rfl hd hK hw rfl rfl rfl (fun d tc j h => gz_sP_o d tc j h) (by intro j; rw [← gz_rfp hs]; exact gz_sP_v (fun j => ftC 0 j) rfl j) (fun h => h) kk
theorem Rcp_X0_100_0 {X : gz_X} {G : gz_G} {cc : ByteArray} {nL fr lo pc : Nat} {rem : Nat × Nat} {m m9 : gM} {lv : List (Nat × Value)} {st : List Value} (hX : gz_C cR X G cc nL RX0 fr lo) (hn0 : X.2.2.2.2.2.2.2.2.1.name = "<init>") {c : Nat} {r : Nat} (hK : clR m.1 m.2.1 m.2.2.2.2.1 → m.1 c = 0 + 1) (hw : 1000 ≤ c) (hs : r ≠ 0) (hd : decode cc pc = .ok (.putfield 100, 3)) (hm : m9 = gz_sP m c 18 r) (kk : gz_V cR X G nL rem m9 (pc + 3) lv st) : gz_V cR X G nL rem m pc lv (.ref (gz_ad G r) :: .ref (gz_ad G c) :: st) := by
  subst hm
  exact gz_putff hX (C := RX0) (T := TX0) (N := 28) (ci := 0) (k := 18) (μ' := gz_sP m c 18 r) (v := .ref (gz_ad G r)) rfl (by decide) in_X0 tyX0 tyX0_ok nmX0 (by decide) (hX.2.2.2.2.1 _ q520) (fun _ h => h) rfl hn0 rfl rfl rfl rfl hd hK hw rfl rfl rfl (fun d tc j h => gz_sP_o d tc j h) (by intro j; rw [← gz_rfp hs]; exact gz_sP_v (fun j => ftC 0 j) rfl j) (fun h => h) kk
theorem Rcp_X0_103_0 {X : gz_X} {G : gz_G} {cc : ByteArray} {nL fr lo pc : Nat} {rem : Nat × Nat} {m m9 : gM} {lv : List (Nat × Value)} {st : List Value} (hX : gz_C cR X G cc nL RX0 fr lo) (hn0 : X.2.2.2.2.2.2.2.2.1.name = "<init>") {c : Nat} {r : Nat} (hK : clR m.1 m.2.1 m.2.2.2.2.1 → m.1 c = 0 + 1) (hw : 1000 ≤ c) (hs : r ≠ 0) (hd : decode cc pc = .ok (.putfield 103, 3)) (hm : m9 = gz_sP m c 19 r) (kk : gz_V cR X G nL rem m9 (pc + 3) lv st) : gz_V cR X G nL rem m pc lv (.ref (gz_ad G r) :: .ref (gz_ad G c) :: st) := by
  subst hm
  exact gz_putff hX (C := RX0) (T := TX0) (N := 28) (ci := 0) (k := 19) (μ' := gz_sP m c 19 r) (v := .ref (gz_ad G r)) rfl (by decide) in_X0 tyX0 tyX0_ok nmX0 (by decide) (hX.2.2.2.2.1 _ q521) (fun _ h => h) rfl hn0 rfl rfl rfl rfl hd hK hw rfl rfl rfl (fun d tc j h => gz_sP_o d tc j h) (by intro j; rw [← gz_rfp hs]; exact gz_sP_v (fun j => ftC 0 j) rfl j) (fun h => h) kk
theorem Rcp_X0_108_0 {X : gz_X} {G : gz_G} {cc : ByteArray} {nL fr lo pc : Nat} {rem : Nat × Nat} {m m9 : gM} {lv : List (Nat × Value)} {st : List Value} (hX : gz_C cR X G cc nL RX0 fr lo) (hn0 : X.2.2.2.2.2.2.2.2.1.name = "<init>") {c : Nat} {r : Nat} (hK : clR m.1 m.2.1 m.2.2.2.2.1 → m.1 c = 0 + 1) (hw : 1000 ≤ c) (hs : r ≠ 0) (hd : decode cc pc = .ok (.putfield 108, 3)) (hm : m9 = gz_sP m c 21 r) (kk : gz_V cR X G nL rem m9 (pc + 3) lv st) : gz_V cR X G nL rem m pc lv (.ref (gz_ad G r) :: .ref (gz_ad G c) :: st) := by
  subst hm
  exact gz_putff hX (C := RX0) (T := TX0) (N := 28) (ci := 0) (k := 21) (μ' := gz_sP m c 21 r) (v := .ref (gz_ad G r)) rfl (by decide) in_X0 tyX0 tyX0_ok nmX0 (by decide) (hX.2.2.2.2.1 _ q523) (fun _ h => h) rfl hn0 rfl rfl rfl rfl hd hK hw rfl rfl rfl (fun d tc j h => gz_sP_o d tc j h) (by intro j; rw [← gz_rfp hs]; exact gz_sP_v (fun j => ftC 0 j) rfl j) (fun h => h) kk
theorem Rcp_X0_111_0 {X : gz_X} {G : gz_G} {cc : ByteArray} {nL fr lo pc : Nat} {rem : Nat × Nat} {m m9 : gM} {lv : List (Nat × Value)} {st : List Value} (hX : gz_C cR X G cc nL RX0 fr lo) (hn0 : X.2.2.2.2.2.2.2.2.1.name = "<init>") {c : Nat} {r : Nat} (hK : clR m.1 m.2.1 m.2.2.2.2.1 → m.1 c = 0 + 1) (hw : 1000 ≤ c) (hs : r ≠ 0) (hd : decode cc pc = .ok (.putfield 111, 3)) (hm : m9 = gz_sP m c 22 r) (kk : gz_V cR X G nL rem m9 (pc + 3) lv st) : gz_V cR X G nL rem m pc lv (.ref (gz_ad G r) :: .ref (gz_ad G c) :: st) := by
  subst hm
  exact gz_putff hX (C := RX0) (T := TX0) (N := 28) (ci := 0) (k := 22) (μ' := gz_sP m c 22 r) (v := .ref (gz_ad G r)) rfl (by decide) in_X0 tyX0 tyX0_ok nmX0 (by decide) (hX.2.2.2.2.1 _ q524) (fun _ h => h) rfl hn0 rfl rfl rfl rfl hd hK hw rfl rfl rfl (fun d tc j h => gz_sP_o d tc j h) (by intro j; rw [← gz_rfp hs]; exact gz_sP_v (fun j => ftC 0 j) rfl j) (fun h => h) kk
theorem Rcp_X0_115_0 {X : gz_X} {G : gz_G} {cc : ByteArray} {nL fr lo pc : Nat} {rem : Nat × Nat} {m m9 : gM} {lv : List (Nat × Value)} {st : List Value} (hX : gz_C cR X G cc nL RX0 fr lo) {c : Nat} {x : Int64} (hK : clR m.1 m.2.1 m.2.2.2.2.1 → m.1 c = 0 + 1) (hw : 1000 ≤ c) (hd : decode cc pc = .ok (.putfield 115, 3)) (hm : m9 = gz_sL m c 24 x) (kk : gz_V cR X G nL rem m9 (pc + 3) lv st) : gz_V cR X G nL rem m pc lv (.long x :: .ref (gz_ad G c) :: st) := by
  subst hm
  exact gz_putf hX (C := RX0) (T := TX0) (N := 28) (ci := 0) (k := 24) (μ' := gz_sL m c 24 x) rfl (by decide) in_X0 tyX0 tyX0_ok nmX0 (by decide) (Or.inl (hX.2.2.2.2.1 _ q526)) rfl rfl rfl rfl hd hK hw rfl rfl rfl (fun d tc j h => gz_sL_o d tc j h) (gz_sL_v (fun j => ftC 0 j) rfl) (fun h => h) kk
theorem Rcp_X0_119_0 {X : gz_X} {G : gz_G} {cc : ByteArray} {nL fr lo pc : Nat} {rem : Nat × Nat} {m m9 : gM} {lv : List (Nat × Value)} {st : List Value} (hX : gz_C cR X G cc nL RX0 fr lo) (hn0 : X.2.2.2.2.2.2.2.2.1.name = "<init>") {c : Nat} {r : Nat} (hK : clR m.1 m.2.1 m.2.2.2.2.1 → m.1 c = 0 + 1) (hw : 1000 ≤ c) (hs : r ≠ 0) (hd : decode cc pc = .ok (.putfield 119, 3)) (hm : m9 = gz_sP m c 26 r) (kk : gz_V cR X G nL rem m9 (pc + 3) lv st) : gz_V cR X G nL rem m pc lv (.ref (gz_ad G r) :: .ref (gz_ad G c) :: st) := by
  subst hm
  exact gz_putff hX (C := RX0) (T := TX0) (N := 28) (ci := 0) (k := 26) (μ' := gz_sP m c 26 r) (v := .ref (gz_ad G r)) rfl (by decide) in_X0 tyX0 tyX0_ok nmX0 (by decide) (hX.2.2.2.2.1 _ q528) (fun _ h => h) rfl hn0 rfl rfl rfl rfl hd hK hw rfl rfl rfl (fun d tc j h => gz_sP_o d tc j h) (by intro j; rw [← gz_rfp hs]; exact gz_sP_v (fun j => ftC 0 j) rfl j) (fun h => h) kk
theorem Rcg_X0_111_0 {X : gz_X} {G : gz_G} {cc : ByteArray} {nL fr lo pc : Nat} {rem : Nat × Nat} {m : gM} {lv : List (Nat × Value)} {st : List Value} (hX : gz_C cR X G cc nL RX0 fr lo) {c : Nat} {v : Value} (hK : clR m.1 m.2.1 m.2.2.2.2.1 → m.1 c = 0 + 1) (hv : clR m.1 m.2.1 m.2.2.2.2.1 → gz_u (gz_ad G) m (ftC 0 22) c 22 = v) (hd : decode cc pc = .ok (.getfield 111, 3)) (kk : gz_V cR X G nL rem m (pc + 3) lv (v :: st)) : gz_V cR X G nL rem m pc lv (.ref (gz_ad G c) :: st) :=
  gz_getf hX (C := RX0) (T := TX0) (N := 28) (ci := 0) (k := 22) rfl (by decide) in_X0 (by decide) (Or.inl (hX.2.2.2.2.1 _ q524)) hd hK hv kk
/-! FirstSnuffer.<init>()V -/
def RmP_X0_init_190 (X : gz_X) (G : gz_G) (zE : Nat × Nat) (c0 : Nat) (q : (Int32 × gM)) : Prop := gz_Va cR X G 2 zE q.2 190 [(0, .ref (gz_ad G c0)), (1, .int q.1)] []
noncomputable def Rmb_X0_init_190 (u1 u2 : Nat) (c0 : Nat) (x1 : Int32) (m : gM) : Option ((Int32 × gM) ⊕ (Unit × gM)) :=
  (if (20 : Int32) ≤ x1 then (if gK m c0 = 1 then (if 1000 ≤ c0 then gz_let (gz_sL m c0 24 (1 : Int64)) fun m4 => (if 0 ≤ (32 : Int32) ∧ gz_ix (32 : Int32) * 1 ≤ 536870912 ∧ gZ m4 ≠ 0 then gz_let (gz_al m4 (1 + 101) (gz_ix (32 : Int32)) (gz_ix (32 : Int32))) fun m6 => (if gK m6 c0 = 1 then (if 1000 ≤ c0 then (if (gZ m4) ≠ 0 then gz_let (gz_sP m6 c0 26 (gZ m4)) fun m10 => some (Sum.inr ((), m10)) else none) else none) else none) else none) else none) else none) else (if gK m c0 = 1 then gz_let (gP m c0 22) fun r12 => (if r12 ≠ 0 then (if gZ m ≠ 0 then gz_let (gz_al m (5 + 1) 0 10) fun m15 => ((Rcf_X5_init (gZ m) c0 m15).bind fun (_, m17) => (if gZ m15 ≤ gZ m17 ∧ gW m15 ≤ gW m17 then (if gK m17 r12 = 110 ∧ 1000 ≤ r12 then (if gz_in x1 (gN m17 r12) then (if (gZ m) ≠ 0 ∧ gK m17 (gZ m) = 6 then gz_let (gz_sP m17 r12 (gz_ix x1) (gZ m)) fun m23 => gz_let (x1 + (1 : Int32)) fun y24 => some (Sum.inl (y24, m23)) else none) else none) else none) else none)) else none) else none) else none))
theorem Rwb_X0_init_190 {X : gz_X} {G : gz_G} {zE : Nat × Nat} {u1 u2 : Nat} (hX : gz_C cR X G cX0_init 2 RX0 6 133) (hn0 : X.2.2.2.2.2.2.2.2.1.name = "<init>") (hu : u1 = gz_ad G 8 ∧ u2 = gz_ad G 9) {c0 : Nat} {x1 : Int32}  {m : gM} {z : ((Int32 × gM) ⊕ (Unit × gM))} (h : Rmb_X0_init_190 u1 u2 c0 x1 m = some z) (hk : (Sum.elim (RmP_X0_init_190 X G zE c0) (fun z : (Unit × gM) => gz_kVa cR X G 2 zE cX0_init z.2)) z) : gz_Va cR X G 2 zE m 190 [(0, .ref (gz_ad G c0)), (1, .int x1)] [] := by
  unfold Rmb_X0_init_190 at h
  refine gz_Vs (fun _ kk => gz_iload_n (pc := 190) hX dX0_init_190 rfl 1 rfl kk) rfl ?_
  refine gz_Vs (fun _ kk => gz_bipush (pc := 191) (v := (20 : Int32)) hX dX0_init_191 (by decide) kk) rfl ?_
  refine gz_Vif (μ1 := m) (μ2 := m) (fun _ k1 k2 => gz_icmp_ge (pc := 193) (tgt := 216) hX dX0_init_193 (by decide) k1 k2) (by first | exact Classical.em _ | exact (Classical.em _).symm) (fun g1 => ?_) (fun g1 => ?_)
  · replace h := gz_it' g1 h
    refine gz_Vs (fun _ kk => gz_aload_n (pc := 216) hX dX0_init_216 rfl 0 rfl kk) rfl ?_
    refine gz_Vs (fun _ kk => gz_lconst (pc := 217) (v := (1 : Int64)) hX dX0_init_217 (by decide) kk) rfl ?_
    obtain ⟨g2, h⟩ := gz_gu h
    obtain ⟨g3, h⟩ := gz_gu h
    obtain ⟨m4, em4, h⟩ := gz_lt h
    refine gz_Vs (fun _ kk => Rcp_X0_115_0 (pc := 218) hX (c := c0) (fun _ => g2) g3 dX0_init_218 em4 kk) (by rw [em4]; rfl) ?_
    refine gz_Vs (fun _ kk => gz_aload_n (pc := 221) hX dX0_init_221 rfl 0 rfl kk) rfl ?_
    refine gz_Vs (fun _ kk => gz_bipush (pc := 222) (v := (32 : Int32)) hX dX0_init_222 (by decide) kk) rfl ?_
    obtain ⟨g5, h⟩ := gz_gu h
    obtain ⟨m6, em6, h⟩ := gz_lt h
    refine gz_Vn (fun _ kk => gz_newa (pc := 224) (t := 1) (N := gz_ix (32 : Int32)) hX rfl rfl q369 rfl ⟨⟨g5.1, Nat.lt_succ_self _⟩, rfl⟩ g5.2.1 g5.2.2 (fun _ _ => trivial) dX0_init_224 em6 kk) em6 ?_
    obtain ⟨g7, h⟩ := gz_gu h
    obtain ⟨g8, h⟩ := gz_gu h
    obtain ⟨g9, h⟩ := gz_gu h
    obtain ⟨m10, em10, h⟩ := gz_lt h
    refine gz_Vs (fun _ kk => Rcp_X0_119_0 (pc := 226) hX hn0 (c := c0) (fun _ => g7) g8 g9 dX0_init_226 em10 kk) (by rw [em10]; rfl) ?_
    obtain rfl := Option.some.inj h
    exact hk _ _ dX0_init_229
  · replace h := gz_if' g1 h
    refine gz_Vs (fun _ kk => gz_aload_n (pc := 196) hX dX0_init_196 rfl 0 rfl kk) rfl ?_
    obtain ⟨g11, h⟩ := gz_gu h
    obtain ⟨r12, er12, h⟩ := gz_lt h
    obtain ⟨g13, h⟩ := gz_gu h
    refine gz_Vs (fun _ kk => Rcg_X0_111_0 (pc := 197) hX (c := c0) (v := .ref (gz_ad G r12)) (fun _ => g11) (fun _ => gz_rq er12 g13) dX0_init_197 kk) rfl ?_
    refine gz_Vs (fun _ kk => gz_iload_n (pc := 200) hX dX0_init_200 rfl 1 rfl kk) rfl ?_
    obtain ⟨g14, h⟩ := gz_gu h
    obtain ⟨m15, em15, h⟩ := gz_lt h
    refine gz_Vn (fun _ kk => Rcn_X0_71 (pc := 201) hX g14 dX0_init_201 em15 kk) em15 ?_
    refine gz_Vs (fun _ kk => gz_dup (pc := 204) hX dX0_init_204 rfl kk) rfl ?_
    refine gz_Vs (fun _ kk => gz_aload_n (pc := 205) hX dX0_init_205 rfl 0 rfl kk) rfl ?_
    obtain ⟨⟨⟨⟩, m17⟩, c18, h⟩ := gz_bd h
    obtain ⟨g19, h⟩ := gz_gu h
    refine gz_Vc (k := gZ m17 - gZ m15) (n := gW m17 - gW m15) (fun _ kk => Rcc_X0_73 (pc := 206) hX c18 ⟨Nat.le_of_ble_eq_true rfl, Nat.le_of_ble_eq_true rfl⟩ (rest := [.ref (gz_ad G (gZ m)), .int x1, .ref (gz_ad G r12)]) rfl (Nat.le_of_ble_eq_true rfl) dX0_init_206 kk) ⟨by have := g19.1; dsimp only [gZ] at *; omega, by have := g19.2; dsimp only [gW] at *; omega⟩ ?_
    obtain ⟨g20, h⟩ := gz_gu h
    obtain ⟨g21, h⟩ := gz_gu h
    obtain ⟨g22, h⟩ := gz_gu h
    obtain ⟨m23, em23, h⟩ := gz_lt h
    refine gz_Vs (fun _ kk => gz_aast (pc := 209) (c := r12) (t := 9) (n := gN m17 r12) (r := (gZ m)) hX rfl rfl rfl (fun _ => ⟨g20.1, rfl⟩) g20.2 g21 g22.1 (Rcr_st hX g22.2) (fun h => (fun h => h) h) dX0_init_209 em23 kk) (by rw [em23]; rfl) ?_
    obtain ⟨y24, ey24, h⟩ := gz_lt h
    refine gz_Vs (fun _ kk => gz_iinc (pc := 210) (v := y24) (lw := [(1, .int y24), (0, .ref (gz_ad G c0))]) hX dX0_init_210 (k := 1) rfl (by rw [ey24]; rfl) (by decide) rfl kk) rfl ?_
    refine gz_Vs (fun _ kk => gz_goto (pc := 213) (tgt := 190) hX dX0_init_213 (by decide) kk) rfl ?_
    refine gz_Vs (fun _ kk => gz_sub (lw := [(0, .ref (gz_ad G c0)), (1, .int y24)]) [1, 0] rfl kk) rfl ?_
    obtain rfl := Option.some.inj h
    exact hk
noncomputable def Rml_X0_init_190 (u1 u2 : Nat) (c0 : Nat) (x1 : Int32) (m : gM) : Option (Unit × gM) := gz_loop (fun q : (Int32 × gM) => Rmb_X0_init_190 u1 u2 c0 q.1 q.2) (x1, m)
theorem Rwl_X0_init_190 {X : gz_X} {G : gz_G} {zE : Nat × Nat} {u1 u2 : Nat} (hX : gz_C cR X G cX0_init 2 RX0 6 133) (hn0 : X.2.2.2.2.2.2.2.2.1.name = "<init>") (hu : u1 = gz_ad G 8 ∧ u2 = gz_ad G 9) {c0 : Nat} {x1 : Int32}  {m : gM} {z : (Unit × gM)} (h : Rml_X0_init_190 u1 u2 c0 x1 m = some z) (hk : (fun z : (Unit × gM) => gz_kVa cR X G 2 zE cX0_init z.2) z) : gz_Va cR X G 2 zE m 190 [(0, .ref (gz_ad G c0)), (1, .int x1)] [] := by
  have hp : RmP_X0_init_190 X G zE c0 (x1, m) := gz_loop_ind (fun q z hz hkz => Rwb_X0_init_190 hX hn0 hu  hz hkz) h hk
  exact hp
noncomputable def Rcf_X0_init (u1 u2 : Nat) (c0 : Nat) (m : gM) : Option (Unit × gM) :=
  (if gZ m ≠ 0 then gz_let (gz_al m (1 + 1) 0 9) fun m2 => ((Rcf_X1_init (gZ m) m2).bind fun (_, m4) => (if gZ m2 ≤ gZ m4 ∧ gW m2 ≤ gW m4 then (if gK m4 c0 = 1 then (if 1000 ≤ c0 then (if (gZ m) ≠ 0 then gz_let (gz_sP m4 c0 0 (gZ m)) fun m10 => (if 0 ≤ (1600 : Int32) ∧ gz_ix (1600 : Int32) * 1 ≤ 536870912 ∧ gZ m10 ≠ 0 then gz_let (gz_al m10 (1 + 101) (gz_ix (1600 : Int32)) (gz_ix (1600 : Int32))) fun m12 => (if gK m12 c0 = 1 then (if 1000 ≤ c0 then (if (gZ m10) ≠ 0 then gz_let (gz_sP m12 c0 1 (gZ m10)) fun m16 => (if gK m16 c0 = 1 then (if 1000 ≤ c0 then gz_let (gz_sI m16 c0 4 (-1 : Int32)) fun m19 => (if gZ m19 ≠ 0 then gz_let (gz_al m19 (2 + 1) 0 8) fun m21 => ((Rcf_X2_init u1 u2 (gZ m19) c0 m21).bind fun (_, m23) => (if gZ m21 ≤ gZ m23 ∧ gW m21 ≤ gW m23 then (if gK m23 c0 = 1 then (if 1000 ≤ c0 then (if (gZ m19) ≠ 0 then gz_let (gz_sP m23 c0 5 (gZ m19)) fun m29 => (if gZ m29 ≠ 0 then gz_let (gz_al m29 (4 + 1) 0 1) fun m31 => ((Rcf_X4_init (gZ m29) m31).bind fun (_, m33) => (if gZ m31 ≤ gZ m33 ∧ gW m31 ≤ gW m33 then (if gK m33 c0 = 1 then (if 1000 ≤ c0 then (if (gZ m29) ≠ 0 then gz_let (gz_sP m33 c0 6 (gZ m29)) fun m39 => (if gZ m39 ≠ 0 then gz_let (gz_al m39 (4 + 1) 0 1) fun m41 => ((Rcf_X4_init (gZ m39) m41).bind fun (_, m43) => (if gZ m41 ≤ gZ m43 ∧ gW m41 ≤ gW m43 then (if gK m43 c0 = 1 then (if 1000 ≤ c0 then (if (gZ m39) ≠ 0 then gz_let (gz_sP m43 c0 7 (gZ m39)) fun m49 => (if 0 ≤ (6 : Int32) ∧ gz_ix (6 : Int32) * 4 ≤ 536870912 ∧ gZ m49 ≠ 0 then gz_let (gz_al m49 (0 + 101) (gz_ix (6 : Int32)) (gz_ix (6 : Int32))) fun m51 => (if gK m51 c0 = 1 then (if 1000 ≤ c0 then (if (gZ m49) ≠ 0 then gz_let (gz_sP m51 c0 8 (gZ m49)) fun m55 => (if gZ m55 ≠ 0 then gz_let (rk2 8 8 m55) fun m57 => (if gK m57 c0 = 1 then (if 1000 ≤ c0 then (if (gZ m55) ≠ 0 then gz_let (gz_sP m57 c0 9 (gZ m55)) fun m61 => (if gZ m61 ≠ 0 then gz_let (gz_al m61 (5 + 1) 0 10) fun m63 => ((Rcf_X5_init (gZ m61) c0 m63).bind fun (_, m65) => (if gZ m63 ≤ gZ m65 ∧ gW m63 ≤ gW m65 then (if gK m65 c0 = 1 then (if 1000 ≤ c0 then (if (gZ m61) ≠ 0 then gz_let (gz_sP m65 c0 10 (gZ m61)) fun m71 => (if gZ m71 ≠ 0 then gz_let (gz_al m71 (5 + 1) 0 10) fun m73 => ((Rcf_X5_init (gZ m71) c0 m73).bind fun (_, m75) => (if gZ m73 ≤ gZ m75 ∧ gW m73 ≤ gW m75 then (if gK m75 c0 = 1 then (if 1000 ≤ c0 then (if (gZ m71) ≠ 0 then gz_let (gz_sP m75 c0 11 (gZ m71)) fun m81 => (if gK m81 c0 = 1 then ((Rcf_X0_reckonsWays c0 m81).bind fun (_, m84) => (if m84.2.2.2.2.2 = m81.2.2.2.2.2 then (if 0 ≤ (4 : Int32) ∧ gz_ix (4 : Int32) * 4 ≤ 536870912 ∧ gZ m84 ≠ 0 then gz_let (gz_al m84 (0 + 101) (gz_ix (4 : Int32)) (gz_ix (4 : Int32))) fun m88 => (if gK m88 c0 = 1 then (if 1000 ≤ c0 then (if (gZ m84) ≠ 0 then gz_let (gz_sP m88 c0 12 (gZ m84)) fun m92 => (if 0 ≤ (4 : Int32) ∧ gz_ix (4 : Int32) * 4 ≤ 536870912 ∧ gZ m92 ≠ 0 then gz_let (gz_al m92 (0 + 101) (gz_ix (4 : Int32)) (gz_ix (4 : Int32))) fun m94 => (if gK m94 c0 = 1 then (if 1000 ≤ c0 then (if (gZ m92) ≠ 0 then gz_let (gz_sP m94 c0 13 (gZ m92)) fun m98 => (if 0 ≤ (12 : Int32) ∧ gz_ix (12 : Int32) * 1 ≤ 536870912 ∧ gZ m98 ≠ 0 then gz_let (gz_al m98 (3 + 101) (gz_ix (12 : Int32)) (gz_ix (12 : Int32))) fun m100 => (if gK m100 c0 = 1 then (if 1000 ≤ c0 then (if (gZ m98) ≠ 0 then gz_let (gz_sP m100 c0 15 (gZ m98)) fun m104 => (if 0 ≤ (8 : Int32) ∧ gz_ix (8 : Int32) * 4 ≤ 536870912 ∧ gZ m104 ≠ 0 then gz_let (gz_al m104 (0 + 101) (gz_ix (8 : Int32)) (gz_ix (8 : Int32))) fun m106 => (if gK m106 c0 = 1 then (if 1000 ≤ c0 then (if (gZ m104) ≠ 0 then gz_let (gz_sP m106 c0 16 (gZ m104)) fun m110 => (if 0 ≤ (16 : Int32) ∧ gz_ix (16 : Int32) * 4 ≤ 536870912 ∧ gZ m110 ≠ 0 then gz_let (gz_al m110 (0 + 101) (gz_ix (16 : Int32)) (gz_ix (16 : Int32))) fun m112 => (if gK m112 c0 = 1 then (if 1000 ≤ c0 then (if (gZ m110) ≠ 0 then gz_let (gz_sP m112 c0 17 (gZ m110)) fun m116 => (if 0 ≤ (16 : Int32) ∧ gz_ix (16 : Int32) * 4 ≤ 536870912 ∧ gZ m116 ≠ 0 then gz_let (gz_al m116 (0 + 101) (gz_ix (16 : Int32)) (gz_ix (16 : Int32))) fun m118 => (if gK m118 c0 = 1 then (if 1000 ≤ c0 then (if (gZ m116) ≠ 0 then gz_let (gz_sP m118 c0 18 (gZ m116)) fun m122 => (if 0 ≤ (16 : Int32) ∧ gz_ix (16 : Int32) * 4 ≤ 536870912 ∧ gZ m122 ≠ 0 then gz_let (gz_al m122 (0 + 101) (gz_ix (16 : Int32)) (gz_ix (16 : Int32))) fun m124 => (if gK m124 c0 = 1 then (if 1000 ≤ c0 then (if (gZ m122) ≠ 0 then gz_let (gz_sP m124 c0 19 (gZ m122)) fun m128 => (if gZ m128 ≠ 0 then gz_let (rk3 10 31 8 m128) fun m130 => (if gK m130 c0 = 1 then (if 1000 ≤ c0 then (if (gZ m128) ≠ 0 then gz_let (gz_sP m130 c0 21 (gZ m128)) fun m134 => (if 0 ≤ (20 : Int32) ∧ gz_ix (20 : Int32) * 4 ≤ 536870912 ∧ gZ m134 ≠ 0 then gz_let (gz_al m134 (9 + 101) (gz_ix (20 : Int32)) (gz_ix (20 : Int32))) fun m136 => (if gK m136 c0 = 1 then (if 1000 ≤ c0 then (if (gZ m134) ≠ 0 then gz_let (gz_sP m136 c0 22 (gZ m134)) fun m140 => (Rml_X0_init_190 u1 u2 c0 (0 : Int32) m140) else none) else none) else none) else none) else none) else none) else none) else none) else none) else none) else none) else none) else none) else none) else none) else none) else none) else none) else none) else none) else none) else none) else none) else none) else none) else none) else none) else none) else none) else none) else none) else none) else none) else none) else none) else none) else none)) else none) else none) else none) else none) else none)) else none) else none) else none) else none) else none)) else none) else none) else none) else none) else none) else none) else none) else none) else none) else none) else none) else none) else none)) else none) else none) else none) else none) else none)) else none) else none) else none) else none) else none)) else none) else none) else none) else none) else none) else none) else none) else none) else none) else none) else none)) else none)
theorem Rwm_X0_init {X : gz_X} {G : gz_G} {zE : Nat × Nat} {u1 u2 : Nat} (hX : gz_C cR X G cX0_init 2 RX0 6 133) (hn0 : X.2.2.2.2.2.2.2.2.1.name = "<init>") (hu : u1 = gz_ad G 8 ∧ u2 = gz_ad G 9) {c0 : Nat}  {m : gM} {z : (Unit × gM)} (h : Rcf_X0_init u1 u2 c0 m = some z) (hk : (fun z : (Unit × gM) => gz_kVa cR X G 2 zE cX0_init z.2) z) : gz_Va cR X G 2 zE m 0 [(0, .ref (gz_ad G c0))] [] := by
  unfold Rcf_X0_init at h
  refine gz_Vs (fun _ kk => gz_aload_n (pc := 0) hX dX0_init_0 rfl 0 rfl kk) rfl ?_
  refine gz_Vs (fun _ kk => gz_objI (pc := 1) hX q213 q214 q215 ⟨Nat.le_of_ble_eq_true rfl, Nat.le_of_ble_eq_true rfl⟩ (Nat.le_of_ble_eq_true rfl) dX0_init_1 kk) rfl ?_
  refine gz_Vs (fun _ kk => gz_aload_n (pc := 4) hX dX0_init_4 rfl 0 rfl kk) rfl ?_
  obtain ⟨g1, h⟩ := gz_gu h
  obtain ⟨m2, em2, h⟩ := gz_lt h
  refine gz_Vn (fun _ kk => Rcn_X0_28 (pc := 5) hX g1 dX0_init_5 em2 kk) em2 ?_
  refine gz_Vs (fun _ kk => gz_dup (pc := 8) hX dX0_init_8 rfl kk) rfl ?_
  obtain ⟨⟨⟨⟩, m4⟩, c5, h⟩ := gz_bd h
  obtain ⟨g6, h⟩ := gz_gu h
  refine gz_Vc (k := gZ m4 - gZ m2) (n := gW m4 - gW m2) (fun _ kk => Rcc_X0_30 (pc := 9) hX c5 ⟨Nat.le_of_ble_eq_true rfl, Nat.le_of_ble_eq_true rfl⟩ (rest := [.ref (gz_ad G (gZ m)), .ref (gz_ad G c0)]) rfl (Nat.le_of_ble_eq_true rfl) dX0_init_9 kk) ⟨by have := g6.1; dsimp only [gZ] at *; omega, by have := g6.2; dsimp only [gW] at *; omega⟩ ?_
  obtain ⟨g7, h⟩ := gz_gu h
  obtain ⟨g8, h⟩ := gz_gu h
  obtain ⟨g9, h⟩ := gz_gu h
  obtain ⟨m10, em10, h⟩ := gz_lt h
  refine gz_Vs (fun _ kk => Rcp_X0_31_0 (pc := 12) hX (c := c0) (fun _ => g7) g8 g9 dX0_init_12 em10 kk) (by rw [em10]; rfl) ?_
  refine gz_Vs (fun _ kk => gz_aload_n (pc := 15) hX dX0_init_15 rfl 0 rfl kk) rfl ?_
  refine gz_Vs (fun _ kk => gz_sipush (pc := 16) (v := (1600 : Int32)) hX dX0_init_16 (by decide) kk) rfl ?_
  obtain ⟨g11, h⟩ := gz_gu h
  obtain ⟨m12, em12, h⟩ := gz_lt h
  refine gz_Vn (fun _ kk => gz_newa (pc := 19) (t := 1) (N := gz_ix (1600 : Int32)) hX rfl rfl q369 rfl ⟨⟨g11.1, Nat.lt_succ_self _⟩, rfl⟩ g11.2.1 g11.2.2 (fun _ _ => trivial) dX0_init_19 em12 kk) em12 ?_
  obtain ⟨g13, h⟩ := gz_gu h
  obtain ⟨g14, h⟩ := gz_gu h
  obtain ⟨g15, h⟩ := gz_gu h
  obtain ⟨m16, em16, h⟩ := gz_lt h
  refine gz_Vs (fun _ kk => Rcp_X0_35_0 (pc := 21) hX hn0 (c := c0) (fun _ => g13) g14 g15 dX0_init_21 em16 kk) (by rw [em16]; rfl) ?_
  refine gz_Vs (fun _ kk => gz_aload_n (pc := 24) hX dX0_init_24 rfl 0 rfl kk) rfl ?_
  refine gz_Vs (fun _ kk => gz_iconst (pc := 25) (v := (-1 : Int32)) hX dX0_init_25 (by decide) kk) rfl ?_
  obtain ⟨g17, h⟩ := gz_gu h
  obtain ⟨g18, h⟩ := gz_gu h
  obtain ⟨m19, em19, h⟩ := gz_lt h
  refine gz_Vs (fun _ kk => Rcp_X0_39_0 (pc := 26) hX (c := c0) (fun _ => g17) g18 dX0_init_26 em19 kk) (by rw [em19]; rfl) ?_
  refine gz_Vs (fun _ kk => gz_aload_n (pc := 29) hX dX0_init_29 rfl 0 rfl kk) rfl ?_
  obtain ⟨g20, h⟩ := gz_gu h
  obtain ⟨m21, em21, h⟩ := gz_lt h
  refine gz_Vn (fun _ kk => Rcn_X0_43 (pc := 30) hX g20 dX0_init_30 em21 kk) em21 ?_
  refine gz_Vs (fun _ kk => gz_dup (pc := 33) hX dX0_init_33 rfl kk) rfl ?_
  refine gz_Vs (fun _ kk => gz_aload_n (pc := 34) hX dX0_init_34 rfl 0 rfl kk) rfl ?_
  obtain ⟨⟨⟨⟩, m23⟩, c24, h⟩ := gz_bd h
  obtain ⟨g25, h⟩ := gz_gu h
  refine gz_Vc (k := gZ m23 - gZ m21) (n := gW m23 - gW m21) (fun _ kk => Rcc_X0_45 (pc := 35) hX hu c24 ⟨Nat.le_of_ble_eq_true rfl, Nat.le_of_ble_eq_true rfl⟩ (rest := [.ref (gz_ad G (gZ m19)), .ref (gz_ad G c0)]) rfl (Nat.le_of_ble_eq_true rfl) dX0_init_35 kk) ⟨by have := g25.1; dsimp only [gZ] at *; omega, by have := g25.2; dsimp only [gW] at *; omega⟩ ?_
  obtain ⟨g26, h⟩ := gz_gu h
  obtain ⟨g27, h⟩ := gz_gu h
  obtain ⟨g28, h⟩ := gz_gu h
  obtain ⟨m29, em29, h⟩ := gz_lt h
  refine gz_Vs (fun _ kk => Rcp_X0_48_0 (pc := 38) hX hn0 (c := c0) (fun _ => g26) g27 g28 dX0_init_38 em29 kk) (by rw [em29]; rfl) ?_
  refine gz_Vs (fun _ kk => gz_aload_n (pc := 41) hX dX0_init_41 rfl 0 rfl kk) rfl ?_
  obtain ⟨g30, h⟩ := gz_gu h
  obtain ⟨m31, em31, h⟩ := gz_lt h
  refine gz_Vn (fun _ kk => Rcn_X0_52 (pc := 42) hX g30 dX0_init_42 em31 kk) em31 ?_
  refine gz_Vs (fun _ kk => gz_dup (pc := 45) hX dX0_init_45 rfl kk) rfl ?_
  obtain ⟨⟨⟨⟩, m33⟩, c34, h⟩ := gz_bd h
  obtain ⟨g35, h⟩ := gz_gu h
  refine gz_Vc (k := gZ m33 - gZ m31) (n := gW m33 - gW m31) (fun _ kk => Rcc_X0_54 (pc := 46) hX c34 ⟨Nat.le_of_ble_eq_true rfl, Nat.le_of_ble_eq_true rfl⟩ (rest := [.ref (gz_ad G (gZ m29)), .ref (gz_ad G c0)]) rfl (Nat.le_of_ble_eq_true rfl) dX0_init_46 kk) ⟨by have := g35.1; dsimp only [gZ] at *; omega, by have := g35.2; dsimp only [gW] at *; omega⟩ ?_
  obtain ⟨g36, h⟩ := gz_gu h
  obtain ⟨g37, h⟩ := gz_gu h
  obtain ⟨g38, h⟩ := gz_gu h
  obtain ⟨m39, em39, h⟩ := gz_lt h
  refine gz_Vs (fun _ kk => Rcp_X0_55_0 (pc := 49) hX hn0 (c := c0) (fun _ => g36) g37 g38 dX0_init_49 em39 kk) (by rw [em39]; rfl) ?_
  refine gz_Vs (fun _ kk => gz_aload_n (pc := 52) hX dX0_init_52 rfl 0 rfl kk) rfl ?_
  obtain ⟨g40, h⟩ := gz_gu h
  obtain ⟨m41, em41, h⟩ := gz_lt h
  refine gz_Vn (fun _ kk => Rcn_X0_52 (pc := 53) hX g40 dX0_init_53 em41 kk) em41 ?_
  refine gz_Vs (fun _ kk => gz_dup (pc := 56) hX dX0_init_56 rfl kk) rfl ?_
  obtain ⟨⟨⟨⟩, m43⟩, c44, h⟩ := gz_bd h
  obtain ⟨g45, h⟩ := gz_gu h
  refine gz_Vc (k := gZ m43 - gZ m41) (n := gW m43 - gW m41) (fun _ kk => Rcc_X0_54 (pc := 57) hX c44 ⟨Nat.le_of_ble_eq_true rfl, Nat.le_of_ble_eq_true rfl⟩ (rest := [.ref (gz_ad G (gZ m39)), .ref (gz_ad G c0)]) rfl (Nat.le_of_ble_eq_true rfl) dX0_init_57 kk) ⟨by have := g45.1; dsimp only [gZ] at *; omega, by have := g45.2; dsimp only [gW] at *; omega⟩ ?_
  obtain ⟨g46, h⟩ := gz_gu h
  obtain ⟨g47, h⟩ := gz_gu h
  obtain ⟨g48, h⟩ := gz_gu h
  obtain ⟨m49, em49, h⟩ := gz_lt h
  refine gz_Vs (fun _ kk => Rcp_X0_59_0 (pc := 60) hX hn0 (c := c0) (fun _ => g46) g47 g48 dX0_init_60 em49 kk) (by rw [em49]; rfl) ?_
  refine gz_Vs (fun _ kk => gz_aload_n (pc := 63) hX dX0_init_63 rfl 0 rfl kk) rfl ?_
  refine gz_Vs (fun _ kk => gz_bipush (pc := 64) (v := (6 : Int32)) hX dX0_init_64 (by decide) kk) rfl ?_
  obtain ⟨g50, h⟩ := gz_gu h
  obtain ⟨m51, em51, h⟩ := gz_lt h
  refine gz_Vn (fun _ kk => gz_newa (pc := 66) (t := 0) (N := gz_ix (6 : Int32)) hX rfl rfl q457 rfl ⟨⟨g50.1, Nat.lt_succ_self _⟩, rfl⟩ g50.2.1 g50.2.2 (fun _ _ => trivial) dX0_init_66 em51 kk) em51 ?_
  obtain ⟨g52, h⟩ := gz_gu h
  obtain ⟨g53, h⟩ := gz_gu h
  obtain ⟨g54, h⟩ := gz_gu h
  obtain ⟨m55, em55, h⟩ := gz_lt h
  refine gz_Vs (fun _ kk => Rcp_X0_62_0 (pc := 68) hX hn0 (c := c0) (fun _ => g52) g53 g54 dX0_init_68 em55 kk) (by rw [em55]; rfl) ?_
  refine gz_Vs (fun _ kk => gz_aload_n (pc := 71) hX dX0_init_71 rfl 0 rfl kk) rfl ?_
  refine gz_Vs (fun _ kk => gz_bipush (pc := 72) (v := (8 : Int32)) hX dX0_init_72 (by decide) kk) rfl ?_
  refine gz_Vs (fun _ kk => gz_bipush (pc := 74) (v := (8 : Int32)) hX dX0_init_74 (by decide) kk) rfl ?_
  obtain ⟨g56, h⟩ := gz_gu h
  obtain ⟨m57, em57, h⟩ := gz_lt h
  refine gz_Vc (k := 9) (n := 72) (fun _ kk => gz_multi2 (pc := 76) (t := 7) (f := rk2 8 8) (k := 9) (n := 72) hX q409 (rz_n7 hX) (rMk2 hX ⟨by decide, rfl⟩ ⟨by decide, rfl⟩) g56 dX0_init_76 em57 kk) ⟨by rw [em57]; exact (rk2_z 8 8 _).1, by rw [em57]; exact (rk2_z 8 8 _).2⟩ ?_
  obtain ⟨g58, h⟩ := gz_gu h
  obtain ⟨g59, h⟩ := gz_gu h
  obtain ⟨g60, h⟩ := gz_gu h
  obtain ⟨m61, em61, h⟩ := gz_lt h
  refine gz_Vs (fun _ kk => Rcp_X0_68_0 (pc := 80) hX hn0 (c := c0) (fun _ => g58) g59 g60 dX0_init_80 em61 kk) (by rw [em61]; rfl) ?_
  refine gz_Vs (fun _ kk => gz_aload_n (pc := 83) hX dX0_init_83 rfl 0 rfl kk) rfl ?_
  obtain ⟨g62, h⟩ := gz_gu h
  obtain ⟨m63, em63, h⟩ := gz_lt h
  refine gz_Vn (fun _ kk => Rcn_X0_71 (pc := 84) hX g62 dX0_init_84 em63 kk) em63 ?_
  refine gz_Vs (fun _ kk => gz_dup (pc := 87) hX dX0_init_87 rfl kk) rfl ?_
  refine gz_Vs (fun _ kk => gz_aload_n (pc := 88) hX dX0_init_88 rfl 0 rfl kk) rfl ?_
  obtain ⟨⟨⟨⟩, m65⟩, c66, h⟩ := gz_bd h
  obtain ⟨g67, h⟩ := gz_gu h
  refine gz_Vc (k := gZ m65 - gZ m63) (n := gW m65 - gW m63) (fun _ kk => Rcc_X0_73 (pc := 89) hX c66 ⟨Nat.le_of_ble_eq_true rfl, Nat.le_of_ble_eq_true rfl⟩ (rest := [.ref (gz_ad G (gZ m61)), .ref (gz_ad G c0)]) rfl (Nat.le_of_ble_eq_true rfl) dX0_init_89 kk) ⟨by have := g67.1; dsimp only [gZ] at *; omega, by have := g67.2; dsimp only [gW] at *; omega⟩ ?_
  obtain ⟨g68, h⟩ := gz_gu h
  obtain ⟨g69, h⟩ := gz_gu h
  obtain ⟨g70, h⟩ := gz_gu h
  obtain ⟨m71, em71, h⟩ := gz_lt h
  refine gz_Vs (fun _ kk => Rcp_X0_74_0 (pc := 92) hX hn0 (c := c0) (fun _ => g68) g69 g70 dX0_init_92 em71 kk) (by rw [em71]; rfl) ?_
  refine gz_Vs (fun _ kk => gz_aload_n (pc := 95) hX dX0_init_95 rfl 0 rfl kk) rfl ?_
  obtain ⟨g72, h⟩ := gz_gu h
  obtain ⟨m73, em73, h⟩ := gz_lt h
  refine gz_Vn (fun _ kk => Rcn_X0_71 (pc := 96) hX g72 dX0_init_96 em73 kk) em73 ?_
  refine gz_Vs (fun _ kk => gz_dup (pc := 99) hX dX0_init_99 rfl kk) rfl ?_
  refine gz_Vs (fun _ kk => gz_aload_n (pc := 100) hX dX0_init_100 rfl 0 rfl kk) rfl ?_
  obtain ⟨⟨⟨⟩, m75⟩, c76, h⟩ := gz_bd h
  obtain ⟨g77, h⟩ := gz_gu h
  refine gz_Vc (k := gZ m75 - gZ m73) (n := gW m75 - gW m73) (fun _ kk => Rcc_X0_73 (pc := 101) hX c76 ⟨Nat.le_of_ble_eq_true rfl, Nat.le_of_ble_eq_true rfl⟩ (rest := [.ref (gz_ad G (gZ m71)), .ref (gz_ad G c0)]) rfl (Nat.le_of_ble_eq_true rfl) dX0_init_101 kk) ⟨by have := g77.1; dsimp only [gZ] at *; omega, by have := g77.2; dsimp only [gW] at *; omega⟩ ?_
  obtain ⟨g78, h⟩ := gz_gu h
  obtain ⟨g79, h⟩ := gz_gu h
  obtain ⟨g80, h⟩ := gz_gu h
  obtain ⟨m81, em81, h⟩ := gz_lt h
  refine gz_Vs (fun _ kk => Rcp_X0_78_0 (pc := 104) hX hn0 (c := c0) (fun _ => g78) g79 g80 dX0_init_104 em81 kk) (by rw [em81]; rfl) ?_
  refine gz_Vs (fun _ kk => gz_aload_n (pc := 107) hX dX0_init_107 rfl 0 rfl kk) rfl ?_
  obtain ⟨g82, h⟩ := gz_gu h
  obtain ⟨⟨⟨⟩, m84⟩, c85, h⟩ := gz_bd h
  obtain ⟨g86, h⟩ := gz_gu h
  refine gz_Vs (fun _ kk => Rcc_X0_81 (pc := 108) hX (fun _ => g82) c85 ⟨Nat.le_of_ble_eq_true rfl, Nat.le_of_ble_eq_true rfl⟩ (rest := []) rfl (Nat.le_of_ble_eq_true rfl) dX0_init_108 kk) g86 ?_
  refine gz_Vs (fun _ kk => gz_aload_n (pc := 111) hX dX0_init_111 rfl 0 rfl kk) rfl ?_
  refine gz_Vs (fun _ kk => gz_iconst (pc := 112) (v := (4 : Int32)) hX dX0_init_112 (by decide) kk) rfl ?_
  obtain ⟨g87, h⟩ := gz_gu h
  obtain ⟨m88, em88, h⟩ := gz_lt h
  refine gz_Vn (fun _ kk => gz_newa (pc := 113) (t := 0) (N := gz_ix (4 : Int32)) hX rfl rfl q457 rfl ⟨⟨g87.1, Nat.lt_succ_self _⟩, rfl⟩ g87.2.1 g87.2.2 (fun _ _ => trivial) dX0_init_113 em88 kk) em88 ?_
  obtain ⟨g89, h⟩ := gz_gu h
  obtain ⟨g90, h⟩ := gz_gu h
  obtain ⟨g91, h⟩ := gz_gu h
  obtain ⟨m92, em92, h⟩ := gz_lt h
  refine gz_Vs (fun _ kk => Rcp_X0_84_0 (pc := 115) hX hn0 (c := c0) (fun _ => g89) g90 g91 dX0_init_115 em92 kk) (by rw [em92]; rfl) ?_
  refine gz_Vs (fun _ kk => gz_aload_n (pc := 118) hX dX0_init_118 rfl 0 rfl kk) rfl ?_
  refine gz_Vs (fun _ kk => gz_iconst (pc := 119) (v := (4 : Int32)) hX dX0_init_119 (by decide) kk) rfl ?_
  obtain ⟨g93, h⟩ := gz_gu h
  obtain ⟨m94, em94, h⟩ := gz_lt h
  refine gz_Vn (fun _ kk => gz_newa (pc := 120) (t := 0) (N := gz_ix (4 : Int32)) hX rfl rfl q457 rfl ⟨⟨g93.1, Nat.lt_succ_self _⟩, rfl⟩ g93.2.1 g93.2.2 (fun _ _ => trivial) dX0_init_120 em94 kk) em94 ?_
  obtain ⟨g95, h⟩ := gz_gu h
  obtain ⟨g96, h⟩ := gz_gu h
  obtain ⟨g97, h⟩ := gz_gu h
  obtain ⟨m98, em98, h⟩ := gz_lt h
  refine gz_Vs (fun _ kk => Rcp_X0_87_0 (pc := 122) hX hn0 (c := c0) (fun _ => g95) g96 g97 dX0_init_122 em98 kk) (by rw [em98]; rfl) ?_
  refine gz_Vs (fun _ kk => gz_aload_n (pc := 125) hX dX0_init_125 rfl 0 rfl kk) rfl ?_
  refine gz_Vs (fun _ kk => gz_bipush (pc := 126) (v := (12 : Int32)) hX dX0_init_126 (by decide) kk) rfl ?_
  obtain ⟨g99, h⟩ := gz_gu h
  obtain ⟨m100, em100, h⟩ := gz_lt h
  refine gz_Vn (fun _ kk => gz_newa (pc := 128) (t := 3) (N := gz_ix (12 : Int32)) hX rfl rfl q587 rfl ⟨⟨g99.1, Nat.lt_succ_self _⟩, rfl⟩ g99.2.1 g99.2.2 (fun _ _ => trivial) dX0_init_128 em100 kk) em100 ?_
  obtain ⟨g101, h⟩ := gz_gu h
  obtain ⟨g102, h⟩ := gz_gu h
  obtain ⟨g103, h⟩ := gz_gu h
  obtain ⟨m104, em104, h⟩ := gz_lt h
  refine gz_Vs (fun _ kk => Rcp_X0_90_0 (pc := 130) hX hn0 (c := c0) (fun _ => g101) g102 g103 dX0_init_130 em104 kk) (by rw [em104]; rfl) ?_
  refine gz_Vs (fun _ kk => gz_aload_n (pc := 133) hX dX0_init_133 rfl 0 rfl kk) rfl ?_
  refine gz_Vs (fun _ kk => gz_bipush (pc := 134) (v := (8 : Int32)) hX dX0_init_134 (by decide) kk) rfl ?_
  obtain ⟨g105, h⟩ := gz_gu h
  obtain ⟨m106, em106, h⟩ := gz_lt h
  refine gz_Vn (fun _ kk => gz_newa (pc := 136) (t := 0) (N := gz_ix (8 : Int32)) hX rfl rfl q457 rfl ⟨⟨g105.1, Nat.lt_succ_self _⟩, rfl⟩ g105.2.1 g105.2.2 (fun _ _ => trivial) dX0_init_136 em106 kk) em106 ?_
  obtain ⟨g107, h⟩ := gz_gu h
  obtain ⟨g108, h⟩ := gz_gu h
  obtain ⟨g109, h⟩ := gz_gu h
  obtain ⟨m110, em110, h⟩ := gz_lt h
  refine gz_Vs (fun _ kk => Rcp_X0_94_0 (pc := 138) hX hn0 (c := c0) (fun _ => g107) g108 g109 dX0_init_138 em110 kk) (by rw [em110]; rfl) ?_
  refine gz_Vs (fun _ kk => gz_aload_n (pc := 141) hX dX0_init_141 rfl 0 rfl kk) rfl ?_
  refine gz_Vs (fun _ kk => gz_bipush (pc := 142) (v := (16 : Int32)) hX dX0_init_142 (by decide) kk) rfl ?_
  obtain ⟨g111, h⟩ := gz_gu h
  obtain ⟨m112, em112, h⟩ := gz_lt h
  refine gz_Vn (fun _ kk => gz_newa (pc := 144) (t := 0) (N := gz_ix (16 : Int32)) hX rfl rfl q457 rfl ⟨⟨g111.1, Nat.lt_succ_self _⟩, rfl⟩ g111.2.1 g111.2.2 (fun _ _ => trivial) dX0_init_144 em112 kk) em112 ?_
  obtain ⟨g113, h⟩ := gz_gu h
  obtain ⟨g114, h⟩ := gz_gu h
  obtain ⟨g115, h⟩ := gz_gu h
  obtain ⟨m116, em116, h⟩ := gz_lt h
  refine gz_Vs (fun _ kk => Rcp_X0_97_0 (pc := 146) hX hn0 (c := c0) (fun _ => g113) g114 g115 dX0_init_146 em116 kk) (by rw [em116]; rfl) ?_
  refine gz_Vs (fun _ kk => gz_aload_n (pc := 149) hX dX0_init_149 rfl 0 rfl kk) rfl ?_
  refine gz_Vs (fun _ kk => gz_bipush (pc := 150) (v := (16 : Int32)) hX dX0_init_150 (by decide) kk) rfl ?_
  obtain ⟨g117, h⟩ := gz_gu h
  obtain ⟨m118, em118, h⟩ := gz_lt h
  refine gz_Vn (fun _ kk => gz_newa (pc := 152) (t := 0) (N := gz_ix (16 : Int32)) hX rfl rfl q457 rfl ⟨⟨g117.1, Nat.lt_succ_self _⟩, rfl⟩ g117.2.1 g117.2.2 (fun _ _ => trivial) dX0_init_152 em118 kk) em118 ?_
  obtain ⟨g119, h⟩ := gz_gu h
  obtain ⟨g120, h⟩ := gz_gu h
  obtain ⟨g121, h⟩ := gz_gu h
  obtain ⟨m122, em122, h⟩ := gz_lt h
  refine gz_Vs (fun _ kk => Rcp_X0_100_0 (pc := 154) hX hn0 (c := c0) (fun _ => g119) g120 g121 dX0_init_154 em122 kk) (by rw [em122]; rfl) ?_
  refine gz_Vs (fun _ kk => gz_aload_n (pc := 157) hX dX0_init_157 rfl 0 rfl kk) rfl ?_
  refine gz_Vs (fun _ kk => gz_bipush (pc := 158) (v := (16 : Int32)) hX dX0_init_158 (by decide) kk) rfl ?_
  obtain ⟨g123, h⟩ := gz_gu h
  obtain ⟨m124, em124, h⟩ := gz_lt h
  refine gz_Vn (fun _ kk => gz_newa (pc := 160) (t := 0) (N := gz_ix (16 : Int32)) hX rfl rfl q457 rfl ⟨⟨g123.1, Nat.lt_succ_self _⟩, rfl⟩ g123.2.1 g123.2.2 (fun _ _ => trivial) dX0_init_160 em124 kk) em124 ?_
  obtain ⟨g125, h⟩ := gz_gu h
  obtain ⟨g126, h⟩ := gz_gu h
  obtain ⟨g127, h⟩ := gz_gu h
  obtain ⟨m128, em128, h⟩ := gz_lt h
  refine gz_Vs (fun _ kk => Rcp_X0_103_0 (pc := 162) hX hn0 (c := c0) (fun _ => g125) g126 g127 dX0_init_162 em128 kk) (by rw [em128]; rfl) ?_
  refine gz_Vs (fun _ kk => gz_aload_n (pc := 165) hX dX0_init_165 rfl 0 rfl kk) rfl ?_
  refine gz_Vs (fun _ kk => gz_bipush (pc := 166) (v := (10 : Int32)) hX dX0_init_166 (by decide) kk) rfl ?_
  refine gz_Vs (fun _ kk => gz_bipush (pc := 168) (v := (31 : Int32)) hX dX0_init_168 (by decide) kk) rfl ?_
  refine gz_Vs (fun _ kk => gz_bipush (pc := 170) (v := (8 : Int32)) hX dX0_init_170 (by decide) kk) rfl ?_
  obtain ⟨g129, h⟩ := gz_gu h
  obtain ⟨m130, em130, h⟩ := gz_lt h
  refine gz_Vc (k := 321) (n := 2800) (fun _ kk => gz_multi3 (pc := 172) (t := 8) (f := rk3 10 31 8) (k := 321) (n := 2800) hX q496 (rz_n8 hX) (rMk3 hX ⟨by decide, rfl⟩ ⟨by decide, rfl⟩ ⟨by decide, rfl⟩) g129 dX0_init_172 em130 kk) ⟨by rw [em130]; exact (rk3_z 10 31 8 _).1, by rw [em130]; exact (rk3_z 10 31 8 _).2⟩ ?_
  obtain ⟨g131, h⟩ := gz_gu h
  obtain ⟨g132, h⟩ := gz_gu h
  obtain ⟨g133, h⟩ := gz_gu h
  obtain ⟨m134, em134, h⟩ := gz_lt h
  refine gz_Vs (fun _ kk => Rcp_X0_108_0 (pc := 176) hX hn0 (c := c0) (fun _ => g131) g132 g133 dX0_init_176 em134 kk) (by rw [em134]; rfl) ?_
  refine gz_Vs (fun _ kk => gz_aload_n (pc := 179) hX dX0_init_179 rfl 0 rfl kk) rfl ?_
  refine gz_Vs (fun _ kk => gz_bipush (pc := 180) (v := (20 : Int32)) hX dX0_init_180 (by decide) kk) rfl ?_
  obtain ⟨g135, h⟩ := gz_gu h
  obtain ⟨m136, em136, h⟩ := gz_lt h
  refine gz_Vn (fun _ kk => gz_anew (pc := 182) (t := 9) (N := gz_ix (20 : Int32)) hX rfl rfl q411 (Rcz_s hX).2.2.2.1.2.1 ⟨⟨g135.1, Nat.lt_succ_self _⟩, rfl⟩ g135.2.1 g135.2.2 (fun _ _ => trivial) dX0_init_182 em136 kk) em136 ?_
  obtain ⟨g137, h⟩ := gz_gu h
  obtain ⟨g138, h⟩ := gz_gu h
  obtain ⟨g139, h⟩ := gz_gu h
  obtain ⟨m140, em140, h⟩ := gz_lt h
  refine gz_Vs (fun _ kk => Rcp_X0_111_0 (pc := 185) hX hn0 (c := c0) (fun _ => g137) g138 g139 dX0_init_185 em140 kk) (by rw [em140]; rfl) ?_
  refine gz_Vs (fun _ kk => gz_iconst (pc := 188) (v := (0 : Int32)) hX dX0_init_188 (by decide) kk) rfl ?_
  refine gz_Vs (fun _ kk => gz_istore_n (pc := 189) (lw := [(1, .int (0 : Int32)), (0, .ref (gz_ad G c0))]) hX dX0_init_189 rfl (by decide) rfl kk) rfl ?_
  refine gz_Vs (fun _ kk => gz_sub (lw := [(0, .ref (gz_ad G c0)), (1, .int (0 : Int32))]) [1, 0] rfl kk) rfl ?_
  exact Rwl_X0_init_190 hX hn0 hu h hk
theorem Rct_X0_init {G : gz_G} {l : Launch} {u1 u2 : Nat} {c0 : Nat} (hu : u1 = gz_ad G 8 ∧ u2 = gz_ad G 9)  {m m9 : gM} (h : Rcf_X0_init u1 u2 c0 m = some ((), m9)) : gz_Met cR G l yX0_init cX0_init 2 none (mRc 6 133 (gZ m9 - gZ m) (gW m9 - gW m)) [.ref (gz_ad G c0)] m m9 none :=
  gz_ofVc (by decide +kernel) (Nat.le_of_ble_eq_true rfl) fun X _ hn hX hk => (Rwm_X0_init (zE := m9.2.2.2.2.2) hX hn hu h (fun pc lv hd => gz_Ve (hk pc lv hd))).2
