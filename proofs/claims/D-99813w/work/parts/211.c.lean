set_option maxRecDepth 100000
/-! java/lang/Math.min(II)I -/
noncomputable def cf_J8_min (x0 : Int32) (x1 : Int32) (m : gM) : Option (Int32 × gM) :=
  (if x1 < x0 then some (x1, m) else some (x0, m))
theorem wm_J8_min {X : gz_X} {G : gz_G} (hX : gz_C cS X G cJ8_min 2 RJ8 0 0) {x0 : Int32} {x1 : Int32}  {m : gM} {z : (Int32 × gM)} (h : cf_J8_min x0 x1 m = some z) (hk : (fun z : (Int32 × gM) => gz_kI cS X G 2 (0, 0) cJ8_min z.2 z.1) z) : gz_V cS X G 2 (0, 0) m 0 [(0, .int x0), (1, .int x1)] [] := by
  unfold cf_J8_min at h
  refine gz_iload_n (pc := 0) hX dJ8_min_0 rfl 0 rfl ?_
  refine gz_iload_n (pc := 1) hX dJ8_min_1 rfl 1 rfl ?_
  refine gz_icmp_gt (pc := 2) (tgt := 9) hX dJ8_min_2 (by decide) (fun g1 => ?_) (fun g1 => ?_)
  · replace h := gz_it' g1 h
    refine gz_iload_n (pc := 9) hX dJ8_min_9 rfl 1 rfl ?_
    obtain rfl := Option.some.inj h
    exact hk _ _ dJ8_min_10
  · replace h := gz_if' g1 h
    refine gz_iload_n (pc := 5) hX dJ8_min_5 rfl 0 rfl ?_
    refine gz_goto (pc := 6) (tgt := 10) hX dJ8_min_6 (by decide) ?_
    obtain rfl := Option.some.inj h
    exact hk _ _ dJ8_min_10
theorem ct_J8_min {G : gz_G} {l : Launch} {x0 : Int32} {x1 : Int32}  {m m9 : gM} {r : Int32} (h : cf_J8_min x0 x1 m = some (r, m9)) : gz_Met cS G l yJ8_min cJ8_min 2 (some .int) (mRm 0 0) [.int x0, .int x1] m m9 (some (.int r)) :=
  gz_ofI (by decide +kernel) (Nat.le_of_ble_eq_true rfl) fun X _ hX hk => wm_J8_min hX h hk
/-! java/lang/Math.max(II)I -/
noncomputable def cf_J8_max (x0 : Int32) (x1 : Int32) (m : gM) : Option (Int32 × gM) :=
  (if x0 < x1 then some (x1, m) else some (x0, m))
theorem wm_J8_max {X : gz_X} {G : gz_G} (hX : gz_C cS X G cJ8_max 2 RJ8 0 0) {x0 : Int32} {x1 : Int32}  {m : gM} {z : (Int32 × gM)} (h : cf_J8_max x0 x1 m = some z) (hk : (fun z : (Int32 × gM) => gz_kI cS X G 2 (0, 0) cJ8_max z.2 z.1) z) : gz_V cS X G 2 (0, 0) m 0 [(0, .int x0), (1, .int x1)] [] := by
  unfold cf_J8_max at h
  refine gz_iload_n (pc := 0) hX dJ8_max_0 rfl 0 rfl ?_
  refine gz_iload_n (pc := 1) hX dJ8_max_1 rfl 1 rfl ?_
  refine gz_icmp_lt (pc := 2) (tgt := 9) hX dJ8_max_2 (by decide) (fun g1 => ?_) (fun g1 => ?_)
  · replace h := gz_it' g1 h
    refine gz_iload_n (pc := 9) hX dJ8_max_9 rfl 1 rfl ?_
    obtain rfl := Option.some.inj h
    exact hk _ _ dJ8_max_10
  · replace h := gz_if' g1 h
    refine gz_iload_n (pc := 5) hX dJ8_max_5 rfl 0 rfl ?_
    refine gz_goto (pc := 6) (tgt := 10) hX dJ8_max_6 (by decide) ?_
    obtain rfl := Option.some.inj h
    exact hk _ _ dJ8_max_10
theorem ct_J8_max {G : gz_G} {l : Launch} {x0 : Int32} {x1 : Int32}  {m m9 : gM} {r : Int32} (h : cf_J8_max x0 x1 m = some (r, m9)) : gz_Met cS G l yJ8_max cJ8_max 2 (some .int) (mRm 0 0) [.int x0, .int x1] m m9 (some (.int r)) :=
  gz_ofI (by decide +kernel) (Nat.le_of_ble_eq_true rfl) fun X _ hX hk => wm_J8_max hX h hk
/-! java/lang/Math.min(JJ)J -/
noncomputable def cf_J8_min_2 (x0 : Int64) (x2 : Int64) (m : gM) : Option (Int64 × gM) :=
  (if x2 < x0 then some (x2, m) else some (x0, m))
theorem wm_J8_min_2 {X : gz_X} {G : gz_G} (hX : gz_C cS X G cJ8_min_2 4 RJ8 0 0) {x0 : Int64} {x2 : Int64}  {m : gM} {z : (Int64 × gM)} (h : cf_J8_min_2 x0 x2 m = some z) (hk : (fun z : (Int64 × gM) => gz_kL cS X G 4 (0, 0) cJ8_min_2 z.2 z.1) z) : gz_V cS X G 4 (0, 0) m 0 [(0, .long x0), (2, .long x2)] [] := by
  unfold cf_J8_min_2 at h
  refine gz_lload_n (pc := 0) hX dJ8_min_2_0 rfl 0 rfl ?_
  refine gz_lload_n (pc := 1) hX dJ8_min_2_1 rfl 1 rfl ?_
  refine gz_lcmp_gt (pc := 2) (tgt := 10) hX dJ8_min_2_2 dJ8_min_2_3 (by decide) (fun g1 => ?_) (fun g1 => ?_)
  · replace h := gz_it' g1 h
    refine gz_lload_n (pc := 10) hX dJ8_min_2_10 rfl 1 rfl ?_
    obtain rfl := Option.some.inj h
    exact hk _ _ dJ8_min_2_11
  · replace h := gz_if' g1 h
    refine gz_lload_n (pc := 6) hX dJ8_min_2_6 rfl 0 rfl ?_
    refine gz_goto (pc := 7) (tgt := 11) hX dJ8_min_2_7 (by decide) ?_
    obtain rfl := Option.some.inj h
    exact hk _ _ dJ8_min_2_11
theorem ct_J8_min_2 {G : gz_G} {l : Launch} {x0 : Int64} {x2 : Int64}  {m m9 : gM} {r : Int64} (h : cf_J8_min_2 x0 x2 m = some (r, m9)) : gz_Met cS G l yJ8_min_2 cJ8_min_2 4 (some .long) (mRm 0 0) [.long x0, .long x2] m m9 (some (.long r)) :=
  gz_ofL (by decide +kernel) (Nat.le_of_ble_eq_true rfl) fun X _ hX hk => wm_J8_min_2 hX h hk
/-! java/lang/Math.max(JJ)J -/
noncomputable def cf_J8_max_2 (x0 : Int64) (x2 : Int64) (m : gM) : Option (Int64 × gM) :=
  (if x0 < x2 then some (x2, m) else some (x0, m))
theorem wm_J8_max_2 {X : gz_X} {G : gz_G} (hX : gz_C cS X G cJ8_max_2 4 RJ8 0 0) {x0 : Int64} {x2 : Int64}  {m : gM} {z : (Int64 × gM)} (h : cf_J8_max_2 x0 x2 m = some z) (hk : (fun z : (Int64 × gM) => gz_kL cS X G 4 (0, 0) cJ8_max_2 z.2 z.1) z) : gz_V cS X G 4 (0, 0) m 0 [(0, .long x0), (2, .long x2)] [] := by
  unfold cf_J8_max_2 at h
  refine gz_lload_n (pc := 0) hX dJ8_max_2_0 rfl 0 rfl ?_
  refine gz_lload_n (pc := 1) hX dJ8_max_2_1 rfl 1 rfl ?_
  refine gz_lcmp_lt (pc := 2) (tgt := 10) hX dJ8_max_2_2 dJ8_max_2_3 (by decide) (fun g1 => ?_) (fun g1 => ?_)
  · replace h := gz_it' g1 h
    refine gz_lload_n (pc := 10) hX dJ8_max_2_10 rfl 1 rfl ?_
    obtain rfl := Option.some.inj h
    exact hk _ _ dJ8_max_2_11
  · replace h := gz_if' g1 h
    refine gz_lload_n (pc := 6) hX dJ8_max_2_6 rfl 0 rfl ?_
    refine gz_goto (pc := 7) (tgt := 11) hX dJ8_max_2_7 (by decide) ?_
    obtain rfl := Option.some.inj h
    exact hk _ _ dJ8_max_2_11
theorem ct_J8_max_2 {G : gz_G} {l : Launch} {x0 : Int64} {x2 : Int64}  {m m9 : gM} {r : Int64} (h : cf_J8_max_2 x0 x2 m = some (r, m9)) : gz_Met cS G l yJ8_max_2 cJ8_max_2 4 (some .long) (mRm 0 0) [.long x0, .long x2] m m9 (some (.long r)) :=
  gz_ofL (by decide +kernel) (Nat.le_of_ble_eq_true rfl) fun X _ hX hk => wm_J8_max_2 hX h hk
/-! java/lang/Math.floorDiv(JJ)J -/
noncomputable def mj_J8_floorDiv_27 (x4 : Int64) (m : gM) : Option (Int64 × gM) :=
  some (x4, m)
theorem wb_J8_floorDiv_27 {X : gz_X} {G : gz_G} (hX : gz_C cS X G cJ8_floorDiv 6 RJ8 0 0) {x4 : Int64}  {m : gM} {z : (Int64 × gM)} (h : mj_J8_floorDiv_27 x4 m = some z) (hk : (fun z : (Int64 × gM) => gz_kL cS X G 6 (0, 0) cJ8_floorDiv z.2 z.1) z) : gz_V cS X G 6 (0, 0) m 27 [(4, .long x4)] [] := by
  unfold mj_J8_floorDiv_27 at h
  refine gz_lload (pc := 27) hX dJ8_floorDiv_27 0 rfl ?_
  obtain rfl := Option.some.inj h
  exact hk _ _ dJ8_floorDiv_29
noncomputable def cf_J8_floorDiv (x0 : Int64) (x2 : Int64) (m : gM) : Option (Int64 × gM) :=
  (if ¬ x2 = 0 then gz_let ((x0 / x2)) fun y2 => (if (0 : Int64) ≤ (x0 ^^^ x2) then (mj_J8_floorDiv_27 y2 m) else (if (y2 * x2) = x0 then (mj_J8_floorDiv_27 y2 m) else some ((y2 - (1 : Int64)), m))) else none)
theorem wm_J8_floorDiv {X : gz_X} {G : gz_G} (hX : gz_C cS X G cJ8_floorDiv 6 RJ8 0 0) {x0 : Int64} {x2 : Int64}  {m : gM} {z : (Int64 × gM)} (h : cf_J8_floorDiv x0 x2 m = some z) (hk : (fun z : (Int64 × gM) => gz_kL cS X G 6 (0, 0) cJ8_floorDiv z.2 z.1) z) : gz_V cS X G 6 (0, 0) m 0 [(0, .long x0), (2, .long x2)] [] := by
  unfold cf_J8_floorDiv at h
  refine gz_lload_n (pc := 0) hX dJ8_floorDiv_0 rfl 0 rfl ?_
  refine gz_lload_n (pc := 1) hX dJ8_floorDiv_1 rfl 1 rfl ?_
  obtain ⟨g1, h⟩ := gz_gu h
  refine gz_ldiv (pc := 2) hX dJ8_floorDiv_2 g1 ?_
  obtain ⟨y2, ey2, h⟩ := gz_lt h
  refine gz_topl ey2 ?_
  refine gz_lstore (pc := 3) (lw := [(4, .long y2), (0, .long x0), (2, .long x2)]) hX dJ8_floorDiv_3 (by decide) rfl ?_
  refine gz_lload_n (pc := 5) hX dJ8_floorDiv_5 rfl 1 rfl ?_
  refine gz_lload_n (pc := 6) hX dJ8_floorDiv_6 rfl 2 rfl ?_
  refine gz_lxor (pc := 7) hX dJ8_floorDiv_7 ?_
  refine gz_lconst (pc := 8) (v := (0 : Int64)) hX dJ8_floorDiv_8 (by decide) ?_
  refine gz_lcmp_ge (pc := 9) (tgt := 27) hX dJ8_floorDiv_9 dJ8_floorDiv_10 (by decide) (fun g3 => ?_) (fun g3 => ?_)
  · replace h := gz_it' g3 h
    refine gz_sub (lw := [(4, .long y2)]) [0] rfl ?_
    exact wb_J8_floorDiv_27 hX h hk
  · replace h := gz_if' g3 h
    refine gz_lload (pc := 13) hX dJ8_floorDiv_13 0 rfl ?_
    refine gz_lload_n (pc := 15) hX dJ8_floorDiv_15 rfl 2 rfl ?_
    refine gz_lmul (pc := 16) hX dJ8_floorDiv_16 ?_
    refine gz_lload_n (pc := 17) hX dJ8_floorDiv_17 rfl 1 rfl ?_
    refine gz_lcmp_eq (pc := 18) (tgt := 27) hX dJ8_floorDiv_18 dJ8_floorDiv_19 (by decide) (fun g4 => ?_) (fun g4 => ?_)
    · replace h := gz_it' g4 h
      refine gz_sub (lw := [(4, .long y2)]) [0] rfl ?_
      exact wb_J8_floorDiv_27 hX h hk
    · replace h := gz_if' g4 h
      refine gz_lload (pc := 22) hX dJ8_floorDiv_22 0 rfl ?_
      refine gz_lconst (pc := 24) (v := (1 : Int64)) hX dJ8_floorDiv_24 (by decide) ?_
      refine gz_lsub (pc := 25) hX dJ8_floorDiv_25 ?_
      obtain rfl := Option.some.inj h
      exact hk _ _ dJ8_floorDiv_26
theorem ct_J8_floorDiv {G : gz_G} {l : Launch} {x0 : Int64} {x2 : Int64}  {m m9 : gM} {r : Int64} (h : cf_J8_floorDiv x0 x2 m = some (r, m9)) : gz_Met cS G l yJ8_floorDiv cJ8_floorDiv 6 (some .long) (mRm 0 0) [.long x0, .long x2] m m9 (some (.long r)) :=
  gz_ofL (by decide +kernel) (Nat.le_of_ble_eq_true rfl) fun X _ hX hk => wm_J8_floorDiv hX h hk
theorem cp_X8_7_7 {X : gz_X} {G : gz_G} {cc : ByteArray} {nL fr lo pc : Nat} {rem : Nat × Nat} {m m9 : gM} {lv : List (Nat × Value)} {st : List Value} (hX : gz_C cS X G cc nL RX8 fr lo) (hn0 : X.2.2.2.2.2.2.2.2.1.name = "<init>") {c : Nat} {x : Int32} (hK : clc m.1 m.2.1 m.2.2.2.2.1 → m.1 c = 7 + 1) (hw : 1000 ≤ c) (hd : decode cc pc = .ok (.putfield 7, 3)) (hm : m9 = gz_sI m c 0 x) (kk : gz_V cS X G nL rem m9 (pc + 3) lv st) : gz_V cS X G nL rem m pc lv (.int x :: .ref (gz_ad G c) :: st) := by
  subst hm
  exact gz_putff hX (C := RX8) (T := TX8) (N := 3) (ci := 7) (k := 0) (ty := .int) (μ' := gz_sI m c 0 x) rfl (by decide) in_X8 tyX8 tyX8_ok nmX8 (by decide) (hX.2.2.2.2.1 _ q950) (fun _ h => h) rfl hn0 rfl rfl rfl rfl hd hK hw rfl rfl rfl (fun d tc j h => gz_sI_o d tc j h) (gz_sI_v (fun j => ftC 7 j) rfl) (fun h => h) kk
theorem cp_X8_13_7 {X : gz_X} {G : gz_G} {cc : ByteArray} {nL fr lo pc : Nat} {rem : Nat × Nat} {m m9 : gM} {lv : List (Nat × Value)} {st : List Value} (hX : gz_C cS X G cc nL RX8 fr lo) (hn0 : X.2.2.2.2.2.2.2.2.1.name = "<init>") {c : Nat} {x : Int32} (hK : clc m.1 m.2.1 m.2.2.2.2.1 → m.1 c = 7 + 1) (hw : 1000 ≤ c) (hd : decode cc pc = .ok (.putfield 13, 3)) (hm : m9 = gz_sI m c 1 x) (kk : gz_V cS X G nL rem m9 (pc + 3) lv st) : gz_V cS X G nL rem m pc lv (.int x :: .ref (gz_ad G c) :: st) := by
  subst hm
  exact gz_putff hX (C := RX8) (T := TX8) (N := 3) (ci := 7) (k := 1) (ty := .int) (μ' := gz_sI m c 1 x) rfl (by decide) in_X8 tyX8 tyX8_ok nmX8 (by decide) (hX.2.2.2.2.1 _ q952) (fun _ h => h) rfl hn0 rfl rfl rfl rfl hd hK hw rfl rfl rfl (fun d tc j h => gz_sI_o d tc j h) (gz_sI_v (fun j => ftC 7 j) rfl) (fun h => h) kk
theorem cp_X8_16_7 {X : gz_X} {G : gz_G} {cc : ByteArray} {nL fr lo pc : Nat} {rem : Nat × Nat} {m m9 : gM} {lv : List (Nat × Value)} {st : List Value} (hX : gz_C cS X G cc nL RX8 fr lo) (hn0 : X.2.2.2.2.2.2.2.2.1.name = "<init>") {c : Nat} {x : Int32} (hK : clc m.1 m.2.1 m.2.2.2.2.1 → m.1 c = 7 + 1) (hw : 1000 ≤ c) (hd : decode cc pc = .ok (.putfield 16, 3)) (hm : m9 = gz_sI m c 2 x) (kk : gz_V cS X G nL rem m9 (pc + 3) lv st) : gz_V cS X G nL rem m pc lv (.int x :: .ref (gz_ad G c) :: st) := by
  subst hm
  exact gz_putff hX (C := RX8) (T := TX8) (N := 3) (ci := 7) (k := 2) (ty := .int) (μ' := gz_sI m c 2 x) rfl (by decide) in_X8 tyX8 tyX8_ok nmX8 (by decide) (hX.2.2.2.2.1 _ q954) (fun _ h => h) rfl hn0 rfl rfl rfl rfl hd hK hw rfl rfl rfl (fun d tc j h => gz_sI_o d tc j h) (gz_sI_v (fun j => ftC 7 j) rfl) (fun h => h) kk
/-! FirstSnuffer$Door.<init>(III)V -/
noncomputable def cf_X8_init (c0 : Nat) (x1 : Int32) (x2 : Int32) (x3 : Int32) (m : gM) : Option (Unit × gM) :=
  (if gK m c0 = 8 then (if 1000 ≤ c0 then gz_let (gz_sI m c0 0 x1) fun m3 => (if gK m3 c0 = 8 then (if 1000 ≤ c0 then gz_let (gz_sI m3 c0 1 x2) fun m6 => (if gK m6 c0 = 8 then (if 1000 ≤ c0 then gz_let (gz_sI m6 c0 2 x3) fun m9 => some ((), m9) else none) else none) else none) else none) else none) else none)
theorem wm_X8_init {X : gz_X} {G : gz_G} (hX : gz_C cS X G cX8_init 4 RX8 1 20) (hn0 : X.2.2.2.2.2.2.2.2.1.name = "<init>") {c0 : Nat} {x1 : Int32} {x2 : Int32} {x3 : Int32}  {m : gM} {z : (Unit × gM)} (h : cf_X8_init c0 x1 x2 x3 m = some z) (hk : (fun z : (Unit × gM) => gz_kV cS X G 4 (0, 0) cX8_init z.2) z) : gz_V cS X G 4 (0, 0) m 0 [(0, .ref (gz_ad G c0)), (1, .int x1), (2, .int x2), (3, .int x3)] [] := by
  unfold cf_X8_init at h
  refine gz_aload_n (pc := 0) hX dX8_init_0 rfl 0 rfl ?_
  refine gz_objI (pc := 1) hX q949 q214 q215 ⟨Nat.le_of_ble_eq_true rfl, Nat.le_of_ble_eq_true rfl⟩ (Nat.le_of_ble_eq_true rfl) dX8_init_1 ?_
  refine gz_aload_n (pc := 4) hX dX8_init_4 rfl 0 rfl ?_
  refine gz_iload_n (pc := 5) hX dX8_init_5 rfl 1 rfl ?_
  obtain ⟨g1, h⟩ := gz_gu h
  obtain ⟨g2, h⟩ := gz_gu h
  obtain ⟨m3, em3, h⟩ := gz_lt h
  refine cp_X8_7_7 (pc := 6) hX hn0 (c := c0) (fun _ => g1) g2 dX8_init_6 em3 ?_
  refine gz_aload_n (pc := 9) hX dX8_init_9 rfl 0 rfl ?_
  refine gz_iload_n (pc := 10) hX dX8_init_10 rfl 2 rfl ?_
  obtain ⟨g4, h⟩ := gz_gu h
  obtain ⟨g5, h⟩ := gz_gu h
  obtain ⟨m6, em6, h⟩ := gz_lt h
  refine cp_X8_13_7 (pc := 11) hX hn0 (c := c0) (fun _ => g4) g5 dX8_init_11 em6 ?_
  refine gz_aload_n (pc := 14) hX dX8_init_14 rfl 0 rfl ?_
  refine gz_iload_n (pc := 15) hX dX8_init_15 rfl 3 rfl ?_
  obtain ⟨g7, h⟩ := gz_gu h
  obtain ⟨g8, h⟩ := gz_gu h
  obtain ⟨m9, em9, h⟩ := gz_lt h
  refine cp_X8_16_7 (pc := 16) hX hn0 (c := c0) (fun _ => g7) g8 dX8_init_16 em9 ?_
  obtain rfl := Option.some.inj h
  exact hk _ _ dX8_init_19
theorem ct_X8_init {G : gz_G} {l : Launch} {c0 : Nat} {x1 : Int32} {x2 : Int32} {x3 : Int32}  {m m9 : gM} (h : cf_X8_init c0 x1 x2 x3 m = some ((), m9)) : gz_Met cS G l yX8_init cX8_init 4 none (mRm 1 20) [.ref (gz_ad G c0), .int x1, .int x2, .int x3] m m9 none :=
  gz_ofVc (by decide +kernel) (Nat.le_of_ble_eq_true rfl) fun X _ hn hX hk => wm_X8_init hX hn h hk
theorem cc_J13_304 {X : gz_X} {G : gz_G} {cc : ByteArray} {nL fr lo pc : Nat} {rem : Nat × Nat} {lv : List (Nat × Value)} {rest st0 : List Value} (hX : gz_C cS X G cc nL RJ13 fr lo) {x0 : Int32} {x1 : Int32} {m m9 : gM}  {r : Int32} (h : cf_J8_min x0 x1 m = some (r, m9)) (hroom : 0 + 1 ≤ fr ∧ 8 + (2 + 11) + 0 ≤ lo) (hst : st0 = [.int x1, .int x0] ++ rest) (hW : (rest.map fun v => v.category).sum ≤ 8) (hd : decode cc pc = .ok (.invokestatic 304, 3)) (kk : gz_V cS X G nL rem m9 (pc + 3) lv (.int r :: rest)) : gz_V cS X G nL rem m pc lv st0 :=
  gz_callS hX cs_E (As := [.int x0, .int x1]) (rest := rest) (ct_J8_min (l := X.2.1) h) (lw_S q913 q494 q181 q495) (n := 2) (by decide +kernel) hroom rfl hst hW hd (rem := rem) kk
/-! java/util/Arrays.copyOf([Ljava/lang/Object;ILjava/lang/Class;)[Ljava/lang/Object; -/
noncomputable def mj_J13_copyOf_2_24 (c0 : Nat) (x1 : Int32) (s0 : Nat) (m : gM) : Option (Nat × gM) :=
  (if gK m c0 = 106 then ((cf_J8_min (nI (gN m c0)) x1 m).bind fun (r2, m3) => (if m3.2.2.2.2.2 = m.2.2.2.2.2 then (if (gK m3 c0 = 106 ∧ gK m3 s0 = 106) ∧ 1000 ≤ s0 then (if (0 ≤ (0 : Int32) ∧ 0 ≤ (0 : Int32) ∧ 0 ≤ r2) ∧ gz_ix (0 : Int32) + gz_ix r2 ≤ gN m3 c0 ∧ gz_ix (0 : Int32) + gz_ix r2 ≤ gN m3 s0 then (if ks s0 = 0 ∧ ∀ i, i < gz_ix r2 → gP m3 c0 (gz_ix (0 : Int32) + i) = 0 ∨ cOb m3 (gP m3 c0 (gz_ix (0 : Int32) + i)) = true then gz_let (gz_cpP m3 c0 (gz_ix (0 : Int32)) s0 (gz_ix (0 : Int32)) (gz_ix r2)) fun m9 => some (s0, m9) else none) else none) else none) else none)) else none)
theorem wb_J13_copyOf_2_24 {X : gz_X} {G : gz_G} {zE : Nat × Nat} (hX : gz_C cS X G cJ13_copyOf_2 4 RJ13 1 60) {c0 : Nat} {x1 : Int32} {s0 : Nat}  {m : gM} {z : (Nat × gM)} (h : mj_J13_copyOf_2_24 c0 x1 s0 m = some z) (hk : (fun z : (Nat × gM) => gz_kRa cS X G 4 zE cJ13_copyOf_2 z.2 z.1) z) : gz_Va cS X G 4 zE m 24 [(0, .ref (gz_ad G c0)), (1, .int x1)] [.ref (gz_ad G s0)] := by
  unfold mj_J13_copyOf_2_24 at h
  refine gz_Vs (fun _ kk => gz_astore_n (pc := 24) (lw := [(3, .ref (gz_ad G s0)), (0, .ref (gz_ad G c0)), (1, .int x1)]) hX dJ13_copyOf_2_24 rfl (by decide) rfl kk) rfl ?_
  refine gz_Vs (fun _ kk => gz_aload_n (pc := 25) hX dJ13_copyOf_2_25 rfl 1 rfl kk) rfl ?_
  refine gz_Vs (fun _ kk => gz_iconst (pc := 26) (v := (0 : Int32)) hX dJ13_copyOf_2_26 (by decide) kk) rfl ?_
  refine gz_Vs (fun _ kk => gz_aload_n (pc := 27) hX dJ13_copyOf_2_27 rfl 0 rfl kk) rfl ?_
  refine gz_Vs (fun _ kk => gz_iconst (pc := 28) (v := (0 : Int32)) hX dJ13_copyOf_2_28 (by decide) kk) rfl ?_
  refine gz_Vs (fun _ kk => gz_aload_n (pc := 29) hX dJ13_copyOf_2_29 rfl 1 rfl kk) rfl ?_
  obtain ⟨g1, h⟩ := gz_gu h
  refine gz_Vs (fun _ kk => gz_alen2 (pc := 30) (c := c0) (t := 5) (n := gN m c0) hX rfl (fun _ => ⟨g1, rfl⟩) dJ13_copyOf_2_30 kk) rfl ?_
  refine gz_Vs (fun _ kk => gz_iload_n (pc := 31) hX dJ13_copyOf_2_31 rfl 2 rfl kk) rfl ?_
  obtain ⟨⟨r2, m3⟩, c4, h⟩ := gz_bd h
  obtain ⟨g5, h⟩ := gz_gu h
  refine gz_Vs (fun _ kk => cc_J13_304 (pc := 32) hX c4 ⟨Nat.le_of_ble_eq_true rfl, Nat.le_of_ble_eq_true rfl⟩ (rest := [.int (0 : Int32), .ref (gz_ad G s0), .int (0 : Int32), .ref (gz_ad G c0)]) rfl (Nat.le_of_ble_eq_true rfl) dJ13_copyOf_2_32 kk) g5 ?_
  obtain ⟨g6, h⟩ := gz_gu h
  obtain ⟨g7, h⟩ := gz_gu h
  obtain ⟨g8, h⟩ := gz_gu h
  obtain ⟨m9, em9, h⟩ := gz_lt h
  refine gz_Vs (fun _ kk => gz_copyR (pc := 35) (t := 5) (a0 := c0) (a := s0) (E := "java/lang/Object") hX q914 q916 q915 q189 rfl rfl g6 g7 (fun H hR i hi h0 => cAny hX hR ((g8.2 i hi).resolve_left h0)) (clc_cp g8.1) ⟨Nat.le_of_ble_eq_true rfl, Nat.le_of_ble_eq_true rfl⟩ (Nat.le_of_ble_eq_true rfl) dJ13_copyOf_2_35 em9 kk) (by rw [em9]; rfl) ?_
  refine gz_Vs (fun _ kk => gz_aload_n (pc := 38) hX dJ13_copyOf_2_38 rfl 0 rfl kk) rfl ?_
  obtain rfl := Option.some.inj h
  exact hk _ _ dJ13_copyOf_2_39
noncomputable def cf_J13_copyOf_2 (c0 : Nat) (x1 : Int32) (m : gM) : Option (Nat × gM) :=
  (if 0 ≤ x1 ∧ gz_ix x1 * 4 ≤ 536870912 ∧ gZ m ≠ 0 then gz_let (gz_al m (5 + 101) (gz_ix x1) (gz_ix x1)) fun m2 => (mj_J13_copyOf_2_24 c0 x1 (gZ m) m2) else none)
theorem wm_J13_copyOf_2 {X : gz_X} {G : gz_G} {zE : Nat × Nat} (hX : gz_C cS X G cJ13_copyOf_2 4 RJ13 1 60) {c0 : Nat} {x1 : Int32}  {m : gM} {z : (Nat × gM)} (h : cf_J13_copyOf_2 c0 x1 m = some z) (hk : (fun z : (Nat × gM) => gz_kRa cS X G 4 zE cJ13_copyOf_2 z.2 z.1) z) : gz_Va cS X G 4 zE m 0 [(0, .ref (gz_ad G c0)), (1, .int x1), (2, .ref (gz_ad G 16))] [] := by
  unfold cf_J13_copyOf_2 at h
  refine gz_Vs (fun _ kk => gz_aload_n (pc := 0) hX dJ13_copyOf_2_0 rfl 2 rfl kk) rfl ?_
  refine gz_Vs (fun _ kk => gz_ldcM (pc := 1) (C := "[Ljava/lang/Object;") (c := 16) hX q911 (cz_s hX).2.2.2.1.2.2 dJ13_copyOf_2_1 kk) rfl ?_
  refine gz_Vs (fun _ kk => gz_acmp_one (pc := 3) hX dJ13_copyOf_2_3 ⟨13, by decide⟩ kk) rfl ?_
  refine gz_Vs (fun _ kk => gz_iload_n (pc := 6) hX dJ13_copyOf_2_6 rfl 1 rfl kk) rfl ?_
  obtain ⟨g1, h⟩ := gz_gu h
  obtain ⟨m2, em2, h⟩ := gz_lt h
  refine gz_Vn (fun _ kk => gz_anew (pc := 7) (t := 5) (N := gz_ix x1) hX rfl rfl q912 (cz_s hX).2.2.2.1.1 ⟨⟨g1.1, Nat.lt_succ_self _⟩, rfl⟩ g1.2.1 g1.2.2 clc_al dJ13_copyOf_2_7 em2 kk) em2 ?_
  refine gz_Vs (fun _ kk => gz_goto (pc := 10) (tgt := 24) hX dJ13_copyOf_2_10 (by decide) kk) rfl ?_
  refine gz_Vs (fun _ kk => gz_sub (lw := [(0, .ref (gz_ad G c0)), (1, .int x1)]) [0, 1] rfl kk) rfl ?_
  exact wb_J13_copyOf_2_24 hX h hk
theorem ct_J13_copyOf_2 {G : gz_G} {l : Launch} {c0 : Nat} {x1 : Int32}  {m m9 : gM} {r : Nat} (h : cf_J13_copyOf_2 c0 x1 m = some (r, m9)) : gz_Met cS G l yJ13_copyOf_2 cJ13_copyOf_2 4 (some (.array (.object "java/lang/Object"))) (mRc 1 60 (gZ m9 - gZ m) (gW m9 - gW m)) [.ref (gz_ad G c0), .int x1, .ref (gz_ad G 16)] m m9 (some (.ref (gz_ad G r))) :=
  gz_ofR (Or.inr ⟨_, rfl⟩) (by decide +kernel) (Nat.le_of_ble_eq_true rfl) fun X _ hX hk => (wm_J13_copyOf_2 (zE := m9.2.2.2.2.2) hX h (fun pc lv hd => gz_Ve (hk pc lv hd))).2
/-! java/util/Arrays.copyOf([BI)[B -/
noncomputable def cf_J13_copyOf_3 (c0 : Nat) (x1 : Int32) (m : gM) : Option (Nat × gM) :=
  (if gK m c0 = 102 then (if x1 = (nI (gN m c0)) then none else (if 0 ≤ x1 ∧ gz_ix x1 * 1 ≤ 536870912 ∧ gZ m ≠ 0 then gz_let (gz_al m (1 + 101) (gz_ix x1) (gz_ix x1)) fun m4 => (if gK m4 c0 = 102 then ((cf_J8_min (nI (gN m4 c0)) x1 m4).bind fun (r6, m7) => (if m7.2.2.2.2.2 = m4.2.2.2.2.2 then (if (gK m7 c0 = 102 ∧ gK m7 (gZ m) = 102) ∧ 1000 ≤ (gZ m) then (if (0 ≤ (0 : Int32) ∧ 0 ≤ (0 : Int32) ∧ 0 ≤ r6) ∧ gz_ix (0 : Int32) + gz_ix r6 ≤ gN m7 c0 ∧ gz_ix (0 : Int32) + gz_ix r6 ≤ gN m7 (gZ m) then (if ∀ i, i < gz_ix r6 → fits FieldType.byte (.int (gI m7 c0 (gz_ix (0 : Int32) + i))) = true then gz_let (gz_cpI m7 c0 (gz_ix (0 : Int32)) (gZ m) (gz_ix (0 : Int32)) (gz_ix r6)) fun m13 => some ((gZ m), m13) else none) else none) else none) else none)) else none) else none)) else none)
theorem wm_J13_copyOf_3 {X : gz_X} {G : gz_G} {zE : Nat × Nat} (hX : gz_C cS X G cJ13_copyOf_3 3 RJ13 1 60) {c0 : Nat} {x1 : Int32}  {m : gM} {z : (Nat × gM)} (h : cf_J13_copyOf_3 c0 x1 m = some z) (hk : (fun z : (Nat × gM) => gz_kRa cS X G 3 zE cJ13_copyOf_3 z.2 z.1) z) : gz_Va cS X G 3 zE m 0 [(0, .ref (gz_ad G c0)), (1, .int x1)] [] := by
  unfold cf_J13_copyOf_3 at h
  refine gz_Vs (fun _ kk => gz_iload_n (pc := 0) hX dJ13_copyOf_3_0 rfl 1 rfl kk) rfl ?_
  refine gz_Vs (fun _ kk => gz_aload_n (pc := 1) hX dJ13_copyOf_3_1 rfl 0 rfl kk) rfl ?_
  obtain ⟨g1, h⟩ := gz_gu h
  refine gz_Vs (fun _ kk => gz_alen2 (pc := 2) (c := c0) (t := 1) (n := gN m c0) hX rfl (fun _ => ⟨g1, rfl⟩) dJ13_copyOf_3_2 kk) rfl ?_
  refine gz_Vif (μ1 := m) (μ2 := m) (fun _ k1 k2 => gz_icmp_ne (pc := 3) (tgt := 14) hX dJ13_copyOf_3_3 (by decide) k1 k2) (by first | exact Classical.em _ | exact (Classical.em _).symm) (fun g2 => ?_) (fun g2 => ?_)
  · replace h := gz_if' g2 h
    refine gz_Vs (fun _ kk => gz_iload_n (pc := 14) hX dJ13_copyOf_3_14 rfl 1 rfl kk) rfl ?_
    obtain ⟨g3, h⟩ := gz_gu h
    obtain ⟨m4, em4, h⟩ := gz_lt h
    refine gz_Vn (fun _ kk => gz_newa (pc := 15) (t := 1) (N := gz_ix x1) hX rfl rfl q369 rfl ⟨⟨g3.1, Nat.lt_succ_self _⟩, rfl⟩ g3.2.1 g3.2.2 clc_al dJ13_copyOf_3_15 em4 kk) em4 ?_
    refine gz_Vs (fun _ kk => gz_astore_n (pc := 17) (lw := [(2, .ref (gz_ad G (gZ m))), (0, .ref (gz_ad G c0)), (1, .int x1)]) hX dJ13_copyOf_3_17 rfl (by decide) rfl kk) rfl ?_
    refine gz_Vs (fun _ kk => gz_aload_n (pc := 18) hX dJ13_copyOf_3_18 rfl 1 rfl kk) rfl ?_
    refine gz_Vs (fun _ kk => gz_iconst (pc := 19) (v := (0 : Int32)) hX dJ13_copyOf_3_19 (by decide) kk) rfl ?_
    refine gz_Vs (fun _ kk => gz_aload_n (pc := 20) hX dJ13_copyOf_3_20 rfl 0 rfl kk) rfl ?_
    refine gz_Vs (fun _ kk => gz_iconst (pc := 21) (v := (0 : Int32)) hX dJ13_copyOf_3_21 (by decide) kk) rfl ?_
    refine gz_Vs (fun _ kk => gz_aload_n (pc := 22) hX dJ13_copyOf_3_22 rfl 1 rfl kk) rfl ?_
    obtain ⟨g5, h⟩ := gz_gu h
    refine gz_Vs (fun _ kk => gz_alen2 (pc := 23) (c := c0) (t := 1) (n := gN m4 c0) hX rfl (fun _ => ⟨g5, rfl⟩) dJ13_copyOf_3_23 kk) rfl ?_
    refine gz_Vs (fun _ kk => gz_iload_n (pc := 24) hX dJ13_copyOf_3_24 rfl 2 rfl kk) rfl ?_
    obtain ⟨⟨r6, m7⟩, c8, h⟩ := gz_bd h
    obtain ⟨g9, h⟩ := gz_gu h
    refine gz_Vs (fun _ kk => cc_J13_304 (pc := 25) hX c8 ⟨Nat.le_of_ble_eq_true rfl, Nat.le_of_ble_eq_true rfl⟩ (rest := [.int (0 : Int32), .ref (gz_ad G (gZ m)), .int (0 : Int32), .ref (gz_ad G c0)]) rfl (Nat.le_of_ble_eq_true rfl) dJ13_copyOf_3_25 kk) g9 ?_
    obtain ⟨g10, h⟩ := gz_gu h
    obtain ⟨g11, h⟩ := gz_gu h
    obtain ⟨g12, h⟩ := gz_gu h
    obtain ⟨m13, em13, h⟩ := gz_lt h
    refine gz_Vs (fun _ kk => gz_copyI (pc := 28) (t := 1) (a0 := c0) (a := (gZ m)) (ty := .byte) hX q914 q916 q915 q189 rfl rfl rfl g10 g11 g12 ⟨Nat.le_of_ble_eq_true rfl, Nat.le_of_ble_eq_true rfl⟩ (Nat.le_of_ble_eq_true rfl) dJ13_copyOf_3_28 em13 kk) (by rw [em13]; rfl) ?_
    refine gz_Vs (fun _ kk => gz_aload_n (pc := 31) hX dJ13_copyOf_3_31 rfl 0 rfl kk) rfl ?_
    obtain rfl := Option.some.inj h
    exact hk _ _ dJ13_copyOf_3_32
  · replace h := gz_it' g2 h
    refine gz_Vs (fun _ kk => gz_aload_n (pc := 6) hX dJ13_copyOf_3_6 rfl 0 rfl kk) rfl ?_
    exact nomatch h
theorem ct_J13_copyOf_3 {G : gz_G} {l : Launch} {c0 : Nat} {x1 : Int32}  {m m9 : gM} {r : Nat} (h : cf_J13_copyOf_3 c0 x1 m = some (r, m9)) : gz_Met cS G l yJ13_copyOf_3 cJ13_copyOf_3 3 (some (.array .byte)) (mRc 1 60 (gZ m9 - gZ m) (gW m9 - gW m)) [.ref (gz_ad G c0), .int x1] m m9 (some (.ref (gz_ad G r))) :=
  gz_ofR (Or.inr ⟨_, rfl⟩) (by decide +kernel) (Nat.le_of_ble_eq_true rfl) fun X _ hX hk => (wm_J13_copyOf_3 (zE := m9.2.2.2.2.2) hX h (fun pc lv hd => gz_Ve (hk pc lv hd))).2
theorem cp_X4_7_4 {X : gz_X} {G : gz_G} {cc : ByteArray} {nL fr lo pc : Nat} {rem : Nat × Nat} {m m9 : gM} {lv : List (Nat × Value)} {st : List Value} (hX : gz_C cS X G cc nL RX4 fr lo) (hn0 : X.2.2.2.2.2.2.2.2.1.name = "<init>") {c : Nat} {r : Nat} (hK : clc m.1 m.2.1 m.2.2.2.2.1 → m.1 c = 4 + 1) (hw : 1000 ≤ c) (hs : sr c 0 = 0 ∧ r ≠ 0) (hd : decode cc pc = .ok (.putfield 7, 3)) (hm : m9 = gz_sP m c 0 r) (kk : gz_V cS X G nL rem m9 (pc + 3) lv st) : gz_V cS X G nL rem m pc lv (.ref (gz_ad G r) :: .ref (gz_ad G c) :: st) := by
  subst hm
  exact gz_putff hX (C := RX4) (T := TX4) (N := 1) (ci := 4) (k := 0) (μ' := gz_sP m c 0 r) (v := .ref (gz_ad G r)) rfl (by decide) in_X4 tyX4 tyX4_ok nmX4 (by decide) (hX.2.2.2.2.1 _ q401) (fun _ h => h) rfl hn0 rfl rfl rfl rfl hd hK hw rfl rfl rfl (fun d tc j h => gz_sP_o d tc j h) (by intro j; rw [← gz_rfp hs.2]; exact gz_sP_v (fun j => ftC 4 j) rfl j) (clc_sP hs.1) kk
/-! FirstSnuffer$Moment.<init>()V -/
noncomputable def cf_X4_init (c0 : Nat) (m : gM) : Option (Unit × gM) :=
  (if 0 ≤ (7 : Int32) ∧ gz_ix (7 : Int32) * 8 ≤ 536870912 ∧ gZ m ≠ 0 then gz_let (gz_al m (4 + 101) (gz_ix (7 : Int32)) (gz_ix (7 : Int32))) fun m2 => (if gK m2 c0 = 5 then (if 1000 ≤ c0 then (if sr c0 0 = 0 ∧ (gZ m) ≠ 0 then gz_let (gz_sP m2 c0 0 (gZ m)) fun m6 => some ((), m6) else none) else none) else none) else none)
theorem wm_X4_init {X : gz_X} {G : gz_G} {zE : Nat × Nat} (hX : gz_C cS X G cX4_init 1 RX4 1 20) (hn0 : X.2.2.2.2.2.2.2.2.1.name = "<init>") {c0 : Nat}  {m : gM} {z : (Unit × gM)} (h : cf_X4_init c0 m = some z) (hk : (fun z : (Unit × gM) => gz_kVa cS X G 1 zE cX4_init z.2) z) : gz_Va cS X G 1 zE m 0 [(0, .ref (gz_ad G c0))] [] := by
  unfold cf_X4_init at h
  refine gz_Vs (fun _ kk => gz_aload_n (pc := 0) hX dX4_init_0 rfl 0 rfl kk) rfl ?_
  refine gz_Vs (fun _ kk => gz_objI (pc := 1) hX q400 q214 q215 ⟨Nat.le_of_ble_eq_true rfl, Nat.le_of_ble_eq_true rfl⟩ (Nat.le_of_ble_eq_true rfl) dX4_init_1 kk) rfl ?_
  refine gz_Vs (fun _ kk => gz_aload_n (pc := 4) hX dX4_init_4 rfl 0 rfl kk) rfl ?_
  refine gz_Vs (fun _ kk => gz_bipush (pc := 5) (v := (7 : Int32)) hX dX4_init_5 (by decide) kk) rfl ?_
  obtain ⟨g1, h⟩ := gz_gu h
  obtain ⟨m2, em2, h⟩ := gz_lt h
  refine gz_Vn (fun _ kk => gz_newa (pc := 7) (t := 4) (N := gz_ix (7 : Int32)) hX rfl rfl q408 rfl ⟨⟨g1.1, Nat.lt_succ_self _⟩, rfl⟩ g1.2.1 g1.2.2 clc_al dX4_init_7 em2 kk) em2 ?_
  obtain ⟨g3, h⟩ := gz_gu h
  obtain ⟨g4, h⟩ := gz_gu h
  obtain ⟨g5, h⟩ := gz_gu h
  obtain ⟨m6, em6, h⟩ := gz_lt h
  refine gz_Vs (fun _ kk => cp_X4_7_4 (pc := 9) hX hn0 (c := c0) (fun _ => g3) g4 g5 dX4_init_9 em6 kk) (by rw [em6]; rfl) ?_
  obtain rfl := Option.some.inj h
  exact hk _ _ dX4_init_12
theorem ct_X4_init {G : gz_G} {l : Launch} {c0 : Nat}  {m m9 : gM} (h : cf_X4_init c0 m = some ((), m9)) : gz_Met cS G l yX4_init cX4_init 1 none (mRc 1 20 (gZ m9 - gZ m) (gW m9 - gW m)) [.ref (gz_ad G c0)] m m9 none :=
  gz_ofVc (by decide +kernel) (Nat.le_of_ble_eq_true rfl) fun X _ hn hX hk => (wm_X4_init (zE := m9.2.2.2.2.2) hX hn h (fun pc lv hd => gz_Ve (hk pc lv hd))).2
/-! jdk/internal/util/ArraysSupport.signedHashCode(I[BII)I -/
def mP_J12_signedHashCode_8 (X : gz_X) (G : gz_G) (c1 : Nat) (q : (Int32 × Int32 × Int32 × gM)) : Prop := gz_V cS X G 6 (0, 0) q.2.2.2 8 [(0, .int q.1), (1, .ref (gz_ad G c1)), (4, .int q.2.1), (5, .int q.2.2.1)] []
noncomputable def mb_J12_signedHashCode_8 (x0 : Int32) (c1 : Nat) (x4 : Int32) (x5 : Int32) (m : gM) : Option ((Int32 × Int32 × Int32 × gM) ⊕ (Int32 × gM)) :=
  (if x4 ≤ x5 then some (Sum.inr (x0, m)) else (if gK m c1 = 102 then (if gz_in x5 (gN m c1) then gz_let ((((31 : Int32) * x0) + ((gI m c1 (gz_ix x5)) &&& (255 : Int32)))) fun y4 => gz_let (x5 + (1 : Int32)) fun y5 => some (Sum.inl (y4, x4, y5, m)) else none) else none))
theorem wb_J12_signedHashCode_8 {X : gz_X} {G : gz_G} (hX : gz_C cS X G cJ12_signedHashCode 6 RJ12 0 0) {x0 : Int32} {c1 : Nat} {x4 : Int32} {x5 : Int32}  {m : gM} {z : ((Int32 × Int32 × Int32 × gM) ⊕ (Int32 × gM))} (h : mb_J12_signedHashCode_8 x0 c1 x4 x5 m = some z) (hk : (Sum.elim (mP_J12_signedHashCode_8 X G c1) (fun z : (Int32 × gM) => gz_kI cS X G 6 (0, 0) cJ12_signedHashCode z.2 z.1)) z) : gz_V cS X G 6 (0, 0) m 8 [(0, .int x0), (1, .ref (gz_ad G c1)), (4, .int x4), (5, .int x5)] [] := by
  unfold mb_J12_signedHashCode_8 at h
  refine gz_iload (pc := 8) hX dJ12_signedHashCode_8 3 rfl ?_
  refine gz_iload (pc := 10) hX dJ12_signedHashCode_10 2 rfl ?_
  refine gz_icmp_ge (pc := 12) (tgt := 35) hX dJ12_signedHashCode_12 (by decide) (fun g1 => ?_) (fun g1 => ?_)
  · replace h := gz_it' g1 h
    refine gz_iload_n (pc := 35) hX dJ12_signedHashCode_35 rfl 0 rfl ?_
    obtain rfl := Option.some.inj h
    exact hk _ _ dJ12_signedHashCode_36
  · replace h := gz_if' g1 h
    refine gz_bipush (pc := 15) (v := (31 : Int32)) hX dJ12_signedHashCode_15 (by decide) ?_
    refine gz_iload_n (pc := 17) hX dJ12_signedHashCode_17 rfl 0 rfl ?_
    refine gz_imul (pc := 18) hX dJ12_signedHashCode_18 ?_
    refine gz_aload_n (pc := 19) hX dJ12_signedHashCode_19 rfl 1 rfl ?_
    refine gz_iload (pc := 20) hX dJ12_signedHashCode_20 3 rfl ?_
    obtain ⟨g2, h⟩ := gz_gu h
    obtain ⟨g3, h⟩ := gz_gu h
    refine gz_bald2 (pc := 22) (c := c1) (n := gN m c1) hX rfl (fun _ => ⟨g2, rfl⟩) g3 dJ12_signedHashCode_22 ?_
    refine gz_sipush (pc := 23) (v := (255 : Int32)) hX dJ12_signedHashCode_23 (by decide) ?_
    refine gz_iand (pc := 26) hX dJ12_signedHashCode_26 ?_
    refine gz_iadd (pc := 27) hX dJ12_signedHashCode_27 ?_
    obtain ⟨y4, ey4, h⟩ := gz_lt h
    refine gz_topi ey4 ?_
    refine gz_istore_n (pc := 28) (lw := [(0, .int y4), (1, .ref (gz_ad G c1)), (4, .int x4), (5, .int x5)]) hX dJ12_signedHashCode_28 rfl (by decide) rfl ?_
    obtain ⟨y5, ey5, h⟩ := gz_lt h
    refine gz_iinc (pc := 29) (v := y5) (lw := [(5, .int y5), (0, .int y4), (1, .ref (gz_ad G c1)), (4, .int x4)]) hX dJ12_signedHashCode_29 (k := 3) rfl (by rw [ey5]; rfl) (by decide) rfl ?_
    refine gz_goto (pc := 32) (tgt := 8) hX dJ12_signedHashCode_32 (by decide) ?_
    refine gz_sub (lw := [(0, .int y4), (1, .ref (gz_ad G c1)), (4, .int x4), (5, .int y5)]) [1, 2, 3, 0] rfl ?_
    obtain rfl := Option.some.inj h
    exact hk
noncomputable def ml_J12_signedHashCode_8 (x0 : Int32) (c1 : Nat) (x4 : Int32) (x5 : Int32) (m : gM) : Option (Int32 × gM) := gz_loop (fun q : (Int32 × Int32 × Int32 × gM) => mb_J12_signedHashCode_8 q.1 c1 q.2.1 q.2.2.1 q.2.2.2) (x0, x4, x5, m)
theorem wl_J12_signedHashCode_8 {X : gz_X} {G : gz_G} (hX : gz_C cS X G cJ12_signedHashCode 6 RJ12 0 0) {x0 : Int32} {c1 : Nat} {x4 : Int32} {x5 : Int32}  {m : gM} {z : (Int32 × gM)} (h : ml_J12_signedHashCode_8 x0 c1 x4 x5 m = some z) (hk : (fun z : (Int32 × gM) => gz_kI cS X G 6 (0, 0) cJ12_signedHashCode z.2 z.1) z) : gz_V cS X G 6 (0, 0) m 8 [(0, .int x0), (1, .ref (gz_ad G c1)), (4, .int x4), (5, .int x5)] [] := by
  have hp : mP_J12_signedHashCode_8 X G c1 (x0, x4, x5, m) := gz_loop_ind (fun q z hz hkz => wb_J12_signedHashCode_8 hX  hz hkz) h hk
  exact hp
noncomputable def cf_J12_signedHashCode (x0 : Int32) (c1 : Nat) (x2 : Int32) (x3 : Int32) (m : gM) : Option (Int32 × gM) :=
  gz_let ((x2 + x3)) fun y1 => (ml_J12_signedHashCode_8 x0 c1 y1 x2 m)
theorem wm_J12_signedHashCode {X : gz_X} {G : gz_G} (hX : gz_C cS X G cJ12_signedHashCode 6 RJ12 0 0) {x0 : Int32} {c1 : Nat} {x2 : Int32} {x3 : Int32}  {m : gM} {z : (Int32 × gM)} (h : cf_J12_signedHashCode x0 c1 x2 x3 m = some z) (hk : (fun z : (Int32 × gM) => gz_kI cS X G 6 (0, 0) cJ12_signedHashCode z.2 z.1) z) : gz_V cS X G 6 (0, 0) m 0 [(0, .int x0), (1, .ref (gz_ad G c1)), (2, .int x2), (3, .int x3)] [] := by
  unfold cf_J12_signedHashCode at h
  refine gz_iload_n (pc := 0) hX dJ12_signedHashCode_0 rfl 2 rfl ?_
  refine gz_iload_n (pc := 1) hX dJ12_signedHashCode_1 rfl 3 rfl ?_
  refine gz_iadd (pc := 2) hX dJ12_signedHashCode_2 ?_
  obtain ⟨y1, ey1, h⟩ := gz_lt h
  refine gz_topi ey1 ?_
  refine gz_istore (pc := 3) (lw := [(4, .int y1), (0, .int x0), (1, .ref (gz_ad G c1)), (2, .int x2), (3, .int x3)]) hX dJ12_signedHashCode_3 (by decide) rfl ?_
  refine gz_iload_n (pc := 5) hX dJ12_signedHashCode_5 rfl 3 rfl ?_
  refine gz_istore (pc := 6) (lw := [(5, .int x2), (4, .int y1), (0, .int x0), (1, .ref (gz_ad G c1)), (2, .int x2), (3, .int x3)]) hX dJ12_signedHashCode_6 (by decide) rfl ?_
  refine gz_sub (lw := [(0, .int x0), (1, .ref (gz_ad G c1)), (4, .int y1), (5, .int x2)]) [2, 3, 1, 0] rfl ?_
  exact wl_J12_signedHashCode_8 hX h hk
theorem ct_J12_signedHashCode {G : gz_G} {l : Launch} {x0 : Int32} {c1 : Nat} {x2 : Int32} {x3 : Int32}  {m m9 : gM} {r : Int32} (h : cf_J12_signedHashCode x0 c1 x2 x3 m = some (r, m9)) : gz_Met cS G l yJ12_signedHashCode cJ12_signedHashCode 6 (some .int) (mRm 0 0) [.int x0, .ref (gz_ad G c1), .int x2, .int x3] m m9 (some (.int r)) :=
  gz_ofI (by decide +kernel) (Nat.le_of_ble_eq_true rfl) fun X _ hX hk => wm_J12_signedHashCode hX h hk
/-! jdk/internal/util/ArraysSupport.utf16hashCode(I[BII)I -/
def mP_J12_utf16hashCode_8 (X : gz_X) (G : gz_G) (c1 : Nat) (q : (Int32 × Int32 × Int32 × gM)) : Prop := gz_V cS X G 6 (0, 0) q.2.2.2 8 [(0, .int q.1), (1, .ref (gz_ad G c1)), (4, .int q.2.1), (5, .int q.2.2.1)] []
noncomputable def mb_J12_utf16hashCode_8 (x0 : Int32) (c1 : Nat) (x4 : Int32) (x5 : Int32) (m : gM) : Option ((Int32 × Int32 × Int32 × gM) ⊕ (Int32 × gM)) :=
  (if x4 ≤ x5 then some (Sum.inr (x0, m)) else none)
theorem wb_J12_utf16hashCode_8 {X : gz_X} {G : gz_G} (hX : gz_C cS X G cJ12_utf16hashCode 6 RJ12 0 0) {x0 : Int32} {c1 : Nat} {x4 : Int32} {x5 : Int32}  {m : gM} {z : ((Int32 × Int32 × Int32 × gM) ⊕ (Int32 × gM))} (h : mb_J12_utf16hashCode_8 x0 c1 x4 x5 m = some z) (hk : (Sum.elim (mP_J12_utf16hashCode_8 X G c1) (fun z : (Int32 × gM) => gz_kI cS X G 6 (0, 0) cJ12_utf16hashCode z.2 z.1)) z) : gz_V cS X G 6 (0, 0) m 8 [(0, .int x0), (1, .ref (gz_ad G c1)), (4, .int x4), (5, .int x5)] [] := by
  unfold mb_J12_utf16hashCode_8 at h
  refine gz_iload (pc := 8) hX dJ12_utf16hashCode_8 3 rfl ?_
  refine gz_iload (pc := 10) hX dJ12_utf16hashCode_10 2 rfl ?_
  refine gz_icmp_ge (pc := 12) (tgt := 38) hX dJ12_utf16hashCode_12 (by decide) (fun g1 => ?_) (fun g1 => ?_)
  · replace h := gz_it' g1 h
    refine gz_iload_n (pc := 38) hX dJ12_utf16hashCode_38 rfl 0 rfl ?_
    obtain rfl := Option.some.inj h
    exact hk _ _ dJ12_utf16hashCode_39
  · replace h := gz_if' g1 h
    refine gz_bipush (pc := 15) (v := (31 : Int32)) hX dJ12_utf16hashCode_15 (by decide) ?_
    refine gz_iload_n (pc := 17) hX dJ12_utf16hashCode_17 rfl 0 rfl ?_
    refine gz_imul (pc := 18) hX dJ12_utf16hashCode_18 ?_
    exact nomatch h
noncomputable def ml_J12_utf16hashCode_8 (x0 : Int32) (c1 : Nat) (x4 : Int32) (x5 : Int32) (m : gM) : Option (Int32 × gM) := gz_loop (fun q : (Int32 × Int32 × Int32 × gM) => mb_J12_utf16hashCode_8 q.1 c1 q.2.1 q.2.2.1 q.2.2.2) (x0, x4, x5, m)
theorem wl_J12_utf16hashCode_8 {X : gz_X} {G : gz_G} (hX : gz_C cS X G cJ12_utf16hashCode 6 RJ12 0 0) {x0 : Int32} {c1 : Nat} {x4 : Int32} {x5 : Int32}  {m : gM} {z : (Int32 × gM)} (h : ml_J12_utf16hashCode_8 x0 c1 x4 x5 m = some z) (hk : (fun z : (Int32 × gM) => gz_kI cS X G 6 (0, 0) cJ12_utf16hashCode z.2 z.1) z) : gz_V cS X G 6 (0, 0) m 8 [(0, .int x0), (1, .ref (gz_ad G c1)), (4, .int x4), (5, .int x5)] [] := by
  have hp : mP_J12_utf16hashCode_8 X G c1 (x0, x4, x5, m) := gz_loop_ind (fun q z hz hkz => wb_J12_utf16hashCode_8 hX  hz hkz) h hk
  exact hp
noncomputable def cf_J12_utf16hashCode (x0 : Int32) (c1 : Nat) (x2 : Int32) (x3 : Int32) (m : gM) : Option (Int32 × gM) :=
  gz_let ((x2 + x3)) fun y1 => (ml_J12_utf16hashCode_8 x0 c1 y1 x2 m)
theorem wm_J12_utf16hashCode {X : gz_X} {G : gz_G} (hX : gz_C cS X G cJ12_utf16hashCode 6 RJ12 0 0) {x0 : Int32} {c1 : Nat} {x2 : Int32} {x3 : Int32}  {m : gM} {z : (Int32 × gM)} (h : cf_J12_utf16hashCode x0 c1 x2 x3 m = some z) (hk : (fun z : (Int32 × gM) => gz_kI cS X G 6 (0, 0) cJ12_utf16hashCode z.2 z.1) z) : gz_V cS X G 6 (0, 0) m 0 [(0, .int x0), (1, .ref (gz_ad G c1)), (2, .int x2), (3, .int x3)] [] := by
  unfold cf_J12_utf16hashCode at h
  refine gz_iload_n (pc := 0) hX dJ12_utf16hashCode_0 rfl 2 rfl ?_
  refine gz_iload_n (pc := 1) hX dJ12_utf16hashCode_1 rfl 3 rfl ?_
  refine gz_iadd (pc := 2) hX dJ12_utf16hashCode_2 ?_
  obtain ⟨y1, ey1, h⟩ := gz_lt h
  refine gz_topi ey1 ?_
  refine gz_istore (pc := 3) (lw := [(4, .int y1), (0, .int x0), (1, .ref (gz_ad G c1)), (2, .int x2), (3, .int x3)]) hX dJ12_utf16hashCode_3 (by decide) rfl ?_
  refine gz_iload_n (pc := 5) hX dJ12_utf16hashCode_5 rfl 3 rfl ?_
  refine gz_istore (pc := 6) (lw := [(5, .int x2), (4, .int y1), (0, .int x0), (1, .ref (gz_ad G c1)), (2, .int x2), (3, .int x3)]) hX dJ12_utf16hashCode_6 (by decide) rfl ?_
  refine gz_sub (lw := [(0, .int x0), (1, .ref (gz_ad G c1)), (4, .int y1), (5, .int x2)]) [2, 3, 1, 0] rfl ?_
  exact wl_J12_utf16hashCode_8 hX h hk
theorem ct_J12_utf16hashCode {G : gz_G} {l : Launch} {x0 : Int32} {c1 : Nat} {x2 : Int32} {x3 : Int32}  {m m9 : gM} {r : Int32} (h : cf_J12_utf16hashCode x0 c1 x2 x3 m = some (r, m9)) : gz_Met cS G l yJ12_utf16hashCode cJ12_utf16hashCode 6 (some .int) (mRm 0 0) [.int x0, .ref (gz_ad G c1), .int x2, .int x3] m m9 (some (.int r)) :=
  gz_ofI (by decide +kernel) (Nat.le_of_ble_eq_true rfl) fun X _ hX hk => wm_J12_utf16hashCode hX h hk
/-! jdk/internal/util/ArraysSupport.hashCode(I[CII)I -/
def mP_J12_hashCode_8 (X : gz_X) (G : gz_G) (c1 : Nat) (q : (Int32 × Int32 × Int32 × gM)) : Prop := gz_V cS X G 6 (0, 0) q.2.2.2 8 [(0, .int q.1), (1, .ref (gz_ad G c1)), (4, .int q.2.1), (5, .int q.2.2.1)] []
noncomputable def mb_J12_hashCode_8 (x0 : Int32) (c1 : Nat) (x4 : Int32) (x5 : Int32) (m : gM) : Option ((Int32 × Int32 × Int32 × gM) ⊕ (Int32 × gM)) :=
  (if x4 ≤ x5 then some (Sum.inr (x0, m)) else (if gK m c1 = 103 then (if gz_in x5 (gN m c1) then gz_let ((((31 : Int32) * x0) + (gI m c1 (gz_ix x5)))) fun y4 => gz_let (x5 + (1 : Int32)) fun y5 => some (Sum.inl (y4, x4, y5, m)) else none) else none))
theorem wb_J12_hashCode_8 {X : gz_X} {G : gz_G} (hX : gz_C cS X G cJ12_hashCode 6 RJ12 0 0) {x0 : Int32} {c1 : Nat} {x4 : Int32} {x5 : Int32}  {m : gM} {z : ((Int32 × Int32 × Int32 × gM) ⊕ (Int32 × gM))} (h : mb_J12_hashCode_8 x0 c1 x4 x5 m = some z) (hk : (Sum.elim (mP_J12_hashCode_8 X G c1) (fun z : (Int32 × gM) => gz_kI cS X G 6 (0, 0) cJ12_hashCode z.2 z.1)) z) : gz_V cS X G 6 (0, 0) m 8 [(0, .int x0), (1, .ref (gz_ad G c1)), (4, .int x4), (5, .int x5)] [] := by
  unfold mb_J12_hashCode_8 at h
  refine gz_iload (pc := 8) hX dJ12_hashCode_8 3 rfl ?_
  refine gz_iload (pc := 10) hX dJ12_hashCode_10 2 rfl ?_
  refine gz_icmp_ge (pc := 12) (tgt := 31) hX dJ12_hashCode_12 (by decide) (fun g1 => ?_) (fun g1 => ?_)
  · replace h := gz_it' g1 h
    refine gz_iload_n (pc := 31) hX dJ12_hashCode_31 rfl 0 rfl ?_
    obtain rfl := Option.some.inj h
    exact hk _ _ dJ12_hashCode_32
  · replace h := gz_if' g1 h
    refine gz_bipush (pc := 15) (v := (31 : Int32)) hX dJ12_hashCode_15 (by decide) ?_
    refine gz_iload_n (pc := 17) hX dJ12_hashCode_17 rfl 0 rfl ?_
    refine gz_imul (pc := 18) hX dJ12_hashCode_18 ?_
    refine gz_aload_n (pc := 19) hX dJ12_hashCode_19 rfl 1 rfl ?_
    refine gz_iload (pc := 20) hX dJ12_hashCode_20 3 rfl ?_
    obtain ⟨g2, h⟩ := gz_gu h
    obtain ⟨g3, h⟩ := gz_gu h
    refine gz_cald2 (pc := 22) (c := c1) (n := gN m c1) hX rfl (fun _ => ⟨g2, rfl⟩) g3 dJ12_hashCode_22 ?_
    refine gz_iadd (pc := 23) hX dJ12_hashCode_23 ?_
    obtain ⟨y4, ey4, h⟩ := gz_lt h
    refine gz_topi ey4 ?_
    refine gz_istore_n (pc := 24) (lw := [(0, .int y4), (1, .ref (gz_ad G c1)), (4, .int x4), (5, .int x5)]) hX dJ12_hashCode_24 rfl (by decide) rfl ?_
    obtain ⟨y5, ey5, h⟩ := gz_lt h
    refine gz_iinc (pc := 25) (v := y5) (lw := [(5, .int y5), (0, .int y4), (1, .ref (gz_ad G c1)), (4, .int x4)]) hX dJ12_hashCode_25 (k := 3) rfl (by rw [ey5]; rfl) (by decide) rfl ?_
    refine gz_goto (pc := 28) (tgt := 8) hX dJ12_hashCode_28 (by decide) ?_
    refine gz_sub (lw := [(0, .int y4), (1, .ref (gz_ad G c1)), (4, .int x4), (5, .int y5)]) [1, 2, 3, 0] rfl ?_
    obtain rfl := Option.some.inj h
    exact hk
noncomputable def ml_J12_hashCode_8 (x0 : Int32) (c1 : Nat) (x4 : Int32) (x5 : Int32) (m : gM) : Option (Int32 × gM) := gz_loop (fun q : (Int32 × Int32 × Int32 × gM) => mb_J12_hashCode_8 q.1 c1 q.2.1 q.2.2.1 q.2.2.2) (x0, x4, x5, m)
theorem wl_J12_hashCode_8 {X : gz_X} {G : gz_G} (hX : gz_C cS X G cJ12_hashCode 6 RJ12 0 0) {x0 : Int32} {c1 : Nat} {x4 : Int32} {x5 : Int32}  {m : gM} {z : (Int32 × gM)} (h : ml_J12_hashCode_8 x0 c1 x4 x5 m = some z) (hk : (fun z : (Int32 × gM) => gz_kI cS X G 6 (0, 0) cJ12_hashCode z.2 z.1) z) : gz_V cS X G 6 (0, 0) m 8 [(0, .int x0), (1, .ref (gz_ad G c1)), (4, .int x4), (5, .int x5)] [] := by
  have hp : mP_J12_hashCode_8 X G c1 (x0, x4, x5, m) := gz_loop_ind (fun q z hz hkz => wb_J12_hashCode_8 hX  hz hkz) h hk
  exact hp
noncomputable def cf_J12_hashCode (x0 : Int32) (c1 : Nat) (x2 : Int32) (x3 : Int32) (m : gM) : Option (Int32 × gM) :=
  gz_let ((x2 + x3)) fun y1 => (ml_J12_hashCode_8 x0 c1 y1 x2 m)
theorem wm_J12_hashCode {X : gz_X} {G : gz_G} (hX : gz_C cS X G cJ12_hashCode 6 RJ12 0 0) {x0 : Int32} {c1 : Nat} {x2 : Int32} {x3 : Int32}  {m : gM} {z : (Int32 × gM)} (h : cf_J12_hashCode x0 c1 x2 x3 m = some z) (hk : (fun z : (Int32 × gM) => gz_kI cS X G 6 (0, 0) cJ12_hashCode z.2 z.1) z) : gz_V cS X G 6 (0, 0) m 0 [(0, .int x0), (1, .ref (gz_ad G c1)), (2, .int x2), (3, .int x3)] [] := by
  unfold cf_J12_hashCode at h
  refine gz_iload_n (pc := 0) hX dJ12_hashCode_0 rfl 2 rfl ?_
  refine gz_iload_n (pc := 1) hX dJ12_hashCode_1 rfl 3 rfl ?_
  refine gz_iadd (pc := 2) hX dJ12_hashCode_2 ?_
  obtain ⟨y1, ey1, h⟩ := gz_lt h
  refine gz_topi ey1 ?_
  refine gz_istore (pc := 3) (lw := [(4, .int y1), (0, .int x0), (1, .ref (gz_ad G c1)), (2, .int x2), (3, .int x3)]) hX dJ12_hashCode_3 (by decide) rfl ?_
  refine gz_iload_n (pc := 5) hX dJ12_hashCode_5 rfl 3 rfl ?_
  refine gz_istore (pc := 6) (lw := [(5, .int x2), (4, .int y1), (0, .int x0), (1, .ref (gz_ad G c1)), (2, .int x2), (3, .int x3)]) hX dJ12_hashCode_6 (by decide) rfl ?_
  refine gz_sub (lw := [(0, .int x0), (1, .ref (gz_ad G c1)), (4, .int y1), (5, .int x2)]) [2, 3, 1, 0] rfl ?_
  exact wl_J12_hashCode_8 hX h hk
theorem ct_J12_hashCode {G : gz_G} {l : Launch} {x0 : Int32} {c1 : Nat} {x2 : Int32} {x3 : Int32}  {m m9 : gM} {r : Int32} (h : cf_J12_hashCode x0 c1 x2 x3 m = some (r, m9)) : gz_Met cS G l yJ12_hashCode cJ12_hashCode 6 (some .int) (mRm 0 0) [.int x0, .ref (gz_ad G c1), .int x2, .int x3] m m9 (some (.int r)) :=
  gz_ofI (by decide +kernel) (Nat.le_of_ble_eq_true rfl) fun X _ hX hk => wm_J12_hashCode hX h hk
/-! jdk/internal/util/ArraysSupport.hashCode(I[BII)I -/
def mP_J12_hashCode_2_8 (X : gz_X) (G : gz_G) (c1 : Nat) (q : (Int32 × Int32 × Int32 × gM)) : Prop := gz_V cS X G 6 (0, 0) q.2.2.2 8 [(0, .int q.1), (1, .ref (gz_ad G c1)), (4, .int q.2.1), (5, .int q.2.2.1)] []
noncomputable def mb_J12_hashCode_2_8 (x0 : Int32) (c1 : Nat) (x4 : Int32) (x5 : Int32) (m : gM) : Option ((Int32 × Int32 × Int32 × gM) ⊕ (Int32 × gM)) :=
  (if x4 ≤ x5 then some (Sum.inr (x0, m)) else (if gK m c1 = 102 then (if gz_in x5 (gN m c1) then gz_let ((((31 : Int32) * x0) + (gI m c1 (gz_ix x5)))) fun y4 => gz_let (x5 + (1 : Int32)) fun y5 => some (Sum.inl (y4, x4, y5, m)) else none) else none))
theorem wb_J12_hashCode_2_8 {X : gz_X} {G : gz_G} (hX : gz_C cS X G cJ12_hashCode_2 6 RJ12 0 0) {x0 : Int32} {c1 : Nat} {x4 : Int32} {x5 : Int32}  {m : gM} {z : ((Int32 × Int32 × Int32 × gM) ⊕ (Int32 × gM))} (h : mb_J12_hashCode_2_8 x0 c1 x4 x5 m = some z) (hk : (Sum.elim (mP_J12_hashCode_2_8 X G c1) (fun z : (Int32 × gM) => gz_kI cS X G 6 (0, 0) cJ12_hashCode_2 z.2 z.1)) z) : gz_V cS X G 6 (0, 0) m 8 [(0, .int x0), (1, .ref (gz_ad G c1)), (4, .int x4), (5, .int x5)] [] := by
  unfold mb_J12_hashCode_2_8 at h
  refine gz_iload (pc := 8) hX dJ12_hashCode_2_8 3 rfl ?_
  refine gz_iload (pc := 10) hX dJ12_hashCode_2_10 2 rfl ?_
  refine gz_icmp_ge (pc := 12) (tgt := 31) hX dJ12_hashCode_2_12 (by decide) (fun g1 => ?_) (fun g1 => ?_)
  · replace h := gz_it' g1 h
    refine gz_iload_n (pc := 31) hX dJ12_hashCode_2_31 rfl 0 rfl ?_
    obtain rfl := Option.some.inj h
    exact hk _ _ dJ12_hashCode_2_32
  · replace h := gz_if' g1 h
    refine gz_bipush (pc := 15) (v := (31 : Int32)) hX dJ12_hashCode_2_15 (by decide) ?_
    refine gz_iload_n (pc := 17) hX dJ12_hashCode_2_17 rfl 0 rfl ?_
    refine gz_imul (pc := 18) hX dJ12_hashCode_2_18 ?_
    refine gz_aload_n (pc := 19) hX dJ12_hashCode_2_19 rfl 1 rfl ?_
    refine gz_iload (pc := 20) hX dJ12_hashCode_2_20 3 rfl ?_
    obtain ⟨g2, h⟩ := gz_gu h
    obtain ⟨g3, h⟩ := gz_gu h
    refine gz_bald2 (pc := 22) (c := c1) (n := gN m c1) hX rfl (fun _ => ⟨g2, rfl⟩) g3 dJ12_hashCode_2_22 ?_
    refine gz_iadd (pc := 23) hX dJ12_hashCode_2_23 ?_
    obtain ⟨y4, ey4, h⟩ := gz_lt h
    refine gz_topi ey4 ?_
    refine gz_istore_n (pc := 24) (lw := [(0, .int y4), (1, .ref (gz_ad G c1)), (4, .int x4), (5, .int x5)]) hX dJ12_hashCode_2_24 rfl (by decide) rfl ?_
    obtain ⟨y5, ey5, h⟩ := gz_lt h
    refine gz_iinc (pc := 25) (v := y5) (lw := [(5, .int y5), (0, .int y4), (1, .ref (gz_ad G c1)), (4, .int x4)]) hX dJ12_hashCode_2_25 (k := 3) rfl (by rw [ey5]; rfl) (by decide) rfl ?_
    refine gz_goto (pc := 28) (tgt := 8) hX dJ12_hashCode_2_28 (by decide) ?_
    refine gz_sub (lw := [(0, .int y4), (1, .ref (gz_ad G c1)), (4, .int x4), (5, .int y5)]) [1, 2, 3, 0] rfl ?_
    obtain rfl := Option.some.inj h
    exact hk
noncomputable def ml_J12_hashCode_2_8 (x0 : Int32) (c1 : Nat) (x4 : Int32) (x5 : Int32) (m : gM) : Option (Int32 × gM) := gz_loop (fun q : (Int32 × Int32 × Int32 × gM) => mb_J12_hashCode_2_8 q.1 c1 q.2.1 q.2.2.1 q.2.2.2) (x0, x4, x5, m)
theorem wl_J12_hashCode_2_8 {X : gz_X} {G : gz_G} (hX : gz_C cS X G cJ12_hashCode_2 6 RJ12 0 0) {x0 : Int32} {c1 : Nat} {x4 : Int32} {x5 : Int32}  {m : gM} {z : (Int32 × gM)} (h : ml_J12_hashCode_2_8 x0 c1 x4 x5 m = some z) (hk : (fun z : (Int32 × gM) => gz_kI cS X G 6 (0, 0) cJ12_hashCode_2 z.2 z.1) z) : gz_V cS X G 6 (0, 0) m 8 [(0, .int x0), (1, .ref (gz_ad G c1)), (4, .int x4), (5, .int x5)] [] := by
  have hp : mP_J12_hashCode_2_8 X G c1 (x0, x4, x5, m) := gz_loop_ind (fun q z hz hkz => wb_J12_hashCode_2_8 hX  hz hkz) h hk
  exact hp
noncomputable def cf_J12_hashCode_2 (x0 : Int32) (c1 : Nat) (x2 : Int32) (x3 : Int32) (m : gM) : Option (Int32 × gM) :=
  gz_let ((x2 + x3)) fun y1 => (ml_J12_hashCode_2_8 x0 c1 y1 x2 m)
theorem wm_J12_hashCode_2 {X : gz_X} {G : gz_G} (hX : gz_C cS X G cJ12_hashCode_2 6 RJ12 0 0) {x0 : Int32} {c1 : Nat} {x2 : Int32} {x3 : Int32}  {m : gM} {z : (Int32 × gM)} (h : cf_J12_hashCode_2 x0 c1 x2 x3 m = some z) (hk : (fun z : (Int32 × gM) => gz_kI cS X G 6 (0, 0) cJ12_hashCode_2 z.2 z.1) z) : gz_V cS X G 6 (0, 0) m 0 [(0, .int x0), (1, .ref (gz_ad G c1)), (2, .int x2), (3, .int x3)] [] := by
  unfold cf_J12_hashCode_2 at h
  refine gz_iload_n (pc := 0) hX dJ12_hashCode_2_0 rfl 2 rfl ?_
  refine gz_iload_n (pc := 1) hX dJ12_hashCode_2_1 rfl 3 rfl ?_
  refine gz_iadd (pc := 2) hX dJ12_hashCode_2_2 ?_
  obtain ⟨y1, ey1, h⟩ := gz_lt h
  refine gz_topi ey1 ?_
  refine gz_istore (pc := 3) (lw := [(4, .int y1), (0, .int x0), (1, .ref (gz_ad G c1)), (2, .int x2), (3, .int x3)]) hX dJ12_hashCode_2_3 (by decide) rfl ?_
  refine gz_iload_n (pc := 5) hX dJ12_hashCode_2_5 rfl 3 rfl ?_
  refine gz_istore (pc := 6) (lw := [(5, .int x2), (4, .int y1), (0, .int x0), (1, .ref (gz_ad G c1)), (2, .int x2), (3, .int x3)]) hX dJ12_hashCode_2_6 (by decide) rfl ?_
  refine gz_sub (lw := [(0, .int x0), (1, .ref (gz_ad G c1)), (4, .int y1), (5, .int x2)]) [2, 3, 1, 0] rfl ?_
  exact wl_J12_hashCode_2_8 hX h hk
theorem ct_J12_hashCode_2 {G : gz_G} {l : Launch} {x0 : Int32} {c1 : Nat} {x2 : Int32} {x3 : Int32}  {m m9 : gM} {r : Int32} (h : cf_J12_hashCode_2 x0 c1 x2 x3 m = some (r, m9)) : gz_Met cS G l yJ12_hashCode_2 cJ12_hashCode_2 6 (some .int) (mRm 0 0) [.int x0, .ref (gz_ad G c1), .int x2, .int x3] m m9 (some (.int r)) :=
  gz_ofI (by decide +kernel) (Nat.le_of_ble_eq_true rfl) fun X _ hX hk => wm_J12_hashCode_2 hX h hk
/-! jdk/internal/util/ArraysSupport.hashCode(I[III)I -/
def mP_J12_hashCode_4_8 (X : gz_X) (G : gz_G) (c1 : Nat) (q : (Int32 × Int32 × Int32 × gM)) : Prop := gz_V cS X G 6 (0, 0) q.2.2.2 8 [(0, .int q.1), (1, .ref (gz_ad G c1)), (4, .int q.2.1), (5, .int q.2.2.1)] []
noncomputable def mb_J12_hashCode_4_8 (x0 : Int32) (c1 : Nat) (x4 : Int32) (x5 : Int32) (m : gM) : Option ((Int32 × Int32 × Int32 × gM) ⊕ (Int32 × gM)) :=
  (if x4 ≤ x5 then some (Sum.inr (x0, m)) else (if gK m c1 = 101 then (if gz_in x5 (gN m c1) then gz_let ((((31 : Int32) * x0) + (gI m c1 (gz_ix x5)))) fun y4 => gz_let (x5 + (1 : Int32)) fun y5 => some (Sum.inl (y4, x4, y5, m)) else none) else none))
theorem wb_J12_hashCode_4_8 {X : gz_X} {G : gz_G} (hX : gz_C cS X G cJ12_hashCode_4 6 RJ12 0 0) {x0 : Int32} {c1 : Nat} {x4 : Int32} {x5 : Int32}  {m : gM} {z : ((Int32 × Int32 × Int32 × gM) ⊕ (Int32 × gM))} (h : mb_J12_hashCode_4_8 x0 c1 x4 x5 m = some z) (hk : (Sum.elim (mP_J12_hashCode_4_8 X G c1) (fun z : (Int32 × gM) => gz_kI cS X G 6 (0, 0) cJ12_hashCode_4 z.2 z.1)) z) : gz_V cS X G 6 (0, 0) m 8 [(0, .int x0), (1, .ref (gz_ad G c1)), (4, .int x4), (5, .int x5)] [] := by
  unfold mb_J12_hashCode_4_8 at h
  refine gz_iload (pc := 8) hX dJ12_hashCode_4_8 3 rfl ?_
  refine gz_iload (pc := 10) hX dJ12_hashCode_4_10 2 rfl ?_
  refine gz_icmp_ge (pc := 12) (tgt := 31) hX dJ12_hashCode_4_12 (by decide) (fun g1 => ?_) (fun g1 => ?_)
  · replace h := gz_it' g1 h
    refine gz_iload_n (pc := 31) hX dJ12_hashCode_4_31 rfl 0 rfl ?_
    obtain rfl := Option.some.inj h
    exact hk _ _ dJ12_hashCode_4_32
  · replace h := gz_if' g1 h
    refine gz_bipush (pc := 15) (v := (31 : Int32)) hX dJ12_hashCode_4_15 (by decide) ?_
    refine gz_iload_n (pc := 17) hX dJ12_hashCode_4_17 rfl 0 rfl ?_
    refine gz_imul (pc := 18) hX dJ12_hashCode_4_18 ?_
    refine gz_aload_n (pc := 19) hX dJ12_hashCode_4_19 rfl 1 rfl ?_
    refine gz_iload (pc := 20) hX dJ12_hashCode_4_20 3 rfl ?_
    obtain ⟨g2, h⟩ := gz_gu h
    obtain ⟨g3, h⟩ := gz_gu h
    refine gz_iald2 (pc := 22) (c := c1) (n := gN m c1) hX rfl (fun _ => ⟨g2, rfl⟩) g3 dJ12_hashCode_4_22 ?_
    refine gz_iadd (pc := 23) hX dJ12_hashCode_4_23 ?_
    obtain ⟨y4, ey4, h⟩ := gz_lt h
    refine gz_topi ey4 ?_
    refine gz_istore_n (pc := 24) (lw := [(0, .int y4), (1, .ref (gz_ad G c1)), (4, .int x4), (5, .int x5)]) hX dJ12_hashCode_4_24 rfl (by decide) rfl ?_
    obtain ⟨y5, ey5, h⟩ := gz_lt h
    refine gz_iinc (pc := 25) (v := y5) (lw := [(5, .int y5), (0, .int y4), (1, .ref (gz_ad G c1)), (4, .int x4)]) hX dJ12_hashCode_4_25 (k := 3) rfl (by rw [ey5]; rfl) (by decide) rfl ?_
    refine gz_goto (pc := 28) (tgt := 8) hX dJ12_hashCode_4_28 (by decide) ?_
    refine gz_sub (lw := [(0, .int y4), (1, .ref (gz_ad G c1)), (4, .int x4), (5, .int y5)]) [1, 2, 3, 0] rfl ?_
    obtain rfl := Option.some.inj h
    exact hk
noncomputable def ml_J12_hashCode_4_8 (x0 : Int32) (c1 : Nat) (x4 : Int32) (x5 : Int32) (m : gM) : Option (Int32 × gM) := gz_loop (fun q : (Int32 × Int32 × Int32 × gM) => mb_J12_hashCode_4_8 q.1 c1 q.2.1 q.2.2.1 q.2.2.2) (x0, x4, x5, m)
theorem wl_J12_hashCode_4_8 {X : gz_X} {G : gz_G} (hX : gz_C cS X G cJ12_hashCode_4 6 RJ12 0 0) {x0 : Int32} {c1 : Nat} {x4 : Int32} {x5 : Int32}  {m : gM} {z : (Int32 × gM)} (h : ml_J12_hashCode_4_8 x0 c1 x4 x5 m = some z) (hk : (fun z : (Int32 × gM) => gz_kI cS X G 6 (0, 0) cJ12_hashCode_4 z.2 z.1) z) : gz_V cS X G 6 (0, 0) m 8 [(0, .int x0), (1, .ref (gz_ad G c1)), (4, .int x4), (5, .int x5)] [] := by
  have hp : mP_J12_hashCode_4_8 X G c1 (x0, x4, x5, m) := gz_loop_ind (fun q z hz hkz => wb_J12_hashCode_4_8 hX  hz hkz) h hk
  exact hp
noncomputable def cf_J12_hashCode_4 (x0 : Int32) (c1 : Nat) (x2 : Int32) (x3 : Int32) (m : gM) : Option (Int32 × gM) :=
  gz_let ((x2 + x3)) fun y1 => (ml_J12_hashCode_4_8 x0 c1 y1 x2 m)
theorem wm_J12_hashCode_4 {X : gz_X} {G : gz_G} (hX : gz_C cS X G cJ12_hashCode_4 6 RJ12 0 0) {x0 : Int32} {c1 : Nat} {x2 : Int32} {x3 : Int32}  {m : gM} {z : (Int32 × gM)} (h : cf_J12_hashCode_4 x0 c1 x2 x3 m = some z) (hk : (fun z : (Int32 × gM) => gz_kI cS X G 6 (0, 0) cJ12_hashCode_4 z.2 z.1) z) : gz_V cS X G 6 (0, 0) m 0 [(0, .int x0), (1, .ref (gz_ad G c1)), (2, .int x2), (3, .int x3)] [] := by
  unfold cf_J12_hashCode_4 at h
  refine gz_iload_n (pc := 0) hX dJ12_hashCode_4_0 rfl 2 rfl ?_
  refine gz_iload_n (pc := 1) hX dJ12_hashCode_4_1 rfl 3 rfl ?_
  refine gz_iadd (pc := 2) hX dJ12_hashCode_4_2 ?_
  obtain ⟨y1, ey1, h⟩ := gz_lt h
  refine gz_topi ey1 ?_
  refine gz_istore (pc := 3) (lw := [(4, .int y1), (0, .int x0), (1, .ref (gz_ad G c1)), (2, .int x2), (3, .int x3)]) hX dJ12_hashCode_4_3 (by decide) rfl ?_
  refine gz_iload_n (pc := 5) hX dJ12_hashCode_4_5 rfl 3 rfl ?_
  refine gz_istore (pc := 6) (lw := [(5, .int x2), (4, .int y1), (0, .int x0), (1, .ref (gz_ad G c1)), (2, .int x2), (3, .int x3)]) hX dJ12_hashCode_4_6 (by decide) rfl ?_
  refine gz_sub (lw := [(0, .int x0), (1, .ref (gz_ad G c1)), (4, .int y1), (5, .int x2)]) [2, 3, 1, 0] rfl ?_
  exact wl_J12_hashCode_4_8 hX h hk
theorem ct_J12_hashCode_4 {G : gz_G} {l : Launch} {x0 : Int32} {c1 : Nat} {x2 : Int32} {x3 : Int32}  {m m9 : gM} {r : Int32} (h : cf_J12_hashCode_4 x0 c1 x2 x3 m = some (r, m9)) : gz_Met cS G l yJ12_hashCode_4 cJ12_hashCode_4 6 (some .int) (mRm 0 0) [.int x0, .ref (gz_ad G c1), .int x2, .int x3] m m9 (some (.int r)) :=
  gz_ofI (by decide +kernel) (Nat.le_of_ble_eq_true rfl) fun X _ hX hk => wm_J12_hashCode_4 hX h hk
/-! jdk/internal/util/ArraysSupport.hugeLength(II)I -/
noncomputable def cf_J12_hugeLength (x0 : Int32) (x1 : Int32) (m : gM) : Option (Int32 × gM) :=
  gz_let ((x0 + x1)) fun y1 => (if (0 : Int32) ≤ y1 then (if (2147483639 : Int32) < y1 then some (y1, m) else some ((2147483639 : Int32), m)) else none)
theorem wm_J12_hugeLength {X : gz_X} {G : gz_G} (hX : gz_C cS X G cJ12_hugeLength 3 RJ12 0 0) {x0 : Int32} {x1 : Int32}  {m : gM} {z : (Int32 × gM)} (h : cf_J12_hugeLength x0 x1 m = some z) (hk : (fun z : (Int32 × gM) => gz_kI cS X G 3 (0, 0) cJ12_hugeLength z.2 z.1) z) : gz_V cS X G 3 (0, 0) m 0 [(0, .int x0), (1, .int x1)] [] := by
  unfold cf_J12_hugeLength at h
  refine gz_iload_n (pc := 0) hX dJ12_hugeLength_0 rfl 0 rfl ?_
  refine gz_iload_n (pc := 1) hX dJ12_hugeLength_1 rfl 1 rfl ?_
  refine gz_iadd (pc := 2) hX dJ12_hugeLength_2 ?_
  obtain ⟨y1, ey1, h⟩ := gz_lt h
  refine gz_topi ey1 ?_
  refine gz_istore_n (pc := 3) (lw := [(2, .int y1), (0, .int x0), (1, .int x1)]) hX dJ12_hugeLength_3 rfl (by decide) rfl ?_
  refine gz_iload_n (pc := 4) hX dJ12_hugeLength_4 rfl 0 rfl ?_
  refine gz_if_ge (pc := 5) (tgt := 49) hX dJ12_hugeLength_5 (by decide) (fun g2 => ?_) (fun g2 => ?_)
  · replace h := gz_it' g2 h
    refine gz_iload_n (pc := 49) hX dJ12_hugeLength_49 rfl 0 rfl ?_
    refine gz_ldc (pc := 50) (v := (2147483639 : Int32)) hX q872 dJ12_hugeLength_50 ?_
    refine gz_icmp_gt (pc := 52) (tgt := 58) hX dJ12_hugeLength_52 (by decide) (fun g3 => ?_) (fun g3 => ?_)
    · replace h := gz_it' g3 h
      refine gz_iload_n (pc := 58) hX dJ12_hugeLength_58 rfl 0 rfl ?_
      obtain rfl := Option.some.inj h
      exact hk _ _ dJ12_hugeLength_59
    · replace h := gz_if' g3 h
      refine gz_ldc (pc := 55) (v := (2147483639 : Int32)) hX q872 dJ12_hugeLength_55 ?_
      obtain rfl := Option.some.inj h
      exact hk _ _ dJ12_hugeLength_57
  · replace h := gz_if' g2 h
    exact nomatch h
theorem ct_J12_hugeLength {G : gz_G} {l : Launch} {x0 : Int32} {x1 : Int32}  {m m9 : gM} {r : Int32} (h : cf_J12_hugeLength x0 x1 m = some (r, m9)) : gz_Met cS G l yJ12_hugeLength cJ12_hugeLength 3 (some .int) (mRm 0 0) [.int x0, .int x1] m m9 (some (.int r)) :=
  gz_ofI (by decide +kernel) (Nat.le_of_ble_eq_true rfl) fun X _ hX hk => wm_J12_hugeLength hX h hk
theorem cc_X19_1 {X : gz_X} {G : gz_G} {cc : ByteArray} {nL fr lo pc : Nat} {rem : Nat × Nat} {lv : List (Nat × Value)} {rest st0 : List Value} (hX : gz_C cS X G cc nL RX19 fr lo) {c0 : Nat} {m m9 : gM}  (h : cf_X17_init c0 m = some ((), m9)) (hroom : 1 + 1 ≤ fr ∧ 8 + (1 + 11) + 20 ≤ lo) (hst : st0 = [.ref (gz_ad G c0)] ++ rest) (hW : (rest.map fun v => v.category).sum ≤ 8) (hd : decode cc pc = .ok (.invokespecial 1, 3)) (kk : gz_V cS X G nL rem m9 (pc + 3) lv (rest)) : gz_V cS X G nL rem m pc lv st0 :=
  gz_callIN hX cs_E (As := []) (rest := rest) (c := c0) (ct_X17_init (l := X.2.1) h) q1236 (cz_n (Z := cS) hX q1266 rfl) q201 q1235 rfl (n := 0) (by decide +kernel) hroom rfl hst hW hd (rem := rem) kk
theorem cp_X19_7_16 {X : gz_X} {G : gz_G} {cc : ByteArray} {nL fr lo pc : Nat} {rem : Nat × Nat} {m m9 : gM} {lv : List (Nat × Value)} {st : List Value} (hX : gz_C cS X G cc nL RX19 fr lo) (hn0 : X.2.2.2.2.2.2.2.2.1.name = "<init>") {c : Nat} {r : Nat} (hK : clc m.1 m.2.1 m.2.2.2.2.1 → m.1 c = 16 + 1) (hw : 1000 ≤ c) (hs : sr c 0 = 0 ∧ r ≠ 0) (hd : decode cc pc = .ok (.putfield 7, 3)) (hm : m9 = gz_sP m c 0 r) (kk : gz_V cS X G nL rem m9 (pc + 3) lv st) : gz_V cS X G nL rem m pc lv (.ref (gz_ad G r) :: .ref (gz_ad G c) :: st) := by
  subst hm
  exact gz_putff hX (C := RX19) (T := TX19) (N := 1) (ci := 16) (k := 0) (μ' := gz_sP m c 0 r) (v := .ref (gz_ad G r)) rfl (by decide) in_X19 tyX19 tyX19_ok nmX19 (by decide) (hX.2.2.2.2.1 _ q1267) (fun _ h => h) rfl hn0 rfl rfl rfl rfl hd hK hw rfl rfl rfl (fun d tc j h => gz_sP_o d tc j h) (by intro j; rw [← gz_rfp hs.2]; exact gz_sP_v (fun j => ftC 16 j) rfl j) (clc_sP hs.1) kk
/-! FirstSnuffer$Not.<init>(LFirstSnuffer$Test;)V -/
noncomputable def cf_X19_init (c0 : Nat) (c1 : Nat) (m : gM) : Option (Unit × gM) :=
  ((cf_X17_init c0 m).bind fun (_, m2) => (if gK m2 c0 = 17 then (if 1000 ≤ c0 then (if sr c0 0 = 0 ∧ c1 ≠ 0 then gz_let (gz_sP m2 c0 0 c1) fun m7 => some ((), m7) else none) else none) else none))
theorem wm_X19_init {X : gz_X} {G : gz_G} (hX : gz_C cS X G cX19_init 2 RX19 2 40) (hn0 : X.2.2.2.2.2.2.2.2.1.name = "<init>") {c0 : Nat} {c1 : Nat}  {m : gM} {z : (Unit × gM)} (h : cf_X19_init c0 c1 m = some z) (hk : (fun z : (Unit × gM) => gz_kV cS X G 2 (0, 0) cX19_init z.2) z) : gz_V cS X G 2 (0, 0) m 0 [(0, .ref (gz_ad G c0)), (1, .ref (gz_ad G c1))] [] := by
  unfold cf_X19_init at h
  refine gz_aload_n (pc := 0) hX dX19_init_0 rfl 0 rfl ?_
  obtain ⟨⟨⟨⟩, m2⟩, c3, h⟩ := gz_bd h
  refine cc_X19_1 (pc := 1) hX c3 ⟨Nat.le_of_ble_eq_true rfl, Nat.le_of_ble_eq_true rfl⟩ (rest := []) rfl (Nat.le_of_ble_eq_true rfl) dX19_init_1 ?_
  refine gz_aload_n (pc := 4) hX dX19_init_4 rfl 0 rfl ?_
  refine gz_aload_n (pc := 5) hX dX19_init_5 rfl 1 rfl ?_
  obtain ⟨g4, h⟩ := gz_gu h
  obtain ⟨g5, h⟩ := gz_gu h
  obtain ⟨g6, h⟩ := gz_gu h
  obtain ⟨m7, em7, h⟩ := gz_lt h
  refine cp_X19_7_16 (pc := 6) hX hn0 (c := c0) (fun _ => g4) g5 g6 dX19_init_6 em7 ?_
  obtain rfl := Option.some.inj h
  exact hk _ _ dX19_init_9
theorem ct_X19_init {G : gz_G} {l : Launch} {c0 : Nat} {c1 : Nat}  {m m9 : gM} (h : cf_X19_init c0 c1 m = some ((), m9)) : gz_Met cS G l yX19_init cX19_init 2 none (mRm 2 40) [.ref (gz_ad G c0), .ref (gz_ad G c1)] m m9 none :=
  gz_ofVc (by decide +kernel) (Nat.le_of_ble_eq_true rfl) fun X _ hn hX hk => wm_X19_init hX hn h hk
theorem cg_X19_7_16 {X : gz_X} {G : gz_G} {cc : ByteArray} {nL fr lo pc : Nat} {rem : Nat × Nat} {m : gM} {lv : List (Nat × Value)} {st : List Value} (hX : gz_C cS X G cc nL RX19 fr lo) {c : Nat} {v : Value} (hK : clc m.1 m.2.1 m.2.2.2.2.1 → m.1 c = 16 + 1) (hv : clc m.1 m.2.1 m.2.2.2.2.1 → gz_u (gz_ad G) m (ftC 16 0) c 0 = v) (hd : decode cc pc = .ok (.getfield 7, 3)) (kk : gz_V cS X G nL rem m (pc + 3) lv (v :: st)) : gz_V cS X G nL rem m pc lv (.ref (gz_ad G c) :: st) :=
  gz_getf hX (C := RX19) (T := TX19) (N := 1) (ci := 16) (k := 0) rfl (by decide) in_X19 (by decide) (Or.inl (hX.2.2.2.2.1 _ q1267)) hd hK hv kk
theorem cd_X19_13 {X : gz_X} {G : gz_G} {cc : ByteArray} {nL fr lo pc f n : Nat} {lv : List (Nat × Value)} {rest st0 : List Value} (hX : gz_C cS X G cc nL RX19 fr lo) {oA : Nat → Nat → gM → Option (Int64 × gM)} {oT : Nat → Nat → gM → Option (Int32 × gM)} {v mo : Nat} {m m9 : gM} {r : Int32} (hO : cO G X.2.1 f n oA oT) (h : oT v mo m = some (r, m9)) (hroom : f + 1 ≤ fr ∧ n + 40 ≤ lo) (hst : st0 = [.ref (gz_ad G mo), .ref (gz_ad G v)] ++ rest) (hW : (rest.map fun v => v.category).sum ≤ 8) (hd : decode cc pc = .ok (.invokevirtual 13, 3)) (kk : gz_V cS X G nL (0, 0) m9 (pc + 3) lv (.int r :: rest)) : gz_V cS X G nL (0, 0) m pc lv st0 := by
  rcases hO.2 v mo m r m9 h with ⟨hk, hM⟩ | ⟨hk, hM⟩ | ⟨hk, hM⟩ | ⟨hk, hM⟩
  · exact gz_callU hX cs_E (x := ⟨"FirstSnuffer$Test", "holds", "(LFirstSnuffer$Moment;)Z"⟩) (owner := "FirstSnuffer$Test") (As := [.ref (gz_ad G mo)]) (rest := rest) (q := (RX20, TX20, 0)) (ci := 17) (c := v) hM (va_cwA 1 hX.2.2.2.2.1 (lw_app (by intro w hw; simp only [List.mem_cons, List.not_mem_nil, or_false] at hw; rcases hw with e | e | e | e | e <;> rw [e] <;> first | exact q1404 | exact q1389 | exact q1390 | exact q1391 | exact q204) (lw_meth q1392)) rfl rfl rfl (cz_n (Z := cS) hX q1388 rfl) (by decide +kernel) ⟨Nat.le_trans hroom.1 hX.2.2.2.2.2.2.1, by have := hX.2.2.2.2.2.2.2; have h1 := hroom.2; show 8 + (2 + 11) + n ≤ _; omega⟩) rfl rfl (by decide) (fun _ => hk) hst hW hd (rem := (0, 0)) kk
  · exact gz_callU hX cs_E (x := ⟨"FirstSnuffer$Test", "holds", "(LFirstSnuffer$Moment;)Z"⟩) (owner := "FirstSnuffer$Test") (As := [.ref (gz_ad G mo)]) (rest := rest) (q := (RX21, TX21, 3)) (ci := 18) (c := v) hM (va_cwA 1 hX.2.2.2.2.1 (lw_app (by intro w hw; simp only [List.mem_cons, List.not_mem_nil, or_false] at hw; rcases hw with e | e | e | e | e <;> rw [e] <;> first | exact q1404 | exact q1389 | exact q1483 | exact q1405 | exact q205) (lw_meth q1406)) rfl rfl rfl (cz_n (Z := cS) hX q1388 rfl) (by decide +kernel) ⟨Nat.le_trans hroom.1 hX.2.2.2.2.2.2.1, by have := hX.2.2.2.2.2.2.2; have h1 := hroom.2; show 8 + (6 + 11) + n ≤ _; omega⟩) rfl rfl (by decide) (fun _ => hk) hst hW hd (rem := (0, 0)) kk
  · exact gz_callU hX cs_E (x := ⟨"FirstSnuffer$Test", "holds", "(LFirstSnuffer$Moment;)Z"⟩) (owner := "FirstSnuffer$Test") (As := [.ref (gz_ad G mo)]) (rest := rest) (q := (RX19, TX19, 1)) (ci := 16) (c := v) hM (va_cwA 1 hX.2.2.2.2.1 (lw_app (by intro w hw; simp only [List.mem_cons, List.not_mem_nil, or_false] at hw; rcases hw with e | e | e | e | e <;> rw [e] <;> first | exact q1404 | exact q1389 | exact q1482 | exact q1402 | exact q203) (lw_meth q1403)) rfl rfl rfl (cz_n (Z := cS) hX q1388 rfl) (by decide +kernel) ⟨Nat.le_trans hroom.1 hX.2.2.2.2.2.2.1, by have := hX.2.2.2.2.2.2.2; have h1 := hroom.2; show 8 + (2 + 11) + n ≤ _; omega⟩) rfl rfl (by decide) (fun _ => hk) hst hW hd (rem := (0, 0)) kk
  · exact gz_callU hX cs_E (x := ⟨"FirstSnuffer$Test", "holds", "(LFirstSnuffer$Moment;)Z"⟩) (owner := "FirstSnuffer$Test") (As := [.ref (gz_ad G mo)]) (rest := rest) (q := (RX18, TX18, 2)) (ci := 15) (c := v) hM (va_cwA 1 hX.2.2.2.2.1 (lw_app (by intro w hw; simp only [List.mem_cons, List.not_mem_nil, or_false] at hw; rcases hw with e | e | e | e | e <;> rw [e] <;> first | exact q1404 | exact q1389 | exact q1393 | exact q1394 | exact q202) (lw_meth q1395)) rfl rfl rfl (cz_n (Z := cS) hX q1388 rfl) (by decide +kernel) ⟨Nat.le_trans hroom.1 hX.2.2.2.2.2.2.1, by have := hX.2.2.2.2.2.2.2; have h1 := hroom.2; show 8 + (3 + 11) + n ≤ _; omega⟩) rfl rfl (by decide) (fun _ => hk) hst hW hd (rem := (0, 0)) kk
/-! FirstSnuffer$Not.holds(LFirstSnuffer$Moment;)Z -/
noncomputable def cf_X19_holds (oA : Nat → Nat → gM → Option (Int64 × gM)) (oT : Nat → Nat → gM → Option (Int32 × gM)) (c0 : Nat) (c1 : Nat) (m : gM) : Option (Int32 × gM) :=
  (if gK m c0 = 17 then gz_let (gP m c0 0) fun r2 => (if r2 ≠ 0 then ((oT r2 c1 m).bind fun (r4, m5) => (if r4 = (0 : Int32) then some ((1 : Int32), m5) else some ((0 : Int32), m5))) else none) else none)
theorem wm_X19_holds {X : gz_X} {G : gz_G} {oA : Nat → Nat → gM → Option (Int64 × gM)} {oT : Nat → Nat → gM → Option (Int32 × gM)} {f n : Nat} (hX : gz_C cS X G cX19_holds 2 RX19 (f + 1) (n + 40)) (h1 : 20 ≤ f) (h2 : 300 ≤ n) (hO : cO G X.2.1 f n oA oT) {c0 : Nat} {c1 : Nat}  {m : gM} {z : (Int32 × gM)} (h : cf_X19_holds oA oT c0 c1 m = some z) (hk : (fun z : (Int32 × gM) => gz_kZ cS X G 2 (0, 0) cX19_holds z.2 z.1) z) : gz_V cS X G 2 (0, 0) m 0 [(0, .ref (gz_ad G c0)), (1, .ref (gz_ad G c1))] [] := by
  unfold cf_X19_holds at h
  refine gz_aload_n (pc := 0) hX dX19_holds_0 rfl 0 rfl ?_
  obtain ⟨g1, h⟩ := gz_gu h
  obtain ⟨r2, er2, h⟩ := gz_lt h
  obtain ⟨g3, h⟩ := gz_gu h
  refine cg_X19_7_16 (pc := 1) hX (c := c0) (v := .ref (gz_ad G r2)) (fun _ => g1) (fun _ => gz_rq er2 g3) dX19_holds_1 ?_
  refine gz_aload_n (pc := 4) hX dX19_holds_4 rfl 1 rfl ?_
  obtain ⟨⟨r4, m5⟩, c6, h⟩ := gz_bd h
  refine cd_X19_13 (pc := 5) hX hO c6 ⟨by omega, by omega⟩ (rest := []) rfl (Nat.le_of_ble_eq_true rfl) dX19_holds_5 ?_
  refine gz_if_ne (pc := 8) (tgt := 15) hX dX19_holds_8 (by decide) (fun g7 => ?_) (fun g7 => ?_)
  · replace h := gz_if' g7 h
    refine gz_iconst (pc := 15) (v := (0 : Int32)) hX dX19_holds_15 (by decide) ?_
    obtain rfl := Option.some.inj h
    exact hk _ _ dX19_holds_16 (Or.inl rfl)
  · replace h := gz_it' g7 h
    refine gz_iconst (pc := 11) (v := (1 : Int32)) hX dX19_holds_11 (by decide) ?_
    refine gz_goto (pc := 12) (tgt := 16) hX dX19_holds_12 (by decide) ?_
    obtain rfl := Option.some.inj h
    exact hk _ _ dX19_holds_16 (Or.inr rfl)
theorem cg_X0_62_0 {X : gz_X} {G : gz_G} {cc : ByteArray} {nL fr lo pc : Nat} {rem : Nat × Nat} {m : gM} {lv : List (Nat × Value)} {st : List Value} (hX : gz_C cS X G cc nL RX0 fr lo) {c : Nat} {v : Value} (hK : clc m.1 m.2.1 m.2.2.2.2.1 → m.1 c = 0 + 1) (hv : clc m.1 m.2.1 m.2.2.2.2.1 → gz_u (gz_ad G) m (ftC 0 8) c 8 = v) (hd : decode cc pc = .ok (.getfield 62, 3)) (kk : gz_V cS X G nL rem m (pc + 3) lv (v :: st)) : gz_V cS X G nL rem m pc lv (.ref (gz_ad G c) :: st) :=
  gz_getf hX (C := RX0) (T := TX0) (N := 28) (ci := 0) (k := 8) rfl (by decide) in_X0 (by decide) (Or.inl (hX.2.2.2.2.1 _ q510)) hd hK hv kk
/-! FirstSnuffer.refuses(I)I -/
noncomputable def cf_X0_refuses (x1 : Int32) (m : gM) : Option (Int32 × gM) :=
  (if gz_in x1 (6) then (if gz_in x1 (6) then gz_let (gz_sI m 1017 (gz_ix x1) ((gI m 1017 (gz_ix x1)) + (1 : Int32))) fun m3 => some ((-1 : Int32), m3) else none) else none)
theorem wm_X0_refuses {X : gz_X} {G : gz_G} (hX : gz_C cS X G cX0_refuses 2 RX0 0 0) {x1 : Int32}  {m : gM} {z : (Int32 × gM)} (h : cf_X0_refuses x1 m = some z) (hk : (fun z : (Int32 × gM) => gz_kI cS X G 2 (0, 0) cX0_refuses z.2 z.1) z) : gz_V cS X G 2 (0, 0) m 0 [(0, .ref (gz_ad G 1000)), (1, .int x1)] [] := by
  unfold cf_X0_refuses at h
  refine gz_aload_n (pc := 0) hX dX0_refuses_0 rfl 0 rfl ?_
  refine cg_X0_62_0 (pc := 1) hX (c := 1000) (v := .ref (gz_ad G 1017)) (fun h => cz_k h rfl) (fun h => cz_f h (by decide) rfl (by decide) rfl) dX0_refuses_1 ?_
  refine gz_iload_n (pc := 4) hX dX0_refuses_4 rfl 1 rfl ?_
  refine gz_dup2_11 (pc := 5) hX dX0_refuses_5 rfl rfl ?_
  obtain ⟨g1, h⟩ := gz_gu h
  refine gz_iald2 (pc := 6) (c := 1017) (n := 6) hX rfl (fun h => cz_a h rfl (by decide) rfl) g1 dX0_refuses_6 ?_
  refine gz_iconst (pc := 7) (v := (1 : Int32)) hX dX0_refuses_7 (by decide) ?_
  refine gz_iadd (pc := 8) hX dX0_refuses_8 ?_
  obtain ⟨g2, h⟩ := gz_gu h
  obtain ⟨m3, em3, h⟩ := gz_lt h
  refine gz_iast2 (pc := 9) (c := 1017) (n := 6) hX rfl (fun h => cz_a h rfl (by decide) rfl) (Nat.le_of_ble_eq_true rfl) g2 dX0_refuses_9 em3 ?_
  refine gz_iconst (pc := 10) (v := (-1 : Int32)) hX dX0_refuses_10 (by decide) ?_
  obtain rfl := Option.some.inj h
  exact hk _ _ dX0_refuses_11
theorem ct_X0_refuses {G : gz_G} {l : Launch} {x1 : Int32}  {m m9 : gM} {r : Int32} (h : cf_X0_refuses x1 m = some (r, m9)) : gz_Met cS G l yX0_refuses cX0_refuses 2 (some .int) (mRm 0 0) [.ref (gz_ad G 1000), .int x1] m m9 (some (.int r)) :=
  gz_ofI (by decide +kernel) (Nat.le_of_ble_eq_true rfl) fun X _ hX hk => wm_X0_refuses hX h hk
theorem cg_X0_35_0 {X : gz_X} {G : gz_G} {cc : ByteArray} {nL fr lo pc : Nat} {rem : Nat × Nat} {m : gM} {lv : List (Nat × Value)} {st : List Value} (hX : gz_C cS X G cc nL RX0 fr lo) {c : Nat} {v : Value} (hK : clc m.1 m.2.1 m.2.2.2.2.1 → m.1 c = 0 + 1) (hv : clc m.1 m.2.1 m.2.2.2.2.1 → gz_u (gz_ad G) m (ftC 0 1) c 1 = v) (hd : decode cc pc = .ok (.getfield 35, 3)) (kk : gz_V cS X G nL rem m (pc + 3) lv (v :: st)) : gz_V cS X G nL rem m pc lv (.ref (gz_ad G c) :: st) :=
  gz_getf hX (C := RX0) (T := TX0) (N := 28) (ci := 0) (k := 1) rfl (by decide) in_X0 (by decide) (Or.inl (hX.2.2.2.2.1 _ q502)) hd hK hv kk
theorem cg_X0_122_0 {X : gz_X} {G : gz_G} {cc : ByteArray} {nL fr lo pc : Nat} {rem : Nat × Nat} {m : gM} {lv : List (Nat × Value)} {st : List Value} (hX : gz_C cS X G cc nL RX0 fr lo) {c : Nat} {v : Value} (hK : clc m.1 m.2.1 m.2.2.2.2.1 → m.1 c = 0 + 1) (hv : clc m.1 m.2.1 m.2.2.2.2.1 → gz_u (gz_ad G) m (ftC 0 2) c 2 = v) (hd : decode cc pc = .ok (.getfield 122, 3)) (kk : gz_V cS X G nL rem m (pc + 3) lv (v :: st)) : gz_V cS X G nL rem m pc lv (.ref (gz_ad G c) :: st) :=
  gz_getf hX (C := RX0) (T := TX0) (N := 28) (ci := 0) (k := 2) rfl (by decide) in_X0 (by decide) (Or.inl (hX.2.2.2.2.1 _ q503)) hd hK hv kk
theorem cp_X0_122_0 {X : gz_X} {G : gz_G} {cc : ByteArray} {nL fr lo pc : Nat} {rem : Nat × Nat} {m m9 : gM} {lv : List (Nat × Value)} {st : List Value} (hX : gz_C cS X G cc nL RX0 fr lo) {c : Nat} {x : Int32} (hK : clc m.1 m.2.1 m.2.2.2.2.1 → m.1 c = 0 + 1) (hw : 1000 ≤ c) (hd : decode cc pc = .ok (.putfield 122, 3)) (hm : m9 = gz_sI m c 2 x) (kk : gz_V cS X G nL rem m9 (pc + 3) lv st) : gz_V cS X G nL rem m pc lv (.int x :: .ref (gz_ad G c) :: st) := by
  subst hm
  exact gz_putf hX (C := RX0) (T := TX0) (N := 28) (ci := 0) (k := 2) (ty := .int) (μ' := gz_sI m c 2 x) rfl (by decide) in_X0 tyX0 tyX0_ok nmX0 (by decide) (Or.inl (hX.2.2.2.2.1 _ q503)) rfl rfl rfl rfl hd hK hw rfl rfl rfl (fun d tc j h => gz_sI_o d tc j h) (gz_sI_v (fun j => ftC 0 j) rfl) (fun h => h) kk
/-! FirstSnuffer.lays(I)V -/
def mP_X0_lays_3 (X : gz_X) (G : gz_G) (q : (Int32 × Int32 × gM)) : Prop := gz_V cS X G 3 (0, 0) q.2.2 3 [(0, .ref (gz_ad G 1000)), (1, .int q.1), (2, .int q.2.1)] []
noncomputable def mb_X0_lays_3 (x1 : Int32) (x2 : Int32) (m : gM) : Option ((Int32 × Int32 × gM) ⊕ (Unit × gM)) :=
  (if x2 < (0 : Int32) then some (Sum.inr ((), m)) else gz_let (gz_sI m 1000 2 ((gI m 1000 2) + (1 : Int32))) fun m2 => (if gz_in (gI m 1000 2) (1600) then gz_let (gz_sI m2 1010 (gz_ix (gI m 1000 2)) (((x1 >>> (x2 &&& 31)).toInt8.toInt32).toInt8.toInt32)) fun m4 => gz_let (x2 + (-8 : Int32)) fun y5 => some (Sum.inl (x1, y5, m4)) else none))
theorem wb_X0_lays_3 {X : gz_X} {G : gz_G} (hX : gz_C cS X G cX0_lays 3 RX0 0 0) {x1 : Int32} {x2 : Int32}  {m : gM} {z : ((Int32 × Int32 × gM) ⊕ (Unit × gM))} (h : mb_X0_lays_3 x1 x2 m = some z) (hk : (Sum.elim (mP_X0_lays_3 X G) (fun z : (Unit × gM) => gz_kV cS X G 3 (0, 0) cX0_lays z.2)) z) : gz_V cS X G 3 (0, 0) m 3 [(0, .ref (gz_ad G 1000)), (1, .int x1), (2, .int x2)] [] := by
  unfold mb_X0_lays_3 at h
  refine gz_iload_n (pc := 3) hX dX0_lays_3 rfl 2 rfl ?_
  refine gz_if_lt (pc := 4) (tgt := 33) hX dX0_lays_4 (by decide) (fun g1 => ?_) (fun g1 => ?_)
  · replace h := gz_it' g1 h
    obtain rfl := Option.some.inj h
    exact hk _ _ dX0_lays_33
  · replace h := gz_if' g1 h
    refine gz_aload_n (pc := 7) hX dX0_lays_7 rfl 0 rfl ?_
    refine cg_X0_35_0 (pc := 8) hX (c := 1000) (v := .ref (gz_ad G 1010)) (fun h => cz_k h rfl) (fun h => cz_f h (by decide) rfl (by decide) rfl) dX0_lays_8 ?_
    refine gz_aload_n (pc := 11) hX dX0_lays_11 rfl 0 rfl ?_
    refine gz_dup (pc := 12) hX dX0_lays_12 rfl ?_
    refine cg_X0_122_0 (pc := 13) hX (c := 1000) (v := .int (gI m 1000 2)) (fun h => cz_k h rfl) (fun _ => rfl) dX0_lays_13 ?_
    refine gz_dup_x1 (pc := 16) hX dX0_lays_16 rfl rfl ?_
    refine gz_iconst (pc := 17) (v := (1 : Int32)) hX dX0_lays_17 (by decide) ?_
    refine gz_iadd (pc := 18) hX dX0_lays_18 ?_
    obtain ⟨m2, em2, h⟩ := gz_lt h
    refine cp_X0_122_0 (pc := 19) hX (c := 1000) (fun h => cz_k h rfl) (Nat.le_of_ble_eq_true rfl) dX0_lays_19 em2 ?_
    refine gz_iload_n (pc := 22) hX dX0_lays_22 rfl 1 rfl ?_
    refine gz_iload_n (pc := 23) hX dX0_lays_23 rfl 2 rfl ?_
    refine gz_ishr (pc := 24) hX dX0_lays_24 ?_
    refine gz_i2b (pc := 25) hX dX0_lays_25 ?_
    obtain ⟨g3, h⟩ := gz_gu h
    obtain ⟨m4, em4, h⟩ := gz_lt h
    refine gz_bast2 (pc := 26) (c := 1010) (n := 1600) hX rfl (fun h => cz_a h rfl (by decide) rfl) (Nat.le_of_ble_eq_true rfl) g3 dX0_lays_26 em4 ?_
    obtain ⟨y5, ey5, h⟩ := gz_lt h
    refine gz_iinc (pc := 27) (v := y5) (lw := [(2, .int y5), (0, .ref (gz_ad G 1000)), (1, .int x1)]) hX dX0_lays_27 (k := 2) rfl (by rw [ey5]; rfl) (by decide) rfl ?_
    refine gz_goto (pc := 30) (tgt := 3) hX dX0_lays_30 (by decide) ?_
    refine gz_sub (lw := [(0, .ref (gz_ad G 1000)), (1, .int x1), (2, .int y5)]) [1, 2, 0] rfl ?_
    obtain rfl := Option.some.inj h
    exact hk
noncomputable def ml_X0_lays_3 (x1 : Int32) (x2 : Int32) (m : gM) : Option (Unit × gM) := gz_loop (fun q : (Int32 × Int32 × gM) => mb_X0_lays_3 q.1 q.2.1 q.2.2) (x1, x2, m)
theorem wl_X0_lays_3 {X : gz_X} {G : gz_G} (hX : gz_C cS X G cX0_lays 3 RX0 0 0) {x1 : Int32} {x2 : Int32}  {m : gM} {z : (Unit × gM)} (h : ml_X0_lays_3 x1 x2 m = some z) (hk : (fun z : (Unit × gM) => gz_kV cS X G 3 (0, 0) cX0_lays z.2) z) : gz_V cS X G 3 (0, 0) m 3 [(0, .ref (gz_ad G 1000)), (1, .int x1), (2, .int x2)] [] := by
  have hp : mP_X0_lays_3 X G (x1, x2, m) := gz_loop_ind (fun q z hz hkz => wb_X0_lays_3 hX  hz hkz) h hk
  exact hp
noncomputable def cf_X0_lays (x1 : Int32) (m : gM) : Option (Unit × gM) :=
  (ml_X0_lays_3 x1 (24 : Int32) m)
theorem wm_X0_lays {X : gz_X} {G : gz_G} (hX : gz_C cS X G cX0_lays 3 RX0 0 0) {x1 : Int32}  {m : gM} {z : (Unit × gM)} (h : cf_X0_lays x1 m = some z) (hk : (fun z : (Unit × gM) => gz_kV cS X G 3 (0, 0) cX0_lays z.2) z) : gz_V cS X G 3 (0, 0) m 0 [(0, .ref (gz_ad G 1000)), (1, .int x1)] [] := by
  unfold cf_X0_lays at h
  refine gz_bipush (pc := 0) (v := (24 : Int32)) hX dX0_lays_0 (by decide) ?_
  refine gz_istore_n (pc := 2) (lw := [(2, .int (24 : Int32)), (0, .ref (gz_ad G 1000)), (1, .int x1)]) hX dX0_lays_2 rfl (by decide) rfl ?_
  refine gz_sub (lw := [(0, .ref (gz_ad G 1000)), (1, .int x1), (2, .int (24 : Int32))]) [1, 2, 0] rfl ?_
  exact wl_X0_lays_3 hX h hk
theorem ct_X0_lays {G : gz_G} {l : Launch} {x1 : Int32}  {m m9 : gM} (h : cf_X0_lays x1 m = some ((), m9)) : gz_Met cS G l yX0_lays cX0_lays 3 none (mRm 0 0) [.ref (gz_ad G 1000), .int x1] m m9 none :=
  gz_ofV (by decide +kernel) (Nat.le_of_ble_eq_true rfl) fun X _ hX hk => wm_X0_lays hX h hk
theorem cc_X0_125 {X : gz_X} {G : gz_G} {cc : ByteArray} {nL fr lo pc : Nat} {rem : Nat × Nat} {lv : List (Nat × Value)} {rest st0 : List Value} (hX : gz_C cS X G cc nL RX0 fr lo) {x1 : Int32} {m m9 : gM} (hK : clc m.1 m.2.1 m.2.2.2.2.1 → m.1 1000 = 0 + 1)  {r : Int32} (h : cf_X0_refuses x1 m = some (r, m9)) (hroom : 0 + 1 ≤ fr ∧ 8 + (2 + 11) + 0 ≤ lo) (hst : st0 = [.int x1, .ref (gz_ad G 1000)] ++ rest) (hW : (rest.map fun v => v.category).sum ≤ 8) (hd : decode cc pc = .ok (.invokevirtual 125, 3)) (kk : gz_V cS X G nL rem m9 (pc + 3) lv (.int r :: rest)) : gz_V cS X G nL rem m pc lv st0 :=
  gz_callV2 hX cs_E (As := [.int x1]) (rest := rest) (q := (RX0, TX0, 28)) (ci := 0) (c := 1000) (ct_X0_refuses (l := X.2.1) h) (lw_V q592 q594 qs2 q167 q595) (n := 1) (by decide +kernel) hroom rfl rfl (by decide) hK hst hW hd (rem := rem) kk
/-! FirstSnuffer.end(I)Z -/
noncomputable def mj_X0_end_12  (m : gM) : Option (Int32 × gM) :=
  ((cf_X0_refuses (0 : Int32) m).bind fun (r1, m2) => (if r1 < (0 : Int32) then some ((0 : Int32), m2) else some ((1 : Int32), m2)))
theorem wb_X0_end_12 {X : gz_X} {G : gz_G} (hX : gz_C cS X G cX0_end 2 RX0 1 21)   {m : gM} {z : (Int32 × gM)} (h : mj_X0_end_12  m = some z) (hk : (fun z : (Int32 × gM) => gz_kZ cS X G 2 (0, 0) cX0_end z.2 z.1) z) : gz_V cS X G 2 (0, 0) m 12 [(0, .ref (gz_ad G 1000))] [] := by
  unfold mj_X0_end_12 at h
  refine gz_aload_n (pc := 12) hX dX0_end_12 rfl 0 rfl ?_
  refine gz_iconst (pc := 13) (v := (0 : Int32)) hX dX0_end_13 (by decide) ?_
  obtain ⟨⟨r1, m2⟩, c3, h⟩ := gz_bd h
  refine cc_X0_125 (pc := 14) hX (fun h => cz_k h rfl) c3 ⟨Nat.le_of_ble_eq_true rfl, Nat.le_of_ble_eq_true rfl⟩ (rest := []) rfl (Nat.le_of_ble_eq_true rfl) dX0_end_14 ?_
  refine gz_if_lt (pc := 17) (tgt := 24) hX dX0_end_17 (by decide) (fun g4 => ?_) (fun g4 => ?_)
  · replace h := gz_it' g4 h
    refine gz_iconst (pc := 24) (v := (0 : Int32)) hX dX0_end_24 (by decide) ?_
    obtain rfl := Option.some.inj h
    exact hk _ _ dX0_end_25 (Or.inl rfl)
  · replace h := gz_if' g4 h
    refine gz_iconst (pc := 20) (v := (1 : Int32)) hX dX0_end_20 (by decide) ?_
    refine gz_goto (pc := 21) (tgt := 25) hX dX0_end_21 (by decide) ?_
    obtain rfl := Option.some.inj h
    exact hk _ _ dX0_end_25 (Or.inr rfl)
noncomputable def cf_X0_end (x1 : Int32) (m : gM) : Option (Int32 × gM) :=
  (if x1 < (0 : Int32) then (mj_X0_end_12  m) else (if x1 ≤ (gI m 1000 2) then gz_let (gz_sI m 1000 2 x1) fun m3 => some ((1 : Int32), m3) else (mj_X0_end_12  m)))
theorem wm_X0_end {X : gz_X} {G : gz_G} (hX : gz_C cS X G cX0_end 2 RX0 1 21) {x1 : Int32}  {m : gM} {z : (Int32 × gM)} (h : cf_X0_end x1 m = some z) (hk : (fun z : (Int32 × gM) => gz_kZ cS X G 2 (0, 0) cX0_end z.2 z.1) z) : gz_V cS X G 2 (0, 0) m 0 [(0, .ref (gz_ad G 1000)), (1, .int x1)] [] := by
  unfold cf_X0_end at h
  refine gz_iload_n (pc := 0) hX dX0_end_0 rfl 1 rfl ?_
  refine gz_if_lt (pc := 1) (tgt := 12) hX dX0_end_1 (by decide) (fun g1 => ?_) (fun g1 => ?_)
  · replace h := gz_it' g1 h
    refine gz_sub (lw := [(0, .ref (gz_ad G 1000))]) [0] rfl ?_
    exact wb_X0_end_12 hX h hk
  · replace h := gz_if' g1 h
    refine gz_iload_n (pc := 4) hX dX0_end_4 rfl 1 rfl ?_
    refine gz_aload_n (pc := 5) hX dX0_end_5 rfl 0 rfl ?_
    refine cg_X0_122_0 (pc := 6) hX (c := 1000) (v := .int (gI m 1000 2)) (fun h => cz_k h rfl) (fun _ => rfl) dX0_end_6 ?_
    refine gz_icmp_le (pc := 9) (tgt := 26) hX dX0_end_9 (by decide) (fun g2 => ?_) (fun g2 => ?_)
    · replace h := gz_it' g2 h
      refine gz_aload_n (pc := 26) hX dX0_end_26 rfl 0 rfl ?_
      refine gz_iload_n (pc := 27) hX dX0_end_27 rfl 1 rfl ?_
      obtain ⟨m3, em3, h⟩ := gz_lt h
      refine cp_X0_122_0 (pc := 28) hX (c := 1000) (fun h => cz_k h rfl) (Nat.le_of_ble_eq_true rfl) dX0_end_28 em3 ?_
      refine gz_iconst (pc := 31) (v := (1 : Int32)) hX dX0_end_31 (by decide) ?_
      obtain rfl := Option.some.inj h
      exact hk _ _ dX0_end_32 (Or.inr rfl)
    · replace h := gz_if' g2 h
      refine gz_sub (lw := [(0, .ref (gz_ad G 1000))]) [0] rfl ?_
      exact wb_X0_end_12 hX h hk
theorem ct_X0_end {G : gz_G} {l : Launch} {x1 : Int32}  {m m9 : gM} {r : Int32} (h : cf_X0_end x1 m = some (r, m9)) : gz_Met cS G l yX0_end cX0_end 2 (some .boolean) (mRm 1 21) [.ref (gz_ad G 1000), .int x1] m m9 (some (.int r)) :=
  gz_ofZ (by decide +kernel) (Nat.le_of_ble_eq_true rfl) fun X _ hX hk => wm_X0_end hX h hk
/-! FirstSnuffer.tapeTaken()I -/
noncomputable def cf_X0_tapeTaken  (m : gM) : Option (Int32 × gM) :=
  gz_let ((gI m 1000 2)) fun y1 => gz_let (gz_sI m 1000 2 (0 : Int32)) fun m2 => some (y1, m2)
theorem wm_X0_tapeTaken {X : gz_X} {G : gz_G} (hX : gz_C cS X G cX0_tapeTaken 2 RX0 0 0)   {m : gM} {z : (Int32 × gM)} (h : cf_X0_tapeTaken  m = some z) (hk : (fun z : (Int32 × gM) => gz_kI cS X G 2 (0, 0) cX0_tapeTaken z.2 z.1) z) : gz_V cS X G 2 (0, 0) m 0 [(0, .ref (gz_ad G 1000))] [] := by
  unfold cf_X0_tapeTaken at h
  refine gz_aload_n (pc := 0) hX dX0_tapeTaken_0 rfl 0 rfl ?_
  refine cg_X0_122_0 (pc := 1) hX (c := 1000) (v := .int (gI m 1000 2)) (fun h => cz_k h rfl) (fun _ => rfl) dX0_tapeTaken_1 ?_
  obtain ⟨y1, ey1, h⟩ := gz_lt h
  refine gz_topi ey1 ?_
  refine gz_istore_n (pc := 4) (lw := [(1, .int y1), (0, .ref (gz_ad G 1000))]) hX dX0_tapeTaken_4 rfl (by decide) rfl ?_
  refine gz_aload_n (pc := 5) hX dX0_tapeTaken_5 rfl 1 rfl ?_
  refine gz_iconst (pc := 6) (v := (0 : Int32)) hX dX0_tapeTaken_6 (by decide) ?_
  obtain ⟨m2, em2, h⟩ := gz_lt h
  refine cp_X0_122_0 (pc := 7) hX (c := 1000) (fun h => cz_k h rfl) (Nat.le_of_ble_eq_true rfl) dX0_tapeTaken_7 em2 ?_
  refine gz_iload_n (pc := 10) hX dX0_tapeTaken_10 rfl 0 rfl ?_
  obtain rfl := Option.some.inj h
  exact hk _ _ dX0_tapeTaken_11
theorem ct_X0_tapeTaken {G : gz_G} {l : Launch}   {m m9 : gM} {r : Int32} (h : cf_X0_tapeTaken  m = some (r, m9)) : gz_Met cS G l yX0_tapeTaken cX0_tapeTaken 2 (some .int) (mRm 0 0) [.ref (gz_ad G 1000)] m m9 (some (.int r)) :=
  gz_ofI (by decide +kernel) (Nat.le_of_ble_eq_true rfl) fun X _ hX hk => wm_X0_tapeTaken hX h hk
/-! FirstSnuffer.isLetter(I)Z -/
noncomputable def mj_X0_isLetter_16  (m : gM) : Option (Int32 × gM) :=
  some ((0 : Int32), m)
theorem wb_X0_isLetter_16 {X : gz_X} {G : gz_G} (hX : gz_C cS X G cX0_isLetter 1 RX0 0 0)   {m : gM} {z : (Int32 × gM)} (h : mj_X0_isLetter_16  m = some z) (hk : (fun z : (Int32 × gM) => gz_kZ cS X G 1 (0, 0) cX0_isLetter z.2 z.1) z) : gz_V cS X G 1 (0, 0) m 16 [] [] := by
  unfold mj_X0_isLetter_16 at h
  refine gz_iconst (pc := 16) (v := (0 : Int32)) hX dX0_isLetter_16 (by decide) ?_
  obtain rfl := Option.some.inj h
  exact hk _ _ dX0_isLetter_17 (Or.inl rfl)
noncomputable def cf_X0_isLetter (x0 : Int32) (m : gM) : Option (Int32 × gM) :=
  (if x0 < (97 : Int32) then (mj_X0_isLetter_16  m) else (if (122 : Int32) < x0 then (mj_X0_isLetter_16  m) else some ((1 : Int32), m)))
theorem wm_X0_isLetter {X : gz_X} {G : gz_G} (hX : gz_C cS X G cX0_isLetter 1 RX0 0 0) {x0 : Int32}  {m : gM} {z : (Int32 × gM)} (h : cf_X0_isLetter x0 m = some z) (hk : (fun z : (Int32 × gM) => gz_kZ cS X G 1 (0, 0) cX0_isLetter z.2 z.1) z) : gz_V cS X G 1 (0, 0) m 0 [(0, .int x0)] [] := by
  unfold cf_X0_isLetter at h
  refine gz_iload_n (pc := 0) hX dX0_isLetter_0 rfl 0 rfl ?_
  refine gz_bipush (pc := 1) (v := (97 : Int32)) hX dX0_isLetter_1 (by decide) ?_
  refine gz_icmp_lt (pc := 3) (tgt := 16) hX dX0_isLetter_3 (by decide) (fun g1 => ?_) (fun g1 => ?_)
  · replace h := gz_it' g1 h
    refine gz_sub (lw := []) [] rfl ?_
    exact wb_X0_isLetter_16 hX h hk
  · replace h := gz_if' g1 h
    refine gz_iload_n (pc := 6) hX dX0_isLetter_6 rfl 0 rfl ?_
    refine gz_bipush (pc := 7) (v := (122 : Int32)) hX dX0_isLetter_7 (by decide) ?_
    refine gz_icmp_gt (pc := 9) (tgt := 16) hX dX0_isLetter_9 (by decide) (fun g2 => ?_) (fun g2 => ?_)
    · replace h := gz_it' g2 h
      refine gz_sub (lw := []) [] rfl ?_
      exact wb_X0_isLetter_16 hX h hk
    · replace h := gz_if' g2 h
      refine gz_iconst (pc := 12) (v := (1 : Int32)) hX dX0_isLetter_12 (by decide) ?_
      refine gz_goto (pc := 13) (tgt := 17) hX dX0_isLetter_13 (by decide) ?_
      obtain rfl := Option.some.inj h
      exact hk _ _ dX0_isLetter_17 (Or.inr rfl)
theorem ct_X0_isLetter {G : gz_G} {l : Launch} {x0 : Int32}  {m m9 : gM} {r : Int32} (h : cf_X0_isLetter x0 m = some (r, m9)) : gz_Met cS G l yX0_isLetter cX0_isLetter 1 (some .boolean) (mRm 0 0) [.int x0] m m9 (some (.int r)) :=
  gz_ofZ (by decide +kernel) (Nat.le_of_ble_eq_true rfl) fun X _ hX hk => wm_X0_isLetter hX h hk
/-! FirstSnuffer.isDigit(I)Z -/
noncomputable def mj_X0_isDigit_16  (m : gM) : Option (Int32 × gM) :=
  some ((0 : Int32), m)
theorem wb_X0_isDigit_16 {X : gz_X} {G : gz_G} (hX : gz_C cS X G cX0_isDigit 1 RX0 0 0)   {m : gM} {z : (Int32 × gM)} (h : mj_X0_isDigit_16  m = some z) (hk : (fun z : (Int32 × gM) => gz_kZ cS X G 1 (0, 0) cX0_isDigit z.2 z.1) z) : gz_V cS X G 1 (0, 0) m 16 [] [] := by
  unfold mj_X0_isDigit_16 at h
  refine gz_iconst (pc := 16) (v := (0 : Int32)) hX dX0_isDigit_16 (by decide) ?_
  obtain rfl := Option.some.inj h
  exact hk _ _ dX0_isDigit_17 (Or.inl rfl)
noncomputable def cf_X0_isDigit (x0 : Int32) (m : gM) : Option (Int32 × gM) :=
  (if x0 < (48 : Int32) then (mj_X0_isDigit_16  m) else (if (57 : Int32) < x0 then (mj_X0_isDigit_16  m) else some ((1 : Int32), m)))
theorem wm_X0_isDigit {X : gz_X} {G : gz_G} (hX : gz_C cS X G cX0_isDigit 1 RX0 0 0) {x0 : Int32}  {m : gM} {z : (Int32 × gM)} (h : cf_X0_isDigit x0 m = some z) (hk : (fun z : (Int32 × gM) => gz_kZ cS X G 1 (0, 0) cX0_isDigit z.2 z.1) z) : gz_V cS X G 1 (0, 0) m 0 [(0, .int x0)] [] := by
  unfold cf_X0_isDigit at h
  refine gz_iload_n (pc := 0) hX dX0_isDigit_0 rfl 0 rfl ?_
  refine gz_bipush (pc := 1) (v := (48 : Int32)) hX dX0_isDigit_1 (by decide) ?_
  refine gz_icmp_lt (pc := 3) (tgt := 16) hX dX0_isDigit_3 (by decide) (fun g1 => ?_) (fun g1 => ?_)
  · replace h := gz_it' g1 h
    refine gz_sub (lw := []) [] rfl ?_
    exact wb_X0_isDigit_16 hX h hk
  · replace h := gz_if' g1 h
    refine gz_iload_n (pc := 6) hX dX0_isDigit_6 rfl 0 rfl ?_
    refine gz_bipush (pc := 7) (v := (57 : Int32)) hX dX0_isDigit_7 (by decide) ?_
    refine gz_icmp_gt (pc := 9) (tgt := 16) hX dX0_isDigit_9 (by decide) (fun g2 => ?_) (fun g2 => ?_)
    · replace h := gz_it' g2 h
      refine gz_sub (lw := []) [] rfl ?_
      exact wb_X0_isDigit_16 hX h hk
    · replace h := gz_if' g2 h
      refine gz_iconst (pc := 12) (v := (1 : Int32)) hX dX0_isDigit_12 (by decide) ?_
      refine gz_goto (pc := 13) (tgt := 17) hX dX0_isDigit_13 (by decide) ?_
      obtain rfl := Option.some.inj h
      exact hk _ _ dX0_isDigit_17 (Or.inr rfl)
theorem ct_X0_isDigit {G : gz_G} {l : Launch} {x0 : Int32}  {m m9 : gM} {r : Int32} (h : cf_X0_isDigit x0 m = some (r, m9)) : gz_Met cS G l yX0_isDigit cX0_isDigit 1 (some .boolean) (mRm 0 0) [.int x0] m m9 (some (.int r)) :=
  gz_ofZ (by decide +kernel) (Nat.le_of_ble_eq_true rfl) fun X _ hX hk => wm_X0_isDigit hX h hk
/-! FirstSnuffer.is(III)Z -/
noncomputable def mj_X0_is_14  (m : gM) : Option (Int32 × gM) :=
  some ((0 : Int32), m)
theorem wb_X0_is_14 {X : gz_X} {G : gz_G} (hX : gz_C cS X G cX0_is 3 RX0 0 0)   {m : gM} {z : (Int32 × gM)} (h : mj_X0_is_14  m = some z) (hk : (fun z : (Int32 × gM) => gz_kZ cS X G 3 (0, 0) cX0_is z.2 z.1) z) : gz_V cS X G 3 (0, 0) m 14 [] [] := by
  unfold mj_X0_is_14 at h
  refine gz_iconst (pc := 14) (v := (0 : Int32)) hX dX0_is_14 (by decide) ?_
  obtain rfl := Option.some.inj h
  exact hk _ _ dX0_is_15 (Or.inl rfl)
noncomputable def cf_X0_is (x0 : Int32) (x1 : Int32) (x2 : Int32) (m : gM) : Option (Int32 × gM) :=
  (if x0 < x1 then (mj_X0_is_14  m) else (if x2 < x0 then (mj_X0_is_14  m) else some ((1 : Int32), m)))
theorem wm_X0_is {X : gz_X} {G : gz_G} (hX : gz_C cS X G cX0_is 3 RX0 0 0) {x0 : Int32} {x1 : Int32} {x2 : Int32}  {m : gM} {z : (Int32 × gM)} (h : cf_X0_is x0 x1 x2 m = some z) (hk : (fun z : (Int32 × gM) => gz_kZ cS X G 3 (0, 0) cX0_is z.2 z.1) z) : gz_V cS X G 3 (0, 0) m 0 [(0, .int x0), (1, .int x1), (2, .int x2)] [] := by
  unfold cf_X0_is at h
  refine gz_iload_n (pc := 0) hX dX0_is_0 rfl 0 rfl ?_
  refine gz_iload_n (pc := 1) hX dX0_is_1 rfl 1 rfl ?_
  refine gz_icmp_lt (pc := 2) (tgt := 14) hX dX0_is_2 (by decide) (fun g1 => ?_) (fun g1 => ?_)
  · replace h := gz_it' g1 h
    refine gz_sub (lw := []) [] rfl ?_
    exact wb_X0_is_14 hX h hk
  · replace h := gz_if' g1 h
    refine gz_iload_n (pc := 5) hX dX0_is_5 rfl 0 rfl ?_
    refine gz_iload_n (pc := 6) hX dX0_is_6 rfl 2 rfl ?_
    refine gz_icmp_gt (pc := 7) (tgt := 14) hX dX0_is_7 (by decide) (fun g2 => ?_) (fun g2 => ?_)
    · replace h := gz_it' g2 h
      refine gz_sub (lw := []) [] rfl ?_
      exact wb_X0_is_14 hX h hk
    · replace h := gz_if' g2 h
      refine gz_iconst (pc := 10) (v := (1 : Int32)) hX dX0_is_10 (by decide) ?_
      refine gz_goto (pc := 11) (tgt := 15) hX dX0_is_11 (by decide) ?_
      obtain rfl := Option.some.inj h
      exact hk _ _ dX0_is_15 (Or.inr rfl)
theorem ct_X0_is {G : gz_G} {l : Launch} {x0 : Int32} {x1 : Int32} {x2 : Int32}  {m m9 : gM} {r : Int32} (h : cf_X0_is x0 x1 x2 m = some (r, m9)) : gz_Met cS G l yX0_is cX0_is 3 (some .boolean) (mRm 0 0) [.int x0, .int x1, .int x2] m m9 (some (.int r)) :=
  gz_ofZ (by decide +kernel) (Nat.le_of_ble_eq_true rfl) fun X _ hX hk => wm_X0_is hX h hk
/-! FirstSnuffer.has(II)Z -/
noncomputable def cf_X0_has (x0 : Int32) (x1 : Int32) (m : gM) : Option (Int32 × gM) :=
  (if ((x0 >>> (x1 &&& 31)) &&& (1 : Int32)) = (1 : Int32) then some ((1 : Int32), m) else some ((0 : Int32), m))
theorem wm_X0_has {X : gz_X} {G : gz_G} (hX : gz_C cS X G cX0_has 2 RX0 0 0) {x0 : Int32} {x1 : Int32}  {m : gM} {z : (Int32 × gM)} (h : cf_X0_has x0 x1 m = some z) (hk : (fun z : (Int32 × gM) => gz_kZ cS X G 2 (0, 0) cX0_has z.2 z.1) z) : gz_V cS X G 2 (0, 0) m 0 [(0, .int x0), (1, .int x1)] [] := by
  unfold cf_X0_has at h
  refine gz_iload_n (pc := 0) hX dX0_has_0 rfl 0 rfl ?_
  refine gz_iload_n (pc := 1) hX dX0_has_1 rfl 1 rfl ?_
  refine gz_ishr (pc := 2) hX dX0_has_2 ?_
  refine gz_iconst (pc := 3) (v := (1 : Int32)) hX dX0_has_3 (by decide) ?_
  refine gz_iand (pc := 4) hX dX0_has_4 ?_
  refine gz_iconst (pc := 5) (v := (1 : Int32)) hX dX0_has_5 (by decide) ?_
  refine gz_icmp_ne (pc := 6) (tgt := 13) hX dX0_has_6 (by decide) (fun g1 => ?_) (fun g1 => ?_)
  · replace h := gz_if' g1 h
    refine gz_iconst (pc := 13) (v := (0 : Int32)) hX dX0_has_13 (by decide) ?_
    obtain rfl := Option.some.inj h
    exact hk _ _ dX0_has_14 (Or.inl rfl)
  · replace h := gz_it' g1 h
    refine gz_iconst (pc := 9) (v := (1 : Int32)) hX dX0_has_9 (by decide) ?_
    refine gz_goto (pc := 10) (tgt := 14) hX dX0_has_10 (by decide) ?_
    obtain rfl := Option.some.inj h
    exact hk _ _ dX0_has_14 (Or.inr rfl)
theorem ct_X0_has {G : gz_G} {l : Launch} {x0 : Int32} {x1 : Int32}  {m m9 : gM} {r : Int32} (h : cf_X0_has x0 x1 m = some (r, m9)) : gz_Met cS G l yX0_has cX0_has 2 (some .boolean) (mRm 0 0) [.int x0, .int x1] m m9 (some (.int r)) :=
  gz_ofZ (by decide +kernel) (Nat.le_of_ble_eq_true rfl) fun X _ hX hk => wm_X0_has hX h hk
theorem cg_X0_39_0 {X : gz_X} {G : gz_G} {cc : ByteArray} {nL fr lo pc : Nat} {rem : Nat × Nat} {m : gM} {lv : List (Nat × Value)} {st : List Value} (hX : gz_C cS X G cc nL RX0 fr lo) {c : Nat} {v : Value} (hK : clc m.1 m.2.1 m.2.2.2.2.1 → m.1 c = 0 + 1) (hv : clc m.1 m.2.1 m.2.2.2.2.1 → gz_u (gz_ad G) m (ftC 0 4) c 4 = v) (hd : decode cc pc = .ok (.getfield 39, 3)) (kk : gz_V cS X G nL rem m (pc + 3) lv (v :: st)) : gz_V cS X G nL rem m pc lv (.ref (gz_ad G c) :: st) :=
  gz_getf hX (C := RX0) (T := TX0) (N := 28) (ci := 0) (k := 4) rfl (by decide) in_X0 (by decide) (Or.inl (hX.2.2.2.2.1 _ q505)) hd hK hv kk
theorem cg_X0_133_0 {X : gz_X} {G : gz_G} {cc : ByteArray} {nL fr lo pc : Nat} {rem : Nat × Nat} {m : gM} {lv : List (Nat × Value)} {st : List Value} (hX : gz_C cS X G cc nL RX0 fr lo) {c : Nat} {v : Value} (hK : clc m.1 m.2.1 m.2.2.2.2.1 → m.1 c = 0 + 1) (hv : clc m.1 m.2.1 m.2.2.2.2.1 → gz_u (gz_ad G) m (ftC 0 3) c 3 = v) (hd : decode cc pc = .ok (.getfield 133, 3)) (kk : gz_V cS X G nL rem m (pc + 3) lv (v :: st)) : gz_V cS X G nL rem m pc lv (.ref (gz_ad G c) :: st) :=
  gz_getf hX (C := RX0) (T := TX0) (N := 28) (ci := 0) (k := 3) rfl (by decide) in_X0 (by decide) (Or.inl (hX.2.2.2.2.1 _ q504)) hd hK hv kk
/-! FirstSnuffer.fault(I)I -/
noncomputable def cf_X0_fault (x1 : Int32) (m : gM) : Option (Int32 × gM) :=
  (if x1 = (0 : Int32) then some ((gI m 1000 3), m) else (if x1 = (1 : Int32) then some ((gI m 1000 4), m) else some ((-1 : Int32), m)))
theorem wm_X0_fault {X : gz_X} {G : gz_G} (hX : gz_C cS X G cX0_fault 2 RX0 0 0) {x1 : Int32}  {m : gM} {z : (Int32 × gM)} (h : cf_X0_fault x1 m = some z) (hk : (fun z : (Int32 × gM) => gz_kI cS X G 2 (0, 0) cX0_fault z.2 z.1) z) : gz_V cS X G 2 (0, 0) m 0 [(0, .ref (gz_ad G 1000)), (1, .int x1)] [] := by
  unfold cf_X0_fault at h
  refine gz_iload_n (pc := 0) hX dX0_fault_0 rfl 1 rfl ?_
  refine gz_if_ne (pc := 1) (tgt := 11) hX dX0_fault_1 (by decide) (fun g1 => ?_) (fun g1 => ?_)
  · replace h := gz_if' g1 h
    refine gz_iload_n (pc := 11) hX dX0_fault_11 rfl 1 rfl ?_
    refine gz_iconst (pc := 12) (v := (1 : Int32)) hX dX0_fault_12 (by decide) ?_
    refine gz_icmp_ne (pc := 13) (tgt := 23) hX dX0_fault_13 (by decide) (fun g2 => ?_) (fun g2 => ?_)
    · replace h := gz_if' g2 h
      refine gz_iconst (pc := 23) (v := (-1 : Int32)) hX dX0_fault_23 (by decide) ?_
      obtain rfl := Option.some.inj h
      exact hk _ _ dX0_fault_24
    · replace h := gz_it' g2 h
      refine gz_aload_n (pc := 16) hX dX0_fault_16 rfl 0 rfl ?_
      refine cg_X0_39_0 (pc := 17) hX (c := 1000) (v := .int (gI m 1000 4)) (fun h => cz_k h rfl) (fun _ => rfl) dX0_fault_17 ?_
      refine gz_goto (pc := 20) (tgt := 24) hX dX0_fault_20 (by decide) ?_
      obtain rfl := Option.some.inj h
      exact hk _ _ dX0_fault_24
  · replace h := gz_it' g1 h
    refine gz_aload_n (pc := 4) hX dX0_fault_4 rfl 0 rfl ?_
    refine cg_X0_133_0 (pc := 5) hX (c := 1000) (v := .int (gI m 1000 3)) (fun h => cz_k h rfl) (fun _ => rfl) dX0_fault_5 ?_
    refine gz_goto (pc := 8) (tgt := 24) hX dX0_fault_8 (by decide) ?_
    obtain rfl := Option.some.inj h
    exact hk _ _ dX0_fault_24
theorem ct_X0_fault {G : gz_G} {l : Launch} {x1 : Int32}  {m m9 : gM} {r : Int32} (h : cf_X0_fault x1 m = some (r, m9)) : gz_Met cS G l yX0_fault cX0_fault 2 (some .int) (mRm 0 0) [.ref (gz_ad G 1000), .int x1] m m9 (some (.int r)) :=
  gz_ofI (by decide +kernel) (Nat.le_of_ble_eq_true rfl) fun X _ hX hk => wm_X0_fault hX h hk
theorem cc_X0_7 {X : gz_X} {G : gz_G} {cc : ByteArray} {nL fr lo pc : Nat} {rem : Nat × Nat} {lv : List (Nat × Value)} {rest st0 : List Value} (hX : gz_C cS X G cc nL RX0 fr lo) {x0 : Int64} {x2 : Int64} {m m9 : gM}  {r : Int64} (h : cf_J8_min_2 x0 x2 m = some (r, m9)) (hroom : 0 + 1 ≤ fr ∧ 8 + (4 + 11) + 0 ≤ lo) (hst : st0 = [.long x2, .long x0] ++ rest) (hW : (rest.map fun v => v.category).sum ≤ 8) (hd : decode cc pc = .ok (.invokestatic 7, 3)) (kk : gz_V cS X G nL rem m9 (pc + 3) lv (.long r :: rest)) : gz_V cS X G nL rem m pc lv st0 :=
  gz_callS hX cs_E (As := [.long x0, .long x2]) (rest := rest) (ct_J8_min_2 (l := X.2.1) h) (lw_S q1418 q1419 q181 q1420) (n := 2) (by decide +kernel) hroom rfl hst hW hd (rem := rem) kk
theorem cc_X0_13 {X : gz_X} {G : gz_G} {cc : ByteArray} {nL fr lo pc : Nat} {rem : Nat × Nat} {lv : List (Nat × Value)} {rest st0 : List Value} (hX : gz_C cS X G cc nL RX0 fr lo) {x0 : Int64} {x2 : Int64} {m m9 : gM}  {r : Int64} (h : cf_J8_max_2 x0 x2 m = some (r, m9)) (hroom : 0 + 1 ≤ fr ∧ 8 + (4 + 11) + 0 ≤ lo) (hst : st0 = [.long x2, .long x0] ++ rest) (hW : (rest.map fun v => v.category).sum ≤ 8) (hd : decode cc pc = .ok (.invokestatic 13, 3)) (kk : gz_V cS X G nL rem m9 (pc + 3) lv (.long r :: rest)) : gz_V cS X G nL rem m pc lv st0 :=
  gz_callS hX cs_E (As := [.long x0, .long x2]) (rest := rest) (ct_J8_max_2 (l := X.2.1) h) (lw_S q1421 q1422 q181 q1423) (n := 2) (by decide +kernel) hroom rfl hst hW hd (rem := rem) kk
/-! FirstSnuffer.held(J)J -/
noncomputable def cf_X0_held (x0 : Int64) (m : gM) : Option (Int64 × gM) :=
  ((cf_J8_min_2 (1000000 : Int64) x0 m).bind fun (r1, m2) => ((cf_J8_max_2 (-1000000 : Int64) r1 m2).bind fun (r4, m5) => some (r4, m5)))
theorem wm_X0_held {X : gz_X} {G : gz_G} (hX : gz_C cS X G cX0_held 2 RX0 1 23) {x0 : Int64}  {m : gM} {z : (Int64 × gM)} (h : cf_X0_held x0 m = some z) (hk : (fun z : (Int64 × gM) => gz_kL cS X G 2 (0, 0) cX0_held z.2 z.1) z) : gz_V cS X G 2 (0, 0) m 0 [(0, .long x0)] [] := by
  unfold cf_X0_held at h
  refine gz_ldc2 (pc := 0) (v := (-1000000 : Int64)) hX q1416 dX0_held_0 ?_
  refine gz_ldc2 (pc := 3) (v := (1000000 : Int64)) hX q1417 dX0_held_3 ?_
  refine gz_lload_n (pc := 6) hX dX0_held_6 rfl 0 rfl ?_
  obtain ⟨⟨r1, m2⟩, c3, h⟩ := gz_bd h
  refine cc_X0_7 (pc := 7) hX c3 ⟨Nat.le_of_ble_eq_true rfl, Nat.le_of_ble_eq_true rfl⟩ (rest := [.long (-1000000 : Int64)]) rfl (Nat.le_of_ble_eq_true rfl) dX0_held_7 ?_
  obtain ⟨⟨r4, m5⟩, c6, h⟩ := gz_bd h
  refine cc_X0_13 (pc := 10) hX c6 ⟨Nat.le_of_ble_eq_true rfl, Nat.le_of_ble_eq_true rfl⟩ (rest := []) rfl (Nat.le_of_ble_eq_true rfl) dX0_held_10 ?_
  obtain rfl := Option.some.inj h
  exact hk _ _ dX0_held_13
theorem ct_X0_held {G : gz_G} {l : Launch} {x0 : Int64}  {m m9 : gM} {r : Int64} (h : cf_X0_held x0 m = some (r, m9)) : gz_Met cS G l yX0_held cX0_held 2 (some .long) (mRm 1 23) [.long x0] m m9 (some (.long r)) :=
  gz_ofL (by decide +kernel) (Nat.le_of_ble_eq_true rfl) fun X _ hX hk => wm_X0_held hX h hk
theorem cg_X0_68_0 {X : gz_X} {G : gz_G} {cc : ByteArray} {nL fr lo pc : Nat} {rem : Nat × Nat} {m : gM} {lv : List (Nat × Value)} {st : List Value} (hX : gz_C cS X G cc nL RX0 fr lo) {c : Nat} {v : Value} (hK : clc m.1 m.2.1 m.2.2.2.2.1 → m.1 c = 0 + 1) (hv : clc m.1 m.2.1 m.2.2.2.2.1 → gz_u (gz_ad G) m (ftC 0 9) c 9 = v) (hd : decode cc pc = .ok (.getfield 68, 3)) (kk : gz_V cS X G nL rem m (pc + 3) lv (v :: st)) : gz_V cS X G nL rem m pc lv (.ref (gz_ad G c) :: st) :=
  gz_getf hX (C := RX0) (T := TX0) (N := 28) (ci := 0) (k := 9) rfl (by decide) in_X0 (by decide) (Or.inl (hX.2.2.2.2.1 _ q511)) hd hK hv kk
/-! FirstSnuffer.wayBetween(II)I -/
noncomputable def cf_X0_wayBetween (x1 : Int32) (x2 : Int32) (m : gM) : Option (Int32 × gM) :=
  (if gz_in x1 (8) then (if gz_in x2 (8) then (if (gI m (1019 + (gz_ix x1)) (gz_ix x2)) < (100000000 : Int32) then (if gz_in x1 (8) then (if gz_in x2 (8) then some ((gI m (1019 + (gz_ix x1)) (gz_ix x2)), m) else none) else none) else some ((-1 : Int32), m)) else none) else none)
theorem wm_X0_wayBetween {X : gz_X} {G : gz_G} (hX : gz_C cS X G cX0_wayBetween 3 RX0 0 0) {x1 : Int32} {x2 : Int32}  {m : gM} {z : (Int32 × gM)} (h : cf_X0_wayBetween x1 x2 m = some z) (hk : (fun z : (Int32 × gM) => gz_kI cS X G 3 (0, 0) cX0_wayBetween z.2 z.1) z) : gz_V cS X G 3 (0, 0) m 0 [(0, .ref (gz_ad G 1000)), (1, .int x1), (2, .int x2)] [] := by
  unfold cf_X0_wayBetween at h
  refine gz_aload_n (pc := 0) hX dX0_wayBetween_0 rfl 0 rfl ?_
  refine cg_X0_68_0 (pc := 1) hX (c := 1000) (v := .ref (gz_ad G 1018)) (fun h => cz_k h rfl) (fun h => cz_f h (by decide) rfl (by decide) rfl) dX0_wayBetween_1 ?_
  refine gz_iload_n (pc := 4) hX dX0_wayBetween_4 rfl 1 rfl ?_
  obtain ⟨g1, h⟩ := gz_gu h
  refine gz_aald (pc := 5) (c := 1018) (t := 7) (n := 8) hX rfl rfl rfl (v := .ref (gz_ad G (1019 + (gz_ix x1)))) (fun h => cz_a h rfl (by decide) rfl) g1 (fun h => cz_e h (by decide) (far_s _ g1.2) (by omega)) dX0_wayBetween_5 ?_
  refine gz_iload_n (pc := 6) hX dX0_wayBetween_6 rfl 2 rfl ?_
  obtain ⟨g2, h⟩ := gz_gu h
  refine gz_iald2 (pc := 7) (c := (1019 + (gz_ix x1))) (n := 8) hX rfl (fun h => cz_a h (far_a _ g1.2).1 (by decide) (far_a _ g1.2).2) g2 dX0_wayBetween_7 ?_
  refine gz_ldc (pc := 8) (v := (100000000 : Int32)) hX q462 dX0_wayBetween_8 ?_
  refine gz_icmp_lt (pc := 10) (tgt := 17) hX dX0_wayBetween_10 (by decide) (fun g3 => ?_) (fun g3 => ?_)
  · replace h := gz_it' g3 h
    refine gz_aload_n (pc := 17) hX dX0_wayBetween_17 rfl 0 rfl ?_
    refine cg_X0_68_0 (pc := 18) hX (c := 1000) (v := .ref (gz_ad G 1018)) (fun h => cz_k h rfl) (fun h => cz_f h (by decide) rfl (by decide) rfl) dX0_wayBetween_18 ?_
    refine gz_iload_n (pc := 21) hX dX0_wayBetween_21 rfl 1 rfl ?_
    obtain ⟨g4, h⟩ := gz_gu h
    refine gz_aald (pc := 22) (c := 1018) (t := 7) (n := 8) hX rfl rfl rfl (v := .ref (gz_ad G (1019 + (gz_ix x1)))) (fun h => cz_a h rfl (by decide) rfl) g4 (fun h => cz_e h (by decide) (far_s _ g4.2) (by omega)) dX0_wayBetween_22 ?_
    refine gz_iload_n (pc := 23) hX dX0_wayBetween_23 rfl 2 rfl ?_
    obtain ⟨g5, h⟩ := gz_gu h
    refine gz_iald2 (pc := 24) (c := (1019 + (gz_ix x1))) (n := 8) hX rfl (fun h => cz_a h (far_a _ g4.2).1 (by decide) (far_a _ g4.2).2) g5 dX0_wayBetween_24 ?_
    obtain rfl := Option.some.inj h
    exact hk _ _ dX0_wayBetween_25
  · replace h := gz_if' g3 h
    refine gz_iconst (pc := 13) (v := (-1 : Int32)) hX dX0_wayBetween_13 (by decide) ?_
    refine gz_goto (pc := 14) (tgt := 25) hX dX0_wayBetween_14 (by decide) ?_
    obtain rfl := Option.some.inj h
    exact hk _ _ dX0_wayBetween_25
theorem ct_X0_wayBetween {G : gz_G} {l : Launch} {x1 : Int32} {x2 : Int32}  {m m9 : gM} {r : Int32} (h : cf_X0_wayBetween x1 x2 m = some (r, m9)) : gz_Met cS G l yX0_wayBetween cX0_wayBetween 3 (some .int) (mRm 0 0) [.ref (gz_ad G 1000), .int x1, .int x2] m m9 (some (.int r)) :=
  gz_ofI (by decide +kernel) (Nat.le_of_ble_eq_true rfl) fun X _ hX hk => wm_X0_wayBetween hX h hk
theorem cg_X0_74_0 {X : gz_X} {G : gz_G} {cc : ByteArray} {nL fr lo pc : Nat} {rem : Nat × Nat} {m : gM} {lv : List (Nat × Value)} {st : List Value} (hX : gz_C cS X G cc nL RX0 fr lo) {c : Nat} {v : Value} (hK : clc m.1 m.2.1 m.2.2.2.2.1 → m.1 c = 0 + 1) (hv : clc m.1 m.2.1 m.2.2.2.2.1 → gz_u (gz_ad G) m (ftC 0 10) c 10 = v) (hd : decode cc pc = .ok (.getfield 74, 3)) (kk : gz_V cS X G nL rem m (pc + 3) lv (v :: st)) : gz_V cS X G nL rem m pc lv (.ref (gz_ad G c) :: st) :=
  gz_getf hX (C := RX0) (T := TX0) (N := 28) (ci := 0) (k := 10) rfl (by decide) in_X0 (by decide) (Or.inl (hX.2.2.2.2.1 _ q512)) hd hK hv kk
theorem cg_X0_228_5 {X : gz_X} {G : gz_G} {cc : ByteArray} {nL fr lo pc : Nat} {rem : Nat × Nat} {m : gM} {lv : List (Nat × Value)} {st : List Value} (hX : gz_C cS X G cc nL RX0 fr lo) {c : Nat} {v : Value} (hK : clc m.1 m.2.1 m.2.2.2.2.1 → m.1 c = 5 + 1) (hv : clc m.1 m.2.1 m.2.2.2.2.1 → gz_u (gz_ad G) m (ftC 5 1) c 1 = v) (hd : decode cc pc = .ok (.getfield 228, 3)) (kk : gz_V cS X G nL rem m (pc + 3) lv (v :: st)) : gz_V cS X G nL rem m pc lv (.ref (gz_ad G c) :: st) :=
  gz_getf hX (C := RX5) (T := TX5) (N := 10) (ci := 5) (k := 1) rfl (by decide) in_X5 (by decide) (Or.inr ⟨_, va_Nw.use rfl (cz_n (Z := cS) hX q421 rfl)⟩) hd hK hv kk
theorem cc_X0_231 {X : gz_X} {G : gz_G} {cc : ByteArray} {nL fr lo pc : Nat} {rem : Nat × Nat} {lv : List (Nat × Value)} {rest st0 : List Value} (hX : gz_C cS X G cc nL RX0 fr lo) {x0 : Int32} {x1 : Int32} {x2 : Int32} {m m9 : gM}  {r : Int32} (h : cf_X0_is x0 x1 x2 m = some (r, m9)) (hroom : 0 + 1 ≤ fr ∧ 8 + (3 + 11) + 0 ≤ lo) (hst : st0 = [.int x2, .int x1, .int x0] ++ rest) (hW : (rest.map fun v => v.category).sum ≤ 8) (hd : decode cc pc = .ok (.invokestatic 231, 3)) (kk : gz_V cS X G nL rem m9 (pc + 3) lv (.int r :: rest)) : gz_V cS X G nL rem m pc lv st0 :=
  gz_callS hX cs_E (As := [.int x0, .int x1, .int x2]) (rest := rest) (ct_X0_is (l := X.2.1) h) (lw_S q1346 q944 q167 q945) (n := 3) (by decide +kernel) hroom rfl hst hW hd (rem := rem) kk
theorem cg_X0_289_5 {X : gz_X} {G : gz_G} {cc : ByteArray} {nL fr lo pc : Nat} {rem : Nat × Nat} {m : gM} {lv : List (Nat × Value)} {st : List Value} (hX : gz_C cS X G cc nL RX0 fr lo) {c : Nat} {v : Value} (hK : clc m.1 m.2.1 m.2.2.2.2.1 → m.1 c = 5 + 1) (hv : clc m.1 m.2.1 m.2.2.2.2.1 → gz_u (gz_ad G) m (ftC 5 8) c 8 = v) (hd : decode cc pc = .ok (.getfield 289, 3)) (kk : gz_V cS X G nL rem m (pc + 3) lv (v :: st)) : gz_V cS X G nL rem m pc lv (.ref (gz_ad G c) :: st) :=
  gz_getf hX (C := RX5) (T := TX5) (N := 10) (ci := 5) (k := 8) rfl (by decide) in_X5 (by decide) (Or.inr ⟨_, va_Nw.use rfl (cz_n (Z := cS) hX q434 rfl)⟩) hd hK hv kk
/-! FirstSnuffer.kept(II)I -/
noncomputable def mj_X0_kept_40  (m : gM) : Option (Int32 × gM) :=
  some ((-1 : Int32), m)
theorem wb_X0_kept_40 {X : gz_X} {G : gz_G} (hX : gz_C cS X G cX0_kept 3 RX0 1 22)   {m : gM} {z : (Int32 × gM)} (h : mj_X0_kept_40  m = some z) (hk : (fun z : (Int32 × gM) => gz_kI cS X G 3 (0, 0) cX0_kept z.2 z.1) z) : gz_V cS X G 3 (0, 0) m 40 [(0, .ref (gz_ad G 1000))] [] := by
  unfold mj_X0_kept_40 at h
  refine gz_iconst (pc := 40) (v := (-1 : Int32)) hX dX0_kept_40 (by decide) ?_
  obtain rfl := Option.some.inj h
  exact hk _ _ dX0_kept_41
noncomputable def cf_X0_kept (x1 : Int32) (x2 : Int32) (m : gM) : Option (Int32 × gM) :=
  ((cf_X0_is x1 (0 : Int32) ((gI m 1027 1) - (1 : Int32)) m).bind fun (r1, m2) => (if r1 = (0 : Int32) then (mj_X0_kept_40  m2) else ((cf_X0_is x2 (0 : Int32) (2 : Int32) m2).bind fun (r5, m6) => (if r5 = (0 : Int32) then (mj_X0_kept_40  m6) else (if gz_in x1 (40) then gz_let (gP m6 1032 (gz_ix x1)) fun r10 => (if r10 ≠ 0 then (if (ks r10 = 101 ∧ ns r10 = 3) ∧ 1000 ≤ r10 then (if gz_in x2 (3) then some ((gI m6 r10 (gz_ix x2)), m6) else none) else none) else none) else none)))))
theorem wm_X0_kept {X : gz_X} {G : gz_G} (hX : gz_C cS X G cX0_kept 3 RX0 1 22) {x1 : Int32} {x2 : Int32}  {m : gM} {z : (Int32 × gM)} (h : cf_X0_kept x1 x2 m = some z) (hk : (fun z : (Int32 × gM) => gz_kI cS X G 3 (0, 0) cX0_kept z.2 z.1) z) : gz_V cS X G 3 (0, 0) m 0 [(0, .ref (gz_ad G 1000)), (1, .int x1), (2, .int x2)] [] := by
  unfold cf_X0_kept at h
  refine gz_iload_n (pc := 0) hX dX0_kept_0 rfl 1 rfl ?_
  refine gz_iconst (pc := 1) (v := (0 : Int32)) hX dX0_kept_1 (by decide) ?_
  refine gz_aload_n (pc := 2) hX dX0_kept_2 rfl 0 rfl ?_
  refine cg_X0_74_0 (pc := 3) hX (c := 1000) (v := .ref (gz_ad G 1027)) (fun h => cz_k h rfl) (fun h => cz_f h (by decide) rfl (by decide) rfl) dX0_kept_3 ?_
  refine cg_X0_228_5 (pc := 6) hX (c := 1027) (v := .int (gI m 1027 1)) (fun h => cz_k h rfl) (fun _ => rfl) dX0_kept_6 ?_
  refine gz_iconst (pc := 9) (v := (1 : Int32)) hX dX0_kept_9 (by decide) ?_
  refine gz_isub (pc := 10) hX dX0_kept_10 ?_
  obtain ⟨⟨r1, m2⟩, c3, h⟩ := gz_bd h
  refine cc_X0_231 (pc := 11) hX c3 ⟨Nat.le_of_ble_eq_true rfl, Nat.le_of_ble_eq_true rfl⟩ (rest := []) rfl (Nat.le_of_ble_eq_true rfl) dX0_kept_11 ?_
  refine gz_if_eq (pc := 14) (tgt := 40) hX dX0_kept_14 (by decide) (fun g4 => ?_) (fun g4 => ?_)
  · replace h := gz_it' g4 h
    refine gz_sub (lw := [(0, .ref (gz_ad G 1000))]) [0] rfl ?_
    exact wb_X0_kept_40 hX h hk
  · replace h := gz_if' g4 h
    refine gz_iload_n (pc := 17) hX dX0_kept_17 rfl 2 rfl ?_
    refine gz_iconst (pc := 18) (v := (0 : Int32)) hX dX0_kept_18 (by decide) ?_
    refine gz_iconst (pc := 19) (v := (2 : Int32)) hX dX0_kept_19 (by decide) ?_
    obtain ⟨⟨r5, m6⟩, c7, h⟩ := gz_bd h
    refine cc_X0_231 (pc := 20) hX c7 ⟨Nat.le_of_ble_eq_true rfl, Nat.le_of_ble_eq_true rfl⟩ (rest := []) rfl (Nat.le_of_ble_eq_true rfl) dX0_kept_20 ?_
    refine gz_if_eq (pc := 23) (tgt := 40) hX dX0_kept_23 (by decide) (fun g8 => ?_) (fun g8 => ?_)
    · replace h := gz_it' g8 h
      refine gz_sub (lw := [(0, .ref (gz_ad G 1000))]) [0] rfl ?_
      exact wb_X0_kept_40 hX h hk
    · replace h := gz_if' g8 h
      refine gz_aload_n (pc := 26) hX dX0_kept_26 rfl 0 rfl ?_
      refine cg_X0_74_0 (pc := 27) hX (c := 1000) (v := .ref (gz_ad G 1027)) (fun h => cz_k h rfl) (fun h => cz_f h (by decide) rfl (by decide) rfl) dX0_kept_27 ?_
      refine cg_X0_289_5 (pc := 30) hX (c := 1027) (v := .ref (gz_ad G 1032)) (fun h => cz_k h rfl) (fun h => cz_f h (by decide) rfl (by decide) rfl) dX0_kept_30 ?_
      refine gz_iload_n (pc := 33) hX dX0_kept_33 rfl 1 rfl ?_
      obtain ⟨g9, h⟩ := gz_gu h
      obtain ⟨r10, er10, h⟩ := gz_lt h
      obtain ⟨g11, h⟩ := gz_gu h
      refine gz_aald (pc := 34) (c := 1032) (t := 7) (n := 40) hX rfl rfl rfl (v := .ref (gz_ad G r10)) (fun h => cz_a h rfl (by decide) rfl) g9 (fun _ => gz_rq er10 g11) dX0_kept_34 ?_
      refine gz_iload_n (pc := 35) hX dX0_kept_35 rfl 2 rfl ?_
      obtain ⟨g12, h⟩ := gz_gu h
      obtain ⟨g13, h⟩ := gz_gu h
      refine gz_iald2 (pc := 36) (c := r10) (n := 3) hX rfl (fun h => cz_a h g12.1.1 (by decide) g12.1.2) g13 dX0_kept_36 ?_
      refine gz_goto (pc := 37) (tgt := 41) hX dX0_kept_37 (by decide) ?_
      obtain rfl := Option.some.inj h
      exact hk _ _ dX0_kept_41
theorem ct_X0_kept {G : gz_G} {l : Launch} {x1 : Int32} {x2 : Int32}  {m m9 : gM} {r : Int32} (h : cf_X0_kept x1 x2 m = some (r, m9)) : gz_Met cS G l yX0_kept cX0_kept 3 (some .int) (mRm 1 22) [.ref (gz_ad G 1000), .int x1, .int x2] m m9 (some (.int r)) :=
  gz_ofI (by decide +kernel) (Nat.le_of_ble_eq_true rfl) fun X _ hX hk => wm_X0_kept hX h hk
theorem cg_X0_211_5 {X : gz_X} {G : gz_G} {cc : ByteArray} {nL fr lo pc : Nat} {rem : Nat × Nat} {m : gM} {lv : List (Nat × Value)} {st : List Value} (hX : gz_C cS X G cc nL RX0 fr lo) {c : Nat} {v : Value} (hK : clc m.1 m.2.1 m.2.2.2.2.1 → m.1 c = 5 + 1) (hv : clc m.1 m.2.1 m.2.2.2.2.1 → gz_u (gz_ad G) m (ftC 5 0) c 0 = v) (hd : decode cc pc = .ok (.getfield 211, 3)) (kk : gz_V cS X G nL rem m (pc + 3) lv (v :: st)) : gz_V cS X G nL rem m pc lv (.ref (gz_ad G c) :: st) :=
  gz_getf hX (C := RX5) (T := TX5) (N := 10) (ci := 5) (k := 0) rfl (by decide) in_X5 (by decide) (Or.inr ⟨_, va_Nw.use rfl (cz_n (Z := cS) hX q419 rfl)⟩) hd hK hv kk
/-! FirstSnuffer.isAhead(III)Z -/
noncomputable def mj_X0_isAhead_28  (m : gM) : Option (Int32 × gM) :=
  some ((0 : Int32), m)
theorem wb_X0_isAhead_28 {X : gz_X} {G : gz_G} (hX : gz_C cS X G cX0_isAhead 4 RX0 1 22)   {m : gM} {z : (Int32 × gM)} (h : mj_X0_isAhead_28  m = some z) (hk : (fun z : (Int32 × gM) => gz_kZ cS X G 4 (0, 0) cX0_isAhead z.2 z.1) z) : gz_V cS X G 4 (0, 0) m 28 [(0, .ref (gz_ad G 1000))] [] := by
  unfold mj_X0_isAhead_28 at h
  refine gz_iconst (pc := 28) (v := (0 : Int32)) hX dX0_isAhead_28 (by decide) ?_
  obtain rfl := Option.some.inj h
  exact hk _ _ dX0_isAhead_29 (Or.inl rfl)
noncomputable def cf_X0_isAhead (x1 : Int32) (x2 : Int32) (x3 : Int32) (m : gM) : Option (Int32 × gM) :=
  ((cf_X0_is x1 x2 x3 m).bind fun (r1, m2) => (if r1 = (0 : Int32) then (mj_X0_isAhead_28  m2) else (if (999 : Int32) < ((gI m2 1027 0) + x1) then (mj_X0_isAhead_28  m2) else some ((1 : Int32), m2))))
theorem wm_X0_isAhead {X : gz_X} {G : gz_G} (hX : gz_C cS X G cX0_isAhead 4 RX0 1 22) {x1 : Int32} {x2 : Int32} {x3 : Int32}  {m : gM} {z : (Int32 × gM)} (h : cf_X0_isAhead x1 x2 x3 m = some z) (hk : (fun z : (Int32 × gM) => gz_kZ cS X G 4 (0, 0) cX0_isAhead z.2 z.1) z) : gz_V cS X G 4 (0, 0) m 0 [(0, .ref (gz_ad G 1000)), (1, .int x1), (2, .int x2), (3, .int x3)] [] := by
  unfold cf_X0_isAhead at h
  refine gz_iload_n (pc := 0) hX dX0_isAhead_0 rfl 1 rfl ?_
  refine gz_iload_n (pc := 1) hX dX0_isAhead_1 rfl 2 rfl ?_
  refine gz_iload_n (pc := 2) hX dX0_isAhead_2 rfl 3 rfl ?_
  obtain ⟨⟨r1, m2⟩, c3, h⟩ := gz_bd h
  refine cc_X0_231 (pc := 3) hX c3 ⟨Nat.le_of_ble_eq_true rfl, Nat.le_of_ble_eq_true rfl⟩ (rest := []) rfl (Nat.le_of_ble_eq_true rfl) dX0_isAhead_3 ?_
  refine gz_if_eq (pc := 6) (tgt := 28) hX dX0_isAhead_6 (by decide) (fun g4 => ?_) (fun g4 => ?_)
  · replace h := gz_it' g4 h
    refine gz_sub (lw := [(0, .ref (gz_ad G 1000))]) [0] rfl ?_
    exact wb_X0_isAhead_28 hX h hk
  · replace h := gz_if' g4 h
    refine gz_aload_n (pc := 9) hX dX0_isAhead_9 rfl 0 rfl ?_
    refine cg_X0_74_0 (pc := 10) hX (c := 1000) (v := .ref (gz_ad G 1027)) (fun h => cz_k h rfl) (fun h => cz_f h (by decide) rfl (by decide) rfl) dX0_isAhead_10 ?_
    refine cg_X0_211_5 (pc := 13) hX (c := 1027) (v := .int (gI m2 1027 0)) (fun h => cz_k h rfl) (fun _ => rfl) dX0_isAhead_13 ?_
    refine gz_iload_n (pc := 16) hX dX0_isAhead_16 rfl 1 rfl ?_
    refine gz_iadd (pc := 17) hX dX0_isAhead_17 ?_
    refine gz_sipush (pc := 18) (v := (999 : Int32)) hX dX0_isAhead_18 (by decide) ?_
    refine gz_icmp_gt (pc := 21) (tgt := 28) hX dX0_isAhead_21 (by decide) (fun g5 => ?_) (fun g5 => ?_)
    · replace h := gz_it' g5 h
      refine gz_sub (lw := [(0, .ref (gz_ad G 1000))]) [0] rfl ?_
      exact wb_X0_isAhead_28 hX h hk
    · replace h := gz_if' g5 h
      refine gz_iconst (pc := 24) (v := (1 : Int32)) hX dX0_isAhead_24 (by decide) ?_
      refine gz_goto (pc := 25) (tgt := 29) hX dX0_isAhead_25 (by decide) ?_
      obtain rfl := Option.some.inj h
      exact hk _ _ dX0_isAhead_29 (Or.inr rfl)
theorem ct_X0_isAhead {G : gz_G} {l : Launch} {x1 : Int32} {x2 : Int32} {x3 : Int32}  {m m9 : gM} {r : Int32} (h : cf_X0_isAhead x1 x2 x3 m = some (r, m9)) : gz_Met cS G l yX0_isAhead cX0_isAhead 4 (some .boolean) (mRm 1 22) [.ref (gz_ad G 1000), .int x1, .int x2, .int x3] m m9 (some (.int r)) :=
  gz_ofZ (by decide +kernel) (Nat.le_of_ble_eq_true rfl) fun X _ hX hk => wm_X0_isAhead hX h hk
/-! FirstSnuffer.within(JI)I -/
noncomputable def cf_X0_within (x0 : Int64) (x2 : Int32) (m : gM) : Option (Int32 × gM) :=
  ((cf_J8_min_2 (x2.toInt64) x0 m).bind fun (r1, m2) => ((cf_J8_max_2 (0 : Int64) r1 m2).bind fun (r4, m5) => some ((r4.toInt32), m5)))
theorem wm_X0_within {X : gz_X} {G : gz_G} (hX : gz_C cS X G cX0_within 3 RX0 1 23) {x0 : Int64} {x2 : Int32}  {m : gM} {z : (Int32 × gM)} (h : cf_X0_within x0 x2 m = some z) (hk : (fun z : (Int32 × gM) => gz_kI cS X G 3 (0, 0) cX0_within z.2 z.1) z) : gz_V cS X G 3 (0, 0) m 0 [(0, .long x0), (2, .int x2)] [] := by
  unfold cf_X0_within at h
  refine gz_lconst (pc := 0) (v := (0 : Int64)) hX dX0_within_0 (by decide) ?_
  refine gz_iload_n (pc := 1) hX dX0_within_1 rfl 1 rfl ?_
  refine gz_i2l (pc := 2) hX dX0_within_2 ?_
  refine gz_lload_n (pc := 3) hX dX0_within_3 rfl 0 rfl ?_
  obtain ⟨⟨r1, m2⟩, c3, h⟩ := gz_bd h
  refine cc_X0_7 (pc := 4) hX c3 ⟨Nat.le_of_ble_eq_true rfl, Nat.le_of_ble_eq_true rfl⟩ (rest := [.long (0 : Int64)]) rfl (Nat.le_of_ble_eq_true rfl) dX0_within_4 ?_
  obtain ⟨⟨r4, m5⟩, c6, h⟩ := gz_bd h
  refine cc_X0_13 (pc := 7) hX c6 ⟨Nat.le_of_ble_eq_true rfl, Nat.le_of_ble_eq_true rfl⟩ (rest := []) rfl (Nat.le_of_ble_eq_true rfl) dX0_within_7 ?_
  refine gz_l2i (pc := 10) hX dX0_within_10 ?_
  obtain rfl := Option.some.inj h
  exact hk _ _ dX0_within_11
theorem ct_X0_within {G : gz_G} {l : Launch} {x0 : Int64} {x2 : Int32}  {m m9 : gM} {r : Int32} (h : cf_X0_within x0 x2 m = some (r, m9)) : gz_Met cS G l yX0_within cX0_within 3 (some .int) (mRm 1 23) [.long x0, .int x2] m m9 (some (.int r)) :=
  gz_ofI (by decide +kernel) (Nat.le_of_ble_eq_true rfl) fun X _ hX hk => wm_X0_within hX h hk
/-! FirstSnuffer.byteAt(I)I -/
noncomputable def cf_X0_byteAt (x1 : Int32) (m : gM) : Option (Int32 × gM) :=
  (if gz_in x1 (1600) then some (((gI m 1010 (gz_ix x1)) &&& (255 : Int32)), m) else none)
theorem wm_X0_byteAt {X : gz_X} {G : gz_G} (hX : gz_C cS X G cX0_byteAt 2 RX0 0 0) {x1 : Int32}  {m : gM} {z : (Int32 × gM)} (h : cf_X0_byteAt x1 m = some z) (hk : (fun z : (Int32 × gM) => gz_kI cS X G 2 (0, 0) cX0_byteAt z.2 z.1) z) : gz_V cS X G 2 (0, 0) m 0 [(0, .ref (gz_ad G 1000)), (1, .int x1)] [] := by
  unfold cf_X0_byteAt at h
  refine gz_aload_n (pc := 0) hX dX0_byteAt_0 rfl 0 rfl ?_
  refine cg_X0_35_0 (pc := 1) hX (c := 1000) (v := .ref (gz_ad G 1010)) (fun h => cz_k h rfl) (fun h => cz_f h (by decide) rfl (by decide) rfl) dX0_byteAt_1 ?_
  refine gz_iload_n (pc := 4) hX dX0_byteAt_4 rfl 1 rfl ?_
  obtain ⟨g1, h⟩ := gz_gu h
  refine gz_bald2 (pc := 5) (c := 1010) (n := 1600) hX rfl (fun h => cz_a h rfl (by decide) rfl) g1 dX0_byteAt_5 ?_
  refine gz_sipush (pc := 6) (v := (255 : Int32)) hX dX0_byteAt_6 (by decide) ?_
  refine gz_iand (pc := 9) hX dX0_byteAt_9 ?_
  obtain rfl := Option.some.inj h
  exact hk _ _ dX0_byteAt_10
theorem ct_X0_byteAt {G : gz_G} {l : Launch} {x1 : Int32}  {m m9 : gM} {r : Int32} (h : cf_X0_byteAt x1 m = some (r, m9)) : gz_Met cS G l yX0_byteAt cX0_byteAt 2 (some .int) (mRm 0 0) [.ref (gz_ad G 1000), .int x1] m m9 (some (.int r)) :=
  gz_ofI (by decide +kernel) (Nat.le_of_ble_eq_true rfl) fun X _ hX hk => wm_X0_byteAt hX h hk
theorem cc_X0_351 {X : gz_X} {G : gz_G} {cc : ByteArray} {nL fr lo pc : Nat} {rem : Nat × Nat} {lv : List (Nat × Value)} {rest st0 : List Value} (hX : gz_C cS X G cc nL RX0 fr lo) {x0 : Int32} {x1 : Int32} {m m9 : gM}  {r : Int32} (h : cf_J8_max x0 x1 m = some (r, m9)) (hroom : 0 + 1 ≤ fr ∧ 8 + (2 + 11) + 0 ≤ lo) (hst : st0 = [.int x1, .int x0] ++ rest) (hW : (rest.map fun v => v.category).sum ≤ 8) (hd : decode cc pc = .ok (.invokestatic 351, 3)) (kk : gz_V cS X G nL rem m9 (pc + 3) lv (.int r :: rest)) : gz_V cS X G nL rem m pc lv st0 :=
  gz_callS hX cs_E (As := [.int x0, .int x1]) (rest := rest) (ct_J8_max (l := X.2.1) h) (lw_S q1643 q870 q181 q871) (n := 2) (by decide +kernel) hroom rfl hst hW hd (rem := rem) kk
theorem cc_X0_276 {X : gz_X} {G : gz_G} {cc : ByteArray} {nL fr lo pc : Nat} {rem : Nat × Nat} {lv : List (Nat × Value)} {rest st0 : List Value} (hX : gz_C cS X G cc nL RX0 fr lo) {x0 : Int32} {x1 : Int32} {m m9 : gM}  {r : Int32} (h : cf_X0_has x0 x1 m = some (r, m9)) (hroom : 0 + 1 ≤ fr ∧ 8 + (2 + 11) + 0 ≤ lo) (hst : st0 = [.int x1, .int x0] ++ rest) (hW : (rest.map fun v => v.category).sum ≤ 8) (hd : decode cc pc = .ok (.invokestatic 276, 3)) (kk : gz_V cS X G nL rem m9 (pc + 3) lv (.int r :: rest)) : gz_V cS X G nL rem m pc lv st0 :=
  gz_callS hX cs_E (As := [.int x0, .int x1]) (rest := rest) (ct_X0_has (l := X.2.1) h) (lw_S q1453 q1124 q167 q1125) (n := 2) (by decide +kernel) hroom rfl hst hW hd (rem := rem) kk
theorem cg_X0_108_0 {X : gz_X} {G : gz_G} {cc : ByteArray} {nL fr lo pc : Nat} {rem : Nat × Nat} {m : gM} {lv : List (Nat × Value)} {st : List Value} (hX : gz_C cS X G cc nL RX0 fr lo) {c : Nat} {v : Value} (hK : clc m.1 m.2.1 m.2.2.2.2.1 → m.1 c = 0 + 1) (hv : clc m.1 m.2.1 m.2.2.2.2.1 → gz_u (gz_ad G) m (ftC 0 21) c 21 = v) (hd : decode cc pc = .ok (.getfield 108, 3)) (kk : gz_V cS X G nL rem m (pc + 3) lv (v :: st)) : gz_V cS X G nL rem m pc lv (.ref (gz_ad G c) :: st) :=
  gz_getf hX (C := RX0) (T := TX0) (N := 28) (ci := 0) (k := 21) rfl (by decide) in_X0 (by decide) (Or.inl (hX.2.2.2.2.1 _ q523)) hd hK hv kk
/-! FirstSnuffer.mostBy(III)I -/
def mP_X0_mostBy_6 (X : gz_X) (G : gz_G) (q : (Int32 × Int32 × Int32 × Int32 × Int32 × gM)) : Prop := gz_V cS X G 8 (0, 0) q.2.2.2.2.2 6 [(0, .ref (gz_ad G 1000)), (1, .int q.1), (2, .int q.2.1), (3, .int q.2.2.1), (4, .int q.2.2.2.1), (5, .int q.2.2.2.2.1)] []
def mP_X0_mostBy_19 (X : gz_X) (G : gz_G) (q : (Int32 × Int32 × Int32 × Int32 × Int32 × Int32 × Int32 × gM)) : Prop := gz_V cS X G 8 (0, 0) q.2.2.2.2.2.2.2 19 [(0, .ref (gz_ad G 1000)), (1, .int q.1), (2, .int q.2.1), (3, .int q.2.2.1), (4, .int q.2.2.2.1), (5, .int q.2.2.2.2.1), (6, .int q.2.2.2.2.2.1), (7, .int q.2.2.2.2.2.2.1)] []
noncomputable def mj_X0_mostBy_76 (x1 : Int32) (x2 : Int32) (x3 : Int32) (x4 : Int32) (x5 : Int32) (x7 : Int32) (s0 : Int32) (s1 : Int32) (m : gM) : Option ((Int32 × Int32 × Int32 × Int32 × Int32 × Int32 × Int32 × gM) ⊕ ((Int32 × Int32 × Int32 × Int32 × Int32 × gM) ⊕ (Int32 × gM))) :=
  gz_let ((s1 + s0)) fun y1 => gz_let (x7 + (1 : Int32)) fun y2 => some (Sum.inl (x1, x2, x3, x4, x5, y1, y2, m))
theorem wb_X0_mostBy_76 {X : gz_X} {G : gz_G} (hX : gz_C cS X G cX0_mostBy 8 RX0 1 21) {x1 : Int32} {x2 : Int32} {x3 : Int32} {x4 : Int32} {x5 : Int32} {x7 : Int32} {s0 : Int32} {s1 : Int32}  {m : gM} {z : ((Int32 × Int32 × Int32 × Int32 × Int32 × Int32 × Int32 × gM) ⊕ ((Int32 × Int32 × Int32 × Int32 × Int32 × gM) ⊕ (Int32 × gM)))} (h : mj_X0_mostBy_76 x1 x2 x3 x4 x5 x7 s0 s1 m = some z) (hk : (Sum.elim (mP_X0_mostBy_19 X G) (Sum.elim (mP_X0_mostBy_6 X G) (fun z : (Int32 × gM) => gz_kI cS X G 8 (0, 0) cX0_mostBy z.2 z.1))) z) : gz_V cS X G 8 (0, 0) m 76 [(0, .ref (gz_ad G 1000)), (1, .int x1), (2, .int x2), (3, .int x3), (4, .int x4), (5, .int x5), (7, .int x7)] [.int s0, .int s1] := by
  unfold mj_X0_mostBy_76 at h
  refine gz_iadd (pc := 76) hX dX0_mostBy_76 ?_
  obtain ⟨y1, ey1, h⟩ := gz_lt h
  refine gz_topi ey1 ?_
  refine gz_istore (pc := 77) (lw := [(6, .int y1), (0, .ref (gz_ad G 1000)), (1, .int x1), (2, .int x2), (3, .int x3), (4, .int x4), (5, .int x5), (7, .int x7)]) hX dX0_mostBy_77 (by decide) rfl ?_
  obtain ⟨y2, ey2, h⟩ := gz_lt h
  refine gz_iinc (pc := 79) (v := y2) (lw := [(7, .int y2), (6, .int y1), (0, .ref (gz_ad G 1000)), (1, .int x1), (2, .int x2), (3, .int x3), (4, .int x4), (5, .int x5)]) hX dX0_mostBy_79 (k := 7) rfl (by rw [ey2]; rfl) (by decide) rfl ?_
  refine gz_goto (pc := 82) (tgt := 19) hX dX0_mostBy_82 (by decide) ?_
  refine gz_sub (lw := [(0, .ref (gz_ad G 1000)), (1, .int x1), (2, .int x2), (3, .int x3), (4, .int x4), (5, .int x5), (6, .int y1), (7, .int y2)]) [2, 3, 4, 5, 6, 7, 1, 0] rfl ?_
  obtain rfl := Option.some.inj h
  exact hk
noncomputable def mj_X0_mostBy_75 (x1 : Int32) (x2 : Int32) (x3 : Int32) (x4 : Int32) (x5 : Int32) (x7 : Int32) (s0 : Int32) (m : gM) : Option ((Int32 × Int32 × Int32 × Int32 × Int32 × Int32 × Int32 × gM) ⊕ ((Int32 × Int32 × Int32 × Int32 × Int32 × gM) ⊕ (Int32 × gM))) :=
  (mj_X0_mostBy_76 x1 x2 x3 x4 x5 x7 (0 : Int32) s0 m)
theorem wb_X0_mostBy_75 {X : gz_X} {G : gz_G} (hX : gz_C cS X G cX0_mostBy 8 RX0 1 21) {x1 : Int32} {x2 : Int32} {x3 : Int32} {x4 : Int32} {x5 : Int32} {x7 : Int32} {s0 : Int32}  {m : gM} {z : ((Int32 × Int32 × Int32 × Int32 × Int32 × Int32 × Int32 × gM) ⊕ ((Int32 × Int32 × Int32 × Int32 × Int32 × gM) ⊕ (Int32 × gM)))} (h : mj_X0_mostBy_75 x1 x2 x3 x4 x5 x7 s0 m = some z) (hk : (Sum.elim (mP_X0_mostBy_19 X G) (Sum.elim (mP_X0_mostBy_6 X G) (fun z : (Int32 × gM) => gz_kI cS X G 8 (0, 0) cX0_mostBy z.2 z.1))) z) : gz_V cS X G 8 (0, 0) m 75 [(0, .ref (gz_ad G 1000)), (1, .int x1), (2, .int x2), (3, .int x3), (4, .int x4), (5, .int x5), (7, .int x7)] [.int s0] := by
  unfold mj_X0_mostBy_75 at h
  refine gz_iconst (pc := 75) (v := (0 : Int32)) hX dX0_mostBy_75 (by decide) ?_
  exact wb_X0_mostBy_76 hX h hk
noncomputable def mb_X0_mostBy_19 (x1 : Int32) (x2 : Int32) (x3 : Int32) (x4 : Int32) (x5 : Int32) (x6 : Int32) (x7 : Int32) (m : gM) : Option ((Int32 × Int32 × Int32 × Int32 × Int32 × Int32 × Int32 × gM) ⊕ ((Int32 × Int32 × Int32 × Int32 × Int32 × gM) ⊕ (Int32 × gM))) :=
  (if (10 : Int32) ≤ x7 then ((cf_J8_max x4 x6 m).bind fun (r2, m3) => gz_let (x5 + (1 : Int32)) fun y5 => some (Sum.inr (Sum.inl (x1, x2, x3, r2, y5, m3)))) else ((cf_X0_has x1 x5 m).bind fun (r6, m7) => (if r6 = (0 : Int32) then (mj_X0_mostBy_75 x1 x2 x3 x4 x5 x7 x6 m7) else ((cf_X0_has x1 x7 m7).bind fun (r10, m11) => (if r10 = (0 : Int32) then (mj_X0_mostBy_75 x1 x2 x3 x4 x5 x7 x6 m11) else (if gz_in x5 (10) then (if gz_in x2 (31) then (if gz_in x3 (8) then (if gz_in x7 (10) then (if gz_in x2 (31) then (if gz_in x3 (8) then (if (gI m11 (1127 + 32 * (gz_ix x5) + 1 + (gz_ix x2)) (gz_ix x3)) = (gI m11 (1127 + 32 * (gz_ix x7) + 1 + (gz_ix x2)) (gz_ix x3)) then (mj_X0_mostBy_76 x1 x2 x3 x4 x5 x7 (1 : Int32) x6 m11) else (mj_X0_mostBy_75 x1 x2 x3 x4 x5 x7 x6 m11)) else none) else none) else none) else none) else none) else none))))))
theorem wb_X0_mostBy_19 {X : gz_X} {G : gz_G} (hX : gz_C cS X G cX0_mostBy 8 RX0 1 21) {x1 : Int32} {x2 : Int32} {x3 : Int32} {x4 : Int32} {x5 : Int32} {x6 : Int32} {x7 : Int32}  {m : gM} {z : ((Int32 × Int32 × Int32 × Int32 × Int32 × Int32 × Int32 × gM) ⊕ ((Int32 × Int32 × Int32 × Int32 × Int32 × gM) ⊕ (Int32 × gM)))} (h : mb_X0_mostBy_19 x1 x2 x3 x4 x5 x6 x7 m = some z) (hk : (Sum.elim (mP_X0_mostBy_19 X G) (Sum.elim (mP_X0_mostBy_6 X G) (fun z : (Int32 × gM) => gz_kI cS X G 8 (0, 0) cX0_mostBy z.2 z.1))) z) : gz_V cS X G 8 (0, 0) m 19 [(0, .ref (gz_ad G 1000)), (1, .int x1), (2, .int x2), (3, .int x3), (4, .int x4), (5, .int x5), (6, .int x6), (7, .int x7)] [] := by
  unfold mb_X0_mostBy_19 at h
  refine gz_iload (pc := 19) hX dX0_mostBy_19 7 rfl ?_
  refine gz_bipush (pc := 21) (v := (10 : Int32)) hX dX0_mostBy_21 (by decide) ?_
  refine gz_icmp_ge (pc := 23) (tgt := 85) hX dX0_mostBy_23 (by decide) (fun g1 => ?_) (fun g1 => ?_)
  · replace h := gz_it' g1 h
    refine gz_iload (pc := 85) hX dX0_mostBy_85 4 rfl ?_
    refine gz_iload (pc := 87) hX dX0_mostBy_87 6 rfl ?_
    obtain ⟨⟨r2, m3⟩, c4, h⟩ := gz_bd h
    refine cc_X0_351 (pc := 89) hX c4 ⟨Nat.le_of_ble_eq_true rfl, Nat.le_of_ble_eq_true rfl⟩ (rest := []) rfl (Nat.le_of_ble_eq_true rfl) dX0_mostBy_89 ?_
    refine gz_istore (pc := 92) (lw := [(4, .int r2), (0, .ref (gz_ad G 1000)), (1, .int x1), (2, .int x2), (3, .int x3), (5, .int x5), (6, .int x6), (7, .int x7)]) hX dX0_mostBy_92 (by decide) rfl ?_
    obtain ⟨y5, ey5, h⟩ := gz_lt h
    refine gz_iinc (pc := 94) (v := y5) (lw := [(5, .int y5), (4, .int r2), (0, .ref (gz_ad G 1000)), (1, .int x1), (2, .int x2), (3, .int x3), (6, .int x6), (7, .int x7)]) hX dX0_mostBy_94 (k := 5) rfl (by rw [ey5]; rfl) (by decide) rfl ?_
    refine gz_goto (pc := 97) (tgt := 6) hX dX0_mostBy_97 (by decide) ?_
    refine gz_sub (lw := [(0, .ref (gz_ad G 1000)), (1, .int x1), (2, .int x2), (3, .int x3), (4, .int r2), (5, .int y5)]) [2, 3, 4, 5, 1, 0] rfl ?_
    obtain rfl := Option.some.inj h
    exact hk
  · replace h := gz_if' g1 h
    refine gz_iload (pc := 26) hX dX0_mostBy_26 6 rfl ?_
    refine gz_iload_n (pc := 28) hX dX0_mostBy_28 rfl 1 rfl ?_
    refine gz_iload (pc := 29) hX dX0_mostBy_29 5 rfl ?_
    obtain ⟨⟨r6, m7⟩, c8, h⟩ := gz_bd h
    refine cc_X0_276 (pc := 31) hX c8 ⟨Nat.le_of_ble_eq_true rfl, Nat.le_of_ble_eq_true rfl⟩ (rest := [.int x6]) rfl (Nat.le_of_ble_eq_true rfl) dX0_mostBy_31 ?_
    refine gz_if_eq (pc := 34) (tgt := 75) hX dX0_mostBy_34 (by decide) (fun g9 => ?_) (fun g9 => ?_)
    · replace h := gz_it' g9 h
      refine gz_sub (lw := [(0, .ref (gz_ad G 1000)), (1, .int x1), (2, .int x2), (3, .int x3), (4, .int x4), (5, .int x5), (7, .int x7)]) [0, 1, 2, 3, 4, 5, 7] rfl ?_
      exact wb_X0_mostBy_75 hX h hk
    · replace h := gz_if' g9 h
      refine gz_iload_n (pc := 37) hX dX0_mostBy_37 rfl 1 rfl ?_
      refine gz_iload (pc := 38) hX dX0_mostBy_38 7 rfl ?_
      obtain ⟨⟨r10, m11⟩, c12, h⟩ := gz_bd h
      refine cc_X0_276 (pc := 40) hX c12 ⟨Nat.le_of_ble_eq_true rfl, Nat.le_of_ble_eq_true rfl⟩ (rest := [.int x6]) rfl (Nat.le_of_ble_eq_true rfl) dX0_mostBy_40 ?_
      refine gz_if_eq (pc := 43) (tgt := 75) hX dX0_mostBy_43 (by decide) (fun g13 => ?_) (fun g13 => ?_)
      · replace h := gz_it' g13 h
        refine gz_sub (lw := [(0, .ref (gz_ad G 1000)), (1, .int x1), (2, .int x2), (3, .int x3), (4, .int x4), (5, .int x5), (7, .int x7)]) [0, 1, 2, 3, 4, 5, 7] rfl ?_
        exact wb_X0_mostBy_75 hX h hk
      · replace h := gz_if' g13 h
        refine gz_aload_n (pc := 46) hX dX0_mostBy_46 rfl 0 rfl ?_
        refine cg_X0_108_0 (pc := 47) hX (c := 1000) (v := .ref (gz_ad G 1126)) (fun h => cz_k h rfl) (fun h => cz_f h (by decide) rfl (by decide) rfl) dX0_mostBy_47 ?_
        refine gz_iload (pc := 50) hX dX0_mostBy_50 5 rfl ?_
        obtain ⟨g14, h⟩ := gz_gu h
        refine gz_aald (pc := 52) (c := 1126) (t := 8) (n := 10) hX rfl rfl rfl (v := .ref (gz_ad G (1127 + 32 * (gz_ix x5)))) (fun h => cz_a h rfl (by decide) rfl) g14 (fun h => cz_e h (by decide) (by1_s _ g14.2) (by omega)) dX0_mostBy_52 ?_
        refine gz_iload_n (pc := 53) hX dX0_mostBy_53 rfl 2 rfl ?_
        obtain ⟨g15, h⟩ := gz_gu h
        refine gz_aald (pc := 54) (c := (1127 + 32 * (gz_ix x5))) (t := 7) (n := 31) hX rfl rfl rfl (v := .ref (gz_ad G (1127 + 32 * (gz_ix x5) + 1 + (gz_ix x2)))) (fun h => cz_a h (by1_a _ g14.2).1 (by decide) (by1_a _ g14.2).2) g15 (fun h => cz_e h (by rw [(by1_a _ g14.2).1]; decide) (by2_s _ g14.2 _ g15.2) (by omega)) dX0_mostBy_54 ?_
        refine gz_iload_n (pc := 55) hX dX0_mostBy_55 rfl 3 rfl ?_
        obtain ⟨g16, h⟩ := gz_gu h
        refine gz_iald2 (pc := 56) (c := (1127 + 32 * (gz_ix x5) + 1 + (gz_ix x2))) (n := 8) hX rfl (fun h => cz_a h (by2_a _ g14.2 _ g15.2).1 (by decide) (by2_a _ g14.2 _ g15.2).2) g16 dX0_mostBy_56 ?_
        refine gz_aload_n (pc := 57) hX dX0_mostBy_57 rfl 0 rfl ?_
        refine cg_X0_108_0 (pc := 58) hX (c := 1000) (v := .ref (gz_ad G 1126)) (fun h => cz_k h rfl) (fun h => cz_f h (by decide) rfl (by decide) rfl) dX0_mostBy_58 ?_
        refine gz_iload (pc := 61) hX dX0_mostBy_61 7 rfl ?_
        obtain ⟨g17, h⟩ := gz_gu h
        refine gz_aald (pc := 63) (c := 1126) (t := 8) (n := 10) hX rfl rfl rfl (v := .ref (gz_ad G (1127 + 32 * (gz_ix x7)))) (fun h => cz_a h rfl (by decide) rfl) g17 (fun h => cz_e h (by decide) (by1_s _ g17.2) (by omega)) dX0_mostBy_63 ?_
        refine gz_iload_n (pc := 64) hX dX0_mostBy_64 rfl 2 rfl ?_
        obtain ⟨g18, h⟩ := gz_gu h
        refine gz_aald (pc := 65) (c := (1127 + 32 * (gz_ix x7))) (t := 7) (n := 31) hX rfl rfl rfl (v := .ref (gz_ad G (1127 + 32 * (gz_ix x7) + 1 + (gz_ix x2)))) (fun h => cz_a h (by1_a _ g17.2).1 (by decide) (by1_a _ g17.2).2) g18 (fun h => cz_e h (by rw [(by1_a _ g17.2).1]; decide) (by2_s _ g17.2 _ g18.2) (by omega)) dX0_mostBy_65 ?_
        refine gz_iload_n (pc := 66) hX dX0_mostBy_66 rfl 3 rfl ?_
        obtain ⟨g19, h⟩ := gz_gu h
        refine gz_iald2 (pc := 67) (c := (1127 + 32 * (gz_ix x7) + 1 + (gz_ix x2))) (n := 8) hX rfl (fun h => cz_a h (by2_a _ g17.2 _ g18.2).1 (by decide) (by2_a _ g17.2 _ g18.2).2) g19 dX0_mostBy_67 ?_
        refine gz_icmp_ne (pc := 68) (tgt := 75) hX dX0_mostBy_68 (by decide) (fun g20 => ?_) (fun g20 => ?_)
        · replace h := gz_if' g20 h
          refine gz_sub (lw := [(0, .ref (gz_ad G 1000)), (1, .int x1), (2, .int x2), (3, .int x3), (4, .int x4), (5, .int x5), (7, .int x7)]) [0, 1, 2, 3, 4, 5, 7] rfl ?_
          exact wb_X0_mostBy_75 hX h hk
        · replace h := gz_it' g20 h
          refine gz_iconst (pc := 71) (v := (1 : Int32)) hX dX0_mostBy_71 (by decide) ?_
          refine gz_goto (pc := 72) (tgt := 76) hX dX0_mostBy_72 (by decide) ?_
          refine gz_sub (lw := [(0, .ref (gz_ad G 1000)), (1, .int x1), (2, .int x2), (3, .int x3), (4, .int x4), (5, .int x5), (7, .int x7)]) [0, 1, 2, 3, 4, 5, 7] rfl ?_
          exact wb_X0_mostBy_76 hX h hk
noncomputable def ml_X0_mostBy_19 (x1 : Int32) (x2 : Int32) (x3 : Int32) (x4 : Int32) (x5 : Int32) (x6 : Int32) (x7 : Int32) (m : gM) : Option ((Int32 × Int32 × Int32 × Int32 × Int32 × gM) ⊕ (Int32 × gM)) := gz_loop (fun q : (Int32 × Int32 × Int32 × Int32 × Int32 × Int32 × Int32 × gM) => mb_X0_mostBy_19 q.1 q.2.1 q.2.2.1 q.2.2.2.1 q.2.2.2.2.1 q.2.2.2.2.2.1 q.2.2.2.2.2.2.1 q.2.2.2.2.2.2.2) (x1, x2, x3, x4, x5, x6, x7, m)
theorem wl_X0_mostBy_19 {X : gz_X} {G : gz_G} (hX : gz_C cS X G cX0_mostBy 8 RX0 1 21) {x1 : Int32} {x2 : Int32} {x3 : Int32} {x4 : Int32} {x5 : Int32} {x6 : Int32} {x7 : Int32}  {m : gM} {z : ((Int32 × Int32 × Int32 × Int32 × Int32 × gM) ⊕ (Int32 × gM))} (h : ml_X0_mostBy_19 x1 x2 x3 x4 x5 x6 x7 m = some z) (hk : (Sum.elim (mP_X0_mostBy_6 X G) (fun z : (Int32 × gM) => gz_kI cS X G 8 (0, 0) cX0_mostBy z.2 z.1)) z) : gz_V cS X G 8 (0, 0) m 19 [(0, .ref (gz_ad G 1000)), (1, .int x1), (2, .int x2), (3, .int x3), (4, .int x4), (5, .int x5), (6, .int x6), (7, .int x7)] [] := by
  have hp : mP_X0_mostBy_19 X G (x1, x2, x3, x4, x5, x6, x7, m) := gz_loop_ind (fun q z hz hkz => wb_X0_mostBy_19 hX  hz hkz) h hk
  exact hp
noncomputable def mb_X0_mostBy_6 (x1 : Int32) (x2 : Int32) (x3 : Int32) (x4 : Int32) (x5 : Int32) (m : gM) : Option ((Int32 × Int32 × Int32 × Int32 × Int32 × gM) ⊕ (Int32 × gM)) :=
  (if (10 : Int32) ≤ x5 then some (Sum.inr (x4, m)) else (ml_X0_mostBy_19 x1 x2 x3 x4 x5 (0 : Int32) (0 : Int32) m))
theorem wb_X0_mostBy_6 {X : gz_X} {G : gz_G} (hX : gz_C cS X G cX0_mostBy 8 RX0 1 21) {x1 : Int32} {x2 : Int32} {x3 : Int32} {x4 : Int32} {x5 : Int32}  {m : gM} {z : ((Int32 × Int32 × Int32 × Int32 × Int32 × gM) ⊕ (Int32 × gM))} (h : mb_X0_mostBy_6 x1 x2 x3 x4 x5 m = some z) (hk : (Sum.elim (mP_X0_mostBy_6 X G) (fun z : (Int32 × gM) => gz_kI cS X G 8 (0, 0) cX0_mostBy z.2 z.1)) z) : gz_V cS X G 8 (0, 0) m 6 [(0, .ref (gz_ad G 1000)), (1, .int x1), (2, .int x2), (3, .int x3), (4, .int x4), (5, .int x5)] [] := by
  unfold mb_X0_mostBy_6 at h
  refine gz_iload (pc := 6) hX dX0_mostBy_6 5 rfl ?_
  refine gz_bipush (pc := 8) (v := (10 : Int32)) hX dX0_mostBy_8 (by decide) ?_
  refine gz_icmp_ge (pc := 10) (tgt := 100) hX dX0_mostBy_10 (by decide) (fun g1 => ?_) (fun g1 => ?_)
  · replace h := gz_it' g1 h
    refine gz_iload (pc := 100) hX dX0_mostBy_100 4 rfl ?_
    obtain rfl := Option.some.inj h
    exact hk _ _ dX0_mostBy_102
  · replace h := gz_if' g1 h
    refine gz_iconst (pc := 13) (v := (0 : Int32)) hX dX0_mostBy_13 (by decide) ?_
    refine gz_istore (pc := 14) (lw := [(6, .int (0 : Int32)), (0, .ref (gz_ad G 1000)), (1, .int x1), (2, .int x2), (3, .int x3), (4, .int x4), (5, .int x5)]) hX dX0_mostBy_14 (by decide) rfl ?_
    refine gz_iconst (pc := 16) (v := (0 : Int32)) hX dX0_mostBy_16 (by decide) ?_
    refine gz_istore (pc := 17) (lw := [(7, .int (0 : Int32)), (6, .int (0 : Int32)), (0, .ref (gz_ad G 1000)), (1, .int x1), (2, .int x2), (3, .int x3), (4, .int x4), (5, .int x5)]) hX dX0_mostBy_17 (by decide) rfl ?_
    refine gz_sub (lw := [(0, .ref (gz_ad G 1000)), (1, .int x1), (2, .int x2), (3, .int x3), (4, .int x4), (5, .int x5), (6, .int (0 : Int32)), (7, .int (0 : Int32))]) [2, 3, 4, 5, 6, 7, 1, 0] rfl ?_
    exact wl_X0_mostBy_19 hX h hk
noncomputable def ml_X0_mostBy_6 (x1 : Int32) (x2 : Int32) (x3 : Int32) (x4 : Int32) (x5 : Int32) (m : gM) : Option (Int32 × gM) := gz_loop (fun q : (Int32 × Int32 × Int32 × Int32 × Int32 × gM) => mb_X0_mostBy_6 q.1 q.2.1 q.2.2.1 q.2.2.2.1 q.2.2.2.2.1 q.2.2.2.2.2) (x1, x2, x3, x4, x5, m)
theorem wl_X0_mostBy_6 {X : gz_X} {G : gz_G} (hX : gz_C cS X G cX0_mostBy 8 RX0 1 21) {x1 : Int32} {x2 : Int32} {x3 : Int32} {x4 : Int32} {x5 : Int32}  {m : gM} {z : (Int32 × gM)} (h : ml_X0_mostBy_6 x1 x2 x3 x4 x5 m = some z) (hk : (fun z : (Int32 × gM) => gz_kI cS X G 8 (0, 0) cX0_mostBy z.2 z.1) z) : gz_V cS X G 8 (0, 0) m 6 [(0, .ref (gz_ad G 1000)), (1, .int x1), (2, .int x2), (3, .int x3), (4, .int x4), (5, .int x5)] [] := by
  have hp : mP_X0_mostBy_6 X G (x1, x2, x3, x4, x5, m) := gz_loop_ind (fun q z hz hkz => wb_X0_mostBy_6 hX  hz hkz) h hk
  exact hp
noncomputable def cf_X0_mostBy (x1 : Int32) (x2 : Int32) (x3 : Int32) (m : gM) : Option (Int32 × gM) :=
  (ml_X0_mostBy_6 x1 x2 x3 (0 : Int32) (0 : Int32) m)
theorem wm_X0_mostBy {X : gz_X} {G : gz_G} (hX : gz_C cS X G cX0_mostBy 8 RX0 1 21) {x1 : Int32} {x2 : Int32} {x3 : Int32}  {m : gM} {z : (Int32 × gM)} (h : cf_X0_mostBy x1 x2 x3 m = some z) (hk : (fun z : (Int32 × gM) => gz_kI cS X G 8 (0, 0) cX0_mostBy z.2 z.1) z) : gz_V cS X G 8 (0, 0) m 0 [(0, .ref (gz_ad G 1000)), (1, .int x1), (2, .int x2), (3, .int x3)] [] := by
  unfold cf_X0_mostBy at h
  refine gz_iconst (pc := 0) (v := (0 : Int32)) hX dX0_mostBy_0 (by decide) ?_
  refine gz_istore (pc := 1) (lw := [(4, .int (0 : Int32)), (0, .ref (gz_ad G 1000)), (1, .int x1), (2, .int x2), (3, .int x3)]) hX dX0_mostBy_1 (by decide) rfl ?_
  refine gz_iconst (pc := 3) (v := (0 : Int32)) hX dX0_mostBy_3 (by decide) ?_
  refine gz_istore (pc := 4) (lw := [(5, .int (0 : Int32)), (4, .int (0 : Int32)), (0, .ref (gz_ad G 1000)), (1, .int x1), (2, .int x2), (3, .int x3)]) hX dX0_mostBy_4 (by decide) rfl ?_
  refine gz_sub (lw := [(0, .ref (gz_ad G 1000)), (1, .int x1), (2, .int x2), (3, .int x3), (4, .int (0 : Int32)), (5, .int (0 : Int32))]) [2, 3, 4, 5, 1, 0] rfl ?_
  exact wl_X0_mostBy_6 hX h hk
theorem ct_X0_mostBy {G : gz_G} {l : Launch} {x1 : Int32} {x2 : Int32} {x3 : Int32}  {m m9 : gM} {r : Int32} (h : cf_X0_mostBy x1 x2 x3 m = some (r, m9)) : gz_Met cS G l yX0_mostBy cX0_mostBy 8 (some .int) (mRm 1 21) [.ref (gz_ad G 1000), .int x1, .int x2, .int x3] m m9 (some (.int r)) :=
  gz_ofI (by decide +kernel) (Nat.le_of_ble_eq_true rfl) fun X _ hX hk => wm_X0_mostBy hX h hk
theorem cg_X0_155_0 {X : gz_X} {G : gz_G} {cc : ByteArray} {nL fr lo pc : Nat} {rem : Nat × Nat} {m : gM} {lv : List (Nat × Value)} {st : List Value} (hX : gz_C cS X G cc nL RX0 fr lo) {c : Nat} {v : Value} (hK : clc m.1 m.2.1 m.2.2.2.2.1 → m.1 c = 0 + 1) (hv : clc m.1 m.2.1 m.2.2.2.2.1 → gz_u (gz_ad G) m (ftC 0 23) c 23 = v) (hd : decode cc pc = .ok (.getfield 155, 3)) (kk : gz_V cS X G nL rem m (pc + 3) lv (v :: st)) : gz_V cS X G nL rem m pc lv (.ref (gz_ad G c) :: st) :=
  gz_getf hX (C := RX0) (T := TX0) (N := 28) (ci := 0) (k := 23) rfl (by decide) in_X0 (by decide) (Or.inl (hX.2.2.2.2.1 _ q525)) hd hK hv kk
theorem cp_X0_155_0 {X : gz_X} {G : gz_G} {cc : ByteArray} {nL fr lo pc : Nat} {rem : Nat × Nat} {m m9 : gM} {lv : List (Nat × Value)} {st : List Value} (hX : gz_C cS X G cc nL RX0 fr lo) {c : Nat} {x : Int32} (hK : clc m.1 m.2.1 m.2.2.2.2.1 → m.1 c = 0 + 1) (hw : 1000 ≤ c) (hd : decode cc pc = .ok (.putfield 155, 3)) (hm : m9 = gz_sI m c 23 x) (kk : gz_V cS X G nL rem m9 (pc + 3) lv st) : gz_V cS X G nL rem m pc lv (.int x :: .ref (gz_ad G c) :: st) := by
  subst hm
  exact gz_putf hX (C := RX0) (T := TX0) (N := 28) (ci := 0) (k := 23) (ty := .int) (μ' := gz_sI m c 23 x) rfl (by decide) in_X0 tyX0 tyX0_ok nmX0 (by decide) (Or.inl (hX.2.2.2.2.1 _ q525)) rfl rfl rfl rfl hd hK hw rfl rfl rfl (fun d tc j h => gz_sI_o d tc j h) (gz_sI_v (fun j => ftC 0 j) rfl) (fun h => h) kk
theorem cg_X0_111_0 {X : gz_X} {G : gz_G} {cc : ByteArray} {nL fr lo pc : Nat} {rem : Nat × Nat} {m : gM} {lv : List (Nat × Value)} {st : List Value} (hX : gz_C cS X G cc nL RX0 fr lo) {c : Nat} {v : Value} (hK : clc m.1 m.2.1 m.2.2.2.2.1 → m.1 c = 0 + 1) (hv : clc m.1 m.2.1 m.2.2.2.2.1 → gz_u (gz_ad G) m (ftC 0 22) c 22 = v) (hd : decode cc pc = .ok (.getfield 111, 3)) (kk : gz_V cS X G nL rem m (pc + 3) lv (v :: st)) : gz_V cS X G nL rem m pc lv (.ref (gz_ad G c) :: st) :=
  gz_getf hX (C := RX0) (T := TX0) (N := 28) (ci := 0) (k := 22) rfl (by decide) in_X0 (by decide) (Or.inl (hX.2.2.2.2.1 _ q524)) hd hK hv kk
theorem cc_X0_294 {X : gz_X} {G : gz_G} {cc : ByteArray} {nL fr lo pc : Nat} {rem : Nat × Nat} {lv : List (Nat × Value)} {rest st0 : List Value} (hX : gz_C cS X G cc nL RX0 fr lo) {c0 : Nat} {c1 : Nat} {m m9 : gM} (hK : clc m.1 m.2.1 m.2.2.2.2.1 → m.1 c0 = 5 + 1) (hs_c0 : cSt c0 = true) (hs_c1 : cSt c1 = true) {r : Nat} (h : cf_X5_copy c0 c1 m = some (r, m9)) (hroom : 0 + 1 ≤ fr ∧ 8 + (4 + 11) + 0 ≤ lo) (hst : st0 = [.ref (gz_ad G c1), .ref (gz_ad G c0)] ++ rest) (hW : (rest.map fun v => v.category).sum ≤ 8) (hd : decode cc pc = .ok (.invokevirtual 294, 3)) (kk : gz_V cS X G nL rem m9 (pc + 3) lv (.ref (gz_ad G r) :: rest)) : gz_V cS X G nL rem m pc lv st0 :=
  gz_callV2 hX cs_E (As := [.ref (gz_ad G c1)]) (rest := rest) (q := (RX5, TX5, 10)) (ci := 5) (c := c0) (ct_X5_copy (l := X.2.1) hs_c0 hs_c1 h) (lw_V q1517 q1518 q1519 q178 q1520) (n := 1) (by decide +kernel) hroom rfl rfl (by decide) hK hst hW hd (rem := rem) kk
/-! FirstSnuffer.undo()Z -/
noncomputable def cf_X0_undo  (m : gM) : Option (Int32 × gM) :=
  (if (gI m 1000 23) = (0 : Int32) then ((cf_X0_refuses (4 : Int32) m).bind fun (r10, m11) => (if r10 < (0 : Int32) then some ((0 : Int32), m11) else some ((1 : Int32), m11))) else gz_let (gz_sI m 1000 23 ((gI m 1000 23) - (1 : Int32))) fun m2 => (if gz_in (gI m2 1000 23) (20) then gz_let (gP m2 1447 (gz_ix (gI m2 1000 23))) fun r4 => (if r4 ≠ 0 ∧ cSt r4 = true then ((cf_X5_copy 1027 r4 m2).bind fun (r6, m7) => (if cSt r6 = true then some ((1 : Int32), m7) else none)) else none) else none))
theorem wm_X0_undo {X : gz_X} {G : gz_G} (hX : gz_C cS X G cX0_undo 1 RX0 1 23)   {m : gM} {z : (Int32 × gM)} (h : cf_X0_undo  m = some z) (hk : (fun z : (Int32 × gM) => gz_kZ cS X G 1 (0, 0) cX0_undo z.2 z.1) z) : gz_V cS X G 1 (0, 0) m 0 [(0, .ref (gz_ad G 1000))] [] := by
  unfold cf_X0_undo at h
  refine gz_aload_n (pc := 0) hX dX0_undo_0 rfl 0 rfl ?_
  refine cg_X0_155_0 (pc := 1) hX (c := 1000) (v := .int (gI m 1000 23)) (fun h => cz_k h rfl) (fun _ => rfl) dX0_undo_1 ?_
  refine gz_if_ne (pc := 4) (tgt := 21) hX dX0_undo_4 (by decide) (fun g1 => ?_) (fun g1 => ?_)
  · replace h := gz_if' g1 h
    refine gz_aload_n (pc := 21) hX dX0_undo_21 rfl 0 rfl ?_
    refine gz_dup (pc := 22) hX dX0_undo_22 rfl ?_
    refine cg_X0_155_0 (pc := 23) hX (c := 1000) (v := .int (gI m 1000 23)) (fun h => cz_k h rfl) (fun _ => rfl) dX0_undo_23 ?_
    refine gz_iconst (pc := 26) (v := (1 : Int32)) hX dX0_undo_26 (by decide) ?_
    refine gz_isub (pc := 27) hX dX0_undo_27 ?_
    obtain ⟨m2, em2, h⟩ := gz_lt h
    refine cp_X0_155_0 (pc := 28) hX (c := 1000) (fun h => cz_k h rfl) (Nat.le_of_ble_eq_true rfl) dX0_undo_28 em2 ?_
    refine gz_aload_n (pc := 31) hX dX0_undo_31 rfl 0 rfl ?_
    refine cg_X0_74_0 (pc := 32) hX (c := 1000) (v := .ref (gz_ad G 1027)) (fun h => cz_k h rfl) (fun h => cz_f h (by decide) rfl (by decide) rfl) dX0_undo_32 ?_
    refine gz_aload_n (pc := 35) hX dX0_undo_35 rfl 0 rfl ?_
    refine cg_X0_111_0 (pc := 36) hX (c := 1000) (v := .ref (gz_ad G 1447)) (fun h => cz_k h rfl) (fun h => cz_f h (by decide) rfl (by decide) rfl) dX0_undo_36 ?_
    refine gz_aload_n (pc := 39) hX dX0_undo_39 rfl 0 rfl ?_
    refine cg_X0_155_0 (pc := 40) hX (c := 1000) (v := .int (gI m2 1000 23)) (fun h => cz_k h rfl) (fun _ => rfl) dX0_undo_40 ?_
    obtain ⟨g3, h⟩ := gz_gu h
    obtain ⟨r4, er4, h⟩ := gz_lt h
    obtain ⟨g5, h⟩ := gz_gu h
    refine gz_aald (pc := 43) (c := 1447) (t := 9) (n := 20) hX rfl rfl rfl (v := .ref (gz_ad G r4)) (fun h => cz_a h rfl (by decide) rfl) g3 (fun _ => gz_rq er4 g5.1) dX0_undo_43 ?_
    obtain ⟨⟨r6, m7⟩, c8, h⟩ := gz_bd h
    obtain ⟨g9, h⟩ := gz_gu h
    refine cc_X0_294 (pc := 44) hX (fun h => cz_k h rfl) (by decide) g5.2 c8 ⟨Nat.le_of_ble_eq_true rfl, Nat.le_of_ble_eq_true rfl⟩ (rest := []) rfl (Nat.le_of_ble_eq_true rfl) dX0_undo_44 ?_
    refine gz_pop (pc := 47) hX dX0_undo_47 rfl ?_
    refine gz_iconst (pc := 48) (v := (1 : Int32)) hX dX0_undo_48 (by decide) ?_
    obtain rfl := Option.some.inj h
    exact hk _ _ dX0_undo_49 (Or.inr rfl)
  · replace h := gz_it' g1 h
    refine gz_aload_n (pc := 7) hX dX0_undo_7 rfl 0 rfl ?_
    refine gz_iconst (pc := 8) (v := (4 : Int32)) hX dX0_undo_8 (by decide) ?_
    obtain ⟨⟨r10, m11⟩, c12, h⟩ := gz_bd h
    refine cc_X0_125 (pc := 9) hX (fun h => cz_k h rfl) c12 ⟨Nat.le_of_ble_eq_true rfl, Nat.le_of_ble_eq_true rfl⟩ (rest := []) rfl (Nat.le_of_ble_eq_true rfl) dX0_undo_9 ?_
    refine gz_if_lt (pc := 12) (tgt := 19) hX dX0_undo_12 (by decide) (fun g13 => ?_) (fun g13 => ?_)
    · replace h := gz_it' g13 h
      refine gz_iconst (pc := 19) (v := (0 : Int32)) hX dX0_undo_19 (by decide) ?_
      obtain rfl := Option.some.inj h
      exact hk _ _ dX0_undo_20 (Or.inl rfl)
    · replace h := gz_if' g13 h
      refine gz_iconst (pc := 15) (v := (1 : Int32)) hX dX0_undo_15 (by decide) ?_
      refine gz_goto (pc := 16) (tgt := 20) hX dX0_undo_16 (by decide) ?_
      obtain rfl := Option.some.inj h
      exact hk _ _ dX0_undo_20 (Or.inr rfl)
theorem ct_X0_undo {G : gz_G} {l : Launch}   {m m9 : gM} {r : Int32} (h : cf_X0_undo  m = some (r, m9)) : gz_Met cS G l yX0_undo cX0_undo 1 (some .boolean) (mRm 1 23) [.ref (gz_ad G 1000)] m m9 (some (.int r)) :=
  gz_ofZ (by decide +kernel) (Nat.le_of_ble_eq_true rfl) fun X _ hX hk => wm_X0_undo hX h hk
