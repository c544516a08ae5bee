set_option maxRecDepth 100000
theorem cc_J9_335 {X : gz_X} {G : gz_G} {cc : ByteArray} {nL fr lo pc : Nat} {rem : Nat × Nat} {lv : List (Nat × Value)} {rest st0 : List Value} (hX : gz_C cS X G cc nL RJ9 fr lo) {c0 : Nat} {m m9 : gM} (hK : clc m.1 m.2.1 m.2.2.2.2.1 → m.1 c0 = 21 + 1)  {r : Int32} (h : cf_J9_coder c0 m = some (r, m9)) (hroom : 0 + 1 ≤ fr ∧ 8 + (1 + 11) + 0 ≤ lo) (hst : st0 = [.ref (gz_ad G c0)] ++ rest) (hW : (rest.map fun v => v.category).sum ≤ 8) (hd : decode cc pc = .ok (.invokevirtual 335, 3)) (kk : gz_V cS X G nL rem m9 (pc + 3) lv (.int r :: rest)) : gz_V cS X G nL rem m pc lv st0 :=
  gz_callV2 hX cs_E (As := []) (rest := rest) (q := (RJ9, TJ9, 4)) (ci := 21) (c := c0) (ct_J9_coder (l := X.2.1) h) (lw_V q818 q819 q820 q183 q821) (n := 0) (by decide +kernel) hroom rfl rfl (by decide) hK hst hW hd (rem := rem) kk
/-! java/lang/String.length()I -/
noncomputable def cf_J9_length (c0 : Nat) (m : gM) : Option (Int32 × gM) :=
  (if gK m c0 = 22 then gz_let (gP m c0 0) fun r2 => (if r2 ≠ 0 then (if gK m r2 = 102 then (if gK m c0 = 22 then ((cf_J9_coder c0 m).bind fun (r6, m7) => some (((nI (gN m r2)) >>> (r6 &&& 31)), m7)) else none) else none) else none) else none)
theorem wm_J9_length {X : gz_X} {G : gz_G} (hX : gz_C cS X G cJ9_length 1 RJ9 1 20) {c0 : Nat}  {m : gM} {z : (Int32 × gM)} (h : cf_J9_length c0 m = some z) (hk : (fun z : (Int32 × gM) => gz_kI cS X G 1 (0, 0) cJ9_length z.2 z.1) z) : gz_V cS X G 1 (0, 0) m 0 [(0, .ref (gz_ad G c0))] [] := by
  unfold cf_J9_length at h
  refine gz_aload_n (pc := 0) hX dJ9_length_0 rfl 0 rfl ?_
  obtain ⟨g1, h⟩ := gz_gu h
  obtain ⟨r2, er2, h⟩ := gz_lt h
  obtain ⟨g3, h⟩ := gz_gu h
  refine cg_J9_9_21 (pc := 1) hX (c := c0) (v := .ref (gz_ad G r2)) (fun _ => g1) (fun _ => gz_rq er2 g3) dJ9_length_1 ?_
  obtain ⟨g4, h⟩ := gz_gu h
  refine gz_alen2 (pc := 4) (c := r2) (t := 1) (n := gN m r2) hX rfl (fun _ => ⟨g4, rfl⟩) dJ9_length_4 ?_
  refine gz_aload_n (pc := 5) hX dJ9_length_5 rfl 0 rfl ?_
  obtain ⟨g5, h⟩ := gz_gu h
  obtain ⟨⟨r6, m7⟩, c8, h⟩ := gz_bd h
  refine cc_J9_335 (pc := 6) hX (fun _ => g5) c8 ⟨Nat.le_of_ble_eq_true rfl, Nat.le_of_ble_eq_true rfl⟩ (rest := [.int (nI (gN m r2))]) rfl (Nat.le_of_ble_eq_true rfl) dJ9_length_6 ?_
  refine gz_ishr (pc := 9) hX dJ9_length_9 ?_
  obtain rfl := Option.some.inj h
  exact hk _ _ dJ9_length_10
theorem ct_J9_length {G : gz_G} {l : Launch} {c0 : Nat}  {m m9 : gM} {r : Int32} (h : cf_J9_length c0 m = some (r, m9)) : gz_Met cS G l yJ9_length cJ9_length 1 (some .int) (mRm 1 20) [.ref (gz_ad G c0)] m m9 (some (.int r)) :=
  gz_ofI (by decide +kernel) (Nat.le_of_ble_eq_true rfl) fun X _ hX hk => wm_J9_length hX h hk
theorem cc_J9_1059 {X : gz_X} {G : gz_G} {cc : ByteArray} {nL fr lo pc : Nat} {rem : Nat × Nat} {lv : List (Nat × Value)} {rest st0 : List Value} (hX : gz_C cS X G cc nL RJ9 fr lo) {x0 : Int32} {x1 : Int32} {w2 : Value} {m m9 : gM}  (hw2 : w2 = .null ∨ ∃ a, w2 = .ref a) {r : Int32} (h : cf_J7_checkIndex x0 x1 m = some (r, m9)) (hroom : 0 + 1 ≤ fr ∧ 8 + (3 + 11) + 0 ≤ lo) (hst : st0 = [w2, .int x1, .int x0] ++ rest) (hW : (rest.map fun v => v.category).sum ≤ 8) (hd : decode cc pc = .ok (.invokestatic 1059, 3)) (kk : gz_V cS X G nL rem m9 (pc + 3) lv (.int r :: rest)) : gz_V cS X G nL rem m pc lv st0 :=
  gz_callS hX cs_E (As := [.int x0, .int x1, w2]) (rest := rest) (ct_J7_checkIndex (l := X.2.1) hw2 h) (lw_S q1218 q486 q180 q487) (n := 3) (by decide +kernel) hroom rfl hst hW hd (rem := rem) kk
/-! java/lang/String.checkIndex(II)V -/
noncomputable def cf_J9_checkIndex (x0 : Int32) (x1 : Int32) (m : gM) : Option (Unit × gM) :=
  ((cf_J7_checkIndex x0 x1 m).bind fun (r2, m3) => some ((), m3))
theorem wm_J9_checkIndex {X : gz_X} {G : gz_G} (hX : gz_C cS X G cJ9_checkIndex 2 RJ9 1 22) {x0 : Int32} {x1 : Int32}  {m : gM} {z : (Unit × gM)} (h : cf_J9_checkIndex x0 x1 m = some z) (hk : (fun z : (Unit × gM) => gz_kV cS X G 2 (0, 0) cJ9_checkIndex z.2) z) : gz_V cS X G 2 (0, 0) m 0 [(0, .int x0), (1, .int x1)] [] := by
  unfold cf_J9_checkIndex at h
  refine gz_iload_n (pc := 0) hX dJ9_checkIndex_0 rfl 0 rfl ?_
  refine gz_iload_n (pc := 1) hX dJ9_checkIndex_1 rfl 1 rfl ?_
  obtain ⟨w1, hw1, zw1⟩ := (cz_s hX).2.2.2.2
  refine gz_gets (pc := 2) hX zw1 (Or.inl (hX.2.2.2.2.1 _ q704)) dJ9_checkIndex_2 ?_
  obtain ⟨⟨r2, m3⟩, c4, h⟩ := gz_bd h
  refine cc_J9_1059 (pc := 5) hX hw1 c4 ⟨Nat.le_of_ble_eq_true rfl, Nat.le_of_ble_eq_true rfl⟩ (rest := []) rfl (Nat.le_of_ble_eq_true rfl) dJ9_checkIndex_5 ?_
  refine gz_pop (pc := 8) hX dJ9_checkIndex_8 rfl ?_
  obtain rfl := Option.some.inj h
  exact hk _ _ dJ9_checkIndex_9
theorem ct_J9_checkIndex {G : gz_G} {l : Launch} {x0 : Int32} {x1 : Int32}  {m m9 : gM} (h : cf_J9_checkIndex x0 x1 m = some ((), m9)) : gz_Met cS G l yJ9_checkIndex cJ9_checkIndex 2 none (mRm 1 22) [.int x0, .int x1] m m9 none :=
  gz_ofV (by decide +kernel) (Nat.le_of_ble_eq_true rfl) fun X _ hX hk => wm_J9_checkIndex hX h hk
theorem cc_X9_1 {X : gz_X} {G : gz_G} {cc : ByteArray} {nL fr lo pc : Nat} {rem : Nat × Nat} {lv : List (Nat × Value)} {rest st0 : List Value} (hX : gz_C cS X G cc nL RX9 fr lo) {c0 : Nat} {c1 : Nat} {m m9 : gM}  (h : cf_X7_init c0 c1 m = some ((), m9)) (hroom : 1 + 1 ≤ fr ∧ 8 + (2 + 11) + 20 ≤ lo) (hst : st0 = [.ref (gz_ad G c1), .ref (gz_ad G c0)] ++ rest) (hW : (rest.map fun v => v.category).sum ≤ 8) (hd : decode cc pc = .ok (.invokespecial 1, 3)) (kk : gz_V cS X G nL rem m9 (pc + 3) lv (rest)) : gz_V cS X G nL rem m pc lv st0 :=
  gz_callI hX cs_E (As := [.ref (gz_ad G c1)]) (rest := rest) (c := c0) (ct_X7_init (l := X.2.1) h) q837 q187 q975 q836 rfl (n := 1) (by decide +kernel) hroom rfl hst hW hd (rem := rem) kk
theorem cp_X9_7_8 {X : gz_X} {G : gz_G} {cc : ByteArray} {nL fr lo pc : Nat} {rem : Nat × Nat} {m m9 : gM} {lv : List (Nat × Value)} {st : List Value} (hX : gz_C cS X G cc nL RX9 fr lo) (hn0 : X.2.2.2.2.2.2.2.2.1.name = "<init>") {c : Nat} {x : Int32} (hK : clc m.1 m.2.1 m.2.2.2.2.1 → m.1 c = 8 + 1) (hw : 1000 ≤ c) (hd : decode cc pc = .ok (.putfield 7, 3)) (hm : m9 = gz_sI m c 1 x) (kk : gz_V cS X G nL rem m9 (pc + 3) lv st) : gz_V cS X G nL rem m pc lv (.int x :: .ref (gz_ad G c) :: st) := by
  subst hm
  exact gz_putff hX (C := RX9) (T := TX9) (N := 4) (ci := 8) (k := 1) (ty := .int) (μ' := gz_sI m c 1 x) rfl (by decide) in_X9 tyX9 tyX9_ok nmX9 (by decide) (hX.2.2.2.2.1 _ q976) (fun _ h => h) rfl hn0 rfl rfl rfl rfl hd hK hw rfl rfl rfl (fun d tc j h => gz_sI_o d tc j h) (gz_sI_v (fun j => ftC 8 j) rfl) (fun h => h) kk
theorem cp_X9_13_8 {X : gz_X} {G : gz_G} {cc : ByteArray} {nL fr lo pc : Nat} {rem : Nat × Nat} {m m9 : gM} {lv : List (Nat × Value)} {st : List Value} (hX : gz_C cS X G cc nL RX9 fr lo) (hn0 : X.2.2.2.2.2.2.2.2.1.name = "<init>") {c : Nat} {x : Int32} (hK : clc m.1 m.2.1 m.2.2.2.2.1 → m.1 c = 8 + 1) (hw : 1000 ≤ c) (hd : decode cc pc = .ok (.putfield 13, 3)) (hm : m9 = gz_sI m c 2 x) (kk : gz_V cS X G nL rem m9 (pc + 3) lv st) : gz_V cS X G nL rem m pc lv (.int x :: .ref (gz_ad G c) :: st) := by
  subst hm
  exact gz_putff hX (C := RX9) (T := TX9) (N := 4) (ci := 8) (k := 2) (ty := .int) (μ' := gz_sI m c 2 x) rfl (by decide) in_X9 tyX9 tyX9_ok nmX9 (by decide) (hX.2.2.2.2.1 _ q979) (fun _ h => h) rfl hn0 rfl rfl rfl rfl hd hK hw rfl rfl rfl (fun d tc j h => gz_sI_o d tc j h) (gz_sI_v (fun j => ftC 8 j) rfl) (fun h => h) kk
theorem cp_X9_16_8 {X : gz_X} {G : gz_G} {cc : ByteArray} {nL fr lo pc : Nat} {rem : Nat × Nat} {m m9 : gM} {lv : List (Nat × Value)} {st : List Value} (hX : gz_C cS X G cc nL RX9 fr lo) (hn0 : X.2.2.2.2.2.2.2.2.1.name = "<init>") {c : Nat} {x : Int32} (hK : clc m.1 m.2.1 m.2.2.2.2.1 → m.1 c = 8 + 1) (hw : 1000 ≤ c) (hd : decode cc pc = .ok (.putfield 16, 3)) (hm : m9 = gz_sI m c 3 x) (kk : gz_V cS X G nL rem m9 (pc + 3) lv st) : gz_V cS X G nL rem m pc lv (.int x :: .ref (gz_ad G c) :: st) := by
  subst hm
  exact gz_putff hX (C := RX9) (T := TX9) (N := 4) (ci := 8) (k := 3) (ty := .int) (μ' := gz_sI m c 3 x) rfl (by decide) in_X9 tyX9 tyX9_ok nmX9 (by decide) (hX.2.2.2.2.1 _ q981) (fun _ h => h) rfl hn0 rfl rfl rfl rfl hd hK hw rfl rfl rfl (fun d tc j h => gz_sI_o d tc j h) (gz_sI_v (fun j => ftC 8 j) rfl) (fun h => h) kk
/-! FirstSnuffer$Burning.<init>(Ljava/lang/String;III)V -/
noncomputable def cf_X9_init (c0 : Nat) (c1 : Nat) (x2 : Int32) (x3 : Int32) (x4 : Int32) (m : gM) : Option (Unit × gM) :=
  ((cf_X7_init c0 c1 m).bind fun (_, m2) => (if gK m2 c0 = 9 then (if 1000 ≤ c0 then gz_let (gz_sI m2 c0 1 x2) fun m6 => (if gK m6 c0 = 9 then (if 1000 ≤ c0 then gz_let (gz_sI m6 c0 2 x3) fun m9 => (if gK m9 c0 = 9 then (if 1000 ≤ c0 then gz_let (gz_sI m9 c0 3 x4) fun m12 => some ((), m12) else none) else none) else none) else none) else none) else none))
theorem wm_X9_init {X : gz_X} {G : gz_G} (hX : gz_C cS X G cX9_init 5 RX9 2 41) (hn0 : X.2.2.2.2.2.2.2.2.1.name = "<init>") {c0 : Nat} {c1 : Nat} {x2 : Int32} {x3 : Int32} {x4 : Int32}  {m : gM} {z : (Unit × gM)} (h : cf_X9_init c0 c1 x2 x3 x4 m = some z) (hk : (fun z : (Unit × gM) => gz_kV cS X G 5 (0, 0) cX9_init z.2) z) : gz_V cS X G 5 (0, 0) m 0 [(0, .ref (gz_ad G c0)), (1, .ref (gz_ad G c1)), (2, .int x2), (3, .int x3), (4, .int x4)] [] := by
  unfold cf_X9_init at h
  refine gz_aload_n (pc := 0) hX dX9_init_0 rfl 0 rfl ?_
  refine gz_aload_n (pc := 1) hX dX9_init_1 rfl 1 rfl ?_
  obtain ⟨⟨⟨⟩, m2⟩, c3, h⟩ := gz_bd h
  refine cc_X9_1 (pc := 2) hX c3 ⟨Nat.le_of_ble_eq_true rfl, Nat.le_of_ble_eq_true rfl⟩ (rest := []) rfl (Nat.le_of_ble_eq_true rfl) dX9_init_2 ?_
  refine gz_aload_n (pc := 5) hX dX9_init_5 rfl 0 rfl ?_
  refine gz_iload_n (pc := 6) hX dX9_init_6 rfl 2 rfl ?_
  obtain ⟨g4, h⟩ := gz_gu h
  obtain ⟨g5, h⟩ := gz_gu h
  obtain ⟨m6, em6, h⟩ := gz_lt h
  refine cp_X9_7_8 (pc := 7) hX hn0 (c := c0) (fun _ => g4) g5 dX9_init_7 em6 ?_
  refine gz_aload_n (pc := 10) hX dX9_init_10 rfl 0 rfl ?_
  refine gz_iload_n (pc := 11) hX dX9_init_11 rfl 3 rfl ?_
  obtain ⟨g7, h⟩ := gz_gu h
  obtain ⟨g8, h⟩ := gz_gu h
  obtain ⟨m9, em9, h⟩ := gz_lt h
  refine cp_X9_13_8 (pc := 12) hX hn0 (c := c0) (fun _ => g7) g8 dX9_init_12 em9 ?_
  refine gz_aload_n (pc := 15) hX dX9_init_15 rfl 0 rfl ?_
  refine gz_iload (pc := 16) hX dX9_init_16 4 rfl ?_
  obtain ⟨g10, h⟩ := gz_gu h
  obtain ⟨g11, h⟩ := gz_gu h
  obtain ⟨m12, em12, h⟩ := gz_lt h
  refine cp_X9_16_8 (pc := 18) hX hn0 (c := c0) (fun _ => g10) g11 dX9_init_18 em12 ?_
  obtain rfl := Option.some.inj h
  exact hk _ _ dX9_init_21
theorem ct_X9_init {G : gz_G} {l : Launch} {c0 : Nat} {c1 : Nat} {x2 : Int32} {x3 : Int32} {x4 : Int32}  {m m9 : gM} (h : cf_X9_init c0 c1 x2 x3 x4 m = some ((), m9)) : gz_Met cS G l yX9_init cX9_init 5 none (mRm 2 41) [.ref (gz_ad G c0), .ref (gz_ad G c1), .int x2, .int x3, .int x4] m m9 none :=
  gz_ofVc (by decide +kernel) (Nat.le_of_ble_eq_true rfl) fun X _ hn hX hk => wm_X9_init hX hn h hk
theorem cc_J1_1 {X : gz_X} {G : gz_G} {cc : ByteArray} {nL fr lo pc : Nat} {rem : Nat × Nat} {lv : List (Nat × Value)} {rest st0 : List Value} (hX : gz_C cS X G cc nL RJ1 fr lo) {c0 : Nat} {m m9 : gM}  (h : cf_J0_init c0 m = some ((), m9)) (hroom : 1 + 1 ≤ fr ∧ 8 + (1 + 11) + 20 ≤ lo) (hst : st0 = [.ref (gz_ad G c0)] ++ rest) (hW : (rest.map fun v => v.category).sum ≤ 8) (hd : decode cc pc = .ok (.invokespecial 1, 3)) (kk : gz_V cS X G nL rem m9 (pc + 3) lv (rest)) : gz_V cS X G nL rem m pc lv st0 :=
  gz_callI hX cs_E (As := []) (rest := rest) (c := c0) (ct_J0_init (l := X.2.1) h) q232 q169 q230 q231 rfl (n := 0) (by decide +kernel) hroom rfl hst hW hd (rem := rem) kk
theorem cp_J1_7_20 {X : gz_X} {G : gz_G} {cc : ByteArray} {nL fr lo pc : Nat} {rem : Nat × Nat} {m m9 : gM} {lv : List (Nat × Value)} {st : List Value} (hX : gz_C cS X G cc nL RJ1 fr lo) {c : Nat} {x : Int32} (hK : clc m.1 m.2.1 m.2.2.2.2.1 → m.1 c = 20 + 1) (hw : 1000 ≤ c) (hd : decode cc pc = .ok (.putfield 7, 3)) (hm : m9 = gz_sI m c 0 x) (kk : gz_V cS X G nL rem m9 (pc + 3) lv st) : gz_V cS X G nL rem m pc lv (.int x :: .ref (gz_ad G c) :: st) := by
  subst hm
  exact gz_putf hX (C := RJ2) (T := TJ2) (N := 3) (ci := 20) (k := 0) (ty := .int) (μ' := gz_sI m c 0 x) rfl (by decide) in_J2 tyJ2 tyJ2_ok nmJ2 (by decide) (Or.inl (hX.2.2.2.2.1 _ q240)) rfl rfl rfl rfl hd hK hw rfl rfl rfl (fun d tc j h => gz_sI_o d tc j h) (gz_sI_v (fun j => ftC 20 j) rfl) (fun h => h) kk
/-! java/util/AbstractList.<init>()V -/
noncomputable def cf_J1_init (c0 : Nat) (m : gM) : Option (Unit × gM) :=
  ((cf_J0_init c0 m).bind fun (_, m2) => (if gK m2 c0 = 21 then (if 1000 ≤ c0 then gz_let (gz_sI m2 c0 0 (0 : Int32)) fun m6 => some ((), m6) else none) else none))
theorem wm_J1_init {X : gz_X} {G : gz_G} (hX : gz_C cS X G cJ1_init 1 RJ1 2 40) (hn0 : X.2.2.2.2.2.2.2.2.1.name = "<init>") {c0 : Nat}  {m : gM} {z : (Unit × gM)} (h : cf_J1_init c0 m = some z) (hk : (fun z : (Unit × gM) => gz_kV cS X G 1 (0, 0) cJ1_init z.2) z) : gz_V cS X G 1 (0, 0) m 0 [(0, .ref (gz_ad G c0))] [] := by
  unfold cf_J1_init at h
  refine gz_aload_n (pc := 0) hX dJ1_init_0 rfl 0 rfl ?_
  obtain ⟨⟨⟨⟩, m2⟩, c3, h⟩ := gz_bd h
  refine cc_J1_1 (pc := 1) hX c3 ⟨Nat.le_of_ble_eq_true rfl, Nat.le_of_ble_eq_true rfl⟩ (rest := []) rfl (Nat.le_of_ble_eq_true rfl) dJ1_init_1 ?_
  refine gz_aload_n (pc := 4) hX dJ1_init_4 rfl 0 rfl ?_
  refine gz_iconst (pc := 5) (v := (0 : Int32)) hX dJ1_init_5 (by decide) ?_
  obtain ⟨g4, h⟩ := gz_gu h
  obtain ⟨g5, h⟩ := gz_gu h
  obtain ⟨m6, em6, h⟩ := gz_lt h
  refine cp_J1_7_20 (pc := 6) hX (c := c0) (fun _ => g4) g5 dJ1_init_6 em6 ?_
  obtain rfl := Option.some.inj h
  exact hk _ _ dJ1_init_9
theorem ct_J1_init {G : gz_G} {l : Launch} {c0 : Nat}  {m m9 : gM} (h : cf_J1_init c0 m = some ((), m9)) : gz_Met cS G l yJ1_init cJ1_init 1 none (mRm 2 40) [.ref (gz_ad G c0)] m m9 none :=
  gz_ofVc (by decide +kernel) (Nat.le_of_ble_eq_true rfl) fun X _ hn hX hk => wm_J1_init hX hn h hk
theorem cg_J14_79_22 {X : gz_X} {G : gz_G} {cc : ByteArray} {nL fr lo pc : Nat} {rem : Nat × Nat} {m : gM} {lv : List (Nat × Value)} {st : List Value} (hX : gz_C cS X G cc nL RJ14 fr lo) {c : Nat} {v : Value} (hK : clc m.1 m.2.1 m.2.2.2.2.1 → m.1 c = 22 + 1) (hv : clc m.1 m.2.1 m.2.2.2.2.1 → gz_u (gz_ad G) m (ftC 22 3) c 3 = v) (hd : decode cc pc = .ok (.getfield 79, 3)) (kk : gz_V cS X G nL rem m (pc + 3) lv (v :: st)) : gz_V cS X G nL rem m pc lv (.ref (gz_ad G c) :: st) :=
  gz_getf hX (C := RJ15) (T := TJ15) (N := 4) (ci := 22) (k := 3) rfl (by decide) in_J15 (by decide) (Or.inl (hX.2.2.2.2.1 _ q1058)) hd hK hv kk
theorem cc_J14_138 {X : gz_X} {G : gz_G} {cc : ByteArray} {nL fr lo pc : Nat} {rem : Nat × Nat} {lv : List (Nat × Value)} {rest st0 : List Value} (hX : gz_C cS X G cc nL RJ14 fr lo) {x0 : Int32} {x1 : Int32} {m m9 : gM}  {r : Int32} (h : cf_J8_min x0 x1 m = some (r, m9)) (hroom : 0 + 1 ≤ fr ∧ 8 + (2 + 11) + 0 ≤ lo) (hst : st0 = [.int x1, .int x0] ++ rest) (hW : (rest.map fun v => v.category).sum ≤ 8) (hd : decode cc pc = .ok (.invokestatic 138, 3)) (kk : gz_V cS X G nL rem m9 (pc + 3) lv (.int r :: rest)) : gz_V cS X G nL rem m pc lv st0 :=
  gz_callS hX cs_E (As := [.int x0, .int x1]) (rest := rest) (ct_J8_min (l := X.2.1) h) (lw_S q1469 q494 q181 q495) (n := 2) (by decide +kernel) hroom rfl hst hW hd (rem := rem) kk
theorem cc_J14_144 {X : gz_X} {G : gz_G} {cc : ByteArray} {nL fr lo pc : Nat} {rem : Nat × Nat} {lv : List (Nat × Value)} {rest st0 : List Value} (hX : gz_C cS X G cc nL RJ14 fr lo) {x0 : Int32} {x1 : Int32} {m m9 : gM}  (h : cf_J9_checkIndex x0 x1 m = some ((), m9)) (hroom : 1 + 1 ≤ fr ∧ 8 + (2 + 11) + 22 ≤ lo) (hst : st0 = [.int x1, .int x0] ++ rest) (hW : (rest.map fun v => v.category).sum ≤ 8) (hd : decode cc pc = .ok (.invokestatic 144, 3)) (kk : gz_V cS X G nL rem m9 (pc + 3) lv (rest)) : gz_V cS X G nL rem m pc lv st0 :=
  gz_callS hX cs_E (As := [.int x0, .int x1]) (rest := rest) (ct_J9_checkIndex (l := X.2.1) h) (lw_S q1470 q1216 q183 q1217) (n := 2) (by decide +kernel) hroom rfl hst hW hd (rem := rem) kk
theorem cc_J14_148 {X : gz_X} {G : gz_G} {cc : ByteArray} {nL fr lo pc : Nat} {rem : Nat × Nat} {lv : List (Nat × Value)} {rest st0 : List Value} (hX : gz_C cS X G cc nL RJ14 fr lo) {c0 : Nat} {x1 : Int32} {m m9 : gM}  {r : Int32} (h : cf_J10_getChar c0 x1 m = some (r, m9)) (hroom : 1 + 1 ≤ fr ∧ 8 + (2 + 11) + 20 ≤ lo) (hst : st0 = [.int x1, .ref (gz_ad G c0)] ++ rest) (hW : (rest.map fun v => v.category).sum ≤ 8) (hd : decode cc pc = .ok (.invokestatic 148, 3)) (kk : gz_V cS X G nL rem m9 (pc + 3) lv (.int r :: rest)) : gz_V cS X G nL rem m pc lv st0 :=
  gz_callS hX cs_E (As := [.ref (gz_ad G c0), .int x1]) (rest := rest) (ct_J10_getChar (l := X.2.1) h) (lw_S q1471 q693 q184 q694) (n := 2) (by decide +kernel) hroom rfl hst hW hd (rem := rem) kk
/-! java/lang/AbstractStringBuilder.charAt(I)C -/
noncomputable def cf_J14_charAt (c0 : Nat) (x1 : Int32) (m : gM) : Option (Int32 × gM) :=
  (if gK m c0 = 23 then gz_let ((gI m c0 1)) fun y2 => (if gK m c0 = 23 then gz_let (gP m c0 0) fun r4 => (if r4 ≠ 0 then (if gK m c0 = 23 then (if gK m r4 = 102 then ((cf_J8_min (gI m c0 3) ((nI (gN m r4)) >>> (y2 &&& 31)) m).bind fun (r8, m9) => ((cf_J9_checkIndex x1 r8 m9).bind fun (_, m12) => (if y2 = (0 : Int32) then (if gK m12 r4 = 102 then (if gz_in x1 (gN m12 r4) then (if ((((gI m12 r4 (gz_ix x1)) &&& (255 : Int32)).toUInt32 % 65536).toInt32).toUInt32.toUInt16.toUInt32.toInt32 = ((((gI m12 r4 (gz_ix x1)) &&& (255 : Int32)).toUInt32 % 65536).toInt32) then some (((((gI m12 r4 (gz_ix x1)) &&& (255 : Int32)).toUInt32 % 65536).toInt32), m12) else none) else none) else none) else ((cf_J10_getChar r4 x1 m12).bind fun (r15, m16) => (if r15.toUInt32.toUInt16.toUInt32.toInt32 = r15 then some (r15, m16) else none))))) else none) else none) else none) else none) else none)
theorem wm_J14_charAt {X : gz_X} {G : gz_G} (hX : gz_C cS X G cJ14_charAt 5 RJ14 2 43) {c0 : Nat} {x1 : Int32}  {m : gM} {z : (Int32 × gM)} (h : cf_J14_charAt c0 x1 m = some z) (hk : (fun z : (Int32 × gM) => gz_kN cS X G 5 (0, 0) cJ14_charAt .char z.2 z.1) z) : gz_V cS X G 5 (0, 0) m 0 [(0, .ref (gz_ad G c0)), (1, .int x1)] [] := by
  unfold cf_J14_charAt at h
  refine gz_aload_n (pc := 0) hX dJ14_charAt_0 rfl 0 rfl ?_
  obtain ⟨g1, h⟩ := gz_gu h
  refine cg_J14_22_22 (pc := 1) hX (c := c0) (v := .int (gI m c0 1)) (fun _ => g1) (fun _ => rfl) dJ14_charAt_1 ?_
  obtain ⟨y2, ey2, h⟩ := gz_lt h
  refine gz_topi ey2 ?_
  refine gz_istore_n (pc := 4) (lw := [(2, .int y2), (0, .ref (gz_ad G c0)), (1, .int x1)]) hX dJ14_charAt_4 rfl (by decide) rfl ?_
  refine gz_aload_n (pc := 5) hX dJ14_charAt_5 rfl 1 rfl ?_
  obtain ⟨g3, h⟩ := gz_gu h
  obtain ⟨r4, er4, h⟩ := gz_lt h
  obtain ⟨g5, h⟩ := gz_gu h
  refine cg_J14_15_22 (pc := 6) hX (c := c0) (v := .ref (gz_ad G r4)) (fun _ => g3) (fun _ => gz_rq er4 g5) dJ14_charAt_6 ?_
  refine gz_astore_n (pc := 9) (lw := [(3, .ref (gz_ad G r4)), (2, .int y2), (0, .ref (gz_ad G c0)), (1, .int x1)]) hX dJ14_charAt_9 rfl (by decide) rfl ?_
  refine gz_aload_n (pc := 10) hX dJ14_charAt_10 rfl 2 rfl ?_
  obtain ⟨g6, h⟩ := gz_gu h
  refine cg_J14_79_22 (pc := 11) hX (c := c0) (v := .int (gI m c0 3)) (fun _ => g6) (fun _ => rfl) dJ14_charAt_11 ?_
  refine gz_aload_n (pc := 14) hX dJ14_charAt_14 rfl 0 rfl ?_
  obtain ⟨g7, h⟩ := gz_gu h
  refine gz_alen2 (pc := 15) (c := r4) (t := 1) (n := gN m r4) hX rfl (fun _ => ⟨g7, rfl⟩) dJ14_charAt_15 ?_
  refine gz_iload_n (pc := 16) hX dJ14_charAt_16 rfl 1 rfl ?_
  refine gz_ishr (pc := 17) hX dJ14_charAt_17 ?_
  obtain ⟨⟨r8, m9⟩, c10, h⟩ := gz_bd h
  refine cc_J14_138 (pc := 18) hX c10 ⟨Nat.le_of_ble_eq_true rfl, Nat.le_of_ble_eq_true rfl⟩ (rest := []) rfl (Nat.le_of_ble_eq_true rfl) dJ14_charAt_18 ?_
  refine gz_istore (pc := 21) (lw := [(4, .int r8), (3, .ref (gz_ad G r4)), (2, .int y2), (0, .ref (gz_ad G c0)), (1, .int x1)]) hX dJ14_charAt_21 (by decide) rfl ?_
  refine gz_iload_n (pc := 23) hX dJ14_charAt_23 rfl 4 rfl ?_
  refine gz_iload (pc := 24) hX dJ14_charAt_24 0 rfl ?_
  obtain ⟨⟨⟨⟩, m12⟩, c13, h⟩ := gz_bd h
  refine cc_J14_144 (pc := 26) hX c13 ⟨Nat.le_of_ble_eq_true rfl, Nat.le_of_ble_eq_true rfl⟩ (rest := []) rfl (Nat.le_of_ble_eq_true rfl) dJ14_charAt_26 ?_
  refine gz_iload_n (pc := 29) hX dJ14_charAt_29 rfl 2 rfl ?_
  refine gz_if_ne (pc := 30) (tgt := 42) hX dJ14_charAt_30 (by decide) (fun g14 => ?_) (fun g14 => ?_)
  · replace h := gz_if' g14 h
    refine gz_aload_n (pc := 42) hX dJ14_charAt_42 rfl 1 rfl ?_
    refine gz_iload_n (pc := 43) hX dJ14_charAt_43 rfl 4 rfl ?_
    obtain ⟨⟨r15, m16⟩, c17, h⟩ := gz_bd h
    refine cc_J14_148 (pc := 44) hX c17 ⟨Nat.le_of_ble_eq_true rfl, Nat.le_of_ble_eq_true rfl⟩ (rest := []) rfl (Nat.le_of_ble_eq_true rfl) dJ14_charAt_44 ?_
    obtain ⟨g18, h⟩ := gz_gu h
    obtain rfl := Option.some.inj h
    exact hk _ _ dJ14_charAt_47 (congrArg Value.int g18)
  · replace h := gz_it' g14 h
    refine gz_aload_n (pc := 33) hX dJ14_charAt_33 rfl 1 rfl ?_
    refine gz_iload_n (pc := 34) hX dJ14_charAt_34 rfl 4 rfl ?_
    obtain ⟨g19, h⟩ := gz_gu h
    obtain ⟨g20, h⟩ := gz_gu h
    refine gz_bald2 (pc := 35) (c := r4) (n := gN m12 r4) hX rfl (fun _ => ⟨g19, rfl⟩) g20 dJ14_charAt_35 ?_
    refine gz_sipush (pc := 36) (v := (255 : Int32)) hX dJ14_charAt_36 (by decide) ?_
    refine gz_iand (pc := 39) hX dJ14_charAt_39 ?_
    refine gz_i2c (pc := 40) hX dJ14_charAt_40 ?_
    obtain ⟨g21, h⟩ := gz_gu h
    obtain rfl := Option.some.inj h
    exact hk _ _ dJ14_charAt_41 (congrArg Value.int g21)
theorem ct_J14_charAt {G : gz_G} {l : Launch} {c0 : Nat} {x1 : Int32}  {m m9 : gM} {r : Int32} (h : cf_J14_charAt c0 x1 m = some (r, m9)) : gz_Met cS G l yJ14_charAt cJ14_charAt 5 (some .char) (mRm 2 43) [.ref (gz_ad G c0), .int x1] m m9 (some (.int r)) :=
  gz_ofN (by decide +kernel) (Nat.le_of_ble_eq_true rfl) fun X _ hX hk => wm_J14_charAt hX h hk
theorem cc_X21_1 {X : gz_X} {G : gz_G} {cc : ByteArray} {nL fr lo pc : Nat} {rem : Nat × Nat} {lv : List (Nat × Value)} {rest st0 : List Value} (hX : gz_C cS X G cc nL RX21 fr lo) {c0 : Nat} {m m9 : gM}  (h : cf_X17_init c0 m = some ((), m9)) (hroom : 1 + 1 ≤ fr ∧ 8 + (1 + 11) + 20 ≤ lo) (hst : st0 = [.ref (gz_ad G c0)] ++ rest) (hW : (rest.map fun v => v.category).sum ≤ 8) (hd : decode cc pc = .ok (.invokespecial 1, 3)) (kk : gz_V cS X G nL rem m9 (pc + 3) lv (rest)) : gz_V cS X G nL rem m pc lv st0 :=
  gz_callIN hX cs_E (As := []) (rest := rest) (c := c0) (ct_X17_init (l := X.2.1) h) q1236 (cz_n (Z := cS) hX q1284 rfl) q201 q1235 rfl (n := 0) (by decide +kernel) hroom rfl hst hW hd (rem := rem) kk
theorem cp_X21_7_18 {X : gz_X} {G : gz_G} {cc : ByteArray} {nL fr lo pc : Nat} {rem : Nat × Nat} {m m9 : gM} {lv : List (Nat × Value)} {st : List Value} (hX : gz_C cS X G cc nL RX21 fr lo) (hn0 : X.2.2.2.2.2.2.2.2.1.name = "<init>") {c : Nat} {r : Nat} (hK : clc m.1 m.2.1 m.2.2.2.2.1 → m.1 c = 18 + 1) (hw : 1000 ≤ c) (hs : sr c 0 = 0 ∧ r ≠ 0) (hd : decode cc pc = .ok (.putfield 7, 3)) (hm : m9 = gz_sP m c 0 r) (kk : gz_V cS X G nL rem m9 (pc + 3) lv st) : gz_V cS X G nL rem m pc lv (.ref (gz_ad G r) :: .ref (gz_ad G c) :: st) := by
  subst hm
  exact gz_putff hX (C := RX21) (T := TX21) (N := 3) (ci := 18) (k := 0) (μ' := gz_sP m c 0 r) (v := .ref (gz_ad G r)) rfl (by decide) in_X21 tyX21 tyX21_ok nmX21 (by decide) (hX.2.2.2.2.1 _ q1285) (fun _ h => h) rfl hn0 rfl rfl rfl rfl hd hK hw rfl rfl rfl (fun d tc j h => gz_sP_o d tc j h) (by intro j; rw [← gz_rfp hs.2]; exact gz_sP_v (fun j => ftC 18 j) rfl j) (clc_sP hs.1) kk
theorem cp_X21_13_18 {X : gz_X} {G : gz_G} {cc : ByteArray} {nL fr lo pc : Nat} {rem : Nat × Nat} {m m9 : gM} {lv : List (Nat × Value)} {st : List Value} (hX : gz_C cS X G cc nL RX21 fr lo) (hn0 : X.2.2.2.2.2.2.2.2.1.name = "<init>") {c : Nat} {x : Int32} (hK : clc m.1 m.2.1 m.2.2.2.2.1 → m.1 c = 18 + 1) (hw : 1000 ≤ c) (hd : decode cc pc = .ok (.putfield 13, 3)) (hm : m9 = gz_sI m c 2 x) (kk : gz_V cS X G nL rem m9 (pc + 3) lv st) : gz_V cS X G nL rem m pc lv (.int x :: .ref (gz_ad G c) :: st) := by
  subst hm
  exact gz_putff hX (C := RX21) (T := TX21) (N := 3) (ci := 18) (k := 2) (ty := .int) (μ' := gz_sI m c 2 x) rfl (by decide) in_X21 tyX21 tyX21_ok nmX21 (by decide) (hX.2.2.2.2.1 _ q1287) (fun _ h => h) rfl hn0 rfl rfl rfl rfl hd hK hw rfl rfl rfl (fun d tc j h => gz_sI_o d tc j h) (gz_sI_v (fun j => ftC 18 j) rfl) (fun h => h) kk
theorem cp_X21_17_18 {X : gz_X} {G : gz_G} {cc : ByteArray} {nL fr lo pc : Nat} {rem : Nat × Nat} {m m9 : gM} {lv : List (Nat × Value)} {st : List Value} (hX : gz_C cS X G cc nL RX21 fr lo) (hn0 : X.2.2.2.2.2.2.2.2.1.name = "<init>") {c : Nat} {r : Nat} (hK : clc m.1 m.2.1 m.2.2.2.2.1 → m.1 c = 18 + 1) (hw : 1000 ≤ c) (hs : sr c 1 = 0 ∧ r ≠ 0) (hd : decode cc pc = .ok (.putfield 17, 3)) (hm : m9 = gz_sP m c 1 r) (kk : gz_V cS X G nL rem m9 (pc + 3) lv st) : gz_V cS X G nL rem m pc lv (.ref (gz_ad G r) :: .ref (gz_ad G c) :: st) := by
  subst hm
  exact gz_putff hX (C := RX21) (T := TX21) (N := 3) (ci := 18) (k := 1) (μ' := gz_sP m c 1 r) (v := .ref (gz_ad G r)) rfl (by decide) in_X21 tyX21 tyX21_ok nmX21 (by decide) (hX.2.2.2.2.1 _ q1286) (fun _ h => h) rfl hn0 rfl rfl rfl rfl hd hK hw rfl rfl rfl (fun d tc j h => gz_sP_o d tc j h) (by intro j; rw [← gz_rfp hs.2]; exact gz_sP_v (fun j => ftC 18 j) rfl j) (clc_sP hs.1) kk
/-! FirstSnuffer$Than.<init>(LFirstSnuffer$Value;ILFirstSnuffer$Value;)V -/
noncomputable def cf_X21_init (c0 : Nat) (c1 : Nat) (x2 : Int32) (c3 : Nat) (m : gM) : Option (Unit × gM) :=
  ((cf_X17_init c0 m).bind fun (_, m2) => (if gK m2 c0 = 19 then (if 1000 ≤ c0 then (if sr c0 0 = 0 ∧ c1 ≠ 0 then gz_let (gz_sP m2 c0 0 c1) fun m7 => (if gK m7 c0 = 19 then (if 1000 ≤ c0 then gz_let (gz_sI m7 c0 2 x2) fun m10 => (if gK m10 c0 = 19 then (if 1000 ≤ c0 then (if sr c0 1 = 0 ∧ c3 ≠ 0 then gz_let (gz_sP m10 c0 1 c3) fun m14 => some ((), m14) else none) else none) else none) else none) else none) else none) else none) else none))
theorem wm_X21_init {X : gz_X} {G : gz_G} (hX : gz_C cS X G cX21_init 4 RX21 2 40) (hn0 : X.2.2.2.2.2.2.2.2.1.name = "<init>") {c0 : Nat} {c1 : Nat} {x2 : Int32} {c3 : Nat}  {m : gM} {z : (Unit × gM)} (h : cf_X21_init c0 c1 x2 c3 m = some z) (hk : (fun z : (Unit × gM) => gz_kV cS X G 4 (0, 0) cX21_init z.2) z) : gz_V cS X G 4 (0, 0) m 0 [(0, .ref (gz_ad G c0)), (1, .ref (gz_ad G c1)), (2, .int x2), (3, .ref (gz_ad G c3))] [] := by
  unfold cf_X21_init at h
  refine gz_aload_n (pc := 0) hX dX21_init_0 rfl 0 rfl ?_
  obtain ⟨⟨⟨⟩, m2⟩, c3, h⟩ := gz_bd h
  refine cc_X21_1 (pc := 1) hX c3 ⟨Nat.le_of_ble_eq_true rfl, Nat.le_of_ble_eq_true rfl⟩ (rest := []) rfl (Nat.le_of_ble_eq_true rfl) dX21_init_1 ?_
  refine gz_aload_n (pc := 4) hX dX21_init_4 rfl 0 rfl ?_
  refine gz_aload_n (pc := 5) hX dX21_init_5 rfl 1 rfl ?_
  obtain ⟨g4, h⟩ := gz_gu h
  obtain ⟨g5, h⟩ := gz_gu h
  obtain ⟨g6, h⟩ := gz_gu h
  obtain ⟨m7, em7, h⟩ := gz_lt h
  refine cp_X21_7_18 (pc := 6) hX hn0 (c := c0) (fun _ => g4) g5 g6 dX21_init_6 em7 ?_
  refine gz_aload_n (pc := 9) hX dX21_init_9 rfl 0 rfl ?_
  refine gz_iload_n (pc := 10) hX dX21_init_10 rfl 2 rfl ?_
  obtain ⟨g8, h⟩ := gz_gu h
  obtain ⟨g9, h⟩ := gz_gu h
  obtain ⟨m10, em10, h⟩ := gz_lt h
  refine cp_X21_13_18 (pc := 11) hX hn0 (c := c0) (fun _ => g8) g9 dX21_init_11 em10 ?_
  refine gz_aload_n (pc := 14) hX dX21_init_14 rfl 0 rfl ?_
  refine gz_aload_n (pc := 15) hX dX21_init_15 rfl 3 rfl ?_
  obtain ⟨g11, h⟩ := gz_gu h
  obtain ⟨g12, h⟩ := gz_gu h
  obtain ⟨g13, h⟩ := gz_gu h
  obtain ⟨m14, em14, h⟩ := gz_lt h
  refine cp_X21_17_18 (pc := 16) hX hn0 (c := c0) (fun _ => g11) g12 g13 dX21_init_16 em14 ?_
  obtain rfl := Option.some.inj h
  exact hk _ _ dX21_init_19
theorem ct_X21_init {G : gz_G} {l : Launch} {c0 : Nat} {c1 : Nat} {x2 : Int32} {c3 : Nat}  {m m9 : gM} (h : cf_X21_init c0 c1 x2 c3 m = some ((), m9)) : gz_Met cS G l yX21_init cX21_init 4 none (mRm 2 40) [.ref (gz_ad G c0), .ref (gz_ad G c1), .int x2, .ref (gz_ad G c3)] m m9 none :=
  gz_ofVc (by decide +kernel) (Nat.le_of_ble_eq_true rfl) fun X _ hn hX hk => wm_X21_init hX hn h hk
theorem cc_X5_121 {X : gz_X} {G : gz_G} {cc : ByteArray} {nL fr lo pc : Nat} {rem : Nat × Nat} {lv : List (Nat × Value)} {rest st0 : List Value} (hX : gz_C cS X G cc nL RX5 fr lo) {c0 : Nat} {x1 : Int32} {x2 : Int32} {m m9 : gM} (hK : clc m.1 m.2.1 m.2.2.2.2.1 → m.1 c0 = 5 + 1) (hs_c0 : cSt c0 = true) (h : cf_X5_tellsOf c0 x1 x2 m = some ((), m9)) (hroom : 0 + 1 ≤ fr ∧ 8 + (5 + 11) + 0 ≤ lo) (hst : st0 = [.int x2, .int x1, .ref (gz_ad G c0)] ++ rest) (hW : (rest.map fun v => v.category).sum ≤ 8) (hd : decode cc pc = .ok (.invokevirtual 121, 3)) (kk : gz_V cS X G nL rem m9 (pc + 3) lv (rest)) : gz_V cS X G nL rem m pc lv st0 :=
  gz_callV2 hX cs_E (As := [.int x1, .int x2]) (rest := rest) (q := (RX5, TX5, 10)) (ci := 5) (c := c0) (ct_X5_tellsOf (l := X.2.1) hs_c0 h) (lw_V q1542 q1544 qs52 q178 q1545) (n := 2) (by decide +kernel) hroom rfl rfl (by decide) hK hst hW hd (rem := rem) kk
/-! FirstSnuffer$State.goesOut(II)V -/
noncomputable def cf_X5_goesOut (c0 : Nat) (x1 : Int32) (x2 : Int32) (m : gM) : Option (Unit × gM) :=
  (if gz_in x1 (8) then gz_let (gz_sI m (c0 + 1) (gz_ix x1) (0 : Int32)) fun m2 => (if gz_in x1 (8) then gz_let (gz_sI m2 (c0 + 3) (gz_ix x1) (0 : Int32)) fun m4 => ((cf_X5_tellsOf c0 x1 x2 m4).bind fun (_, m6) => some ((), m6)) else none) else none)
theorem wm_X5_goesOut {X : gz_X} {G : gz_G} (hX : gz_C cS X G cX5_goesOut 3 RX5 1 24) {c0 : Nat} {x1 : Int32} {x2 : Int32} (hs_c0 : cSt c0 = true) {m : gM} {z : (Unit × gM)} (h : cf_X5_goesOut c0 x1 x2 m = some z) (hk : (fun z : (Unit × gM) => gz_kV cS X G 3 (0, 0) cX5_goesOut z.2) z) : gz_V cS X G 3 (0, 0) m 0 [(0, .ref (gz_ad G c0)), (1, .int x1), (2, .int x2)] [] := by
  unfold cf_X5_goesOut at h
  refine gz_aload_n (pc := 0) hX dX5_goesOut_0 rfl 0 rfl ?_
  refine cg_X5_15_5 (pc := 1) hX (c := c0) (v := .ref (gz_ad G (c0 + 1))) (fun h => cz_k h (st_k hs_c0)) (fun h => cz_f h (st_0 hs_c0) (st_f4 hs_c0) (by omega) rfl) dX5_goesOut_1 ?_
  refine gz_iload_n (pc := 4) hX dX5_goesOut_4 rfl 1 rfl ?_
  refine gz_iconst (pc := 5) (v := (0 : Int32)) hX dX5_goesOut_5 (by decide) ?_
  obtain ⟨g1, h⟩ := gz_gu h
  obtain ⟨m2, em2, h⟩ := gz_lt h
  refine gz_iast2 (pc := 6) (c := (c0 + 1)) (n := 8) hX rfl (fun h => cz_a h (st_a1 hs_c0).1 (by decide) (st_a1 hs_c0).2) (st_w1 hs_c0 1) g1 dX5_goesOut_6 em2 ?_
  refine gz_aload_n (pc := 7) hX dX5_goesOut_7 rfl 0 rfl ?_
  refine cg_X5_22_5 (pc := 8) hX (c := c0) (v := .ref (gz_ad G (c0 + 3))) (fun h => cz_k h (st_k hs_c0)) (fun h => cz_f h (st_0 hs_c0) (st_f6 hs_c0) (by omega) rfl) dX5_goesOut_8 ?_
  refine gz_iload_n (pc := 11) hX dX5_goesOut_11 rfl 1 rfl ?_
  refine gz_iconst (pc := 12) (v := (0 : Int32)) hX dX5_goesOut_12 (by decide) ?_
  obtain ⟨g3, h⟩ := gz_gu h
  obtain ⟨m4, em4, h⟩ := gz_lt h
  refine gz_iast2 (pc := 13) (c := (c0 + 3)) (n := 8) hX rfl (fun h => cz_a h (st_a3 hs_c0).1 (by decide) (st_a3 hs_c0).2) (st_w1 hs_c0 3) g3 dX5_goesOut_13 em4 ?_
  refine gz_aload_n (pc := 14) hX dX5_goesOut_14 rfl 0 rfl ?_
  refine gz_iload_n (pc := 15) hX dX5_goesOut_15 rfl 1 rfl ?_
  refine gz_iload_n (pc := 16) hX dX5_goesOut_16 rfl 2 rfl ?_
  obtain ⟨⟨⟨⟩, m6⟩, c7, h⟩ := gz_bd h
  refine cc_X5_121 (pc := 17) hX (fun h => cz_k h (st_k hs_c0)) hs_c0 c7 ⟨Nat.le_of_ble_eq_true rfl, Nat.le_of_ble_eq_true rfl⟩ (rest := []) rfl (Nat.le_of_ble_eq_true rfl) dX5_goesOut_17 ?_
  obtain rfl := Option.some.inj h
  exact hk _ _ dX5_goesOut_20
theorem ct_X5_goesOut {G : gz_G} {l : Launch} {c0 : Nat} {x1 : Int32} {x2 : Int32} (hs_c0 : cSt c0 = true) {m m9 : gM} (h : cf_X5_goesOut c0 x1 x2 m = some ((), m9)) : gz_Met cS G l yX5_goesOut cX5_goesOut 3 none (mRm 1 24) [.ref (gz_ad G c0), .int x1, .int x2] m m9 none :=
  gz_ofV (by decide +kernel) (Nat.le_of_ble_eq_true rfl) fun X _ hX hk => wm_X5_goesOut hX hs_c0 h hk
theorem cc_X5_73 {X : gz_X} {G : gz_G} {cc : ByteArray} {nL fr lo pc : Nat} {rem : Nat × Nat} {lv : List (Nat × Value)} {rest st0 : List Value} (hX : gz_C cS X G cc nL RX5 fr lo) {c0 : Nat} {x1 : Int32} {m m9 : gM} (hK : clc m.1 m.2.1 m.2.2.2.2.1 → m.1 c0 = 5 + 1) (hs_c0 : cSt c0 = true) {r : Int32} (h : cf_X5_isLit c0 x1 m = some (r, m9)) (hroom : 0 + 1 ≤ fr ∧ 8 + (2 + 11) + 0 ≤ lo) (hst : st0 = [.int x1, .ref (gz_ad G c0)] ++ rest) (hW : (rest.map fun v => v.category).sum ≤ 8) (hd : decode cc pc = .ok (.invokevirtual 73, 3)) (kk : gz_V cS X G nL rem m9 (pc + 3) lv (.int r :: rest)) : gz_V cS X G nL rem m pc lv st0 :=
  gz_callV2 hX cs_E (As := [.int x1]) (rest := rest) (q := (RX5, TX5, 10)) (ci := 5) (c := c0) (ct_X5_isLit (l := X.2.1) hs_c0 h) (lw_V q1332 q1333 q1334 q178 q1335) (n := 1) (by decide +kernel) hroom rfl rfl (by decide) hK hst hW hd (rem := rem) kk
theorem cc_X5_159 {X : gz_X} {G : gz_G} {cc : ByteArray} {nL fr lo pc : Nat} {rem : Nat × Nat} {lv : List (Nat × Value)} {rest st0 : List Value} (hX : gz_C cS X G cc nL RX5 fr lo) {x0 : Int32} {x1 : Int32} {m m9 : gM}  {r : Int32} (h : cf_J8_max x0 x1 m = some (r, m9)) (hroom : 0 + 1 ≤ fr ∧ 8 + (2 + 11) + 0 ≤ lo) (hst : st0 = [.int x1, .int x0] ++ rest) (hW : (rest.map fun v => v.category).sum ≤ 8) (hd : decode cc pc = .ok (.invokestatic 159, 3)) (kk : gz_V cS X G nL rem m9 (pc + 3) lv (.int r :: rest)) : gz_V cS X G nL rem m pc lv st0 :=
  gz_callS hX cs_E (As := [.int x0, .int x1]) (rest := rest) (ct_J8_max (l := X.2.1) h) (lw_S q1617 q870 q181 q871) (n := 2) (by decide +kernel) hroom rfl hst hW hd (rem := rem) kk
theorem cc_X5_134 {X : gz_X} {G : gz_G} {cc : ByteArray} {nL fr lo pc : Nat} {rem : Nat × Nat} {lv : List (Nat × Value)} {rest st0 : List Value} (hX : gz_C cS X G cc nL RX5 fr lo) {c0 : Nat} {x1 : Int32} {x2 : Int32} {m m9 : gM} (hK : clc m.1 m.2.1 m.2.2.2.2.1 → m.1 c0 = 5 + 1) (hs_c0 : cSt c0 = true) (h : cf_X5_goesOut c0 x1 x2 m = some ((), m9)) (hroom : 1 + 1 ≤ fr ∧ 8 + (3 + 11) + 24 ≤ lo) (hst : st0 = [.int x2, .int x1, .ref (gz_ad G c0)] ++ rest) (hW : (rest.map fun v => v.category).sum ≤ 8) (hd : decode cc pc = .ok (.invokevirtual 134, 3)) (kk : gz_V cS X G nL rem m9 (pc + 3) lv (rest)) : gz_V cS X G nL rem m pc lv st0 :=
  gz_callV2 hX cs_E (As := [.int x1, .int x2]) (rest := rest) (q := (RX5, TX5, 10)) (ci := 5) (c := c0) (ct_X5_goesOut (l := X.2.1) hs_c0 h) (lw_V q1538 q1540 qs51 q178 q1541) (n := 2) (by decide +kernel) hroom rfl rfl (by decide) hK hst hW hd (rem := rem) kk
/-! FirstSnuffer$State.blows(I)V -/
noncomputable def cf_X5_blows (c0 : Nat) (x1 : Int32) (m : gM) : Option (Unit × gM) :=
  ((cf_X5_isLit c0 x1 m).bind fun (r1, m2) => (if r1 = (0 : Int32) then some ((), m2) else (if gz_in x1 (8) then ((cf_J8_max (0 : Int32) ((gI m2 (c0 + 1) (gz_ix x1)) - (10 : Int32)) m2).bind fun (r6, m7) => (if gz_in x1 (8) then gz_let (gz_sI m7 (c0 + 1) (gz_ix x1) r6) fun m10 => (if gz_in x1 (8) then (if (gI m10 (c0 + 1) (gz_ix x1)) = (0 : Int32) then ((cf_X5_goesOut c0 x1 (3 : Int32) m10).bind fun (_, m14) => some ((), m14)) else some ((), m10)) else none) else none)) else none)))
theorem wm_X5_blows {X : gz_X} {G : gz_G} (hX : gz_C cS X G cX5_blows 2 RX5 2 46) {c0 : Nat} {x1 : Int32} (hs_c0 : cSt c0 = true) {m : gM} {z : (Unit × gM)} (h : cf_X5_blows c0 x1 m = some z) (hk : (fun z : (Unit × gM) => gz_kV cS X G 2 (0, 0) cX5_blows z.2) z) : gz_V cS X G 2 (0, 0) m 0 [(0, .ref (gz_ad G c0)), (1, .int x1)] [] := by
  unfold cf_X5_blows at h
  refine gz_aload_n (pc := 0) hX dX5_blows_0 rfl 0 rfl ?_
  refine gz_iload_n (pc := 1) hX dX5_blows_1 rfl 1 rfl ?_
  obtain ⟨⟨r1, m2⟩, c3, h⟩ := gz_bd h
  refine cc_X5_73 (pc := 2) hX (fun h => cz_k h (st_k hs_c0)) hs_c0 c3 ⟨Nat.le_of_ble_eq_true rfl, Nat.le_of_ble_eq_true rfl⟩ (rest := []) rfl (Nat.le_of_ble_eq_true rfl) dX5_blows_2 ?_
  refine gz_if_ne (pc := 5) (tgt := 9) hX dX5_blows_5 (by decide) (fun g4 => ?_) (fun g4 => ?_)
  · replace h := gz_if' g4 h
    refine gz_aload_n (pc := 9) hX dX5_blows_9 rfl 0 rfl ?_
    refine cg_X5_15_5 (pc := 10) hX (c := c0) (v := .ref (gz_ad G (c0 + 1))) (fun h => cz_k h (st_k hs_c0)) (fun h => cz_f h (st_0 hs_c0) (st_f4 hs_c0) (by omega) rfl) dX5_blows_10 ?_
    refine gz_iload_n (pc := 13) hX dX5_blows_13 rfl 1 rfl ?_
    refine gz_iconst (pc := 14) (v := (0 : Int32)) hX dX5_blows_14 (by decide) ?_
    refine gz_aload_n (pc := 15) hX dX5_blows_15 rfl 0 rfl ?_
    refine cg_X5_15_5 (pc := 16) hX (c := c0) (v := .ref (gz_ad G (c0 + 1))) (fun h => cz_k h (st_k hs_c0)) (fun h => cz_f h (st_0 hs_c0) (st_f4 hs_c0) (by omega) rfl) dX5_blows_16 ?_
    refine gz_iload_n (pc := 19) hX dX5_blows_19 rfl 1 rfl ?_
    obtain ⟨g5, h⟩ := gz_gu h
    refine gz_iald2 (pc := 20) (c := (c0 + 1)) (n := 8) hX rfl (fun h => cz_a h (st_a1 hs_c0).1 (by decide) (st_a1 hs_c0).2) g5 dX5_blows_20 ?_
    refine gz_bipush (pc := 21) (v := (10 : Int32)) hX dX5_blows_21 (by decide) ?_
    refine gz_isub (pc := 23) hX dX5_blows_23 ?_
    obtain ⟨⟨r6, m7⟩, c8, h⟩ := gz_bd h
    refine cc_X5_159 (pc := 24) hX c8 ⟨Nat.le_of_ble_eq_true rfl, Nat.le_of_ble_eq_true rfl⟩ (rest := [.int x1, .ref (gz_ad G (c0 + 1))]) rfl (Nat.le_of_ble_eq_true rfl) dX5_blows_24 ?_
    obtain ⟨g9, h⟩ := gz_gu h
    obtain ⟨m10, em10, h⟩ := gz_lt h
    refine gz_iast2 (pc := 27) (c := (c0 + 1)) (n := 8) hX rfl (fun h => cz_a h (st_a1 hs_c0).1 (by decide) (st_a1 hs_c0).2) (st_w1 hs_c0 1) g9 dX5_blows_27 em10 ?_
    refine gz_aload_n (pc := 28) hX dX5_blows_28 rfl 0 rfl ?_
    refine cg_X5_15_5 (pc := 29) hX (c := c0) (v := .ref (gz_ad G (c0 + 1))) (fun h => cz_k h (st_k hs_c0)) (fun h => cz_f h (st_0 hs_c0) (st_f4 hs_c0) (by omega) rfl) dX5_blows_29 ?_
    refine gz_iload_n (pc := 32) hX dX5_blows_32 rfl 1 rfl ?_
    obtain ⟨g11, h⟩ := gz_gu h
    refine gz_iald2 (pc := 33) (c := (c0 + 1)) (n := 8) hX rfl (fun h => cz_a h (st_a1 hs_c0).1 (by decide) (st_a1 hs_c0).2) g11 dX5_blows_33 ?_
    refine gz_if_ne (pc := 34) (tgt := 43) hX dX5_blows_34 (by decide) (fun g12 => ?_) (fun g12 => ?_)
    · replace h := gz_if' g12 h
      obtain rfl := Option.some.inj h
      exact hk _ _ dX5_blows_43
    · replace h := gz_it' g12 h
      refine gz_aload_n (pc := 37) hX dX5_blows_37 rfl 0 rfl ?_
      refine gz_iload_n (pc := 38) hX dX5_blows_38 rfl 1 rfl ?_
      refine gz_iconst (pc := 39) (v := (3 : Int32)) hX dX5_blows_39 (by decide) ?_
      obtain ⟨⟨⟨⟩, m14⟩, c15, h⟩ := gz_bd h
      refine cc_X5_134 (pc := 40) hX (fun h => cz_k h (st_k hs_c0)) hs_c0 c15 ⟨Nat.le_of_ble_eq_true rfl, Nat.le_of_ble_eq_true rfl⟩ (rest := []) rfl (Nat.le_of_ble_eq_true rfl) dX5_blows_40 ?_
      obtain rfl := Option.some.inj h
      exact hk _ _ dX5_blows_43
  · replace h := gz_it' g4 h
    obtain rfl := Option.some.inj h
    exact hk _ _ dX5_blows_8
theorem ct_X5_blows {G : gz_G} {l : Launch} {c0 : Nat} {x1 : Int32} (hs_c0 : cSt c0 = true) {m m9 : gM} (h : cf_X5_blows c0 x1 m = some ((), m9)) : gz_Met cS G l yX5_blows cX5_blows 2 none (mRm 2 46) [.ref (gz_ad G c0), .int x1] m m9 none :=
  gz_ofV (by decide +kernel) (Nat.le_of_ble_eq_true rfl) fun X _ hX hk => wm_X5_blows hX hs_c0 h hk
theorem cc_J10_115 {X : gz_X} {G : gz_G} {cc : ByteArray} {nL fr lo pc : Nat} {rem : Nat × Nat} {lv : List (Nat × Value)} {rest st0 : List Value} (hX : gz_C cS X G cc nL RJ10 fr lo) {c0 : Nat} {x1 : Int32} {c2 : Nat} {x3 : Int32} {x4 : Int32} {m m9 : gM}  {r : Int32} (h : cf_J10_compress_2 c0 x1 c2 x3 x4 m = some (r, m9)) (hroom : 0 + 1 ≤ fr ∧ 8 + (7 + 11) + 0 ≤ lo) (hst : st0 = [.int x4, .int x3, .ref (gz_ad G c2), .int x1, .ref (gz_ad G c0)] ++ rest) (hW : (rest.map fun v => v.category).sum ≤ 8) (hd : decode cc pc = .ok (.invokestatic 115, 3)) (kk : gz_V cS X G nL rem m9 (pc + 3) lv (.int r :: rest)) : gz_V cS X G nL rem m pc lv st0 :=
  gz_callS hX cs_E (As := [.ref (gz_ad G c0), .int x1, .ref (gz_ad G c2), .int x3, .int x4]) (rest := rest) (ct_J10_compress_2 (l := X.2.1) h) (lw_S q667 q668 q184 q669) (n := 5) (by decide +kernel) hroom rfl hst hW hd (rem := rem) kk
/-! java/lang/StringUTF16.compress([CII)[B -/
noncomputable def mj_J10_compress_57 (c3 : Nat) (m : gM) : Option (Nat × gM) :=
  some (c3, m)
theorem wb_J10_compress_57 {X : gz_X} {G : gz_G} {zE : Nat × Nat} (hX : gz_C cS X G cJ10_compress 6 RJ10 2 41) {c3 : Nat}  {m : gM} {z : (Nat × gM)} (h : mj_J10_compress_57 c3 m = some z) (hk : (fun z : (Nat × gM) => gz_kRa cS X G 6 zE cJ10_compress z.2 z.1) z) : gz_Va cS X G 6 zE m 57 [(3, .ref (gz_ad G c3))] [] := by
  unfold mj_J10_compress_57 at h
  refine gz_Vs (fun _ kk => gz_aload_n (pc := 57) hX dJ10_compress_57 rfl 0 rfl kk) rfl ?_
  obtain rfl := Option.some.inj h
  exact hk _ _ dJ10_compress_58
noncomputable def cf_J10_compress (c0 : Nat) (x1 : Int32) (x2 : Int32) (m : gM) : Option (Nat × gM) :=
  (if 0 ≤ x2 ∧ gz_ix x2 * 1 ≤ 536870912 ∧ gZ m ≠ 0 then gz_let (gz_al m (1 + 101) (gz_ix x2) (gz_ix x2)) fun m2 => ((cf_J10_compress_2 c0 x1 (gZ m) (0 : Int32) x2 m2).bind fun (r3, m4) => (if m4.2.2.2.2.2 = m2.2.2.2.2.2 then (if r3 = x2 then (mj_J10_compress_57 (gZ m) m4) else none) else none)) else none)
theorem wm_J10_compress {X : gz_X} {G : gz_G} {zE : Nat × Nat} (hX : gz_C cS X G cJ10_compress 6 RJ10 2 41) {c0 : Nat} {x1 : Int32} {x2 : Int32}  {m : gM} {z : (Nat × gM)} (h : cf_J10_compress c0 x1 x2 m = some z) (hk : (fun z : (Nat × gM) => gz_kRa cS X G 6 zE cJ10_compress z.2 z.1) z) : gz_Va cS X G 6 zE m 0 [(0, .ref (gz_ad G c0)), (1, .int x1), (2, .int x2)] [] := by
  unfold cf_J10_compress at h
  refine gz_Vs (fun _ kk => gz_iload_n (pc := 0) hX dJ10_compress_0 rfl 2 rfl kk) rfl ?_
  obtain ⟨g1, h⟩ := gz_gu h
  obtain ⟨m2, em2, h⟩ := gz_lt h
  refine gz_Vn (fun _ kk => gz_newa (pc := 1) (t := 1) (N := gz_ix x2) hX rfl rfl q369 rfl ⟨⟨g1.1, Nat.lt_succ_self _⟩, rfl⟩ g1.2.1 g1.2.2 clc_al dJ10_compress_1 em2 kk) em2 ?_
  refine gz_Vs (fun _ kk => gz_astore_n (pc := 3) (lw := [(3, .ref (gz_ad G (gZ m))), (0, .ref (gz_ad G c0)), (1, .int x1), (2, .int x2)]) hX dJ10_compress_3 rfl (by decide) rfl kk) rfl ?_
  refine gz_Vs (fun _ kk => gz_aload_n (pc := 4) hX dJ10_compress_4 rfl 1 rfl kk) rfl ?_
  refine gz_Vs (fun _ kk => gz_iload_n (pc := 5) hX dJ10_compress_5 rfl 2 rfl kk) rfl ?_
  refine gz_Vs (fun _ kk => gz_aload_n (pc := 6) hX dJ10_compress_6 rfl 0 rfl kk) rfl ?_
  refine gz_Vs (fun _ kk => gz_iconst (pc := 7) (v := (0 : Int32)) hX dJ10_compress_7 (by decide) kk) rfl ?_
  refine gz_Vs (fun _ kk => gz_iload_n (pc := 8) hX dJ10_compress_8 rfl 3 rfl kk) rfl ?_
  obtain ⟨⟨r3, m4⟩, c5, h⟩ := gz_bd h
  obtain ⟨g6, h⟩ := gz_gu h
  refine gz_Vs (fun _ kk => cc_J10_115 (pc := 9) hX c5 ⟨Nat.le_of_ble_eq_true rfl, Nat.le_of_ble_eq_true rfl⟩ (rest := []) rfl (Nat.le_of_ble_eq_true rfl) dJ10_compress_9 kk) g6 ?_
  refine gz_Vs (fun _ kk => gz_istore (pc := 12) (lw := [(4, .int r3), (3, .ref (gz_ad G (gZ m))), (0, .ref (gz_ad G c0)), (1, .int x1), (2, .int x2)]) hX dJ10_compress_12 (by decide) rfl kk) rfl ?_
  refine gz_Vs (fun _ kk => gz_iload (pc := 14) hX dJ10_compress_14 0 rfl kk) rfl ?_
  refine gz_Vs (fun _ kk => gz_iload_n (pc := 16) hX dJ10_compress_16 rfl 4 rfl kk) rfl ?_
  refine gz_Vif (μ1 := m) (μ2 := m) (fun _ k1 k2 => gz_icmp_eq (pc := 17) (tgt := 57) hX dJ10_compress_17 (by decide) k1 k2) (by first | exact Classical.em _ | exact (Classical.em _).symm) (fun g7 => ?_) (fun g7 => ?_)
  · replace h := gz_it' g7 h
    refine gz_Vs (fun _ kk => gz_sub (lw := [(3, .ref (gz_ad G (gZ m)))]) [1] rfl kk) rfl ?_
    exact wb_J10_compress_57 hX h hk
  · replace h := gz_if' g7 h
    refine gz_Vs (fun _ kk => gz_aload_n (pc := 20) hX dJ10_compress_20 rfl 2 rfl kk) rfl ?_
    refine gz_Vs (fun _ kk => gz_iload_n (pc := 21) hX dJ10_compress_21 rfl 3 rfl kk) rfl ?_
    refine gz_Vs (fun _ kk => gz_iload_n (pc := 22) hX dJ10_compress_22 rfl 4 rfl kk) rfl ?_
    exact nomatch h
theorem ct_J10_compress {G : gz_G} {l : Launch} {c0 : Nat} {x1 : Int32} {x2 : Int32}  {m m9 : gM} {r : Nat} (h : cf_J10_compress c0 x1 x2 m = some (r, m9)) : gz_Met cS G l yJ10_compress cJ10_compress 6 (some (.array .byte)) (mRc 2 41 (gZ m9 - gZ m) (gW m9 - gW m)) [.ref (gz_ad G c0), .int x1, .int x2] m m9 (some (.ref (gz_ad G r))) :=
  gz_ofR (Or.inr ⟨_, rfl⟩) (by decide +kernel) (Nat.le_of_ble_eq_true rfl) fun X _ hX hk => (wm_J10_compress (zE := m9.2.2.2.2.2) hX h (fun pc lv hd => gz_Ve (hk pc lv hd))).2
theorem cc_J10_11 {X : gz_X} {G : gz_G} {cc : ByteArray} {nL fr lo pc : Nat} {rem : Nat × Nat} {lv : List (Nat × Value)} {rest st0 : List Value} (hX : gz_C cS X G cc nL RJ10 fr lo) {x0 : Int32} {m m9 : gM}  {r : Int32} (h : cf_J10_newBytesLength x0 m = some (r, m9)) (hroom : 0 + 1 ≤ fr ∧ 8 + (1 + 11) + 0 ≤ lo) (hst : st0 = [.int x0] ++ rest) (hW : (rest.map fun v => v.category).sum ≤ 8) (hd : decode cc pc = .ok (.invokestatic 11, 3)) (kk : gz_V cS X G nL rem m9 (pc + 3) lv (.int r :: rest)) : gz_V cS X G nL rem m pc lv st0 :=
  gz_callS hX cs_E (As := [.int x0]) (rest := rest) (ct_J10_newBytesLength (l := X.2.1) h) (lw_S q676 q677 q184 q678) (n := 1) (by decide +kernel) hroom rfl hst hW hd (rem := rem) kk
/-! java/lang/StringUTF16.newBytesFor(I)[B -/
noncomputable def cf_J10_newBytesFor (x0 : Int32) (m : gM) : Option (Nat × gM) :=
  ((cf_J10_newBytesLength x0 m).bind fun (r1, m2) => (if m2.2.2.2.2.2 = m.2.2.2.2.2 then (if 0 ≤ r1 ∧ gz_ix r1 * 1 ≤ 536870912 ∧ gZ m2 ≠ 0 then gz_let (gz_al m2 (1 + 101) (gz_ix r1) (gz_ix r1)) fun m6 => some ((gZ m2), m6) else none) else none))
theorem wm_J10_newBytesFor {X : gz_X} {G : gz_G} {zE : Nat × Nat} (hX : gz_C cS X G cJ10_newBytesFor 1 RJ10 1 20) {x0 : Int32}  {m : gM} {z : (Nat × gM)} (h : cf_J10_newBytesFor x0 m = some z) (hk : (fun z : (Nat × gM) => gz_kRa cS X G 1 zE cJ10_newBytesFor z.2 z.1) z) : gz_Va cS X G 1 zE m 0 [(0, .int x0)] [] := by
  unfold cf_J10_newBytesFor at h
  refine gz_Vs (fun _ kk => gz_iload_n (pc := 0) hX dJ10_newBytesFor_0 rfl 0 rfl kk) rfl ?_
  obtain ⟨⟨r1, m2⟩, c3, h⟩ := gz_bd h
  obtain ⟨g4, h⟩ := gz_gu h
  refine gz_Vs (fun _ kk => cc_J10_11 (pc := 1) hX c3 ⟨Nat.le_of_ble_eq_true rfl, Nat.le_of_ble_eq_true rfl⟩ (rest := []) rfl (Nat.le_of_ble_eq_true rfl) dJ10_newBytesFor_1 kk) g4 ?_
  obtain ⟨g5, h⟩ := gz_gu h
  obtain ⟨m6, em6, h⟩ := gz_lt h
  refine gz_Vn (fun _ kk => gz_newa (pc := 4) (t := 1) (N := gz_ix r1) hX rfl rfl q369 rfl ⟨⟨g5.1, Nat.lt_succ_self _⟩, rfl⟩ g5.2.1 g5.2.2 clc_al dJ10_newBytesFor_4 em6 kk) em6 ?_
  obtain rfl := Option.some.inj h
  exact hk _ _ dJ10_newBytesFor_6
theorem ct_J10_newBytesFor {G : gz_G} {l : Launch} {x0 : Int32}  {m m9 : gM} {r : Nat} (h : cf_J10_newBytesFor x0 m = some (r, m9)) : gz_Met cS G l yJ10_newBytesFor cJ10_newBytesFor 1 (some (.array .byte)) (mRc 1 20 (gZ m9 - gZ m) (gW m9 - gW m)) [.int x0] m m9 (some (.ref (gz_ad G r))) :=
  gz_ofR (Or.inr ⟨_, rfl⟩) (by decide +kernel) (Nat.le_of_ble_eq_true rfl) fun X _ hX hk => (wm_J10_newBytesFor (zE := m9.2.2.2.2.2) hX h (fun pc lv hd => gz_Ve (hk pc lv hd))).2
/-! java/lang/StringUTF16.putChar([BII)V -/
noncomputable def mj_J10_putChar_28 (c0 : Nat) (x1 : Int32) (x2 : Int32) (m : gM) : Option (Unit × gM) :=
  gz_let ((x1 <<< ((1 : Int32) &&& 31))) fun y1 => gz_let (y1 + (1 : Int32)) fun y2 => (if gK m c0 = 102 ∧ 1000 ≤ c0 then (if gz_in y1 (gN m c0) then gz_let (gz_sI m c0 (gz_ix y1) (((x2 >>> ((0 : Int32) &&& 31)).toInt8.toInt32).toInt8.toInt32)) fun m5 => (if gK m5 c0 = 102 ∧ 1000 ≤ c0 then (if gz_in y2 (gN m5 c0) then gz_let (gz_sI m5 c0 (gz_ix y2) (((x2 >>> ((8 : Int32) &&& 31)).toInt8.toInt32).toInt8.toInt32)) fun m8 => some ((), m8) else none) else none) else none) else none)
theorem wb_J10_putChar_28 {X : gz_X} {G : gz_G} (hX : gz_C cS X G cJ10_putChar 3 RJ10 1 20) {c0 : Nat} {x1 : Int32} {x2 : Int32}  {m : gM} {z : (Unit × gM)} (h : mj_J10_putChar_28 c0 x1 x2 m = some z) (hk : (fun z : (Unit × gM) => gz_kV cS X G 3 (0, 0) cJ10_putChar z.2) z) : gz_V cS X G 3 (0, 0) m 28 [(0, .ref (gz_ad G c0)), (1, .int x1), (2, .int x2)] [] := by
  unfold mj_J10_putChar_28 at h
  refine gz_iload_n (pc := 28) hX dJ10_putChar_28 rfl 1 rfl ?_
  refine gz_iconst (pc := 29) (v := (1 : Int32)) hX dJ10_putChar_29 (by decide) ?_
  refine gz_ishl (pc := 30) hX dJ10_putChar_30 ?_
  obtain ⟨y1, ey1, h⟩ := gz_lt h
  refine gz_topi ey1 ?_
  refine gz_istore_n (pc := 31) (lw := [(1, .int y1), (0, .ref (gz_ad G c0)), (2, .int x2)]) hX dJ10_putChar_31 rfl (by decide) rfl ?_
  refine gz_aload_n (pc := 32) hX dJ10_putChar_32 rfl 1 rfl ?_
  refine gz_iload_n (pc := 33) hX dJ10_putChar_33 rfl 0 rfl ?_
  obtain ⟨y2, ey2, h⟩ := gz_lt h
  refine gz_iinc (pc := 34) (v := y2) (lw := [(1, .int y2), (0, .ref (gz_ad G c0)), (2, .int x2)]) hX dJ10_putChar_34 (k := 0) rfl (by rw [ey2]; rfl) (by decide) rfl ?_
  refine gz_iload_n (pc := 37) hX dJ10_putChar_37 rfl 2 rfl ?_
  refine cs_J10_59 (pc := 38) hX dJ10_putChar_38 ?_
  refine gz_ishr (pc := 41) hX dJ10_putChar_41 ?_
  refine gz_i2b (pc := 42) hX dJ10_putChar_42 ?_
  obtain ⟨g3, h⟩ := gz_gu h
  obtain ⟨g4, h⟩ := gz_gu h
  obtain ⟨m5, em5, h⟩ := gz_lt h
  refine gz_bast2 (pc := 43) (c := c0) (n := gN m c0) hX rfl (fun _ => ⟨g3.1, rfl⟩) g3.2 g4 dJ10_putChar_43 em5 ?_
  refine gz_aload_n (pc := 44) hX dJ10_putChar_44 rfl 1 rfl ?_
  refine gz_iload_n (pc := 45) hX dJ10_putChar_45 rfl 0 rfl ?_
  refine gz_iload_n (pc := 46) hX dJ10_putChar_46 rfl 2 rfl ?_
  refine cs_J10_63 (pc := 47) hX dJ10_putChar_47 ?_
  refine gz_ishr (pc := 50) hX dJ10_putChar_50 ?_
  refine gz_i2b (pc := 51) hX dJ10_putChar_51 ?_
  obtain ⟨g6, h⟩ := gz_gu h
  obtain ⟨g7, h⟩ := gz_gu h
  obtain ⟨m8, em8, h⟩ := gz_lt h
  refine gz_bast2 (pc := 52) (c := c0) (n := gN m5 c0) hX rfl (fun _ => ⟨g6.1, rfl⟩) g6.2 g7 dJ10_putChar_52 em8 ?_
  obtain rfl := Option.some.inj h
  exact hk _ _ dJ10_putChar_53
noncomputable def cf_J10_putChar (c0 : Nat) (x1 : Int32) (x2 : Int32) (m : gM) : Option (Unit × gM) :=
  (if (1 : Int32) = (0 : Int32) then (if x1 < (0 : Int32) then none else ((cf_J10_length c0 m).bind fun (r3, m4) => (if x1 < r3 then (mj_J10_putChar_28 c0 x1 x2 m4) else none))) else (mj_J10_putChar_28 c0 x1 x2 m))
theorem wm_J10_putChar {X : gz_X} {G : gz_G} (hX : gz_C cS X G cJ10_putChar 3 RJ10 1 20) {c0 : Nat} {x1 : Int32} {x2 : Int32}  {m : gM} {z : (Unit × gM)} (h : cf_J10_putChar c0 x1 x2 m = some z) (hk : (fun z : (Unit × gM) => gz_kV cS X G 3 (0, 0) cJ10_putChar z.2) z) : gz_V cS X G 3 (0, 0) m 0 [(0, .ref (gz_ad G c0)), (1, .int x1), (2, .int x2)] [] := by
  unfold cf_J10_putChar at h
  refine cs_J10_44 (pc := 0) hX dJ10_putChar_0 ?_
  refine gz_if_ne (pc := 3) (tgt := 28) hX dJ10_putChar_3 (by decide) (fun g1 => ?_) (fun g1 => ?_)
  · replace h := gz_if' g1 h
    exact wb_J10_putChar_28 hX h hk
  · replace h := gz_it' g1 h
    refine gz_iload_n (pc := 6) hX dJ10_putChar_6 rfl 1 rfl ?_
    refine gz_if_lt (pc := 7) (tgt := 18) hX dJ10_putChar_7 (by decide) (fun g2 => ?_) (fun g2 => ?_)
    · replace h := gz_it' g2 h
      exact nomatch h
    · replace h := gz_if' g2 h
      refine gz_iload_n (pc := 10) hX dJ10_putChar_10 rfl 1 rfl ?_
      refine gz_aload_n (pc := 11) hX dJ10_putChar_11 rfl 0 rfl ?_
      obtain ⟨⟨r3, m4⟩, c5, h⟩ := gz_bd h
      refine cc_J10_48 (pc := 12) hX c5 ⟨Nat.le_of_ble_eq_true rfl, Nat.le_of_ble_eq_true rfl⟩ (rest := [.int x1]) rfl (Nat.le_of_ble_eq_true rfl) dJ10_putChar_12 ?_
      refine gz_icmp_lt (pc := 15) (tgt := 28) hX dJ10_putChar_15 (by decide) (fun g6 => ?_) (fun g6 => ?_)
      · replace h := gz_it' g6 h
        exact wb_J10_putChar_28 hX h hk
      · replace h := gz_if' g6 h
        exact nomatch h
theorem ct_J10_putChar {G : gz_G} {l : Launch} {c0 : Nat} {x1 : Int32} {x2 : Int32}  {m m9 : gM} (h : cf_J10_putChar c0 x1 x2 m = some ((), m9)) : gz_Met cS G l yJ10_putChar cJ10_putChar 3 none (mRm 1 20) [.ref (gz_ad G c0), .int x1, .int x2] m m9 none :=
  gz_ofV (by decide +kernel) (Nat.le_of_ble_eq_true rfl) fun X _ hX hk => wm_J10_putChar hX h hk
theorem cc_J10_419 {X : gz_X} {G : gz_G} {cc : ByteArray} {nL fr lo pc : Nat} {rem : Nat × Nat} {lv : List (Nat × Value)} {rest st0 : List Value} (hX : gz_C cS X G cc nL RJ10 fr lo) {x0 : Int32} {x1 : Int32} {x2 : Int32} {m m9 : gM}  {r : Int32} (h : cf_J9_checkBoundsOffCount x0 x1 x2 m = some (r, m9)) (hroom : 1 + 1 ≤ fr ∧ 8 + (3 + 11) + 23 ≤ lo) (hst : st0 = [.int x2, .int x1, .int x0] ++ rest) (hW : (rest.map fun v => v.category).sum ≤ 8) (hd : decode cc pc = .ok (.invokestatic 419, 3)) (kk : gz_V cS X G nL rem m9 (pc + 3) lv (.int r :: rest)) : gz_V cS X G nL rem m pc lv st0 :=
  gz_callS hX cs_E (As := [.int x0, .int x1, .int x2]) (rest := rest) (ct_J9_checkBoundsOffCount (l := X.2.1) h) (lw_S q701 q702 q183 q703) (n := 3) (by decide +kernel) hroom rfl hst hW hd (rem := rem) kk
/-! java/lang/StringUTF16.checkBoundsOffCount(II[B)V -/
noncomputable def cf_J10_checkBoundsOffCount (x0 : Int32) (x1 : Int32) (c2 : Nat) (m : gM) : Option (Unit × gM) :=
  ((cf_J10_length c2 m).bind fun (r1, m2) => ((cf_J9_checkBoundsOffCount x0 x1 r1 m2).bind fun (r4, m5) => some ((), m5)))
theorem wm_J10_checkBoundsOffCount {X : gz_X} {G : gz_G} (hX : gz_C cS X G cJ10_checkBoundsOffCount 3 RJ10 2 45) {x0 : Int32} {x1 : Int32} {c2 : Nat}  {m : gM} {z : (Unit × gM)} (h : cf_J10_checkBoundsOffCount x0 x1 c2 m = some z) (hk : (fun z : (Unit × gM) => gz_kV cS X G 3 (0, 0) cJ10_checkBoundsOffCount z.2) z) : gz_V cS X G 3 (0, 0) m 0 [(0, .int x0), (1, .int x1), (2, .ref (gz_ad G c2))] [] := by
  unfold cf_J10_checkBoundsOffCount at h
  refine gz_iload_n (pc := 0) hX dJ10_checkBoundsOffCount_0 rfl 0 rfl ?_
  refine gz_iload_n (pc := 1) hX dJ10_checkBoundsOffCount_1 rfl 1 rfl ?_
  refine gz_aload_n (pc := 2) hX dJ10_checkBoundsOffCount_2 rfl 2 rfl ?_
  obtain ⟨⟨r1, m2⟩, c3, h⟩ := gz_bd h
  refine cc_J10_48 (pc := 3) hX c3 ⟨Nat.le_of_ble_eq_true rfl, Nat.le_of_ble_eq_true rfl⟩ (rest := [.int x1, .int x0]) rfl (Nat.le_of_ble_eq_true rfl) dJ10_checkBoundsOffCount_3 ?_
  obtain ⟨⟨r4, m5⟩, c6, h⟩ := gz_bd h
  refine cc_J10_419 (pc := 6) hX c6 ⟨Nat.le_of_ble_eq_true rfl, Nat.le_of_ble_eq_true rfl⟩ (rest := []) rfl (Nat.le_of_ble_eq_true rfl) dJ10_checkBoundsOffCount_6 ?_
  refine gz_pop (pc := 9) hX dJ10_checkBoundsOffCount_9 rfl ?_
  obtain rfl := Option.some.inj h
  exact hk _ _ dJ10_checkBoundsOffCount_10
theorem ct_J10_checkBoundsOffCount {G : gz_G} {l : Launch} {x0 : Int32} {x1 : Int32} {c2 : Nat}  {m m9 : gM} (h : cf_J10_checkBoundsOffCount x0 x1 c2 m = some ((), m9)) : gz_Met cS G l yJ10_checkBoundsOffCount cJ10_checkBoundsOffCount 3 none (mRm 2 45) [.int x0, .int x1, .ref (gz_ad G c2)] m m9 none :=
  gz_ofV (by decide +kernel) (Nat.le_of_ble_eq_true rfl) fun X _ hX hk => wm_J10_checkBoundsOffCount hX h hk
theorem cc_J10_173 {X : gz_X} {G : gz_G} {cc : ByteArray} {nL fr lo pc : Nat} {rem : Nat × Nat} {lv : List (Nat × Value)} {rest st0 : List Value} (hX : gz_C cS X G cc nL RJ10 fr lo) {x0 : Int32} {x1 : Int32} {c2 : Nat} {m m9 : gM}  (h : cf_J10_checkBoundsOffCount x0 x1 c2 m = some ((), m9)) (hroom : 2 + 1 ≤ fr ∧ 8 + (3 + 11) + 45 ≤ lo) (hst : st0 = [.ref (gz_ad G c2), .int x1, .int x0] ++ rest) (hW : (rest.map fun v => v.category).sum ≤ 8) (hd : decode cc pc = .ok (.invokestatic 173, 3)) (kk : gz_V cS X G nL rem m9 (pc + 3) lv (rest)) : gz_V cS X G nL rem m pc lv st0 :=
  gz_callS hX cs_E (As := [.int x0, .int x1, .ref (gz_ad G c2)]) (rest := rest) (ct_J10_checkBoundsOffCount (l := X.2.1) h) (lw_S q698 q699 q184 q700) (n := 3) (by decide +kernel) hroom rfl hst hW hd (rem := rem) kk
theorem cc_J10_111 {X : gz_X} {G : gz_G} {cc : ByteArray} {nL fr lo pc : Nat} {rem : Nat × Nat} {lv : List (Nat × Value)} {rest st0 : List Value} (hX : gz_C cS X G cc nL RJ10 fr lo) {c0 : Nat} {x1 : Int32} {x2 : Int32} {m m9 : gM}  (h : cf_J10_putChar c0 x1 x2 m = some ((), m9)) (hroom : 1 + 1 ≤ fr ∧ 8 + (3 + 11) + 20 ≤ lo) (hst : st0 = [.int x2, .int x1, .ref (gz_ad G c0)] ++ rest) (hW : (rest.map fun v => v.category).sum ≤ 8) (hd : decode cc pc = .ok (.invokestatic 111, 3)) (kk : gz_V cS X G nL rem m9 (pc + 3) lv (rest)) : gz_V cS X G nL rem m pc lv st0 :=
  gz_callS hX cs_E (As := [.ref (gz_ad G c0), .int x1, .int x2]) (rest := rest) (ct_J10_putChar (l := X.2.1) h) (lw_S q680 q681 q184 q682) (n := 3) (by decide +kernel) hroom rfl hst hW hd (rem := rem) kk
/-! java/lang/StringUTF16.inflate([BI[BII)V -/
def mP_J10_inflate_10 (X : gz_X) (G : gz_G) (c0 : Nat) (c2 : Nat) (q : (Int32 × Int32 × Int32 × Int32 × gM)) : Prop := gz_V cS X G 6 (0, 0) q.2.2.2.2 10 [(0, .ref (gz_ad G c0)), (1, .int q.1), (2, .ref (gz_ad G c2)), (3, .int q.2.1), (4, .int q.2.2.1), (5, .int q.2.2.2.1)] []
noncomputable def mb_J10_inflate_10 (c0 : Nat) (x1 : Int32) (c2 : Nat) (x3 : Int32) (x4 : Int32) (x5 : Int32) (m : gM) : Option ((Int32 × Int32 × Int32 × Int32 × gM) ⊕ (Unit × gM)) :=
  (if x4 ≤ x5 then some (Sum.inr ((), m)) else gz_let (x3 + (1 : Int32)) fun y2 => gz_let (x1 + (1 : Int32)) fun y3 => (if gK m c0 = 102 then (if gz_in x1 (gN m c0) then ((cf_J10_putChar c2 x3 ((gI m c0 (gz_ix x1)) &&& (255 : Int32)) m).bind fun (_, m7) => gz_let (x5 + (1 : Int32)) fun y9 => some (Sum.inl (y3, y2, x4, y9, m7))) else none) else none))
theorem wb_J10_inflate_10 {X : gz_X} {G : gz_G} (hX : gz_C cS X G cJ10_inflate 6 RJ10 3 67) {c0 : Nat} {x1 : Int32} {c2 : Nat} {x3 : Int32} {x4 : Int32} {x5 : Int32}  {m : gM} {z : ((Int32 × Int32 × Int32 × Int32 × gM) ⊕ (Unit × gM))} (h : mb_J10_inflate_10 c0 x1 c2 x3 x4 x5 m = some z) (hk : (Sum.elim (mP_J10_inflate_10 X G c0 c2) (fun z : (Unit × gM) => gz_kV cS X G 6 (0, 0) cJ10_inflate z.2)) z) : gz_V cS X G 6 (0, 0) m 10 [(0, .ref (gz_ad G c0)), (1, .int x1), (2, .ref (gz_ad G c2)), (3, .int x3), (4, .int x4), (5, .int x5)] [] := by
  unfold mb_J10_inflate_10 at h
  refine gz_iload (pc := 10) hX dJ10_inflate_10 5 rfl ?_
  refine gz_iload (pc := 12) hX dJ10_inflate_12 4 rfl ?_
  refine gz_icmp_ge (pc := 14) (tgt := 41) hX dJ10_inflate_14 (by decide) (fun g1 => ?_) (fun g1 => ?_)
  · replace h := gz_it' g1 h
    obtain rfl := Option.some.inj h
    exact hk _ _ dJ10_inflate_41
  · replace h := gz_if' g1 h
    refine gz_aload_n (pc := 17) hX dJ10_inflate_17 rfl 2 rfl ?_
    refine gz_iload_n (pc := 18) hX dJ10_inflate_18 rfl 3 rfl ?_
    obtain ⟨y2, ey2, h⟩ := gz_lt h
    refine gz_iinc (pc := 19) (v := y2) (lw := [(3, .int y2), (0, .ref (gz_ad G c0)), (1, .int x1), (2, .ref (gz_ad G c2)), (4, .int x4), (5, .int x5)]) hX dJ10_inflate_19 (k := 3) rfl (by rw [ey2]; rfl) (by decide) rfl ?_
    refine gz_aload_n (pc := 22) hX dJ10_inflate_22 rfl 1 rfl ?_
    refine gz_iload_n (pc := 23) hX dJ10_inflate_23 rfl 2 rfl ?_
    obtain ⟨y3, ey3, h⟩ := gz_lt h
    refine gz_iinc (pc := 24) (v := y3) (lw := [(1, .int y3), (3, .int y2), (0, .ref (gz_ad G c0)), (2, .ref (gz_ad G c2)), (4, .int x4), (5, .int x5)]) hX dJ10_inflate_24 (k := 2) rfl (by rw [ey3]; rfl) (by decide) rfl ?_
    obtain ⟨g4, h⟩ := gz_gu h
    obtain ⟨g5, h⟩ := gz_gu h
    refine gz_bald2 (pc := 27) (c := c0) (n := gN m c0) hX rfl (fun _ => ⟨g4, rfl⟩) g5 dJ10_inflate_27 ?_
    refine gz_sipush (pc := 28) (v := (255 : Int32)) hX dJ10_inflate_28 (by decide) ?_
    refine gz_iand (pc := 31) hX dJ10_inflate_31 ?_
    obtain ⟨⟨⟨⟩, m7⟩, c8, h⟩ := gz_bd h
    refine cc_J10_111 (pc := 32) hX c8 ⟨Nat.le_of_ble_eq_true rfl, Nat.le_of_ble_eq_true rfl⟩ (rest := []) rfl (Nat.le_of_ble_eq_true rfl) dJ10_inflate_32 ?_
    obtain ⟨y9, ey9, h⟩ := gz_lt h
    refine gz_iinc (pc := 35) (v := y9) (lw := [(5, .int y9), (1, .int y3), (3, .int y2), (0, .ref (gz_ad G c0)), (2, .ref (gz_ad G c2)), (4, .int x4)]) hX dJ10_inflate_35 (k := 5) rfl (by rw [ey9]; rfl) (by decide) rfl ?_
    refine gz_goto (pc := 38) (tgt := 10) hX dJ10_inflate_38 (by decide) ?_
    refine gz_sub (lw := [(0, .ref (gz_ad G c0)), (1, .int y3), (2, .ref (gz_ad G c2)), (3, .int y2), (4, .int x4), (5, .int y9)]) [3, 1, 4, 2, 5, 0] rfl ?_
    obtain rfl := Option.some.inj h
    exact hk
noncomputable def ml_J10_inflate_10 (c0 : Nat) (x1 : Int32) (c2 : Nat) (x3 : Int32) (x4 : Int32) (x5 : Int32) (m : gM) : Option (Unit × gM) := gz_loop (fun q : (Int32 × Int32 × Int32 × Int32 × gM) => mb_J10_inflate_10 c0 q.1 c2 q.2.1 q.2.2.1 q.2.2.2.1 q.2.2.2.2) (x1, x3, x4, x5, m)
theorem wl_J10_inflate_10 {X : gz_X} {G : gz_G} (hX : gz_C cS X G cJ10_inflate 6 RJ10 3 67) {c0 : Nat} {x1 : Int32} {c2 : Nat} {x3 : Int32} {x4 : Int32} {x5 : Int32}  {m : gM} {z : (Unit × gM)} (h : ml_J10_inflate_10 c0 x1 c2 x3 x4 x5 m = some z) (hk : (fun z : (Unit × gM) => gz_kV cS X G 6 (0, 0) cJ10_inflate z.2) z) : gz_V cS X G 6 (0, 0) m 10 [(0, .ref (gz_ad G c0)), (1, .int x1), (2, .ref (gz_ad G c2)), (3, .int x3), (4, .int x4), (5, .int x5)] [] := by
  have hp : mP_J10_inflate_10 X G c0 c2 (x1, x3, x4, x5, m) := gz_loop_ind (fun q z hz hkz => wb_J10_inflate_10 hX  hz hkz) h hk
  exact hp
noncomputable def cf_J10_inflate (c0 : Nat) (x1 : Int32) (c2 : Nat) (x3 : Int32) (x4 : Int32) (m : gM) : Option (Unit × gM) :=
  ((cf_J10_checkBoundsOffCount x3 x4 c2 m).bind fun (_, m2) => (ml_J10_inflate_10 c0 x1 c2 x3 x4 (0 : Int32) m2))
theorem wm_J10_inflate {X : gz_X} {G : gz_G} (hX : gz_C cS X G cJ10_inflate 6 RJ10 3 67) {c0 : Nat} {x1 : Int32} {c2 : Nat} {x3 : Int32} {x4 : Int32}  {m : gM} {z : (Unit × gM)} (h : cf_J10_inflate c0 x1 c2 x3 x4 m = some z) (hk : (fun z : (Unit × gM) => gz_kV cS X G 6 (0, 0) cJ10_inflate z.2) z) : gz_V cS X G 6 (0, 0) m 0 [(0, .ref (gz_ad G c0)), (1, .int x1), (2, .ref (gz_ad G c2)), (3, .int x3), (4, .int x4)] [] := by
  unfold cf_J10_inflate at h
  refine gz_iload_n (pc := 0) hX dJ10_inflate_0 rfl 3 rfl ?_
  refine gz_iload (pc := 1) hX dJ10_inflate_1 4 rfl ?_
  refine gz_aload_n (pc := 3) hX dJ10_inflate_3 rfl 2 rfl ?_
  obtain ⟨⟨⟨⟩, m2⟩, c3, h⟩ := gz_bd h
  refine cc_J10_173 (pc := 4) hX c3 ⟨Nat.le_of_ble_eq_true rfl, Nat.le_of_ble_eq_true rfl⟩ (rest := []) rfl (Nat.le_of_ble_eq_true rfl) dJ10_inflate_4 ?_
  refine gz_iconst (pc := 7) (v := (0 : Int32)) hX dJ10_inflate_7 (by decide) ?_
  refine gz_istore (pc := 8) (lw := [(5, .int (0 : Int32)), (0, .ref (gz_ad G c0)), (1, .int x1), (2, .ref (gz_ad G c2)), (3, .int x3), (4, .int x4)]) hX dJ10_inflate_8 (by decide) rfl ?_
  refine gz_sub (lw := [(0, .ref (gz_ad G c0)), (1, .int x1), (2, .ref (gz_ad G c2)), (3, .int x3), (4, .int x4), (5, .int (0 : Int32))]) [1, 2, 3, 4, 5, 0] rfl ?_
  exact wl_J10_inflate_10 hX h hk
theorem ct_J10_inflate {G : gz_G} {l : Launch} {c0 : Nat} {x1 : Int32} {c2 : Nat} {x3 : Int32} {x4 : Int32}  {m m9 : gM} (h : cf_J10_inflate c0 x1 c2 x3 x4 m = some ((), m9)) : gz_Met cS G l yJ10_inflate cJ10_inflate 6 none (mRm 3 67) [.ref (gz_ad G c0), .int x1, .ref (gz_ad G c2), .int x3, .int x4] m m9 none :=
  gz_ofV (by decide +kernel) (Nat.le_of_ble_eq_true rfl) fun X _ hX hk => wm_J10_inflate hX h hk
theorem cc_J10_414 {X : gz_X} {G : gz_G} {cc : ByteArray} {nL fr lo pc : Nat} {rem : Nat × Nat} {lv : List (Nat × Value)} {rest st0 : List Value} (hX : gz_C cS X G cc nL RJ10 fr lo) {x0 : Int32} {x1 : Int32} {m m9 : gM}  (h : cf_J9_checkIndex x0 x1 m = some ((), m9)) (hroom : 1 + 1 ≤ fr ∧ 8 + (2 + 11) + 22 ≤ lo) (hst : st0 = [.int x1, .int x0] ++ rest) (hW : (rest.map fun v => v.category).sum ≤ 8) (hd : decode cc pc = .ok (.invokestatic 414, 3)) (kk : gz_V cS X G nL rem m9 (pc + 3) lv (rest)) : gz_V cS X G nL rem m pc lv st0 :=
  gz_callS hX cs_E (As := [.int x0, .int x1]) (rest := rest) (ct_J9_checkIndex (l := X.2.1) h) (lw_S q1215 q1216 q183 q1217) (n := 2) (by decide +kernel) hroom rfl hst hW hd (rem := rem) kk
/-! java/lang/StringUTF16.checkIndex(I[B)V -/
noncomputable def cf_J10_checkIndex (x0 : Int32) (c1 : Nat) (m : gM) : Option (Unit × gM) :=
  ((cf_J10_length c1 m).bind fun (r1, m2) => ((cf_J9_checkIndex x0 r1 m2).bind fun (_, m5) => some ((), m5)))
theorem wm_J10_checkIndex {X : gz_X} {G : gz_G} (hX : gz_C cS X G cJ10_checkIndex 2 RJ10 2 43) {x0 : Int32} {c1 : Nat}  {m : gM} {z : (Unit × gM)} (h : cf_J10_checkIndex x0 c1 m = some z) (hk : (fun z : (Unit × gM) => gz_kV cS X G 2 (0, 0) cJ10_checkIndex z.2) z) : gz_V cS X G 2 (0, 0) m 0 [(0, .int x0), (1, .ref (gz_ad G c1))] [] := by
  unfold cf_J10_checkIndex at h
  refine gz_iload_n (pc := 0) hX dJ10_checkIndex_0 rfl 0 rfl ?_
  refine gz_aload_n (pc := 1) hX dJ10_checkIndex_1 rfl 1 rfl ?_
  obtain ⟨⟨r1, m2⟩, c3, h⟩ := gz_bd h
  refine cc_J10_48 (pc := 2) hX c3 ⟨Nat.le_of_ble_eq_true rfl, Nat.le_of_ble_eq_true rfl⟩ (rest := [.int x0]) rfl (Nat.le_of_ble_eq_true rfl) dJ10_checkIndex_2 ?_
  obtain ⟨⟨⟨⟩, m5⟩, c6, h⟩ := gz_bd h
  refine cc_J10_414 (pc := 5) hX c6 ⟨Nat.le_of_ble_eq_true rfl, Nat.le_of_ble_eq_true rfl⟩ (rest := []) rfl (Nat.le_of_ble_eq_true rfl) dJ10_checkIndex_5 ?_
  obtain rfl := Option.some.inj h
  exact hk _ _ dJ10_checkIndex_8
theorem ct_J10_checkIndex {G : gz_G} {l : Launch} {x0 : Int32} {c1 : Nat}  {m m9 : gM} (h : cf_J10_checkIndex x0 c1 m = some ((), m9)) : gz_Met cS G l yJ10_checkIndex cJ10_checkIndex 2 none (mRm 2 43) [.int x0, .ref (gz_ad G c1)] m m9 none :=
  gz_ofV (by decide +kernel) (Nat.le_of_ble_eq_true rfl) fun X _ hX hk => wm_J10_checkIndex hX h hk
theorem cc_J10_67 {X : gz_X} {G : gz_G} {cc : ByteArray} {nL fr lo pc : Nat} {rem : Nat × Nat} {lv : List (Nat × Value)} {rest st0 : List Value} (hX : gz_C cS X G cc nL RJ10 fr lo) {x0 : Int32} {c1 : Nat} {m m9 : gM}  (h : cf_J10_checkIndex x0 c1 m = some ((), m9)) (hroom : 2 + 1 ≤ fr ∧ 8 + (2 + 11) + 43 ≤ lo) (hst : st0 = [.ref (gz_ad G c1), .int x0] ++ rest) (hW : (rest.map fun v => v.category).sum ≤ 8) (hd : decode cc pc = .ok (.invokestatic 67, 3)) (kk : gz_V cS X G nL rem m9 (pc + 3) lv (rest)) : gz_V cS X G nL rem m pc lv st0 :=
  gz_callS hX cs_E (As := [.int x0, .ref (gz_ad G c1)]) (rest := rest) (ct_J10_checkIndex (l := X.2.1) h) (lw_S q1212 q1213 q184 q1214) (n := 2) (by decide +kernel) hroom rfl hst hW hd (rem := rem) kk
theorem cc_J10_71 {X : gz_X} {G : gz_G} {cc : ByteArray} {nL fr lo pc : Nat} {rem : Nat × Nat} {lv : List (Nat × Value)} {rest st0 : List Value} (hX : gz_C cS X G cc nL RJ10 fr lo) {c0 : Nat} {x1 : Int32} {m m9 : gM}  {r : Int32} (h : cf_J10_getChar c0 x1 m = some (r, m9)) (hroom : 1 + 1 ≤ fr ∧ 8 + (2 + 11) + 20 ≤ lo) (hst : st0 = [.int x1, .ref (gz_ad G c0)] ++ rest) (hW : (rest.map fun v => v.category).sum ≤ 8) (hd : decode cc pc = .ok (.invokestatic 71, 3)) (kk : gz_V cS X G nL rem m9 (pc + 3) lv (.int r :: rest)) : gz_V cS X G nL rem m pc lv st0 :=
  gz_callS hX cs_E (As := [.ref (gz_ad G c0), .int x1]) (rest := rest) (ct_J10_getChar (l := X.2.1) h) (lw_S q692 q693 q184 q694) (n := 2) (by decide +kernel) hroom rfl hst hW hd (rem := rem) kk
/-! java/lang/StringUTF16.charAt([BI)C -/
noncomputable def cf_J10_charAt (c0 : Nat) (x1 : Int32) (m : gM) : Option (Int32 × gM) :=
  ((cf_J10_checkIndex x1 c0 m).bind fun (_, m2) => ((cf_J10_getChar c0 x1 m2).bind fun (r4, m5) => (if r4.toUInt32.toUInt16.toUInt32.toInt32 = r4 then some (r4, m5) else none)))
theorem wm_J10_charAt {X : gz_X} {G : gz_G} (hX : gz_C cS X G cJ10_charAt 2 RJ10 3 64) {c0 : Nat} {x1 : Int32}  {m : gM} {z : (Int32 × gM)} (h : cf_J10_charAt c0 x1 m = some z) (hk : (fun z : (Int32 × gM) => gz_kN cS X G 2 (0, 0) cJ10_charAt .char z.2 z.1) z) : gz_V cS X G 2 (0, 0) m 0 [(0, .ref (gz_ad G c0)), (1, .int x1)] [] := by
  unfold cf_J10_charAt at h
  refine gz_iload_n (pc := 0) hX dJ10_charAt_0 rfl 1 rfl ?_
  refine gz_aload_n (pc := 1) hX dJ10_charAt_1 rfl 0 rfl ?_
  obtain ⟨⟨⟨⟩, m2⟩, c3, h⟩ := gz_bd h
  refine cc_J10_67 (pc := 2) hX c3 ⟨Nat.le_of_ble_eq_true rfl, Nat.le_of_ble_eq_true rfl⟩ (rest := []) rfl (Nat.le_of_ble_eq_true rfl) dJ10_charAt_2 ?_
  refine gz_aload_n (pc := 5) hX dJ10_charAt_5 rfl 0 rfl ?_
  refine gz_iload_n (pc := 6) hX dJ10_charAt_6 rfl 1 rfl ?_
  obtain ⟨⟨r4, m5⟩, c6, h⟩ := gz_bd h
  refine cc_J10_71 (pc := 7) hX c6 ⟨Nat.le_of_ble_eq_true rfl, Nat.le_of_ble_eq_true rfl⟩ (rest := []) rfl (Nat.le_of_ble_eq_true rfl) dJ10_charAt_7 ?_
  obtain ⟨g7, h⟩ := gz_gu h
  obtain rfl := Option.some.inj h
  exact hk _ _ dJ10_charAt_10 (congrArg Value.int g7)
theorem ct_J10_charAt {G : gz_G} {l : Launch} {c0 : Nat} {x1 : Int32}  {m m9 : gM} {r : Int32} (h : cf_J10_charAt c0 x1 m = some (r, m9)) : gz_Met cS G l yJ10_charAt cJ10_charAt 2 (some .char) (mRm 3 64) [.ref (gz_ad G c0), .int x1] m m9 (some (.int r)) :=
  gz_ofN (by decide +kernel) (Nat.le_of_ble_eq_true rfl) fun X _ hX hk => wm_J10_charAt hX h hk
theorem cc_X20_1 {X : gz_X} {G : gz_G} {cc : ByteArray} {nL fr lo pc : Nat} {rem : Nat × Nat} {lv : List (Nat × Value)} {rest st0 : List Value} (hX : gz_C cS X G cc nL RX20 fr lo) {c0 : Nat} {m m9 : gM}  (h : cf_X17_init c0 m = some ((), m9)) (hroom : 1 + 1 ≤ fr ∧ 8 + (1 + 11) + 20 ≤ lo) (hst : st0 = [.ref (gz_ad G c0)] ++ rest) (hW : (rest.map fun v => v.category).sum ≤ 8) (hd : decode cc pc = .ok (.invokespecial 1, 3)) (kk : gz_V cS X G nL rem m9 (pc + 3) lv (rest)) : gz_V cS X G nL rem m pc lv st0 :=
  gz_callIN hX cs_E (As := []) (rest := rest) (c := c0) (ct_X17_init (l := X.2.1) h) q1236 (cz_n (Z := cS) hX q1277 rfl) q201 q1235 rfl (n := 0) (by decide +kernel) hroom rfl hst hW hd (rem := rem) kk
/-! FirstSnuffer$All.<init>()V -/
noncomputable def cf_X20_init (c0 : Nat) (m : gM) : Option (Unit × gM) :=
  ((cf_X17_init c0 m).bind fun (_, m2) => some ((), m2))
theorem wm_X20_init {X : gz_X} {G : gz_G} (hX : gz_C cS X G cX20_init 1 RX20 2 40) (hn0 : X.2.2.2.2.2.2.2.2.1.name = "<init>") {c0 : Nat}  {m : gM} {z : (Unit × gM)} (h : cf_X20_init c0 m = some z) (hk : (fun z : (Unit × gM) => gz_kV cS X G 1 (0, 0) cX20_init z.2) z) : gz_V cS X G 1 (0, 0) m 0 [(0, .ref (gz_ad G c0))] [] := by
  unfold cf_X20_init at h
  refine gz_aload_n (pc := 0) hX dX20_init_0 rfl 0 rfl ?_
  obtain ⟨⟨⟨⟩, m2⟩, c3, h⟩ := gz_bd h
  refine cc_X20_1 (pc := 1) hX c3 ⟨Nat.le_of_ble_eq_true rfl, Nat.le_of_ble_eq_true rfl⟩ (rest := []) rfl (Nat.le_of_ble_eq_true rfl) dX20_init_1 ?_
  obtain rfl := Option.some.inj h
  exact hk _ _ dX20_init_4
theorem ct_X20_init {G : gz_G} {l : Launch} {c0 : Nat}  {m m9 : gM} (h : cf_X20_init c0 m = some ((), m9)) : gz_Met cS G l yX20_init cX20_init 1 none (mRm 2 40) [.ref (gz_ad G c0)] m m9 none :=
  gz_ofVc (by decide +kernel) (Nat.le_of_ble_eq_true rfl) fun X _ hn hX hk => wm_X20_init hX hn h hk
theorem cc_X15_1 {X : gz_X} {G : gz_G} {cc : ByteArray} {nL fr lo pc : Nat} {rem : Nat × Nat} {lv : List (Nat × Value)} {rest st0 : List Value} (hX : gz_C cS X G cc nL RX15 fr lo) {c0 : Nat} {m m9 : gM}  (h : cf_X11_init c0 m = some ((), m9)) (hroom : 1 + 1 ≤ fr ∧ 8 + (1 + 11) + 20 ≤ lo) (hst : st0 = [.ref (gz_ad G c0)] ++ rest) (hW : (rest.map fun v => v.category).sum ≤ 8) (hd : decode cc pc = .ok (.invokespecial 1, 3)) (kk : gz_V cS X G nL rem m9 (pc + 3) lv (rest)) : gz_V cS X G nL rem m pc lv st0 :=
  gz_callIN hX cs_E (As := []) (rest := rest) (c := c0) (ct_X11_init (l := X.2.1) h) q1041 (cz_n (Z := cS) hX q1131 rfl) q193 q1040 rfl (n := 0) (by decide +kernel) hroom rfl hst hW hd (rem := rem) kk
theorem cp_X15_7_13 {X : gz_X} {G : gz_G} {cc : ByteArray} {nL fr lo pc : Nat} {rem : Nat × Nat} {m m9 : gM} {lv : List (Nat × Value)} {st : List Value} (hX : gz_C cS X G cc nL RX15 fr lo) (hn0 : X.2.2.2.2.2.2.2.2.1.name = "<init>") {c : Nat} {x : Int32} (hK : clc m.1 m.2.1 m.2.2.2.2.1 → m.1 c = 13 + 1) (hw : 1000 ≤ c) (hd : decode cc pc = .ok (.putfield 7, 3)) (hm : m9 = gz_sI m c 0 x) (kk : gz_V cS X G nL rem m9 (pc + 3) lv st) : gz_V cS X G nL rem m pc lv (.int x :: .ref (gz_ad G c) :: st) := by
  subst hm
  exact gz_putff hX (C := RX15) (T := TX15) (N := 1) (ci := 13) (k := 0) (ty := .int) (μ' := gz_sI m c 0 x) rfl (by decide) in_X15 tyX15 tyX15_ok nmX15 (by decide) (hX.2.2.2.2.1 _ q1132) (fun _ h => h) rfl hn0 rfl rfl rfl rfl hd hK hw rfl rfl rfl (fun d tc j h => gz_sI_o d tc j h) (gz_sI_v (fun j => ftC 13 j) rfl) (fun h => h) kk
/-! FirstSnuffer$Asked.<init>(I)V -/
noncomputable def cf_X15_init (c0 : Nat) (x1 : Int32) (m : gM) : Option (Unit × gM) :=
  ((cf_X11_init c0 m).bind fun (_, m2) => (if gK m2 c0 = 14 then (if 1000 ≤ c0 then gz_let (gz_sI m2 c0 0 x1) fun m6 => some ((), m6) else none) else none))
theorem wm_X15_init {X : gz_X} {G : gz_G} (hX : gz_C cS X G cX15_init 2 RX15 2 40) (hn0 : X.2.2.2.2.2.2.2.2.1.name = "<init>") {c0 : Nat} {x1 : Int32}  {m : gM} {z : (Unit × gM)} (h : cf_X15_init c0 x1 m = some z) (hk : (fun z : (Unit × gM) => gz_kV cS X G 2 (0, 0) cX15_init z.2) z) : gz_V cS X G 2 (0, 0) m 0 [(0, .ref (gz_ad G c0)), (1, .int x1)] [] := by
  unfold cf_X15_init at h
  refine gz_aload_n (pc := 0) hX dX15_init_0 rfl 0 rfl ?_
  obtain ⟨⟨⟨⟩, m2⟩, c3, h⟩ := gz_bd h
  refine cc_X15_1 (pc := 1) hX c3 ⟨Nat.le_of_ble_eq_true rfl, Nat.le_of_ble_eq_true rfl⟩ (rest := []) rfl (Nat.le_of_ble_eq_true rfl) dX15_init_1 ?_
  refine gz_aload_n (pc := 4) hX dX15_init_4 rfl 0 rfl ?_
  refine gz_iload_n (pc := 5) hX dX15_init_5 rfl 1 rfl ?_
  obtain ⟨g4, h⟩ := gz_gu h
  obtain ⟨g5, h⟩ := gz_gu h
  obtain ⟨m6, em6, h⟩ := gz_lt h
  refine cp_X15_7_13 (pc := 6) hX hn0 (c := c0) (fun _ => g4) g5 dX15_init_6 em6 ?_
  obtain rfl := Option.some.inj h
  exact hk _ _ dX15_init_9
theorem ct_X15_init {G : gz_G} {l : Launch} {c0 : Nat} {x1 : Int32}  {m m9 : gM} (h : cf_X15_init c0 x1 m = some ((), m9)) : gz_Met cS G l yX15_init cX15_init 2 none (mRm 2 40) [.ref (gz_ad G c0), .int x1] m m9 none :=
  gz_ofVc (by decide +kernel) (Nat.le_of_ble_eq_true rfl) fun X _ hn hX hk => wm_X15_init hX hn h hk
theorem cg_X15_13_4 {X : gz_X} {G : gz_G} {cc : ByteArray} {nL fr lo pc : Nat} {rem : Nat × Nat} {m : gM} {lv : List (Nat × Value)} {st : List Value} (hX : gz_C cS X G cc nL RX15 fr lo) {c : Nat} {v : Value} (hK : clc m.1 m.2.1 m.2.2.2.2.1 → m.1 c = 4 + 1) (hv : clc m.1 m.2.1 m.2.2.2.2.1 → gz_u (gz_ad G) m (ftC 4 0) c 0 = v) (hd : decode cc pc = .ok (.getfield 13, 3)) (kk : gz_V cS X G nL rem m (pc + 3) lv (v :: st)) : gz_V cS X G nL rem m pc lv (.ref (gz_ad G c) :: st) :=
  gz_getf hX (C := RX4) (T := TX4) (N := 1) (ci := 4) (k := 0) rfl (by decide) in_X4 (by decide) (Or.inr ⟨_, va_Nw.use rfl (cz_n (Z := cS) hX q402 rfl)⟩) hd hK hv kk
theorem cg_X15_7_13 {X : gz_X} {G : gz_G} {cc : ByteArray} {nL fr lo pc : Nat} {rem : Nat × Nat} {m : gM} {lv : List (Nat × Value)} {st : List Value} (hX : gz_C cS X G cc nL RX15 fr lo) {c : Nat} {v : Value} (hK : clc m.1 m.2.1 m.2.2.2.2.1 → m.1 c = 13 + 1) (hv : clc m.1 m.2.1 m.2.2.2.2.1 → gz_u (gz_ad G) m (ftC 13 0) c 0 = v) (hd : decode cc pc = .ok (.getfield 7, 3)) (kk : gz_V cS X G nL rem m (pc + 3) lv (v :: st)) : gz_V cS X G nL rem m pc lv (.ref (gz_ad G c) :: st) :=
  gz_getf hX (C := RX15) (T := TX15) (N := 1) (ci := 13) (k := 0) rfl (by decide) in_X15 (by decide) (Or.inl (hX.2.2.2.2.1 _ q1132)) hd hK hv kk
theorem cc_X15_19 {X : gz_X} {G : gz_G} {cc : ByteArray} {nL fr lo pc : Nat} {rem : Nat × Nat} {lv : List (Nat × Value)} {rest st0 : List Value} (hX : gz_C cS X G cc nL RX15 fr lo) {x0 : Int64} {m m9 : gM}  {r : Int64} (h : cf_X0_held x0 m = some (r, m9)) (hroom : 1 + 1 ≤ fr ∧ 8 + (2 + 11) + 23 ≤ lo) (hst : st0 = [.long x0] ++ rest) (hW : (rest.map fun v => v.category).sum ≤ 8) (hd : decode cc pc = .ok (.invokestatic 19, 3)) (kk : gz_V cS X G nL rem m9 (pc + 3) lv (.long r :: rest)) : gz_V cS X G nL rem m pc lv st0 :=
  gz_callSN hX cs_E (As := [.long x0]) (rest := rest) (ct_X0_held (l := X.2.1) h) q1415 (cz_n (Z := cS) hX q1413 rfl) q167 q1414 (n := 1) (by decide +kernel) hroom rfl hst hW hd (rem := rem) kk
/-! FirstSnuffer$Asked.at(LFirstSnuffer$Moment;)J -/
noncomputable def cf_X15_at (c0 : Nat) (c1 : Nat) (m : gM) : Option (Int64 × gM) :=
  (if gK m c1 = 5 then gz_let (gP m c1 0) fun r2 => (if r2 ≠ 0 then (if gK m c0 = 14 then (if gK m r2 = 105 then (if gz_in (gI m c0 0) (gN m r2) then ((cf_X0_held (gL m r2 (gz_ix (gI m c0 0))) m).bind fun (r7, m8) => some (r7, m8)) else none) else none) else none) else none) else none)
theorem wm_X15_at {X : gz_X} {G : gz_G} (hX : gz_C cS X G cX15_at 2 RX15 2 44) {c0 : Nat} {c1 : Nat}  {m : gM} {z : (Int64 × gM)} (h : cf_X15_at c0 c1 m = some z) (hk : (fun z : (Int64 × gM) => gz_kL cS X G 2 (0, 0) cX15_at z.2 z.1) z) : gz_V cS X G 2 (0, 0) m 0 [(0, .ref (gz_ad G c0)), (1, .ref (gz_ad G c1))] [] := by
  unfold cf_X15_at at h
  refine gz_aload_n (pc := 0) hX dX15_at_0 rfl 1 rfl ?_
  obtain ⟨g1, h⟩ := gz_gu h
  obtain ⟨r2, er2, h⟩ := gz_lt h
  obtain ⟨g3, h⟩ := gz_gu h
  refine cg_X15_13_4 (pc := 1) hX (c := c1) (v := .ref (gz_ad G r2)) (fun _ => g1) (fun _ => gz_rq er2 g3) dX15_at_1 ?_
  refine gz_aload_n (pc := 4) hX dX15_at_4 rfl 0 rfl ?_
  obtain ⟨g4, h⟩ := gz_gu h
  refine cg_X15_7_13 (pc := 5) hX (c := c0) (v := .int (gI m c0 0)) (fun _ => g4) (fun _ => rfl) dX15_at_5 ?_
  obtain ⟨g5, h⟩ := gz_gu h
  obtain ⟨g6, h⟩ := gz_gu h
  refine gz_lald2 (pc := 8) (c := r2) (n := gN m r2) hX rfl (fun _ => ⟨g5, rfl⟩) g6 dX15_at_8 ?_
  obtain ⟨⟨r7, m8⟩, c9, h⟩ := gz_bd h
  refine cc_X15_19 (pc := 9) hX c9 ⟨Nat.le_of_ble_eq_true rfl, Nat.le_of_ble_eq_true rfl⟩ (rest := []) rfl (Nat.le_of_ble_eq_true rfl) dX15_at_9 ?_
  obtain rfl := Option.some.inj h
  exact hk _ _ dX15_at_12
theorem ct_X15_at {G : gz_G} {l : Launch} {c0 : Nat} {c1 : Nat}  {m m9 : gM} {r : Int64} (h : cf_X15_at c0 c1 m = some (r, m9)) : gz_Met cS G l yX15_at cX15_at 2 (some .long) (mRm 2 44) [.ref (gz_ad G c0), .ref (gz_ad G c1)] m m9 (some (.long r)) :=
  gz_ofL (by decide +kernel) (Nat.le_of_ble_eq_true rfl) fun X _ hX hk => wm_X15_at hX h hk
theorem cc_J13_300 {X : gz_X} {G : gz_G} {cc : ByteArray} {nL fr lo pc : Nat} {rem : Nat × Nat} {lv : List (Nat × Value)} {rest st0 : List Value} (hX : gz_C cS X G cc nL RJ13 fr lo) {c0 : Nat} {x1 : Int32} {m m9 : gM}  {r : Nat} (h : cf_J13_copyOf_2 c0 x1 m = some (r, m9)) (hroom : 1 + 1 ≤ fr ∧ 8 + (4 + 11) + 60 ≤ lo) (hst : st0 = [.ref (gz_ad G 16), .int x1, .ref (gz_ad G c0)] ++ rest) (hW : (rest.map fun v => v.category).sum ≤ 8) (hd : decode cc pc = .ok (.invokestatic 300, 3)) (kk : gz_V cS X G nL rem m9 (pc + 3) lv (.ref (gz_ad G r) :: rest)) : gz_V cS X G nL (rem.1 + (gZ m9 - gZ m), rem.2 + (gW m9 - gW m)) m pc lv st0 :=
  gz_callS hX cs_E (As := [.ref (gz_ad G c0), .int x1, .ref (gz_ad G 16)]) (rest := rest) (ct_J13_copyOf_2 (l := X.2.1) h) (lw_S q908 q909 q188 q910) (n := 3) (by decide +kernel) hroom rfl hst hW hd (rem := rem) kk
/-! java/util/Arrays.copyOf([Ljava/lang/Object;I)[Ljava/lang/Object; -/
noncomputable def cf_J13_copyOf (c0 : Nat) (x1 : Int32) (m : gM) : Option (Nat × gM) :=
  (if gK m c0 = 106 then ((cf_J13_copyOf_2 c0 x1 m).bind fun (r2, m3) => (if gZ m ≤ gZ m3 ∧ gW m ≤ gW m3 then some (r2, m3) else none)) else none)
theorem wm_J13_copyOf {X : gz_X} {G : gz_G} {zE : Nat × Nat} (hX : gz_C cS X G cJ13_copyOf 2 RJ13 2 83) {c0 : Nat} {x1 : Int32}  {m : gM} {z : (Nat × gM)} (h : cf_J13_copyOf c0 x1 m = some z) (hk : (fun z : (Nat × gM) => gz_kRa cS X G 2 zE cJ13_copyOf z.2 z.1) z) : gz_Va cS X G 2 zE m 0 [(0, .ref (gz_ad G c0)), (1, .int x1)] [] := by
  unfold cf_J13_copyOf at h
  refine gz_Vs (fun _ kk => gz_aload_n (pc := 0) hX dJ13_copyOf_0 rfl 0 rfl kk) rfl ?_
  refine gz_Vs (fun _ kk => gz_iload_n (pc := 1) hX dJ13_copyOf_1 rfl 1 rfl kk) rfl ?_
  refine gz_Vs (fun _ kk => gz_aload_n (pc := 2) hX dJ13_copyOf_2 rfl 0 rfl kk) rfl ?_
  obtain ⟨g1, h⟩ := gz_gu h
  refine gz_Vs (fun _ kk => gz_getC (pc := 3) (c := c0) (d := 16) (t := 5) (C := "[Ljava/lang/Object;") hX rfl g1 (by decide +kernel) q879 (cz_n (Z := cS) hX q2700 rfl) q2699 q880 q907 (cz_s hX).2.2.2.1.2.2 ⟨Nat.le_of_ble_eq_true rfl, Nat.le_of_ble_eq_true rfl⟩ (Nat.le_of_ble_eq_true rfl) dJ13_copyOf_3 kk) rfl ?_
  obtain ⟨⟨r2, m3⟩, c4, h⟩ := gz_bd h
  obtain ⟨g5, h⟩ := gz_gu h
  refine gz_Vc (k := gZ m3 - gZ m) (n := gW m3 - gW m) (fun _ kk => cc_J13_300 (pc := 6) hX c4 ⟨Nat.le_of_ble_eq_true rfl, Nat.le_of_ble_eq_true rfl⟩ (rest := []) rfl (Nat.le_of_ble_eq_true rfl) dJ13_copyOf_6 kk) ⟨by have := g5.1; dsimp only [gZ] at *; omega, by have := g5.2; dsimp only [gW] at *; omega⟩ ?_
  obtain rfl := Option.some.inj h
  exact hk _ _ dJ13_copyOf_9
theorem ct_J13_copyOf {G : gz_G} {l : Launch} {c0 : Nat} {x1 : Int32}  {m m9 : gM} {r : Nat} (h : cf_J13_copyOf c0 x1 m = some (r, m9)) : gz_Met cS G l yJ13_copyOf cJ13_copyOf 2 (some (.array (.object "java/lang/Object"))) (mRc 2 83 (gZ m9 - gZ m) (gW m9 - gW m)) [.ref (gz_ad G c0), .int x1] m m9 (some (.ref (gz_ad G r))) :=
  gz_ofR (Or.inr ⟨_, rfl⟩) (by decide +kernel) (Nat.le_of_ble_eq_true rfl) fun X _ hX hk => (wm_J13_copyOf (zE := m9.2.2.2.2.2) hX h (fun pc lv hd => gz_Ve (hk pc lv hd))).2
theorem cc_J12_62 {X : gz_X} {G : gz_G} {cc : ByteArray} {nL fr lo pc : Nat} {rem : Nat × Nat} {lv : List (Nat × Value)} {rest st0 : List Value} (hX : gz_C cS X G cc nL RJ12 fr lo) {x0 : Int32} {c1 : Nat} {x2 : Int32} {x3 : Int32} {m m9 : gM}  {r : Int32} (h : cf_J12_signedHashCode x0 c1 x2 x3 m = some (r, m9)) (hroom : 0 + 1 ≤ fr ∧ 8 + (6 + 11) + 0 ≤ lo) (hst : st0 = [.int x3, .int x2, .ref (gz_ad G c1), .int x0] ++ rest) (hW : (rest.map fun v => v.category).sum ≤ 8) (hd : decode cc pc = .ok (.invokestatic 62, 3)) (kk : gz_V cS X G nL rem m9 (pc + 3) lv (.int r :: rest)) : gz_V cS X G nL rem m pc lv st0 :=
  gz_callS hX cs_E (As := [.int x0, .ref (gz_ad G c1), .int x2, .int x3]) (rest := rest) (ct_J12_signedHashCode (l := X.2.1) h) (lw_S q746 q747 q186 q748) (n := 4) (by decide +kernel) hroom rfl hst hW hd (rem := rem) kk
/-! jdk/internal/util/ArraysSupport.vectorizedHashCode(Ljava/lang/Object;IIII)I -/
noncomputable def cf_J12_vectorizedHashCode (c0 : Nat) (x1 : Int32) (x2 : Int32) (x3 : Int32) (x4 : Int32) (m : gM) : Option (Int32 × gM) :=
  (if x4 = (4 : Int32) then (if gK m c0 = 102 then ((cf_J12_signedHashCode x3 c0 x1 x2 m).bind fun (r3, m4) => some (r3, m4)) else none) else (if x4 = (5 : Int32) then none else (if x4 = (6 : Int32) then none else (if x4 = (7 : Int32) then none else (if x4 = (8 : Int32) then (if gK m c0 = 102 then none else none) else (if x4 = (9 : Int32) then none else (if x4 = (10 : Int32) then (if gK m c0 = 101 then none else none) else none)))))))
theorem wm_J12_vectorizedHashCode {X : gz_X} {G : gz_G} (hX : gz_C cS X G cJ12_vectorizedHashCode 5 RJ12 1 25) {c0 : Nat} {x1 : Int32} {x2 : Int32} {x3 : Int32} {x4 : Int32}  {m : gM} {z : (Int32 × gM)} (h : cf_J12_vectorizedHashCode c0 x1 x2 x3 x4 m = some z) (hk : (fun z : (Int32 × gM) => gz_kI cS X G 5 (0, 0) cJ12_vectorizedHashCode z.2 z.1) z) : gz_V cS X G 5 (0, 0) m 0 [(0, .ref (gz_ad G c0)), (1, .int x1), (2, .int x2), (3, .int x3), (4, .int x4)] [] := by
  unfold cf_J12_vectorizedHashCode at h
  refine gz_iload (pc := 0) hX dJ12_vectorizedHashCode_0 4 rfl ?_
  by_cases g1 : x4 = (4 : Int32)
  · replace h := gz_it' g1 h
    refine gz_tsIn (pc := 2) (tgt := 44) (off := 42) (v := (4 : Int32)) hX g1 dJ12_vectorizedHashCode_2 (by decide) (by decide) ?_
    refine gz_iload_n (pc := 44) hX dJ12_vectorizedHashCode_44 rfl 3 rfl ?_
    refine gz_aload_n (pc := 45) hX dJ12_vectorizedHashCode_45 rfl 0 rfl ?_
    obtain ⟨g2, h⟩ := gz_gu h
    refine gz_castA (pc := 46) (c := c0) (t := 1) hX rfl g2 q745 (by decide +kernel) dJ12_vectorizedHashCode_46 ?_
    refine gz_iload_n (pc := 49) hX dJ12_vectorizedHashCode_49 rfl 1 rfl ?_
    refine gz_iload_n (pc := 50) hX dJ12_vectorizedHashCode_50 rfl 2 rfl ?_
    obtain ⟨⟨r3, m4⟩, c5, h⟩ := gz_bd h
    refine cc_J12_62 (pc := 51) hX c5 ⟨Nat.le_of_ble_eq_true rfl, Nat.le_of_ble_eq_true rfl⟩ (rest := []) rfl (Nat.le_of_ble_eq_true rfl) dJ12_vectorizedHashCode_51 ?_
    refine gz_goto (pc := 54) (tgt := 157) hX dJ12_vectorizedHashCode_54 (by decide) ?_
    obtain rfl := Option.some.inj h
    exact hk _ _ dJ12_vectorizedHashCode_157
  · replace h := gz_if' g1 h
    by_cases g6 : x4 = (5 : Int32)
    · replace h := gz_it' g6 h
      refine gz_tsIn (pc := 2) (tgt := 57) (off := 55) (v := (5 : Int32)) hX g6 dJ12_vectorizedHashCode_2 (by decide) (by decide) ?_
      refine gz_aload_n (pc := 57) hX dJ12_vectorizedHashCode_57 rfl 0 rfl ?_
      exact nomatch h
    · replace h := gz_if' g6 h
      by_cases g7 : x4 = (6 : Int32)
      · replace h := gz_it' g7 h
        refine gz_tsIn (pc := 2) (tgt := 129) (off := 127) (v := (6 : Int32)) hX g7 dJ12_vectorizedHashCode_2 (by decide) (by decide) ?_
        exact nomatch h
      · replace h := gz_if' g7 h
        by_cases g8 : x4 = (7 : Int32)
        · replace h := gz_it' g8 h
          refine gz_tsIn (pc := 2) (tgt := 129) (off := 127) (v := (7 : Int32)) hX g8 dJ12_vectorizedHashCode_2 (by decide) (by decide) ?_
          exact nomatch h
        · replace h := gz_if' g8 h
          by_cases g9 : x4 = (8 : Int32)
          · replace h := gz_it' g9 h
            refine gz_tsIn (pc := 2) (tgt := 90) (off := 88) (v := (8 : Int32)) hX g9 dJ12_vectorizedHashCode_2 (by decide) (by decide) ?_
            refine gz_iload_n (pc := 90) hX dJ12_vectorizedHashCode_90 rfl 3 rfl ?_
            refine gz_aload_n (pc := 91) hX dJ12_vectorizedHashCode_91 rfl 0 rfl ?_
            obtain ⟨g10, h⟩ := gz_gu h
            refine gz_castA (pc := 92) (c := c0) (t := 1) hX rfl g10 q745 (by decide +kernel) dJ12_vectorizedHashCode_92 ?_
            refine gz_iload_n (pc := 95) hX dJ12_vectorizedHashCode_95 rfl 1 rfl ?_
            refine gz_iload_n (pc := 96) hX dJ12_vectorizedHashCode_96 rfl 2 rfl ?_
            exact nomatch h
          · replace h := gz_if' g9 h
            by_cases g11 : x4 = (9 : Int32)
            · replace h := gz_it' g11 h
              refine gz_tsIn (pc := 2) (tgt := 103) (off := 101) (v := (9 : Int32)) hX g11 dJ12_vectorizedHashCode_2 (by decide) (by decide) ?_
              refine gz_iload_n (pc := 103) hX dJ12_vectorizedHashCode_103 rfl 3 rfl ?_
              refine gz_aload_n (pc := 104) hX dJ12_vectorizedHashCode_104 rfl 0 rfl ?_
              exact nomatch h
            · replace h := gz_if' g11 h
              by_cases g12 : x4 = (10 : Int32)
              · replace h := gz_it' g12 h
                refine gz_tsIn (pc := 2) (tgt := 116) (off := 114) (v := (10 : Int32)) hX g12 dJ12_vectorizedHashCode_2 (by decide) (by decide) ?_
                refine gz_iload_n (pc := 116) hX dJ12_vectorizedHashCode_116 rfl 3 rfl ?_
                refine gz_aload_n (pc := 117) hX dJ12_vectorizedHashCode_117 rfl 0 rfl ?_
                obtain ⟨g13, h⟩ := gz_gu h
                refine gz_castA (pc := 118) (c := c0) (t := 0) hX rfl g13 q776 (by decide +kernel) dJ12_vectorizedHashCode_118 ?_
                refine gz_iload_n (pc := 121) hX dJ12_vectorizedHashCode_121 rfl 1 rfl ?_
                refine gz_iload_n (pc := 122) hX dJ12_vectorizedHashCode_122 rfl 2 rfl ?_
                exact nomatch h
              · replace h := gz_if' g12 h
                have ng1 := lv_neT g1 (a := 4) (by decide)
                have ng6 := lv_neT g6 (a := 5) (by decide)
                have ng7 := lv_neT g7 (a := 6) (by decide)
                have ng8 := lv_neT g8 (a := 7) (by decide)
                have ng9 := lv_neT g9 (a := 8) (by decide)
                have ng11 := lv_neT g11 (a := 9) (by decide)
                have ng12 := lv_neT g12 (a := 10) (by decide)
                refine gz_tsOut (pc := 2) (tgt := 129) hX dJ12_vectorizedHashCode_2 (by omega) (by decide) ?_
                exact nomatch h
theorem ct_J12_vectorizedHashCode {G : gz_G} {l : Launch} {c0 : Nat} {x1 : Int32} {x2 : Int32} {x3 : Int32} {x4 : Int32}  {m m9 : gM} {r : Int32} (h : cf_J12_vectorizedHashCode c0 x1 x2 x3 x4 m = some (r, m9)) : gz_Met cS G l yJ12_vectorizedHashCode cJ12_vectorizedHashCode 5 (some .int) (mRm 1 25) [.ref (gz_ad G c0), .int x1, .int x2, .int x3, .int x4] m m9 (some (.int r)) :=
  gz_ofI (by decide +kernel) (Nat.le_of_ble_eq_true rfl) fun X _ hX hk => wm_J12_vectorizedHashCode hX h hk
theorem cc_J12_194 {X : gz_X} {G : gz_G} {cc : ByteArray} {nL fr lo pc : Nat} {rem : Nat × Nat} {lv : List (Nat × Value)} {rest st0 : List Value} (hX : gz_C cS X G cc nL RJ12 fr lo) {x0 : Int32} {x1 : Int32} {m m9 : gM}  {r : Int32} (h : cf_J8_max x0 x1 m = some (r, m9)) (hroom : 0 + 1 ≤ fr ∧ 8 + (2 + 11) + 0 ≤ lo) (hst : st0 = [.int x1, .int x0] ++ rest) (hW : (rest.map fun v => v.category).sum ≤ 8) (hd : decode cc pc = .ok (.invokestatic 194, 3)) (kk : gz_V cS X G nL rem m9 (pc + 3) lv (.int r :: rest)) : gz_V cS X G nL rem m pc lv st0 :=
  gz_callS hX cs_E (As := [.int x0, .int x1]) (rest := rest) (ct_J8_max (l := X.2.1) h) (lw_S q869 q870 q181 q871) (n := 2) (by decide +kernel) hroom rfl hst hW hd (rem := rem) kk
theorem cc_J12_201 {X : gz_X} {G : gz_G} {cc : ByteArray} {nL fr lo pc : Nat} {rem : Nat × Nat} {lv : List (Nat × Value)} {rest st0 : List Value} (hX : gz_C cS X G cc nL RJ12 fr lo) {x0 : Int32} {x1 : Int32} {m m9 : gM}  {r : Int32} (h : cf_J12_hugeLength x0 x1 m = some (r, m9)) (hroom : 0 + 1 ≤ fr ∧ 8 + (3 + 11) + 0 ≤ lo) (hst : st0 = [.int x1, .int x0] ++ rest) (hW : (rest.map fun v => v.category).sum ≤ 8) (hd : decode cc pc = .ok (.invokestatic 201, 3)) (kk : gz_V cS X G nL rem m9 (pc + 3) lv (.int r :: rest)) : gz_V cS X G nL rem m pc lv st0 :=
  gz_callS hX cs_E (As := [.int x0, .int x1]) (rest := rest) (ct_J12_hugeLength (l := X.2.1) h) (lw_S q873 q874 q186 q875) (n := 2) (by decide +kernel) hroom rfl hst hW hd (rem := rem) kk
/-! jdk/internal/util/ArraysSupport.newLength(III)I -/
noncomputable def mj_J12_newLength_21 (x0 : Int32) (x1 : Int32) (m : gM) : Option (Int32 × gM) :=
  ((cf_J12_hugeLength x0 x1 m).bind fun (r1, m2) => some (r1, m2))
theorem wb_J12_newLength_21 {X : gz_X} {G : gz_G} (hX : gz_C cS X G cJ12_newLength 4 RJ12 1 22) {x0 : Int32} {x1 : Int32}  {m : gM} {z : (Int32 × gM)} (h : mj_J12_newLength_21 x0 x1 m = some z) (hk : (fun z : (Int32 × gM) => gz_kI cS X G 4 (0, 0) cJ12_newLength z.2 z.1) z) : gz_V cS X G 4 (0, 0) m 21 [(0, .int x0), (1, .int x1)] [] := by
  unfold mj_J12_newLength_21 at h
  refine gz_iload_n (pc := 21) hX dJ12_newLength_21 rfl 0 rfl ?_
  refine gz_iload_n (pc := 22) hX dJ12_newLength_22 rfl 1 rfl ?_
  obtain ⟨⟨r1, m2⟩, c3, h⟩ := gz_bd h
  refine cc_J12_201 (pc := 23) hX c3 ⟨Nat.le_of_ble_eq_true rfl, Nat.le_of_ble_eq_true rfl⟩ (rest := []) rfl (Nat.le_of_ble_eq_true rfl) dJ12_newLength_23 ?_
  obtain rfl := Option.some.inj h
  exact hk _ _ dJ12_newLength_26
noncomputable def cf_J12_newLength (x0 : Int32) (x1 : Int32) (x2 : Int32) (m : gM) : Option (Int32 × gM) :=
  ((cf_J8_max x1 x2 m).bind fun (r1, m2) => gz_let ((x0 + r1)) fun y4 => (if y4 ≤ (0 : Int32) then (mj_J12_newLength_21 x0 x1 m2) else (if (2147483639 : Int32) < y4 then (mj_J12_newLength_21 x0 x1 m2) else some (y4, m2))))
theorem wm_J12_newLength {X : gz_X} {G : gz_G} (hX : gz_C cS X G cJ12_newLength 4 RJ12 1 22) {x0 : Int32} {x1 : Int32} {x2 : Int32}  {m : gM} {z : (Int32 × gM)} (h : cf_J12_newLength x0 x1 x2 m = some z) (hk : (fun z : (Int32 × gM) => gz_kI cS X G 4 (0, 0) cJ12_newLength z.2 z.1) z) : gz_V cS X G 4 (0, 0) m 0 [(0, .int x0), (1, .int x1), (2, .int x2)] [] := by
  unfold cf_J12_newLength at h
  refine gz_iload_n (pc := 0) hX dJ12_newLength_0 rfl 0 rfl ?_
  refine gz_iload_n (pc := 1) hX dJ12_newLength_1 rfl 1 rfl ?_
  refine gz_iload_n (pc := 2) hX dJ12_newLength_2 rfl 2 rfl ?_
  obtain ⟨⟨r1, m2⟩, c3, h⟩ := gz_bd h
  refine cc_J12_194 (pc := 3) hX c3 ⟨Nat.le_of_ble_eq_true rfl, Nat.le_of_ble_eq_true rfl⟩ (rest := [.int x0]) rfl (Nat.le_of_ble_eq_true rfl) dJ12_newLength_3 ?_
  refine gz_iadd (pc := 6) hX dJ12_newLength_6 ?_
  obtain ⟨y4, ey4, h⟩ := gz_lt h
  refine gz_topi ey4 ?_
  refine gz_istore_n (pc := 7) (lw := [(3, .int y4), (0, .int x0), (1, .int x1), (2, .int x2)]) hX dJ12_newLength_7 rfl (by decide) rfl ?_
  refine gz_iconst (pc := 8) (v := (0 : Int32)) hX dJ12_newLength_8 (by decide) ?_
  refine gz_iload_n (pc := 9) hX dJ12_newLength_9 rfl 0 rfl ?_
  refine gz_icmp_ge (pc := 10) (tgt := 21) hX dJ12_newLength_10 (by decide) (fun g5 => ?_) (fun g5 => ?_)
  · replace h := gz_it' g5 h
    refine gz_sub (lw := [(0, .int x0), (1, .int x1)]) [1, 2] rfl ?_
    exact wb_J12_newLength_21 hX h hk
  · replace h := gz_if' g5 h
    refine gz_iload_n (pc := 13) hX dJ12_newLength_13 rfl 0 rfl ?_
    refine gz_ldc (pc := 14) (v := (2147483639 : Int32)) hX q872 dJ12_newLength_14 ?_
    refine gz_icmp_gt (pc := 16) (tgt := 21) hX dJ12_newLength_16 (by decide) (fun g6 => ?_) (fun g6 => ?_)
    · replace h := gz_it' g6 h
      refine gz_sub (lw := [(0, .int x0), (1, .int x1)]) [1, 2] rfl ?_
      exact wb_J12_newLength_21 hX h hk
    · replace h := gz_if' g6 h
      refine gz_iload_n (pc := 19) hX dJ12_newLength_19 rfl 0 rfl ?_
      obtain rfl := Option.some.inj h
      exact hk _ _ dJ12_newLength_20
theorem ct_J12_newLength {G : gz_G} {l : Launch} {x0 : Int32} {x1 : Int32} {x2 : Int32}  {m m9 : gM} {r : Int32} (h : cf_J12_newLength x0 x1 x2 m = some (r, m9)) : gz_Met cS G l yJ12_newLength cJ12_newLength 4 (some .int) (mRm 1 22) [.int x0, .int x1, .int x2] m m9 (some (.int r)) :=
  gz_ofI (by decide +kernel) (Nat.le_of_ble_eq_true rfl) fun X _ hX hk => wm_J12_newLength hX h hk
theorem cc_X0_129 {X : gz_X} {G : gz_G} {cc : ByteArray} {nL fr lo pc : Nat} {rem : Nat × Nat} {lv : List (Nat × Value)} {rest st0 : List Value} (hX : gz_C cS X G cc nL RX0 fr lo) {x1 : Int32} {m m9 : gM} (hK : clc m.1 m.2.1 m.2.2.2.2.1 → m.1 1000 = 0 + 1)  (h : cf_X0_lays x1 m = some ((), m9)) (hroom : 0 + 1 ≤ fr ∧ 8 + (3 + 11) + 0 ≤ lo) (hst : st0 = [.int x1, .ref (gz_ad G 1000)] ++ rest) (hW : (rest.map fun v => v.category).sum ≤ 8) (hd : decode cc pc = .ok (.invokevirtual 129, 3)) (kk : gz_V cS X G nL rem m9 (pc + 3) lv (rest)) : gz_V cS X G nL rem m pc lv st0 :=
  gz_callV2 hX cs_E (As := [.int x1]) (rest := rest) (q := (RX0, TX0, 28)) (ci := 0) (c := 1000) (ct_X0_lays (l := X.2.1) h) (lw_V q596 q598 qs3 q167 q599) (n := 1) (by decide +kernel) hroom rfl rfl (by decide) hK hst hW hd (rem := rem) kk
/-! FirstSnuffer.feed(IIIII)I -/
noncomputable def cf_X0_feed (x1 : Int32) (x2 : Int32) (x3 : Int32) (x4 : Int32) (x5 : Int32) (m : gM) : Option (Int32 × gM) :=
  (if ((gI m 1000 2) + (20 : Int32)) ≤ (1600 : Int32) then ((cf_X0_lays x1 m).bind fun (_, m3) => ((cf_X0_lays x2 m3).bind fun (_, m6) => ((cf_X0_lays x3 m6).bind fun (_, m9) => ((cf_X0_lays x4 m9).bind fun (_, m12) => ((cf_X0_lays x5 m12).bind fun (_, m15) => some ((gI m15 1000 2), m15)))))) else ((cf_X0_refuses (0 : Int32) m).bind fun (r17, m18) => some (r17, m18)))
theorem wm_X0_feed {X : gz_X} {G : gz_G} (hX : gz_C cS X G cX0_feed 6 RX0 1 22) {x1 : Int32} {x2 : Int32} {x3 : Int32} {x4 : Int32} {x5 : Int32}  {m : gM} {z : (Int32 × gM)} (h : cf_X0_feed x1 x2 x3 x4 x5 m = some z) (hk : (fun z : (Int32 × gM) => gz_kI cS X G 6 (0, 0) cX0_feed z.2 z.1) z) : gz_V cS X G 6 (0, 0) m 0 [(0, .ref (gz_ad G 1000)), (1, .int x1), (2, .int x2), (3, .int x3), (4, .int x4), (5, .int x5)] [] := by
  unfold cf_X0_feed at h
  refine gz_aload_n (pc := 0) hX dX0_feed_0 rfl 0 rfl ?_
  refine cg_X0_122_0 (pc := 1) hX (c := 1000) (v := .int (gI m 1000 2)) (fun h => cz_k h rfl) (fun _ => rfl) dX0_feed_1 ?_
  refine gz_bipush (pc := 4) (v := (20 : Int32)) hX dX0_feed_4 (by decide) ?_
  refine gz_iadd (pc := 6) hX dX0_feed_6 ?_
  refine gz_sipush (pc := 7) (v := (1600 : Int32)) hX dX0_feed_7 (by decide) ?_
  refine gz_icmp_le (pc := 10) (tgt := 19) hX dX0_feed_10 (by decide) (fun g1 => ?_) (fun g1 => ?_)
  · replace h := gz_it' g1 h
    refine gz_aload_n (pc := 19) hX dX0_feed_19 rfl 0 rfl ?_
    refine gz_iload_n (pc := 20) hX dX0_feed_20 rfl 1 rfl ?_
    obtain ⟨⟨⟨⟩, m3⟩, c4, h⟩ := gz_bd h
    refine cc_X0_129 (pc := 21) hX (fun h => cz_k h rfl) c4 ⟨Nat.le_of_ble_eq_true rfl, Nat.le_of_ble_eq_true rfl⟩ (rest := []) rfl (Nat.le_of_ble_eq_true rfl) dX0_feed_21 ?_
    refine gz_aload_n (pc := 24) hX dX0_feed_24 rfl 0 rfl ?_
    refine gz_iload_n (pc := 25) hX dX0_feed_25 rfl 2 rfl ?_
    obtain ⟨⟨⟨⟩, m6⟩, c7, h⟩ := gz_bd h
    refine cc_X0_129 (pc := 26) hX (fun h => cz_k h rfl) c7 ⟨Nat.le_of_ble_eq_true rfl, Nat.le_of_ble_eq_true rfl⟩ (rest := []) rfl (Nat.le_of_ble_eq_true rfl) dX0_feed_26 ?_
    refine gz_aload_n (pc := 29) hX dX0_feed_29 rfl 0 rfl ?_
    refine gz_iload_n (pc := 30) hX dX0_feed_30 rfl 3 rfl ?_
    obtain ⟨⟨⟨⟩, m9⟩, c10, h⟩ := gz_bd h
    refine cc_X0_129 (pc := 31) hX (fun h => cz_k h rfl) c10 ⟨Nat.le_of_ble_eq_true rfl, Nat.le_of_ble_eq_true rfl⟩ (rest := []) rfl (Nat.le_of_ble_eq_true rfl) dX0_feed_31 ?_
    refine gz_aload_n (pc := 34) hX dX0_feed_34 rfl 0 rfl ?_
    refine gz_iload (pc := 35) hX dX0_feed_35 4 rfl ?_
    obtain ⟨⟨⟨⟩, m12⟩, c13, h⟩ := gz_bd h
    refine cc_X0_129 (pc := 37) hX (fun h => cz_k h rfl) c13 ⟨Nat.le_of_ble_eq_true rfl, Nat.le_of_ble_eq_true rfl⟩ (rest := []) rfl (Nat.le_of_ble_eq_true rfl) dX0_feed_37 ?_
    refine gz_aload_n (pc := 40) hX dX0_feed_40 rfl 0 rfl ?_
    refine gz_iload (pc := 41) hX dX0_feed_41 5 rfl ?_
    obtain ⟨⟨⟨⟩, m15⟩, c16, h⟩ := gz_bd h
    refine cc_X0_129 (pc := 43) hX (fun h => cz_k h rfl) c16 ⟨Nat.le_of_ble_eq_true rfl, Nat.le_of_ble_eq_true rfl⟩ (rest := []) rfl (Nat.le_of_ble_eq_true rfl) dX0_feed_43 ?_
    refine gz_aload_n (pc := 46) hX dX0_feed_46 rfl 0 rfl ?_
    refine cg_X0_122_0 (pc := 47) hX (c := 1000) (v := .int (gI m15 1000 2)) (fun h => cz_k h rfl) (fun _ => rfl) dX0_feed_47 ?_
    obtain rfl := Option.some.inj h
    exact hk _ _ dX0_feed_50
  · replace h := gz_if' g1 h
    refine gz_aload_n (pc := 13) hX dX0_feed_13 rfl 0 rfl ?_
    refine gz_iconst (pc := 14) (v := (0 : Int32)) hX dX0_feed_14 (by decide) ?_
    obtain ⟨⟨r17, m18⟩, c19, h⟩ := gz_bd h
    refine cc_X0_125 (pc := 15) hX (fun h => cz_k h rfl) c19 ⟨Nat.le_of_ble_eq_true rfl, Nat.le_of_ble_eq_true rfl⟩ (rest := []) rfl (Nat.le_of_ble_eq_true rfl) dX0_feed_15 ?_
    obtain rfl := Option.some.inj h
    exact hk _ _ dX0_feed_18
theorem ct_X0_feed {G : gz_G} {l : Launch} {x1 : Int32} {x2 : Int32} {x3 : Int32} {x4 : Int32} {x5 : Int32}  {m m9 : gM} {r : Int32} (h : cf_X0_feed x1 x2 x3 x4 x5 m = some (r, m9)) : gz_Met cS G l yX0_feed cX0_feed 6 (some .int) (mRm 1 22) [.ref (gz_ad G 1000), .int x1, .int x2, .int x3, .int x4, .int x5] m m9 (some (.int r)) :=
  gz_ofI (by decide +kernel) (Nat.le_of_ble_eq_true rfl) fun X _ hX hk => wm_X0_feed hX h hk
theorem cc_X0_16 {X : gz_X} {G : gz_G} {cc : ByteArray} {nL fr lo pc : Nat} {rem : Nat × Nat} {lv : List (Nat × Value)} {rest st0 : List Value} (hX : gz_C cS X G cc nL RX0 fr lo) {c0 : Nat} {c1 : Nat} {m m9 : gM} (hK : clc m.1 m.2.1 m.2.2.2.2.1 → m.1 c0 = 21 + 1)  {r : Int32} (h : cf_J9_equals c0 c1 m = some (r, m9)) (hroom : 1 + 1 ≤ fr ∧ 8 + (3 + 11) + 22 ≤ lo) (hst : st0 = [.ref (gz_ad G c1), .ref (gz_ad G c0)] ++ rest) (hW : (rest.map fun v => v.category).sum ≤ 8) (hd : decode cc pc = .ok (.invokevirtual 16, 3)) (kk : gz_V cS X G nL rem m9 (pc + 3) lv (.int r :: rest)) : gz_V cS X G nL rem m pc lv st0 :=
  gz_callV2 hX cs_E (As := [.ref (gz_ad G c1)]) (rest := rest) (q := (RJ9, TJ9, 4)) (ci := 21) (c := c0) (ct_J9_equals (l := X.2.1) h) (lw_V q813 q786 q787 q183 q788) (n := 1) (by decide +kernel) hroom rfl rfl (by decide) hK hst hW hd (rem := rem) kk
/-! FirstSnuffer.find(Ljava/lang/String;[Ljava/lang/String;)I -/
def mP_X0_find_2 (X : gz_X) (G : gz_G) (c0 : Nat) (c1 : Nat) (q : (Int32 × gM)) : Prop := gz_V cS X G 3 (0, 0) q.2 2 [(0, .ref (gz_ad G c0)), (1, .ref (gz_ad G c1)), (2, .int q.1)] []
noncomputable def mb_X0_find_2 (c0 : Nat) (c1 : Nat) (x2 : Int32) (m : gM) : Option ((Int32 × gM) ⊕ (Int32 × gM)) :=
  (if gK m c1 = 107 then (if (nI (gN m c1)) ≤ x2 then some (Sum.inr ((-1 : Int32), m)) else (if gK m c1 = 107 then (if gz_in x2 (gN m c1) then gz_let (gP m c1 (gz_ix x2)) fun r5 => (if r5 ≠ 0 then (if gK m r5 = 22 then ((cf_J9_equals r5 c0 m).bind fun (r8, m9) => (if r8 = (0 : Int32) then gz_let (x2 + (1 : Int32)) fun y12 => some (Sum.inl (y12, m9)) else some (Sum.inr (x2, m9)))) else none) else none) else none) else none)) else none)
theorem wb_X0_find_2 {X : gz_X} {G : gz_G} (hX : gz_C cS X G cX0_find 3 RX0 2 44) {c0 : Nat} {c1 : Nat} {x2 : Int32}  {m : gM} {z : ((Int32 × gM) ⊕ (Int32 × gM))} (h : mb_X0_find_2 c0 c1 x2 m = some z) (hk : (Sum.elim (mP_X0_find_2 X G c0 c1) (fun z : (Int32 × gM) => gz_kI cS X G 3 (0, 0) cX0_find z.2 z.1)) z) : gz_V cS X G 3 (0, 0) m 2 [(0, .ref (gz_ad G c0)), (1, .ref (gz_ad G c1)), (2, .int x2)] [] := by
  unfold mb_X0_find_2 at h
  refine gz_iload_n (pc := 2) hX dX0_find_2 rfl 2 rfl ?_
  refine gz_aload_n (pc := 3) hX dX0_find_3 rfl 1 rfl ?_
  obtain ⟨g1, h⟩ := gz_gu h
  refine gz_alen2 (pc := 4) (c := c1) (t := 6) (n := gN m c1) hX rfl (fun _ => ⟨g1, rfl⟩) dX0_find_4 ?_
  refine gz_icmp_ge (pc := 5) (tgt := 26) hX dX0_find_5 (by decide) (fun g2 => ?_) (fun g2 => ?_)
  · replace h := gz_it' g2 h
    refine gz_iconst (pc := 26) (v := (-1 : Int32)) hX dX0_find_26 (by decide) ?_
    obtain rfl := Option.some.inj h
    exact hk _ _ dX0_find_27
  · replace h := gz_if' g2 h
    refine gz_aload_n (pc := 8) hX dX0_find_8 rfl 1 rfl ?_
    refine gz_iload_n (pc := 9) hX dX0_find_9 rfl 2 rfl ?_
    obtain ⟨g3, h⟩ := gz_gu h
    obtain ⟨g4, h⟩ := gz_gu h
    obtain ⟨r5, er5, h⟩ := gz_lt h
    obtain ⟨g6, h⟩ := gz_gu h
    refine gz_aald (pc := 10) (c := c1) (t := 6) (n := gN m c1) hX rfl rfl rfl (v := .ref (gz_ad G r5)) (fun _ => ⟨g3, rfl⟩) g4 (fun _ => gz_rq er5 g6) dX0_find_10 ?_
    refine gz_aload_n (pc := 11) hX dX0_find_11 rfl 0 rfl ?_
    obtain ⟨g7, h⟩ := gz_gu h
    obtain ⟨⟨r8, m9⟩, c10, h⟩ := gz_bd h
    refine cc_X0_16 (pc := 12) hX (fun _ => g7) c10 ⟨Nat.le_of_ble_eq_true rfl, Nat.le_of_ble_eq_true rfl⟩ (rest := []) rfl (Nat.le_of_ble_eq_true rfl) dX0_find_12 ?_
    refine gz_if_eq (pc := 15) (tgt := 20) hX dX0_find_15 (by decide) (fun g11 => ?_) (fun g11 => ?_)
    · replace h := gz_it' g11 h
      obtain ⟨y12, ey12, h⟩ := gz_lt h
      refine gz_iinc (pc := 20) (v := y12) (lw := [(2, .int y12), (0, .ref (gz_ad G c0)), (1, .ref (gz_ad G c1))]) hX dX0_find_20 (k := 2) rfl (by rw [ey12]; rfl) (by decide) rfl ?_
      refine gz_goto (pc := 23) (tgt := 2) hX dX0_find_23 (by decide) ?_
      refine gz_sub (lw := [(0, .ref (gz_ad G c0)), (1, .ref (gz_ad G c1)), (2, .int y12)]) [1, 2, 0] rfl ?_
      obtain rfl := Option.some.inj h
      exact hk
    · replace h := gz_if' g11 h
      refine gz_iload_n (pc := 18) hX dX0_find_18 rfl 2 rfl ?_
      obtain rfl := Option.some.inj h
      exact hk _ _ dX0_find_19
noncomputable def ml_X0_find_2 (c0 : Nat) (c1 : Nat) (x2 : Int32) (m : gM) : Option (Int32 × gM) := gz_loop (fun q : (Int32 × gM) => mb_X0_find_2 c0 c1 q.1 q.2) (x2, m)
theorem wl_X0_find_2 {X : gz_X} {G : gz_G} (hX : gz_C cS X G cX0_find 3 RX0 2 44) {c0 : Nat} {c1 : Nat} {x2 : Int32}  {m : gM} {z : (Int32 × gM)} (h : ml_X0_find_2 c0 c1 x2 m = some z) (hk : (fun z : (Int32 × gM) => gz_kI cS X G 3 (0, 0) cX0_find z.2 z.1) z) : gz_V cS X G 3 (0, 0) m 2 [(0, .ref (gz_ad G c0)), (1, .ref (gz_ad G c1)), (2, .int x2)] [] := by
  have hp : mP_X0_find_2 X G c0 c1 (x2, m) := gz_loop_ind (fun q z hz hkz => wb_X0_find_2 hX  hz hkz) h hk
  exact hp
noncomputable def cf_X0_find (c0 : Nat) (c1 : Nat) (m : gM) : Option (Int32 × gM) :=
  (ml_X0_find_2 c0 c1 (0 : Int32) m)
theorem wm_X0_find {X : gz_X} {G : gz_G} (hX : gz_C cS X G cX0_find 3 RX0 2 44) {c0 : Nat} {c1 : Nat}  {m : gM} {z : (Int32 × gM)} (h : cf_X0_find c0 c1 m = some z) (hk : (fun z : (Int32 × gM) => gz_kI cS X G 3 (0, 0) cX0_find z.2 z.1) z) : gz_V cS X G 3 (0, 0) m 0 [(0, .ref (gz_ad G c0)), (1, .ref (gz_ad G c1))] [] := by
  unfold cf_X0_find at h
  refine gz_iconst (pc := 0) (v := (0 : Int32)) hX dX0_find_0 (by decide) ?_
  refine gz_istore_n (pc := 1) (lw := [(2, .int (0 : Int32)), (0, .ref (gz_ad G c0)), (1, .ref (gz_ad G c1))]) hX dX0_find_1 rfl (by decide) rfl ?_
  refine gz_sub (lw := [(0, .ref (gz_ad G c0)), (1, .ref (gz_ad G c1)), (2, .int (0 : Int32))]) [1, 2, 0] rfl ?_
  exact wl_X0_find_2 hX h hk
theorem ct_X0_find {G : gz_G} {l : Launch} {c0 : Nat} {c1 : Nat}  {m m9 : gM} {r : Int32} (h : cf_X0_find c0 c1 m = some (r, m9)) : gz_Met cS G l yX0_find cX0_find 3 (some .int) (mRm 2 44) [.ref (gz_ad G c0), .ref (gz_ad G c1)] m m9 (some (.int r)) :=
  gz_ofI (by decide +kernel) (Nat.le_of_ble_eq_true rfl) fun X _ hX hk => wm_X0_find hX h hk
theorem cg_X0_31_0 {X : gz_X} {G : gz_G} {cc : ByteArray} {nL fr lo pc : Nat} {rem : Nat × Nat} {m : gM} {lv : List (Nat × Value)} {st : List Value} (hX : gz_C cS X G cc nL RX0 fr lo) {c : Nat} {v : Value} (hK : clc m.1 m.2.1 m.2.2.2.2.1 → m.1 c = 0 + 1) (hv : clc m.1 m.2.1 m.2.2.2.2.1 → gz_u (gz_ad G) m (ftC 0 0) c 0 = v) (hd : decode cc pc = .ok (.getfield 31, 3)) (kk : gz_V cS X G nL rem m (pc + 3) lv (v :: st)) : gz_V cS X G nL rem m pc lv (.ref (gz_ad G c) :: st) :=
  gz_getf hX (C := RX0) (T := TX0) (N := 28) (ci := 0) (k := 0) rfl (by decide) in_X0 (by decide) (Or.inl (hX.2.2.2.2.1 _ q500)) hd hK hv kk
theorem cg_X0_176_1 {X : gz_X} {G : gz_G} {cc : ByteArray} {nL fr lo pc : Nat} {rem : Nat × Nat} {m : gM} {lv : List (Nat × Value)} {st : List Value} (hX : gz_C cS X G cc nL RX0 fr lo) {c : Nat} {v : Value} (hK : clc m.1 m.2.1 m.2.2.2.2.1 → m.1 c = 1 + 1) (hv : clc m.1 m.2.1 m.2.2.2.2.1 → gz_u (gz_ad G) m (ftC 1 6) c 6 = v) (hd : decode cc pc = .ok (.getfield 176, 3)) (kk : gz_V cS X G nL rem m (pc + 3) lv (v :: st)) : gz_V cS X G nL rem m pc lv (.ref (gz_ad G c) :: st) :=
  gz_getf hX (C := RX1) (T := TX1) (N := 9) (ci := 1) (k := 6) rfl (by decide) in_X1 (by decide) (Or.inr ⟨_, va_Nw.use rfl (cz_n (Z := cS) hX q266 rfl)⟩) hd hK hv kk
theorem cc_X0_168 {X : gz_X} {G : gz_G} {cc : ByteArray} {nL fr lo pc : Nat} {rem : Nat × Nat} {lv : List (Nat × Value)} {rest st0 : List Value} (hX : gz_C cS X G cc nL RX0 fr lo) {c0 : Nat} {m m9 : gM} (hK : clc m.1 m.2.1 m.2.2.2.2.1 → m.1 c0 = 20 + 1)  {r : Int32} (h : cf_J2_size c0 m = some (r, m9)) (hroom : 0 + 1 ≤ fr ∧ 8 + (1 + 11) + 0 ≤ lo) (hst : st0 = [.ref (gz_ad G c0)] ++ rest) (hW : (rest.map fun v => v.category).sum ≤ 8) (hd : decode cc pc = .ok (.invokeinterface 168 1, 5)) (kk : gz_V cS X G nL rem m9 (pc + 5) lv (.int r :: rest)) : gz_V cS X G nL rem m pc lv st0 :=
  gz_callF hX cs_E (x := cLs) (As := []) (rest := rest) (q := (RJ2, TJ2, 3)) (ci := 20) (c := c0) (ct_J2_size (l := X.2.1) h) (va_cwF 0 hX.2.2.2.2.1 (lw_app (by intro w hw; simp only [List.mem_cons, List.not_mem_nil, or_false] at hw; rcases hw with e | e | e | e <;> rw [e] <;> first | exact q464 | exact q468 | exact q470 | exact q171) (lw_meth q472)) rfl rfl rfl hX.2.2.2.2.2.1.2.2.2.1 (by decide +kernel) ⟨Nat.le_trans hroom.1 hX.2.2.2.2.2.2.1, Nat.le_trans hroom.2 hX.2.2.2.2.2.2.2⟩) rfl rfl (by decide) hK hst hW hd (rem := rem) kk
/-! FirstSnuffer.ties()I -/
noncomputable def cf_X0_ties  (m : gM) : Option (Int32 × gM) :=
  gz_let (gP m 1000 0) fun r1 => (if r1 ≠ 0 then (if gK m r1 = 2 then gz_let (gP m r1 6) fun r4 => (if r4 ≠ 0 then (if gK m r4 = 21 then ((cf_J2_size r4 m).bind fun (r7, m8) => some (r7, m8)) else none) else none) else none) else none)
theorem wm_X0_ties {X : gz_X} {G : gz_G} (hX : gz_C cS X G cX0_ties 1 RX0 1 20)   {m : gM} {z : (Int32 × gM)} (h : cf_X0_ties  m = some z) (hk : (fun z : (Int32 × gM) => gz_kI cS X G 1 (0, 0) cX0_ties z.2 z.1) z) : gz_V cS X G 1 (0, 0) m 0 [(0, .ref (gz_ad G 1000))] [] := by
  unfold cf_X0_ties at h
  refine gz_aload_n (pc := 0) hX dX0_ties_0 rfl 0 rfl ?_
  obtain ⟨r1, er1, h⟩ := gz_lt h
  obtain ⟨g2, h⟩ := gz_gu h
  refine cg_X0_31_0 (pc := 1) hX (c := 1000) (v := .ref (gz_ad G r1)) (fun h => cz_k h rfl) (fun _ => gz_rq er1 g2) dX0_ties_1 ?_
  obtain ⟨g3, h⟩ := gz_gu h
  obtain ⟨r4, er4, h⟩ := gz_lt h
  obtain ⟨g5, h⟩ := gz_gu h
  refine cg_X0_176_1 (pc := 4) hX (c := r1) (v := .ref (gz_ad G r4)) (fun _ => g3) (fun _ => gz_rq er4 g5) dX0_ties_4 ?_
  obtain ⟨g6, h⟩ := gz_gu h
  obtain ⟨⟨r7, m8⟩, c9, h⟩ := gz_bd h
  refine cc_X0_168 (pc := 7) hX (fun _ => g6) c9 ⟨Nat.le_of_ble_eq_true rfl, Nat.le_of_ble_eq_true rfl⟩ (rest := []) rfl (Nat.le_of_ble_eq_true rfl) dX0_ties_7 ?_
  obtain rfl := Option.some.inj h
  exact hk _ _ dX0_ties_12
theorem ct_X0_ties {G : gz_G} {l : Launch}   {m m9 : gM} {r : Int32} (h : cf_X0_ties  m = some (r, m9)) : gz_Met cS G l yX0_ties cX0_ties 1 (some .int) (mRm 1 20) [.ref (gz_ad G 1000)] m m9 (some (.int r)) :=
  gz_ofI (by decide +kernel) (Nat.le_of_ble_eq_true rfl) fun X _ hX hk => wm_X0_ties hX h hk
theorem cg_X0_173_1 {X : gz_X} {G : gz_G} {cc : ByteArray} {nL fr lo pc : Nat} {rem : Nat × Nat} {m : gM} {lv : List (Nat × Value)} {st : List Value} (hX : gz_C cS X G cc nL RX0 fr lo) {c : Nat} {v : Value} (hK : clc m.1 m.2.1 m.2.2.2.2.1 → m.1 c = 1 + 1) (hv : clc m.1 m.2.1 m.2.2.2.2.1 → gz_u (gz_ad G) m (ftC 1 5) c 5 = v) (hd : decode cc pc = .ok (.getfield 173, 3)) (kk : gz_V cS X G nL rem m (pc + 3) lv (v :: st)) : gz_V cS X G nL rem m pc lv (.ref (gz_ad G c) :: st) :=
  gz_getf hX (C := RX1) (T := TX1) (N := 9) (ci := 1) (k := 5) rfl (by decide) in_X1 (by decide) (Or.inr ⟨_, va_Nw.use rfl (cz_n (Z := cS) hX q263 rfl)⟩) hd hK hv kk
/-! FirstSnuffer.things()I -/
noncomputable def cf_X0_things  (m : gM) : Option (Int32 × gM) :=
  gz_let (gP m 1000 0) fun r1 => (if r1 ≠ 0 then (if gK m r1 = 2 then gz_let (gP m r1 5) fun r4 => (if r4 ≠ 0 then (if gK m r4 = 21 then ((cf_J2_size r4 m).bind fun (r7, m8) => some (r7, m8)) else none) else none) else none) else none)
theorem wm_X0_things {X : gz_X} {G : gz_G} (hX : gz_C cS X G cX0_things 1 RX0 1 20)   {m : gM} {z : (Int32 × gM)} (h : cf_X0_things  m = some z) (hk : (fun z : (Int32 × gM) => gz_kI cS X G 1 (0, 0) cX0_things z.2 z.1) z) : gz_V cS X G 1 (0, 0) m 0 [(0, .ref (gz_ad G 1000))] [] := by
  unfold cf_X0_things at h
  refine gz_aload_n (pc := 0) hX dX0_things_0 rfl 0 rfl ?_
  obtain ⟨r1, er1, h⟩ := gz_lt h
  obtain ⟨g2, h⟩ := gz_gu h
  refine cg_X0_31_0 (pc := 1) hX (c := 1000) (v := .ref (gz_ad G r1)) (fun h => cz_k h rfl) (fun _ => gz_rq er1 g2) dX0_things_1 ?_
  obtain ⟨g3, h⟩ := gz_gu h
  obtain ⟨r4, er4, h⟩ := gz_lt h
  obtain ⟨g5, h⟩ := gz_gu h
  refine cg_X0_173_1 (pc := 4) hX (c := r1) (v := .ref (gz_ad G r4)) (fun _ => g3) (fun _ => gz_rq er4 g5) dX0_things_4 ?_
  obtain ⟨g6, h⟩ := gz_gu h
  obtain ⟨⟨r7, m8⟩, c9, h⟩ := gz_bd h
  refine cc_X0_168 (pc := 7) hX (fun _ => g6) c9 ⟨Nat.le_of_ble_eq_true rfl, Nat.le_of_ble_eq_true rfl⟩ (rest := []) rfl (Nat.le_of_ble_eq_true rfl) dX0_things_7 ?_
  obtain rfl := Option.some.inj h
  exact hk _ _ dX0_things_12
theorem ct_X0_things {G : gz_G} {l : Launch}   {m m9 : gM} {r : Int32} (h : cf_X0_things  m = some (r, m9)) : gz_Met cS G l yX0_things cX0_things 1 (some .int) (mRm 1 20) [.ref (gz_ad G 1000)] m m9 (some (.int r)) :=
  gz_ofI (by decide +kernel) (Nat.le_of_ble_eq_true rfl) fun X _ hX hk => wm_X0_things hX h hk
theorem cg_X0_164_1 {X : gz_X} {G : gz_G} {cc : ByteArray} {nL fr lo pc : Nat} {rem : Nat × Nat} {m : gM} {lv : List (Nat × Value)} {st : List Value} (hX : gz_C cS X G cc nL RX0 fr lo) {c : Nat} {v : Value} (hK : clc m.1 m.2.1 m.2.2.2.2.1 → m.1 c = 1 + 1) (hv : clc m.1 m.2.1 m.2.2.2.2.1 → gz_u (gz_ad G) m (ftC 1 3) c 3 = v) (hd : decode cc pc = .ok (.getfield 164, 3)) (kk : gz_V cS X G nL rem m (pc + 3) lv (v :: st)) : gz_V cS X G nL rem m pc lv (.ref (gz_ad G c) :: st) :=
  gz_getf hX (C := RX1) (T := TX1) (N := 9) (ci := 1) (k := 3) rfl (by decide) in_X1 (by decide) (Or.inr ⟨_, va_Nw.use rfl (cz_n (Z := cS) hX q257 rfl)⟩) hd hK hv kk
/-! FirstSnuffer.halls()I -/
noncomputable def cf_X0_halls  (m : gM) : Option (Int32 × gM) :=
  gz_let (gP m 1000 0) fun r1 => (if r1 ≠ 0 then (if gK m r1 = 2 then gz_let (gP m r1 3) fun r4 => (if r4 ≠ 0 then (if gK m r4 = 21 then ((cf_J2_size r4 m).bind fun (r7, m8) => some (r7, m8)) else none) else none) else none) else none)
theorem wm_X0_halls {X : gz_X} {G : gz_G} (hX : gz_C cS X G cX0_halls 1 RX0 1 20)   {m : gM} {z : (Int32 × gM)} (h : cf_X0_halls  m = some z) (hk : (fun z : (Int32 × gM) => gz_kI cS X G 1 (0, 0) cX0_halls z.2 z.1) z) : gz_V cS X G 1 (0, 0) m 0 [(0, .ref (gz_ad G 1000))] [] := by
  unfold cf_X0_halls at h
  refine gz_aload_n (pc := 0) hX dX0_halls_0 rfl 0 rfl ?_
  obtain ⟨r1, er1, h⟩ := gz_lt h
  obtain ⟨g2, h⟩ := gz_gu h
  refine cg_X0_31_0 (pc := 1) hX (c := 1000) (v := .ref (gz_ad G r1)) (fun h => cz_k h rfl) (fun _ => gz_rq er1 g2) dX0_halls_1 ?_
  obtain ⟨g3, h⟩ := gz_gu h
  obtain ⟨r4, er4, h⟩ := gz_lt h
  obtain ⟨g5, h⟩ := gz_gu h
  refine cg_X0_164_1 (pc := 4) hX (c := r1) (v := .ref (gz_ad G r4)) (fun _ => g3) (fun _ => gz_rq er4 g5) dX0_halls_4 ?_
  obtain ⟨g6, h⟩ := gz_gu h
  obtain ⟨⟨r7, m8⟩, c9, h⟩ := gz_bd h
  refine cc_X0_168 (pc := 7) hX (fun _ => g6) c9 ⟨Nat.le_of_ble_eq_true rfl, Nat.le_of_ble_eq_true rfl⟩ (rest := []) rfl (Nat.le_of_ble_eq_true rfl) dX0_halls_7 ?_
  obtain rfl := Option.some.inj h
  exact hk _ _ dX0_halls_12
theorem ct_X0_halls {G : gz_G} {l : Launch}   {m m9 : gM} {r : Int32} (h : cf_X0_halls  m = some (r, m9)) : gz_Met cS G l yX0_halls cX0_halls 1 (some .int) (mRm 1 20) [.ref (gz_ad G 1000)] m m9 (some (.int r)) :=
  gz_ofI (by decide +kernel) (Nat.le_of_ble_eq_true rfl) fun X _ hX hk => wm_X0_halls hX h hk
theorem cc_X0_181 {X : gz_X} {G : gz_G} {cc : ByteArray} {nL fr lo pc : Nat} {rem : Nat × Nat} {lv : List (Nat × Value)} {rest st0 : List Value} (hX : gz_C cS X G cc nL RX0 fr lo)  {m m9 : gM} (hK : clc m.1 m.2.1 m.2.2.2.2.1 → m.1 1000 = 0 + 1)  {r : Int32} (h : cf_X0_things  m = some (r, m9)) (hroom : 1 + 1 ≤ fr ∧ 8 + (1 + 11) + 20 ≤ lo) (hst : st0 = [.ref (gz_ad G 1000)] ++ rest) (hW : (rest.map fun v => v.category).sum ≤ 8) (hd : decode cc pc = .ok (.invokevirtual 181, 3)) (kk : gz_V cS X G nL rem m9 (pc + 3) lv (.int r :: rest)) : gz_V cS X G nL rem m pc lv st0 :=
  gz_callV2 hX cs_E (As := []) (rest := rest) (q := (RX0, TX0, 28)) (ci := 0) (c := 1000) (ct_X0_things (l := X.2.1) h) (lw_V q1326 q1307 qs38 q167 q1308) (n := 0) (by decide +kernel) hroom rfl rfl (by decide) hK hst hW hd (rem := rem) kk
/-! FirstSnuffer.isThing(I)Z -/
noncomputable def mj_X0_isThing_16  (m : gM) : Option (Int32 × gM) :=
  some ((0 : Int32), m)
theorem wb_X0_isThing_16 {X : gz_X} {G : gz_G} (hX : gz_C cS X G cX0_isThing 2 RX0 2 40)   {m : gM} {z : (Int32 × gM)} (h : mj_X0_isThing_16  m = some z) (hk : (fun z : (Int32 × gM) => gz_kZ cS X G 2 (0, 0) cX0_isThing z.2 z.1) z) : gz_V cS X G 2 (0, 0) m 16 [(0, .ref (gz_ad G 1000))] [] := by
  unfold mj_X0_isThing_16 at h
  refine gz_iconst (pc := 16) (v := (0 : Int32)) hX dX0_isThing_16 (by decide) ?_
  obtain rfl := Option.some.inj h
  exact hk _ _ dX0_isThing_17 (Or.inl rfl)
noncomputable def cf_X0_isThing (x1 : Int32) (m : gM) : Option (Int32 × gM) :=
  (if x1 < (0 : Int32) then (mj_X0_isThing_16  m) else ((cf_X0_things m).bind fun (r2, m3) => (if r2 ≤ x1 then (mj_X0_isThing_16  m3) else some ((1 : Int32), m3))))
theorem wm_X0_isThing {X : gz_X} {G : gz_G} (hX : gz_C cS X G cX0_isThing 2 RX0 2 40) {x1 : Int32}  {m : gM} {z : (Int32 × gM)} (h : cf_X0_isThing x1 m = some z) (hk : (fun z : (Int32 × gM) => gz_kZ cS X G 2 (0, 0) cX0_isThing z.2 z.1) z) : gz_V cS X G 2 (0, 0) m 0 [(0, .ref (gz_ad G 1000)), (1, .int x1)] [] := by
  unfold cf_X0_isThing at h
  refine gz_iload_n (pc := 0) hX dX0_isThing_0 rfl 1 rfl ?_
  refine gz_if_lt (pc := 1) (tgt := 16) hX dX0_isThing_1 (by decide) (fun g1 => ?_) (fun g1 => ?_)
  · replace h := gz_it' g1 h
    refine gz_sub (lw := [(0, .ref (gz_ad G 1000))]) [0] rfl ?_
    exact wb_X0_isThing_16 hX h hk
  · replace h := gz_if' g1 h
    refine gz_iload_n (pc := 4) hX dX0_isThing_4 rfl 1 rfl ?_
    refine gz_aload_n (pc := 5) hX dX0_isThing_5 rfl 0 rfl ?_
    obtain ⟨⟨r2, m3⟩, c4, h⟩ := gz_bd h
    refine cc_X0_181 (pc := 6) hX (fun h => cz_k h rfl) c4 ⟨Nat.le_of_ble_eq_true rfl, Nat.le_of_ble_eq_true rfl⟩ (rest := [.int x1]) rfl (Nat.le_of_ble_eq_true rfl) dX0_isThing_6 ?_
    refine gz_icmp_ge (pc := 9) (tgt := 16) hX dX0_isThing_9 (by decide) (fun g5 => ?_) (fun g5 => ?_)
    · replace h := gz_it' g5 h
      refine gz_sub (lw := [(0, .ref (gz_ad G 1000))]) [0] rfl ?_
      exact wb_X0_isThing_16 hX h hk
    · replace h := gz_if' g5 h
      refine gz_iconst (pc := 12) (v := (1 : Int32)) hX dX0_isThing_12 (by decide) ?_
      refine gz_goto (pc := 13) (tgt := 17) hX dX0_isThing_13 (by decide) ?_
      obtain rfl := Option.some.inj h
      exact hk _ _ dX0_isThing_17 (Or.inr rfl)
theorem ct_X0_isThing {G : gz_G} {l : Launch} {x1 : Int32}  {m m9 : gM} {r : Int32} (h : cf_X0_isThing x1 m = some (r, m9)) : gz_Met cS G l yX0_isThing cX0_isThing 2 (some .boolean) (mRm 2 40) [.ref (gz_ad G 1000), .int x1] m m9 (some (.int r)) :=
  gz_ofZ (by decide +kernel) (Nat.le_of_ble_eq_true rfl) fun X _ hX hk => wm_X0_isThing hX h hk
theorem cc_X0_183 {X : gz_X} {G : gz_G} {cc : ByteArray} {nL fr lo pc : Nat} {rem : Nat × Nat} {lv : List (Nat × Value)} {rest st0 : List Value} (hX : gz_C cS X G cc nL RX0 fr lo)  {m m9 : gM} (hK : clc m.1 m.2.1 m.2.2.2.2.1 → m.1 1000 = 0 + 1)  {r : Int32} (h : cf_X0_ties  m = some (r, m9)) (hroom : 1 + 1 ≤ fr ∧ 8 + (1 + 11) + 20 ≤ lo) (hst : st0 = [.ref (gz_ad G 1000)] ++ rest) (hW : (rest.map fun v => v.category).sum ≤ 8) (hd : decode cc pc = .ok (.invokevirtual 183, 3)) (kk : gz_V cS X G nL rem m9 (pc + 3) lv (.int r :: rest)) : gz_V cS X G nL rem m pc lv st0 :=
  gz_callV2 hX cs_E (As := []) (rest := rest) (q := (RX0, TX0, 28)) (ci := 0) (c := 1000) (ct_X0_ties (l := X.2.1) h) (lw_V q1327 q1303 qs37 q167 q1304) (n := 0) (by decide +kernel) hroom rfl rfl (by decide) hK hst hW hd (rem := rem) kk
/-! FirstSnuffer.isTie(I)Z -/
noncomputable def mj_X0_isTie_16  (m : gM) : Option (Int32 × gM) :=
  some ((0 : Int32), m)
theorem wb_X0_isTie_16 {X : gz_X} {G : gz_G} (hX : gz_C cS X G cX0_isTie 2 RX0 2 40)   {m : gM} {z : (Int32 × gM)} (h : mj_X0_isTie_16  m = some z) (hk : (fun z : (Int32 × gM) => gz_kZ cS X G 2 (0, 0) cX0_isTie z.2 z.1) z) : gz_V cS X G 2 (0, 0) m 16 [(0, .ref (gz_ad G 1000))] [] := by
  unfold mj_X0_isTie_16 at h
  refine gz_iconst (pc := 16) (v := (0 : Int32)) hX dX0_isTie_16 (by decide) ?_
  obtain rfl := Option.some.inj h
  exact hk _ _ dX0_isTie_17 (Or.inl rfl)
noncomputable def cf_X0_isTie (x1 : Int32) (m : gM) : Option (Int32 × gM) :=
  (if x1 < (0 : Int32) then (mj_X0_isTie_16  m) else ((cf_X0_ties m).bind fun (r2, m3) => (if r2 ≤ x1 then (mj_X0_isTie_16  m3) else some ((1 : Int32), m3))))
theorem wm_X0_isTie {X : gz_X} {G : gz_G} (hX : gz_C cS X G cX0_isTie 2 RX0 2 40) {x1 : Int32}  {m : gM} {z : (Int32 × gM)} (h : cf_X0_isTie x1 m = some z) (hk : (fun z : (Int32 × gM) => gz_kZ cS X G 2 (0, 0) cX0_isTie z.2 z.1) z) : gz_V cS X G 2 (0, 0) m 0 [(0, .ref (gz_ad G 1000)), (1, .int x1)] [] := by
  unfold cf_X0_isTie at h
  refine gz_iload_n (pc := 0) hX dX0_isTie_0 rfl 1 rfl ?_
  refine gz_if_lt (pc := 1) (tgt := 16) hX dX0_isTie_1 (by decide) (fun g1 => ?_) (fun g1 => ?_)
  · replace h := gz_it' g1 h
    refine gz_sub (lw := [(0, .ref (gz_ad G 1000))]) [0] rfl ?_
    exact wb_X0_isTie_16 hX h hk
  · replace h := gz_if' g1 h
    refine gz_iload_n (pc := 4) hX dX0_isTie_4 rfl 1 rfl ?_
    refine gz_aload_n (pc := 5) hX dX0_isTie_5 rfl 0 rfl ?_
    obtain ⟨⟨r2, m3⟩, c4, h⟩ := gz_bd h
    refine cc_X0_183 (pc := 6) hX (fun h => cz_k h rfl) c4 ⟨Nat.le_of_ble_eq_true rfl, Nat.le_of_ble_eq_true rfl⟩ (rest := [.int x1]) rfl (Nat.le_of_ble_eq_true rfl) dX0_isTie_6 ?_
    refine gz_icmp_ge (pc := 9) (tgt := 16) hX dX0_isTie_9 (by decide) (fun g5 => ?_) (fun g5 => ?_)
    · replace h := gz_it' g5 h
      refine gz_sub (lw := [(0, .ref (gz_ad G 1000))]) [0] rfl ?_
      exact wb_X0_isTie_16 hX h hk
    · replace h := gz_if' g5 h
      refine gz_iconst (pc := 12) (v := (1 : Int32)) hX dX0_isTie_12 (by decide) ?_
      refine gz_goto (pc := 13) (tgt := 17) hX dX0_isTie_13 (by decide) ?_
      obtain rfl := Option.some.inj h
      exact hk _ _ dX0_isTie_17 (Or.inr rfl)
theorem ct_X0_isTie {G : gz_G} {l : Launch} {x1 : Int32}  {m m9 : gM} {r : Int32} (h : cf_X0_isTie x1 m = some (r, m9)) : gz_Met cS G l yX0_isTie cX0_isTie 2 (some .boolean) (mRm 2 40) [.ref (gz_ad G 1000), .int x1] m m9 (some (.int r)) :=
  gz_ofZ (by decide +kernel) (Nat.le_of_ble_eq_true rfl) fun X _ hX hk => wm_X0_isTie hX h hk
theorem cc_X0_179 {X : gz_X} {G : gz_G} {cc : ByteArray} {nL fr lo pc : Nat} {rem : Nat × Nat} {lv : List (Nat × Value)} {rest st0 : List Value} (hX : gz_C cS X G cc nL RX0 fr lo)  {m m9 : gM} (hK : clc m.1 m.2.1 m.2.2.2.2.1 → m.1 1000 = 0 + 1)  {r : Int32} (h : cf_X0_halls  m = some (r, m9)) (hroom : 1 + 1 ≤ fr ∧ 8 + (1 + 11) + 20 ≤ lo) (hst : st0 = [.ref (gz_ad G 1000)] ++ rest) (hW : (rest.map fun v => v.category).sum ≤ 8) (hd : decode cc pc = .ok (.invokevirtual 179, 3)) (kk : gz_V cS X G nL rem m9 (pc + 3) lv (.int r :: rest)) : gz_V cS X G nL rem m pc lv st0 :=
  gz_callV2 hX cs_E (As := []) (rest := rest) (q := (RX0, TX0, 28)) (ci := 0) (c := 1000) (ct_X0_halls (l := X.2.1) h) (lw_V q1322 q1324 qs40 q167 q1325) (n := 0) (by decide +kernel) hroom rfl rfl (by decide) hK hst hW hd (rem := rem) kk
/-! FirstSnuffer.isHall(I)Z -/
noncomputable def mj_X0_isHall_16  (m : gM) : Option (Int32 × gM) :=
  some ((0 : Int32), m)
theorem wb_X0_isHall_16 {X : gz_X} {G : gz_G} (hX : gz_C cS X G cX0_isHall 2 RX0 2 40)   {m : gM} {z : (Int32 × gM)} (h : mj_X0_isHall_16  m = some z) (hk : (fun z : (Int32 × gM) => gz_kZ cS X G 2 (0, 0) cX0_isHall z.2 z.1) z) : gz_V cS X G 2 (0, 0) m 16 [(0, .ref (gz_ad G 1000))] [] := by
  unfold mj_X0_isHall_16 at h
  refine gz_iconst (pc := 16) (v := (0 : Int32)) hX dX0_isHall_16 (by decide) ?_
  obtain rfl := Option.some.inj h
  exact hk _ _ dX0_isHall_17 (Or.inl rfl)
noncomputable def cf_X0_isHall (x1 : Int32) (m : gM) : Option (Int32 × gM) :=
  (if x1 < (0 : Int32) then (mj_X0_isHall_16  m) else ((cf_X0_halls m).bind fun (r2, m3) => (if r2 ≤ x1 then (mj_X0_isHall_16  m3) else some ((1 : Int32), m3))))
theorem wm_X0_isHall {X : gz_X} {G : gz_G} (hX : gz_C cS X G cX0_isHall 2 RX0 2 40) {x1 : Int32}  {m : gM} {z : (Int32 × gM)} (h : cf_X0_isHall x1 m = some z) (hk : (fun z : (Int32 × gM) => gz_kZ cS X G 2 (0, 0) cX0_isHall z.2 z.1) z) : gz_V cS X G 2 (0, 0) m 0 [(0, .ref (gz_ad G 1000)), (1, .int x1)] [] := by
  unfold cf_X0_isHall at h
  refine gz_iload_n (pc := 0) hX dX0_isHall_0 rfl 1 rfl ?_
  refine gz_if_lt (pc := 1) (tgt := 16) hX dX0_isHall_1 (by decide) (fun g1 => ?_) (fun g1 => ?_)
  · replace h := gz_it' g1 h
    refine gz_sub (lw := [(0, .ref (gz_ad G 1000))]) [0] rfl ?_
    exact wb_X0_isHall_16 hX h hk
  · replace h := gz_if' g1 h
    refine gz_iload_n (pc := 4) hX dX0_isHall_4 rfl 1 rfl ?_
    refine gz_aload_n (pc := 5) hX dX0_isHall_5 rfl 0 rfl ?_
    obtain ⟨⟨r2, m3⟩, c4, h⟩ := gz_bd h
    refine cc_X0_179 (pc := 6) hX (fun h => cz_k h rfl) c4 ⟨Nat.le_of_ble_eq_true rfl, Nat.le_of_ble_eq_true rfl⟩ (rest := [.int x1]) rfl (Nat.le_of_ble_eq_true rfl) dX0_isHall_6 ?_
    refine gz_icmp_ge (pc := 9) (tgt := 16) hX dX0_isHall_9 (by decide) (fun g5 => ?_) (fun g5 => ?_)
    · replace h := gz_it' g5 h
      refine gz_sub (lw := [(0, .ref (gz_ad G 1000))]) [0] rfl ?_
      exact wb_X0_isHall_16 hX h hk
    · replace h := gz_if' g5 h
      refine gz_iconst (pc := 12) (v := (1 : Int32)) hX dX0_isHall_12 (by decide) ?_
      refine gz_goto (pc := 13) (tgt := 17) hX dX0_isHall_13 (by decide) ?_
      obtain rfl := Option.some.inj h
      exact hk _ _ dX0_isHall_17 (Or.inr rfl)
theorem ct_X0_isHall {G : gz_G} {l : Launch} {x1 : Int32}  {m m9 : gM} {r : Int32} (h : cf_X0_isHall x1 m = some (r, m9)) : gz_Met cS G l yX0_isHall cX0_isHall 2 (some .boolean) (mRm 2 40) [.ref (gz_ad G 1000), .int x1] m m9 (some (.int r)) :=
  gz_ofZ (by decide +kernel) (Nat.le_of_ble_eq_true rfl) fun X _ hX hk => wm_X0_isHall hX h hk
theorem cc_X0_136 {X : gz_X} {G : gz_G} {cc : ByteArray} {nL fr lo pc : Nat} {rem : Nat × Nat} {lv : List (Nat × Value)} {rest st0 : List Value} (hX : gz_C cS X G cc nL RX0 fr lo)  {m m9 : gM} (hK : clc m.1 m.2.1 m.2.2.2.2.1 → m.1 1000 = 0 + 1)  {r : Int32} (h : cf_X0_tapeTaken  m = some (r, m9)) (hroom : 0 + 1 ≤ fr ∧ 8 + (2 + 11) + 0 ≤ lo) (hst : st0 = [.ref (gz_ad G 1000)] ++ rest) (hW : (rest.map fun v => v.category).sum ≤ 8) (hd : decode cc pc = .ok (.invokevirtual 136, 3)) (kk : gz_V cS X G nL rem m9 (pc + 3) lv (.int r :: rest)) : gz_V cS X G nL rem m pc lv st0 :=
  gz_callV2 hX cs_E (As := []) (rest := rest) (q := (RX0, TX0, 28)) (ci := 0) (c := 1000) (ct_X0_tapeTaken (l := X.2.1) h) (lw_V q609 q611 qs4 q167 q612) (n := 0) (by decide +kernel) hroom rfl rfl (by decide) hK hst hW hd (rem := rem) kk
theorem cp_X0_158_0 {X : gz_X} {G : gz_G} {cc : ByteArray} {nL fr lo pc : Nat} {rem : Nat × Nat} {m m9 : gM} {lv : List (Nat × Value)} {st : List Value} (hX : gz_C cS X G cc nL RX0 fr lo) {c : Nat} {x : Int32} (hK : clc m.1 m.2.1 m.2.2.2.2.1 → m.1 c = 0 + 1) (hw : 1000 ≤ c) (hd : decode cc pc = .ok (.putfield 158, 3)) (hm : m9 = gz_sI m c 20 x) (kk : gz_V cS X G nL rem m9 (pc + 3) lv st) : gz_V cS X G nL rem m pc lv (.int x :: .ref (gz_ad G c) :: st) := by
  subst hm
  exact gz_putf hX (C := RX0) (T := TX0) (N := 28) (ci := 0) (k := 20) (ty := .int) (μ' := gz_sI m c 20 x) rfl (by decide) in_X0 tyX0 tyX0_ok nmX0 (by decide) (Or.inl (hX.2.2.2.2.1 _ q522)) rfl rfl rfl rfl hd hK hw rfl rfl rfl (fun d tc j h => gz_sI_o d tc j h) (gz_sI_v (fun j => ftC 0 j) rfl) (fun h => h) kk
theorem cg_X0_158_0 {X : gz_X} {G : gz_G} {cc : ByteArray} {nL fr lo pc : Nat} {rem : Nat × Nat} {m : gM} {lv : List (Nat × Value)} {st : List Value} (hX : gz_C cS X G cc nL RX0 fr lo) {c : Nat} {v : Value} (hK : clc m.1 m.2.1 m.2.2.2.2.1 → m.1 c = 0 + 1) (hv : clc m.1 m.2.1 m.2.2.2.2.1 → gz_u (gz_ad G) m (ftC 0 20) c 20 = v) (hd : decode cc pc = .ok (.getfield 158, 3)) (kk : gz_V cS X G nL rem m (pc + 3) lv (v :: st)) : gz_V cS X G nL rem m pc lv (.ref (gz_ad G c) :: st) :=
  gz_getf hX (C := RX0) (T := TX0) (N := 28) (ci := 0) (k := 20) rfl (by decide) in_X0 (by decide) (Or.inl (hX.2.2.2.2.1 _ q522)) hd hK hv kk
theorem cg_X0_97_0 {X : gz_X} {G : gz_G} {cc : ByteArray} {nL fr lo pc : Nat} {rem : Nat × Nat} {m : gM} {lv : List (Nat × Value)} {st : List Value} (hX : gz_C cS X G cc nL RX0 fr lo) {c : Nat} {v : Value} (hK : clc m.1 m.2.1 m.2.2.2.2.1 → m.1 c = 0 + 1) (hv : clc m.1 m.2.1 m.2.2.2.2.1 → gz_u (gz_ad G) m (ftC 0 17) c 17 = v) (hd : decode cc pc = .ok (.getfield 97, 3)) (kk : gz_V cS X G nL rem m (pc + 3) lv (v :: st)) : gz_V cS X G nL rem m pc lv (.ref (gz_ad G c) :: st) :=
  gz_getf hX (C := RX0) (T := TX0) (N := 28) (ci := 0) (k := 17) rfl (by decide) in_X0 (by decide) (Or.inl (hX.2.2.2.2.1 _ q519)) hd hK hv kk
theorem cc_X0_342 {X : gz_X} {G : gz_G} {cc : ByteArray} {nL fr lo pc : Nat} {rem : Nat × Nat} {lv : List (Nat × Value)} {rest st0 : List Value} (hX : gz_C cS X G cc nL RX0 fr lo) {x1 : Int32} {m m9 : gM} (hK : clc m.1 m.2.1 m.2.2.2.2.1 → m.1 1000 = 0 + 1)  {r : Int32} (h : cf_X0_byteAt x1 m = some (r, m9)) (hroom : 0 + 1 ≤ fr ∧ 8 + (2 + 11) + 0 ≤ lo) (hst : st0 = [.int x1, .ref (gz_ad G 1000)] ++ rest) (hW : (rest.map fun v => v.category).sum ≤ 8) (hd : decode cc pc = .ok (.invokevirtual 342, 3)) (kk : gz_V cS X G nL rem m9 (pc + 3) lv (.int r :: rest)) : gz_V cS X G nL rem m pc lv st0 :=
  gz_callV2 hX cs_E (As := [.int x1]) (rest := rest) (q := (RX0, TX0, 28)) (ci := 0) (c := 1000) (ct_X0_byteAt (l := X.2.1) h) (lw_V q1622 q1624 qs60 q167 q1625) (n := 1) (by decide +kernel) hroom rfl rfl (by decide) hK hst hW hd (rem := rem) kk
theorem cg_X0_100_0 {X : gz_X} {G : gz_G} {cc : ByteArray} {nL fr lo pc : Nat} {rem : Nat × Nat} {m : gM} {lv : List (Nat × Value)} {st : List Value} (hX : gz_C cS X G cc nL RX0 fr lo) {c : Nat} {v : Value} (hK : clc m.1 m.2.1 m.2.2.2.2.1 → m.1 c = 0 + 1) (hv : clc m.1 m.2.1 m.2.2.2.2.1 → gz_u (gz_ad G) m (ftC 0 18) c 18 = v) (hd : decode cc pc = .ok (.getfield 100, 3)) (kk : gz_V cS X G nL rem m (pc + 3) lv (v :: st)) : gz_V cS X G nL rem m pc lv (.ref (gz_ad G c) :: st) :=
  gz_getf hX (C := RX0) (T := TX0) (N := 28) (ci := 0) (k := 18) rfl (by decide) in_X0 (by decide) (Or.inl (hX.2.2.2.2.1 _ q520)) hd hK hv kk
theorem cg_X0_103_0 {X : gz_X} {G : gz_G} {cc : ByteArray} {nL fr lo pc : Nat} {rem : Nat × Nat} {m : gM} {lv : List (Nat × Value)} {st : List Value} (hX : gz_C cS X G cc nL RX0 fr lo) {c : Nat} {v : Value} (hK : clc m.1 m.2.1 m.2.2.2.2.1 → m.1 c = 0 + 1) (hv : clc m.1 m.2.1 m.2.2.2.2.1 → gz_u (gz_ad G) m (ftC 0 19) c 19 = v) (hd : decode cc pc = .ok (.getfield 103, 3)) (kk : gz_V cS X G nL rem m (pc + 3) lv (v :: st)) : gz_V cS X G nL rem m pc lv (.ref (gz_ad G c) :: st) :=
  gz_getf hX (C := RX0) (T := TX0) (N := 28) (ci := 0) (k := 19) rfl (by decide) in_X0 (by decide) (Or.inl (hX.2.2.2.2.1 _ q521)) hd hK hv kk
theorem cc_X0_240 {X : gz_X} {G : gz_G} {cc : ByteArray} {nL fr lo pc : Nat} {rem : Nat × Nat} {lv : List (Nat × Value)} {rest st0 : List Value} (hX : gz_C cS X G cc nL RX0 fr lo) {x1 : Int32} {m m9 : gM} (hK : clc m.1 m.2.1 m.2.2.2.2.1 → m.1 1000 = 0 + 1)  {r : Int32} (h : cf_X0_isThing x1 m = some (r, m9)) (hroom : 2 + 1 ≤ fr ∧ 8 + (2 + 11) + 40 ≤ lo) (hst : st0 = [.int x1, .ref (gz_ad G 1000)] ++ rest) (hW : (rest.map fun v => v.category).sum ≤ 8) (hd : decode cc pc = .ok (.invokevirtual 240, 3)) (kk : gz_V cS X G nL rem m9 (pc + 3) lv (.int r :: rest)) : gz_V cS X G nL rem m pc lv st0 :=
  gz_callV2 hX cs_E (As := [.int x1]) (rest := rest) (q := (RX0, TX0, 28)) (ci := 0) (c := 1000) (ct_X0_isThing (l := X.2.1) h) (lw_V q1370 q1372 qs41 q167 q1373) (n := 1) (by decide +kernel) hroom rfl rfl (by decide) hK hst hW hd (rem := rem) kk
/-! FirstSnuffer.see()I -/
def mP_X0_see_29 (X : gz_X) (G : gz_G) (q : (Int32 × Int32 × Int32 × gM)) : Prop := gz_V cS X G 4 (0, 0) q.2.2.2 29 [(0, .ref (gz_ad G 1000)), (1, .int q.1), (2, .int q.2.1), (3, .int q.2.2.1)] []
def mP_X0_see_105 (X : gz_X) (G : gz_G) (q : (Int32 × gM)) : Prop := gz_V cS X G 4 (0, 0) q.2 105 [(0, .ref (gz_ad G 1000)), (3, .int q.1)] []
noncomputable def mb_X0_see_105 (x3 : Int32) (m : gM) : Option ((Int32 × gM) ⊕ (Int32 × gM)) :=
  (if (gI m 1000 20) ≤ x3 then some (Sum.inr ((gI m 1000 20), m)) else ((cf_X0_byteAt ((3 : Int32) * x3) m).bind fun (r2, m3) => (if gz_in x3 (16) then gz_let (gz_sI m3 1123 (gz_ix x3) r2) fun m6 => ((cf_X0_byteAt (((3 : Int32) * x3) + (1 : Int32)) m6).bind fun (r7, m8) => (if gz_in x3 (16) then gz_let (gz_sI m8 1124 (gz_ix x3) r7) fun m11 => ((cf_X0_byteAt (((3 : Int32) * x3) + (2 : Int32)) m11).bind fun (r12, m13) => (if gz_in x3 (16) then gz_let (gz_sI m13 1125 (gz_ix x3) r12) fun m16 => gz_let (x3 + (1 : Int32)) fun y17 => some (Sum.inl (y17, m16)) else none)) else none)) else none)))
theorem wb_X0_see_105 {X : gz_X} {G : gz_G} (hX : gz_C cS X G cX0_see 4 RX0 3 61) {x3 : Int32}  {m : gM} {z : ((Int32 × gM) ⊕ (Int32 × gM))} (h : mb_X0_see_105 x3 m = some z) (hk : (Sum.elim (mP_X0_see_105 X G) (fun z : (Int32 × gM) => gz_kI cS X G 4 (0, 0) cX0_see z.2 z.1)) z) : gz_V cS X G 4 (0, 0) m 105 [(0, .ref (gz_ad G 1000)), (3, .int x3)] [] := by
  unfold mb_X0_see_105 at h
  refine gz_iload_n (pc := 105) hX dX0_see_105 rfl 1 rfl ?_
  refine gz_aload_n (pc := 106) hX dX0_see_106 rfl 0 rfl ?_
  refine cg_X0_158_0 (pc := 107) hX (c := 1000) (v := .int (gI m 1000 20)) (fun h => cz_k h rfl) (fun _ => rfl) dX0_see_107 ?_
  refine gz_icmp_ge (pc := 110) (tgt := 162) hX dX0_see_110 (by decide) (fun g1 => ?_) (fun g1 => ?_)
  · replace h := gz_it' g1 h
    refine gz_aload_n (pc := 162) hX dX0_see_162 rfl 0 rfl ?_
    refine cg_X0_158_0 (pc := 163) hX (c := 1000) (v := .int (gI m 1000 20)) (fun h => cz_k h rfl) (fun _ => rfl) dX0_see_163 ?_
    obtain rfl := Option.some.inj h
    exact hk _ _ dX0_see_166
  · replace h := gz_if' g1 h
    refine gz_aload_n (pc := 113) hX dX0_see_113 rfl 0 rfl ?_
    refine cg_X0_97_0 (pc := 114) hX (c := 1000) (v := .ref (gz_ad G 1123)) (fun h => cz_k h rfl) (fun h => cz_f h (by decide) rfl (by decide) rfl) dX0_see_114 ?_
    refine gz_iload_n (pc := 117) hX dX0_see_117 rfl 1 rfl ?_
    refine gz_aload_n (pc := 118) hX dX0_see_118 rfl 0 rfl ?_
    refine gz_iconst (pc := 119) (v := (3 : Int32)) hX dX0_see_119 (by decide) ?_
    refine gz_iload_n (pc := 120) hX dX0_see_120 rfl 1 rfl ?_
    refine gz_imul (pc := 121) hX dX0_see_121 ?_
    obtain ⟨⟨r2, m3⟩, c4, h⟩ := gz_bd h
    refine cc_X0_342 (pc := 122) hX (fun h => cz_k h rfl) c4 ⟨Nat.le_of_ble_eq_true rfl, Nat.le_of_ble_eq_true rfl⟩ (rest := [.int x3, .ref (gz_ad G 1123)]) rfl (Nat.le_of_ble_eq_true rfl) dX0_see_122 ?_
    obtain ⟨g5, h⟩ := gz_gu h
    obtain ⟨m6, em6, h⟩ := gz_lt h
    refine gz_iast2 (pc := 125) (c := 1123) (n := 16) hX rfl (fun h => cz_a h rfl (by decide) rfl) (Nat.le_of_ble_eq_true rfl) g5 dX0_see_125 em6 ?_
    refine gz_aload_n (pc := 126) hX dX0_see_126 rfl 0 rfl ?_
    refine cg_X0_100_0 (pc := 127) hX (c := 1000) (v := .ref (gz_ad G 1124)) (fun h => cz_k h rfl) (fun h => cz_f h (by decide) rfl (by decide) rfl) dX0_see_127 ?_
    refine gz_iload_n (pc := 130) hX dX0_see_130 rfl 1 rfl ?_
    refine gz_aload_n (pc := 131) hX dX0_see_131 rfl 0 rfl ?_
    refine gz_iconst (pc := 132) (v := (3 : Int32)) hX dX0_see_132 (by decide) ?_
    refine gz_iload_n (pc := 133) hX dX0_see_133 rfl 1 rfl ?_
    refine gz_imul (pc := 134) hX dX0_see_134 ?_
    refine gz_iconst (pc := 135) (v := (1 : Int32)) hX dX0_see_135 (by decide) ?_
    refine gz_iadd (pc := 136) hX dX0_see_136 ?_
    obtain ⟨⟨r7, m8⟩, c9, h⟩ := gz_bd h
    refine cc_X0_342 (pc := 137) hX (fun h => cz_k h rfl) c9 ⟨Nat.le_of_ble_eq_true rfl, Nat.le_of_ble_eq_true rfl⟩ (rest := [.int x3, .ref (gz_ad G 1124)]) rfl (Nat.le_of_ble_eq_true rfl) dX0_see_137 ?_
    obtain ⟨g10, h⟩ := gz_gu h
    obtain ⟨m11, em11, h⟩ := gz_lt h
    refine gz_iast2 (pc := 140) (c := 1124) (n := 16) hX rfl (fun h => cz_a h rfl (by decide) rfl) (Nat.le_of_ble_eq_true rfl) g10 dX0_see_140 em11 ?_
    refine gz_aload_n (pc := 141) hX dX0_see_141 rfl 0 rfl ?_
    refine cg_X0_103_0 (pc := 142) hX (c := 1000) (v := .ref (gz_ad G 1125)) (fun h => cz_k h rfl) (fun h => cz_f h (by decide) rfl (by decide) rfl) dX0_see_142 ?_
    refine gz_iload_n (pc := 145) hX dX0_see_145 rfl 1 rfl ?_
    refine gz_aload_n (pc := 146) hX dX0_see_146 rfl 0 rfl ?_
    refine gz_iconst (pc := 147) (v := (3 : Int32)) hX dX0_see_147 (by decide) ?_
    refine gz_iload_n (pc := 148) hX dX0_see_148 rfl 1 rfl ?_
    refine gz_imul (pc := 149) hX dX0_see_149 ?_
    refine gz_iconst (pc := 150) (v := (2 : Int32)) hX dX0_see_150 (by decide) ?_
    refine gz_iadd (pc := 151) hX dX0_see_151 ?_
    obtain ⟨⟨r12, m13⟩, c14, h⟩ := gz_bd h
    refine cc_X0_342 (pc := 152) hX (fun h => cz_k h rfl) c14 ⟨Nat.le_of_ble_eq_true rfl, Nat.le_of_ble_eq_true rfl⟩ (rest := [.int x3, .ref (gz_ad G 1125)]) rfl (Nat.le_of_ble_eq_true rfl) dX0_see_152 ?_
    obtain ⟨g15, h⟩ := gz_gu h
    obtain ⟨m16, em16, h⟩ := gz_lt h
    refine gz_iast2 (pc := 155) (c := 1125) (n := 16) hX rfl (fun h => cz_a h rfl (by decide) rfl) (Nat.le_of_ble_eq_true rfl) g15 dX0_see_155 em16 ?_
    obtain ⟨y17, ey17, h⟩ := gz_lt h
    refine gz_iinc (pc := 156) (v := y17) (lw := [(3, .int y17), (0, .ref (gz_ad G 1000))]) hX dX0_see_156 (k := 1) rfl (by rw [ey17]; rfl) (by decide) rfl ?_
    refine gz_goto (pc := 159) (tgt := 105) hX dX0_see_159 (by decide) ?_
    refine gz_sub (lw := [(0, .ref (gz_ad G 1000)), (3, .int y17)]) [1, 0] rfl ?_
    obtain rfl := Option.some.inj h
    exact hk
noncomputable def ml_X0_see_105 (x3 : Int32) (m : gM) : Option (Int32 × gM) := gz_loop (fun q : (Int32 × gM) => mb_X0_see_105 q.1 q.2) (x3, m)
theorem wl_X0_see_105 {X : gz_X} {G : gz_G} (hX : gz_C cS X G cX0_see 4 RX0 3 61) {x3 : Int32}  {m : gM} {z : (Int32 × gM)} (h : ml_X0_see_105 x3 m = some z) (hk : (fun z : (Int32 × gM) => gz_kI cS X G 4 (0, 0) cX0_see z.2 z.1) z) : gz_V cS X G 4 (0, 0) m 105 [(0, .ref (gz_ad G 1000)), (3, .int x3)] [] := by
  have hp : mP_X0_see_105 X G (x3, m) := gz_loop_ind (fun q z hz hkz => wb_X0_see_105 hX  hz hkz) h hk
  exact hp
noncomputable def mj_X0_see_86 (x1 : Int32) (x2 : Int32) (m : gM) : Option (Int32 × gM) :=
  (if x2 = (0 : Int32) then ((cf_X0_refuses (1 : Int32) m).bind fun (r3, m4) => some (r3, m4)) else gz_let (gz_sI m 1000 20 (x1 / (3 : Int32))) fun m2 => (ml_X0_see_105 (0 : Int32) m2))
theorem wb_X0_see_86 {X : gz_X} {G : gz_G} (hX : gz_C cS X G cX0_see 4 RX0 3 61) {x1 : Int32} {x2 : Int32}  {m : gM} {z : (Int32 × gM)} (h : mj_X0_see_86 x1 x2 m = some z) (hk : (fun z : (Int32 × gM) => gz_kI cS X G 4 (0, 0) cX0_see z.2 z.1) z) : gz_V cS X G 4 (0, 0) m 86 [(0, .ref (gz_ad G 1000)), (1, .int x1), (2, .int x2)] [] := by
  unfold mj_X0_see_86 at h
  refine gz_iload_n (pc := 86) hX dX0_see_86 rfl 2 rfl ?_
  refine gz_if_ne (pc := 87) (tgt := 96) hX dX0_see_87 (by decide) (fun g1 => ?_) (fun g1 => ?_)
  · replace h := gz_if' g1 h
    refine gz_aload_n (pc := 96) hX dX0_see_96 rfl 0 rfl ?_
    refine gz_iload_n (pc := 97) hX dX0_see_97 rfl 1 rfl ?_
    refine gz_iconst (pc := 98) (v := (3 : Int32)) hX dX0_see_98 (by decide) ?_
    refine gz_idiv (pc := 99) hX dX0_see_99 (by decide) ?_
    obtain ⟨m2, em2, h⟩ := gz_lt h
    refine cp_X0_158_0 (pc := 100) hX (c := 1000) (fun h => cz_k h rfl) (Nat.le_of_ble_eq_true rfl) dX0_see_100 em2 ?_
    refine gz_iconst (pc := 103) (v := (0 : Int32)) hX dX0_see_103 (by decide) ?_
    refine gz_istore_n (pc := 104) (lw := [(3, .int (0 : Int32)), (0, .ref (gz_ad G 1000)), (1, .int x1), (2, .int x2)]) hX dX0_see_104 rfl (by decide) rfl ?_
    refine gz_sub (lw := [(0, .ref (gz_ad G 1000)), (3, .int (0 : Int32))]) [1, 0] rfl ?_
    exact wl_X0_see_105 hX h hk
  · replace h := gz_it' g1 h
    refine gz_aload_n (pc := 90) hX dX0_see_90 rfl 0 rfl ?_
    refine gz_iconst (pc := 91) (v := (1 : Int32)) hX dX0_see_91 (by decide) ?_
    obtain ⟨⟨r3, m4⟩, c5, h⟩ := gz_bd h
    refine cc_X0_125 (pc := 92) hX (fun h => cz_k h rfl) c5 ⟨Nat.le_of_ble_eq_true rfl, Nat.le_of_ble_eq_true rfl⟩ (rest := []) rfl (Nat.le_of_ble_eq_true rfl) dX0_see_92 ?_
    obtain rfl := Option.some.inj h
    exact hk _ _ dX0_see_95
noncomputable def mj_X0_see_79 (x1 : Int32) (x3 : Int32) (s0 : Int32) (m : gM) : Option ((Int32 × Int32 × Int32 × gM) ⊕ (Int32 × gM)) :=
  gz_let (x3 + (3 : Int32)) fun y1 => some (Sum.inl (x1, s0, y1, m))
theorem wb_X0_see_79 {X : gz_X} {G : gz_G} (hX : gz_C cS X G cX0_see 4 RX0 3 61) {x1 : Int32} {x3 : Int32} {s0 : Int32}  {m : gM} {z : ((Int32 × Int32 × Int32 × gM) ⊕ (Int32 × gM))} (h : mj_X0_see_79 x1 x3 s0 m = some z) (hk : (Sum.elim (mP_X0_see_29 X G) (fun z : (Int32 × gM) => gz_kI cS X G 4 (0, 0) cX0_see z.2 z.1)) z) : gz_V cS X G 4 (0, 0) m 79 [(0, .ref (gz_ad G 1000)), (1, .int x1), (3, .int x3)] [.int s0] := by
  unfold mj_X0_see_79 at h
  refine gz_istore_n (pc := 79) (lw := [(2, .int s0), (0, .ref (gz_ad G 1000)), (1, .int x1), (3, .int x3)]) hX dX0_see_79 rfl (by decide) rfl ?_
  obtain ⟨y1, ey1, h⟩ := gz_lt h
  refine gz_iinc (pc := 80) (v := y1) (lw := [(3, .int y1), (2, .int s0), (0, .ref (gz_ad G 1000)), (1, .int x1)]) hX dX0_see_80 (k := 3) rfl (by rw [ey1]; rfl) (by decide) rfl ?_
  refine gz_goto (pc := 83) (tgt := 29) hX dX0_see_83 (by decide) ?_
  refine gz_sub (lw := [(0, .ref (gz_ad G 1000)), (1, .int x1), (2, .int s0), (3, .int y1)]) [2, 3, 1, 0] rfl ?_
  obtain rfl := Option.some.inj h
  exact hk
noncomputable def mj_X0_see_78 (x1 : Int32) (x3 : Int32) (m : gM) : Option ((Int32 × Int32 × Int32 × gM) ⊕ (Int32 × gM)) :=
  (mj_X0_see_79 x1 x3 (0 : Int32) m)
theorem wb_X0_see_78 {X : gz_X} {G : gz_G} (hX : gz_C cS X G cX0_see 4 RX0 3 61) {x1 : Int32} {x3 : Int32}  {m : gM} {z : ((Int32 × Int32 × Int32 × gM) ⊕ (Int32 × gM))} (h : mj_X0_see_78 x1 x3 m = some z) (hk : (Sum.elim (mP_X0_see_29 X G) (fun z : (Int32 × gM) => gz_kI cS X G 4 (0, 0) cX0_see z.2 z.1)) z) : gz_V cS X G 4 (0, 0) m 78 [(0, .ref (gz_ad G 1000)), (1, .int x1), (3, .int x3)] [] := by
  unfold mj_X0_see_78 at h
  refine gz_iconst (pc := 78) (v := (0 : Int32)) hX dX0_see_78 (by decide) ?_
  exact wb_X0_see_79 hX h hk
noncomputable def mb_X0_see_29 (x1 : Int32) (x2 : Int32) (x3 : Int32) (m : gM) : Option ((Int32 × Int32 × Int32 × gM) ⊕ (Int32 × gM)) :=
  (if x1 ≤ x3 then (Option.map Sum.inr (mj_X0_see_86 x1 x2 m)) else (if x2 = (0 : Int32) then (Option.map Sum.inr (mj_X0_see_86 x1 x2 m)) else ((cf_X0_byteAt x3 m).bind fun (r3, m4) => (if (30 : Int32) < r3 then (mj_X0_see_78 x1 x3 m4) else ((cf_X0_byteAt (x3 + (1 : Int32)) m4).bind fun (r7, m8) => ((cf_X0_isThing r7 m8).bind fun (r10, m11) => (if r10 = (0 : Int32) then (mj_X0_see_78 x1 x3 m11) else ((cf_X0_byteAt (x3 + (2 : Int32)) m11).bind fun (r14, m15) => (if (99 : Int32) < r14 then (mj_X0_see_78 x1 x3 m15) else (mj_X0_see_79 x1 x3 (1 : Int32) m15))))))))))
theorem wb_X0_see_29 {X : gz_X} {G : gz_G} (hX : gz_C cS X G cX0_see 4 RX0 3 61) {x1 : Int32} {x2 : Int32} {x3 : Int32}  {m : gM} {z : ((Int32 × Int32 × Int32 × gM) ⊕ (Int32 × gM))} (h : mb_X0_see_29 x1 x2 x3 m = some z) (hk : (Sum.elim (mP_X0_see_29 X G) (fun z : (Int32 × gM) => gz_kI cS X G 4 (0, 0) cX0_see z.2 z.1)) z) : gz_V cS X G 4 (0, 0) m 29 [(0, .ref (gz_ad G 1000)), (1, .int x1), (2, .int x2), (3, .int x3)] [] := by
  unfold mb_X0_see_29 at h
  refine gz_iload_n (pc := 29) hX dX0_see_29 rfl 3 rfl ?_
  refine gz_iload_n (pc := 30) hX dX0_see_30 rfl 1 rfl ?_
  refine gz_icmp_ge (pc := 31) (tgt := 86) hX dX0_see_31 (by decide) (fun g1 => ?_) (fun g1 => ?_)
  · replace h := gz_it' g1 h
    refine gz_sub (lw := [(0, .ref (gz_ad G 1000)), (1, .int x1), (2, .int x2)]) [0, 1, 2] rfl ?_
    obtain ⟨z0, hm0, rfl⟩ := gz_mp h
    exact wb_X0_see_86 hX hm0 hk
  · replace h := gz_if' g1 h
    refine gz_iload_n (pc := 34) hX dX0_see_34 rfl 2 rfl ?_
    refine gz_if_eq (pc := 35) (tgt := 86) hX dX0_see_35 (by decide) (fun g2 => ?_) (fun g2 => ?_)
    · replace h := gz_it' g2 h
      refine gz_sub (lw := [(0, .ref (gz_ad G 1000)), (1, .int x1), (2, .int x2)]) [0, 1, 2] rfl ?_
      obtain ⟨z0, hm0, rfl⟩ := gz_mp h
      exact wb_X0_see_86 hX hm0 hk
    · replace h := gz_if' g2 h
      refine gz_aload_n (pc := 38) hX dX0_see_38 rfl 0 rfl ?_
      refine gz_iload_n (pc := 39) hX dX0_see_39 rfl 3 rfl ?_
      obtain ⟨⟨r3, m4⟩, c5, h⟩ := gz_bd h
      refine cc_X0_342 (pc := 40) hX (fun h => cz_k h rfl) c5 ⟨Nat.le_of_ble_eq_true rfl, Nat.le_of_ble_eq_true rfl⟩ (rest := []) rfl (Nat.le_of_ble_eq_true rfl) dX0_see_40 ?_
      refine gz_bipush (pc := 43) (v := (30 : Int32)) hX dX0_see_43 (by decide) ?_
      refine gz_icmp_gt (pc := 45) (tgt := 78) hX dX0_see_45 (by decide) (fun g6 => ?_) (fun g6 => ?_)
      · replace h := gz_it' g6 h
        refine gz_sub (lw := [(0, .ref (gz_ad G 1000)), (1, .int x1), (3, .int x3)]) [0, 1, 3] rfl ?_
        exact wb_X0_see_78 hX h hk
      · replace h := gz_if' g6 h
        refine gz_aload_n (pc := 48) hX dX0_see_48 rfl 0 rfl ?_
        refine gz_aload_n (pc := 49) hX dX0_see_49 rfl 0 rfl ?_
        refine gz_iload_n (pc := 50) hX dX0_see_50 rfl 3 rfl ?_
        refine gz_iconst (pc := 51) (v := (1 : Int32)) hX dX0_see_51 (by decide) ?_
        refine gz_iadd (pc := 52) hX dX0_see_52 ?_
        obtain ⟨⟨r7, m8⟩, c9, h⟩ := gz_bd h
        refine cc_X0_342 (pc := 53) hX (fun h => cz_k h rfl) c9 ⟨Nat.le_of_ble_eq_true rfl, Nat.le_of_ble_eq_true rfl⟩ (rest := [.ref (gz_ad G 1000)]) rfl (Nat.le_of_ble_eq_true rfl) dX0_see_53 ?_
        obtain ⟨⟨r10, m11⟩, c12, h⟩ := gz_bd h
        refine cc_X0_240 (pc := 56) hX (fun h => cz_k h rfl) c12 ⟨Nat.le_of_ble_eq_true rfl, Nat.le_of_ble_eq_true rfl⟩ (rest := []) rfl (Nat.le_of_ble_eq_true rfl) dX0_see_56 ?_
        refine gz_if_eq (pc := 59) (tgt := 78) hX dX0_see_59 (by decide) (fun g13 => ?_) (fun g13 => ?_)
        · replace h := gz_it' g13 h
          refine gz_sub (lw := [(0, .ref (gz_ad G 1000)), (1, .int x1), (3, .int x3)]) [0, 1, 3] rfl ?_
          exact wb_X0_see_78 hX h hk
        · replace h := gz_if' g13 h
          refine gz_aload_n (pc := 62) hX dX0_see_62 rfl 0 rfl ?_
          refine gz_iload_n (pc := 63) hX dX0_see_63 rfl 3 rfl ?_
          refine gz_iconst (pc := 64) (v := (2 : Int32)) hX dX0_see_64 (by decide) ?_
          refine gz_iadd (pc := 65) hX dX0_see_65 ?_
          obtain ⟨⟨r14, m15⟩, c16, h⟩ := gz_bd h
          refine cc_X0_342 (pc := 66) hX (fun h => cz_k h rfl) c16 ⟨Nat.le_of_ble_eq_true rfl, Nat.le_of_ble_eq_true rfl⟩ (rest := []) rfl (Nat.le_of_ble_eq_true rfl) dX0_see_66 ?_
          refine gz_bipush (pc := 69) (v := (99 : Int32)) hX dX0_see_69 (by decide) ?_
          refine gz_icmp_gt (pc := 71) (tgt := 78) hX dX0_see_71 (by decide) (fun g17 => ?_) (fun g17 => ?_)
          · replace h := gz_it' g17 h
            refine gz_sub (lw := [(0, .ref (gz_ad G 1000)), (1, .int x1), (3, .int x3)]) [0, 1, 3] rfl ?_
            exact wb_X0_see_78 hX h hk
          · replace h := gz_if' g17 h
            refine gz_iconst (pc := 74) (v := (1 : Int32)) hX dX0_see_74 (by decide) ?_
            refine gz_goto (pc := 75) (tgt := 79) hX dX0_see_75 (by decide) ?_
            refine gz_sub (lw := [(0, .ref (gz_ad G 1000)), (1, .int x1), (3, .int x3)]) [0, 1, 3] rfl ?_
            exact wb_X0_see_79 hX h hk
noncomputable def ml_X0_see_29 (x1 : Int32) (x2 : Int32) (x3 : Int32) (m : gM) : Option (Int32 × gM) := gz_loop (fun q : (Int32 × Int32 × Int32 × gM) => mb_X0_see_29 q.1 q.2.1 q.2.2.1 q.2.2.2) (x1, x2, x3, m)
theorem wl_X0_see_29 {X : gz_X} {G : gz_G} (hX : gz_C cS X G cX0_see 4 RX0 3 61) {x1 : Int32} {x2 : Int32} {x3 : Int32}  {m : gM} {z : (Int32 × gM)} (h : ml_X0_see_29 x1 x2 x3 m = some z) (hk : (fun z : (Int32 × gM) => gz_kI cS X G 4 (0, 0) cX0_see z.2 z.1) z) : gz_V cS X G 4 (0, 0) m 29 [(0, .ref (gz_ad G 1000)), (1, .int x1), (2, .int x2), (3, .int x3)] [] := by
  have hp : mP_X0_see_29 X G (x1, x2, x3, m) := gz_loop_ind (fun q z hz hkz => wb_X0_see_29 hX  hz hkz) h hk
  exact hp
noncomputable def mj_X0_see_26 (x1 : Int32) (s0 : Int32) (m : gM) : Option (Int32 × gM) :=
  (ml_X0_see_29 x1 s0 (0 : Int32) m)
theorem wb_X0_see_26 {X : gz_X} {G : gz_G} (hX : gz_C cS X G cX0_see 4 RX0 3 61) {x1 : Int32} {s0 : Int32}  {m : gM} {z : (Int32 × gM)} (h : mj_X0_see_26 x1 s0 m = some z) (hk : (fun z : (Int32 × gM) => gz_kI cS X G 4 (0, 0) cX0_see z.2 z.1) z) : gz_V cS X G 4 (0, 0) m 26 [(0, .ref (gz_ad G 1000)), (1, .int x1)] [.int s0] := by
  unfold mj_X0_see_26 at h
  refine gz_istore_n (pc := 26) (lw := [(2, .int s0), (0, .ref (gz_ad G 1000)), (1, .int x1)]) hX dX0_see_26 rfl (by decide) rfl ?_
  refine gz_iconst (pc := 27) (v := (0 : Int32)) hX dX0_see_27 (by decide) ?_
  refine gz_istore_n (pc := 28) (lw := [(3, .int (0 : Int32)), (2, .int s0), (0, .ref (gz_ad G 1000)), (1, .int x1)]) hX dX0_see_28 rfl (by decide) rfl ?_
  refine gz_sub (lw := [(0, .ref (gz_ad G 1000)), (1, .int x1), (2, .int s0), (3, .int (0 : Int32))]) [2, 3, 1, 0] rfl ?_
  exact wl_X0_see_29 hX h hk
noncomputable def mj_X0_see_25 (x1 : Int32) (m : gM) : Option (Int32 × gM) :=
  (mj_X0_see_26 x1 (0 : Int32) m)
theorem wb_X0_see_25 {X : gz_X} {G : gz_G} (hX : gz_C cS X G cX0_see 4 RX0 3 61) {x1 : Int32}  {m : gM} {z : (Int32 × gM)} (h : mj_X0_see_25 x1 m = some z) (hk : (fun z : (Int32 × gM) => gz_kI cS X G 4 (0, 0) cX0_see z.2 z.1) z) : gz_V cS X G 4 (0, 0) m 25 [(0, .ref (gz_ad G 1000)), (1, .int x1)] [] := by
  unfold mj_X0_see_25 at h
  refine gz_iconst (pc := 25) (v := (0 : Int32)) hX dX0_see_25 (by decide) ?_
  exact wb_X0_see_26 hX h hk
noncomputable def cf_X0_see  (m : gM) : Option (Int32 × gM) :=
  ((cf_X0_tapeTaken m).bind fun (r1, m2) => (if r1 ≤ (0 : Int32) then (mj_X0_see_25 r1 m2) else (if (r1 - r1 / (3 : Int32) * (3 : Int32)) = (0 : Int32) then (if (48 : Int32) < r1 then (mj_X0_see_25 r1 m2) else (mj_X0_see_26 r1 (1 : Int32) m2)) else (mj_X0_see_25 r1 m2))))
theorem wm_X0_see {X : gz_X} {G : gz_G} (hX : gz_C cS X G cX0_see 4 RX0 3 61)   {m : gM} {z : (Int32 × gM)} (h : cf_X0_see  m = some z) (hk : (fun z : (Int32 × gM) => gz_kI cS X G 4 (0, 0) cX0_see z.2 z.1) z) : gz_V cS X G 4 (0, 0) m 0 [(0, .ref (gz_ad G 1000))] [] := by
  unfold cf_X0_see at h
  refine gz_aload_n (pc := 0) hX dX0_see_0 rfl 0 rfl ?_
  obtain ⟨⟨r1, m2⟩, c3, h⟩ := gz_bd h
  refine cc_X0_136 (pc := 1) hX (fun h => cz_k h rfl) c3 ⟨Nat.le_of_ble_eq_true rfl, Nat.le_of_ble_eq_true rfl⟩ (rest := []) rfl (Nat.le_of_ble_eq_true rfl) dX0_see_1 ?_
  refine gz_istore_n (pc := 4) (lw := [(1, .int r1), (0, .ref (gz_ad G 1000))]) hX dX0_see_4 rfl (by decide) rfl ?_
  refine gz_iload_n (pc := 5) hX dX0_see_5 rfl 0 rfl ?_
  refine gz_if_le (pc := 6) (tgt := 25) hX dX0_see_6 (by decide) (fun g4 => ?_) (fun g4 => ?_)
  · replace h := gz_it' g4 h
    refine gz_sub (lw := [(0, .ref (gz_ad G 1000)), (1, .int r1)]) [1, 0] rfl ?_
    exact wb_X0_see_25 hX h hk
  · replace h := gz_if' g4 h
    refine gz_iload_n (pc := 9) hX dX0_see_9 rfl 0 rfl ?_
    refine gz_iconst (pc := 10) (v := (3 : Int32)) hX dX0_see_10 (by decide) ?_
    refine gz_irem (pc := 11) hX dX0_see_11 (by decide) ?_
    refine gz_if_ne (pc := 12) (tgt := 25) hX dX0_see_12 (by decide) (fun g5 => ?_) (fun g5 => ?_)
    · replace h := gz_if' g5 h
      refine gz_sub (lw := [(0, .ref (gz_ad G 1000)), (1, .int r1)]) [1, 0] rfl ?_
      exact wb_X0_see_25 hX h hk
    · replace h := gz_it' g5 h
      refine gz_iload_n (pc := 15) hX dX0_see_15 rfl 0 rfl ?_
      refine gz_bipush (pc := 16) (v := (48 : Int32)) hX dX0_see_16 (by decide) ?_
      refine gz_icmp_gt (pc := 18) (tgt := 25) hX dX0_see_18 (by decide) (fun g6 => ?_) (fun g6 => ?_)
      · replace h := gz_it' g6 h
        refine gz_sub (lw := [(0, .ref (gz_ad G 1000)), (1, .int r1)]) [1, 0] rfl ?_
        exact wb_X0_see_25 hX h hk
      · replace h := gz_if' g6 h
        refine gz_iconst (pc := 21) (v := (1 : Int32)) hX dX0_see_21 (by decide) ?_
        refine gz_goto (pc := 22) (tgt := 26) hX dX0_see_22 (by decide) ?_
        refine gz_sub (lw := [(0, .ref (gz_ad G 1000)), (1, .int r1)]) [1, 0] rfl ?_
        exact wb_X0_see_26 hX h hk
theorem ct_X0_see {G : gz_G} {l : Launch}   {m m9 : gM} {r : Int32} (h : cf_X0_see  m = some (r, m9)) : gz_Met cS G l yX0_see cX0_see 4 (some .int) (mRm 3 61) [.ref (gz_ad G 1000)] m m9 (some (.int r)) :=
  gz_ofI (by decide +kernel) (Nat.le_of_ble_eq_true rfl) fun X _ hX hk => wm_X0_see hX h hk
