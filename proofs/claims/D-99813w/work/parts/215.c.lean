set_option maxRecDepth 100000
theorem cg_X1_26_1 {X : gz_X} {G : gz_G} {cc : ByteArray} {nL fr lo pc : Nat} {rem : Nat × Nat} {m : gM} {lv : List (Nat × Value)} {st : List Value} (hX : gz_C cS X G cc nL RX1 fr lo) {c : Nat} {v : Value} (hK : clc m.1 m.2.1 m.2.2.2.2.1 → m.1 c = 1 + 1) (hv : clc m.1 m.2.1 m.2.2.2.2.1 → gz_u (gz_ad G) m (ftC 1 6) c 6 = v) (hd : decode cc pc = .ok (.getfield 26, 3)) (kk : gz_V cS X G nL rem m (pc + 3) lv (v :: st)) : gz_V cS X G nL rem m pc lv (.ref (gz_ad G c) :: st) :=
  gz_getf hX (C := RX1) (T := TX1) (N := 9) (ci := 1) (k := 6) rfl (by decide) in_X1 (by decide) (Or.inl (hX.2.2.2.2.1 _ q265)) hd hK hv kk
theorem cc_X1_35 {X : gz_X} {G : gz_G} {cc : ByteArray} {nL fr lo pc : Nat} {rem : Nat × Nat} {lv : List (Nat × Value)} {rest st0 : List Value} (hX : gz_C cS X G cc nL RX1 fr lo) {c0 : Nat} {m m9 : gM} (hK : clc m.1 m.2.1 m.2.2.2.2.1 → m.1 c0 = 20 + 1)  {r : Int32} (h : cf_J2_size c0 m = some (r, m9)) (hroom : 0 + 1 ≤ fr ∧ 8 + (1 + 11) + 0 ≤ lo) (hst : st0 = [.ref (gz_ad G c0)] ++ rest) (hW : (rest.map fun v => v.category).sum ≤ 8) (hd : decode cc pc = .ok (.invokeinterface 35 1, 5)) (kk : gz_V cS X G nL rem m9 (pc + 5) lv (.int r :: rest)) : gz_V cS X G nL rem m pc lv st0 :=
  gz_callF hX cs_E (x := cLs) (As := []) (rest := rest) (q := (RJ2, TJ2, 3)) (ci := 20) (c := c0) (ct_J2_size (l := X.2.1) h) (va_cwF 0 hX.2.2.2.2.1 (lw_app (by intro w hw; simp only [List.mem_cons, List.not_mem_nil, or_false] at hw; rcases hw with e | e | e | e <;> rw [e] <;> first | exact q1001 | exact q468 | exact q470 | exact q171) (lw_meth q472)) rfl rfl rfl hX.2.2.2.2.2.1.2.2.2.1 (by decide +kernel) ⟨Nat.le_trans hroom.1 hX.2.2.2.2.2.2.1, Nat.le_trans hroom.2 hX.2.2.2.2.2.2.2⟩) rfl rfl (by decide) hK hst hW hd (rem := rem) kk
theorem cc_X1_41 {X : gz_X} {G : gz_G} {cc : ByteArray} {nL fr lo pc : Nat} {rem : Nat × Nat} {lv : List (Nat × Value)} {rest st0 : List Value} (hX : gz_C cS X G cc nL RX1 fr lo) {c0 : Nat} {x1 : Int32} {m m9 : gM} (hK : clc m.1 m.2.1 m.2.2.2.2.1 → m.1 c0 = 20 + 1)  {r : Nat} (h : cf_J2_get c0 x1 m = some (r, m9)) (hroom : 2 + 1 ≤ fr ∧ 8 + (2 + 11) + 43 ≤ lo) (hst : st0 = [.int x1, .ref (gz_ad G c0)] ++ rest) (hW : (rest.map fun v => v.category).sum ≤ 8) (hd : decode cc pc = .ok (.invokeinterface 41 2, 5)) (kk : gz_V cS X G nL rem m9 (pc + 5) lv (.ref (gz_ad G r) :: rest)) : gz_V cS X G nL rem m pc lv st0 :=
  gz_callF hX cs_E (x := cLg) (As := [.int x1]) (rest := rest) (q := (RJ2, TJ2, 3)) (ci := 20) (c := c0) (ct_J2_get (l := X.2.1) h) (va_cwF 1 hX.2.2.2.2.1 (lw_app (by intro w hw; simp only [List.mem_cons, List.not_mem_nil, or_false] at hw; rcases hw with e | e | e | e <;> rw [e] <;> first | exact q1003 | exact q477 | exact q479 | exact q171) (lw_meth q481)) rfl rfl rfl hX.2.2.2.2.2.1.2.2.2.2.1 (by decide +kernel) ⟨Nat.le_trans hroom.1 hX.2.2.2.2.2.2.1, Nat.le_trans hroom.2 hX.2.2.2.2.2.2.2⟩) rfl rfl (by decide) hK hst hW hd (rem := rem) kk
theorem ck_X1_45 {X : gz_X} {G : gz_G} {cc : ByteArray} {nL fr lo pc : Nat} {rem : Nat × Nat} {m : gM} {lv : List (Nat × Value)} {st : List Value} (hX : gz_C cS X G cc nL RX1 fr lo) {c : Nat} (hK : m.1 c = 10) (hd : decode cc pc = .ok (.checkcast 45, 3)) (kk : gz_V cS X G nL rem m (pc + 3) lv (.ref (gz_ad G c) :: st)) : gz_V cS X G nL rem m pc lv (.ref (gz_ad G c) :: st) := by
  intro H locs ls cs hR hC hA hl
  have z := hK
  exact va_castS hX.1 hX.2.1 hX.2.2.2.1 (hX.2.2.2.2.1 _ q1004) (hX.2.2.2.2.2.1.1.1 9 (RX10, TX10, 2) rfl).2 (gz_recv (X := X) hX.2.2.2.2.2.1 hR (ci := 9) (c := c) (q := (RX10, TX10, 2)) rfl (by decide) z) hd (kk H locs ls cs hR hC hA hl)
theorem cg_X1_47_9 {X : gz_X} {G : gz_G} {cc : ByteArray} {nL fr lo pc : Nat} {rem : Nat × Nat} {m : gM} {lv : List (Nat × Value)} {st : List Value} (hX : gz_C cS X G cc nL RX1 fr lo) {c : Nat} {v : Value} (hK : clc m.1 m.2.1 m.2.2.2.2.1 → m.1 c = 9 + 1) (hv : clc m.1 m.2.1 m.2.2.2.2.1 → gz_u (gz_ad G) m (ftC 9 0) c 0 = v) (hd : decode cc pc = .ok (.getfield 47, 3)) (kk : gz_V cS X G nL rem m (pc + 3) lv (v :: st)) : gz_V cS X G nL rem m pc lv (.ref (gz_ad G c) :: st) :=
  gz_getf hX (C := RX10) (T := TX10) (N := 2) (ci := 9) (k := 0) rfl (by decide) in_X10 (by decide) (Or.inr ⟨_, va_Nw.use rfl (cz_n (Z := cS) hX q1012 rfl)⟩) hd hK hv kk
theorem cg_X1_51_9 {X : gz_X} {G : gz_G} {cc : ByteArray} {nL fr lo pc : Nat} {rem : Nat × Nat} {m : gM} {lv : List (Nat × Value)} {st : List Value} (hX : gz_C cS X G cc nL RX1 fr lo) {c : Nat} {v : Value} (hK : clc m.1 m.2.1 m.2.2.2.2.1 → m.1 c = 9 + 1) (hv : clc m.1 m.2.1 m.2.2.2.2.1 → gz_u (gz_ad G) m (ftC 9 1) c 1 = v) (hd : decode cc pc = .ok (.getfield 51, 3)) (kk : gz_V cS X G nL rem m (pc + 3) lv (v :: st)) : gz_V cS X G nL rem m pc lv (.ref (gz_ad G c) :: st) :=
  gz_getf hX (C := RX10) (T := TX10) (N := 2) (ci := 9) (k := 1) rfl (by decide) in_X10 (by decide) (Or.inr ⟨_, va_Nw.use rfl (cz_n (Z := cS) hX q1016 rfl)⟩) hd hK hv kk
/-! FirstSnuffer$Household.isTied(II)Z -/
def mP_X1_isTied_2 (X : gz_X) (G : gz_G) (c0 : Nat) (q : (Int32 × Int32 × Int32 × gM)) : Prop := gz_V cS X G 4 (0, 0) q.2.2.2 2 [(0, .ref (gz_ad G c0)), (1, .int q.1), (2, .int q.2.1), (3, .int q.2.2.1)] []
noncomputable def mj_X1_isTied_57 (c0 : Nat) (x1 : Int32) (x2 : Int32) (x3 : Int32) (m : gM) : Option ((Int32 × Int32 × Int32 × gM) ⊕ (Int32 × gM)) :=
  gz_let (x3 + (1 : Int32)) fun y1 => some (Sum.inl (x1, x2, y1, m))
theorem wb_X1_isTied_57 {X : gz_X} {G : gz_G} (hX : gz_C cS X G cX1_isTied 4 RX1 3 64) {c0 : Nat} {x1 : Int32} {x2 : Int32} {x3 : Int32}  {m : gM} {z : ((Int32 × Int32 × Int32 × gM) ⊕ (Int32 × gM))} (h : mj_X1_isTied_57 c0 x1 x2 x3 m = some z) (hk : (Sum.elim (mP_X1_isTied_2 X G c0) (fun z : (Int32 × gM) => gz_kZ cS X G 4 (0, 0) cX1_isTied z.2 z.1)) z) : gz_V cS X G 4 (0, 0) m 57 [(0, .ref (gz_ad G c0)), (1, .int x1), (2, .int x2), (3, .int x3)] [] := by
  unfold mj_X1_isTied_57 at h
  obtain ⟨y1, ey1, h⟩ := gz_lt h
  refine gz_iinc (pc := 57) (v := y1) (lw := [(3, .int y1), (0, .ref (gz_ad G c0)), (1, .int x1), (2, .int x2)]) hX dX1_isTied_57 (k := 3) rfl (by rw [ey1]; rfl) (by decide) rfl ?_
  refine gz_goto (pc := 60) (tgt := 2) hX dX1_isTied_60 (by decide) ?_
  refine gz_sub (lw := [(0, .ref (gz_ad G c0)), (1, .int x1), (2, .int x2), (3, .int y1)]) [1, 2, 3, 0] rfl ?_
  obtain rfl := Option.some.inj h
  exact hk
noncomputable def mb_X1_isTied_2 (c0 : Nat) (x1 : Int32) (x2 : Int32) (x3 : Int32) (m : gM) : Option ((Int32 × Int32 × Int32 × gM) ⊕ (Int32 × gM)) :=
  (if gK m c0 = 2 then gz_let (gP m c0 6) fun r2 => (if r2 ≠ 0 then (if gK m r2 = 21 then ((cf_J2_size r2 m).bind fun (r5, m6) => (if r5 ≤ x3 then some (Sum.inr ((0 : Int32), m6)) else (if gK m6 c0 = 2 then gz_let (gP m6 c0 6) fun r10 => (if r10 ≠ 0 then (if gK m6 r10 = 21 then ((cf_J2_get r10 x3 m6).bind fun (r13, m14) => (if gK m14 r13 = 10 then (if gK m14 r13 = 10 then (if (gI m14 r13 0) = x1 then (if gK m14 c0 = 2 then gz_let (gP m14 c0 6) fun r20 => (if r20 ≠ 0 then (if gK m14 r20 = 21 then ((cf_J2_get r20 x3 m14).bind fun (r23, m24) => (if gK m24 r23 = 10 then (if gK m24 r23 = 10 then (if (gI m24 r23 1) = x2 then some (Sum.inr ((1 : Int32), m24)) else (mj_X1_isTied_57 c0 x1 x2 x3 m24)) else none) else none)) else none) else none) else none) else (mj_X1_isTied_57 c0 x1 x2 x3 m14)) else none) else none)) else none) else none) else none))) else none) else none) else none)
theorem wb_X1_isTied_2 {X : gz_X} {G : gz_G} (hX : gz_C cS X G cX1_isTied 4 RX1 3 64) {c0 : Nat} {x1 : Int32} {x2 : Int32} {x3 : Int32}  {m : gM} {z : ((Int32 × Int32 × Int32 × gM) ⊕ (Int32 × gM))} (h : mb_X1_isTied_2 c0 x1 x2 x3 m = some z) (hk : (Sum.elim (mP_X1_isTied_2 X G c0) (fun z : (Int32 × gM) => gz_kZ cS X G 4 (0, 0) cX1_isTied z.2 z.1)) z) : gz_V cS X G 4 (0, 0) m 2 [(0, .ref (gz_ad G c0)), (1, .int x1), (2, .int x2), (3, .int x3)] [] := by
  unfold mb_X1_isTied_2 at h
  refine gz_iload_n (pc := 2) hX dX1_isTied_2 rfl 3 rfl ?_
  refine gz_aload_n (pc := 3) hX dX1_isTied_3 rfl 0 rfl ?_
  obtain ⟨g1, h⟩ := gz_gu h
  obtain ⟨r2, er2, h⟩ := gz_lt h
  obtain ⟨g3, h⟩ := gz_gu h
  refine cg_X1_26_1 (pc := 4) hX (c := c0) (v := .ref (gz_ad G r2)) (fun _ => g1) (fun _ => gz_rq er2 g3) dX1_isTied_4 ?_
  obtain ⟨g4, h⟩ := gz_gu h
  obtain ⟨⟨r5, m6⟩, c7, h⟩ := gz_bd h
  refine cc_X1_35 (pc := 7) hX (fun _ => g4) c7 ⟨Nat.le_of_ble_eq_true rfl, Nat.le_of_ble_eq_true rfl⟩ (rest := [.int x3]) rfl (Nat.le_of_ble_eq_true rfl) dX1_isTied_7 ?_
  refine gz_icmp_ge (pc := 12) (tgt := 63) hX dX1_isTied_12 (by decide) (fun g8 => ?_) (fun g8 => ?_)
  · replace h := gz_it' g8 h
    refine gz_iconst (pc := 63) (v := (0 : Int32)) hX dX1_isTied_63 (by decide) ?_
    obtain rfl := Option.some.inj h
    exact hk _ _ dX1_isTied_64 (Or.inl rfl)
  · replace h := gz_if' g8 h
    refine gz_aload_n (pc := 15) hX dX1_isTied_15 rfl 0 rfl ?_
    obtain ⟨g9, h⟩ := gz_gu h
    obtain ⟨r10, er10, h⟩ := gz_lt h
    obtain ⟨g11, h⟩ := gz_gu h
    refine cg_X1_26_1 (pc := 16) hX (c := c0) (v := .ref (gz_ad G r10)) (fun _ => g9) (fun _ => gz_rq er10 g11) dX1_isTied_16 ?_
    refine gz_iload_n (pc := 19) hX dX1_isTied_19 rfl 3 rfl ?_
    obtain ⟨g12, h⟩ := gz_gu h
    obtain ⟨⟨r13, m14⟩, c15, h⟩ := gz_bd h
    refine cc_X1_41 (pc := 20) hX (fun _ => g12) c15 ⟨Nat.le_of_ble_eq_true rfl, Nat.le_of_ble_eq_true rfl⟩ (rest := []) rfl (Nat.le_of_ble_eq_true rfl) dX1_isTied_20 ?_
    obtain ⟨g16, h⟩ := gz_gu h
    refine ck_X1_45 (pc := 25) hX (c := r13) g16 dX1_isTied_25 ?_
    obtain ⟨g17, h⟩ := gz_gu h
    refine cg_X1_47_9 (pc := 28) hX (c := r13) (v := .int (gI m14 r13 0)) (fun _ => g17) (fun _ => rfl) dX1_isTied_28 ?_
    refine gz_iload_n (pc := 31) hX dX1_isTied_31 rfl 1 rfl ?_
    refine gz_icmp_ne (pc := 32) (tgt := 57) hX dX1_isTied_32 (by decide) (fun g18 => ?_) (fun g18 => ?_)
    · replace h := gz_if' g18 h
      exact wb_X1_isTied_57 hX h hk
    · replace h := gz_it' g18 h
      refine gz_aload_n (pc := 35) hX dX1_isTied_35 rfl 0 rfl ?_
      obtain ⟨g19, h⟩ := gz_gu h
      obtain ⟨r20, er20, h⟩ := gz_lt h
      obtain ⟨g21, h⟩ := gz_gu h
      refine cg_X1_26_1 (pc := 36) hX (c := c0) (v := .ref (gz_ad G r20)) (fun _ => g19) (fun _ => gz_rq er20 g21) dX1_isTied_36 ?_
      refine gz_iload_n (pc := 39) hX dX1_isTied_39 rfl 3 rfl ?_
      obtain ⟨g22, h⟩ := gz_gu h
      obtain ⟨⟨r23, m24⟩, c25, h⟩ := gz_bd h
      refine cc_X1_41 (pc := 40) hX (fun _ => g22) c25 ⟨Nat.le_of_ble_eq_true rfl, Nat.le_of_ble_eq_true rfl⟩ (rest := []) rfl (Nat.le_of_ble_eq_true rfl) dX1_isTied_40 ?_
      obtain ⟨g26, h⟩ := gz_gu h
      refine ck_X1_45 (pc := 45) hX (c := r23) g26 dX1_isTied_45 ?_
      obtain ⟨g27, h⟩ := gz_gu h
      refine cg_X1_51_9 (pc := 48) hX (c := r23) (v := .int (gI m24 r23 1)) (fun _ => g27) (fun _ => rfl) dX1_isTied_48 ?_
      refine gz_iload_n (pc := 51) hX dX1_isTied_51 rfl 2 rfl ?_
      refine gz_icmp_ne (pc := 52) (tgt := 57) hX dX1_isTied_52 (by decide) (fun g28 => ?_) (fun g28 => ?_)
      · replace h := gz_if' g28 h
        exact wb_X1_isTied_57 hX h hk
      · replace h := gz_it' g28 h
        refine gz_iconst (pc := 55) (v := (1 : Int32)) hX dX1_isTied_55 (by decide) ?_
        obtain rfl := Option.some.inj h
        exact hk _ _ dX1_isTied_56 (Or.inr rfl)
noncomputable def ml_X1_isTied_2 (c0 : Nat) (x1 : Int32) (x2 : Int32) (x3 : Int32) (m : gM) : Option (Int32 × gM) := gz_loop (fun q : (Int32 × Int32 × Int32 × gM) => mb_X1_isTied_2 c0 q.1 q.2.1 q.2.2.1 q.2.2.2) (x1, x2, x3, m)
theorem wl_X1_isTied_2 {X : gz_X} {G : gz_G} (hX : gz_C cS X G cX1_isTied 4 RX1 3 64) {c0 : Nat} {x1 : Int32} {x2 : Int32} {x3 : Int32}  {m : gM} {z : (Int32 × gM)} (h : ml_X1_isTied_2 c0 x1 x2 x3 m = some z) (hk : (fun z : (Int32 × gM) => gz_kZ cS X G 4 (0, 0) cX1_isTied z.2 z.1) z) : gz_V cS X G 4 (0, 0) m 2 [(0, .ref (gz_ad G c0)), (1, .int x1), (2, .int x2), (3, .int x3)] [] := by
  have hp : mP_X1_isTied_2 X G c0 (x1, x2, x3, m) := gz_loop_ind (fun q z hz hkz => wb_X1_isTied_2 hX  hz hkz) h hk
  exact hp
noncomputable def cf_X1_isTied (c0 : Nat) (x1 : Int32) (x2 : Int32) (m : gM) : Option (Int32 × gM) :=
  (ml_X1_isTied_2 c0 x1 x2 (0 : Int32) m)
theorem wm_X1_isTied {X : gz_X} {G : gz_G} (hX : gz_C cS X G cX1_isTied 4 RX1 3 64) {c0 : Nat} {x1 : Int32} {x2 : Int32}  {m : gM} {z : (Int32 × gM)} (h : cf_X1_isTied c0 x1 x2 m = some z) (hk : (fun z : (Int32 × gM) => gz_kZ cS X G 4 (0, 0) cX1_isTied z.2 z.1) z) : gz_V cS X G 4 (0, 0) m 0 [(0, .ref (gz_ad G c0)), (1, .int x1), (2, .int x2)] [] := by
  unfold cf_X1_isTied at h
  refine gz_iconst (pc := 0) (v := (0 : Int32)) hX dX1_isTied_0 (by decide) ?_
  refine gz_istore_n (pc := 1) (lw := [(3, .int (0 : Int32)), (0, .ref (gz_ad G c0)), (1, .int x1), (2, .int x2)]) hX dX1_isTied_1 rfl (by decide) rfl ?_
  refine gz_sub (lw := [(0, .ref (gz_ad G c0)), (1, .int x1), (2, .int x2), (3, .int (0 : Int32))]) [1, 2, 3, 0] rfl ?_
  exact wl_X1_isTied_2 hX h hk
theorem ct_X1_isTied {G : gz_G} {l : Launch} {c0 : Nat} {x1 : Int32} {x2 : Int32}  {m m9 : gM} {r : Int32} (h : cf_X1_isTied c0 x1 x2 m = some (r, m9)) : gz_Met cS G l yX1_isTied cX1_isTied 4 (some .boolean) (mRm 3 64) [.ref (gz_ad G c0), .int x1, .int x2] m m9 (some (.int r)) :=
  gz_ofZ (by decide +kernel) (Nat.le_of_ble_eq_true rfl) fun X _ hX hk => wm_X1_isTied hX h hk
theorem cg_X5_3_5 {X : gz_X} {G : gz_G} {cc : ByteArray} {nL fr lo pc : Nat} {rem : Nat × Nat} {m : gM} {lv : List (Nat × Value)} {st : List Value} (hX : gz_C cS X G cc nL RX5 fr lo) {c : Nat} {v : Value} (hK : clc m.1 m.2.1 m.2.2.2.2.1 → m.1 c = 5 + 1) (hv : clc m.1 m.2.1 m.2.2.2.2.1 → gz_u (gz_ad G) m (ftC 5 9) c 9 = v) (hd : decode cc pc = .ok (.getfield 3, 3)) (kk : gz_V cS X G nL rem m (pc + 3) lv (v :: st)) : gz_V cS X G nL rem m pc lv (.ref (gz_ad G c) :: st) :=
  gz_getf hX (C := RX5) (T := TX5) (N := 10) (ci := 5) (k := 9) rfl (by decide) in_X5 (by decide) (Or.inl (hX.2.2.2.2.1 _ q435)) hd hK hv kk
theorem cc_X5_59 {X : gz_X} {G : gz_G} {cc : ByteArray} {nL fr lo pc : Nat} {rem : Nat × Nat} {lv : List (Nat × Value)} {rest st0 : List Value} (hX : gz_C cS X G cc nL RX5 fr lo)  {m m9 : gM} (hK : clc m.1 m.2.1 m.2.2.2.2.1 → m.1 1000 = 0 + 1)  {r : Int32} (h : cf_X0_things  m = some (r, m9)) (hroom : 1 + 1 ≤ fr ∧ 8 + (1 + 11) + 20 ≤ lo) (hst : st0 = [.ref (gz_ad G 1000)] ++ rest) (hW : (rest.map fun v => v.category).sum ≤ 8) (hd : decode cc pc = .ok (.invokevirtual 59, 3)) (kk : gz_V cS X G nL rem m9 (pc + 3) lv (.int r :: rest)) : gz_V cS X G nL rem m pc lv st0 :=
  gz_callVN hX cs_E (As := []) (rest := rest) (q := (RX0, TX0, 28)) (ci := 0) (c := 1000) (ct_X0_things (l := X.2.1) h) q1308 (cz_n (Z := cS) hX q1305 rfl) q167 q1307 qs38 (n := 0) (by decide +kernel) hroom rfl rfl (by decide) hK hst hW hd (rem := rem) kk
/-! FirstSnuffer$State.lit()I -/
def mP_X5_lit_4 (X : gz_X) (G : gz_G) (c0 : Nat) (q : (Int32 × Int32 × gM)) : Prop := gz_V cS X G 3 (0, 0) q.2.2 4 [(0, .ref (gz_ad G c0)), (1, .int q.1), (2, .int q.2.1)] []
noncomputable def mj_X5_lit_31 (c0 : Nat) (x2 : Int32) (s0 : Int32) (s1 : Int32) (m : gM) : Option ((Int32 × Int32 × gM) ⊕ (Int32 × gM)) :=
  gz_let ((s1 ||| s0)) fun y1 => gz_let (x2 + (1 : Int32)) fun y2 => some (Sum.inl (y1, y2, m))
theorem wb_X5_lit_31 {X : gz_X} {G : gz_G} (hX : gz_C cS X G cX5_lit 3 RX5 2 40) {c0 : Nat} {x2 : Int32} {s0 : Int32} {s1 : Int32} (hs_c0 : cSt c0 = true) {m : gM} {z : ((Int32 × Int32 × gM) ⊕ (Int32 × gM))} (h : mj_X5_lit_31 c0 x2 s0 s1 m = some z) (hk : (Sum.elim (mP_X5_lit_4 X G c0) (fun z : (Int32 × gM) => gz_kI cS X G 3 (0, 0) cX5_lit z.2 z.1)) z) : gz_V cS X G 3 (0, 0) m 31 [(0, .ref (gz_ad G c0)), (2, .int x2)] [.int s0, .int s1] := by
  unfold mj_X5_lit_31 at h
  refine gz_ior (pc := 31) hX dX5_lit_31 ?_
  obtain ⟨y1, ey1, h⟩ := gz_lt h
  refine gz_topi ey1 ?_
  refine gz_istore_n (pc := 32) (lw := [(1, .int y1), (0, .ref (gz_ad G c0)), (2, .int x2)]) hX dX5_lit_32 rfl (by decide) rfl ?_
  obtain ⟨y2, ey2, h⟩ := gz_lt h
  refine gz_iinc (pc := 33) (v := y2) (lw := [(2, .int y2), (1, .int y1), (0, .ref (gz_ad G c0))]) hX dX5_lit_33 (k := 2) rfl (by rw [ey2]; rfl) (by decide) rfl ?_
  refine gz_goto (pc := 36) (tgt := 4) hX dX5_lit_36 (by decide) ?_
  refine gz_sub (lw := [(0, .ref (gz_ad G c0)), (1, .int y1), (2, .int y2)]) [2, 1, 0] rfl ?_
  obtain rfl := Option.some.inj h
  exact hk
noncomputable def mb_X5_lit_4 (c0 : Nat) (x1 : Int32) (x2 : Int32) (m : gM) : Option ((Int32 × Int32 × gM) ⊕ (Int32 × gM)) :=
  ((cf_X0_things m).bind fun (r1, m2) => (if r1 ≤ x2 then some (Sum.inr (x1, m2)) else ((cf_X5_isLit c0 x2 m2).bind fun (r5, m6) => (if r5 = (0 : Int32) then (mj_X5_lit_31 c0 x2 (0 : Int32) x1 m6) else (mj_X5_lit_31 c0 x2 ((1 : Int32) <<< (x2 &&& 31)) x1 m6)))))
theorem wb_X5_lit_4 {X : gz_X} {G : gz_G} (hX : gz_C cS X G cX5_lit 3 RX5 2 40) {c0 : Nat} {x1 : Int32} {x2 : Int32} (hs_c0 : cSt c0 = true) {m : gM} {z : ((Int32 × Int32 × gM) ⊕ (Int32 × gM))} (h : mb_X5_lit_4 c0 x1 x2 m = some z) (hk : (Sum.elim (mP_X5_lit_4 X G c0) (fun z : (Int32 × gM) => gz_kI cS X G 3 (0, 0) cX5_lit z.2 z.1)) z) : gz_V cS X G 3 (0, 0) m 4 [(0, .ref (gz_ad G c0)), (1, .int x1), (2, .int x2)] [] := by
  unfold mb_X5_lit_4 at h
  refine gz_iload_n (pc := 4) hX dX5_lit_4 rfl 2 rfl ?_
  refine gz_aload_n (pc := 5) hX dX5_lit_5 rfl 0 rfl ?_
  refine cg_X5_3_5 (pc := 6) hX (c := c0) (v := .ref (gz_ad G 1000)) (fun h => cz_k h (st_k hs_c0)) (fun h => cz_f h (st_0 hs_c0) (st_f9 hs_c0) (by decide) rfl) dX5_lit_6 ?_
  obtain ⟨⟨r1, m2⟩, c3, h⟩ := gz_bd h
  refine cc_X5_59 (pc := 9) hX (fun h => cz_k h rfl) c3 ⟨Nat.le_of_ble_eq_true rfl, Nat.le_of_ble_eq_true rfl⟩ (rest := [.int x2]) rfl (Nat.le_of_ble_eq_true rfl) dX5_lit_9 ?_
  refine gz_icmp_ge (pc := 12) (tgt := 39) hX dX5_lit_12 (by decide) (fun g4 => ?_) (fun g4 => ?_)
  · replace h := gz_it' g4 h
    refine gz_iload_n (pc := 39) hX dX5_lit_39 rfl 1 rfl ?_
    obtain rfl := Option.some.inj h
    exact hk _ _ dX5_lit_40
  · replace h := gz_if' g4 h
    refine gz_iload_n (pc := 15) hX dX5_lit_15 rfl 1 rfl ?_
    refine gz_aload_n (pc := 16) hX dX5_lit_16 rfl 0 rfl ?_
    refine gz_iload_n (pc := 17) hX dX5_lit_17 rfl 2 rfl ?_
    obtain ⟨⟨r5, m6⟩, c7, h⟩ := gz_bd h
    refine cc_X5_73 (pc := 18) hX (fun h => cz_k h (st_k hs_c0)) hs_c0 c7 ⟨Nat.le_of_ble_eq_true rfl, Nat.le_of_ble_eq_true rfl⟩ (rest := [.int x1]) rfl (Nat.le_of_ble_eq_true rfl) dX5_lit_18 ?_
    refine gz_if_eq (pc := 21) (tgt := 30) hX dX5_lit_21 (by decide) (fun g8 => ?_) (fun g8 => ?_)
    · replace h := gz_it' g8 h
      refine gz_iconst (pc := 30) (v := (0 : Int32)) hX dX5_lit_30 (by decide) ?_
      refine gz_sub (lw := [(0, .ref (gz_ad G c0)), (2, .int x2)]) [0, 2] rfl ?_
      exact wb_X5_lit_31 hX hs_c0 h hk
    · replace h := gz_if' g8 h
      refine gz_iconst (pc := 24) (v := (1 : Int32)) hX dX5_lit_24 (by decide) ?_
      refine gz_iload_n (pc := 25) hX dX5_lit_25 rfl 2 rfl ?_
      refine gz_ishl (pc := 26) hX dX5_lit_26 ?_
      refine gz_goto (pc := 27) (tgt := 31) hX dX5_lit_27 (by decide) ?_
      refine gz_sub (lw := [(0, .ref (gz_ad G c0)), (2, .int x2)]) [0, 2] rfl ?_
      exact wb_X5_lit_31 hX hs_c0 h hk
noncomputable def ml_X5_lit_4 (c0 : Nat) (x1 : Int32) (x2 : Int32) (m : gM) : Option (Int32 × gM) := gz_loop (fun q : (Int32 × Int32 × gM) => mb_X5_lit_4 c0 q.1 q.2.1 q.2.2) (x1, x2, m)
theorem wl_X5_lit_4 {X : gz_X} {G : gz_G} (hX : gz_C cS X G cX5_lit 3 RX5 2 40) {c0 : Nat} {x1 : Int32} {x2 : Int32} (hs_c0 : cSt c0 = true) {m : gM} {z : (Int32 × gM)} (h : ml_X5_lit_4 c0 x1 x2 m = some z) (hk : (fun z : (Int32 × gM) => gz_kI cS X G 3 (0, 0) cX5_lit z.2 z.1) z) : gz_V cS X G 3 (0, 0) m 4 [(0, .ref (gz_ad G c0)), (1, .int x1), (2, .int x2)] [] := by
  have hp : mP_X5_lit_4 X G c0 (x1, x2, m) := gz_loop_ind (fun q z hz hkz => wb_X5_lit_4 hX hs_c0 hz hkz) h hk
  exact hp
noncomputable def cf_X5_lit (c0 : Nat) (m : gM) : Option (Int32 × gM) :=
  (ml_X5_lit_4 c0 (0 : Int32) (0 : Int32) m)
theorem wm_X5_lit {X : gz_X} {G : gz_G} (hX : gz_C cS X G cX5_lit 3 RX5 2 40) {c0 : Nat} (hs_c0 : cSt c0 = true) {m : gM} {z : (Int32 × gM)} (h : cf_X5_lit c0 m = some z) (hk : (fun z : (Int32 × gM) => gz_kI cS X G 3 (0, 0) cX5_lit z.2 z.1) z) : gz_V cS X G 3 (0, 0) m 0 [(0, .ref (gz_ad G c0))] [] := by
  unfold cf_X5_lit at h
  refine gz_iconst (pc := 0) (v := (0 : Int32)) hX dX5_lit_0 (by decide) ?_
  refine gz_istore_n (pc := 1) (lw := [(1, .int (0 : Int32)), (0, .ref (gz_ad G c0))]) hX dX5_lit_1 rfl (by decide) rfl ?_
  refine gz_iconst (pc := 2) (v := (0 : Int32)) hX dX5_lit_2 (by decide) ?_
  refine gz_istore_n (pc := 3) (lw := [(2, .int (0 : Int32)), (1, .int (0 : Int32)), (0, .ref (gz_ad G c0))]) hX dX5_lit_3 rfl (by decide) rfl ?_
  refine gz_sub (lw := [(0, .ref (gz_ad G c0)), (1, .int (0 : Int32)), (2, .int (0 : Int32))]) [2, 1, 0] rfl ?_
  exact wl_X5_lit_4 hX hs_c0 h hk
theorem ct_X5_lit {G : gz_G} {l : Launch} {c0 : Nat} (hs_c0 : cSt c0 = true) {m m9 : gM} {r : Int32} (h : cf_X5_lit c0 m = some (r, m9)) : gz_Met cS G l yX5_lit cX5_lit 3 (some .int) (mRm 2 40) [.ref (gz_ad G c0)] m m9 (some (.int r)) :=
  gz_ofI (by decide +kernel) (Nat.le_of_ble_eq_true rfl) fun X _ hX hk => wm_X5_lit hX hs_c0 h hk
theorem cc_X7_15 {X : gz_X} {G : gz_G} {cc : ByteArray} {nL fr lo pc : Nat} {rem : Nat × Nat} {lv : List (Nat × Value)} {rest st0 : List Value} (hX : gz_C cS X G cc nL RX7 fr lo) {c0 : Nat} {m m9 : gM} (hK : clc m.1 m.2.1 m.2.2.2.2.1 → m.1 c0 = 20 + 1)  {r : Int32} (h : cf_J2_size c0 m = some (r, m9)) (hroom : 0 + 1 ≤ fr ∧ 8 + (1 + 11) + 0 ≤ lo) (hst : st0 = [.ref (gz_ad G c0)] ++ rest) (hW : (rest.map fun v => v.category).sum ≤ 8) (hd : decode cc pc = .ok (.invokeinterface 15 1, 5)) (kk : gz_V cS X G nL rem m9 (pc + 5) lv (.int r :: rest)) : gz_V cS X G nL rem m pc lv st0 :=
  gz_callF hX cs_E (x := cLs) (As := []) (rest := rest) (q := (RJ2, TJ2, 3)) (ci := 20) (c := c0) (ct_J2_size (l := X.2.1) h) (va_cwF 0 hX.2.2.2.2.1 (lw_app (by intro w hw; simp only [List.mem_cons, List.not_mem_nil, or_false] at hw; rcases hw with e | e | e | e <;> rw [e] <;> first | exact q830 | exact q468 | exact q470 | exact q171) (lw_meth q472)) rfl rfl rfl hX.2.2.2.2.2.1.2.2.2.1 (by decide +kernel) ⟨Nat.le_trans hroom.1 hX.2.2.2.2.2.2.1, Nat.le_trans hroom.2 hX.2.2.2.2.2.2.2⟩) rfl rfl (by decide) hK hst hW hd (rem := rem) kk
theorem cc_X7_21 {X : gz_X} {G : gz_G} {cc : ByteArray} {nL fr lo pc : Nat} {rem : Nat × Nat} {lv : List (Nat × Value)} {rest st0 : List Value} (hX : gz_C cS X G cc nL RX7 fr lo) {c0 : Nat} {x1 : Int32} {m m9 : gM} (hK : clc m.1 m.2.1 m.2.2.2.2.1 → m.1 c0 = 20 + 1)  {r : Nat} (h : cf_J2_get c0 x1 m = some (r, m9)) (hroom : 2 + 1 ≤ fr ∧ 8 + (2 + 11) + 43 ≤ lo) (hst : st0 = [.int x1, .ref (gz_ad G c0)] ++ rest) (hW : (rest.map fun v => v.category).sum ≤ 8) (hd : decode cc pc = .ok (.invokeinterface 21 2, 5)) (kk : gz_V cS X G nL rem m9 (pc + 5) lv (.ref (gz_ad G r) :: rest)) : gz_V cS X G nL rem m pc lv st0 :=
  gz_callF hX cs_E (x := cLg) (As := [.int x1]) (rest := rest) (q := (RJ2, TJ2, 3)) (ci := 20) (c := c0) (ct_J2_get (l := X.2.1) h) (va_cwF 1 hX.2.2.2.2.1 (lw_app (by intro w hw; simp only [List.mem_cons, List.not_mem_nil, or_false] at hw; rcases hw with e | e | e | e <;> rw [e] <;> first | exact q832 | exact q477 | exact q479 | exact q171) (lw_meth q481)) rfl rfl rfl hX.2.2.2.2.2.1.2.2.2.2.1 (by decide +kernel) ⟨Nat.le_trans hroom.1 hX.2.2.2.2.2.2.1, Nat.le_trans hroom.2 hX.2.2.2.2.2.2.2⟩) rfl rfl (by decide) hK hst hW hd (rem := rem) kk
theorem ck_X7_10 {X : gz_X} {G : gz_G} {cc : ByteArray} {nL fr lo pc : Nat} {rem : Nat × Nat} {m : gM} {lv : List (Nat × Value)} {st : List Value} (hX : gz_C cS X G cc nL RX7 fr lo) {c : Nat} (hK : m.1 c = 7 ∨ m.1 c = 9) (hd : decode cc pc = .ok (.checkcast 10, 3)) (kk : gz_V cS X G nL rem m (pc + 3) lv (.ref (gz_ad G c) :: st)) : gz_V cS X G nL rem m pc lv (.ref (gz_ad G c) :: st) := by
  intro H locs ls cs hR hC hA hl
  rcases hK with z | z
  · exact va_castS hX.1 hX.2.1 hX.2.2.2.1 (hX.2.2.2.2.1 _ q833) (hX.2.2.2.2.2.1.1.1 6 (RX7, TX7, 1) rfl).2 (gz_recv (X := X) hX.2.2.2.2.2.1 hR (ci := 6) (c := c) (q := (RX7, TX7, 1)) rfl (by decide) z) hd (kk H locs ls cs hR hC hA hl)
  · obtain ⟨cell, q1, q2, q3⟩ := gz_recv (X := X) hX.2.2.2.2.2.1 hR (ci := 8) (c := c) (q := (RX9, TX9, 4)) rfl (by decide) z
    exact va_castY hX.1 hX.2.1 (C := RX9) hX.2.2.2.1 (hX.2.2.2.2.1 _ q833) (cz_n (Z := cS) hX q2662 rfl) ⟨cell, q1, q2, q3⟩ hd (kk H locs ls cs hR hC hA hl)
theorem cg_X7_9_6 {X : gz_X} {G : gz_G} {cc : ByteArray} {nL fr lo pc : Nat} {rem : Nat × Nat} {m : gM} {lv : List (Nat × Value)} {st : List Value} (hX : gz_C cS X G cc nL RX7 fr lo) {c : Nat} {v : Value} (hK : clc m.1 m.2.1 m.2.2.2.2.1 → m.1 c = 6 + 1) (hv : clc m.1 m.2.1 m.2.2.2.2.1 → gz_u (gz_ad G) m (ftC 6 0) c 0 = v) (hd : decode cc pc = .ok (.getfield 9, 3)) (kk : gz_V cS X G nL rem m (pc + 3) lv (v :: st)) : gz_V cS X G nL rem m pc lv (.ref (gz_ad G c) :: st) :=
  gz_getf hX (C := RX7) (T := TX7) (N := 1) (ci := 6) (k := 0) rfl (by decide) in_X7 (by decide) (Or.inl (hX.2.2.2.2.1 _ q839)) hd hK hv kk
theorem cg_X7_9_8 {X : gz_X} {G : gz_G} {cc : ByteArray} {nL fr lo pc : Nat} {rem : Nat × Nat} {m : gM} {lv : List (Nat × Value)} {st : List Value} (hX : gz_C cS X G cc nL RX7 fr lo) {c : Nat} {v : Value} (hK : clc m.1 m.2.1 m.2.2.2.2.1 → m.1 c = 8 + 1) (hv : clc m.1 m.2.1 m.2.2.2.2.1 → gz_u (gz_ad G) m (ftC 8 0) c 0 = v) (hd : decode cc pc = .ok (.getfield 9, 3)) (kk : gz_V cS X G nL rem m (pc + 3) lv (v :: st)) : gz_V cS X G nL rem m pc lv (.ref (gz_ad G c) :: st) :=
  gz_getf hX (C := RX9) (T := TX9) (N := 4) (ci := 8) (k := 0) rfl (by decide) in_X9 (by decide) (Or.inl (hX.2.2.2.2.1 _ q839)) hd hK hv kk
theorem cc_X7_25 {X : gz_X} {G : gz_G} {cc : ByteArray} {nL fr lo pc : Nat} {rem : Nat × Nat} {lv : List (Nat × Value)} {rest st0 : List Value} (hX : gz_C cS X G cc nL RX7 fr lo) {c0 : Nat} {c1 : Nat} {m m9 : gM} (hK : clc m.1 m.2.1 m.2.2.2.2.1 → m.1 c0 = 21 + 1)  {r : Int32} (h : cf_J9_equals c0 c1 m = some (r, m9)) (hroom : 1 + 1 ≤ fr ∧ 8 + (3 + 11) + 22 ≤ lo) (hst : st0 = [.ref (gz_ad G c1), .ref (gz_ad G c0)] ++ rest) (hW : (rest.map fun v => v.category).sum ≤ 8) (hd : decode cc pc = .ok (.invokevirtual 25, 3)) (kk : gz_V cS X G nL rem m9 (pc + 3) lv (.int r :: rest)) : gz_V cS X G nL rem m pc lv st0 :=
  gz_callV2 hX cs_E (As := [.ref (gz_ad G c1)]) (rest := rest) (q := (RJ9, TJ9, 4)) (ci := 21) (c := c0) (ct_J9_equals (l := X.2.1) h) (lw_V q834 q786 q787 q183 q788) (n := 1) (by decide +kernel) hroom rfl rfl (by decide) hK hst hW hd (rem := rem) kk
/-! FirstSnuffer$Named.find(Ljava/util/List;Ljava/lang/String;)I -/
def mP_X7_find_2 (X : gz_X) (G : gz_G) (c0 : Nat) (c1 : Nat) (q : (Int32 × gM)) : Prop := gz_V cS X G 3 (0, 0) q.2 2 [(0, .ref (gz_ad G c0)), (1, .ref (gz_ad G c1)), (2, .int q.1)] []
noncomputable def mb_X7_find_2 (c0 : Nat) (c1 : Nat) (x2 : Int32) (m : gM) : Option ((Int32 × gM) ⊕ (Int32 × gM)) :=
  (if gK m c0 = 21 then ((cf_J2_size c0 m).bind fun (r2, m3) => (if r2 ≤ x2 then some (Sum.inr ((-1 : Int32), m3)) else (if gK m3 c0 = 21 then ((cf_J2_get c0 x2 m3).bind fun (r7, m8) => (if gK m8 r7 = 7 ∨ gK m8 r7 = 9 then (if gK m8 r7 = 7 ∨ gK m8 r7 = 9 then gz_let (gP m8 r7 0) fun r12 => (if r12 ≠ 0 then (if gK m8 r12 = 22 then ((cf_J9_equals r12 c1 m8).bind fun (r15, m16) => (if r15 = (0 : Int32) then gz_let (x2 + (1 : Int32)) fun y19 => some (Sum.inl (y19, m16)) else some (Sum.inr (x2, m16)))) else none) else none) else none) else none)) else none))) else none)
theorem wb_X7_find_2 {X : gz_X} {G : gz_G} (hX : gz_C cS X G cX7_find 3 RX7 3 64) {c0 : Nat} {c1 : Nat} {x2 : Int32}  {m : gM} {z : ((Int32 × gM) ⊕ (Int32 × gM))} (h : mb_X7_find_2 c0 c1 x2 m = some z) (hk : (Sum.elim (mP_X7_find_2 X G c0 c1) (fun z : (Int32 × gM) => gz_kI cS X G 3 (0, 0) cX7_find z.2 z.1)) z) : gz_V cS X G 3 (0, 0) m 2 [(0, .ref (gz_ad G c0)), (1, .ref (gz_ad G c1)), (2, .int x2)] [] := by
  unfold mb_X7_find_2 at h
  refine gz_iload_n (pc := 2) hX dX7_find_2 rfl 2 rfl ?_
  refine gz_aload_n (pc := 3) hX dX7_find_3 rfl 0 rfl ?_
  obtain ⟨g1, h⟩ := gz_gu h
  obtain ⟨⟨r2, m3⟩, c4, h⟩ := gz_bd h
  refine cc_X7_15 (pc := 4) hX (fun _ => g1) c4 ⟨Nat.le_of_ble_eq_true rfl, Nat.le_of_ble_eq_true rfl⟩ (rest := [.int x2]) rfl (Nat.le_of_ble_eq_true rfl) dX7_find_4 ?_
  refine gz_icmp_ge (pc := 9) (tgt := 40) hX dX7_find_9 (by decide) (fun g5 => ?_) (fun g5 => ?_)
  · replace h := gz_it' g5 h
    refine gz_iconst (pc := 40) (v := (-1 : Int32)) hX dX7_find_40 (by decide) ?_
    obtain rfl := Option.some.inj h
    exact hk _ _ dX7_find_41
  · replace h := gz_if' g5 h
    refine gz_aload_n (pc := 12) hX dX7_find_12 rfl 0 rfl ?_
    refine gz_iload_n (pc := 13) hX dX7_find_13 rfl 2 rfl ?_
    obtain ⟨g6, h⟩ := gz_gu h
    obtain ⟨⟨r7, m8⟩, c9, h⟩ := gz_bd h
    refine cc_X7_21 (pc := 14) hX (fun _ => g6) c9 ⟨Nat.le_of_ble_eq_true rfl, Nat.le_of_ble_eq_true rfl⟩ (rest := []) rfl (Nat.le_of_ble_eq_true rfl) dX7_find_14 ?_
    obtain ⟨g10, h⟩ := gz_gu h
    refine ck_X7_10 (pc := 19) hX (c := r7) g10 dX7_find_19 ?_
    obtain ⟨g11, h⟩ := gz_gu h
    obtain ⟨r12, er12, h⟩ := gz_lt h
    obtain ⟨g13, h⟩ := gz_gu h
    have kr12 : gz_V cS X G 3 (0, 0) m8 (22 + 3) [(0, .ref (gz_ad G c0)), (1, .ref (gz_ad G c1)), (2, .int x2)] [.ref (gz_ad G r12)] → gz_V cS X G 3 (0, 0) m8 22 [(0, .ref (gz_ad G c0)), (1, .ref (gz_ad G c1)), (2, .int x2)] [.ref (gz_ad G r7)] := fun kk => g11.elim (fun z => cg_X7_9_6 (pc := 22) hX (c := r7) (v := .ref (gz_ad G r12)) (fun _ => z) (fun _ => gz_rq er12 g13) dX7_find_22 kk) (fun z => cg_X7_9_8 (pc := 22) hX (c := r7) (v := .ref (gz_ad G r12)) (fun _ => z) (fun _ => gz_rq er12 g13) dX7_find_22 kk)
    refine kr12 ?_
    refine gz_aload_n (pc := 25) hX dX7_find_25 rfl 1 rfl ?_
    obtain ⟨g14, h⟩ := gz_gu h
    obtain ⟨⟨r15, m16⟩, c17, h⟩ := gz_bd h
    refine cc_X7_25 (pc := 26) hX (fun _ => g14) c17 ⟨Nat.le_of_ble_eq_true rfl, Nat.le_of_ble_eq_true rfl⟩ (rest := []) rfl (Nat.le_of_ble_eq_true rfl) dX7_find_26 ?_
    refine gz_if_eq (pc := 29) (tgt := 34) hX dX7_find_29 (by decide) (fun g18 => ?_) (fun g18 => ?_)
    · replace h := gz_it' g18 h
      obtain ⟨y19, ey19, h⟩ := gz_lt h
      refine gz_iinc (pc := 34) (v := y19) (lw := [(2, .int y19), (0, .ref (gz_ad G c0)), (1, .ref (gz_ad G c1))]) hX dX7_find_34 (k := 2) rfl (by rw [ey19]; rfl) (by decide) rfl ?_
      refine gz_goto (pc := 37) (tgt := 2) hX dX7_find_37 (by decide) ?_
      refine gz_sub (lw := [(0, .ref (gz_ad G c0)), (1, .ref (gz_ad G c1)), (2, .int y19)]) [1, 2, 0] rfl ?_
      obtain rfl := Option.some.inj h
      exact hk
    · replace h := gz_if' g18 h
      refine gz_iload_n (pc := 32) hX dX7_find_32 rfl 2 rfl ?_
      obtain rfl := Option.some.inj h
      exact hk _ _ dX7_find_33
noncomputable def ml_X7_find_2 (c0 : Nat) (c1 : Nat) (x2 : Int32) (m : gM) : Option (Int32 × gM) := gz_loop (fun q : (Int32 × gM) => mb_X7_find_2 c0 c1 q.1 q.2) (x2, m)
theorem wl_X7_find_2 {X : gz_X} {G : gz_G} (hX : gz_C cS X G cX7_find 3 RX7 3 64) {c0 : Nat} {c1 : Nat} {x2 : Int32}  {m : gM} {z : (Int32 × gM)} (h : ml_X7_find_2 c0 c1 x2 m = some z) (hk : (fun z : (Int32 × gM) => gz_kI cS X G 3 (0, 0) cX7_find z.2 z.1) z) : gz_V cS X G 3 (0, 0) m 2 [(0, .ref (gz_ad G c0)), (1, .ref (gz_ad G c1)), (2, .int x2)] [] := by
  have hp : mP_X7_find_2 X G c0 c1 (x2, m) := gz_loop_ind (fun q z hz hkz => wb_X7_find_2 hX  hz hkz) h hk
  exact hp
noncomputable def cf_X7_find (c0 : Nat) (c1 : Nat) (m : gM) : Option (Int32 × gM) :=
  (ml_X7_find_2 c0 c1 (0 : Int32) m)
theorem wm_X7_find {X : gz_X} {G : gz_G} (hX : gz_C cS X G cX7_find 3 RX7 3 64) {c0 : Nat} {c1 : Nat}  {m : gM} {z : (Int32 × gM)} (h : cf_X7_find c0 c1 m = some z) (hk : (fun z : (Int32 × gM) => gz_kI cS X G 3 (0, 0) cX7_find z.2 z.1) z) : gz_V cS X G 3 (0, 0) m 0 [(0, .ref (gz_ad G c0)), (1, .ref (gz_ad G c1))] [] := by
  unfold cf_X7_find at h
  refine gz_iconst (pc := 0) (v := (0 : Int32)) hX dX7_find_0 (by decide) ?_
  refine gz_istore_n (pc := 1) (lw := [(2, .int (0 : Int32)), (0, .ref (gz_ad G c0)), (1, .ref (gz_ad G c1))]) hX dX7_find_1 rfl (by decide) rfl ?_
  refine gz_sub (lw := [(0, .ref (gz_ad G c0)), (1, .ref (gz_ad G c1)), (2, .int (0 : Int32))]) [1, 2, 0] rfl ?_
  exact wl_X7_find_2 hX h hk
theorem ct_X7_find {G : gz_G} {l : Launch} {c0 : Nat} {c1 : Nat}  {m m9 : gM} {r : Int32} (h : cf_X7_find c0 c1 m = some (r, m9)) : gz_Met cS G l yX7_find cX7_find 3 (some .int) (mRm 3 64) [.ref (gz_ad G c0), .ref (gz_ad G c1)] m m9 (some (.int r)) :=
  gz_ofI (by decide +kernel) (Nat.le_of_ble_eq_true rfl) fun X _ hX hk => wm_X7_find hX h hk
theorem cc_X7_31 {X : gz_X} {G : gz_G} {cc : ByteArray} {nL fr lo pc : Nat} {rem : Nat × Nat} {lv : List (Nat × Value)} {rest st0 : List Value} (hX : gz_C cS X G cc nL RX7 fr lo) {c0 : Nat} {m m9 : gM} (hK : clc m.1 m.2.1 m.2.2.2.2.1 → m.1 c0 = 21 + 1)  {r : Int32} (h : cf_J9_length c0 m = some (r, m9)) (hroom : 1 + 1 ≤ fr ∧ 8 + (1 + 11) + 20 ≤ lo) (hst : st0 = [.ref (gz_ad G c0)] ++ rest) (hW : (rest.map fun v => v.category).sum ≤ 8) (hd : decode cc pc = .ok (.invokevirtual 31, 3)) (kk : gz_V cS X G nL rem m9 (pc + 3) lv (.int r :: rest)) : gz_V cS X G nL rem m pc lv st0 :=
  gz_callV2 hX cs_E (As := []) (rest := rest) (q := (RJ9, TJ9, 4)) (ci := 21) (c := c0) (ct_J9_length (l := X.2.1) h) (lw_V q1354 q815 q816 q183 q817) (n := 0) (by decide +kernel) hroom rfl rfl (by decide) hK hst hW hd (rem := rem) kk
theorem cc_X7_34 {X : gz_X} {G : gz_G} {cc : ByteArray} {nL fr lo pc : Nat} {rem : Nat × Nat} {lv : List (Nat × Value)} {rest st0 : List Value} (hX : gz_C cS X G cc nL RX7 fr lo) {c0 : Nat} {x1 : Int32} {m m9 : gM} (hK : clc m.1 m.2.1 m.2.2.2.2.1 → m.1 c0 = 21 + 1)  {r : Int32} (h : cf_J9_charAt c0 x1 m = some (r, m9)) (hroom : 4 + 1 ≤ fr ∧ 8 + (2 + 11) + 85 ≤ lo) (hst : st0 = [.int x1, .ref (gz_ad G c0)] ++ rest) (hW : (rest.map fun v => v.category).sum ≤ 8) (hd : decode cc pc = .ok (.invokevirtual 34, 3)) (kk : gz_V cS X G nL rem m9 (pc + 3) lv (.int r :: rest)) : gz_V cS X G nL rem m pc lv st0 :=
  gz_callV2 hX cs_E (As := [.int x1]) (rest := rest) (q := (RJ9, TJ9, 4)) (ci := 21) (c := c0) (ct_J9_charAt (l := X.2.1) h) (lw_V q1355 q1356 q1357 q183 q1358) (n := 1) (by decide +kernel) hroom rfl rfl (by decide) hK hst hW hd (rem := rem) kk
/-! FirstSnuffer$Named.signAt(I)I -/
noncomputable def cf_X7_signAt (c0 : Nat) (x1 : Int32) (m : gM) : Option (Int32 × gM) :=
  (if gK m c0 = 7 ∨ gK m c0 = 9 then gz_let (gP m c0 0) fun r2 => (if r2 ≠ 0 then (if gK m r2 = 22 then ((cf_J9_length r2 m).bind fun (r5, m6) => (if r5 ≤ x1 then some ((0 : Int32), m6) else (if gK m6 c0 = 7 ∨ gK m6 c0 = 9 then gz_let (gP m6 c0 0) fun r10 => (if r10 ≠ 0 then (if gK m6 r10 = 22 then ((cf_J9_charAt r10 x1 m6).bind fun (r13, m14) => some (((r13 - (97 : Int32)) + (1 : Int32)), m14)) else none) else none) else none))) else none) else none) else none)
theorem wm_X7_signAt {X : gz_X} {G : gz_G} (hX : gz_C cS X G cX7_signAt 2 RX7 5 106) {c0 : Nat} {x1 : Int32}  {m : gM} {z : (Int32 × gM)} (h : cf_X7_signAt c0 x1 m = some z) (hk : (fun z : (Int32 × gM) => gz_kI cS X G 2 (0, 0) cX7_signAt z.2 z.1) z) : gz_V cS X G 2 (0, 0) m 0 [(0, .ref (gz_ad G c0)), (1, .int x1)] [] := by
  unfold cf_X7_signAt at h
  refine gz_iload_n (pc := 0) hX dX7_signAt_0 rfl 1 rfl ?_
  refine gz_aload_n (pc := 1) hX dX7_signAt_1 rfl 0 rfl ?_
  obtain ⟨g1, h⟩ := gz_gu h
  obtain ⟨r2, er2, h⟩ := gz_lt h
  obtain ⟨g3, h⟩ := gz_gu h
  have kr2 : gz_V cS X G 2 (0, 0) m (2 + 3) [(0, .ref (gz_ad G c0)), (1, .int x1)] [.ref (gz_ad G r2), .int x1] → gz_V cS X G 2 (0, 0) m 2 [(0, .ref (gz_ad G c0)), (1, .int x1)] [.ref (gz_ad G c0), .int x1] := fun kk => g1.elim (fun z => cg_X7_9_6 (pc := 2) hX (c := c0) (v := .ref (gz_ad G r2)) (fun _ => z) (fun _ => gz_rq er2 g3) dX7_signAt_2 kk) (fun z => cg_X7_9_8 (pc := 2) hX (c := c0) (v := .ref (gz_ad G r2)) (fun _ => z) (fun _ => gz_rq er2 g3) dX7_signAt_2 kk)
  refine kr2 ?_
  obtain ⟨g4, h⟩ := gz_gu h
  obtain ⟨⟨r5, m6⟩, c7, h⟩ := gz_bd h
  refine cc_X7_31 (pc := 5) hX (fun _ => g4) c7 ⟨Nat.le_of_ble_eq_true rfl, Nat.le_of_ble_eq_true rfl⟩ (rest := [.int x1]) rfl (Nat.le_of_ble_eq_true rfl) dX7_signAt_5 ?_
  refine gz_icmp_ge (pc := 8) (tgt := 27) hX dX7_signAt_8 (by decide) (fun g8 => ?_) (fun g8 => ?_)
  · replace h := gz_it' g8 h
    refine gz_iconst (pc := 27) (v := (0 : Int32)) hX dX7_signAt_27 (by decide) ?_
    obtain rfl := Option.some.inj h
    exact hk _ _ dX7_signAt_28
  · replace h := gz_if' g8 h
    refine gz_aload_n (pc := 11) hX dX7_signAt_11 rfl 0 rfl ?_
    obtain ⟨g9, h⟩ := gz_gu h
    obtain ⟨r10, er10, h⟩ := gz_lt h
    obtain ⟨g11, h⟩ := gz_gu h
    have kr10 : gz_V cS X G 2 (0, 0) m6 (12 + 3) [(0, .ref (gz_ad G c0)), (1, .int x1)] [.ref (gz_ad G r10)] → gz_V cS X G 2 (0, 0) m6 12 [(0, .ref (gz_ad G c0)), (1, .int x1)] [.ref (gz_ad G c0)] := fun kk => g9.elim (fun z => cg_X7_9_6 (pc := 12) hX (c := c0) (v := .ref (gz_ad G r10)) (fun _ => z) (fun _ => gz_rq er10 g11) dX7_signAt_12 kk) (fun z => cg_X7_9_8 (pc := 12) hX (c := c0) (v := .ref (gz_ad G r10)) (fun _ => z) (fun _ => gz_rq er10 g11) dX7_signAt_12 kk)
    refine kr10 ?_
    refine gz_iload_n (pc := 15) hX dX7_signAt_15 rfl 1 rfl ?_
    obtain ⟨g12, h⟩ := gz_gu h
    obtain ⟨⟨r13, m14⟩, c15, h⟩ := gz_bd h
    refine cc_X7_34 (pc := 16) hX (fun _ => g12) c15 ⟨Nat.le_of_ble_eq_true rfl, Nat.le_of_ble_eq_true rfl⟩ (rest := []) rfl (Nat.le_of_ble_eq_true rfl) dX7_signAt_16 ?_
    refine gz_bipush (pc := 19) (v := (97 : Int32)) hX dX7_signAt_19 (by decide) ?_
    refine gz_isub (pc := 21) hX dX7_signAt_21 ?_
    refine gz_iconst (pc := 22) (v := (1 : Int32)) hX dX7_signAt_22 (by decide) ?_
    refine gz_iadd (pc := 23) hX dX7_signAt_23 ?_
    refine gz_goto (pc := 24) (tgt := 28) hX dX7_signAt_24 (by decide) ?_
    obtain rfl := Option.some.inj h
    exact hk _ _ dX7_signAt_28
theorem ct_X7_signAt {G : gz_G} {l : Launch} {c0 : Nat} {x1 : Int32}  {m m9 : gM} {r : Int32} (h : cf_X7_signAt c0 x1 m = some (r, m9)) : gz_Met cS G l yX7_signAt cX7_signAt 2 (some .int) (mRm 5 106) [.ref (gz_ad G c0), .int x1] m m9 (some (.int r)) :=
  gz_ofI (by decide +kernel) (Nat.le_of_ble_eq_true rfl) fun X _ hX hk => wm_X7_signAt hX h hk
theorem cc_X18_1 {X : gz_X} {G : gz_G} {cc : ByteArray} {nL fr lo pc : Nat} {rem : Nat × Nat} {lv : List (Nat × Value)} {rest st0 : List Value} (hX : gz_C cS X G cc nL RX18 fr lo) {c0 : Nat} {m m9 : gM}  (h : cf_X17_init c0 m = some ((), m9)) (hroom : 1 + 1 ≤ fr ∧ 8 + (1 + 11) + 20 ≤ lo) (hst : st0 = [.ref (gz_ad G c0)] ++ rest) (hW : (rest.map fun v => v.category).sum ≤ 8) (hd : decode cc pc = .ok (.invokespecial 1, 3)) (kk : gz_V cS X G nL rem m9 (pc + 3) lv (rest)) : gz_V cS X G nL rem m pc lv st0 :=
  gz_callIN hX cs_E (As := []) (rest := rest) (c := c0) (ct_X17_init (l := X.2.1) h) q1236 (cz_n (Z := cS) hX q1234 rfl) q201 q1235 rfl (n := 0) (by decide +kernel) hroom rfl hst hW hd (rem := rem) kk
theorem cn_X18_7 {X : gz_X} {G : gz_G} {cc : ByteArray} {nL fr lo pc : Nat} {rem : Nat × Nat} {m m9 : gM} {lv : List (Nat × Value)} {st : List Value} (hX : gz_C cS X G cc nL RX18 fr lo) (hz : gZ m ≠ 0) (hd : decode cc pc = .ok (.new 7, 3)) (hm : m9 = gz_al m (20 + 1) 0 3) (kk : gz_V cS X G nL rem m9 (pc + 3) lv (.ref (gz_ad G (gZ m)) :: st)) : gz_V cS X G nL (rem.1 + 1, rem.2 + 3) m pc lv st :=
  gz_new hX (C := RJ2) (T := TJ2) (N := 3) (ci := 20) rfl (by decide) in_J2 tyJ2 tyJ2_ok (by decide +kernel) q1238 q223 q171 hz clc_al hd hm kk
theorem cc_X18_9 {X : gz_X} {G : gz_G} {cc : ByteArray} {nL fr lo pc : Nat} {rem : Nat × Nat} {lv : List (Nat × Value)} {rest st0 : List Value} (hX : gz_C cS X G cc nL RX18 fr lo) {c0 : Nat} {x1 : Int32} {m m9 : gM}  (h : cf_J2_init c0 x1 m = some ((), m9)) (hroom : 3 + 1 ≤ fr ∧ 8 + (2 + 11) + 60 ≤ lo) (hst : st0 = [.int x1, .ref (gz_ad G c0)] ++ rest) (hW : (rest.map fun v => v.category).sum ≤ 8) (hd : decode cc pc = .ok (.invokespecial 9, 3)) (kk : gz_V cS X G nL rem m9 (pc + 3) lv (rest)) : gz_V cS X G nL (rem.1 + (gZ m9 - gZ m), rem.2 + (gW m9 - gW m)) m pc lv st0 :=
  gz_callI hX cs_E (As := [.int x1]) (rest := rest) (c := c0) (ct_J2_init (l := X.2.1) h) q226 q171 q1239 q225 rfl (n := 1) (by decide +kernel) hroom rfl hst hW hd (rem := rem) kk
theorem cp_X18_12_15 {X : gz_X} {G : gz_G} {cc : ByteArray} {nL fr lo pc : Nat} {rem : Nat × Nat} {m m9 : gM} {lv : List (Nat × Value)} {st : List Value} (hX : gz_C cS X G cc nL RX18 fr lo) (hn0 : X.2.2.2.2.2.2.2.2.1.name = "<init>") {c : Nat} {r : Nat} (hK : clc m.1 m.2.1 m.2.2.2.2.1 → m.1 c = 15 + 1) (hw : 1000 ≤ c) (hs : sr c 0 = 0 ∧ r ≠ 0) (hd : decode cc pc = .ok (.putfield 12, 3)) (hm : m9 = gz_sP m c 0 r) (kk : gz_V cS X G nL rem m9 (pc + 3) lv st) : gz_V cS X G nL rem m pc lv (.ref (gz_ad G r) :: .ref (gz_ad G c) :: st) := by
  subst hm
  exact gz_putff hX (C := RX18) (T := TX18) (N := 2) (ci := 15) (k := 0) (μ' := gz_sP m c 0 r) (v := .ref (gz_ad G r)) rfl (by decide) in_X18 tyX18 tyX18_ok nmX18 (by decide) (hX.2.2.2.2.1 _ q1240) (fun _ h => h) rfl hn0 rfl rfl rfl rfl hd hK hw rfl rfl rfl (fun d tc j h => gz_sP_o d tc j h) (by intro j; rw [← gz_rfp hs.2]; exact gz_sP_v (fun j => ftC 15 j) rfl j) (clc_sP hs.1) kk
theorem cp_X18_18_15 {X : gz_X} {G : gz_G} {cc : ByteArray} {nL fr lo pc : Nat} {rem : Nat × Nat} {m m9 : gM} {lv : List (Nat × Value)} {st : List Value} (hX : gz_C cS X G cc nL RX18 fr lo) (hn0 : X.2.2.2.2.2.2.2.2.1.name = "<init>") {c : Nat} {x : Int32} (hK : clc m.1 m.2.1 m.2.2.2.2.1 → m.1 c = 15 + 1) (hw : 1000 ≤ c) (hz : x = 0 ∨ x = 1) (hd : decode cc pc = .ok (.putfield 18, 3)) (hm : m9 = gz_sI m c 1 x) (kk : gz_V cS X G nL rem m9 (pc + 3) lv st) : gz_V cS X G nL rem m pc lv (.int x :: .ref (gz_ad G c) :: st) := by
  subst hm
  exact gz_putff hX (C := RX18) (T := TX18) (N := 2) (ci := 15) (k := 1) (ty := .boolean) (μ' := gz_sI m c 1 x) rfl (by decide) in_X18 tyX18 tyX18_ok nmX18 (by decide) (hX.2.2.2.2.1 _ q1242) (fun _ h => h) rfl hn0 rfl rfl (by rcases hz with h | h <;> rw [h] <;> rfl) (by rcases hz with h | h <;> rw [h] <;> rfl) hd hK hw rfl rfl rfl (fun d tc j h => gz_sI_o d tc j h) (gz_sI_v (fun j => ftC 15 j) rfl) (fun h => h) kk
/-! FirstSnuffer$Facts.<init>(Z)V -/
noncomputable def cf_X18_init (c0 : Nat) (x1 : Int32) (m : gM) : Option (Unit × gM) :=
  ((cf_X17_init c0 m).bind fun (_, m2) => (if m2.2.2.2.2.2 = m.2.2.2.2.2 then (if gZ m2 ≠ 0 then gz_let (gz_al m2 (20 + 1) 0 3) fun m6 => ((cf_J2_init (gZ m2) (2 : Int32) m6).bind fun (_, m8) => (if gZ m6 ≤ gZ m8 ∧ gW m6 ≤ gW m8 then (if gK m8 c0 = 16 then (if 1000 ≤ c0 then (if sr c0 0 = 0 ∧ (gZ m2) ≠ 0 then gz_let (gz_sP m8 c0 0 (gZ m2)) fun m14 => (if gK m14 c0 = 16 then (if x1 = 0 ∨ x1 = 1 then (if 1000 ≤ c0 then gz_let (gz_sI m14 c0 1 x1) fun m18 => some ((), m18) else none) else none) else none) else none) else none) else none) else none)) else none) else none))
theorem wm_X18_init {X : gz_X} {G : gz_G} {zE : Nat × Nat} (hX : gz_C cS X G cX18_init 2 RX18 4 81) (hn0 : X.2.2.2.2.2.2.2.2.1.name = "<init>") {c0 : Nat} {x1 : Int32}  {m : gM} {z : (Unit × gM)} (h : cf_X18_init c0 x1 m = some z) (hk : (fun z : (Unit × gM) => gz_kVa cS X G 2 zE cX18_init z.2) z) : gz_Va cS X G 2 zE m 0 [(0, .ref (gz_ad G c0)), (1, .int x1)] [] := by
  unfold cf_X18_init at h
  refine gz_Vs (fun _ kk => gz_aload_n (pc := 0) hX dX18_init_0 rfl 0 rfl kk) rfl ?_
  obtain ⟨⟨⟨⟩, m2⟩, c3, h⟩ := gz_bd h
  obtain ⟨g4, h⟩ := gz_gu h
  refine gz_Vs (fun _ kk => cc_X18_1 (pc := 1) hX c3 ⟨Nat.le_of_ble_eq_true rfl, Nat.le_of_ble_eq_true rfl⟩ (rest := []) rfl (Nat.le_of_ble_eq_true rfl) dX18_init_1 kk) g4 ?_
  refine gz_Vs (fun _ kk => gz_aload_n (pc := 4) hX dX18_init_4 rfl 0 rfl kk) rfl ?_
  obtain ⟨g5, h⟩ := gz_gu h
  obtain ⟨m6, em6, h⟩ := gz_lt h
  refine gz_Vn (fun _ kk => cn_X18_7 (pc := 5) hX g5 dX18_init_5 em6 kk) em6 ?_
  refine gz_Vs (fun _ kk => gz_dup (pc := 8) hX dX18_init_8 rfl kk) rfl ?_
  refine gz_Vs (fun _ kk => gz_iconst (pc := 9) (v := (2 : Int32)) hX dX18_init_9 (by decide) kk) rfl ?_
  obtain ⟨⟨⟨⟩, m8⟩, c9, h⟩ := gz_bd h
  obtain ⟨g10, h⟩ := gz_gu h
  refine gz_Vc (k := gZ m8 - gZ m6) (n := gW m8 - gW m6) (fun _ kk => cc_X18_9 (pc := 10) hX c9 ⟨Nat.le_of_ble_eq_true rfl, Nat.le_of_ble_eq_true rfl⟩ (rest := [.ref (gz_ad G (gZ m2)), .ref (gz_ad G c0)]) rfl (Nat.le_of_ble_eq_true rfl) dX18_init_10 kk) ⟨by have := g10.1; dsimp only [gZ] at *; omega, by have := g10.2; dsimp only [gW] at *; omega⟩ ?_
  obtain ⟨g11, h⟩ := gz_gu h
  obtain ⟨g12, h⟩ := gz_gu h
  obtain ⟨g13, h⟩ := gz_gu h
  obtain ⟨m14, em14, h⟩ := gz_lt h
  refine gz_Vs (fun _ kk => cp_X18_12_15 (pc := 13) hX hn0 (c := c0) (fun _ => g11) g12 g13 dX18_init_13 em14 kk) (by rw [em14]; rfl) ?_
  refine gz_Vs (fun _ kk => gz_aload_n (pc := 16) hX dX18_init_16 rfl 0 rfl kk) rfl ?_
  refine gz_Vs (fun _ kk => gz_iload_n (pc := 17) hX dX18_init_17 rfl 1 rfl kk) rfl ?_
  obtain ⟨g15, h⟩ := gz_gu h
  obtain ⟨g16, h⟩ := gz_gu h
  obtain ⟨g17, h⟩ := gz_gu h
  obtain ⟨m18, em18, h⟩ := gz_lt h
  refine gz_Vs (fun _ kk => cp_X18_18_15 (pc := 18) hX hn0 (c := c0) (fun _ => g15) g17 g16 dX18_init_18 em18 kk) (by rw [em18]; rfl) ?_
  obtain rfl := Option.some.inj h
  exact hk _ _ dX18_init_21
theorem ct_X18_init {G : gz_G} {l : Launch} {c0 : Nat} {x1 : Int32}  {m m9 : gM} (h : cf_X18_init c0 x1 m = some ((), m9)) : gz_Met cS G l yX18_init cX18_init 2 none (mRc 4 81 (gZ m9 - gZ m) (gW m9 - gW m)) [.ref (gz_ad G c0), .int x1] m m9 none :=
  gz_ofVc (by decide +kernel) (Nat.le_of_ble_eq_true rfl) fun X _ hn hX hk => (wm_X18_init (zE := m9.2.2.2.2.2) hX hn h (fun pc lv hd => gz_Ve (hk pc lv hd))).2
theorem cg_X18_12_15 {X : gz_X} {G : gz_G} {cc : ByteArray} {nL fr lo pc : Nat} {rem : Nat × Nat} {m : gM} {lv : List (Nat × Value)} {st : List Value} (hX : gz_C cS X G cc nL RX18 fr lo) {c : Nat} {v : Value} (hK : clc m.1 m.2.1 m.2.2.2.2.1 → m.1 c = 15 + 1) (hv : clc m.1 m.2.1 m.2.2.2.2.1 → gz_u (gz_ad G) m (ftC 15 0) c 0 = v) (hd : decode cc pc = .ok (.getfield 12, 3)) (kk : gz_V cS X G nL rem m (pc + 3) lv (v :: st)) : gz_V cS X G nL rem m pc lv (.ref (gz_ad G c) :: st) :=
  gz_getf hX (C := RX18) (T := TX18) (N := 2) (ci := 15) (k := 0) rfl (by decide) in_X18 (by decide) (Or.inl (hX.2.2.2.2.1 _ q1240)) hd hK hv kk
theorem cc_X18_22 {X : gz_X} {G : gz_G} {cc : ByteArray} {nL fr lo pc : Nat} {rem : Nat × Nat} {lv : List (Nat × Value)} {rest st0 : List Value} (hX : gz_C cS X G cc nL RX18 fr lo) {c0 : Nat} {m m9 : gM} (hK : clc m.1 m.2.1 m.2.2.2.2.1 → m.1 c0 = 20 + 1)  {r : Int32} (h : cf_J2_size c0 m = some (r, m9)) (hroom : 0 + 1 ≤ fr ∧ 8 + (1 + 11) + 0 ≤ lo) (hst : st0 = [.ref (gz_ad G c0)] ++ rest) (hW : (rest.map fun v => v.category).sum ≤ 8) (hd : decode cc pc = .ok (.invokeinterface 22 1, 5)) (kk : gz_V cS X G nL rem m9 (pc + 5) lv (.int r :: rest)) : gz_V cS X G nL rem m pc lv st0 :=
  gz_callF hX cs_E (x := cLs) (As := []) (rest := rest) (q := (RJ2, TJ2, 3)) (ci := 20) (c := c0) (ct_J2_size (l := X.2.1) h) (va_cwF 0 hX.2.2.2.2.1 (lw_app (by intro w hw; simp only [List.mem_cons, List.not_mem_nil, or_false] at hw; rcases hw with e | e | e | e <;> rw [e] <;> first | exact q1397 | exact q468 | exact q470 | exact q171) (lw_meth q472)) rfl rfl rfl hX.2.2.2.2.2.1.2.2.2.1 (by decide +kernel) ⟨Nat.le_trans hroom.1 hX.2.2.2.2.2.2.1, Nat.le_trans hroom.2 hX.2.2.2.2.2.2.2⟩) rfl rfl (by decide) hK hst hW hd (rem := rem) kk
theorem cg_X18_18_15 {X : gz_X} {G : gz_G} {cc : ByteArray} {nL fr lo pc : Nat} {rem : Nat × Nat} {m : gM} {lv : List (Nat × Value)} {st : List Value} (hX : gz_C cS X G cc nL RX18 fr lo) {c : Nat} {v : Value} (hK : clc m.1 m.2.1 m.2.2.2.2.1 → m.1 c = 15 + 1) (hv : clc m.1 m.2.1 m.2.2.2.2.1 → gz_u (gz_ad G) m (ftC 15 1) c 1 = v) (hd : decode cc pc = .ok (.getfield 18, 3)) (kk : gz_V cS X G nL rem m (pc + 3) lv (v :: st)) : gz_V cS X G nL rem m pc lv (.ref (gz_ad G c) :: st) :=
  gz_getf hX (C := RX18) (T := TX18) (N := 2) (ci := 15) (k := 1) rfl (by decide) in_X18 (by decide) (Or.inl (hX.2.2.2.2.1 _ q1242)) hd hK hv kk
theorem cc_X18_28 {X : gz_X} {G : gz_G} {cc : ByteArray} {nL fr lo pc : Nat} {rem : Nat × Nat} {lv : List (Nat × Value)} {rest st0 : List Value} (hX : gz_C cS X G cc nL RX18 fr lo) {c0 : Nat} {x1 : Int32} {m m9 : gM} (hK : clc m.1 m.2.1 m.2.2.2.2.1 → m.1 c0 = 20 + 1)  {r : Nat} (h : cf_J2_get c0 x1 m = some (r, m9)) (hroom : 2 + 1 ≤ fr ∧ 8 + (2 + 11) + 43 ≤ lo) (hst : st0 = [.int x1, .ref (gz_ad G c0)] ++ rest) (hW : (rest.map fun v => v.category).sum ≤ 8) (hd : decode cc pc = .ok (.invokeinterface 28 2, 5)) (kk : gz_V cS X G nL rem m9 (pc + 5) lv (.ref (gz_ad G r) :: rest)) : gz_V cS X G nL rem m pc lv st0 :=
  gz_callF hX cs_E (x := cLg) (As := [.int x1]) (rest := rest) (q := (RJ2, TJ2, 3)) (ci := 20) (c := c0) (ct_J2_get (l := X.2.1) h) (va_cwF 1 hX.2.2.2.2.1 (lw_app (by intro w hw; simp only [List.mem_cons, List.not_mem_nil, or_false] at hw; rcases hw with e | e | e | e <;> rw [e] <;> first | exact q1399 | exact q477 | exact q479 | exact q171) (lw_meth q481)) rfl rfl rfl hX.2.2.2.2.2.1.2.2.2.2.1 (by decide +kernel) ⟨Nat.le_trans hroom.1 hX.2.2.2.2.2.2.1, Nat.le_trans hroom.2 hX.2.2.2.2.2.2.2⟩) rfl rfl (by decide) hK hst hW hd (rem := rem) kk
theorem ck_X18_2 {X : gz_X} {G : gz_G} {cc : ByteArray} {nL fr lo pc : Nat} {rem : Nat × Nat} {m : gM} {lv : List (Nat × Value)} {st : List Value} (hX : gz_C cS X G cc nL RX18 fr lo) {c : Nat} (hK : m.1 c = 18 ∨ m.1 c = 19 ∨ m.1 c = 17 ∨ m.1 c = 16) (hd : decode cc pc = .ok (.checkcast 2, 3)) (kk : gz_V cS X G nL rem m (pc + 3) lv (.ref (gz_ad G c) :: st)) : gz_V cS X G nL rem m pc lv (.ref (gz_ad G c) :: st) := by
  intro H locs ls cs hR hC hA hl
  rcases hK with z | z | z | z
  · obtain ⟨cell, q1, q2, q3⟩ := gz_recv (X := X) hX.2.2.2.2.2.1 hR (ci := 17) (c := c) (q := (RX20, TX20, 0)) rfl (by decide) z
    exact va_castY hX.1 hX.2.1 (C := RX20) hX.2.2.2.1 (hX.2.2.2.2.1 _ q1400) (cz_n (Z := cS) hX q2663 rfl) ⟨cell, q1, q2, q3⟩ hd (kk H locs ls cs hR hC hA hl)
  · obtain ⟨cell, q1, q2, q3⟩ := gz_recv (X := X) hX.2.2.2.2.2.1 hR (ci := 18) (c := c) (q := (RX21, TX21, 3)) rfl (by decide) z
    exact va_castY hX.1 hX.2.1 (C := RX21) hX.2.2.2.1 (hX.2.2.2.2.1 _ q1400) (cz_n (Z := cS) hX q2666 rfl) ⟨cell, q1, q2, q3⟩ hd (kk H locs ls cs hR hC hA hl)
  · obtain ⟨cell, q1, q2, q3⟩ := gz_recv (X := X) hX.2.2.2.2.2.1 hR (ci := 16) (c := c) (q := (RX19, TX19, 1)) rfl (by decide) z
    exact va_castY hX.1 hX.2.1 (C := RX19) hX.2.2.2.1 (hX.2.2.2.2.1 _ q1400) (cz_n (Z := cS) hX q2665 rfl) ⟨cell, q1, q2, q3⟩ hd (kk H locs ls cs hR hC hA hl)
  · obtain ⟨cell, q1, q2, q3⟩ := gz_recv (X := X) hX.2.2.2.2.2.1 hR (ci := 15) (c := c) (q := (RX18, TX18, 2)) rfl (by decide) z
    exact va_castY hX.1 hX.2.1 (C := RX18) hX.2.2.2.1 (hX.2.2.2.2.1 _ q1400) (cz_n (Z := cS) hX q2664 rfl) ⟨cell, q1, q2, q3⟩ hd (kk H locs ls cs hR hC hA hl)
theorem cd_X18_32 {X : gz_X} {G : gz_G} {cc : ByteArray} {nL fr lo pc f n : Nat} {lv : List (Nat × Value)} {rest st0 : List Value} (hX : gz_C cS X G cc nL RX18 fr lo) {oA : Nat → Nat → gM → Option (Int64 × gM)} {oT : Nat → Nat → gM → Option (Int32 × gM)} {v mo : Nat} {m m9 : gM} {r : Int32} (hO : cO G X.2.1 f n oA oT) (h : oT v mo m = some (r, m9)) (hroom : f + 1 ≤ fr ∧ n + 40 ≤ lo) (hst : st0 = [.ref (gz_ad G mo), .ref (gz_ad G v)] ++ rest) (hW : (rest.map fun v => v.category).sum ≤ 8) (hd : decode cc pc = .ok (.invokevirtual 32, 3)) (kk : gz_V cS X G nL (0, 0) m9 (pc + 3) lv (.int r :: rest)) : gz_V cS X G nL (0, 0) m pc lv st0 := by
  rcases hO.2 v mo m r m9 h with ⟨hk, hM⟩ | ⟨hk, hM⟩ | ⟨hk, hM⟩ | ⟨hk, hM⟩
  · exact gz_callU hX cs_E (x := ⟨"FirstSnuffer$Test", "holds", "(LFirstSnuffer$Moment;)Z"⟩) (owner := "FirstSnuffer$Test") (As := [.ref (gz_ad G mo)]) (rest := rest) (q := (RX20, TX20, 0)) (ci := 17) (c := v) hM (va_cwA 1 hX.2.2.2.2.1 (lw_app (by intro w hw; simp only [List.mem_cons, List.not_mem_nil, or_false] at hw; rcases hw with e | e | e | e | e <;> rw [e] <;> first | exact q1401 | exact q1389 | exact q1390 | exact q1391 | exact q204) (lw_meth q1392)) rfl rfl rfl (cz_n (Z := cS) hX q1388 rfl) (by decide +kernel) ⟨Nat.le_trans hroom.1 hX.2.2.2.2.2.2.1, by have := hX.2.2.2.2.2.2.2; have h1 := hroom.2; show 8 + (2 + 11) + n ≤ _; omega⟩) rfl rfl (by decide) (fun _ => hk) hst hW hd (rem := (0, 0)) kk
  · exact gz_callU hX cs_E (x := ⟨"FirstSnuffer$Test", "holds", "(LFirstSnuffer$Moment;)Z"⟩) (owner := "FirstSnuffer$Test") (As := [.ref (gz_ad G mo)]) (rest := rest) (q := (RX21, TX21, 3)) (ci := 18) (c := v) hM (va_cwA 1 hX.2.2.2.2.1 (lw_app (by intro w hw; simp only [List.mem_cons, List.not_mem_nil, or_false] at hw; rcases hw with e | e | e | e | e <;> rw [e] <;> first | exact q1401 | exact q1389 | exact q1483 | exact q1405 | exact q205) (lw_meth q1406)) rfl rfl rfl (cz_n (Z := cS) hX q1388 rfl) (by decide +kernel) ⟨Nat.le_trans hroom.1 hX.2.2.2.2.2.2.1, by have := hX.2.2.2.2.2.2.2; have h1 := hroom.2; show 8 + (6 + 11) + n ≤ _; omega⟩) rfl rfl (by decide) (fun _ => hk) hst hW hd (rem := (0, 0)) kk
  · exact gz_callU hX cs_E (x := ⟨"FirstSnuffer$Test", "holds", "(LFirstSnuffer$Moment;)Z"⟩) (owner := "FirstSnuffer$Test") (As := [.ref (gz_ad G mo)]) (rest := rest) (q := (RX19, TX19, 1)) (ci := 16) (c := v) hM (va_cwA 1 hX.2.2.2.2.1 (lw_app (by intro w hw; simp only [List.mem_cons, List.not_mem_nil, or_false] at hw; rcases hw with e | e | e | e | e <;> rw [e] <;> first | exact q1401 | exact q1389 | exact q1482 | exact q1402 | exact q203) (lw_meth q1403)) rfl rfl rfl (cz_n (Z := cS) hX q1388 rfl) (by decide +kernel) ⟨Nat.le_trans hroom.1 hX.2.2.2.2.2.2.1, by have := hX.2.2.2.2.2.2.2; have h1 := hroom.2; show 8 + (2 + 11) + n ≤ _; omega⟩) rfl rfl (by decide) (fun _ => hk) hst hW hd (rem := (0, 0)) kk
  · exact gz_callU hX cs_E (x := ⟨"FirstSnuffer$Test", "holds", "(LFirstSnuffer$Moment;)Z"⟩) (owner := "FirstSnuffer$Test") (As := [.ref (gz_ad G mo)]) (rest := rest) (q := (RX18, TX18, 2)) (ci := 15) (c := v) hM (va_cwA 1 hX.2.2.2.2.1 (lw_app (by intro w hw; simp only [List.mem_cons, List.not_mem_nil, or_false] at hw; rcases hw with e | e | e | e | e <;> rw [e] <;> first | exact q1401 | exact q1389 | exact q1393 | exact q1394 | exact q202) (lw_meth q1395)) rfl rfl rfl (cz_n (Z := cS) hX q1388 rfl) (by decide +kernel) ⟨Nat.le_trans hroom.1 hX.2.2.2.2.2.2.1, by have := hX.2.2.2.2.2.2.2; have h1 := hroom.2; show 8 + (3 + 11) + n ≤ _; omega⟩) rfl rfl (by decide) (fun _ => hk) hst hW hd (rem := (0, 0)) kk
/-! FirstSnuffer$Facts.holds(LFirstSnuffer$Moment;)Z -/
def mP_X18_holds_2 (X : gz_X) (G : gz_G) (c0 : Nat) (c1 : Nat) (q : (Int32 × gM)) : Prop := gz_V cS X G 3 (0, 0) q.2 2 [(0, .ref (gz_ad G c0)), (1, .ref (gz_ad G c1)), (2, .int q.1)] []
noncomputable def mb_X18_holds_2 (oA : Nat → Nat → gM → Option (Int64 × gM)) (oT : Nat → Nat → gM → Option (Int32 × gM)) (c0 : Nat) (c1 : Nat) (x2 : Int32) (m : gM) : Option ((Int32 × gM) ⊕ (Int32 × gM)) :=
  (if gK m c0 = 16 then gz_let (gP m c0 0) fun r2 => (if r2 ≠ 0 then (if gK m r2 = 21 then ((cf_J2_size r2 m).bind fun (r5, m6) => (if r5 ≤ x2 then (if gK m6 c0 = 16 then (if (gI m6 c0 1) = 0 ∨ (gI m6 c0 1) = 1 then some (Sum.inr ((gI m6 c0 1), m6)) else none) else none) else (if gK m6 c0 = 16 then gz_let (gP m6 c0 0) fun r12 => (if r12 ≠ 0 then (if gK m6 r12 = 21 then ((cf_J2_get r12 x2 m6).bind fun (r15, m16) => (if gK m16 r15 = 18 ∨ gK m16 r15 = 19 ∨ gK m16 r15 = 17 ∨ gK m16 r15 = 16 then ((oT r15 c1 m16).bind fun (r19, m20) => (if gK m20 c0 = 16 then (if r19 = (gI m20 c0 1) then gz_let (x2 + (1 : Int32)) fun y24 => some (Sum.inl (y24, m20)) else (if gK m20 c0 = 16 then (if (gI m20 c0 1) = (0 : Int32) then some (Sum.inr ((1 : Int32), m20)) else some (Sum.inr ((0 : Int32), m20))) else none)) else none)) else none)) else none) else none) else none))) else none) else none) else none)
theorem wb_X18_holds_2 {X : gz_X} {G : gz_G} {oA : Nat → Nat → gM → Option (Int64 × gM)} {oT : Nat → Nat → gM → Option (Int32 × gM)} {f n : Nat} (hX : gz_C cS X G cX18_holds 3 RX18 (f + 1) (n + 40)) (h1 : 20 ≤ f) (h2 : 300 ≤ n) (hO : cO G X.2.1 f n oA oT) {c0 : Nat} {c1 : Nat} {x2 : Int32}  {m : gM} {z : ((Int32 × gM) ⊕ (Int32 × gM))} (h : mb_X18_holds_2 oA oT c0 c1 x2 m = some z) (hk : (Sum.elim (mP_X18_holds_2 X G c0 c1) (fun z : (Int32 × gM) => gz_kZ cS X G 3 (0, 0) cX18_holds z.2 z.1)) z) : gz_V cS X G 3 (0, 0) m 2 [(0, .ref (gz_ad G c0)), (1, .ref (gz_ad G c1)), (2, .int x2)] [] := by
  unfold mb_X18_holds_2 at h
  refine gz_iload_n (pc := 2) hX dX18_holds_2 rfl 2 rfl ?_
  refine gz_aload_n (pc := 3) hX dX18_holds_3 rfl 0 rfl ?_
  obtain ⟨g1, h⟩ := gz_gu h
  obtain ⟨r2, er2, h⟩ := gz_lt h
  obtain ⟨g3, h⟩ := gz_gu h
  refine cg_X18_12_15 (pc := 4) hX (c := c0) (v := .ref (gz_ad G r2)) (fun _ => g1) (fun _ => gz_rq er2 g3) dX18_holds_4 ?_
  obtain ⟨g4, h⟩ := gz_gu h
  obtain ⟨⟨r5, m6⟩, c7, h⟩ := gz_bd h
  refine cc_X18_22 (pc := 7) hX (fun _ => g4) c7 ⟨by omega, by omega⟩ (rest := [.int x2]) rfl (Nat.le_of_ble_eq_true rfl) dX18_holds_7 ?_
  refine gz_icmp_ge (pc := 12) (tgt := 58) hX dX18_holds_12 (by decide) (fun g8 => ?_) (fun g8 => ?_)
  · replace h := gz_it' g8 h
    refine gz_aload_n (pc := 58) hX dX18_holds_58 rfl 0 rfl ?_
    obtain ⟨g9, h⟩ := gz_gu h
    refine cg_X18_18_15 (pc := 59) hX (c := c0) (v := .int (gI m6 c0 1)) (fun _ => g9) (fun _ => rfl) dX18_holds_59 ?_
    obtain ⟨g10, h⟩ := gz_gu h
    obtain rfl := Option.some.inj h
    exact hk _ _ dX18_holds_62 g10
  · replace h := gz_if' g8 h
    refine gz_aload_n (pc := 15) hX dX18_holds_15 rfl 0 rfl ?_
    obtain ⟨g11, h⟩ := gz_gu h
    obtain ⟨r12, er12, h⟩ := gz_lt h
    obtain ⟨g13, h⟩ := gz_gu h
    refine cg_X18_12_15 (pc := 16) hX (c := c0) (v := .ref (gz_ad G r12)) (fun _ => g11) (fun _ => gz_rq er12 g13) dX18_holds_16 ?_
    refine gz_iload_n (pc := 19) hX dX18_holds_19 rfl 2 rfl ?_
    obtain ⟨g14, h⟩ := gz_gu h
    obtain ⟨⟨r15, m16⟩, c17, h⟩ := gz_bd h
    refine cc_X18_28 (pc := 20) hX (fun _ => g14) c17 ⟨by omega, by omega⟩ (rest := []) rfl (Nat.le_of_ble_eq_true rfl) dX18_holds_20 ?_
    obtain ⟨g18, h⟩ := gz_gu h
    refine ck_X18_2 (pc := 25) hX (c := r15) g18 dX18_holds_25 ?_
    refine gz_aload_n (pc := 28) hX dX18_holds_28 rfl 1 rfl ?_
    obtain ⟨⟨r19, m20⟩, c21, h⟩ := gz_bd h
    refine cd_X18_32 (pc := 29) hX hO c21 ⟨by omega, by omega⟩ (rest := []) rfl (Nat.le_of_ble_eq_true rfl) dX18_holds_29 ?_
    refine gz_aload_n (pc := 32) hX dX18_holds_32 rfl 0 rfl ?_
    obtain ⟨g22, h⟩ := gz_gu h
    refine cg_X18_18_15 (pc := 33) hX (c := c0) (v := .int (gI m20 c0 1)) (fun _ => g22) (fun _ => rfl) dX18_holds_33 ?_
    refine gz_icmp_eq (pc := 36) (tgt := 52) hX dX18_holds_36 (by decide) (fun g23 => ?_) (fun g23 => ?_)
    · replace h := gz_it' g23 h
      obtain ⟨y24, ey24, h⟩ := gz_lt h
      refine gz_iinc (pc := 52) (v := y24) (lw := [(2, .int y24), (0, .ref (gz_ad G c0)), (1, .ref (gz_ad G c1))]) hX dX18_holds_52 (k := 2) rfl (by rw [ey24]; rfl) (by decide) rfl ?_
      refine gz_goto (pc := 55) (tgt := 2) hX dX18_holds_55 (by decide) ?_
      refine gz_sub (lw := [(0, .ref (gz_ad G c0)), (1, .ref (gz_ad G c1)), (2, .int y24)]) [1, 2, 0] rfl ?_
      obtain rfl := Option.some.inj h
      exact hk
    · replace h := gz_if' g23 h
      refine gz_aload_n (pc := 39) hX dX18_holds_39 rfl 0 rfl ?_
      obtain ⟨g25, h⟩ := gz_gu h
      refine cg_X18_18_15 (pc := 40) hX (c := c0) (v := .int (gI m20 c0 1)) (fun _ => g25) (fun _ => rfl) dX18_holds_40 ?_
      refine gz_if_ne (pc := 43) (tgt := 50) hX dX18_holds_43 (by decide) (fun g26 => ?_) (fun g26 => ?_)
      · replace h := gz_if' g26 h
        refine gz_iconst (pc := 50) (v := (0 : Int32)) hX dX18_holds_50 (by decide) ?_
        obtain rfl := Option.some.inj h
        exact hk _ _ dX18_holds_51 (Or.inl rfl)
      · replace h := gz_it' g26 h
        refine gz_iconst (pc := 46) (v := (1 : Int32)) hX dX18_holds_46 (by decide) ?_
        refine gz_goto (pc := 47) (tgt := 51) hX dX18_holds_47 (by decide) ?_
        obtain rfl := Option.some.inj h
        exact hk _ _ dX18_holds_51 (Or.inr rfl)
noncomputable def ml_X18_holds_2 (oA : Nat → Nat → gM → Option (Int64 × gM)) (oT : Nat → Nat → gM → Option (Int32 × gM)) (c0 : Nat) (c1 : Nat) (x2 : Int32) (m : gM) : Option (Int32 × gM) := gz_loop (fun q : (Int32 × gM) => mb_X18_holds_2 oA oT c0 c1 q.1 q.2) (x2, m)
theorem wl_X18_holds_2 {X : gz_X} {G : gz_G} {oA : Nat → Nat → gM → Option (Int64 × gM)} {oT : Nat → Nat → gM → Option (Int32 × gM)} {f n : Nat} (hX : gz_C cS X G cX18_holds 3 RX18 (f + 1) (n + 40)) (h1 : 20 ≤ f) (h2 : 300 ≤ n) (hO : cO G X.2.1 f n oA oT) {c0 : Nat} {c1 : Nat} {x2 : Int32}  {m : gM} {z : (Int32 × gM)} (h : ml_X18_holds_2 oA oT c0 c1 x2 m = some z) (hk : (fun z : (Int32 × gM) => gz_kZ cS X G 3 (0, 0) cX18_holds z.2 z.1) z) : gz_V cS X G 3 (0, 0) m 2 [(0, .ref (gz_ad G c0)), (1, .ref (gz_ad G c1)), (2, .int x2)] [] := by
  have hp : mP_X18_holds_2 X G c0 c1 (x2, m) := gz_loop_ind (fun q z hz hkz => wb_X18_holds_2 hX h1 h2 hO  hz hkz) h hk
  exact hp
noncomputable def cf_X18_holds (oA : Nat → Nat → gM → Option (Int64 × gM)) (oT : Nat → Nat → gM → Option (Int32 × gM)) (c0 : Nat) (c1 : Nat) (m : gM) : Option (Int32 × gM) :=
  (ml_X18_holds_2 oA oT c0 c1 (0 : Int32) m)
theorem wm_X18_holds {X : gz_X} {G : gz_G} {oA : Nat → Nat → gM → Option (Int64 × gM)} {oT : Nat → Nat → gM → Option (Int32 × gM)} {f n : Nat} (hX : gz_C cS X G cX18_holds 3 RX18 (f + 1) (n + 40)) (h1 : 20 ≤ f) (h2 : 300 ≤ n) (hO : cO G X.2.1 f n oA oT) {c0 : Nat} {c1 : Nat}  {m : gM} {z : (Int32 × gM)} (h : cf_X18_holds oA oT c0 c1 m = some z) (hk : (fun z : (Int32 × gM) => gz_kZ cS X G 3 (0, 0) cX18_holds z.2 z.1) z) : gz_V cS X G 3 (0, 0) m 0 [(0, .ref (gz_ad G c0)), (1, .ref (gz_ad G c1))] [] := by
  unfold cf_X18_holds at h
  refine gz_iconst (pc := 0) (v := (0 : Int32)) hX dX18_holds_0 (by decide) ?_
  refine gz_istore_n (pc := 1) (lw := [(2, .int (0 : Int32)), (0, .ref (gz_ad G c0)), (1, .ref (gz_ad G c1))]) hX dX18_holds_1 rfl (by decide) rfl ?_
  refine gz_sub (lw := [(0, .ref (gz_ad G c0)), (1, .ref (gz_ad G c1)), (2, .int (0 : Int32))]) [1, 2, 0] rfl ?_
  exact wl_X18_holds_2 hX h1 h2 hO h hk
/-! java/lang/StringUTF16.compress([BI[BII)I -/
def mP_J10_compress_3_10 (X : gz_X) (G : gz_G) (c0 : Nat) (c2 : Nat) (q : (Int32 × Int32 × Int32 × Int32 × gM)) : Prop := gz_V cS X G 7 (0, 0) q.2.2.2.2 10 [(0, .ref (gz_ad G c0)), (1, .int q.1), (2, .ref (gz_ad G c2)), (3, .int q.2.1), (4, .int q.2.2.1), (5, .int q.2.2.2.1)] []
noncomputable def mb_J10_compress_3_10 (c0 : Nat) (x1 : Int32) (c2 : Nat) (x3 : Int32) (x4 : Int32) (x5 : Int32) (m : gM) : Option ((Int32 × Int32 × Int32 × Int32 × gM) ⊕ (Int32 × gM)) :=
  (if x4 ≤ x5 then some (Sum.inr (x4, m)) else ((cf_J10_getChar c0 x1 m).bind fun (r2, m3) => (if r2 ≤ (255 : Int32) then (if gK m3 c2 = 102 ∧ 1000 ≤ c2 then (if gz_in x3 (gN m3 c2) then gz_let (gz_sI m3 c2 (gz_ix x3) ((r2.toInt8.toInt32).toInt8.toInt32)) fun m8 => gz_let (x1 + (1 : Int32)) fun y9 => gz_let (x3 + (1 : Int32)) fun y10 => gz_let (x5 + (1 : Int32)) fun y11 => some (Sum.inl (y9, y10, x4, y11, m8)) else none) else none) else some (Sum.inr (x5, m3)))))
theorem wb_J10_compress_3_10 {X : gz_X} {G : gz_G} (hX : gz_C cS X G cJ10_compress_3 7 RJ10 3 67) {c0 : Nat} {x1 : Int32} {c2 : Nat} {x3 : Int32} {x4 : Int32} {x5 : Int32}  {m : gM} {z : ((Int32 × Int32 × Int32 × Int32 × gM) ⊕ (Int32 × gM))} (h : mb_J10_compress_3_10 c0 x1 c2 x3 x4 x5 m = some z) (hk : (Sum.elim (mP_J10_compress_3_10 X G c0 c2) (fun z : (Int32 × gM) => gz_kI cS X G 7 (0, 0) cJ10_compress_3 z.2 z.1)) z) : gz_V cS X G 7 (0, 0) m 10 [(0, .ref (gz_ad G c0)), (1, .int x1), (2, .ref (gz_ad G c2)), (3, .int x3), (4, .int x4), (5, .int x5)] [] := by
  unfold mb_J10_compress_3_10 at h
  refine gz_iload (pc := 10) hX dJ10_compress_3_10 5 rfl ?_
  refine gz_iload (pc := 12) hX dJ10_compress_3_12 4 rfl ?_
  refine gz_icmp_ge (pc := 14) (tgt := 53) hX dJ10_compress_3_14 (by decide) (fun g1 => ?_) (fun g1 => ?_)
  · replace h := gz_it' g1 h
    refine gz_iload (pc := 53) hX dJ10_compress_3_53 4 rfl ?_
    obtain rfl := Option.some.inj h
    exact hk _ _ dJ10_compress_3_55
  · replace h := gz_if' g1 h
    refine gz_aload_n (pc := 17) hX dJ10_compress_3_17 rfl 0 rfl ?_
    refine gz_iload_n (pc := 18) hX dJ10_compress_3_18 rfl 1 rfl ?_
    obtain ⟨⟨r2, m3⟩, c4, h⟩ := gz_bd h
    refine cc_J10_71 (pc := 19) hX c4 ⟨Nat.le_of_ble_eq_true rfl, Nat.le_of_ble_eq_true rfl⟩ (rest := []) rfl (Nat.le_of_ble_eq_true rfl) dJ10_compress_3_19 ?_
    refine gz_istore (pc := 22) (lw := [(6, .int r2), (0, .ref (gz_ad G c0)), (1, .int x1), (2, .ref (gz_ad G c2)), (3, .int x3), (4, .int x4), (5, .int x5)]) hX dJ10_compress_3_22 (by decide) rfl ?_
    refine gz_iload (pc := 24) hX dJ10_compress_3_24 0 rfl ?_
    refine gz_sipush (pc := 26) (v := (255 : Int32)) hX dJ10_compress_3_26 (by decide) ?_
    refine gz_icmp_le (pc := 29) (tgt := 35) hX dJ10_compress_3_29 (by decide) (fun g5 => ?_) (fun g5 => ?_)
    · replace h := gz_it' g5 h
      refine gz_aload_n (pc := 35) hX dJ10_compress_3_35 rfl 3 rfl ?_
      refine gz_iload_n (pc := 36) hX dJ10_compress_3_36 rfl 4 rfl ?_
      refine gz_iload (pc := 37) hX dJ10_compress_3_37 0 rfl ?_
      refine gz_i2b (pc := 39) hX dJ10_compress_3_39 ?_
      obtain ⟨g6, h⟩ := gz_gu h
      obtain ⟨g7, h⟩ := gz_gu h
      obtain ⟨m8, em8, h⟩ := gz_lt h
      refine gz_bast2 (pc := 40) (c := c2) (n := gN m3 c2) hX rfl (fun _ => ⟨g6.1, rfl⟩) g6.2 g7 dJ10_compress_3_40 em8 ?_
      obtain ⟨y9, ey9, h⟩ := gz_lt h
      refine gz_iinc (pc := 41) (v := y9) (lw := [(1, .int y9), (6, .int r2), (0, .ref (gz_ad G c0)), (2, .ref (gz_ad G c2)), (3, .int x3), (4, .int x4), (5, .int x5)]) hX dJ10_compress_3_41 (k := 2) rfl (by rw [ey9]; rfl) (by decide) rfl ?_
      obtain ⟨y10, ey10, h⟩ := gz_lt h
      refine gz_iinc (pc := 44) (v := y10) (lw := [(3, .int y10), (1, .int y9), (6, .int r2), (0, .ref (gz_ad G c0)), (2, .ref (gz_ad G c2)), (4, .int x4), (5, .int x5)]) hX dJ10_compress_3_44 (k := 4) rfl (by rw [ey10]; rfl) (by decide) rfl ?_
      obtain ⟨y11, ey11, h⟩ := gz_lt h
      refine gz_iinc (pc := 47) (v := y11) (lw := [(5, .int y11), (3, .int y10), (1, .int y9), (6, .int r2), (0, .ref (gz_ad G c0)), (2, .ref (gz_ad G c2)), (4, .int x4)]) hX dJ10_compress_3_47 (k := 6) rfl (by rw [ey11]; rfl) (by decide) rfl ?_
      refine gz_goto (pc := 50) (tgt := 10) hX dJ10_compress_3_50 (by decide) ?_
      refine gz_sub (lw := [(0, .ref (gz_ad G c0)), (1, .int y9), (2, .ref (gz_ad G c2)), (3, .int y10), (4, .int x4), (5, .int y11)]) [4, 2, 5, 1, 6, 0] rfl ?_
      obtain rfl := Option.some.inj h
      exact hk
    · replace h := gz_if' g5 h
      refine gz_iload (pc := 32) hX dJ10_compress_3_32 6 rfl ?_
      obtain rfl := Option.some.inj h
      exact hk _ _ dJ10_compress_3_34
noncomputable def ml_J10_compress_3_10 (c0 : Nat) (x1 : Int32) (c2 : Nat) (x3 : Int32) (x4 : Int32) (x5 : Int32) (m : gM) : Option (Int32 × gM) := gz_loop (fun q : (Int32 × Int32 × Int32 × Int32 × gM) => mb_J10_compress_3_10 c0 q.1 c2 q.2.1 q.2.2.1 q.2.2.2.1 q.2.2.2.2) (x1, x3, x4, x5, m)
theorem wl_J10_compress_3_10 {X : gz_X} {G : gz_G} (hX : gz_C cS X G cJ10_compress_3 7 RJ10 3 67) {c0 : Nat} {x1 : Int32} {c2 : Nat} {x3 : Int32} {x4 : Int32} {x5 : Int32}  {m : gM} {z : (Int32 × gM)} (h : ml_J10_compress_3_10 c0 x1 c2 x3 x4 x5 m = some z) (hk : (fun z : (Int32 × gM) => gz_kI cS X G 7 (0, 0) cJ10_compress_3 z.2 z.1) z) : gz_V cS X G 7 (0, 0) m 10 [(0, .ref (gz_ad G c0)), (1, .int x1), (2, .ref (gz_ad G c2)), (3, .int x3), (4, .int x4), (5, .int x5)] [] := by
  have hp : mP_J10_compress_3_10 X G c0 c2 (x1, x3, x4, x5, m) := gz_loop_ind (fun q z hz hkz => wb_J10_compress_3_10 hX  hz hkz) h hk
  exact hp
noncomputable def cf_J10_compress_3 (c0 : Nat) (x1 : Int32) (c2 : Nat) (x3 : Int32) (x4 : Int32) (m : gM) : Option (Int32 × gM) :=
  ((cf_J10_checkBoundsOffCount x1 x4 c0 m).bind fun (_, m2) => (ml_J10_compress_3_10 c0 x1 c2 x3 x4 (0 : Int32) m2))
theorem wm_J10_compress_3 {X : gz_X} {G : gz_G} (hX : gz_C cS X G cJ10_compress_3 7 RJ10 3 67) {c0 : Nat} {x1 : Int32} {c2 : Nat} {x3 : Int32} {x4 : Int32}  {m : gM} {z : (Int32 × gM)} (h : cf_J10_compress_3 c0 x1 c2 x3 x4 m = some z) (hk : (fun z : (Int32 × gM) => gz_kI cS X G 7 (0, 0) cJ10_compress_3 z.2 z.1) z) : gz_V cS X G 7 (0, 0) m 0 [(0, .ref (gz_ad G c0)), (1, .int x1), (2, .ref (gz_ad G c2)), (3, .int x3), (4, .int x4)] [] := by
  unfold cf_J10_compress_3 at h
  refine gz_iload_n (pc := 0) hX dJ10_compress_3_0 rfl 1 rfl ?_
  refine gz_iload (pc := 1) hX dJ10_compress_3_1 4 rfl ?_
  refine gz_aload_n (pc := 3) hX dJ10_compress_3_3 rfl 0 rfl ?_
  obtain ⟨⟨⟨⟩, m2⟩, c3, h⟩ := gz_bd h
  refine cc_J10_173 (pc := 4) hX c3 ⟨Nat.le_of_ble_eq_true rfl, Nat.le_of_ble_eq_true rfl⟩ (rest := []) rfl (Nat.le_of_ble_eq_true rfl) dJ10_compress_3_4 ?_
  refine gz_iconst (pc := 7) (v := (0 : Int32)) hX dJ10_compress_3_7 (by decide) ?_
  refine gz_istore (pc := 8) (lw := [(5, .int (0 : Int32)), (0, .ref (gz_ad G c0)), (1, .int x1), (2, .ref (gz_ad G c2)), (3, .int x3), (4, .int x4)]) hX dJ10_compress_3_8 (by decide) rfl ?_
  refine gz_sub (lw := [(0, .ref (gz_ad G c0)), (1, .int x1), (2, .ref (gz_ad G c2)), (3, .int x3), (4, .int x4), (5, .int (0 : Int32))]) [1, 2, 3, 4, 5, 0] rfl ?_
  exact wl_J10_compress_3_10 hX h hk
theorem ct_J10_compress_3 {G : gz_G} {l : Launch} {c0 : Nat} {x1 : Int32} {c2 : Nat} {x3 : Int32} {x4 : Int32}  {m m9 : gM} {r : Int32} (h : cf_J10_compress_3 c0 x1 c2 x3 x4 m = some (r, m9)) : gz_Met cS G l yJ10_compress_3 cJ10_compress_3 7 (some .int) (mRm 3 67) [.ref (gz_ad G c0), .int x1, .ref (gz_ad G c2), .int x3, .int x4] m m9 (some (.int r)) :=
  gz_ofI (by decide +kernel) (Nat.le_of_ble_eq_true rfl) fun X _ hX hk => wm_J10_compress_3 hX h hk
theorem cc_J10_220 {X : gz_X} {G : gz_G} {cc : ByteArray} {nL fr lo pc : Nat} {rem : Nat × Nat} {lv : List (Nat × Value)} {rest st0 : List Value} (hX : gz_C cS X G cc nL RJ10 fr lo) {c0 : Nat} {x1 : Int32} {x2 : Int32} {x3 : Int32} {x4 : Int32} {m m9 : gM}  {r : Int32} (h : cf_J12_vectorizedHashCode c0 x1 x2 x3 x4 m = some (r, m9)) (hroom : 1 + 1 ≤ fr ∧ 8 + (5 + 11) + 25 ≤ lo) (hst : st0 = [.int x4, .int x3, .int x2, .int x1, .ref (gz_ad G c0)] ++ rest) (hW : (rest.map fun v => v.category).sum ≤ 8) (hd : decode cc pc = .ok (.invokestatic 220, 3)) (kk : gz_V cS X G nL rem m9 (pc + 3) lv (.int r :: rest)) : gz_V cS X G nL rem m pc lv st0 :=
  gz_callS hX cs_E (As := [.ref (gz_ad G c0), .int x1, .int x2, .int x3, .int x4]) (rest := rest) (ct_J12_vectorizedHashCode (l := X.2.1) h) (lw_S q783 q743 q186 q744) (n := 5) (by decide +kernel) hroom rfl hst hW hd (rem := rem) kk
/-! java/lang/StringUTF16.hashCode([B)I -/
noncomputable def cf_J10_hashCode (c0 : Nat) (m : gM) : Option (Int32 × gM) :=
  (if gK m c0 = 102 then (if (nI (gN m c0)) = (0 : Int32) then some ((0 : Int32), m) else (if (nI (gN m c0)) = (2 : Int32) then ((cf_J10_getChar c0 (0 : Int32) m).bind fun (r4, m5) => some (r4, m5)) else (if gK m c0 = 102 then ((cf_J12_vectorizedHashCode c0 (0 : Int32) ((nI (gN m c0)) >>> ((1 : Int32) &&& 31)) (0 : Int32) (5 : Int32) m).bind fun (r8, m9) => some (r8, m9)) else none))) else none)
theorem wm_J10_hashCode {X : gz_X} {G : gz_G} (hX : gz_C cS X G cJ10_hashCode 1 RJ10 2 49) {c0 : Nat}  {m : gM} {z : (Int32 × gM)} (h : cf_J10_hashCode c0 m = some z) (hk : (fun z : (Int32 × gM) => gz_kI cS X G 1 (0, 0) cJ10_hashCode z.2 z.1) z) : gz_V cS X G 1 (0, 0) m 0 [(0, .ref (gz_ad G c0))] [] := by
  unfold cf_J10_hashCode at h
  refine gz_aload_n (pc := 0) hX dJ10_hashCode_0 rfl 0 rfl ?_
  obtain ⟨g1, h⟩ := gz_gu h
  refine gz_alen2 (pc := 1) (c := c0) (t := 1) (n := gN m c0) hX rfl (fun _ => ⟨g1, rfl⟩) dJ10_hashCode_1 ?_
  by_cases g2 : (nI (gN m c0)) = (0 : Int32)
  · replace h := gz_it' g2 h
    refine gz_lsw (pc := 2) (tgt := 28) (off := 26) hX dJ10_hashCode_2 (by decide) (by rw [g2]; decide) (by decide) ?_
    refine gz_iconst (pc := 28) (v := (0 : Int32)) hX dJ10_hashCode_28 (by decide) ?_
    refine gz_goto (pc := 29) (tgt := 51) hX dJ10_hashCode_29 (by decide) ?_
    obtain rfl := Option.some.inj h
    exact hk _ _ dJ10_hashCode_51
  · replace h := gz_if' g2 h
    by_cases g3 : (nI (gN m c0)) = (2 : Int32)
    · replace h := gz_it' g3 h
      refine gz_lsw (pc := 2) (tgt := 32) (off := 30) hX dJ10_hashCode_2 (by decide) (by rw [g3]; decide) (by decide) ?_
      refine gz_aload_n (pc := 32) hX dJ10_hashCode_32 rfl 0 rfl ?_
      refine gz_iconst (pc := 33) (v := (0 : Int32)) hX dJ10_hashCode_33 (by decide) ?_
      obtain ⟨⟨r4, m5⟩, c6, h⟩ := gz_bd h
      refine cc_J10_71 (pc := 34) hX c6 ⟨Nat.le_of_ble_eq_true rfl, Nat.le_of_ble_eq_true rfl⟩ (rest := []) rfl (Nat.le_of_ble_eq_true rfl) dJ10_hashCode_34 ?_
      refine gz_goto (pc := 37) (tgt := 51) hX dJ10_hashCode_37 (by decide) ?_
      obtain rfl := Option.some.inj h
      exact hk _ _ dJ10_hashCode_51
    · replace h := gz_if' g3 h
      refine gz_lsw (pc := 2) (tgt := 40) (off := 38) hX dJ10_hashCode_2 (by decide) ((lv_osw g2 (by decide)).trans ((lv_osw g3 (by decide)).trans rfl)) (by decide) ?_
      refine gz_aload_n (pc := 40) hX dJ10_hashCode_40 rfl 0 rfl ?_
      refine gz_iconst (pc := 41) (v := (0 : Int32)) hX dJ10_hashCode_41 (by decide) ?_
      refine gz_aload_n (pc := 42) hX dJ10_hashCode_42 rfl 0 rfl ?_
      obtain ⟨g7, h⟩ := gz_gu h
      refine gz_alen2 (pc := 43) (c := c0) (t := 1) (n := gN m c0) hX rfl (fun _ => ⟨g7, rfl⟩) dJ10_hashCode_43 ?_
      refine gz_iconst (pc := 44) (v := (1 : Int32)) hX dJ10_hashCode_44 (by decide) ?_
      refine gz_ishr (pc := 45) hX dJ10_hashCode_45 ?_
      refine gz_iconst (pc := 46) (v := (0 : Int32)) hX dJ10_hashCode_46 (by decide) ?_
      refine gz_iconst (pc := 47) (v := (5 : Int32)) hX dJ10_hashCode_47 (by decide) ?_
      obtain ⟨⟨r8, m9⟩, c10, h⟩ := gz_bd h
      refine cc_J10_220 (pc := 48) hX c10 ⟨Nat.le_of_ble_eq_true rfl, Nat.le_of_ble_eq_true rfl⟩ (rest := []) rfl (Nat.le_of_ble_eq_true rfl) dJ10_hashCode_48 ?_
      obtain rfl := Option.some.inj h
      exact hk _ _ dJ10_hashCode_51
theorem ct_J10_hashCode {G : gz_G} {l : Launch} {c0 : Nat}  {m m9 : gM} {r : Int32} (h : cf_J10_hashCode c0 m = some (r, m9)) : gz_Met cS G l yJ10_hashCode cJ10_hashCode 1 (some .int) (mRm 2 49) [.ref (gz_ad G c0)] m m9 (some (.int r)) :=
  gz_ofI (by decide +kernel) (Nat.le_of_ble_eq_true rfl) fun X _ hX hk => wm_J10_hashCode hX h hk
/-! java/lang/StringUTF16.putCharSB([BII)V -/
noncomputable def cf_J10_putCharSB (c0 : Nat) (x1 : Int32) (x2 : Int32) (m : gM) : Option (Unit × gM) :=
  ((cf_J10_checkIndex x1 c0 m).bind fun (_, m2) => ((cf_J10_putChar c0 x1 x2 m2).bind fun (_, m5) => some ((), m5)))
theorem wm_J10_putCharSB {X : gz_X} {G : gz_G} (hX : gz_C cS X G cJ10_putCharSB 3 RJ10 3 64) {c0 : Nat} {x1 : Int32} {x2 : Int32}  {m : gM} {z : (Unit × gM)} (h : cf_J10_putCharSB c0 x1 x2 m = some z) (hk : (fun z : (Unit × gM) => gz_kV cS X G 3 (0, 0) cJ10_putCharSB z.2) z) : gz_V cS X G 3 (0, 0) m 0 [(0, .ref (gz_ad G c0)), (1, .int x1), (2, .int x2)] [] := by
  unfold cf_J10_putCharSB at h
  refine gz_iload_n (pc := 0) hX dJ10_putCharSB_0 rfl 1 rfl ?_
  refine gz_aload_n (pc := 1) hX dJ10_putCharSB_1 rfl 0 rfl ?_
  obtain ⟨⟨⟨⟩, m2⟩, c3, h⟩ := gz_bd h
  refine cc_J10_67 (pc := 2) hX c3 ⟨Nat.le_of_ble_eq_true rfl, Nat.le_of_ble_eq_true rfl⟩ (rest := []) rfl (Nat.le_of_ble_eq_true rfl) dJ10_putCharSB_2 ?_
  refine gz_aload_n (pc := 5) hX dJ10_putCharSB_5 rfl 0 rfl ?_
  refine gz_iload_n (pc := 6) hX dJ10_putCharSB_6 rfl 1 rfl ?_
  refine gz_iload_n (pc := 7) hX dJ10_putCharSB_7 rfl 2 rfl ?_
  obtain ⟨⟨⟨⟩, m5⟩, c6, h⟩ := gz_bd h
  refine cc_J10_111 (pc := 8) hX c6 ⟨Nat.le_of_ble_eq_true rfl, Nat.le_of_ble_eq_true rfl⟩ (rest := []) rfl (Nat.le_of_ble_eq_true rfl) dJ10_putCharSB_8 ?_
  obtain rfl := Option.some.inj h
  exact hk _ _ dJ10_putCharSB_11
theorem ct_J10_putCharSB {G : gz_G} {l : Launch} {c0 : Nat} {x1 : Int32} {x2 : Int32}  {m m9 : gM} (h : cf_J10_putCharSB c0 x1 x2 m = some ((), m9)) : gz_Met cS G l yJ10_putCharSB cJ10_putCharSB 3 none (mRm 3 64) [.ref (gz_ad G c0), .int x1, .int x2] m m9 none :=
  gz_ofV (by decide +kernel) (Nat.le_of_ble_eq_true rfl) fun X _ hX hk => wm_J10_putCharSB hX h hk
theorem cg_X0_194_1 {X : gz_X} {G : gz_G} {cc : ByteArray} {nL fr lo pc : Nat} {rem : Nat × Nat} {m : gM} {lv : List (Nat × Value)} {st : List Value} (hX : gz_C cS X G cc nL RX0 fr lo) {c : Nat} {v : Value} (hK : clc m.1 m.2.1 m.2.2.2.2.1 → m.1 c = 1 + 1) (hv : clc m.1 m.2.1 m.2.2.2.2.1 → gz_u (gz_ad G) m (ftC 1 4) c 4 = v) (hd : decode cc pc = .ok (.getfield 194, 3)) (kk : gz_V cS X G nL rem m (pc + 3) lv (v :: st)) : gz_V cS X G nL rem m pc lv (.ref (gz_ad G c) :: st) :=
  gz_getf hX (C := RX1) (T := TX1) (N := 9) (ci := 1) (k := 4) rfl (by decide) in_X1 (by decide) (Or.inr ⟨_, va_Nw.use rfl (cz_n (Z := cS) hX q261 rfl)⟩) hd hK hv kk
theorem cc_X0_208 {X : gz_X} {G : gz_G} {cc : ByteArray} {nL fr lo pc : Nat} {rem : Nat × Nat} {lv : List (Nat × Value)} {rest st0 : List Value} (hX : gz_C cS X G cc nL RX0 fr lo) {x0 : Int32} {x1 : Int32} {m m9 : gM}  {r : Int32} (h : cf_J8_min x0 x1 m = some (r, m9)) (hroom : 0 + 1 ≤ fr ∧ 8 + (2 + 11) + 0 ≤ lo) (hst : st0 = [.int x1, .int x0] ++ rest) (hW : (rest.map fun v => v.category).sum ≤ 8) (hd : decode cc pc = .ok (.invokestatic 208, 3)) (kk : gz_V cS X G nL rem m9 (pc + 3) lv (.int r :: rest)) : gz_V cS X G nL rem m pc lv st0 :=
  gz_callS hX cs_E (As := [.int x0, .int x1]) (rest := rest) (ct_J8_min (l := X.2.1) h) (lw_S q493 q494 q181 q495) (n := 2) (by decide +kernel) hroom rfl hst hW hd (rem := rem) kk
theorem cc_X0_185 {X : gz_X} {G : gz_G} {cc : ByteArray} {nL fr lo pc : Nat} {rem : Nat × Nat} {lv : List (Nat × Value)} {rest st0 : List Value} (hX : gz_C cS X G cc nL RX0 fr lo) {c0 : Nat} {x1 : Int32} {m m9 : gM} (hK : clc m.1 m.2.1 m.2.2.2.2.1 → m.1 c0 = 20 + 1)  {r : Nat} (h : cf_J2_get c0 x1 m = some (r, m9)) (hroom : 2 + 1 ≤ fr ∧ 8 + (2 + 11) + 43 ≤ lo) (hst : st0 = [.int x1, .ref (gz_ad G c0)] ++ rest) (hW : (rest.map fun v => v.category).sum ≤ 8) (hd : decode cc pc = .ok (.invokeinterface 185 2, 5)) (kk : gz_V cS X G nL rem m9 (pc + 5) lv (.ref (gz_ad G r) :: rest)) : gz_V cS X G nL rem m pc lv st0 :=
  gz_callF hX cs_E (x := cLg) (As := [.int x1]) (rest := rest) (q := (RJ2, TJ2, 3)) (ci := 20) (c := c0) (ct_J2_get (l := X.2.1) h) (va_cwF 1 hX.2.2.2.2.1 (lw_app (by intro w hw; simp only [List.mem_cons, List.not_mem_nil, or_false] at hw; rcases hw with e | e | e | e <;> rw [e] <;> first | exact q474 | exact q477 | exact q479 | exact q171) (lw_meth q481)) rfl rfl rfl hX.2.2.2.2.2.1.2.2.2.2.1 (by decide +kernel) ⟨Nat.le_trans hroom.1 hX.2.2.2.2.2.2.1, Nat.le_trans hroom.2 hX.2.2.2.2.2.2.2⟩) rfl rfl (by decide) hK hst hW hd (rem := rem) kk
theorem ck_X0_197 {X : gz_X} {G : gz_G} {cc : ByteArray} {nL fr lo pc : Nat} {rem : Nat × Nat} {m : gM} {lv : List (Nat × Value)} {st : List Value} (hX : gz_C cS X G cc nL RX0 fr lo) {c : Nat} (hK : m.1 c = 8) (hd : decode cc pc = .ok (.checkcast 197, 3)) (kk : gz_V cS X G nL rem m (pc + 3) lv (.ref (gz_ad G c) :: st)) : gz_V cS X G nL rem m pc lv (.ref (gz_ad G c) :: st) := by
  intro H locs ls cs hR hC hA hl
  have z := hK
  exact va_castS hX.1 hX.2.1 hX.2.2.2.1 (hX.2.2.2.2.1 _ q492) (hX.2.2.2.2.2.1.1.1 7 (RX8, TX8, 3) rfl).2 (gz_recv (X := X) hX.2.2.2.2.2.1 hR (ci := 7) (c := c) (q := (RX8, TX8, 3)) rfl (by decide) z) hd (kk H locs ls cs hR hC hA hl)
theorem cg_X0_199_7 {X : gz_X} {G : gz_G} {cc : ByteArray} {nL fr lo pc : Nat} {rem : Nat × Nat} {m : gM} {lv : List (Nat × Value)} {st : List Value} (hX : gz_C cS X G cc nL RX0 fr lo) {c : Nat} {v : Value} (hK : clc m.1 m.2.1 m.2.2.2.2.1 → m.1 c = 7 + 1) (hv : clc m.1 m.2.1 m.2.2.2.2.1 → gz_u (gz_ad G) m (ftC 7 0) c 0 = v) (hd : decode cc pc = .ok (.getfield 199, 3)) (kk : gz_V cS X G nL rem m (pc + 3) lv (v :: st)) : gz_V cS X G nL rem m pc lv (.ref (gz_ad G c) :: st) :=
  gz_getf hX (C := RX8) (T := TX8) (N := 3) (ci := 7) (k := 0) rfl (by decide) in_X8 (by decide) (Or.inr ⟨_, va_Nw.use rfl (cz_n (Z := cS) hX q951 rfl)⟩) hd hK hv kk
theorem cg_X0_202_7 {X : gz_X} {G : gz_G} {cc : ByteArray} {nL fr lo pc : Nat} {rem : Nat × Nat} {m : gM} {lv : List (Nat × Value)} {st : List Value} (hX : gz_C cS X G cc nL RX0 fr lo) {c : Nat} {v : Value} (hK : clc m.1 m.2.1 m.2.2.2.2.1 → m.1 c = 7 + 1) (hv : clc m.1 m.2.1 m.2.2.2.2.1 → gz_u (gz_ad G) m (ftC 7 1) c 1 = v) (hd : decode cc pc = .ok (.getfield 202, 3)) (kk : gz_V cS X G nL rem m (pc + 3) lv (v :: st)) : gz_V cS X G nL rem m pc lv (.ref (gz_ad G c) :: st) :=
  gz_getf hX (C := RX8) (T := TX8) (N := 3) (ci := 7) (k := 1) rfl (by decide) in_X8 (by decide) (Or.inr ⟨_, va_Nw.use rfl (cz_n (Z := cS) hX q953 rfl)⟩) hd hK hv kk
theorem cg_X0_205_7 {X : gz_X} {G : gz_G} {cc : ByteArray} {nL fr lo pc : Nat} {rem : Nat × Nat} {m : gM} {lv : List (Nat × Value)} {st : List Value} (hX : gz_C cS X G cc nL RX0 fr lo) {c : Nat} {v : Value} (hK : clc m.1 m.2.1 m.2.2.2.2.1 → m.1 c = 7 + 1) (hv : clc m.1 m.2.1 m.2.2.2.2.1 → gz_u (gz_ad G) m (ftC 7 2) c 2 = v) (hd : decode cc pc = .ok (.getfield 205, 3)) (kk : gz_V cS X G nL rem m (pc + 3) lv (v :: st)) : gz_V cS X G nL rem m pc lv (.ref (gz_ad G c) :: st) :=
  gz_getf hX (C := RX8) (T := TX8) (N := 3) (ci := 7) (k := 2) rfl (by decide) in_X8 (by decide) (Or.inr ⟨_, va_Nw.use rfl (cz_n (Z := cS) hX q955 rfl)⟩) hd hK hv kk
/-! FirstSnuffer.reckonsWays()V -/
def mP_X0_reckonsWays_2 (X : gz_X) (G : gz_G) (q : (Int32 × gM)) : Prop := gz_V cS X G 4 (0, 0) q.2 2 [(0, .ref (gz_ad G 1000)), (1, .int q.1)] []
def mP_X0_reckonsWays_49 (X : gz_X) (G : gz_G) (q : (Int32 × gM)) : Prop := gz_V cS X G 4 (0, 0) q.2 49 [(0, .ref (gz_ad G 1000)), (1, .int q.1)] []
def mP_X0_reckonsWays_153 (X : gz_X) (G : gz_G) (q : (Int32 × gM)) : Prop := gz_V cS X G 4 (0, 0) q.2 153 [(0, .ref (gz_ad G 1000)), (1, .int q.1)] []
def mP_X0_reckonsWays_161 (X : gz_X) (G : gz_G) (q : (Int32 × Int32 × gM)) : Prop := gz_V cS X G 4 (0, 0) q.2.2 161 [(0, .ref (gz_ad G 1000)), (1, .int q.1), (2, .int q.2.1)] []
def mP_X0_reckonsWays_169 (X : gz_X) (G : gz_G) (q : (Int32 × Int32 × Int32 × gM)) : Prop := gz_V cS X G 4 (0, 0) q.2.2.2 169 [(0, .ref (gz_ad G 1000)), (1, .int q.1), (2, .int q.2.1), (3, .int q.2.2.1)] []
noncomputable def mb_X0_reckonsWays_169 (x1 : Int32) (x2 : Int32) (x3 : Int32) (m : gM) : Option ((Int32 × Int32 × Int32 × gM) ⊕ ((Int32 × Int32 × gM) ⊕ ((Int32 × gM) ⊕ (Unit × gM)))) :=
  (if (8 : Int32) ≤ x3 then gz_let (x2 + (1 : Int32)) fun y2 => some (Sum.inr (Sum.inl (x1, y2, m))) else (if gz_in x2 (8) then (if gz_in x2 (8) then (if gz_in x3 (8) then (if gz_in x2 (8) then (if gz_in x1 (8) then (if gz_in x1 (8) then (if gz_in x3 (8) then ((cf_J8_min (gI m (1019 + (gz_ix x2)) (gz_ix x3)) ((gI m (1019 + (gz_ix x2)) (gz_ix x1)) + (gI m (1019 + (gz_ix x1)) (gz_ix x3))) m).bind fun (r10, m11) => (if gz_in x3 (8) then gz_let (gz_sI m11 (1019 + (gz_ix x2)) (gz_ix x3) r10) fun m14 => gz_let (x3 + (1 : Int32)) fun y15 => some (Sum.inl (x1, x2, y15, m14)) else none)) else none) else none) else none) else none) else none) else none) else none))
theorem wb_X0_reckonsWays_169 {X : gz_X} {G : gz_G} (hX : gz_C cS X G cX0_reckonsWays 4 RX0 3 64) {x1 : Int32} {x2 : Int32} {x3 : Int32}  {m : gM} {z : ((Int32 × Int32 × Int32 × gM) ⊕ ((Int32 × Int32 × gM) ⊕ ((Int32 × gM) ⊕ (Unit × gM))))} (h : mb_X0_reckonsWays_169 x1 x2 x3 m = some z) (hk : (Sum.elim (mP_X0_reckonsWays_169 X G) (Sum.elim (mP_X0_reckonsWays_161 X G) (Sum.elim (mP_X0_reckonsWays_153 X G) (fun z : (Unit × gM) => gz_kV cS X G 4 (0, 0) cX0_reckonsWays z.2)))) z) : gz_V cS X G 4 (0, 0) m 169 [(0, .ref (gz_ad G 1000)), (1, .int x1), (2, .int x2), (3, .int x3)] [] := by
  unfold mb_X0_reckonsWays_169 at h
  refine gz_iload_n (pc := 169) hX dX0_reckonsWays_169 rfl 3 rfl ?_
  refine gz_bipush (pc := 170) (v := (8 : Int32)) hX dX0_reckonsWays_170 (by decide) ?_
  refine gz_icmp_ge (pc := 172) (tgt := 217) hX dX0_reckonsWays_172 (by decide) (fun g1 => ?_) (fun g1 => ?_)
  · replace h := gz_it' g1 h
    obtain ⟨y2, ey2, h⟩ := gz_lt h
    refine gz_iinc (pc := 217) (v := y2) (lw := [(2, .int y2), (0, .ref (gz_ad G 1000)), (1, .int x1), (3, .int x3)]) hX dX0_reckonsWays_217 (k := 2) rfl (by rw [ey2]; rfl) (by decide) rfl ?_
    refine gz_goto (pc := 220) (tgt := 161) hX dX0_reckonsWays_220 (by decide) ?_
    refine gz_sub (lw := [(0, .ref (gz_ad G 1000)), (1, .int x1), (2, .int y2)]) [1, 2, 0] rfl ?_
    obtain rfl := Option.some.inj h
    exact hk
  · replace h := gz_if' g1 h
    refine gz_aload_n (pc := 175) hX dX0_reckonsWays_175 rfl 0 rfl ?_
    refine cg_X0_68_0 (pc := 176) hX (c := 1000) (v := .ref (gz_ad G 1018)) (fun h => cz_k h rfl) (fun h => cz_f h (by decide) rfl (by decide) rfl) dX0_reckonsWays_176 ?_
    refine gz_iload_n (pc := 179) hX dX0_reckonsWays_179 rfl 2 rfl ?_
    obtain ⟨g3, h⟩ := gz_gu h
    refine gz_aald (pc := 180) (c := 1018) (t := 7) (n := 8) hX rfl rfl rfl (v := .ref (gz_ad G (1019 + (gz_ix x2)))) (fun h => cz_a h rfl (by decide) rfl) g3 (fun h => cz_e h (by decide) (far_s _ g3.2) (by omega)) dX0_reckonsWays_180 ?_
    refine gz_iload_n (pc := 181) hX dX0_reckonsWays_181 rfl 3 rfl ?_
    refine gz_aload_n (pc := 182) hX dX0_reckonsWays_182 rfl 0 rfl ?_
    refine cg_X0_68_0 (pc := 183) hX (c := 1000) (v := .ref (gz_ad G 1018)) (fun h => cz_k h rfl) (fun h => cz_f h (by decide) rfl (by decide) rfl) dX0_reckonsWays_183 ?_
    refine gz_iload_n (pc := 186) hX dX0_reckonsWays_186 rfl 2 rfl ?_
    obtain ⟨g4, h⟩ := gz_gu h
    refine gz_aald (pc := 187) (c := 1018) (t := 7) (n := 8) hX rfl rfl rfl (v := .ref (gz_ad G (1019 + (gz_ix x2)))) (fun h => cz_a h rfl (by decide) rfl) g4 (fun h => cz_e h (by decide) (far_s _ g4.2) (by omega)) dX0_reckonsWays_187 ?_
    refine gz_iload_n (pc := 188) hX dX0_reckonsWays_188 rfl 3 rfl ?_
    obtain ⟨g5, h⟩ := gz_gu h
    refine gz_iald2 (pc := 189) (c := (1019 + (gz_ix x2))) (n := 8) hX rfl (fun h => cz_a h (far_a _ g4.2).1 (by decide) (far_a _ g4.2).2) g5 dX0_reckonsWays_189 ?_
    refine gz_aload_n (pc := 190) hX dX0_reckonsWays_190 rfl 0 rfl ?_
    refine cg_X0_68_0 (pc := 191) hX (c := 1000) (v := .ref (gz_ad G 1018)) (fun h => cz_k h rfl) (fun h => cz_f h (by decide) rfl (by decide) rfl) dX0_reckonsWays_191 ?_
    refine gz_iload_n (pc := 194) hX dX0_reckonsWays_194 rfl 2 rfl ?_
    obtain ⟨g6, h⟩ := gz_gu h
    refine gz_aald (pc := 195) (c := 1018) (t := 7) (n := 8) hX rfl rfl rfl (v := .ref (gz_ad G (1019 + (gz_ix x2)))) (fun h => cz_a h rfl (by decide) rfl) g6 (fun h => cz_e h (by decide) (far_s _ g6.2) (by omega)) dX0_reckonsWays_195 ?_
    refine gz_iload_n (pc := 196) hX dX0_reckonsWays_196 rfl 1 rfl ?_
    obtain ⟨g7, h⟩ := gz_gu h
    refine gz_iald2 (pc := 197) (c := (1019 + (gz_ix x2))) (n := 8) hX rfl (fun h => cz_a h (far_a _ g6.2).1 (by decide) (far_a _ g6.2).2) g7 dX0_reckonsWays_197 ?_
    refine gz_aload_n (pc := 198) hX dX0_reckonsWays_198 rfl 0 rfl ?_
    refine cg_X0_68_0 (pc := 199) hX (c := 1000) (v := .ref (gz_ad G 1018)) (fun h => cz_k h rfl) (fun h => cz_f h (by decide) rfl (by decide) rfl) dX0_reckonsWays_199 ?_
    refine gz_iload_n (pc := 202) hX dX0_reckonsWays_202 rfl 1 rfl ?_
    obtain ⟨g8, h⟩ := gz_gu h
    refine gz_aald (pc := 203) (c := 1018) (t := 7) (n := 8) hX rfl rfl rfl (v := .ref (gz_ad G (1019 + (gz_ix x1)))) (fun h => cz_a h rfl (by decide) rfl) g8 (fun h => cz_e h (by decide) (far_s _ g8.2) (by omega)) dX0_reckonsWays_203 ?_
    refine gz_iload_n (pc := 204) hX dX0_reckonsWays_204 rfl 3 rfl ?_
    obtain ⟨g9, h⟩ := gz_gu h
    refine gz_iald2 (pc := 205) (c := (1019 + (gz_ix x1))) (n := 8) hX rfl (fun h => cz_a h (far_a _ g8.2).1 (by decide) (far_a _ g8.2).2) g9 dX0_reckonsWays_205 ?_
    refine gz_iadd (pc := 206) hX dX0_reckonsWays_206 ?_
    obtain ⟨⟨r10, m11⟩, c12, h⟩ := gz_bd h
    refine cc_X0_208 (pc := 207) hX c12 ⟨Nat.le_of_ble_eq_true rfl, Nat.le_of_ble_eq_true rfl⟩ (rest := [.int x3, .ref (gz_ad G (1019 + (gz_ix x2)))]) rfl (Nat.le_of_ble_eq_true rfl) dX0_reckonsWays_207 ?_
    obtain ⟨g13, h⟩ := gz_gu h
    obtain ⟨m14, em14, h⟩ := gz_lt h
    refine gz_iast2 (pc := 210) (c := (1019 + (gz_ix x2))) (n := 8) hX rfl (fun h => cz_a h (far_a _ g3.2).1 (by decide) (far_a _ g3.2).2) (by omega) g13 dX0_reckonsWays_210 em14 ?_
    obtain ⟨y15, ey15, h⟩ := gz_lt h
    refine gz_iinc (pc := 211) (v := y15) (lw := [(3, .int y15), (0, .ref (gz_ad G 1000)), (1, .int x1), (2, .int x2)]) hX dX0_reckonsWays_211 (k := 3) rfl (by rw [ey15]; rfl) (by decide) rfl ?_
    refine gz_goto (pc := 214) (tgt := 169) hX dX0_reckonsWays_214 (by decide) ?_
    refine gz_sub (lw := [(0, .ref (gz_ad G 1000)), (1, .int x1), (2, .int x2), (3, .int y15)]) [1, 2, 3, 0] rfl ?_
    obtain rfl := Option.some.inj h
    exact hk
noncomputable def ml_X0_reckonsWays_169 (x1 : Int32) (x2 : Int32) (x3 : Int32) (m : gM) : Option ((Int32 × Int32 × gM) ⊕ ((Int32 × gM) ⊕ (Unit × gM))) := gz_loop (fun q : (Int32 × Int32 × Int32 × gM) => mb_X0_reckonsWays_169 q.1 q.2.1 q.2.2.1 q.2.2.2) (x1, x2, x3, m)
theorem wl_X0_reckonsWays_169 {X : gz_X} {G : gz_G} (hX : gz_C cS X G cX0_reckonsWays 4 RX0 3 64) {x1 : Int32} {x2 : Int32} {x3 : Int32}  {m : gM} {z : ((Int32 × Int32 × gM) ⊕ ((Int32 × gM) ⊕ (Unit × gM)))} (h : ml_X0_reckonsWays_169 x1 x2 x3 m = some z) (hk : (Sum.elim (mP_X0_reckonsWays_161 X G) (Sum.elim (mP_X0_reckonsWays_153 X G) (fun z : (Unit × gM) => gz_kV cS X G 4 (0, 0) cX0_reckonsWays z.2))) z) : gz_V cS X G 4 (0, 0) m 169 [(0, .ref (gz_ad G 1000)), (1, .int x1), (2, .int x2), (3, .int x3)] [] := by
  have hp : mP_X0_reckonsWays_169 X G (x1, x2, x3, m) := gz_loop_ind (fun q z hz hkz => wb_X0_reckonsWays_169 hX  hz hkz) h hk
  exact hp
noncomputable def mb_X0_reckonsWays_161 (x1 : Int32) (x2 : Int32) (m : gM) : Option ((Int32 × Int32 × gM) ⊕ ((Int32 × gM) ⊕ (Unit × gM))) :=
  (if (8 : Int32) ≤ x2 then gz_let (x1 + (1 : Int32)) fun y2 => some (Sum.inr (Sum.inl (y2, m))) else (ml_X0_reckonsWays_169 x1 x2 (0 : Int32) m))
theorem wb_X0_reckonsWays_161 {X : gz_X} {G : gz_G} (hX : gz_C cS X G cX0_reckonsWays 4 RX0 3 64) {x1 : Int32} {x2 : Int32}  {m : gM} {z : ((Int32 × Int32 × gM) ⊕ ((Int32 × gM) ⊕ (Unit × gM)))} (h : mb_X0_reckonsWays_161 x1 x2 m = some z) (hk : (Sum.elim (mP_X0_reckonsWays_161 X G) (Sum.elim (mP_X0_reckonsWays_153 X G) (fun z : (Unit × gM) => gz_kV cS X G 4 (0, 0) cX0_reckonsWays z.2))) z) : gz_V cS X G 4 (0, 0) m 161 [(0, .ref (gz_ad G 1000)), (1, .int x1), (2, .int x2)] [] := by
  unfold mb_X0_reckonsWays_161 at h
  refine gz_iload_n (pc := 161) hX dX0_reckonsWays_161 rfl 2 rfl ?_
  refine gz_bipush (pc := 162) (v := (8 : Int32)) hX dX0_reckonsWays_162 (by decide) ?_
  refine gz_icmp_ge (pc := 164) (tgt := 223) hX dX0_reckonsWays_164 (by decide) (fun g1 => ?_) (fun g1 => ?_)
  · replace h := gz_it' g1 h
    obtain ⟨y2, ey2, h⟩ := gz_lt h
    refine gz_iinc (pc := 223) (v := y2) (lw := [(1, .int y2), (0, .ref (gz_ad G 1000)), (2, .int x2)]) hX dX0_reckonsWays_223 (k := 1) rfl (by rw [ey2]; rfl) (by decide) rfl ?_
    refine gz_goto (pc := 226) (tgt := 153) hX dX0_reckonsWays_226 (by decide) ?_
    refine gz_sub (lw := [(0, .ref (gz_ad G 1000)), (1, .int y2)]) [1, 0] rfl ?_
    obtain rfl := Option.some.inj h
    exact hk
  · replace h := gz_if' g1 h
    refine gz_iconst (pc := 167) (v := (0 : Int32)) hX dX0_reckonsWays_167 (by decide) ?_
    refine gz_istore_n (pc := 168) (lw := [(3, .int (0 : Int32)), (0, .ref (gz_ad G 1000)), (1, .int x1), (2, .int x2)]) hX dX0_reckonsWays_168 rfl (by decide) rfl ?_
    refine gz_sub (lw := [(0, .ref (gz_ad G 1000)), (1, .int x1), (2, .int x2), (3, .int (0 : Int32))]) [1, 2, 3, 0] rfl ?_
    exact wl_X0_reckonsWays_169 hX h hk
noncomputable def ml_X0_reckonsWays_161 (x1 : Int32) (x2 : Int32) (m : gM) : Option ((Int32 × gM) ⊕ (Unit × gM)) := gz_loop (fun q : (Int32 × Int32 × gM) => mb_X0_reckonsWays_161 q.1 q.2.1 q.2.2) (x1, x2, m)
theorem wl_X0_reckonsWays_161 {X : gz_X} {G : gz_G} (hX : gz_C cS X G cX0_reckonsWays 4 RX0 3 64) {x1 : Int32} {x2 : Int32}  {m : gM} {z : ((Int32 × gM) ⊕ (Unit × gM))} (h : ml_X0_reckonsWays_161 x1 x2 m = some z) (hk : (Sum.elim (mP_X0_reckonsWays_153 X G) (fun z : (Unit × gM) => gz_kV cS X G 4 (0, 0) cX0_reckonsWays z.2)) z) : gz_V cS X G 4 (0, 0) m 161 [(0, .ref (gz_ad G 1000)), (1, .int x1), (2, .int x2)] [] := by
  have hp : mP_X0_reckonsWays_161 X G (x1, x2, m) := gz_loop_ind (fun q z hz hkz => wb_X0_reckonsWays_161 hX  hz hkz) h hk
  exact hp
noncomputable def mb_X0_reckonsWays_153 (x1 : Int32) (m : gM) : Option ((Int32 × gM) ⊕ (Unit × gM)) :=
  (if (8 : Int32) ≤ x1 then some (Sum.inr ((), m)) else (ml_X0_reckonsWays_161 x1 (0 : Int32) m))
theorem wb_X0_reckonsWays_153 {X : gz_X} {G : gz_G} (hX : gz_C cS X G cX0_reckonsWays 4 RX0 3 64) {x1 : Int32}  {m : gM} {z : ((Int32 × gM) ⊕ (Unit × gM))} (h : mb_X0_reckonsWays_153 x1 m = some z) (hk : (Sum.elim (mP_X0_reckonsWays_153 X G) (fun z : (Unit × gM) => gz_kV cS X G 4 (0, 0) cX0_reckonsWays z.2)) z) : gz_V cS X G 4 (0, 0) m 153 [(0, .ref (gz_ad G 1000)), (1, .int x1)] [] := by
  unfold mb_X0_reckonsWays_153 at h
  refine gz_iload_n (pc := 153) hX dX0_reckonsWays_153 rfl 1 rfl ?_
  refine gz_bipush (pc := 154) (v := (8 : Int32)) hX dX0_reckonsWays_154 (by decide) ?_
  refine gz_icmp_ge (pc := 156) (tgt := 229) hX dX0_reckonsWays_156 (by decide) (fun g1 => ?_) (fun g1 => ?_)
  · replace h := gz_it' g1 h
    obtain rfl := Option.some.inj h
    exact hk _ _ dX0_reckonsWays_229
  · replace h := gz_if' g1 h
    refine gz_iconst (pc := 159) (v := (0 : Int32)) hX dX0_reckonsWays_159 (by decide) ?_
    refine gz_istore_n (pc := 160) (lw := [(2, .int (0 : Int32)), (0, .ref (gz_ad G 1000)), (1, .int x1)]) hX dX0_reckonsWays_160 rfl (by decide) rfl ?_
    refine gz_sub (lw := [(0, .ref (gz_ad G 1000)), (1, .int x1), (2, .int (0 : Int32))]) [1, 2, 0] rfl ?_
    exact wl_X0_reckonsWays_161 hX h hk
noncomputable def ml_X0_reckonsWays_153 (x1 : Int32) (m : gM) : Option (Unit × gM) := gz_loop (fun q : (Int32 × gM) => mb_X0_reckonsWays_153 q.1 q.2) (x1, m)
theorem wl_X0_reckonsWays_153 {X : gz_X} {G : gz_G} (hX : gz_C cS X G cX0_reckonsWays 4 RX0 3 64) {x1 : Int32}  {m : gM} {z : (Unit × gM)} (h : ml_X0_reckonsWays_153 x1 m = some z) (hk : (fun z : (Unit × gM) => gz_kV cS X G 4 (0, 0) cX0_reckonsWays z.2) z) : gz_V cS X G 4 (0, 0) m 153 [(0, .ref (gz_ad G 1000)), (1, .int x1)] [] := by
  have hp : mP_X0_reckonsWays_153 X G (x1, m) := gz_loop_ind (fun q z hz hkz => wb_X0_reckonsWays_153 hX  hz hkz) h hk
  exact hp
noncomputable def mb_X0_reckonsWays_49 (x1 : Int32) (m : gM) : Option ((Int32 × gM) ⊕ (Unit × gM)) :=
  gz_let (gP m 1000 0) fun r1 => (if r1 ≠ 0 then (if gK m r1 = 2 then gz_let (gP m r1 4) fun r4 => (if r4 ≠ 0 then (if gK m r4 = 21 then ((cf_J2_size r4 m).bind fun (r7, m8) => (if r7 ≤ x1 then (Option.map Sum.inr (ml_X0_reckonsWays_153 (0 : Int32) m8)) else gz_let (gP m8 1000 0) fun r11 => (if r11 ≠ 0 then (if gK m8 r11 = 2 then gz_let (gP m8 r11 4) fun r14 => (if r14 ≠ 0 then (if gK m8 r14 = 21 then ((cf_J2_get r14 x1 m8).bind fun (r17, m18) => (if gK m18 r17 = 8 then (if gK m18 r17 = 8 then (if gz_in (gI m18 r17 0) (8) then (if gK m18 r17 = 8 then (if gK m18 r17 = 8 then (if gz_in (gI m18 r17 0) (8) then (if gK m18 r17 = 8 then (if gz_in (gI m18 r17 1) (8) then (if gK m18 r17 = 8 then ((cf_J8_min (gI m18 (1019 + (gz_ix (gI m18 r17 0))) (gz_ix (gI m18 r17 1))) (gI m18 r17 2) m18).bind fun (r29, m30) => (if gz_in (gI m18 r17 1) (8) then gz_let (gz_sI m30 (1019 + (gz_ix (gI m18 r17 0))) (gz_ix (gI m18 r17 1)) r29) fun m33 => (if gK m33 r17 = 8 then (if gz_in (gI m33 r17 1) (8) then (if gK m33 r17 = 8 then (if gK m33 r17 = 8 then (if gz_in (gI m33 r17 0) (8) then (if gK m33 r17 = 8 then (if gz_in (gI m33 r17 1) (8) then (if gz_in (gI m33 r17 0) (8) then gz_let (gz_sI m33 (1019 + (gz_ix (gI m33 r17 1))) (gz_ix (gI m33 r17 0)) (gI m33 (1019 + (gz_ix (gI m33 r17 0))) (gz_ix (gI m33 r17 1)))) fun m42 => gz_let (x1 + (1 : Int32)) fun y43 => some (Sum.inl (y43, m42)) else none) else none) else none) else none) else none) else none) else none) else none) else none)) else none) else none) else none) else none) else none) else none) else none) else none) else none)) else none) else none) else none) else none))) else none) else none) else none) else none)
theorem wb_X0_reckonsWays_49 {X : gz_X} {G : gz_G} (hX : gz_C cS X G cX0_reckonsWays 4 RX0 3 64) {x1 : Int32}  {m : gM} {z : ((Int32 × gM) ⊕ (Unit × gM))} (h : mb_X0_reckonsWays_49 x1 m = some z) (hk : (Sum.elim (mP_X0_reckonsWays_49 X G) (fun z : (Unit × gM) => gz_kV cS X G 4 (0, 0) cX0_reckonsWays z.2)) z) : gz_V cS X G 4 (0, 0) m 49 [(0, .ref (gz_ad G 1000)), (1, .int x1)] [] := by
  unfold mb_X0_reckonsWays_49 at h
  refine gz_iload_n (pc := 49) hX dX0_reckonsWays_49 rfl 1 rfl ?_
  refine gz_aload_n (pc := 50) hX dX0_reckonsWays_50 rfl 0 rfl ?_
  obtain ⟨r1, er1, h⟩ := gz_lt h
  obtain ⟨g2, h⟩ := gz_gu h
  refine cg_X0_31_0 (pc := 51) hX (c := 1000) (v := .ref (gz_ad G r1)) (fun h => cz_k h rfl) (fun _ => gz_rq er1 g2) dX0_reckonsWays_51 ?_
  obtain ⟨g3, h⟩ := gz_gu h
  obtain ⟨r4, er4, h⟩ := gz_lt h
  obtain ⟨g5, h⟩ := gz_gu h
  refine cg_X0_194_1 (pc := 54) hX (c := r1) (v := .ref (gz_ad G r4)) (fun _ => g3) (fun _ => gz_rq er4 g5) dX0_reckonsWays_54 ?_
  obtain ⟨g6, h⟩ := gz_gu h
  obtain ⟨⟨r7, m8⟩, c9, h⟩ := gz_bd h
  refine cc_X0_168 (pc := 57) hX (fun _ => g6) c9 ⟨Nat.le_of_ble_eq_true rfl, Nat.le_of_ble_eq_true rfl⟩ (rest := [.int x1]) rfl (Nat.le_of_ble_eq_true rfl) dX0_reckonsWays_57 ?_
  refine gz_icmp_ge (pc := 62) (tgt := 151) hX dX0_reckonsWays_62 (by decide) (fun g10 => ?_) (fun g10 => ?_)
  · replace h := gz_it' g10 h
    refine gz_iconst (pc := 151) (v := (0 : Int32)) hX dX0_reckonsWays_151 (by decide) ?_
    refine gz_istore_n (pc := 152) (lw := [(1, .int (0 : Int32)), (0, .ref (gz_ad G 1000))]) hX dX0_reckonsWays_152 rfl (by decide) rfl ?_
    refine gz_sub (lw := [(0, .ref (gz_ad G 1000)), (1, .int (0 : Int32))]) [1, 0] rfl ?_
    obtain ⟨z0, hm0, rfl⟩ := gz_mp h
    exact wl_X0_reckonsWays_153 hX hm0 hk
  · replace h := gz_if' g10 h
    refine gz_aload_n (pc := 65) hX dX0_reckonsWays_65 rfl 0 rfl ?_
    obtain ⟨r11, er11, h⟩ := gz_lt h
    obtain ⟨g12, h⟩ := gz_gu h
    refine cg_X0_31_0 (pc := 66) hX (c := 1000) (v := .ref (gz_ad G r11)) (fun h => cz_k h rfl) (fun _ => gz_rq er11 g12) dX0_reckonsWays_66 ?_
    obtain ⟨g13, h⟩ := gz_gu h
    obtain ⟨r14, er14, h⟩ := gz_lt h
    obtain ⟨g15, h⟩ := gz_gu h
    refine cg_X0_194_1 (pc := 69) hX (c := r11) (v := .ref (gz_ad G r14)) (fun _ => g13) (fun _ => gz_rq er14 g15) dX0_reckonsWays_69 ?_
    refine gz_iload_n (pc := 72) hX dX0_reckonsWays_72 rfl 1 rfl ?_
    obtain ⟨g16, h⟩ := gz_gu h
    obtain ⟨⟨r17, m18⟩, c19, h⟩ := gz_bd h
    refine cc_X0_185 (pc := 73) hX (fun _ => g16) c19 ⟨Nat.le_of_ble_eq_true rfl, Nat.le_of_ble_eq_true rfl⟩ (rest := []) rfl (Nat.le_of_ble_eq_true rfl) dX0_reckonsWays_73 ?_
    obtain ⟨g20, h⟩ := gz_gu h
    refine ck_X0_197 (pc := 78) hX (c := r17) g20 dX0_reckonsWays_78 ?_
    refine gz_astore_n (pc := 81) (lw := [(2, .ref (gz_ad G r17)), (0, .ref (gz_ad G 1000)), (1, .int x1)]) hX dX0_reckonsWays_81 rfl (by decide) rfl ?_
    refine gz_aload_n (pc := 82) hX dX0_reckonsWays_82 rfl 1 rfl ?_
    refine cg_X0_68_0 (pc := 83) hX (c := 1000) (v := .ref (gz_ad G 1018)) (fun h => cz_k h rfl) (fun h => cz_f h (by decide) rfl (by decide) rfl) dX0_reckonsWays_83 ?_
    refine gz_aload_n (pc := 86) hX dX0_reckonsWays_86 rfl 0 rfl ?_
    obtain ⟨g21, h⟩ := gz_gu h
    refine cg_X0_199_7 (pc := 87) hX (c := r17) (v := .int (gI m18 r17 0)) (fun _ => g21) (fun _ => rfl) dX0_reckonsWays_87 ?_
    obtain ⟨g22, h⟩ := gz_gu h
    refine gz_aald (pc := 90) (c := 1018) (t := 7) (n := 8) hX rfl rfl rfl (v := .ref (gz_ad G (1019 + (gz_ix (gI m18 r17 0))))) (fun h => cz_a h rfl (by decide) rfl) g22 (fun h => cz_e h (by decide) (far_s _ g22.2) (by omega)) dX0_reckonsWays_90 ?_
    refine gz_aload_n (pc := 91) hX dX0_reckonsWays_91 rfl 0 rfl ?_
    obtain ⟨g23, h⟩ := gz_gu h
    refine cg_X0_202_7 (pc := 92) hX (c := r17) (v := .int (gI m18 r17 1)) (fun _ => g23) (fun _ => rfl) dX0_reckonsWays_92 ?_
    refine gz_aload_n (pc := 95) hX dX0_reckonsWays_95 rfl 1 rfl ?_
    refine cg_X0_68_0 (pc := 96) hX (c := 1000) (v := .ref (gz_ad G 1018)) (fun h => cz_k h rfl) (fun h => cz_f h (by decide) rfl (by decide) rfl) dX0_reckonsWays_96 ?_
    refine gz_aload_n (pc := 99) hX dX0_reckonsWays_99 rfl 0 rfl ?_
    obtain ⟨g24, h⟩ := gz_gu h
    refine cg_X0_199_7 (pc := 100) hX (c := r17) (v := .int (gI m18 r17 0)) (fun _ => g24) (fun _ => rfl) dX0_reckonsWays_100 ?_
    obtain ⟨g25, h⟩ := gz_gu h
    refine gz_aald (pc := 103) (c := 1018) (t := 7) (n := 8) hX rfl rfl rfl (v := .ref (gz_ad G (1019 + (gz_ix (gI m18 r17 0))))) (fun h => cz_a h rfl (by decide) rfl) g25 (fun h => cz_e h (by decide) (far_s _ g25.2) (by omega)) dX0_reckonsWays_103 ?_
    refine gz_aload_n (pc := 104) hX dX0_reckonsWays_104 rfl 0 rfl ?_
    obtain ⟨g26, h⟩ := gz_gu h
    refine cg_X0_202_7 (pc := 105) hX (c := r17) (v := .int (gI m18 r17 1)) (fun _ => g26) (fun _ => rfl) dX0_reckonsWays_105 ?_
    obtain ⟨g27, h⟩ := gz_gu h
    refine gz_iald2 (pc := 108) (c := (1019 + (gz_ix (gI m18 r17 0)))) (n := 8) hX rfl (fun h => cz_a h (far_a _ g25.2).1 (by decide) (far_a _ g25.2).2) g27 dX0_reckonsWays_108 ?_
    refine gz_aload_n (pc := 109) hX dX0_reckonsWays_109 rfl 0 rfl ?_
    obtain ⟨g28, h⟩ := gz_gu h
    refine cg_X0_205_7 (pc := 110) hX (c := r17) (v := .int (gI m18 r17 2)) (fun _ => g28) (fun _ => rfl) dX0_reckonsWays_110 ?_
    obtain ⟨⟨r29, m30⟩, c31, h⟩ := gz_bd h
    refine cc_X0_208 (pc := 113) hX c31 ⟨Nat.le_of_ble_eq_true rfl, Nat.le_of_ble_eq_true rfl⟩ (rest := [.int (gI m18 r17 1), .ref (gz_ad G (1019 + (gz_ix (gI m18 r17 0))))]) rfl (Nat.le_of_ble_eq_true rfl) dX0_reckonsWays_113 ?_
    obtain ⟨g32, h⟩ := gz_gu h
    obtain ⟨m33, em33, h⟩ := gz_lt h
    refine gz_iast2 (pc := 116) (c := (1019 + (gz_ix (gI m18 r17 0)))) (n := 8) hX rfl (fun h => cz_a h (far_a _ g22.2).1 (by decide) (far_a _ g22.2).2) (by omega) g32 dX0_reckonsWays_116 em33 ?_
    refine gz_aload_n (pc := 117) hX dX0_reckonsWays_117 rfl 1 rfl ?_
    refine cg_X0_68_0 (pc := 118) hX (c := 1000) (v := .ref (gz_ad G 1018)) (fun h => cz_k h rfl) (fun h => cz_f h (by decide) rfl (by decide) rfl) dX0_reckonsWays_118 ?_
    refine gz_aload_n (pc := 121) hX dX0_reckonsWays_121 rfl 0 rfl ?_
    obtain ⟨g34, h⟩ := gz_gu h
    refine cg_X0_202_7 (pc := 122) hX (c := r17) (v := .int (gI m33 r17 1)) (fun _ => g34) (fun _ => rfl) dX0_reckonsWays_122 ?_
    obtain ⟨g35, h⟩ := gz_gu h
    refine gz_aald (pc := 125) (c := 1018) (t := 7) (n := 8) hX rfl rfl rfl (v := .ref (gz_ad G (1019 + (gz_ix (gI m33 r17 1))))) (fun h => cz_a h rfl (by decide) rfl) g35 (fun h => cz_e h (by decide) (far_s _ g35.2) (by omega)) dX0_reckonsWays_125 ?_
    refine gz_aload_n (pc := 126) hX dX0_reckonsWays_126 rfl 0 rfl ?_
    obtain ⟨g36, h⟩ := gz_gu h
    refine cg_X0_199_7 (pc := 127) hX (c := r17) (v := .int (gI m33 r17 0)) (fun _ => g36) (fun _ => rfl) dX0_reckonsWays_127 ?_
    refine gz_aload_n (pc := 130) hX dX0_reckonsWays_130 rfl 1 rfl ?_
    refine cg_X0_68_0 (pc := 131) hX (c := 1000) (v := .ref (gz_ad G 1018)) (fun h => cz_k h rfl) (fun h => cz_f h (by decide) rfl (by decide) rfl) dX0_reckonsWays_131 ?_
    refine gz_aload_n (pc := 134) hX dX0_reckonsWays_134 rfl 0 rfl ?_
    obtain ⟨g37, h⟩ := gz_gu h
    refine cg_X0_199_7 (pc := 135) hX (c := r17) (v := .int (gI m33 r17 0)) (fun _ => g37) (fun _ => rfl) dX0_reckonsWays_135 ?_
    obtain ⟨g38, h⟩ := gz_gu h
    refine gz_aald (pc := 138) (c := 1018) (t := 7) (n := 8) hX rfl rfl rfl (v := .ref (gz_ad G (1019 + (gz_ix (gI m33 r17 0))))) (fun h => cz_a h rfl (by decide) rfl) g38 (fun h => cz_e h (by decide) (far_s _ g38.2) (by omega)) dX0_reckonsWays_138 ?_
    refine gz_aload_n (pc := 139) hX dX0_reckonsWays_139 rfl 0 rfl ?_
    obtain ⟨g39, h⟩ := gz_gu h
    refine cg_X0_202_7 (pc := 140) hX (c := r17) (v := .int (gI m33 r17 1)) (fun _ => g39) (fun _ => rfl) dX0_reckonsWays_140 ?_
    obtain ⟨g40, h⟩ := gz_gu h
    refine gz_iald2 (pc := 143) (c := (1019 + (gz_ix (gI m33 r17 0)))) (n := 8) hX rfl (fun h => cz_a h (far_a _ g38.2).1 (by decide) (far_a _ g38.2).2) g40 dX0_reckonsWays_143 ?_
    obtain ⟨g41, h⟩ := gz_gu h
    obtain ⟨m42, em42, h⟩ := gz_lt h
    refine gz_iast2 (pc := 144) (c := (1019 + (gz_ix (gI m33 r17 1)))) (n := 8) hX rfl (fun h => cz_a h (far_a _ g35.2).1 (by decide) (far_a _ g35.2).2) (by omega) g41 dX0_reckonsWays_144 em42 ?_
    obtain ⟨y43, ey43, h⟩ := gz_lt h
    refine gz_iinc (pc := 145) (v := y43) (lw := [(1, .int y43), (2, .ref (gz_ad G r17)), (0, .ref (gz_ad G 1000))]) hX dX0_reckonsWays_145 (k := 2) rfl (by rw [ey43]; rfl) (by decide) rfl ?_
    refine gz_goto (pc := 148) (tgt := 49) hX dX0_reckonsWays_148 (by decide) ?_
    refine gz_sub (lw := [(0, .ref (gz_ad G 1000)), (1, .int y43)]) [2, 0] rfl ?_
    obtain rfl := Option.some.inj h
    exact hk
noncomputable def ml_X0_reckonsWays_49 (x1 : Int32) (m : gM) : Option (Unit × gM) := gz_loop (fun q : (Int32 × gM) => mb_X0_reckonsWays_49 q.1 q.2) (x1, m)
theorem wl_X0_reckonsWays_49 {X : gz_X} {G : gz_G} (hX : gz_C cS X G cX0_reckonsWays 4 RX0 3 64) {x1 : Int32}  {m : gM} {z : (Unit × gM)} (h : ml_X0_reckonsWays_49 x1 m = some z) (hk : (fun z : (Unit × gM) => gz_kV cS X G 4 (0, 0) cX0_reckonsWays z.2) z) : gz_V cS X G 4 (0, 0) m 49 [(0, .ref (gz_ad G 1000)), (1, .int x1)] [] := by
  have hp : mP_X0_reckonsWays_49 X G (x1, m) := gz_loop_ind (fun q z hz hkz => wb_X0_reckonsWays_49 hX  hz hkz) h hk
  exact hp
def mP_X0_reckonsWays_10 (X : gz_X) (G : gz_G) (q : (Int32 × Int32 × gM)) : Prop := gz_V cS X G 4 (0, 0) q.2.2 10 [(0, .ref (gz_ad G 1000)), (1, .int q.1), (2, .int q.2.1)] []
noncomputable def mj_X0_reckonsWays_34 (x1 : Int32) (x2 : Int32) (s0 : Int32) (s1 : Int32) (s2 : Nat) (m : gM) : Option ((Int32 × Int32 × gM) ⊕ ((Int32 × gM) ⊕ (Unit × gM))) :=
  (if (ks s2 = 101 ∧ ns s2 = 8) ∧ 1000 ≤ s2 then (if gz_in s1 (8) then gz_let (gz_sI m s2 (gz_ix s1) s0) fun m3 => gz_let (x2 + (1 : Int32)) fun y4 => some (Sum.inl (x1, y4, m3)) else none) else none)
theorem wb_X0_reckonsWays_34 {X : gz_X} {G : gz_G} (hX : gz_C cS X G cX0_reckonsWays 4 RX0 3 64) {x1 : Int32} {x2 : Int32} {s0 : Int32} {s1 : Int32} {s2 : Nat}  {m : gM} {z : ((Int32 × Int32 × gM) ⊕ ((Int32 × gM) ⊕ (Unit × gM)))} (h : mj_X0_reckonsWays_34 x1 x2 s0 s1 s2 m = some z) (hk : (Sum.elim (mP_X0_reckonsWays_10 X G) (Sum.elim (mP_X0_reckonsWays_2 X G) (fun z : (Unit × gM) => gz_kV cS X G 4 (0, 0) cX0_reckonsWays z.2))) z) : gz_V cS X G 4 (0, 0) m 34 [(0, .ref (gz_ad G 1000)), (1, .int x1), (2, .int x2)] [.int s0, .int s1, .ref (gz_ad G s2)] := by
  unfold mj_X0_reckonsWays_34 at h
  obtain ⟨g1, h⟩ := gz_gu h
  obtain ⟨g2, h⟩ := gz_gu h
  obtain ⟨m3, em3, h⟩ := gz_lt h
  refine gz_iast2 (pc := 34) (c := s2) (n := 8) hX rfl (fun h => cz_a h g1.1.1 (by decide) g1.1.2) g1.2 g2 dX0_reckonsWays_34 em3 ?_
  obtain ⟨y4, ey4, h⟩ := gz_lt h
  refine gz_iinc (pc := 35) (v := y4) (lw := [(2, .int y4), (0, .ref (gz_ad G 1000)), (1, .int x1)]) hX dX0_reckonsWays_35 (k := 2) rfl (by rw [ey4]; rfl) (by decide) rfl ?_
  refine gz_goto (pc := 38) (tgt := 10) hX dX0_reckonsWays_38 (by decide) ?_
  refine gz_sub (lw := [(0, .ref (gz_ad G 1000)), (1, .int x1), (2, .int y4)]) [1, 2, 0] rfl ?_
  obtain rfl := Option.some.inj h
  exact hk
noncomputable def mb_X0_reckonsWays_10 (x1 : Int32) (x2 : Int32) (m : gM) : Option ((Int32 × Int32 × gM) ⊕ ((Int32 × gM) ⊕ (Unit × gM))) :=
  (if (8 : Int32) ≤ x2 then gz_let (x1 + (1 : Int32)) fun y2 => some (Sum.inr (Sum.inl (y2, m))) else (if gz_in x1 (8) then (if x1 = x2 then (mj_X0_reckonsWays_34 x1 x2 (0 : Int32) x2 (1019 + (gz_ix x1)) m) else (mj_X0_reckonsWays_34 x1 x2 (100000000 : Int32) x2 (1019 + (gz_ix x1)) m)) else none))
theorem wb_X0_reckonsWays_10 {X : gz_X} {G : gz_G} (hX : gz_C cS X G cX0_reckonsWays 4 RX0 3 64) {x1 : Int32} {x2 : Int32}  {m : gM} {z : ((Int32 × Int32 × gM) ⊕ ((Int32 × gM) ⊕ (Unit × gM)))} (h : mb_X0_reckonsWays_10 x1 x2 m = some z) (hk : (Sum.elim (mP_X0_reckonsWays_10 X G) (Sum.elim (mP_X0_reckonsWays_2 X G) (fun z : (Unit × gM) => gz_kV cS X G 4 (0, 0) cX0_reckonsWays z.2))) z) : gz_V cS X G 4 (0, 0) m 10 [(0, .ref (gz_ad G 1000)), (1, .int x1), (2, .int x2)] [] := by
  unfold mb_X0_reckonsWays_10 at h
  refine gz_iload_n (pc := 10) hX dX0_reckonsWays_10 rfl 2 rfl ?_
  refine gz_bipush (pc := 11) (v := (8 : Int32)) hX dX0_reckonsWays_11 (by decide) ?_
  refine gz_icmp_ge (pc := 13) (tgt := 41) hX dX0_reckonsWays_13 (by decide) (fun g1 => ?_) (fun g1 => ?_)
  · replace h := gz_it' g1 h
    obtain ⟨y2, ey2, h⟩ := gz_lt h
    refine gz_iinc (pc := 41) (v := y2) (lw := [(1, .int y2), (0, .ref (gz_ad G 1000)), (2, .int x2)]) hX dX0_reckonsWays_41 (k := 1) rfl (by rw [ey2]; rfl) (by decide) rfl ?_
    refine gz_goto (pc := 44) (tgt := 2) hX dX0_reckonsWays_44 (by decide) ?_
    refine gz_sub (lw := [(0, .ref (gz_ad G 1000)), (1, .int y2)]) [1, 0] rfl ?_
    obtain rfl := Option.some.inj h
    exact hk
  · replace h := gz_if' g1 h
    refine gz_aload_n (pc := 16) hX dX0_reckonsWays_16 rfl 0 rfl ?_
    refine cg_X0_68_0 (pc := 17) hX (c := 1000) (v := .ref (gz_ad G 1018)) (fun h => cz_k h rfl) (fun h => cz_f h (by decide) rfl (by decide) rfl) dX0_reckonsWays_17 ?_
    refine gz_iload_n (pc := 20) hX dX0_reckonsWays_20 rfl 1 rfl ?_
    obtain ⟨g3, h⟩ := gz_gu h
    refine gz_aald (pc := 21) (c := 1018) (t := 7) (n := 8) hX rfl rfl rfl (v := .ref (gz_ad G (1019 + (gz_ix x1)))) (fun h => cz_a h rfl (by decide) rfl) g3 (fun h => cz_e h (by decide) (far_s _ g3.2) (by omega)) dX0_reckonsWays_21 ?_
    refine gz_iload_n (pc := 22) hX dX0_reckonsWays_22 rfl 2 rfl ?_
    refine gz_iload_n (pc := 23) hX dX0_reckonsWays_23 rfl 1 rfl ?_
    refine gz_iload_n (pc := 24) hX dX0_reckonsWays_24 rfl 2 rfl ?_
    refine gz_icmp_ne (pc := 25) (tgt := 32) hX dX0_reckonsWays_25 (by decide) (fun g4 => ?_) (fun g4 => ?_)
    · replace h := gz_if' g4 h
      refine gz_ldc (pc := 32) (v := (100000000 : Int32)) hX q462 dX0_reckonsWays_32 ?_
      exact wb_X0_reckonsWays_34 hX h hk
    · replace h := gz_it' g4 h
      refine gz_iconst (pc := 28) (v := (0 : Int32)) hX dX0_reckonsWays_28 (by decide) ?_
      refine gz_goto (pc := 29) (tgt := 34) hX dX0_reckonsWays_29 (by decide) ?_
      exact wb_X0_reckonsWays_34 hX h hk
noncomputable def ml_X0_reckonsWays_10 (x1 : Int32) (x2 : Int32) (m : gM) : Option ((Int32 × gM) ⊕ (Unit × gM)) := gz_loop (fun q : (Int32 × Int32 × gM) => mb_X0_reckonsWays_10 q.1 q.2.1 q.2.2) (x1, x2, m)
theorem wl_X0_reckonsWays_10 {X : gz_X} {G : gz_G} (hX : gz_C cS X G cX0_reckonsWays 4 RX0 3 64) {x1 : Int32} {x2 : Int32}  {m : gM} {z : ((Int32 × gM) ⊕ (Unit × gM))} (h : ml_X0_reckonsWays_10 x1 x2 m = some z) (hk : (Sum.elim (mP_X0_reckonsWays_2 X G) (fun z : (Unit × gM) => gz_kV cS X G 4 (0, 0) cX0_reckonsWays z.2)) z) : gz_V cS X G 4 (0, 0) m 10 [(0, .ref (gz_ad G 1000)), (1, .int x1), (2, .int x2)] [] := by
  have hp : mP_X0_reckonsWays_10 X G (x1, x2, m) := gz_loop_ind (fun q z hz hkz => wb_X0_reckonsWays_10 hX  hz hkz) h hk
  exact hp
noncomputable def mb_X0_reckonsWays_2 (x1 : Int32) (m : gM) : Option ((Int32 × gM) ⊕ (Unit × gM)) :=
  (if (8 : Int32) ≤ x1 then (Option.map Sum.inr (ml_X0_reckonsWays_49 (0 : Int32) m)) else (ml_X0_reckonsWays_10 x1 (0 : Int32) m))
theorem wb_X0_reckonsWays_2 {X : gz_X} {G : gz_G} (hX : gz_C cS X G cX0_reckonsWays 4 RX0 3 64) {x1 : Int32}  {m : gM} {z : ((Int32 × gM) ⊕ (Unit × gM))} (h : mb_X0_reckonsWays_2 x1 m = some z) (hk : (Sum.elim (mP_X0_reckonsWays_2 X G) (fun z : (Unit × gM) => gz_kV cS X G 4 (0, 0) cX0_reckonsWays z.2)) z) : gz_V cS X G 4 (0, 0) m 2 [(0, .ref (gz_ad G 1000)), (1, .int x1)] [] := by
  unfold mb_X0_reckonsWays_2 at h
  refine gz_iload_n (pc := 2) hX dX0_reckonsWays_2 rfl 1 rfl ?_
  refine gz_bipush (pc := 3) (v := (8 : Int32)) hX dX0_reckonsWays_3 (by decide) ?_
  refine gz_icmp_ge (pc := 5) (tgt := 47) hX dX0_reckonsWays_5 (by decide) (fun g1 => ?_) (fun g1 => ?_)
  · replace h := gz_it' g1 h
    refine gz_iconst (pc := 47) (v := (0 : Int32)) hX dX0_reckonsWays_47 (by decide) ?_
    refine gz_istore_n (pc := 48) (lw := [(1, .int (0 : Int32)), (0, .ref (gz_ad G 1000))]) hX dX0_reckonsWays_48 rfl (by decide) rfl ?_
    refine gz_sub (lw := [(0, .ref (gz_ad G 1000)), (1, .int (0 : Int32))]) [1, 0] rfl ?_
    obtain ⟨z0, hm0, rfl⟩ := gz_mp h
    exact wl_X0_reckonsWays_49 hX hm0 hk
  · replace h := gz_if' g1 h
    refine gz_iconst (pc := 8) (v := (0 : Int32)) hX dX0_reckonsWays_8 (by decide) ?_
    refine gz_istore_n (pc := 9) (lw := [(2, .int (0 : Int32)), (0, .ref (gz_ad G 1000)), (1, .int x1)]) hX dX0_reckonsWays_9 rfl (by decide) rfl ?_
    refine gz_sub (lw := [(0, .ref (gz_ad G 1000)), (1, .int x1), (2, .int (0 : Int32))]) [1, 2, 0] rfl ?_
    exact wl_X0_reckonsWays_10 hX h hk
noncomputable def ml_X0_reckonsWays_2 (x1 : Int32) (m : gM) : Option (Unit × gM) := gz_loop (fun q : (Int32 × gM) => mb_X0_reckonsWays_2 q.1 q.2) (x1, m)
theorem wl_X0_reckonsWays_2 {X : gz_X} {G : gz_G} (hX : gz_C cS X G cX0_reckonsWays 4 RX0 3 64) {x1 : Int32}  {m : gM} {z : (Unit × gM)} (h : ml_X0_reckonsWays_2 x1 m = some z) (hk : (fun z : (Unit × gM) => gz_kV cS X G 4 (0, 0) cX0_reckonsWays z.2) z) : gz_V cS X G 4 (0, 0) m 2 [(0, .ref (gz_ad G 1000)), (1, .int x1)] [] := by
  have hp : mP_X0_reckonsWays_2 X G (x1, m) := gz_loop_ind (fun q z hz hkz => wb_X0_reckonsWays_2 hX  hz hkz) h hk
  exact hp
noncomputable def cf_X0_reckonsWays  (m : gM) : Option (Unit × gM) :=
  (ml_X0_reckonsWays_2 (0 : Int32) m)
theorem wm_X0_reckonsWays {X : gz_X} {G : gz_G} (hX : gz_C cS X G cX0_reckonsWays 4 RX0 3 64)   {m : gM} {z : (Unit × gM)} (h : cf_X0_reckonsWays  m = some z) (hk : (fun z : (Unit × gM) => gz_kV cS X G 4 (0, 0) cX0_reckonsWays z.2) z) : gz_V cS X G 4 (0, 0) m 0 [(0, .ref (gz_ad G 1000))] [] := by
  unfold cf_X0_reckonsWays at h
  refine gz_iconst (pc := 0) (v := (0 : Int32)) hX dX0_reckonsWays_0 (by decide) ?_
  refine gz_istore_n (pc := 1) (lw := [(1, .int (0 : Int32)), (0, .ref (gz_ad G 1000))]) hX dX0_reckonsWays_1 rfl (by decide) rfl ?_
  refine gz_sub (lw := [(0, .ref (gz_ad G 1000)), (1, .int (0 : Int32))]) [1, 0] rfl ?_
  exact wl_X0_reckonsWays_2 hX h hk
theorem ct_X0_reckonsWays {G : gz_G} {l : Launch}   {m m9 : gM} (h : cf_X0_reckonsWays  m = some ((), m9)) : gz_Met cS G l yX0_reckonsWays cX0_reckonsWays 4 none (mRm 3 64) [.ref (gz_ad G 1000)] m m9 none :=
  gz_ofV (by decide +kernel) (Nat.le_of_ble_eq_true rfl) fun X _ hX hk => wm_X0_reckonsWays hX h hk
theorem ck_X0_189 {X : gz_X} {G : gz_G} {cc : ByteArray} {nL fr lo pc : Nat} {rem : Nat × Nat} {m : gM} {lv : List (Nat × Value)} {st : List Value} (hX : gz_C cS X G cc nL RX0 fr lo) {c : Nat} (hK : m.1 c = 9) (hd : decode cc pc = .ok (.checkcast 189, 3)) (kk : gz_V cS X G nL rem m (pc + 3) lv (.ref (gz_ad G c) :: st)) : gz_V cS X G nL rem m pc lv (.ref (gz_ad G c) :: st) := by
  intro H locs ls cs hR hC hA hl
  have z := hK
  exact va_castS hX.1 hX.2.1 hX.2.2.2.1 (hX.2.2.2.2.1 _ q1313) (hX.2.2.2.2.2.1.1.1 8 (RX9, TX9, 4) rfl).2 (gz_recv (X := X) hX.2.2.2.2.2.1 hR (ci := 8) (c := c) (q := (RX9, TX9, 4)) rfl (by decide) z) hd (kk H locs ls cs hR hC hA hl)
/-! FirstSnuffer.thingOf(I)LFirstSnuffer$Burning; -/
noncomputable def cf_X0_thingOf (x1 : Int32) (m : gM) : Option (Nat × gM) :=
  gz_let (gP m 1000 0) fun r1 => (if r1 ≠ 0 then (if gK m r1 = 2 then gz_let (gP m r1 5) fun r4 => (if r4 ≠ 0 then (if gK m r4 = 21 then ((cf_J2_get r4 x1 m).bind fun (r7, m8) => (if gK m8 r7 = 9 then some (r7, m8) else none)) else none) else none) else none) else none)
theorem wm_X0_thingOf {X : gz_X} {G : gz_G} (hX : gz_C cS X G cX0_thingOf 2 RX0 3 64) {x1 : Int32}  {m : gM} {z : (Nat × gM)} (h : cf_X0_thingOf x1 m = some z) (hk : (fun z : (Nat × gM) => gz_kR cS X G 2 (0, 0) cX0_thingOf z.2 z.1) z) : gz_V cS X G 2 (0, 0) m 0 [(0, .ref (gz_ad G 1000)), (1, .int x1)] [] := by
  unfold cf_X0_thingOf at h
  refine gz_aload_n (pc := 0) hX dX0_thingOf_0 rfl 0 rfl ?_
  obtain ⟨r1, er1, h⟩ := gz_lt h
  obtain ⟨g2, h⟩ := gz_gu h
  refine cg_X0_31_0 (pc := 1) hX (c := 1000) (v := .ref (gz_ad G r1)) (fun h => cz_k h rfl) (fun _ => gz_rq er1 g2) dX0_thingOf_1 ?_
  obtain ⟨g3, h⟩ := gz_gu h
  obtain ⟨r4, er4, h⟩ := gz_lt h
  obtain ⟨g5, h⟩ := gz_gu h
  refine cg_X0_173_1 (pc := 4) hX (c := r1) (v := .ref (gz_ad G r4)) (fun _ => g3) (fun _ => gz_rq er4 g5) dX0_thingOf_4 ?_
  refine gz_iload_n (pc := 7) hX dX0_thingOf_7 rfl 1 rfl ?_
  obtain ⟨g6, h⟩ := gz_gu h
  obtain ⟨⟨r7, m8⟩, c9, h⟩ := gz_bd h
  refine cc_X0_185 (pc := 8) hX (fun _ => g6) c9 ⟨Nat.le_of_ble_eq_true rfl, Nat.le_of_ble_eq_true rfl⟩ (rest := []) rfl (Nat.le_of_ble_eq_true rfl) dX0_thingOf_8 ?_
  obtain ⟨g10, h⟩ := gz_gu h
  refine ck_X0_189 (pc := 13) hX (c := r7) g10 dX0_thingOf_13 ?_
  obtain rfl := Option.some.inj h
  exact hk _ _ dX0_thingOf_16
theorem ct_X0_thingOf {G : gz_G} {l : Launch} {x1 : Int32}  {m m9 : gM} {r : Nat} (h : cf_X0_thingOf x1 m = some (r, m9)) : gz_Met cS G l yX0_thingOf cX0_thingOf 2 (some (.object "FirstSnuffer$Burning")) (mRm 3 64) [.ref (gz_ad G 1000), .int x1] m m9 (some (.ref (gz_ad G r))) :=
  gz_ofR (Or.inl ⟨_, rfl⟩) (by decide +kernel) (Nat.le_of_ble_eq_true rfl) fun X _ hX hk => wm_X0_thingOf hX h hk
theorem cc_X0_217 {X : gz_X} {G : gz_G} {cc : ByteArray} {nL fr lo pc : Nat} {rem : Nat × Nat} {lv : List (Nat × Value)} {rest st0 : List Value} (hX : gz_C cS X G cc nL RX0 fr lo) {c0 : Nat} {m m9 : gM} (hK : clc m.1 m.2.1 m.2.2.2.2.1 → m.1 c0 = 5 + 1) (hs_c0 : cSt c0 = true) {r : Int32} (h : cf_X5_lit c0 m = some (r, m9)) (hroom : 2 + 1 ≤ fr ∧ 8 + (3 + 11) + 40 ≤ lo) (hst : st0 = [.ref (gz_ad G c0)] ++ rest) (hW : (rest.map fun v => v.category).sum ≤ 8) (hd : decode cc pc = .ok (.invokevirtual 217, 3)) (kk : gz_V cS X G nL rem m9 (pc + 3) lv (.int r :: rest)) : gz_V cS X G nL rem m pc lv st0 :=
  gz_callV2 hX cs_E (As := []) (rest := rest) (q := (RX5, TX5, 10)) (ci := 5) (c := c0) (ct_X5_lit (l := X.2.1) hs_c0 h) (lw_V q1328 q1329 q1330 q178 q1331) (n := 0) (by decide +kernel) hroom rfl rfl (by decide) hK hst hW hd (rem := rem) kk
theorem cc_X0_220 {X : gz_X} {G : gz_G} {cc : ByteArray} {nL fr lo pc : Nat} {rem : Nat × Nat} {lv : List (Nat × Value)} {rest st0 : List Value} (hX : gz_C cS X G cc nL RX0 fr lo) {x0 : Int32} {m m9 : gM}  {r : Int32} (h : cf_J16_bitCount x0 m = some (r, m9)) (hroom : 0 + 1 ≤ fr ∧ 8 + (1 + 11) + 0 ≤ lo) (hst : st0 = [.int x0] ++ rest) (hW : (rest.map fun v => v.category).sum ≤ 8) (hd : decode cc pc = .ok (.invokestatic 220, 3)) (kk : gz_V cS X G nL rem m9 (pc + 3) lv (.int r :: rest)) : gz_V cS X G nL rem m pc lv st0 :=
  gz_callS hX cs_E (As := [.int x0]) (rest := rest) (ct_J16_bitCount (l := X.2.1) h) (lw_S q1336 q1337 q206 q1338) (n := 1) (by decide +kernel) hroom rfl hst hW hd (rem := rem) kk
/-! FirstSnuffer.has(I)I -/
noncomputable def cf_X0_has_2 (x1 : Int32) (m : gM) : Option (Int32 × gM) :=
  (if x1 = (0 : Int32) then ((cf_X0_halls m).bind fun (r2, m3) => some (r2, m3)) else (if x1 = (1 : Int32) then gz_let (gP m 1000 0) fun r6 => (if r6 ≠ 0 then (if gK m r6 = 2 then gz_let (gP m r6 4) fun r9 => (if r9 ≠ 0 then (if gK m r9 = 21 then ((cf_J2_size r9 m).bind fun (r12, m13) => some (r12, m13)) else none) else none) else none) else none) else (if x1 = (2 : Int32) then ((cf_X0_things m).bind fun (r16, m17) => some (r16, m17)) else (if x1 = (3 : Int32) then ((cf_X0_ties m).bind fun (r20, m21) => some (r20, m21)) else (if x1 = (4 : Int32) then some ((gI m 1027 0), m) else (if x1 = (5 : Int32) then some ((gI m 1027 2), m) else (if x1 = (6 : Int32) then ((cf_X5_lit 1027 m).bind fun (r26, m27) => ((cf_J16_bitCount r26 m27).bind fun (r29, m30) => some (r29, m30))) else (if x1 = (7 : Int32) then ((cf_J16_bitCount (gI m 1027 3) m).bind fun (r33, m34) => some (r33, m34)) else (if x1 = (8 : Int32) then some ((gI m 1027 1), m) else (if x1 = (9 : Int32) then some ((gI m 1000 20), m) else (if x1 = (10 : Int32) then some ((gI m 1000 23), m) else some ((-1 : Int32), m))))))))))))
theorem wm_X0_has_2 {X : gz_X} {G : gz_G} (hX : gz_C cS X G cX0_has_2 2 RX0 3 62) {x1 : Int32}  {m : gM} {z : (Int32 × gM)} (h : cf_X0_has_2 x1 m = some z) (hk : (fun z : (Int32 × gM) => gz_kI cS X G 2 (0, 0) cX0_has_2 z.2 z.1) z) : gz_V cS X G 2 (0, 0) m 0 [(0, .ref (gz_ad G 1000)), (1, .int x1)] [] := by
  unfold cf_X0_has_2 at h
  refine gz_iload_n (pc := 0) hX dX0_has_2_0 rfl 1 rfl ?_
  by_cases g1 : x1 = (0 : Int32)
  · replace h := gz_it' g1 h
    refine gz_tsIn (pc := 1) (tgt := 60) (off := 59) (v := (0 : Int32)) hX g1 dX0_has_2_1 (by decide) (by decide) ?_
    refine gz_aload_n (pc := 60) hX dX0_has_2_60 rfl 0 rfl ?_
    obtain ⟨⟨r2, m3⟩, c4, h⟩ := gz_bd h
    refine cc_X0_179 (pc := 61) hX (fun h => cz_k h rfl) c4 ⟨Nat.le_of_ble_eq_true rfl, Nat.le_of_ble_eq_true rfl⟩ (rest := []) rfl (Nat.le_of_ble_eq_true rfl) dX0_has_2_61 ?_
    obtain rfl := Option.some.inj h
    exact hk _ _ dX0_has_2_64
  · replace h := gz_if' g1 h
    by_cases g5 : x1 = (1 : Int32)
    · replace h := gz_it' g5 h
      refine gz_tsIn (pc := 1) (tgt := 65) (off := 64) (v := (1 : Int32)) hX g5 dX0_has_2_1 (by decide) (by decide) ?_
      refine gz_aload_n (pc := 65) hX dX0_has_2_65 rfl 0 rfl ?_
      obtain ⟨r6, er6, h⟩ := gz_lt h
      obtain ⟨g7, h⟩ := gz_gu h
      refine cg_X0_31_0 (pc := 66) hX (c := 1000) (v := .ref (gz_ad G r6)) (fun h => cz_k h rfl) (fun _ => gz_rq er6 g7) dX0_has_2_66 ?_
      obtain ⟨g8, h⟩ := gz_gu h
      obtain ⟨r9, er9, h⟩ := gz_lt h
      obtain ⟨g10, h⟩ := gz_gu h
      refine cg_X0_194_1 (pc := 69) hX (c := r6) (v := .ref (gz_ad G r9)) (fun _ => g8) (fun _ => gz_rq er9 g10) dX0_has_2_69 ?_
      obtain ⟨g11, h⟩ := gz_gu h
      obtain ⟨⟨r12, m13⟩, c14, h⟩ := gz_bd h
      refine cc_X0_168 (pc := 72) hX (fun _ => g11) c14 ⟨Nat.le_of_ble_eq_true rfl, Nat.le_of_ble_eq_true rfl⟩ (rest := []) rfl (Nat.le_of_ble_eq_true rfl) dX0_has_2_72 ?_
      obtain rfl := Option.some.inj h
      exact hk _ _ dX0_has_2_77
    · replace h := gz_if' g5 h
      by_cases g15 : x1 = (2 : Int32)
      · replace h := gz_it' g15 h
        refine gz_tsIn (pc := 1) (tgt := 78) (off := 77) (v := (2 : Int32)) hX g15 dX0_has_2_1 (by decide) (by decide) ?_
        refine gz_aload_n (pc := 78) hX dX0_has_2_78 rfl 0 rfl ?_
        obtain ⟨⟨r16, m17⟩, c18, h⟩ := gz_bd h
        refine cc_X0_181 (pc := 79) hX (fun h => cz_k h rfl) c18 ⟨Nat.le_of_ble_eq_true rfl, Nat.le_of_ble_eq_true rfl⟩ (rest := []) rfl (Nat.le_of_ble_eq_true rfl) dX0_has_2_79 ?_
        obtain rfl := Option.some.inj h
        exact hk _ _ dX0_has_2_82
      · replace h := gz_if' g15 h
        by_cases g19 : x1 = (3 : Int32)
        · replace h := gz_it' g19 h
          refine gz_tsIn (pc := 1) (tgt := 83) (off := 82) (v := (3 : Int32)) hX g19 dX0_has_2_1 (by decide) (by decide) ?_
          refine gz_aload_n (pc := 83) hX dX0_has_2_83 rfl 0 rfl ?_
          obtain ⟨⟨r20, m21⟩, c22, h⟩ := gz_bd h
          refine cc_X0_183 (pc := 84) hX (fun h => cz_k h rfl) c22 ⟨Nat.le_of_ble_eq_true rfl, Nat.le_of_ble_eq_true rfl⟩ (rest := []) rfl (Nat.le_of_ble_eq_true rfl) dX0_has_2_84 ?_
          obtain rfl := Option.some.inj h
          exact hk _ _ dX0_has_2_87
        · replace h := gz_if' g19 h
          by_cases g23 : x1 = (4 : Int32)
          · replace h := gz_it' g23 h
            refine gz_tsIn (pc := 1) (tgt := 88) (off := 87) (v := (4 : Int32)) hX g23 dX0_has_2_1 (by decide) (by decide) ?_
            refine gz_aload_n (pc := 88) hX dX0_has_2_88 rfl 0 rfl ?_
            refine cg_X0_74_0 (pc := 89) hX (c := 1000) (v := .ref (gz_ad G 1027)) (fun h => cz_k h rfl) (fun h => cz_f h (by decide) rfl (by decide) rfl) dX0_has_2_89 ?_
            refine cg_X0_211_5 (pc := 92) hX (c := 1027) (v := .int (gI m 1027 0)) (fun h => cz_k h rfl) (fun _ => rfl) dX0_has_2_92 ?_
            obtain rfl := Option.some.inj h
            exact hk _ _ dX0_has_2_95
          · replace h := gz_if' g23 h
            by_cases g24 : x1 = (5 : Int32)
            · replace h := gz_it' g24 h
              refine gz_tsIn (pc := 1) (tgt := 96) (off := 95) (v := (5 : Int32)) hX g24 dX0_has_2_1 (by decide) (by decide) ?_
              refine gz_aload_n (pc := 96) hX dX0_has_2_96 rfl 0 rfl ?_
              refine cg_X0_74_0 (pc := 97) hX (c := 1000) (v := .ref (gz_ad G 1027)) (fun h => cz_k h rfl) (fun h => cz_f h (by decide) rfl (by decide) rfl) dX0_has_2_97 ?_
              refine cg_X0_214_5 (pc := 100) hX (c := 1027) (v := .int (gI m 1027 2)) (fun h => cz_k h rfl) (fun _ => rfl) dX0_has_2_100 ?_
              obtain rfl := Option.some.inj h
              exact hk _ _ dX0_has_2_103
            · replace h := gz_if' g24 h
              by_cases g25 : x1 = (6 : Int32)
              · replace h := gz_it' g25 h
                refine gz_tsIn (pc := 1) (tgt := 104) (off := 103) (v := (6 : Int32)) hX g25 dX0_has_2_1 (by decide) (by decide) ?_
                refine gz_aload_n (pc := 104) hX dX0_has_2_104 rfl 0 rfl ?_
                refine cg_X0_74_0 (pc := 105) hX (c := 1000) (v := .ref (gz_ad G 1027)) (fun h => cz_k h rfl) (fun h => cz_f h (by decide) rfl (by decide) rfl) dX0_has_2_105 ?_
                obtain ⟨⟨r26, m27⟩, c28, h⟩ := gz_bd h
                refine cc_X0_217 (pc := 108) hX (fun h => cz_k h rfl) (by decide) c28 ⟨Nat.le_of_ble_eq_true rfl, Nat.le_of_ble_eq_true rfl⟩ (rest := []) rfl (Nat.le_of_ble_eq_true rfl) dX0_has_2_108 ?_
                obtain ⟨⟨r29, m30⟩, c31, h⟩ := gz_bd h
                refine cc_X0_220 (pc := 111) hX c31 ⟨Nat.le_of_ble_eq_true rfl, Nat.le_of_ble_eq_true rfl⟩ (rest := []) rfl (Nat.le_of_ble_eq_true rfl) dX0_has_2_111 ?_
                obtain rfl := Option.some.inj h
                exact hk _ _ dX0_has_2_114
              · replace h := gz_if' g25 h
                by_cases g32 : x1 = (7 : Int32)
                · replace h := gz_it' g32 h
                  refine gz_tsIn (pc := 1) (tgt := 115) (off := 114) (v := (7 : Int32)) hX g32 dX0_has_2_1 (by decide) (by decide) ?_
                  refine gz_aload_n (pc := 115) hX dX0_has_2_115 rfl 0 rfl ?_
                  refine cg_X0_74_0 (pc := 116) hX (c := 1000) (v := .ref (gz_ad G 1027)) (fun h => cz_k h rfl) (fun h => cz_f h (by decide) rfl (by decide) rfl) dX0_has_2_116 ?_
                  refine cg_X0_225_5 (pc := 119) hX (c := 1027) (v := .int (gI m 1027 3)) (fun h => cz_k h rfl) (fun _ => rfl) dX0_has_2_119 ?_
                  obtain ⟨⟨r33, m34⟩, c35, h⟩ := gz_bd h
                  refine cc_X0_220 (pc := 122) hX c35 ⟨Nat.le_of_ble_eq_true rfl, Nat.le_of_ble_eq_true rfl⟩ (rest := []) rfl (Nat.le_of_ble_eq_true rfl) dX0_has_2_122 ?_
                  obtain rfl := Option.some.inj h
                  exact hk _ _ dX0_has_2_125
                · replace h := gz_if' g32 h
                  by_cases g36 : x1 = (8 : Int32)
                  · replace h := gz_it' g36 h
                    refine gz_tsIn (pc := 1) (tgt := 126) (off := 125) (v := (8 : Int32)) hX g36 dX0_has_2_1 (by decide) (by decide) ?_
                    refine gz_aload_n (pc := 126) hX dX0_has_2_126 rfl 0 rfl ?_
                    refine cg_X0_74_0 (pc := 127) hX (c := 1000) (v := .ref (gz_ad G 1027)) (fun h => cz_k h rfl) (fun h => cz_f h (by decide) rfl (by decide) rfl) dX0_has_2_127 ?_
                    refine cg_X0_228_5 (pc := 130) hX (c := 1027) (v := .int (gI m 1027 1)) (fun h => cz_k h rfl) (fun _ => rfl) dX0_has_2_130 ?_
                    obtain rfl := Option.some.inj h
                    exact hk _ _ dX0_has_2_133
                  · replace h := gz_if' g36 h
                    by_cases g37 : x1 = (9 : Int32)
                    · replace h := gz_it' g37 h
                      refine gz_tsIn (pc := 1) (tgt := 134) (off := 133) (v := (9 : Int32)) hX g37 dX0_has_2_1 (by decide) (by decide) ?_
                      refine gz_aload_n (pc := 134) hX dX0_has_2_134 rfl 0 rfl ?_
                      refine cg_X0_158_0 (pc := 135) hX (c := 1000) (v := .int (gI m 1000 20)) (fun h => cz_k h rfl) (fun _ => rfl) dX0_has_2_135 ?_
                      obtain rfl := Option.some.inj h
                      exact hk _ _ dX0_has_2_138
                    · replace h := gz_if' g37 h
                      by_cases g38 : x1 = (10 : Int32)
                      · replace h := gz_it' g38 h
                        refine gz_tsIn (pc := 1) (tgt := 139) (off := 138) (v := (10 : Int32)) hX g38 dX0_has_2_1 (by decide) (by decide) ?_
                        refine gz_aload_n (pc := 139) hX dX0_has_2_139 rfl 0 rfl ?_
                        refine cg_X0_155_0 (pc := 140) hX (c := 1000) (v := .int (gI m 1000 23)) (fun h => cz_k h rfl) (fun _ => rfl) dX0_has_2_140 ?_
                        obtain rfl := Option.some.inj h
                        exact hk _ _ dX0_has_2_143
                      · replace h := gz_if' g38 h
                        have ng1 := lv_neT g1 (a := 0) (by decide)
                        have ng5 := lv_neT g5 (a := 1) (by decide)
                        have ng15 := lv_neT g15 (a := 2) (by decide)
                        have ng19 := lv_neT g19 (a := 3) (by decide)
                        have ng23 := lv_neT g23 (a := 4) (by decide)
                        have ng24 := lv_neT g24 (a := 5) (by decide)
                        have ng25 := lv_neT g25 (a := 6) (by decide)
                        have ng32 := lv_neT g32 (a := 7) (by decide)
                        have ng36 := lv_neT g36 (a := 8) (by decide)
                        have ng37 := lv_neT g37 (a := 9) (by decide)
                        have ng38 := lv_neT g38 (a := 10) (by decide)
                        refine gz_tsOut (pc := 1) (tgt := 144) hX dX0_has_2_1 (by omega) (by decide) ?_
                        refine gz_iconst (pc := 144) (v := (-1 : Int32)) hX dX0_has_2_144 (by decide) ?_
                        obtain rfl := Option.some.inj h
                        exact hk _ _ dX0_has_2_145
theorem ct_X0_has_2 {G : gz_G} {l : Launch} {x1 : Int32}  {m m9 : gM} {r : Int32} (h : cf_X0_has_2 x1 m = some (r, m9)) : gz_Met cS G l yX0_has_2 cX0_has_2 2 (some .int) (mRm 3 62) [.ref (gz_ad G 1000), .int x1] m m9 (some (.int r)) :=
  gz_ofI (by decide +kernel) (Nat.le_of_ble_eq_true rfl) fun X _ hX hk => wm_X0_has_2 hX h hk
theorem ck_X0_235 {X : gz_X} {G : gz_G} {cc : ByteArray} {nL fr lo pc : Nat} {rem : Nat × Nat} {m : gM} {lv : List (Nat × Value)} {st : List Value} (hX : gz_C cS X G cc nL RX0 fr lo) {c : Nat} (hK : m.1 c = 7 ∨ m.1 c = 9) (hd : decode cc pc = .ok (.checkcast 235, 3)) (kk : gz_V cS X G nL rem m (pc + 3) lv (.ref (gz_ad G c) :: st)) : gz_V cS X G nL rem m pc lv (.ref (gz_ad G c) :: st) := by
  intro H locs ls cs hR hC hA hl
  rcases hK with z | z
  · exact va_castS hX.1 hX.2.1 hX.2.2.2.1 (hX.2.2.2.2.1 _ q1347) (hX.2.2.2.2.2.1.1.1 6 (RX7, TX7, 1) rfl).2 (gz_recv (X := X) hX.2.2.2.2.2.1 hR (ci := 6) (c := c) (q := (RX7, TX7, 1)) rfl (by decide) z) hd (kk H locs ls cs hR hC hA hl)
  · obtain ⟨cell, q1, q2, q3⟩ := gz_recv (X := X) hX.2.2.2.2.2.1 hR (ci := 8) (c := c) (q := (RX9, TX9, 4)) rfl (by decide) z
    exact va_castY hX.1 hX.2.1 (C := RX9) hX.2.2.2.1 (hX.2.2.2.2.1 _ q1347) (cz_n (Z := cS) hX q2662 rfl) ⟨cell, q1, q2, q3⟩ hd (kk H locs ls cs hR hC hA hl)
theorem cc_X0_237 {X : gz_X} {G : gz_G} {cc : ByteArray} {nL fr lo pc : Nat} {rem : Nat × Nat} {lv : List (Nat × Value)} {rest st0 : List Value} (hX : gz_C cS X G cc nL RX0 fr lo) {c0 : Nat} {x1 : Int32} {m m9 : gM} (hK : clc m.1 m.2.1 m.2.2.2.2.1 → m.1 c0 = 6 + 1)  {r : Int32} (h : cf_X7_signAt c0 x1 m = some (r, m9)) (hroom : 5 + 1 ≤ fr ∧ 8 + (2 + 11) + 106 ≤ lo) (hst : st0 = [.int x1, .ref (gz_ad G c0)] ++ rest) (hW : (rest.map fun v => v.category).sum ≤ 8) (hd : decode cc pc = .ok (.invokevirtual 237, 3)) (kk : gz_V cS X G nL rem m9 (pc + 3) lv (.int r :: rest)) : gz_V cS X G nL rem m pc lv st0 :=
  gz_callV2 hX cs_E (As := [.int x1]) (rest := rest) (q := (RX7, TX7, 1)) (ci := 6) (c := c0) (ct_X7_signAt (l := X.2.1) h) (lw_V q1348 q1349 q1350 q187 q1353) (n := 1) (by decide +kernel) hroom rfl rfl (by decide) hK hst hW hd (rem := rem) kk
/-! FirstSnuffer.letter(III)I -/
noncomputable def mj_X0_letter_22  (m : gM) : Option (Int32 × gM) :=
  some ((-1 : Int32), m)
theorem wb_X0_letter_22 {X : gz_X} {G : gz_G} (hX : gz_C cS X G cX0_letter 5 RX0 6 127)   {m : gM} {z : (Int32 × gM)} (h : mj_X0_letter_22  m = some z) (hk : (fun z : (Int32 × gM) => gz_kI cS X G 5 (0, 0) cX0_letter z.2 z.1) z) : gz_V cS X G 5 (0, 0) m 22 [(0, .ref (gz_ad G 1000))] [] := by
  unfold mj_X0_letter_22 at h
  refine gz_iconst (pc := 22) (v := (-1 : Int32)) hX dX0_letter_22 (by decide) ?_
  obtain rfl := Option.some.inj h
  exact hk _ _ dX0_letter_23
noncomputable def mj_X0_letter_45 (x2 : Int32) (x3 : Int32) (s0 : Nat) (m : gM) : Option (Int32 × gM) :=
  (if gK m s0 = 21 then ((cf_J2_size s0 m).bind fun (r2, m3) => (if r2 ≤ x2 then some ((-1 : Int32), m3) else (if gK m3 s0 = 21 then ((cf_J2_get s0 x2 m3).bind fun (r7, m8) => (if gK m8 r7 = 7 ∨ gK m8 r7 = 9 then (if gK m8 r7 = 7 then ((cf_X7_signAt r7 x3 m8).bind fun (r12, m13) => some (r12, m13)) else none) else none)) else none))) else none)
theorem wb_X0_letter_45 {X : gz_X} {G : gz_G} (hX : gz_C cS X G cX0_letter 5 RX0 6 127) {x2 : Int32} {x3 : Int32} {s0 : Nat}  {m : gM} {z : (Int32 × gM)} (h : mj_X0_letter_45 x2 x3 s0 m = some z) (hk : (fun z : (Int32 × gM) => gz_kI cS X G 5 (0, 0) cX0_letter z.2 z.1) z) : gz_V cS X G 5 (0, 0) m 45 [(0, .ref (gz_ad G 1000)), (2, .int x2), (3, .int x3)] [.ref (gz_ad G s0)] := by
  unfold mj_X0_letter_45 at h
  refine gz_astore (pc := 45) (lw := [(4, .ref (gz_ad G s0)), (0, .ref (gz_ad G 1000)), (2, .int x2), (3, .int x3)]) hX dX0_letter_45 (by decide) rfl ?_
  refine gz_iload_n (pc := 47) hX dX0_letter_47 rfl 2 rfl ?_
  refine gz_aload (pc := 48) hX dX0_letter_48 0 rfl ?_
  obtain ⟨g1, h⟩ := gz_gu h
  obtain ⟨⟨r2, m3⟩, c4, h⟩ := gz_bd h
  refine cc_X0_168 (pc := 50) hX (fun _ => g1) c4 ⟨Nat.le_of_ble_eq_true rfl, Nat.le_of_ble_eq_true rfl⟩ (rest := [.int x2]) rfl (Nat.le_of_ble_eq_true rfl) dX0_letter_50 ?_
  refine gz_icmp_ge (pc := 55) (tgt := 76) hX dX0_letter_55 (by decide) (fun g5 => ?_) (fun g5 => ?_)
  · replace h := gz_it' g5 h
    refine gz_iconst (pc := 76) (v := (-1 : Int32)) hX dX0_letter_76 (by decide) ?_
    obtain rfl := Option.some.inj h
    exact hk _ _ dX0_letter_77
  · replace h := gz_if' g5 h
    refine gz_aload (pc := 58) hX dX0_letter_58 0 rfl ?_
    refine gz_iload_n (pc := 60) hX dX0_letter_60 rfl 2 rfl ?_
    obtain ⟨g6, h⟩ := gz_gu h
    obtain ⟨⟨r7, m8⟩, c9, h⟩ := gz_bd h
    refine cc_X0_185 (pc := 61) hX (fun _ => g6) c9 ⟨Nat.le_of_ble_eq_true rfl, Nat.le_of_ble_eq_true rfl⟩ (rest := []) rfl (Nat.le_of_ble_eq_true rfl) dX0_letter_61 ?_
    obtain ⟨g10, h⟩ := gz_gu h
    refine ck_X0_235 (pc := 66) hX (c := r7) g10 dX0_letter_66 ?_
    refine gz_iload_n (pc := 69) hX dX0_letter_69 rfl 3 rfl ?_
    obtain ⟨g11, h⟩ := gz_gu h
    obtain ⟨⟨r12, m13⟩, c14, h⟩ := gz_bd h
    refine cc_X0_237 (pc := 70) hX (fun _ => g11) c14 ⟨Nat.le_of_ble_eq_true rfl, Nat.le_of_ble_eq_true rfl⟩ (rest := []) rfl (Nat.le_of_ble_eq_true rfl) dX0_letter_70 ?_
    refine gz_goto (pc := 73) (tgt := 77) hX dX0_letter_73 (by decide) ?_
    obtain rfl := Option.some.inj h
    exact hk _ _ dX0_letter_77
noncomputable def cf_X0_letter (x1 : Int32) (x2 : Int32) (x3 : Int32) (m : gM) : Option (Int32 × gM) :=
  ((cf_X0_is x3 (0 : Int32) (5 : Int32) m).bind fun (r1, m2) => (if r1 = (0 : Int32) then (mj_X0_letter_22  m2) else ((cf_X0_is x1 (0 : Int32) (1 : Int32) m2).bind fun (r5, m6) => (if r5 = (0 : Int32) then (mj_X0_letter_22  m6) else (if (0 : Int32) ≤ x2 then (if x1 = (0 : Int32) then gz_let (gP m6 1000 0) fun r16 => (if r16 ≠ 0 then (if gK m6 r16 = 2 then gz_let (gP m6 r16 3) fun r19 => (if r19 ≠ 0 then (mj_X0_letter_45 x2 x3 r19 m6) else none) else none) else none) else gz_let (gP m6 1000 0) fun r11 => (if r11 ≠ 0 then (if gK m6 r11 = 2 then gz_let (gP m6 r11 5) fun r14 => (if r14 ≠ 0 then (mj_X0_letter_45 x2 x3 r14 m6) else none) else none) else none)) else (mj_X0_letter_22  m6))))))
theorem wm_X0_letter {X : gz_X} {G : gz_G} (hX : gz_C cS X G cX0_letter 5 RX0 6 127) {x1 : Int32} {x2 : Int32} {x3 : Int32}  {m : gM} {z : (Int32 × gM)} (h : cf_X0_letter x1 x2 x3 m = some z) (hk : (fun z : (Int32 × gM) => gz_kI cS X G 5 (0, 0) cX0_letter z.2 z.1) z) : gz_V cS X G 5 (0, 0) m 0 [(0, .ref (gz_ad G 1000)), (1, .int x1), (2, .int x2), (3, .int x3)] [] := by
  unfold cf_X0_letter at h
  refine gz_iload_n (pc := 0) hX dX0_letter_0 rfl 3 rfl ?_
  refine gz_iconst (pc := 1) (v := (0 : Int32)) hX dX0_letter_1 (by decide) ?_
  refine gz_iconst (pc := 2) (v := (5 : Int32)) hX dX0_letter_2 (by decide) ?_
  obtain ⟨⟨r1, m2⟩, c3, h⟩ := gz_bd h
  refine cc_X0_231 (pc := 3) hX c3 ⟨Nat.le_of_ble_eq_true rfl, Nat.le_of_ble_eq_true rfl⟩ (rest := []) rfl (Nat.le_of_ble_eq_true rfl) dX0_letter_3 ?_
  refine gz_if_eq (pc := 6) (tgt := 22) hX dX0_letter_6 (by decide) (fun g4 => ?_) (fun g4 => ?_)
  · replace h := gz_it' g4 h
    refine gz_sub (lw := [(0, .ref (gz_ad G 1000))]) [0] rfl ?_
    exact wb_X0_letter_22 hX h hk
  · replace h := gz_if' g4 h
    refine gz_iload_n (pc := 9) hX dX0_letter_9 rfl 1 rfl ?_
    refine gz_iconst (pc := 10) (v := (0 : Int32)) hX dX0_letter_10 (by decide) ?_
    refine gz_iconst (pc := 11) (v := (1 : Int32)) hX dX0_letter_11 (by decide) ?_
    obtain ⟨⟨r5, m6⟩, c7, h⟩ := gz_bd h
    refine cc_X0_231 (pc := 12) hX c7 ⟨Nat.le_of_ble_eq_true rfl, Nat.le_of_ble_eq_true rfl⟩ (rest := []) rfl (Nat.le_of_ble_eq_true rfl) dX0_letter_12 ?_
    refine gz_if_eq (pc := 15) (tgt := 22) hX dX0_letter_15 (by decide) (fun g8 => ?_) (fun g8 => ?_)
    · replace h := gz_it' g8 h
      refine gz_sub (lw := [(0, .ref (gz_ad G 1000))]) [0] rfl ?_
      exact wb_X0_letter_22 hX h hk
    · replace h := gz_if' g8 h
      refine gz_iload_n (pc := 18) hX dX0_letter_18 rfl 2 rfl ?_
      refine gz_if_ge (pc := 19) (tgt := 24) hX dX0_letter_19 (by decide) (fun g9 => ?_) (fun g9 => ?_)
      · replace h := gz_it' g9 h
        refine gz_iload_n (pc := 24) hX dX0_letter_24 rfl 1 rfl ?_
        refine gz_if_ne (pc := 25) (tgt := 38) hX dX0_letter_25 (by decide) (fun g10 => ?_) (fun g10 => ?_)
        · replace h := gz_if' g10 h
          refine gz_aload_n (pc := 38) hX dX0_letter_38 rfl 0 rfl ?_
          obtain ⟨r11, er11, h⟩ := gz_lt h
          obtain ⟨g12, h⟩ := gz_gu h
          refine cg_X0_31_0 (pc := 39) hX (c := 1000) (v := .ref (gz_ad G r11)) (fun h => cz_k h rfl) (fun _ => gz_rq er11 g12) dX0_letter_39 ?_
          obtain ⟨g13, h⟩ := gz_gu h
          obtain ⟨r14, er14, h⟩ := gz_lt h
          obtain ⟨g15, h⟩ := gz_gu h
          refine cg_X0_173_1 (pc := 42) hX (c := r11) (v := .ref (gz_ad G r14)) (fun _ => g13) (fun _ => gz_rq er14 g15) dX0_letter_42 ?_
          refine gz_sub (lw := [(0, .ref (gz_ad G 1000)), (2, .int x2), (3, .int x3)]) [0, 2, 3] rfl ?_
          exact wb_X0_letter_45 hX h hk
        · replace h := gz_it' g10 h
          refine gz_aload_n (pc := 28) hX dX0_letter_28 rfl 0 rfl ?_
          obtain ⟨r16, er16, h⟩ := gz_lt h
          obtain ⟨g17, h⟩ := gz_gu h
          refine cg_X0_31_0 (pc := 29) hX (c := 1000) (v := .ref (gz_ad G r16)) (fun h => cz_k h rfl) (fun _ => gz_rq er16 g17) dX0_letter_29 ?_
          obtain ⟨g18, h⟩ := gz_gu h
          obtain ⟨r19, er19, h⟩ := gz_lt h
          obtain ⟨g20, h⟩ := gz_gu h
          refine cg_X0_164_1 (pc := 32) hX (c := r16) (v := .ref (gz_ad G r19)) (fun _ => g18) (fun _ => gz_rq er19 g20) dX0_letter_32 ?_
          refine gz_goto (pc := 35) (tgt := 45) hX dX0_letter_35 (by decide) ?_
          refine gz_sub (lw := [(0, .ref (gz_ad G 1000)), (2, .int x2), (3, .int x3)]) [0, 2, 3] rfl ?_
          exact wb_X0_letter_45 hX h hk
      · replace h := gz_if' g9 h
        refine gz_sub (lw := [(0, .ref (gz_ad G 1000))]) [0] rfl ?_
        exact wb_X0_letter_22 hX h hk
theorem ct_X0_letter {G : gz_G} {l : Launch} {x1 : Int32} {x2 : Int32} {x3 : Int32}  {m m9 : gM} {r : Int32} (h : cf_X0_letter x1 x2 x3 m = some (r, m9)) : gz_Met cS G l yX0_letter cX0_letter 5 (some .int) (mRm 6 127) [.ref (gz_ad G 1000), .int x1, .int x2, .int x3] m m9 (some (.int r)) :=
  gz_ofI (by decide +kernel) (Nat.le_of_ble_eq_true rfl) fun X _ hX hk => wm_X0_letter hX h hk
theorem ck_X0_191 {X : gz_X} {G : gz_G} {cc : ByteArray} {nL fr lo pc : Nat} {rem : Nat × Nat} {m : gM} {lv : List (Nat × Value)} {st : List Value} (hX : gz_C cS X G cc nL RX0 fr lo) {c : Nat} (hK : m.1 c = 10) (hd : decode cc pc = .ok (.checkcast 191, 3)) (kk : gz_V cS X G nL rem m (pc + 3) lv (.ref (gz_ad G c) :: st)) : gz_V cS X G nL rem m pc lv (.ref (gz_ad G c) :: st) := by
  intro H locs ls cs hR hC hA hl
  have z := hK
  exact va_castS hX.1 hX.2.1 hX.2.2.2.1 (hX.2.2.2.2.1 _ q1452) (hX.2.2.2.2.2.1.1.1 9 (RX10, TX10, 2) rfl).2 (gz_recv (X := X) hX.2.2.2.2.2.1 hR (ci := 9) (c := c) (q := (RX10, TX10, 2)) rfl (by decide) z) hd (kk H locs ls cs hR hC hA hl)
/-! FirstSnuffer.tieOf(I)LFirstSnuffer$Tie; -/
noncomputable def cf_X0_tieOf (x1 : Int32) (m : gM) : Option (Nat × gM) :=
  gz_let (gP m 1000 0) fun r1 => (if r1 ≠ 0 then (if gK m r1 = 2 then gz_let (gP m r1 6) fun r4 => (if r4 ≠ 0 then (if gK m r4 = 21 then ((cf_J2_get r4 x1 m).bind fun (r7, m8) => (if gK m8 r7 = 10 then some (r7, m8) else none)) else none) else none) else none) else none)
theorem wm_X0_tieOf {X : gz_X} {G : gz_G} (hX : gz_C cS X G cX0_tieOf 2 RX0 3 64) {x1 : Int32}  {m : gM} {z : (Nat × gM)} (h : cf_X0_tieOf x1 m = some z) (hk : (fun z : (Nat × gM) => gz_kR cS X G 2 (0, 0) cX0_tieOf z.2 z.1) z) : gz_V cS X G 2 (0, 0) m 0 [(0, .ref (gz_ad G 1000)), (1, .int x1)] [] := by
  unfold cf_X0_tieOf at h
  refine gz_aload_n (pc := 0) hX dX0_tieOf_0 rfl 0 rfl ?_
  obtain ⟨r1, er1, h⟩ := gz_lt h
  obtain ⟨g2, h⟩ := gz_gu h
  refine cg_X0_31_0 (pc := 1) hX (c := 1000) (v := .ref (gz_ad G r1)) (fun h => cz_k h rfl) (fun _ => gz_rq er1 g2) dX0_tieOf_1 ?_
  obtain ⟨g3, h⟩ := gz_gu h
  obtain ⟨r4, er4, h⟩ := gz_lt h
  obtain ⟨g5, h⟩ := gz_gu h
  refine cg_X0_176_1 (pc := 4) hX (c := r1) (v := .ref (gz_ad G r4)) (fun _ => g3) (fun _ => gz_rq er4 g5) dX0_tieOf_4 ?_
  refine gz_iload_n (pc := 7) hX dX0_tieOf_7 rfl 1 rfl ?_
  obtain ⟨g6, h⟩ := gz_gu h
  obtain ⟨⟨r7, m8⟩, c9, h⟩ := gz_bd h
  refine cc_X0_185 (pc := 8) hX (fun _ => g6) c9 ⟨Nat.le_of_ble_eq_true rfl, Nat.le_of_ble_eq_true rfl⟩ (rest := []) rfl (Nat.le_of_ble_eq_true rfl) dX0_tieOf_8 ?_
  obtain ⟨g10, h⟩ := gz_gu h
  refine ck_X0_191 (pc := 13) hX (c := r7) g10 dX0_tieOf_13 ?_
  obtain rfl := Option.some.inj h
  exact hk _ _ dX0_tieOf_16
theorem ct_X0_tieOf {G : gz_G} {l : Launch} {x1 : Int32}  {m m9 : gM} {r : Nat} (h : cf_X0_tieOf x1 m = some (r, m9)) : gz_Met cS G l yX0_tieOf cX0_tieOf 2 (some (.object "FirstSnuffer$Tie")) (mRm 3 64) [.ref (gz_ad G 1000), .int x1] m m9 (some (.ref (gz_ad G r))) :=
  gz_ofR (Or.inl ⟨_, rfl⟩) (by decide +kernel) (Nat.le_of_ble_eq_true rfl) fun X _ hX hk => wm_X0_tieOf hX h hk
theorem cc_X0_266 {X : gz_X} {G : gz_G} {cc : ByteArray} {nL fr lo pc : Nat} {rem : Nat × Nat} {lv : List (Nat × Value)} {rest st0 : List Value} (hX : gz_C cS X G cc nL RX0 fr lo) {x1 : Int32} {m m9 : gM} (hK : clc m.1 m.2.1 m.2.2.2.2.1 → m.1 1000 = 0 + 1)  {r : Nat} (h : cf_X0_tieOf x1 m = some (r, m9)) (hroom : 3 + 1 ≤ fr ∧ 8 + (2 + 11) + 64 ≤ lo) (hst : st0 = [.int x1, .ref (gz_ad G 1000)] ++ rest) (hW : (rest.map fun v => v.category).sum ≤ 8) (hd : decode cc pc = .ok (.invokevirtual 266, 3)) (kk : gz_V cS X G nL rem m9 (pc + 3) lv (.ref (gz_ad G r) :: rest)) : gz_V cS X G nL rem m pc lv st0 :=
  gz_callV2 hX cs_E (As := [.int x1]) (rest := rest) (q := (RX0, TX0, 28)) (ci := 0) (c := 1000) (ct_X0_tieOf (l := X.2.1) h) (lw_V q1492 q1450 qs45 q167 q1451) (n := 1) (by decide +kernel) hroom rfl rfl (by decide) hK hst hW hd (rem := rem) kk
theorem cg_X0_273_9 {X : gz_X} {G : gz_G} {cc : ByteArray} {nL fr lo pc : Nat} {rem : Nat × Nat} {m : gM} {lv : List (Nat × Value)} {st : List Value} (hX : gz_C cS X G cc nL RX0 fr lo) {c : Nat} {v : Value} (hK : clc m.1 m.2.1 m.2.2.2.2.1 → m.1 c = 9 + 1) (hv : clc m.1 m.2.1 m.2.2.2.2.1 → gz_u (gz_ad G) m (ftC 9 1) c 1 = v) (hd : decode cc pc = .ok (.getfield 273, 3)) (kk : gz_V cS X G nL rem m (pc + 3) lv (v :: st)) : gz_V cS X G nL rem m pc lv (.ref (gz_ad G c) :: st) :=
  gz_getf hX (C := RX10) (T := TX10) (N := 2) (ci := 9) (k := 1) rfl (by decide) in_X10 (by decide) (Or.inr ⟨_, va_Nw.use rfl (cz_n (Z := cS) hX q1018 rfl)⟩) hd hK hv kk
theorem cg_X0_270_9 {X : gz_X} {G : gz_G} {cc : ByteArray} {nL fr lo pc : Nat} {rem : Nat × Nat} {m : gM} {lv : List (Nat × Value)} {st : List Value} (hX : gz_C cS X G cc nL RX0 fr lo) {c : Nat} {v : Value} (hK : clc m.1 m.2.1 m.2.2.2.2.1 → m.1 c = 9 + 1) (hv : clc m.1 m.2.1 m.2.2.2.2.1 → gz_u (gz_ad G) m (ftC 9 0) c 0 = v) (hd : decode cc pc = .ok (.getfield 270, 3)) (kk : gz_V cS X G nL rem m (pc + 3) lv (v :: st)) : gz_V cS X G nL rem m pc lv (.ref (gz_ad G c) :: st) :=
  gz_getf hX (C := RX10) (T := TX10) (N := 2) (ci := 9) (k := 0) rfl (by decide) in_X10 (by decide) (Or.inr ⟨_, va_Nw.use rfl (cz_n (Z := cS) hX q1014 rfl)⟩) hd hK hv kk
/-! FirstSnuffer.tie(II)I -/
noncomputable def cf_X0_tie (x1 : Int32) (x2 : Int32) (m : gM) : Option (Int32 × gM) :=
  ((cf_X0_isTie x1 m).bind fun (r1, m2) => (if r1 = (0 : Int32) then some ((-1 : Int32), m2) else (if x2 = (0 : Int32) then ((cf_X0_tieOf x1 m2).bind fun (r16, m17) => (if gK m17 r16 = 10 then some ((gI m17 r16 0), m17) else none)) else (if x2 = (1 : Int32) then ((cf_X0_tieOf x1 m2).bind fun (r12, m13) => (if gK m13 r12 = 10 then some ((gI m13 r12 1), m13) else none)) else (if x2 = (2 : Int32) then ((cf_X0_has (gI m2 1027 3) x1 m2).bind fun (r8, m9) => (if r8 = (0 : Int32) then some ((0 : Int32), m9) else some ((1 : Int32), m9))) else some ((-1 : Int32), m2))))))
theorem wm_X0_tie {X : gz_X} {G : gz_G} (hX : gz_C cS X G cX0_tie 3 RX0 4 85) {x1 : Int32} {x2 : Int32}  {m : gM} {z : (Int32 × gM)} (h : cf_X0_tie x1 x2 m = some z) (hk : (fun z : (Int32 × gM) => gz_kI cS X G 3 (0, 0) cX0_tie z.2 z.1) z) : gz_V cS X G 3 (0, 0) m 0 [(0, .ref (gz_ad G 1000)), (1, .int x1), (2, .int x2)] [] := by
  unfold cf_X0_tie at h
  refine gz_aload_n (pc := 0) hX dX0_tie_0 rfl 0 rfl ?_
  refine gz_iload_n (pc := 1) hX dX0_tie_1 rfl 1 rfl ?_
  obtain ⟨⟨r1, m2⟩, c3, h⟩ := gz_bd h
  refine cc_X0_263 (pc := 2) hX (fun h => cz_k h rfl) c3 ⟨Nat.le_of_ble_eq_true rfl, Nat.le_of_ble_eq_true rfl⟩ (rest := []) rfl (Nat.le_of_ble_eq_true rfl) dX0_tie_2 ?_
  refine gz_if_ne (pc := 5) (tgt := 12) hX dX0_tie_5 (by decide) (fun g4 => ?_) (fun g4 => ?_)
  · replace h := gz_if' g4 h
    refine gz_iload_n (pc := 12) hX dX0_tie_12 rfl 2 rfl ?_
    refine gz_if_ne (pc := 13) (tgt := 27) hX dX0_tie_13 (by decide) (fun g5 => ?_) (fun g5 => ?_)
    · replace h := gz_if' g5 h
      refine gz_iload_n (pc := 27) hX dX0_tie_27 rfl 2 rfl ?_
      refine gz_iconst (pc := 28) (v := (1 : Int32)) hX dX0_tie_28 (by decide) ?_
      refine gz_icmp_ne (pc := 29) (tgt := 43) hX dX0_tie_29 (by decide) (fun g6 => ?_) (fun g6 => ?_)
      · replace h := gz_if' g6 h
        refine gz_iload_n (pc := 43) hX dX0_tie_43 rfl 2 rfl ?_
        refine gz_iconst (pc := 44) (v := (2 : Int32)) hX dX0_tie_44 (by decide) ?_
        refine gz_icmp_ne (pc := 45) (tgt := 70) hX dX0_tie_45 (by decide) (fun g7 => ?_) (fun g7 => ?_)
        · replace h := gz_if' g7 h
          refine gz_iconst (pc := 70) (v := (-1 : Int32)) hX dX0_tie_70 (by decide) ?_
          obtain rfl := Option.some.inj h
          exact hk _ _ dX0_tie_71
        · replace h := gz_it' g7 h
          refine gz_aload_n (pc := 48) hX dX0_tie_48 rfl 0 rfl ?_
          refine cg_X0_74_0 (pc := 49) hX (c := 1000) (v := .ref (gz_ad G 1027)) (fun h => cz_k h rfl) (fun h => cz_f h (by decide) rfl (by decide) rfl) dX0_tie_49 ?_
          refine cg_X0_225_5 (pc := 52) hX (c := 1027) (v := .int (gI m2 1027 3)) (fun h => cz_k h rfl) (fun _ => rfl) dX0_tie_52 ?_
          refine gz_iload_n (pc := 55) hX dX0_tie_55 rfl 1 rfl ?_
          obtain ⟨⟨r8, m9⟩, c10, h⟩ := gz_bd h
          refine cc_X0_276 (pc := 56) hX c10 ⟨Nat.le_of_ble_eq_true rfl, Nat.le_of_ble_eq_true rfl⟩ (rest := []) rfl (Nat.le_of_ble_eq_true rfl) dX0_tie_56 ?_
          refine gz_if_eq (pc := 59) (tgt := 66) hX dX0_tie_59 (by decide) (fun g11 => ?_) (fun g11 => ?_)
          · replace h := gz_it' g11 h
            refine gz_iconst (pc := 66) (v := (0 : Int32)) hX dX0_tie_66 (by decide) ?_
            refine gz_goto (pc := 67) (tgt := 71) hX dX0_tie_67 (by decide) ?_
            obtain rfl := Option.some.inj h
            exact hk _ _ dX0_tie_71
          · replace h := gz_if' g11 h
            refine gz_iconst (pc := 62) (v := (1 : Int32)) hX dX0_tie_62 (by decide) ?_
            refine gz_goto (pc := 63) (tgt := 71) hX dX0_tie_63 (by decide) ?_
            obtain rfl := Option.some.inj h
            exact hk _ _ dX0_tie_71
      · replace h := gz_it' g6 h
        refine gz_aload_n (pc := 32) hX dX0_tie_32 rfl 0 rfl ?_
        refine gz_iload_n (pc := 33) hX dX0_tie_33 rfl 1 rfl ?_
        obtain ⟨⟨r12, m13⟩, c14, h⟩ := gz_bd h
        refine cc_X0_266 (pc := 34) hX (fun h => cz_k h rfl) c14 ⟨Nat.le_of_ble_eq_true rfl, Nat.le_of_ble_eq_true rfl⟩ (rest := []) rfl (Nat.le_of_ble_eq_true rfl) dX0_tie_34 ?_
        obtain ⟨g15, h⟩ := gz_gu h
        refine cg_X0_273_9 (pc := 37) hX (c := r12) (v := .int (gI m13 r12 1)) (fun _ => g15) (fun _ => rfl) dX0_tie_37 ?_
        refine gz_goto (pc := 40) (tgt := 71) hX dX0_tie_40 (by decide) ?_
        obtain rfl := Option.some.inj h
        exact hk _ _ dX0_tie_71
    · replace h := gz_it' g5 h
      refine gz_aload_n (pc := 16) hX dX0_tie_16 rfl 0 rfl ?_
      refine gz_iload_n (pc := 17) hX dX0_tie_17 rfl 1 rfl ?_
      obtain ⟨⟨r16, m17⟩, c18, h⟩ := gz_bd h
      refine cc_X0_266 (pc := 18) hX (fun h => cz_k h rfl) c18 ⟨Nat.le_of_ble_eq_true rfl, Nat.le_of_ble_eq_true rfl⟩ (rest := []) rfl (Nat.le_of_ble_eq_true rfl) dX0_tie_18 ?_
      obtain ⟨g19, h⟩ := gz_gu h
      refine cg_X0_270_9 (pc := 21) hX (c := r16) (v := .int (gI m17 r16 0)) (fun _ => g19) (fun _ => rfl) dX0_tie_21 ?_
      refine gz_goto (pc := 24) (tgt := 71) hX dX0_tie_24 (by decide) ?_
      obtain rfl := Option.some.inj h
      exact hk _ _ dX0_tie_71
  · replace h := gz_it' g4 h
    refine gz_iconst (pc := 8) (v := (-1 : Int32)) hX dX0_tie_8 (by decide) ?_
    refine gz_goto (pc := 9) (tgt := 71) hX dX0_tie_9 (by decide) ?_
    obtain rfl := Option.some.inj h
    exact hk _ _ dX0_tie_71
theorem ct_X0_tie {G : gz_G} {l : Launch} {x1 : Int32} {x2 : Int32}  {m m9 : gM} {r : Int32} (h : cf_X0_tie x1 x2 m = some (r, m9)) : gz_Met cS G l yX0_tie cX0_tie 3 (some .int) (mRm 4 85) [.ref (gz_ad G 1000), .int x1, .int x2] m m9 (some (.int r)) :=
  gz_ofI (by decide +kernel) (Nat.le_of_ble_eq_true rfl) fun X _ hX hk => wm_X0_tie hX h hk
