set_option maxRecDepth 100000
theorem cg_X5_94_1 {X : gz_X} {G : gz_G} {cc : ByteArray} {nL fr lo pc : Nat} {rem : Nat × Nat} {m : gM} {lv : List (Nat × Value)} {st : List Value} (hX : gz_C cS X G cc nL RX5 fr lo) {c : Nat} {v : Value} (hK : clc m.1 m.2.1 m.2.2.2.2.1 → m.1 c = 1 + 1) (hv : clc m.1 m.2.1 m.2.2.2.2.1 → gz_u (gz_ad G) m (ftC 1 7) c 7 = v) (hd : decode cc pc = .ok (.getfield 94, 3)) (kk : gz_V cS X G nL rem m (pc + 3) lv (v :: st)) : gz_V cS X G nL rem m pc lv (.ref (gz_ad G c) :: st) :=
  gz_getf hX (C := RX1) (T := TX1) (N := 9) (ci := 1) (k := 7) rfl (by decide) in_X1 (by decide) (Or.inr ⟨_, va_Nw.use rfl (cz_n (Z := cS) hX q268 rfl)⟩) hd hK hv kk
theorem cd_X5_102 {X : gz_X} {G : gz_G} {cc : ByteArray} {nL fr lo pc f n : Nat} {lv : List (Nat × Value)} {rest st0 : List Value} (hX : gz_C cS X G cc nL RX5 fr lo) {oA : Nat → Nat → gM → Option (Int64 × gM)} {oT : Nat → Nat → gM → Option (Int32 × gM)} {v mo : Nat} {m m9 : gM} {r : Int64} (hO : cO G X.2.1 f n oA oT) (h : oA v mo m = some (r, m9)) (hroom : f + 1 ≤ fr ∧ n + 40 ≤ lo) (hst : st0 = [.ref (gz_ad G mo), .ref (gz_ad G v)] ++ rest) (hW : (rest.map fun v => v.category).sum ≤ 8) (hd : decode cc pc = .ok (.invokevirtual 102, 3)) (kk : gz_V cS X G nL (0, 0) m9 (pc + 3) lv (.long r :: rest)) : gz_V cS X G nL (0, 0) m pc lv st0 := by
  rcases hO.1 v mo m r m9 h with ⟨hk, hM⟩ | ⟨hk, hM⟩ | ⟨hk, hM⟩ | ⟨hk, hM⟩ | ⟨hk, hM⟩
  · exact gz_callU hX cs_E (x := ⟨"FirstSnuffer$Value", "at", "(LFirstSnuffer$Moment;)J"⟩) (owner := "FirstSnuffer$Value") (As := [.ref (gz_ad G mo)]) (rest := rest) (q := (RX14, TX14, 1)) (ci := 12) (c := v) hM (va_cwA 1 hX.2.2.2.2.1 (lw_app (by intro w hw; simp only [List.mem_cons, List.not_mem_nil, or_false] at hw; rcases hw with e | e | e | e | e <;> rw [e] <;> first | exact q1533 | exact q1409 | exact q1479 | exact q1431 | exact q198) (lw_meth q1432)) rfl rfl rfl (cz_n (Z := cS) hX q1408 rfl) (by decide +kernel) ⟨Nat.le_trans hroom.1 hX.2.2.2.2.2.2.1, by have := hX.2.2.2.2.2.2.2; have h1 := hroom.2; show 8 + (2 + 11) + n ≤ _; omega⟩) rfl rfl (by decide) (fun _ => hk) hst hW hd (rem := (0, 0)) kk
  · exact gz_callU hX cs_E (x := ⟨"FirstSnuffer$Value", "at", "(LFirstSnuffer$Moment;)J"⟩) (owner := "FirstSnuffer$Value") (As := [.ref (gz_ad G mo)]) (rest := rest) (q := (RX15, TX15, 1)) (ci := 13) (c := v) hM (va_cwA 1 hX.2.2.2.2.1 (lw_app (by intro w hw; simp only [List.mem_cons, List.not_mem_nil, or_false] at hw; rcases hw with e | e | e | e | e <;> rw [e] <;> first | exact q1533 | exact q1409 | exact q1410 | exact q1411 | exact q199) (lw_meth q1412)) rfl rfl rfl (cz_n (Z := cS) hX q1408 rfl) (by decide +kernel) ⟨Nat.le_trans hroom.1 hX.2.2.2.2.2.2.1, by have := hX.2.2.2.2.2.2.2; have h1 := hroom.2; show 8 + (2 + 11) + n ≤ _; omega⟩) rfl rfl (by decide) (fun _ => hk) hst hW hd (rem := (0, 0)) kk
  · exact gz_callU hX cs_E (x := ⟨"FirstSnuffer$Value", "at", "(LFirstSnuffer$Moment;)J"⟩) (owner := "FirstSnuffer$Value") (As := [.ref (gz_ad G mo)]) (rest := rest) (q := (RX13, TX13, 3)) (ci := 11) (c := v) hM (va_cwA 1 hX.2.2.2.2.1 (lw_app (by intro w hw; simp only [List.mem_cons, List.not_mem_nil, or_false] at hw; rcases hw with e | e | e | e | e <;> rw [e] <;> first | exact q1533 | exact q1409 | exact q1481 | exact q1436 | exact q197) (lw_meth q1437)) rfl rfl rfl (cz_n (Z := cS) hX q1408 rfl) (by decide +kernel) ⟨Nat.le_trans hroom.1 hX.2.2.2.2.2.2.1, by have := hX.2.2.2.2.2.2.2; have h1 := hroom.2; show 8 + (6 + 11) + n ≤ _; omega⟩) rfl rfl (by decide) (fun _ => hk) hst hW hd (rem := (0, 0)) kk
  · exact gz_callU hX cs_E (x := ⟨"FirstSnuffer$Value", "at", "(LFirstSnuffer$Moment;)J"⟩) (owner := "FirstSnuffer$Value") (As := [.ref (gz_ad G mo)]) (rest := rest) (q := (RX12, TX12, 2)) (ci := 10) (c := v) hM (va_cwA 1 hX.2.2.2.2.1 (lw_app (by intro w hw; simp only [List.mem_cons, List.not_mem_nil, or_false] at hw; rcases hw with e | e | e | e | e <;> rw [e] <;> first | exact q1533 | exact q1409 | exact q1424 | exact q1425 | exact q194) (lw_meth q1426)) rfl rfl rfl (cz_n (Z := cS) hX q1408 rfl) (by decide +kernel) ⟨Nat.le_trans hroom.1 hX.2.2.2.2.2.2.1, by have := hX.2.2.2.2.2.2.2; have h1 := hroom.2; show 8 + (5 + 11) + n ≤ _; omega⟩) rfl rfl (by decide) (fun _ => hk) hst hW hd (rem := (0, 0)) kk
  · exact gz_callU hX cs_E (x := ⟨"FirstSnuffer$Value", "at", "(LFirstSnuffer$Moment;)J"⟩) (owner := "FirstSnuffer$Value") (As := [.ref (gz_ad G mo)]) (rest := rest) (q := (RX16, TX16, 3)) (ci := 14) (c := v) hM (va_cwA 1 hX.2.2.2.2.1 (lw_app (by intro w hw; simp only [List.mem_cons, List.not_mem_nil, or_false] at hw; rcases hw with e | e | e | e | e <;> rw [e] <;> first | exact q1533 | exact q1409 | exact q1480 | exact q1433 | exact q200) (lw_meth q1434)) rfl rfl rfl (cz_n (Z := cS) hX q1408 rfl) (by decide +kernel) ⟨Nat.le_trans hroom.1 hX.2.2.2.2.2.2.1, by have := hX.2.2.2.2.2.2.2; have h1 := hroom.2; show 8 + (2 + 11) + n ≤ _; omega⟩) rfl rfl (by decide) (fun _ => hk) hst hW hd (rem := (0, 0)) kk
theorem cc_X5_107 {X : gz_X} {G : gz_G} {cc : ByteArray} {nL fr lo pc : Nat} {rem : Nat × Nat} {lv : List (Nat × Value)} {rest st0 : List Value} (hX : gz_C cS X G cc nL RX5 fr lo) {x0 : Int64} {x2 : Int32} {m m9 : gM}  {r : Int32} (h : cf_X0_within x0 x2 m = some (r, m9)) (hroom : 1 + 1 ≤ fr ∧ 8 + (3 + 11) + 23 ≤ lo) (hst : st0 = [.int x2, .long x0] ++ rest) (hW : (rest.map fun v => v.category).sum ≤ 8) (hd : decode cc pc = .ok (.invokestatic 107, 3)) (kk : gz_V cS X G nL rem m9 (pc + 3) lv (.int r :: rest)) : gz_V cS X G nL rem m pc lv st0 :=
  gz_callSN hX cs_E (As := [.long x0, .int x2]) (rest := rest) (ct_X0_within (l := X.2.1) h) q1536 (cz_n (Z := cS) hX q1534 rfl) q167 q1535 (n := 2) (by decide +kernel) hroom rfl hst hW hd (rem := rem) kk
/-! FirstSnuffer$State.onward(I)I -/
noncomputable def cf_X5_onward (c0 : Nat) (x1 : Int32) (m : gM) : Option (Int32 × gM) :=
  gz_let (gP m 1000 0) fun r1 => (if r1 ≠ 0 then (if gK m r1 = 2 then (if (gP m r1 7) = 0 then (if gz_in x1 (8) then some (((gI m (c0 + 1) (gz_ix x1)) - (1 : Int32)), m) else none) else ((cf_X5_asks c0 x1 m).bind fun (_, m6) => gz_let (gP m6 1000 0) fun r8 => (if r8 ≠ 0 then (if gK m6 r8 = 2 then gz_let (gP m6 r8 7) fun r11 => (if r11 ≠ 0 then (((cev 60).1 r11 1013 m6).bind fun (r13, m14) => ((cf_X0_within r13 (99 : Int32) m14).bind fun (r16, m17) => some (r16, m17))) else none) else none) else none))) else none) else none)
theorem wm_X5_onward {X : gz_X} {G : gz_G} (hX : gz_C cS X G cX5_onward 2 RX5 81 2740) {c0 : Nat} {x1 : Int32} (hs_c0 : cSt c0 = true) {m : gM} {z : (Int32 × gM)} (h : cf_X5_onward c0 x1 m = some z) (hk : (fun z : (Int32 × gM) => gz_kI cS X G 2 (0, 0) cX5_onward z.2 z.1) z) : gz_V cS X G 2 (0, 0) m 0 [(0, .ref (gz_ad G c0)), (1, .int x1)] [] := by
  unfold cf_X5_onward at h
  refine gz_aload_n (pc := 0) hX dX5_onward_0 rfl 0 rfl ?_
  refine cg_X5_3_5 (pc := 1) hX (c := c0) (v := .ref (gz_ad G 1000)) (fun h => cz_k h (st_k hs_c0)) (fun h => cz_f h (st_0 hs_c0) (st_f9 hs_c0) (by decide) rfl) dX5_onward_1 ?_
  obtain ⟨r1, er1, h⟩ := gz_lt h
  obtain ⟨g2, h⟩ := gz_gu h
  refine cg_X5_40_0 (pc := 4) hX (c := 1000) (v := .ref (gz_ad G r1)) (fun h => cz_k h rfl) (fun _ => gz_rq er1 g2) dX5_onward_4 ?_
  obtain ⟨g3, h⟩ := gz_gu h
  refine cg_X5_94_1 (pc := 7) hX (c := r1) (v := gz_rf (gz_ad G) (gP m r1 7)) (fun _ => g3) (fun _ => rfl) dX5_onward_7 ?_
  refine gz_ifnonnull (pc := 10) (tgt := 22) hX dX5_onward_10 (by decide) (fun g4 => ?_) (fun g4 => ?_)
  · replace h := gz_if' g4 h
    refine gz_aload_n (pc := 22) hX dX5_onward_22 rfl 0 rfl ?_
    refine gz_iload_n (pc := 23) hX dX5_onward_23 rfl 1 rfl ?_
    obtain ⟨⟨⟨⟩, m6⟩, c7, h⟩ := gz_bd h
    refine cc_X5_98 (pc := 24) hX (fun h => cz_k h (st_k hs_c0)) hs_c0 c7 ⟨Nat.le_of_ble_eq_true rfl, Nat.le_of_ble_eq_true rfl⟩ (rest := []) rfl (Nat.le_of_ble_eq_true rfl) dX5_onward_24 ?_
    refine gz_aload_n (pc := 27) hX dX5_onward_27 rfl 0 rfl ?_
    refine cg_X5_3_5 (pc := 28) hX (c := c0) (v := .ref (gz_ad G 1000)) (fun h => cz_k h (st_k hs_c0)) (fun h => cz_f h (st_0 hs_c0) (st_f9 hs_c0) (by decide) rfl) dX5_onward_28 ?_
    obtain ⟨r8, er8, h⟩ := gz_lt h
    obtain ⟨g9, h⟩ := gz_gu h
    refine cg_X5_40_0 (pc := 31) hX (c := 1000) (v := .ref (gz_ad G r8)) (fun h => cz_k h rfl) (fun _ => gz_rq er8 g9) dX5_onward_31 ?_
    obtain ⟨g10, h⟩ := gz_gu h
    obtain ⟨r11, er11, h⟩ := gz_lt h
    obtain ⟨g12, h⟩ := gz_gu h
    refine cg_X5_94_1 (pc := 34) hX (c := r8) (v := .ref (gz_ad G r11)) (fun _ => g10) (fun _ => gz_rq er11 g12) dX5_onward_34 ?_
    refine gz_aload_n (pc := 37) hX dX5_onward_37 rfl 0 rfl ?_
    refine cg_X5_3_5 (pc := 38) hX (c := c0) (v := .ref (gz_ad G 1000)) (fun h => cz_k h (st_k hs_c0)) (fun h => cz_f h (st_0 hs_c0) (st_f9 hs_c0) (by decide) rfl) dX5_onward_38 ?_
    refine cg_X5_80_0 (pc := 41) hX (c := 1000) (v := .ref (gz_ad G 1013)) (fun h => cz_k h rfl) (fun h => cz_f h (by decide) rfl (by decide) rfl) dX5_onward_41 ?_
    obtain ⟨⟨r13, m14⟩, c15, h⟩ := gz_bd h
    refine cd_X5_102 (pc := 44) hX (cev_ok 60) c15 ⟨Nat.le_of_ble_eq_true rfl, Nat.le_of_ble_eq_true rfl⟩ (rest := []) rfl (Nat.le_of_ble_eq_true rfl) dX5_onward_44 ?_
    refine gz_bipush (pc := 47) (v := (99 : Int32)) hX dX5_onward_47 (by decide) ?_
    obtain ⟨⟨r16, m17⟩, c18, h⟩ := gz_bd h
    refine cc_X5_107 (pc := 49) hX c18 ⟨Nat.le_of_ble_eq_true rfl, Nat.le_of_ble_eq_true rfl⟩ (rest := []) rfl (Nat.le_of_ble_eq_true rfl) dX5_onward_49 ?_
    obtain rfl := Option.some.inj h
    exact hk _ _ dX5_onward_52
  · replace h := gz_it' g4 h
    refine gz_aload_n (pc := 13) hX dX5_onward_13 rfl 0 rfl ?_
    refine cg_X5_15_5 (pc := 14) hX (c := c0) (v := .ref (gz_ad G (c0 + 1))) (fun h => cz_k h (st_k hs_c0)) (fun h => cz_f h (st_0 hs_c0) (st_f4 hs_c0) (by omega) rfl) dX5_onward_14 ?_
    refine gz_iload_n (pc := 17) hX dX5_onward_17 rfl 1 rfl ?_
    obtain ⟨g19, h⟩ := gz_gu h
    refine gz_iald2 (pc := 18) (c := (c0 + 1)) (n := 8) hX rfl (fun h => cz_a h (st_a1 hs_c0).1 (by decide) (st_a1 hs_c0).2) g19 dX5_onward_18 ?_
    refine gz_iconst (pc := 19) (v := (1 : Int32)) hX dX5_onward_19 (by decide) ?_
    refine gz_isub (pc := 20) hX dX5_onward_20 ?_
    obtain rfl := Option.some.inj h
    exact hk _ _ dX5_onward_21
theorem ct_X5_onward {G : gz_G} {l : Launch} {c0 : Nat} {x1 : Int32} (hs_c0 : cSt c0 = true) {m m9 : gM} {r : Int32} (h : cf_X5_onward c0 x1 m = some (r, m9)) : gz_Met cS G l yX5_onward cX5_onward 2 (some .int) (mRm 81 2740) [.ref (gz_ad G c0), .int x1] m m9 (some (.int r)) :=
  gz_ofI (by decide +kernel) (Nat.le_of_ble_eq_true rfl) fun X _ hX hk => wm_X5_onward hX hs_c0 h hk
theorem cg_X0_251_8 {X : gz_X} {G : gz_G} {cc : ByteArray} {nL fr lo pc : Nat} {rem : Nat × Nat} {m : gM} {lv : List (Nat × Value)} {st : List Value} (hX : gz_C cS X G cc nL RX0 fr lo) {c : Nat} {v : Value} (hK : clc m.1 m.2.1 m.2.2.2.2.1 → m.1 c = 8 + 1) (hv : clc m.1 m.2.1 m.2.2.2.2.1 → gz_u (gz_ad G) m (ftC 8 3) c 3 = v) (hd : decode cc pc = .ok (.getfield 251, 3)) (kk : gz_V cS X G nL rem m (pc + 3) lv (v :: st)) : gz_V cS X G nL rem m pc lv (.ref (gz_ad G c) :: st) :=
  gz_getf hX (C := RX9) (T := TX9) (N := 4) (ci := 8) (k := 3) rfl (by decide) in_X9 (by decide) (Or.inr ⟨_, va_Nw.use rfl (cz_n (Z := cS) hX q983 rfl)⟩) hd hK hv kk
theorem cc_X0_260 {X : gz_X} {G : gz_G} {cc : ByteArray} {nL fr lo pc : Nat} {rem : Nat × Nat} {lv : List (Nat × Value)} {rest st0 : List Value} (hX : gz_C cS X G cc nL RX0 fr lo) {c0 : Nat} {x1 : Int32} {m m9 : gM} (hK : clc m.1 m.2.1 m.2.2.2.2.1 → m.1 c0 = 5 + 1) (hs_c0 : cSt c0 = true) {r : Int32} (h : cf_X5_isMinding c0 x1 m = some (r, m9)) (hroom : 81 + 1 ≤ fr ∧ 8 + (2 + 11) + 2740 ≤ lo) (hst : st0 = [.int x1, .ref (gz_ad G c0)] ++ rest) (hW : (rest.map fun v => v.category).sum ≤ 8) (hd : decode cc pc = .ok (.invokevirtual 260, 3)) (kk : gz_V cS X G nL rem m9 (pc + 3) lv (.int r :: rest)) : gz_V cS X G nL rem m pc lv st0 :=
  gz_callV2 hX cs_E (As := [.int x1]) (rest := rest) (q := (RX5, TX5, 10)) (ci := 5) (c := c0) (ct_X5_isMinding (l := X.2.1) hs_c0 h) (lw_V q1375 q1376 q1377 q178 q1378) (n := 1) (by decide +kernel) hroom rfl rfl (by decide) hK hst hW hd (rem := rem) kk
/-! FirstSnuffer.thing(II)I -/
noncomputable def cf_X0_thing (x1 : Int32) (x2 : Int32) (m : gM) : Option (Int32 × gM) :=
  ((cf_X0_isThing x1 m).bind fun (r1, m2) => (if r1 = (0 : Int32) then some ((-1 : Int32), m2) else (if x2 = (0 : Int32) then ((cf_X0_thingOf x1 m2).bind fun (r6, m7) => (if gK m7 r6 = 9 then some ((gI m7 r6 1), m7) else none)) else (if x2 = (1 : Int32) then ((cf_X0_thingOf x1 m2).bind fun (r11, m12) => (if gK m12 r11 = 9 then some ((gI m12 r11 3), m12) else none)) else (if x2 = (2 : Int32) then (if gz_in x1 (8) then some ((gI m2 1028 (gz_ix x1)), m2) else none) else (if x2 = (3 : Int32) then (if gz_in x1 (8) then some ((gI m2 1030 (gz_ix x1)), m2) else none) else (if x2 = (4 : Int32) then ((cf_X5_isMinding 1027 x1 m2).bind fun (r20, m21) => (if r20 = (0 : Int32) then some ((0 : Int32), m21) else some ((1 : Int32), m21))) else some ((-1 : Int32), m2))))))))
theorem wm_X0_thing {X : gz_X} {G : gz_G} (hX : gz_C cS X G cX0_thing 3 RX0 82 2761) {x1 : Int32} {x2 : Int32}  {m : gM} {z : (Int32 × gM)} (h : cf_X0_thing x1 x2 m = some z) (hk : (fun z : (Int32 × gM) => gz_kI cS X G 3 (0, 0) cX0_thing z.2 z.1) z) : gz_V cS X G 3 (0, 0) m 0 [(0, .ref (gz_ad G 1000)), (1, .int x1), (2, .int x2)] [] := by
  unfold cf_X0_thing at h
  refine gz_aload_n (pc := 0) hX dX0_thing_0 rfl 0 rfl ?_
  refine gz_iload_n (pc := 1) hX dX0_thing_1 rfl 1 rfl ?_
  obtain ⟨⟨r1, m2⟩, c3, h⟩ := gz_bd h
  refine cc_X0_240 (pc := 2) hX (fun h => cz_k h rfl) c3 ⟨Nat.le_of_ble_eq_true rfl, Nat.le_of_ble_eq_true rfl⟩ (rest := []) rfl (Nat.le_of_ble_eq_true rfl) dX0_thing_2 ?_
  refine gz_if_ne (pc := 5) (tgt := 10) hX dX0_thing_5 (by decide) (fun g4 => ?_) (fun g4 => ?_)
  · replace h := gz_if' g4 h
    refine gz_iload_n (pc := 10) hX dX0_thing_10 rfl 2 rfl ?_
    by_cases g5 : x2 = (0 : Int32)
    · replace h := gz_it' g5 h
      refine gz_tsIn (pc := 11) (tgt := 44) (off := 33) (v := (0 : Int32)) hX g5 dX0_thing_11 (by decide) (by decide) ?_
      refine gz_aload_n (pc := 44) hX dX0_thing_44 rfl 0 rfl ?_
      refine gz_iload_n (pc := 45) hX dX0_thing_45 rfl 1 rfl ?_
      obtain ⟨⟨r6, m7⟩, c8, h⟩ := gz_bd h
      refine cc_X0_244 (pc := 46) hX (fun h => cz_k h rfl) c8 ⟨Nat.le_of_ble_eq_true rfl, Nat.le_of_ble_eq_true rfl⟩ (rest := []) rfl (Nat.le_of_ble_eq_true rfl) dX0_thing_46 ?_
      obtain ⟨g9, h⟩ := gz_gu h
      refine cg_X0_248_8 (pc := 49) hX (c := r6) (v := .int (gI m7 r6 1)) (fun _ => g9) (fun _ => rfl) dX0_thing_49 ?_
      obtain rfl := Option.some.inj h
      exact hk _ _ dX0_thing_52
    · replace h := gz_if' g5 h
      by_cases g10 : x2 = (1 : Int32)
      · replace h := gz_it' g10 h
        refine gz_tsIn (pc := 11) (tgt := 53) (off := 42) (v := (1 : Int32)) hX g10 dX0_thing_11 (by decide) (by decide) ?_
        refine gz_aload_n (pc := 53) hX dX0_thing_53 rfl 0 rfl ?_
        refine gz_iload_n (pc := 54) hX dX0_thing_54 rfl 1 rfl ?_
        obtain ⟨⟨r11, m12⟩, c13, h⟩ := gz_bd h
        refine cc_X0_244 (pc := 55) hX (fun h => cz_k h rfl) c13 ⟨Nat.le_of_ble_eq_true rfl, Nat.le_of_ble_eq_true rfl⟩ (rest := []) rfl (Nat.le_of_ble_eq_true rfl) dX0_thing_55 ?_
        obtain ⟨g14, h⟩ := gz_gu h
        refine cg_X0_251_8 (pc := 58) hX (c := r11) (v := .int (gI m12 r11 3)) (fun _ => g14) (fun _ => rfl) dX0_thing_58 ?_
        obtain rfl := Option.some.inj h
        exact hk _ _ dX0_thing_61
      · replace h := gz_if' g10 h
        by_cases g15 : x2 = (2 : Int32)
        · replace h := gz_it' g15 h
          refine gz_tsIn (pc := 11) (tgt := 62) (off := 51) (v := (2 : Int32)) hX g15 dX0_thing_11 (by decide) (by decide) ?_
          refine gz_aload_n (pc := 62) hX dX0_thing_62 rfl 0 rfl ?_
          refine cg_X0_74_0 (pc := 63) hX (c := 1000) (v := .ref (gz_ad G 1027)) (fun h => cz_k h rfl) (fun h => cz_f h (by decide) rfl (by decide) rfl) dX0_thing_63 ?_
          refine cg_X0_254_5 (pc := 66) hX (c := 1027) (v := .ref (gz_ad G 1028)) (fun h => cz_k h rfl) (fun h => cz_f h (by decide) rfl (by decide) rfl) dX0_thing_66 ?_
          refine gz_iload_n (pc := 69) hX dX0_thing_69 rfl 1 rfl ?_
          obtain ⟨g16, h⟩ := gz_gu h
          refine gz_iald2 (pc := 70) (c := 1028) (n := 8) hX rfl (fun h => cz_a h rfl (by decide) rfl) g16 dX0_thing_70 ?_
          obtain rfl := Option.some.inj h
          exact hk _ _ dX0_thing_71
        · replace h := gz_if' g15 h
          by_cases g17 : x2 = (3 : Int32)
          · replace h := gz_it' g17 h
            refine gz_tsIn (pc := 11) (tgt := 72) (off := 61) (v := (3 : Int32)) hX g17 dX0_thing_11 (by decide) (by decide) ?_
            refine gz_aload_n (pc := 72) hX dX0_thing_72 rfl 0 rfl ?_
            refine cg_X0_74_0 (pc := 73) hX (c := 1000) (v := .ref (gz_ad G 1027)) (fun h => cz_k h rfl) (fun h => cz_f h (by decide) rfl (by decide) rfl) dX0_thing_73 ?_
            refine cg_X0_257_5 (pc := 76) hX (c := 1027) (v := .ref (gz_ad G 1030)) (fun h => cz_k h rfl) (fun h => cz_f h (by decide) rfl (by decide) rfl) dX0_thing_76 ?_
            refine gz_iload_n (pc := 79) hX dX0_thing_79 rfl 1 rfl ?_
            obtain ⟨g18, h⟩ := gz_gu h
            refine gz_iald2 (pc := 80) (c := 1030) (n := 8) hX rfl (fun h => cz_a h rfl (by decide) rfl) g18 dX0_thing_80 ?_
            obtain rfl := Option.some.inj h
            exact hk _ _ dX0_thing_81
          · replace h := gz_if' g17 h
            by_cases g19 : x2 = (4 : Int32)
            · replace h := gz_it' g19 h
              refine gz_tsIn (pc := 11) (tgt := 82) (off := 71) (v := (4 : Int32)) hX g19 dX0_thing_11 (by decide) (by decide) ?_
              refine gz_aload_n (pc := 82) hX dX0_thing_82 rfl 0 rfl ?_
              refine cg_X0_74_0 (pc := 83) hX (c := 1000) (v := .ref (gz_ad G 1027)) (fun h => cz_k h rfl) (fun h => cz_f h (by decide) rfl (by decide) rfl) dX0_thing_83 ?_
              refine gz_iload_n (pc := 86) hX dX0_thing_86 rfl 1 rfl ?_
              obtain ⟨⟨r20, m21⟩, c22, h⟩ := gz_bd h
              refine cc_X0_260 (pc := 87) hX (fun h => cz_k h rfl) (by decide) c22 ⟨Nat.le_of_ble_eq_true rfl, Nat.le_of_ble_eq_true rfl⟩ (rest := []) rfl (Nat.le_of_ble_eq_true rfl) dX0_thing_87 ?_
              refine gz_if_eq (pc := 90) (tgt := 97) hX dX0_thing_90 (by decide) (fun g23 => ?_) (fun g23 => ?_)
              · replace h := gz_it' g23 h
                refine gz_iconst (pc := 97) (v := (0 : Int32)) hX dX0_thing_97 (by decide) ?_
                obtain rfl := Option.some.inj h
                exact hk _ _ dX0_thing_98
              · replace h := gz_if' g23 h
                refine gz_iconst (pc := 93) (v := (1 : Int32)) hX dX0_thing_93 (by decide) ?_
                refine gz_goto (pc := 94) (tgt := 98) hX dX0_thing_94 (by decide) ?_
                obtain rfl := Option.some.inj h
                exact hk _ _ dX0_thing_98
            · replace h := gz_if' g19 h
              have ng5 := lv_neT g5 (a := 0) (by decide)
              have ng10 := lv_neT g10 (a := 1) (by decide)
              have ng15 := lv_neT g15 (a := 2) (by decide)
              have ng17 := lv_neT g17 (a := 3) (by decide)
              have ng19 := lv_neT g19 (a := 4) (by decide)
              refine gz_tsOut (pc := 11) (tgt := 99) hX dX0_thing_11 (by omega) (by decide) ?_
              refine gz_iconst (pc := 99) (v := (-1 : Int32)) hX dX0_thing_99 (by decide) ?_
              obtain rfl := Option.some.inj h
              exact hk _ _ dX0_thing_100
  · replace h := gz_it' g4 h
    refine gz_iconst (pc := 8) (v := (-1 : Int32)) hX dX0_thing_8 (by decide) ?_
    obtain rfl := Option.some.inj h
    exact hk _ _ dX0_thing_9
theorem ct_X0_thing {G : gz_G} {l : Launch} {x1 : Int32} {x2 : Int32}  {m m9 : gM} {r : Int32} (h : cf_X0_thing x1 x2 m = some (r, m9)) : gz_Met cS G l yX0_thing cX0_thing 3 (some .int) (mRm 82 2761) [.ref (gz_ad G 1000), .int x1, .int x2] m m9 (some (.int r)) :=
  gz_ofI (by decide +kernel) (Nat.le_of_ble_eq_true rfl) fun X _ hX hk => wm_X0_thing hX h hk
theorem cc_X0_310 {X : gz_X} {G : gz_G} {cc : ByteArray} {nL fr lo pc : Nat} {rem : Nat × Nat} {lv : List (Nat × Value)} {rest st0 : List Value} (hX : gz_C cS X G cc nL RX0 fr lo) {c0 : Nat} {x1 : Int32} {m m9 : gM} (hK : clc m.1 m.2.1 m.2.2.2.2.1 → m.1 c0 = 5 + 1) (hs_c0 : cSt c0 = true) {r : Int32} (h : cf_X5_putsOut c0 x1 m = some (r, m9)) (hroom : 5 + 1 ≤ fr ∧ 8 + (5 + 11) + 110 ≤ lo) (hst : st0 = [.int x1, .ref (gz_ad G c0)] ++ rest) (hW : (rest.map fun v => v.category).sum ≤ 8) (hd : decode cc pc = .ok (.invokevirtual 310, 3)) (kk : gz_V cS X G nL rem m9 (pc + 3) lv (.int r :: rest)) : gz_V cS X G nL rem m pc lv st0 :=
  gz_callV2 hX cs_E (As := [.int x1]) (rest := rest) (q := (RX5, TX5, 10)) (ci := 5) (c := c0) (ct_X5_putsOut (l := X.2.1) hs_c0 h) (lw_V q1572 q1573 q1574 q178 q1575) (n := 1) (by decide +kernel) hroom rfl rfl (by decide) hK hst hW hd (rem := rem) kk
/-! FirstSnuffer.snuff(I)I -/
noncomputable def mj_X0_snuff_30  (m : gM) : Option (Int32 × gM) :=
  ((cf_X0_refuses (2 : Int32) m).bind fun (r1, m2) => some (r1, m2))
theorem wb_X0_snuff_30 {X : gz_X} {G : gz_G} (hX : gz_C cS X G cX0_snuff 2 RX0 82 2761)   {m : gM} {z : (Int32 × gM)} (h : mj_X0_snuff_30  m = some z) (hk : (fun z : (Int32 × gM) => gz_kI cS X G 2 (0, 0) cX0_snuff z.2 z.1) z) : gz_V cS X G 2 (0, 0) m 30 [(0, .ref (gz_ad G 1000))] [] := by
  unfold mj_X0_snuff_30 at h
  refine gz_aload_n (pc := 30) hX dX0_snuff_30 rfl 0 rfl ?_
  refine gz_iconst (pc := 31) (v := (2 : Int32)) hX dX0_snuff_31 (by decide) ?_
  obtain ⟨⟨r1, m2⟩, c3, h⟩ := gz_bd h
  refine cc_X0_125 (pc := 32) hX (fun h => cz_k h rfl) c3 ⟨Nat.le_of_ble_eq_true rfl, Nat.le_of_ble_eq_true rfl⟩ (rest := []) rfl (Nat.le_of_ble_eq_true rfl) dX0_snuff_32 ?_
  obtain rfl := Option.some.inj h
  exact hk _ _ dX0_snuff_35
noncomputable def cf_X0_snuff (x1 : Int32) (m : gM) : Option (Int32 × gM) :=
  ((cf_X0_isHere x1 m).bind fun (r1, m2) => (if r1 = (0 : Int32) then (mj_X0_snuff_30  m2) else ((cf_X5_isLit 1027 x1 m2).bind fun (r5, m6) => (if r5 = (0 : Int32) then (mj_X0_snuff_30  m6) else ((cf_X5_isMinding 1027 x1 m6).bind fun (r9, m10) => (if r9 = (0 : Int32) then ((cf_X0_remembers m10).bind fun (_, m14) => ((cf_X5_putsOut 1027 x1 m14).bind fun (r16, m17) => some (r16, m17))) else (mj_X0_snuff_30  m10)))))))
theorem wm_X0_snuff {X : gz_X} {G : gz_G} (hX : gz_C cS X G cX0_snuff 2 RX0 82 2761) {x1 : Int32}  {m : gM} {z : (Int32 × gM)} (h : cf_X0_snuff x1 m = some z) (hk : (fun z : (Int32 × gM) => gz_kI cS X G 2 (0, 0) cX0_snuff z.2 z.1) z) : gz_V cS X G 2 (0, 0) m 0 [(0, .ref (gz_ad G 1000)), (1, .int x1)] [] := by
  unfold cf_X0_snuff at h
  refine gz_aload_n (pc := 0) hX dX0_snuff_0 rfl 0 rfl ?_
  refine gz_iload_n (pc := 1) hX dX0_snuff_1 rfl 1 rfl ?_
  obtain ⟨⟨r1, m2⟩, c3, h⟩ := gz_bd h
  refine cc_X0_363 (pc := 2) hX (fun h => cz_k h rfl) c3 ⟨Nat.le_of_ble_eq_true rfl, Nat.le_of_ble_eq_true rfl⟩ (rest := []) rfl (Nat.le_of_ble_eq_true rfl) dX0_snuff_2 ?_
  refine gz_if_eq (pc := 5) (tgt := 30) hX dX0_snuff_5 (by decide) (fun g4 => ?_) (fun g4 => ?_)
  · replace h := gz_it' g4 h
    refine gz_sub (lw := [(0, .ref (gz_ad G 1000))]) [0] rfl ?_
    exact wb_X0_snuff_30 hX h hk
  · replace h := gz_if' g4 h
    refine gz_aload_n (pc := 8) hX dX0_snuff_8 rfl 0 rfl ?_
    refine cg_X0_74_0 (pc := 9) hX (c := 1000) (v := .ref (gz_ad G 1027)) (fun h => cz_k h rfl) (fun h => cz_f h (by decide) rfl (by decide) rfl) dX0_snuff_9 ?_
    refine gz_iload_n (pc := 12) hX dX0_snuff_12 rfl 1 rfl ?_
    obtain ⟨⟨r5, m6⟩, c7, h⟩ := gz_bd h
    refine cc_X0_301 (pc := 13) hX (fun h => cz_k h rfl) (by decide) c7 ⟨Nat.le_of_ble_eq_true rfl, Nat.le_of_ble_eq_true rfl⟩ (rest := []) rfl (Nat.le_of_ble_eq_true rfl) dX0_snuff_13 ?_
    refine gz_if_eq (pc := 16) (tgt := 30) hX dX0_snuff_16 (by decide) (fun g8 => ?_) (fun g8 => ?_)
    · replace h := gz_it' g8 h
      refine gz_sub (lw := [(0, .ref (gz_ad G 1000))]) [0] rfl ?_
      exact wb_X0_snuff_30 hX h hk
    · replace h := gz_if' g8 h
      refine gz_aload_n (pc := 19) hX dX0_snuff_19 rfl 0 rfl ?_
      refine cg_X0_74_0 (pc := 20) hX (c := 1000) (v := .ref (gz_ad G 1027)) (fun h => cz_k h rfl) (fun h => cz_f h (by decide) rfl (by decide) rfl) dX0_snuff_20 ?_
      refine gz_iload_n (pc := 23) hX dX0_snuff_23 rfl 1 rfl ?_
      obtain ⟨⟨r9, m10⟩, c11, h⟩ := gz_bd h
      refine cc_X0_260 (pc := 24) hX (fun h => cz_k h rfl) (by decide) c11 ⟨Nat.le_of_ble_eq_true rfl, Nat.le_of_ble_eq_true rfl⟩ (rest := []) rfl (Nat.le_of_ble_eq_true rfl) dX0_snuff_24 ?_
      refine gz_if_eq (pc := 27) (tgt := 36) hX dX0_snuff_27 (by decide) (fun g12 => ?_) (fun g12 => ?_)
      · replace h := gz_it' g12 h
        refine gz_aload_n (pc := 36) hX dX0_snuff_36 rfl 0 rfl ?_
        obtain ⟨⟨⟨⟩, m14⟩, c15, h⟩ := gz_bd h
        refine cc_X0_360 (pc := 37) hX (fun h => cz_k h rfl) c15 ⟨Nat.le_of_ble_eq_true rfl, Nat.le_of_ble_eq_true rfl⟩ (rest := []) rfl (Nat.le_of_ble_eq_true rfl) dX0_snuff_37 ?_
        refine gz_aload_n (pc := 40) hX dX0_snuff_40 rfl 0 rfl ?_
        refine cg_X0_74_0 (pc := 41) hX (c := 1000) (v := .ref (gz_ad G 1027)) (fun h => cz_k h rfl) (fun h => cz_f h (by decide) rfl (by decide) rfl) dX0_snuff_41 ?_
        refine gz_iload_n (pc := 44) hX dX0_snuff_44 rfl 1 rfl ?_
        obtain ⟨⟨r16, m17⟩, c18, h⟩ := gz_bd h
        refine cc_X0_310 (pc := 45) hX (fun h => cz_k h rfl) (by decide) c18 ⟨Nat.le_of_ble_eq_true rfl, Nat.le_of_ble_eq_true rfl⟩ (rest := []) rfl (Nat.le_of_ble_eq_true rfl) dX0_snuff_45 ?_
        obtain rfl := Option.some.inj h
        exact hk _ _ dX0_snuff_48
      · replace h := gz_if' g12 h
        refine gz_sub (lw := [(0, .ref (gz_ad G 1000))]) [0] rfl ?_
        exact wb_X0_snuff_30 hX h hk
theorem ct_X0_snuff {G : gz_G} {l : Launch} {x1 : Int32}  {m m9 : gM} {r : Int32} (h : cf_X0_snuff x1 m = some (r, m9)) : gz_Met cS G l yX0_snuff cX0_snuff 2 (some .int) (mRm 82 2761) [.ref (gz_ad G 1000), .int x1] m m9 (some (.int r)) :=
  gz_ofI (by decide +kernel) (Nat.le_of_ble_eq_true rfl) fun X _ hX hk => wm_X0_snuff hX h hk
theorem cg_X5_19_5 {X : gz_X} {G : gz_G} {cc : ByteArray} {nL fr lo pc : Nat} {rem : Nat × Nat} {m : gM} {lv : List (Nat × Value)} {st : List Value} (hX : gz_C cS X G cc nL RX5 fr lo) {c : Nat} {v : Value} (hK : clc m.1 m.2.1 m.2.2.2.2.1 → m.1 c = 5 + 1) (hv : clc m.1 m.2.1 m.2.2.2.2.1 → gz_u (gz_ad G) m (ftC 5 5) c 5 = v) (hd : decode cc pc = .ok (.getfield 19, 3)) (kk : gz_V cS X G nL rem m (pc + 3) lv (v :: st)) : gz_V cS X G nL rem m pc lv (.ref (gz_ad G c) :: st) :=
  gz_getf hX (C := RX5) (T := TX5) (N := 10) (ci := 5) (k := 5) rfl (by decide) in_X5 (by decide) (Or.inl (hX.2.2.2.2.1 _ q428)) hd hK hv kk
theorem cc_X5_128 {X : gz_X} {G : gz_G} {cc : ByteArray} {nL fr lo pc : Nat} {rem : Nat × Nat} {lv : List (Nat × Value)} {rest st0 : List Value} (hX : gz_C cS X G cc nL RX5 fr lo) {x0 : Int32} {x1 : Int32} {m m9 : gM}  {r : Int32} (h : cf_J8_min x0 x1 m = some (r, m9)) (hroom : 0 + 1 ≤ fr ∧ 8 + (2 + 11) + 0 ≤ lo) (hst : st0 = [.int x1, .int x0] ++ rest) (hW : (rest.map fun v => v.category).sum ≤ 8) (hd : decode cc pc = .ok (.invokestatic 128, 3)) (kk : gz_V cS X G nL rem m9 (pc + 3) lv (.int r :: rest)) : gz_V cS X G nL rem m pc lv st0 :=
  gz_callS hX cs_E (As := [.int x0, .int x1]) (rest := rest) (ct_J8_min (l := X.2.1) h) (lw_S q1537 q494 q181 q495) (n := 2) (by decide +kernel) hroom rfl hst hW hd (rem := rem) kk
theorem cc_X5_125 {X : gz_X} {G : gz_G} {cc : ByteArray} {nL fr lo pc : Nat} {rem : Nat × Nat} {lv : List (Nat × Value)} {rest st0 : List Value} (hX : gz_C cS X G cc nL RX5 fr lo) {c0 : Nat} {x1 : Int32} {m m9 : gM} (hK : clc m.1 m.2.1 m.2.2.2.2.1 → m.1 c0 = 5 + 1) (hs_c0 : cSt c0 = true) {r : Int32} (h : cf_X5_onward c0 x1 m = some (r, m9)) (hroom : 81 + 1 ≤ fr ∧ 8 + (2 + 11) + 2740 ≤ lo) (hst : st0 = [.int x1, .ref (gz_ad G c0)] ++ rest) (hW : (rest.map fun v => v.category).sum ≤ 8) (hd : decode cc pc = .ok (.invokevirtual 125, 3)) (kk : gz_V cS X G nL rem m9 (pc + 3) lv (.int r :: rest)) : gz_V cS X G nL rem m pc lv st0 :=
  gz_callV2 hX cs_E (As := [.int x1]) (rest := rest) (q := (RX5, TX5, 10)) (ci := 5) (c := c0) (ct_X5_onward (l := X.2.1) hs_c0 h) (lw_V q1529 q1531 qs50 q178 q1532) (n := 1) (by decide +kernel) hroom rfl rfl (by decide) hK hst hW hd (rem := rem) kk
/-! FirstSnuffer$State.goes()I -/
def mP_X5_goes_2 (X : gz_X) (G : gz_G) (c0 : Nat) (q : (Int32 × gM)) : Prop := gz_V cS X G 3 (0, 0) q.2 2 [(0, .ref (gz_ad G c0)), (1, .int q.1)] []
def mP_X5_goes_46 (X : gz_X) (G : gz_G) (c0 : Nat) (q : (Int32 × Int32 × gM)) : Prop := gz_V cS X G 3 (0, 0) q.2.2 46 [(0, .ref (gz_ad G c0)), (1, .int q.1), (2, .int q.2.1)] []
noncomputable def mj_X5_goes_122 (c0 : Nat) (x1 : Int32) (x2 : Int32) (m : gM) : Option ((Int32 × Int32 × gM) ⊕ (Int32 × gM)) :=
  gz_let (x2 + (1 : Int32)) fun y1 => some (Sum.inl (x1, y1, m))
theorem wb_X5_goes_122 {X : gz_X} {G : gz_G} (hX : gz_C cS X G cX5_goes 3 RX5 82 2761) {c0 : Nat} {x1 : Int32} {x2 : Int32} (hs_c0 : cSt c0 = true) {m : gM} {z : ((Int32 × Int32 × gM) ⊕ (Int32 × gM))} (h : mj_X5_goes_122 c0 x1 x2 m = some z) (hk : (Sum.elim (mP_X5_goes_46 X G c0) (fun z : (Int32 × gM) => gz_kI cS X G 3 (0, 0) cX5_goes z.2 z.1)) z) : gz_V cS X G 3 (0, 0) m 122 [(0, .ref (gz_ad G c0)), (1, .int x1), (2, .int x2)] [] := by
  unfold mj_X5_goes_122 at h
  obtain ⟨y1, ey1, h⟩ := gz_lt h
  refine gz_iinc (pc := 122) (v := y1) (lw := [(2, .int y1), (0, .ref (gz_ad G c0)), (1, .int x1)]) hX dX5_goes_122 (k := 2) rfl (by rw [ey1]; rfl) (by decide) rfl ?_
  refine gz_goto (pc := 125) (tgt := 46) hX dX5_goes_125 (by decide) ?_
  refine gz_sub (lw := [(0, .ref (gz_ad G c0)), (1, .int x1), (2, .int y1)]) [1, 2, 0] rfl ?_
  obtain rfl := Option.some.inj h
  exact hk
noncomputable def mb_X5_goes_46 (c0 : Nat) (x1 : Int32) (x2 : Int32) (m : gM) : Option ((Int32 × Int32 × gM) ⊕ (Int32 × gM)) :=
  ((cf_X0_things m).bind fun (r1, m2) => (if r1 ≤ x2 then gz_let (gz_sI m2 c0 0 ((gI m2 c0 0) + (1 : Int32))) fun m5 => some (Sum.inr (x1, m5)) else (if gz_in x2 (8) then (if (gI m2 (c0 + 2) (gz_ix x2)) = (-1 : Int32) then (if gz_in x2 (8) then ((cf_J8_min (99 : Int32) ((gI m2 (c0 + 3) (gz_ix x2)) + (1 : Int32)) m2).bind fun (r18, m19) => (if gz_in x2 (8) then gz_let (gz_sI m19 (c0 + 3) (gz_ix x2) r18) fun m22 => (mj_X5_goes_122 c0 x1 x2 m22) else none)) else none) else (if gz_in x2 (8) then (if (gI m2 (c0 + 2) (gz_ix x2)) = (0 : Int32) then ((cf_X5_goesOut c0 x2 (0 : Int32) m2).bind fun (_, m14) => gz_let (x1 + (1 : Int32)) fun y16 => (mj_X5_goes_122 c0 y16 x2 m14)) else (if gz_in x2 (8) then (if gz_in x2 (8) then gz_let (gz_sI m2 (c0 + 1) (gz_ix x2) (gI m2 (c0 + 2) (gz_ix x2))) fun m12 => (mj_X5_goes_122 c0 x1 x2 m12) else none) else none)) else none)) else none)))
theorem wb_X5_goes_46 {X : gz_X} {G : gz_G} (hX : gz_C cS X G cX5_goes 3 RX5 82 2761) {c0 : Nat} {x1 : Int32} {x2 : Int32} (hs_c0 : cSt c0 = true) {m : gM} {z : ((Int32 × Int32 × gM) ⊕ (Int32 × gM))} (h : mb_X5_goes_46 c0 x1 x2 m = some z) (hk : (Sum.elim (mP_X5_goes_46 X G c0) (fun z : (Int32 × gM) => gz_kI cS X G 3 (0, 0) cX5_goes z.2 z.1)) z) : gz_V cS X G 3 (0, 0) m 46 [(0, .ref (gz_ad G c0)), (1, .int x1), (2, .int x2)] [] := by
  unfold mb_X5_goes_46 at h
  refine gz_iload_n (pc := 46) hX dX5_goes_46 rfl 2 rfl ?_
  refine gz_aload_n (pc := 47) hX dX5_goes_47 rfl 0 rfl ?_
  refine cg_X5_3_5 (pc := 48) hX (c := c0) (v := .ref (gz_ad G 1000)) (fun h => cz_k h (st_k hs_c0)) (fun h => cz_f h (st_0 hs_c0) (st_f9 hs_c0) (by decide) rfl) dX5_goes_48 ?_
  obtain ⟨⟨r1, m2⟩, c3, h⟩ := gz_bd h
  refine cc_X5_59 (pc := 51) hX (fun h => cz_k h rfl) c3 ⟨Nat.le_of_ble_eq_true rfl, Nat.le_of_ble_eq_true rfl⟩ (rest := [.int x2]) rfl (Nat.le_of_ble_eq_true rfl) dX5_goes_51 ?_
  refine gz_icmp_ge (pc := 54) (tgt := 128) hX dX5_goes_54 (by decide) (fun g4 => ?_) (fun g4 => ?_)
  · replace h := gz_it' g4 h
    refine gz_aload_n (pc := 128) hX dX5_goes_128 rfl 0 rfl ?_
    refine gz_dup (pc := 129) hX dX5_goes_129 rfl ?_
    refine cg_X5_33_5 (pc := 130) hX (c := c0) (v := .int (gI m2 c0 0)) (fun h => cz_k h (st_k hs_c0)) (fun _ => rfl) dX5_goes_130 ?_
    refine gz_iconst (pc := 133) (v := (1 : Int32)) hX dX5_goes_133 (by decide) ?_
    refine gz_iadd (pc := 134) hX dX5_goes_134 ?_
    obtain ⟨m5, em5, h⟩ := gz_lt h
    refine cp_X5_33_5 (pc := 135) hX (c := c0) (fun h => cz_k h (st_k hs_c0)) (st_w hs_c0) dX5_goes_135 em5 ?_
    refine gz_iload_n (pc := 138) hX dX5_goes_138 rfl 1 rfl ?_
    obtain rfl := Option.some.inj h
    exact hk _ _ dX5_goes_139
  · replace h := gz_if' g4 h
    refine gz_aload_n (pc := 57) hX dX5_goes_57 rfl 0 rfl ?_
    refine cg_X5_19_5 (pc := 58) hX (c := c0) (v := .ref (gz_ad G (c0 + 2))) (fun h => cz_k h (st_k hs_c0)) (fun h => cz_f h (st_0 hs_c0) (st_f5 hs_c0) (by omega) rfl) dX5_goes_58 ?_
    refine gz_iload_n (pc := 61) hX dX5_goes_61 rfl 2 rfl ?_
    obtain ⟨g6, h⟩ := gz_gu h
    refine gz_iald2 (pc := 62) (c := (c0 + 2)) (n := 8) hX rfl (fun h => cz_a h (st_a2 hs_c0).1 (by decide) (st_a2 hs_c0).2) g6 dX5_goes_62 ?_
    refine gz_iconst (pc := 63) (v := (-1 : Int32)) hX dX5_goes_63 (by decide) ?_
    refine gz_icmp_ne (pc := 64) (tgt := 89) hX dX5_goes_64 (by decide) (fun g7 => ?_) (fun g7 => ?_)
    · replace h := gz_if' g7 h
      refine gz_aload_n (pc := 89) hX dX5_goes_89 rfl 0 rfl ?_
      refine cg_X5_19_5 (pc := 90) hX (c := c0) (v := .ref (gz_ad G (c0 + 2))) (fun h => cz_k h (st_k hs_c0)) (fun h => cz_f h (st_0 hs_c0) (st_f5 hs_c0) (by omega) rfl) dX5_goes_90 ?_
      refine gz_iload_n (pc := 93) hX dX5_goes_93 rfl 2 rfl ?_
      obtain ⟨g8, h⟩ := gz_gu h
      refine gz_iald2 (pc := 94) (c := (c0 + 2)) (n := 8) hX rfl (fun h => cz_a h (st_a2 hs_c0).1 (by decide) (st_a2 hs_c0).2) g8 dX5_goes_94 ?_
      refine gz_if_ne (pc := 95) (tgt := 110) hX dX5_goes_95 (by decide) (fun g9 => ?_) (fun g9 => ?_)
      · replace h := gz_if' g9 h
        refine gz_aload_n (pc := 110) hX dX5_goes_110 rfl 0 rfl ?_
        refine cg_X5_15_5 (pc := 111) hX (c := c0) (v := .ref (gz_ad G (c0 + 1))) (fun h => cz_k h (st_k hs_c0)) (fun h => cz_f h (st_0 hs_c0) (st_f4 hs_c0) (by omega) rfl) dX5_goes_111 ?_
        refine gz_iload_n (pc := 114) hX dX5_goes_114 rfl 2 rfl ?_
        refine gz_aload_n (pc := 115) hX dX5_goes_115 rfl 0 rfl ?_
        refine cg_X5_19_5 (pc := 116) hX (c := c0) (v := .ref (gz_ad G (c0 + 2))) (fun h => cz_k h (st_k hs_c0)) (fun h => cz_f h (st_0 hs_c0) (st_f5 hs_c0) (by omega) rfl) dX5_goes_116 ?_
        refine gz_iload_n (pc := 119) hX dX5_goes_119 rfl 2 rfl ?_
        obtain ⟨g10, h⟩ := gz_gu h
        refine gz_iald2 (pc := 120) (c := (c0 + 2)) (n := 8) hX rfl (fun h => cz_a h (st_a2 hs_c0).1 (by decide) (st_a2 hs_c0).2) g10 dX5_goes_120 ?_
        obtain ⟨g11, h⟩ := gz_gu h
        obtain ⟨m12, em12, h⟩ := gz_lt h
        refine gz_iast2 (pc := 121) (c := (c0 + 1)) (n := 8) hX rfl (fun h => cz_a h (st_a1 hs_c0).1 (by decide) (st_a1 hs_c0).2) (st_w1 hs_c0 1) g11 dX5_goes_121 em12 ?_
        exact wb_X5_goes_122 hX hs_c0 h hk
      · replace h := gz_it' g9 h
        refine gz_aload_n (pc := 98) hX dX5_goes_98 rfl 0 rfl ?_
        refine gz_iload_n (pc := 99) hX dX5_goes_99 rfl 2 rfl ?_
        refine gz_iconst (pc := 100) (v := (0 : Int32)) hX dX5_goes_100 (by decide) ?_
        obtain ⟨⟨⟨⟩, m14⟩, c15, h⟩ := gz_bd h
        refine cc_X5_134 (pc := 101) hX (fun h => cz_k h (st_k hs_c0)) hs_c0 c15 ⟨Nat.le_of_ble_eq_true rfl, Nat.le_of_ble_eq_true rfl⟩ (rest := []) rfl (Nat.le_of_ble_eq_true rfl) dX5_goes_101 ?_
        obtain ⟨y16, ey16, h⟩ := gz_lt h
        refine gz_iinc (pc := 104) (v := y16) (lw := [(1, .int y16), (0, .ref (gz_ad G c0)), (2, .int x2)]) hX dX5_goes_104 (k := 1) rfl (by rw [ey16]; rfl) (by decide) rfl ?_
        refine gz_goto (pc := 107) (tgt := 122) hX dX5_goes_107 (by decide) ?_
        refine gz_sub (lw := [(0, .ref (gz_ad G c0)), (1, .int y16), (2, .int x2)]) [1, 0, 2] rfl ?_
        exact wb_X5_goes_122 hX hs_c0 h hk
    · replace h := gz_it' g7 h
      refine gz_aload_n (pc := 67) hX dX5_goes_67 rfl 0 rfl ?_
      refine cg_X5_22_5 (pc := 68) hX (c := c0) (v := .ref (gz_ad G (c0 + 3))) (fun h => cz_k h (st_k hs_c0)) (fun h => cz_f h (st_0 hs_c0) (st_f6 hs_c0) (by omega) rfl) dX5_goes_68 ?_
      refine gz_iload_n (pc := 71) hX dX5_goes_71 rfl 2 rfl ?_
      refine gz_bipush (pc := 72) (v := (99 : Int32)) hX dX5_goes_72 (by decide) ?_
      refine gz_aload_n (pc := 74) hX dX5_goes_74 rfl 0 rfl ?_
      refine cg_X5_22_5 (pc := 75) hX (c := c0) (v := .ref (gz_ad G (c0 + 3))) (fun h => cz_k h (st_k hs_c0)) (fun h => cz_f h (st_0 hs_c0) (st_f6 hs_c0) (by omega) rfl) dX5_goes_75 ?_
      refine gz_iload_n (pc := 78) hX dX5_goes_78 rfl 2 rfl ?_
      obtain ⟨g17, h⟩ := gz_gu h
      refine gz_iald2 (pc := 79) (c := (c0 + 3)) (n := 8) hX rfl (fun h => cz_a h (st_a3 hs_c0).1 (by decide) (st_a3 hs_c0).2) g17 dX5_goes_79 ?_
      refine gz_iconst (pc := 80) (v := (1 : Int32)) hX dX5_goes_80 (by decide) ?_
      refine gz_iadd (pc := 81) hX dX5_goes_81 ?_
      obtain ⟨⟨r18, m19⟩, c20, h⟩ := gz_bd h
      refine cc_X5_128 (pc := 82) hX c20 ⟨Nat.le_of_ble_eq_true rfl, Nat.le_of_ble_eq_true rfl⟩ (rest := [.int x2, .ref (gz_ad G (c0 + 3))]) rfl (Nat.le_of_ble_eq_true rfl) dX5_goes_82 ?_
      obtain ⟨g21, h⟩ := gz_gu h
      obtain ⟨m22, em22, h⟩ := gz_lt h
      refine gz_iast2 (pc := 85) (c := (c0 + 3)) (n := 8) hX rfl (fun h => cz_a h (st_a3 hs_c0).1 (by decide) (st_a3 hs_c0).2) (st_w1 hs_c0 3) g21 dX5_goes_85 em22 ?_
      refine gz_goto (pc := 86) (tgt := 122) hX dX5_goes_86 (by decide) ?_
      exact wb_X5_goes_122 hX hs_c0 h hk
noncomputable def ml_X5_goes_46 (c0 : Nat) (x1 : Int32) (x2 : Int32) (m : gM) : Option (Int32 × gM) := gz_loop (fun q : (Int32 × Int32 × gM) => mb_X5_goes_46 c0 q.1 q.2.1 q.2.2) (x1, x2, m)
theorem wl_X5_goes_46 {X : gz_X} {G : gz_G} (hX : gz_C cS X G cX5_goes 3 RX5 82 2761) {c0 : Nat} {x1 : Int32} {x2 : Int32} (hs_c0 : cSt c0 = true) {m : gM} {z : (Int32 × gM)} (h : ml_X5_goes_46 c0 x1 x2 m = some z) (hk : (fun z : (Int32 × gM) => gz_kI cS X G 3 (0, 0) cX5_goes z.2 z.1) z) : gz_V cS X G 3 (0, 0) m 46 [(0, .ref (gz_ad G c0)), (1, .int x1), (2, .int x2)] [] := by
  have hp : mP_X5_goes_46 X G c0 (x1, x2, m) := gz_loop_ind (fun q z hz hkz => wb_X5_goes_46 hX hs_c0 hz hkz) h hk
  exact hp
noncomputable def mj_X5_goes_35 (c0 : Nat) (x1 : Int32) (s0 : Int32) (s1 : Int32) (m : gM) : Option ((Int32 × gM) ⊕ (Int32 × gM)) :=
  (if gz_in s1 (8) then gz_let (gz_sI m (c0 + 2) (gz_ix s1) s0) fun m2 => gz_let (x1 + (1 : Int32)) fun y3 => some (Sum.inl (y3, m2)) else none)
theorem wb_X5_goes_35 {X : gz_X} {G : gz_G} (hX : gz_C cS X G cX5_goes 3 RX5 82 2761) {c0 : Nat} {x1 : Int32} {s0 : Int32} {s1 : Int32} (hs_c0 : cSt c0 = true) {m : gM} {z : ((Int32 × gM) ⊕ (Int32 × gM))} (h : mj_X5_goes_35 c0 x1 s0 s1 m = some z) (hk : (Sum.elim (mP_X5_goes_2 X G c0) (fun z : (Int32 × gM) => gz_kI cS X G 3 (0, 0) cX5_goes z.2 z.1)) z) : gz_V cS X G 3 (0, 0) m 35 [(0, .ref (gz_ad G c0)), (1, .int x1)] [.int s0, .int s1, .ref (gz_ad G (c0 + 2))] := by
  unfold mj_X5_goes_35 at h
  obtain ⟨g1, h⟩ := gz_gu h
  obtain ⟨m2, em2, h⟩ := gz_lt h
  refine gz_iast2 (pc := 35) (c := (c0 + 2)) (n := 8) hX rfl (fun h => cz_a h (st_a2 hs_c0).1 (by decide) (st_a2 hs_c0).2) (st_w1 hs_c0 2) g1 dX5_goes_35 em2 ?_
  obtain ⟨y3, ey3, h⟩ := gz_lt h
  refine gz_iinc (pc := 36) (v := y3) (lw := [(1, .int y3), (0, .ref (gz_ad G c0))]) hX dX5_goes_36 (k := 1) rfl (by rw [ey3]; rfl) (by decide) rfl ?_
  refine gz_goto (pc := 39) (tgt := 2) hX dX5_goes_39 (by decide) ?_
  refine gz_sub (lw := [(0, .ref (gz_ad G c0)), (1, .int y3)]) [1, 0] rfl ?_
  obtain rfl := Option.some.inj h
  exact hk
noncomputable def mb_X5_goes_2 (c0 : Nat) (x1 : Int32) (m : gM) : Option ((Int32 × gM) ⊕ (Int32 × gM)) :=
  ((cf_X0_things m).bind fun (r1, m2) => (if r1 ≤ x1 then (Option.map Sum.inr (ml_X5_goes_46 c0 (0 : Int32) (0 : Int32) m2)) else ((cf_X5_isLit c0 x1 m2).bind fun (r5, m6) => (if r5 = (0 : Int32) then (mj_X5_goes_35 c0 x1 (-1 : Int32) x1 m6) else ((cf_X5_onward c0 x1 m6).bind fun (r9, m10) => (mj_X5_goes_35 c0 x1 r9 x1 m10))))))
theorem wb_X5_goes_2 {X : gz_X} {G : gz_G} (hX : gz_C cS X G cX5_goes 3 RX5 82 2761) {c0 : Nat} {x1 : Int32} (hs_c0 : cSt c0 = true) {m : gM} {z : ((Int32 × gM) ⊕ (Int32 × gM))} (h : mb_X5_goes_2 c0 x1 m = some z) (hk : (Sum.elim (mP_X5_goes_2 X G c0) (fun z : (Int32 × gM) => gz_kI cS X G 3 (0, 0) cX5_goes z.2 z.1)) z) : gz_V cS X G 3 (0, 0) m 2 [(0, .ref (gz_ad G c0)), (1, .int x1)] [] := by
  unfold mb_X5_goes_2 at h
  refine gz_iload_n (pc := 2) hX dX5_goes_2 rfl 1 rfl ?_
  refine gz_aload_n (pc := 3) hX dX5_goes_3 rfl 0 rfl ?_
  refine cg_X5_3_5 (pc := 4) hX (c := c0) (v := .ref (gz_ad G 1000)) (fun h => cz_k h (st_k hs_c0)) (fun h => cz_f h (st_0 hs_c0) (st_f9 hs_c0) (by decide) rfl) dX5_goes_4 ?_
  obtain ⟨⟨r1, m2⟩, c3, h⟩ := gz_bd h
  refine cc_X5_59 (pc := 7) hX (fun h => cz_k h rfl) c3 ⟨Nat.le_of_ble_eq_true rfl, Nat.le_of_ble_eq_true rfl⟩ (rest := [.int x1]) rfl (Nat.le_of_ble_eq_true rfl) dX5_goes_7 ?_
  refine gz_icmp_ge (pc := 10) (tgt := 42) hX dX5_goes_10 (by decide) (fun g4 => ?_) (fun g4 => ?_)
  · replace h := gz_it' g4 h
    refine gz_iconst (pc := 42) (v := (0 : Int32)) hX dX5_goes_42 (by decide) ?_
    refine gz_istore_n (pc := 43) (lw := [(1, .int (0 : Int32)), (0, .ref (gz_ad G c0))]) hX dX5_goes_43 rfl (by decide) rfl ?_
    refine gz_iconst (pc := 44) (v := (0 : Int32)) hX dX5_goes_44 (by decide) ?_
    refine gz_istore_n (pc := 45) (lw := [(2, .int (0 : Int32)), (1, .int (0 : Int32)), (0, .ref (gz_ad G c0))]) hX dX5_goes_45 rfl (by decide) rfl ?_
    refine gz_sub (lw := [(0, .ref (gz_ad G c0)), (1, .int (0 : Int32)), (2, .int (0 : Int32))]) [2, 1, 0] rfl ?_
    obtain ⟨z0, hm0, rfl⟩ := gz_mp h
    exact wl_X5_goes_46 hX hs_c0 hm0 hk
  · replace h := gz_if' g4 h
    refine gz_aload_n (pc := 13) hX dX5_goes_13 rfl 0 rfl ?_
    refine cg_X5_19_5 (pc := 14) hX (c := c0) (v := .ref (gz_ad G (c0 + 2))) (fun h => cz_k h (st_k hs_c0)) (fun h => cz_f h (st_0 hs_c0) (st_f5 hs_c0) (by omega) rfl) dX5_goes_14 ?_
    refine gz_iload_n (pc := 17) hX dX5_goes_17 rfl 1 rfl ?_
    refine gz_aload_n (pc := 18) hX dX5_goes_18 rfl 0 rfl ?_
    refine gz_iload_n (pc := 19) hX dX5_goes_19 rfl 1 rfl ?_
    obtain ⟨⟨r5, m6⟩, c7, h⟩ := gz_bd h
    refine cc_X5_73 (pc := 20) hX (fun h => cz_k h (st_k hs_c0)) hs_c0 c7 ⟨Nat.le_of_ble_eq_true rfl, Nat.le_of_ble_eq_true rfl⟩ (rest := [.int x1, .ref (gz_ad G (c0 + 2))]) rfl (Nat.le_of_ble_eq_true rfl) dX5_goes_20 ?_
    refine gz_if_eq (pc := 23) (tgt := 34) hX dX5_goes_23 (by decide) (fun g8 => ?_) (fun g8 => ?_)
    · replace h := gz_it' g8 h
      refine gz_iconst (pc := 34) (v := (-1 : Int32)) hX dX5_goes_34 (by decide) ?_
      exact wb_X5_goes_35 hX hs_c0 h hk
    · replace h := gz_if' g8 h
      refine gz_aload_n (pc := 26) hX dX5_goes_26 rfl 0 rfl ?_
      refine gz_iload_n (pc := 27) hX dX5_goes_27 rfl 1 rfl ?_
      obtain ⟨⟨r9, m10⟩, c11, h⟩ := gz_bd h
      refine cc_X5_125 (pc := 28) hX (fun h => cz_k h (st_k hs_c0)) hs_c0 c11 ⟨Nat.le_of_ble_eq_true rfl, Nat.le_of_ble_eq_true rfl⟩ (rest := [.int x1, .ref (gz_ad G (c0 + 2))]) rfl (Nat.le_of_ble_eq_true rfl) dX5_goes_28 ?_
      refine gz_goto (pc := 31) (tgt := 35) hX dX5_goes_31 (by decide) ?_
      exact wb_X5_goes_35 hX hs_c0 h hk
noncomputable def ml_X5_goes_2 (c0 : Nat) (x1 : Int32) (m : gM) : Option (Int32 × gM) := gz_loop (fun q : (Int32 × gM) => mb_X5_goes_2 c0 q.1 q.2) (x1, m)
theorem wl_X5_goes_2 {X : gz_X} {G : gz_G} (hX : gz_C cS X G cX5_goes 3 RX5 82 2761) {c0 : Nat} {x1 : Int32} (hs_c0 : cSt c0 = true) {m : gM} {z : (Int32 × gM)} (h : ml_X5_goes_2 c0 x1 m = some z) (hk : (fun z : (Int32 × gM) => gz_kI cS X G 3 (0, 0) cX5_goes z.2 z.1) z) : gz_V cS X G 3 (0, 0) m 2 [(0, .ref (gz_ad G c0)), (1, .int x1)] [] := by
  have hp : mP_X5_goes_2 X G c0 (x1, m) := gz_loop_ind (fun q z hz hkz => wb_X5_goes_2 hX hs_c0 hz hkz) h hk
  exact hp
noncomputable def cf_X5_goes (c0 : Nat) (m : gM) : Option (Int32 × gM) :=
  (ml_X5_goes_2 c0 (0 : Int32) m)
theorem wm_X5_goes {X : gz_X} {G : gz_G} (hX : gz_C cS X G cX5_goes 3 RX5 82 2761) {c0 : Nat} (hs_c0 : cSt c0 = true) {m : gM} {z : (Int32 × gM)} (h : cf_X5_goes c0 m = some z) (hk : (fun z : (Int32 × gM) => gz_kI cS X G 3 (0, 0) cX5_goes z.2 z.1) z) : gz_V cS X G 3 (0, 0) m 0 [(0, .ref (gz_ad G c0))] [] := by
  unfold cf_X5_goes at h
  refine gz_iconst (pc := 0) (v := (0 : Int32)) hX dX5_goes_0 (by decide) ?_
  refine gz_istore_n (pc := 1) (lw := [(1, .int (0 : Int32)), (0, .ref (gz_ad G c0))]) hX dX5_goes_1 rfl (by decide) rfl ?_
  refine gz_sub (lw := [(0, .ref (gz_ad G c0)), (1, .int (0 : Int32))]) [1, 0] rfl ?_
  exact wl_X5_goes_2 hX hs_c0 h hk
theorem ct_X5_goes {G : gz_G} {l : Launch} {c0 : Nat} (hs_c0 : cSt c0 = true) {m m9 : gM} {r : Int32} (h : cf_X5_goes c0 m = some (r, m9)) : gz_Met cS G l yX5_goes cX5_goes 3 (some .int) (mRm 82 2761) [.ref (gz_ad G c0)] m m9 (some (.int r)) :=
  gz_ofI (by decide +kernel) (Nat.le_of_ble_eq_true rfl) fun X _ hX hk => wm_X5_goes hX hs_c0 h hk
theorem cc_X0_291 {X : gz_X} {G : gz_G} {cc : ByteArray} {nL fr lo pc : Nat} {rem : Nat × Nat} {lv : List (Nat × Value)} {rest st0 : List Value} (hX : gz_C cS X G cc nL RX0 fr lo) {x1 : Int32} {x2 : Int32} {x3 : Int32} {m m9 : gM} (hK : clc m.1 m.2.1 m.2.2.2.2.1 → m.1 1000 = 0 + 1)  {r : Int32} (h : cf_X0_isAhead x1 x2 x3 m = some (r, m9)) (hroom : 1 + 1 ≤ fr ∧ 8 + (4 + 11) + 22 ≤ lo) (hst : st0 = [.int x3, .int x2, .int x1, .ref (gz_ad G 1000)] ++ rest) (hW : (rest.map fun v => v.category).sum ≤ 8) (hd : decode cc pc = .ok (.invokevirtual 291, 3)) (kk : gz_V cS X G nL rem m9 (pc + 3) lv (.int r :: rest)) : gz_V cS X G nL rem m pc lv st0 :=
  gz_callV2 hX cs_E (As := [.int x1, .int x2, .int x3]) (rest := rest) (q := (RX0, TX0, 28)) (ci := 0) (c := 1000) (ct_X0_isAhead (l := X.2.1) h) (lw_V q1513 q1515 qs49 q167 q1516) (n := 3) (by decide +kernel) hroom rfl rfl (by decide) hK hst hW hd (rem := rem) kk
theorem cc_X0_304 {X : gz_X} {G : gz_G} {cc : ByteArray} {nL fr lo pc : Nat} {rem : Nat × Nat} {lv : List (Nat × Value)} {rest st0 : List Value} (hX : gz_C cS X G cc nL RX0 fr lo) {c0 : Nat} {m m9 : gM} (hK : clc m.1 m.2.1 m.2.2.2.2.1 → m.1 c0 = 5 + 1) (hs_c0 : cSt c0 = true) {r : Int32} (h : cf_X5_goes c0 m = some (r, m9)) (hroom : 82 + 1 ≤ fr ∧ 8 + (3 + 11) + 2761 ≤ lo) (hst : st0 = [.ref (gz_ad G c0)] ++ rest) (hW : (rest.map fun v => v.category).sum ≤ 8) (hd : decode cc pc = .ok (.invokevirtual 304, 3)) (kk : gz_V cS X G nL rem m9 (pc + 3) lv (.int r :: rest)) : gz_V cS X G nL rem m pc lv st0 :=
  gz_callV2 hX cs_E (As := []) (rest := rest) (q := (RX5, TX5, 10)) (ci := 5) (c := c0) (ct_X5_goes (l := X.2.1) hs_c0 h) (lw_V q1551 q1526 q1527 q178 q1528) (n := 0) (by decide +kernel) hroom rfl rfl (by decide) hK hst hW hd (rem := rem) kk
/-! FirstSnuffer.dies(I)I -/
def mP_X0_dies_24 (X : gz_X) (G : gz_G) (q : (Int32 × Int32 × gM)) : Prop := gz_V cS X G 3 (0, 0) q.2.2 24 [(0, .ref (gz_ad G 1000)), (1, .int q.1), (2, .int q.2.1)] []
noncomputable def mb_X0_dies_24 (x1 : Int32) (x2 : Int32) (m : gM) : Option ((Int32 × Int32 × gM) ⊕ (Int32 × gM)) :=
  ((cf_X0_isAhead x2 (0 : Int32) (60 : Int32) m).bind fun (r1, m2) => (if r1 = (0 : Int32) then some (Sum.inr ((-1 : Int32), m2)) else ((cf_X5_isLit 1073 x1 m2).bind fun (r5, m6) => (if r5 = (0 : Int32) then some (Sum.inr (x2, m6)) else ((cf_X5_goes 1073 m6).bind fun (r9, m10) => gz_let (x2 + (1 : Int32)) fun y12 => some (Sum.inl (x1, y12, m10)))))))
theorem wb_X0_dies_24 {X : gz_X} {G : gz_G} (hX : gz_C cS X G cX0_dies 3 RX0 83 2783) {x1 : Int32} {x2 : Int32}  {m : gM} {z : ((Int32 × Int32 × gM) ⊕ (Int32 × gM))} (h : mb_X0_dies_24 x1 x2 m = some z) (hk : (Sum.elim (mP_X0_dies_24 X G) (fun z : (Int32 × gM) => gz_kI cS X G 3 (0, 0) cX0_dies z.2 z.1)) z) : gz_V cS X G 3 (0, 0) m 24 [(0, .ref (gz_ad G 1000)), (1, .int x1), (2, .int x2)] [] := by
  unfold mb_X0_dies_24 at h
  refine gz_aload_n (pc := 24) hX dX0_dies_24 rfl 0 rfl ?_
  refine gz_iload_n (pc := 25) hX dX0_dies_25 rfl 2 rfl ?_
  refine gz_iconst (pc := 26) (v := (0 : Int32)) hX dX0_dies_26 (by decide) ?_
  refine gz_bipush (pc := 27) (v := (60 : Int32)) hX dX0_dies_27 (by decide) ?_
  obtain ⟨⟨r1, m2⟩, c3, h⟩ := gz_bd h
  refine cc_X0_291 (pc := 29) hX (fun h => cz_k h rfl) c3 ⟨Nat.le_of_ble_eq_true rfl, Nat.le_of_ble_eq_true rfl⟩ (rest := []) rfl (Nat.le_of_ble_eq_true rfl) dX0_dies_29 ?_
  refine gz_if_eq (pc := 32) (tgt := 62) hX dX0_dies_32 (by decide) (fun g4 => ?_) (fun g4 => ?_)
  · replace h := gz_it' g4 h
    refine gz_iconst (pc := 62) (v := (-1 : Int32)) hX dX0_dies_62 (by decide) ?_
    obtain rfl := Option.some.inj h
    exact hk _ _ dX0_dies_63
  · replace h := gz_if' g4 h
    refine gz_aload_n (pc := 35) hX dX0_dies_35 rfl 0 rfl ?_
    refine cg_X0_78_0 (pc := 36) hX (c := 1000) (v := .ref (gz_ad G 1073)) (fun h => cz_k h rfl) (fun h => cz_f h (by decide) rfl (by decide) rfl) dX0_dies_36 ?_
    refine gz_iload_n (pc := 39) hX dX0_dies_39 rfl 1 rfl ?_
    obtain ⟨⟨r5, m6⟩, c7, h⟩ := gz_bd h
    refine cc_X0_301 (pc := 40) hX (fun h => cz_k h rfl) (by decide) c7 ⟨Nat.le_of_ble_eq_true rfl, Nat.le_of_ble_eq_true rfl⟩ (rest := []) rfl (Nat.le_of_ble_eq_true rfl) dX0_dies_40 ?_
    refine gz_if_ne (pc := 43) (tgt := 48) hX dX0_dies_43 (by decide) (fun g8 => ?_) (fun g8 => ?_)
    · replace h := gz_if' g8 h
      refine gz_aload_n (pc := 48) hX dX0_dies_48 rfl 0 rfl ?_
      refine cg_X0_78_0 (pc := 49) hX (c := 1000) (v := .ref (gz_ad G 1073)) (fun h => cz_k h rfl) (fun h => cz_f h (by decide) rfl (by decide) rfl) dX0_dies_49 ?_
      obtain ⟨⟨r9, m10⟩, c11, h⟩ := gz_bd h
      refine cc_X0_304 (pc := 52) hX (fun h => cz_k h rfl) (by decide) c11 ⟨Nat.le_of_ble_eq_true rfl, Nat.le_of_ble_eq_true rfl⟩ (rest := []) rfl (Nat.le_of_ble_eq_true rfl) dX0_dies_52 ?_
      refine gz_pop (pc := 55) hX dX0_dies_55 rfl ?_
      obtain ⟨y12, ey12, h⟩ := gz_lt h
      refine gz_iinc (pc := 56) (v := y12) (lw := [(2, .int y12), (0, .ref (gz_ad G 1000)), (1, .int x1)]) hX dX0_dies_56 (k := 2) rfl (by rw [ey12]; rfl) (by decide) rfl ?_
      refine gz_goto (pc := 59) (tgt := 24) hX dX0_dies_59 (by decide) ?_
      refine gz_sub (lw := [(0, .ref (gz_ad G 1000)), (1, .int x1), (2, .int y12)]) [1, 2, 0] rfl ?_
      obtain rfl := Option.some.inj h
      exact hk
    · replace h := gz_it' g8 h
      refine gz_iload_n (pc := 46) hX dX0_dies_46 rfl 2 rfl ?_
      obtain rfl := Option.some.inj h
      exact hk _ _ dX0_dies_47
noncomputable def ml_X0_dies_24 (x1 : Int32) (x2 : Int32) (m : gM) : Option (Int32 × gM) := gz_loop (fun q : (Int32 × Int32 × gM) => mb_X0_dies_24 q.1 q.2.1 q.2.2) (x1, x2, m)
theorem wl_X0_dies_24 {X : gz_X} {G : gz_G} (hX : gz_C cS X G cX0_dies 3 RX0 83 2783) {x1 : Int32} {x2 : Int32}  {m : gM} {z : (Int32 × gM)} (h : ml_X0_dies_24 x1 x2 m = some z) (hk : (fun z : (Int32 × gM) => gz_kI cS X G 3 (0, 0) cX0_dies z.2 z.1) z) : gz_V cS X G 3 (0, 0) m 24 [(0, .ref (gz_ad G 1000)), (1, .int x1), (2, .int x2)] [] := by
  have hp : mP_X0_dies_24 X G (x1, x2, m) := gz_loop_ind (fun q z hz hkz => wb_X0_dies_24 hX  hz hkz) h hk
  exact hp
noncomputable def cf_X0_dies (x1 : Int32) (m : gM) : Option (Int32 × gM) :=
  ((cf_X0_isThing x1 m).bind fun (r1, m2) => (if r1 = (0 : Int32) then some ((-1 : Int32), m2) else ((cf_X5_copy 1073 1027 m2).bind fun (r5, m6) => (if cSt r5 = true then (ml_X0_dies_24 x1 (0 : Int32) m6) else none))))
theorem wm_X0_dies {X : gz_X} {G : gz_G} (hX : gz_C cS X G cX0_dies 3 RX0 83 2783) {x1 : Int32}  {m : gM} {z : (Int32 × gM)} (h : cf_X0_dies x1 m = some z) (hk : (fun z : (Int32 × gM) => gz_kI cS X G 3 (0, 0) cX0_dies z.2 z.1) z) : gz_V cS X G 3 (0, 0) m 0 [(0, .ref (gz_ad G 1000)), (1, .int x1)] [] := by
  unfold cf_X0_dies at h
  refine gz_aload_n (pc := 0) hX dX0_dies_0 rfl 0 rfl ?_
  refine gz_iload_n (pc := 1) hX dX0_dies_1 rfl 1 rfl ?_
  obtain ⟨⟨r1, m2⟩, c3, h⟩ := gz_bd h
  refine cc_X0_240 (pc := 2) hX (fun h => cz_k h rfl) c3 ⟨Nat.le_of_ble_eq_true rfl, Nat.le_of_ble_eq_true rfl⟩ (rest := []) rfl (Nat.le_of_ble_eq_true rfl) dX0_dies_2 ?_
  refine gz_if_ne (pc := 5) (tgt := 10) hX dX0_dies_5 (by decide) (fun g4 => ?_) (fun g4 => ?_)
  · replace h := gz_if' g4 h
    refine gz_aload_n (pc := 10) hX dX0_dies_10 rfl 0 rfl ?_
    refine cg_X0_78_0 (pc := 11) hX (c := 1000) (v := .ref (gz_ad G 1073)) (fun h => cz_k h rfl) (fun h => cz_f h (by decide) rfl (by decide) rfl) dX0_dies_11 ?_
    refine gz_aload_n (pc := 14) hX dX0_dies_14 rfl 0 rfl ?_
    refine cg_X0_74_0 (pc := 15) hX (c := 1000) (v := .ref (gz_ad G 1027)) (fun h => cz_k h rfl) (fun h => cz_f h (by decide) rfl (by decide) rfl) dX0_dies_15 ?_
    obtain ⟨⟨r5, m6⟩, c7, h⟩ := gz_bd h
    obtain ⟨g8, h⟩ := gz_gu h
    refine cc_X0_294 (pc := 18) hX (fun h => cz_k h rfl) (by decide) (by decide) c7 ⟨Nat.le_of_ble_eq_true rfl, Nat.le_of_ble_eq_true rfl⟩ (rest := []) rfl (Nat.le_of_ble_eq_true rfl) dX0_dies_18 ?_
    refine gz_pop (pc := 21) hX dX0_dies_21 rfl ?_
    refine gz_iconst (pc := 22) (v := (0 : Int32)) hX dX0_dies_22 (by decide) ?_
    refine gz_istore_n (pc := 23) (lw := [(2, .int (0 : Int32)), (0, .ref (gz_ad G 1000)), (1, .int x1)]) hX dX0_dies_23 rfl (by decide) rfl ?_
    refine gz_sub (lw := [(0, .ref (gz_ad G 1000)), (1, .int x1), (2, .int (0 : Int32))]) [1, 2, 0] rfl ?_
    exact wl_X0_dies_24 hX h hk
  · replace h := gz_it' g4 h
    refine gz_iconst (pc := 8) (v := (-1 : Int32)) hX dX0_dies_8 (by decide) ?_
    obtain rfl := Option.some.inj h
    exact hk _ _ dX0_dies_9
theorem ct_X0_dies {G : gz_G} {l : Launch} {x1 : Int32}  {m m9 : gM} {r : Int32} (h : cf_X0_dies x1 m = some (r, m9)) : gz_Met cS G l yX0_dies cX0_dies 3 (some .int) (mRm 83 2783) [.ref (gz_ad G 1000), .int x1] m m9 (some (.int r)) :=
  gz_ofI (by decide +kernel) (Nat.le_of_ble_eq_true rfl) fun X _ hX hk => wm_X0_dies hX h hk
theorem cg_X0_336_1 {X : gz_X} {G : gz_G} {cc : ByteArray} {nL fr lo pc : Nat} {rem : Nat × Nat} {m : gM} {lv : List (Nat × Value)} {st : List Value} (hX : gz_C cS X G cc nL RX0 fr lo) {c : Nat} {v : Value} (hK : clc m.1 m.2.1 m.2.2.2.2.1 → m.1 c = 1 + 1) (hv : clc m.1 m.2.1 m.2.2.2.2.1 → gz_u (gz_ad G) m (ftC 1 2) c 2 = v) (hd : decode cc pc = .ok (.getfield 336, 3)) (kk : gz_V cS X G nL rem m (pc + 3) lv (v :: st)) : gz_V cS X G nL rem m pc lv (.ref (gz_ad G c) :: st) :=
  gz_getf hX (C := RX1) (T := TX1) (N := 9) (ci := 1) (k := 2) rfl (by decide) in_X1 (by decide) (Or.inr ⟨_, va_Nw.use rfl (cz_n (Z := cS) hX q255 rfl)⟩) hd hK hv kk
theorem cc_X0_339 {X : gz_X} {G : gz_G} {cc : ByteArray} {nL fr lo pc : Nat} {rem : Nat × Nat} {lv : List (Nat × Value)} {rest st0 : List Value} (hX : gz_C cS X G cc nL RX0 fr lo) {c0 : Nat} {x1 : Int32} {m m9 : gM} (hK : clc m.1 m.2.1 m.2.2.2.2.1 → m.1 c0 = 5 + 1) (hs_c0 : cSt c0 = true) (h : cf_X5_blows c0 x1 m = some ((), m9)) (hroom : 2 + 1 ≤ fr ∧ 8 + (2 + 11) + 46 ≤ lo) (hst : st0 = [.int x1, .ref (gz_ad G c0)] ++ rest) (hW : (rest.map fun v => v.category).sum ≤ 8) (hd : decode cc pc = .ok (.invokevirtual 339, 3)) (kk : gz_V cS X G nL rem m9 (pc + 3) lv (rest)) : gz_V cS X G nL rem m pc lv st0 :=
  gz_callV2 hX cs_E (As := [.int x1]) (rest := rest) (q := (RX5, TX5, 10)) (ci := 5) (c := c0) (ct_X5_blows (l := X.2.1) hs_c0 h) (lw_V q1613 q1614 q1615 q178 q1616) (n := 1) (by decide +kernel) hroom rfl rfl (by decide) hK hst hW hd (rem := rem) kk
/-! FirstSnuffer.odds(I)I -/
noncomputable def mj_X0_odds_30  (m : gM) : Option (Int32 × gM) :=
  some ((-1 : Int32), m)
theorem wb_X0_odds_30 {X : gz_X} {G : gz_G} (hX : gz_C cS X G cX0_odds 4 RX0 83 2783)   {m : gM} {z : (Int32 × gM)} (h : mj_X0_odds_30  m = some z) (hk : (fun z : (Int32 × gM) => gz_kI cS X G 4 (0, 0) cX0_odds z.2 z.1) z) : gz_V cS X G 4 (0, 0) m 30 [(0, .ref (gz_ad G 1000))] [] := by
  unfold mj_X0_odds_30 at h
  refine gz_iconst (pc := 30) (v := (-1 : Int32)) hX dX0_odds_30 (by decide) ?_
  obtain rfl := Option.some.inj h
  exact hk _ _ dX0_odds_31
def mP_X0_odds_93 (X : gz_X) (G : gz_G) (q : (Int32 × Int32 × Int32 × gM)) : Prop := gz_V cS X G 4 (0, 0) q.2.2.2 93 [(0, .ref (gz_ad G 1000)), (1, .int q.1), (2, .int q.2.1), (3, .int q.2.2.1)] []
noncomputable def mj_X0_odds_147 (x1 : Int32) (x3 : Int32) (s0 : Int32) (s1 : Int32) (m : gM) : Option ((Int32 × Int32 × Int32 × gM) ⊕ (Int32 × gM)) :=
  gz_let ((s1 + s0)) fun y1 => gz_let (x3 + (1 : Int32)) fun y2 => some (Sum.inl (x1, y1, y2, m))
theorem wb_X0_odds_147 {X : gz_X} {G : gz_G} (hX : gz_C cS X G cX0_odds 4 RX0 83 2783) {x1 : Int32} {x3 : Int32} {s0 : Int32} {s1 : Int32}  {m : gM} {z : ((Int32 × Int32 × Int32 × gM) ⊕ (Int32 × gM))} (h : mj_X0_odds_147 x1 x3 s0 s1 m = some z) (hk : (Sum.elim (mP_X0_odds_93 X G) (fun z : (Int32 × gM) => gz_kI cS X G 4 (0, 0) cX0_odds z.2 z.1)) z) : gz_V cS X G 4 (0, 0) m 147 [(0, .ref (gz_ad G 1000)), (1, .int x1), (3, .int x3)] [.int s0, .int s1] := by
  unfold mj_X0_odds_147 at h
  refine gz_iadd (pc := 147) hX dX0_odds_147 ?_
  obtain ⟨y1, ey1, h⟩ := gz_lt h
  refine gz_topi ey1 ?_
  refine gz_istore_n (pc := 148) (lw := [(2, .int y1), (0, .ref (gz_ad G 1000)), (1, .int x1), (3, .int x3)]) hX dX0_odds_148 rfl (by decide) rfl ?_
  obtain ⟨y2, ey2, h⟩ := gz_lt h
  refine gz_iinc (pc := 149) (v := y2) (lw := [(3, .int y2), (2, .int y1), (0, .ref (gz_ad G 1000)), (1, .int x1)]) hX dX0_odds_149 (k := 3) rfl (by rw [ey2]; rfl) (by decide) rfl ?_
  refine gz_goto (pc := 152) (tgt := 93) hX dX0_odds_152 (by decide) ?_
  refine gz_sub (lw := [(0, .ref (gz_ad G 1000)), (1, .int x1), (2, .int y1), (3, .int y2)]) [2, 3, 1, 0] rfl ?_
  obtain rfl := Option.some.inj h
  exact hk
noncomputable def mb_X0_odds_93 (x1 : Int32) (x2 : Int32) (x3 : Int32) (m : gM) : Option ((Int32 × Int32 × Int32 × gM) ⊕ (Int32 × gM)) :=
  ((cf_X0_things m).bind fun (r1, m2) => (if r1 ≤ x3 then some (Sum.inr (x2, m2)) else ((cf_X5_copy 1073 1027 m2).bind fun (r5, m6) => (if cSt r5 = true then ((cf_X5_blows r5 x3 m6).bind fun (_, m10) => ((cf_X5_goes 1073 m10).bind fun (r12, m13) => ((cf_X5_isLit 1073 x1 m13).bind fun (r15, m16) => (if r15 = (0 : Int32) then gz_let (gP m16 1000 0) fun r19 => (if r19 ≠ 0 then (if gK m16 r19 = 2 then (mj_X0_odds_147 x1 x3 (gI m16 r19 2) x2 m16) else none) else none) else (mj_X0_odds_147 x1 x3 (0 : Int32) x2 m16))))) else none))))
theorem wb_X0_odds_93 {X : gz_X} {G : gz_G} (hX : gz_C cS X G cX0_odds 4 RX0 83 2783) {x1 : Int32} {x2 : Int32} {x3 : Int32}  {m : gM} {z : ((Int32 × Int32 × Int32 × gM) ⊕ (Int32 × gM))} (h : mb_X0_odds_93 x1 x2 x3 m = some z) (hk : (Sum.elim (mP_X0_odds_93 X G) (fun z : (Int32 × gM) => gz_kI cS X G 4 (0, 0) cX0_odds z.2 z.1)) z) : gz_V cS X G 4 (0, 0) m 93 [(0, .ref (gz_ad G 1000)), (1, .int x1), (2, .int x2), (3, .int x3)] [] := by
  unfold mb_X0_odds_93 at h
  refine gz_iload_n (pc := 93) hX dX0_odds_93 rfl 3 rfl ?_
  refine gz_aload_n (pc := 94) hX dX0_odds_94 rfl 0 rfl ?_
  obtain ⟨⟨r1, m2⟩, c3, h⟩ := gz_bd h
  refine cc_X0_181 (pc := 95) hX (fun h => cz_k h rfl) c3 ⟨Nat.le_of_ble_eq_true rfl, Nat.le_of_ble_eq_true rfl⟩ (rest := [.int x3]) rfl (Nat.le_of_ble_eq_true rfl) dX0_odds_95 ?_
  refine gz_icmp_ge (pc := 98) (tgt := 155) hX dX0_odds_98 (by decide) (fun g4 => ?_) (fun g4 => ?_)
  · replace h := gz_it' g4 h
    refine gz_iload_n (pc := 155) hX dX0_odds_155 rfl 2 rfl ?_
    obtain rfl := Option.some.inj h
    exact hk _ _ dX0_odds_156
  · replace h := gz_if' g4 h
    refine gz_aload_n (pc := 101) hX dX0_odds_101 rfl 0 rfl ?_
    refine cg_X0_78_0 (pc := 102) hX (c := 1000) (v := .ref (gz_ad G 1073)) (fun h => cz_k h rfl) (fun h => cz_f h (by decide) rfl (by decide) rfl) dX0_odds_102 ?_
    refine gz_aload_n (pc := 105) hX dX0_odds_105 rfl 0 rfl ?_
    refine cg_X0_74_0 (pc := 106) hX (c := 1000) (v := .ref (gz_ad G 1027)) (fun h => cz_k h rfl) (fun h => cz_f h (by decide) rfl (by decide) rfl) dX0_odds_106 ?_
    obtain ⟨⟨r5, m6⟩, c7, h⟩ := gz_bd h
    obtain ⟨g8, h⟩ := gz_gu h
    refine cc_X0_294 (pc := 109) hX (fun h => cz_k h rfl) (by decide) (by decide) c7 ⟨Nat.le_of_ble_eq_true rfl, Nat.le_of_ble_eq_true rfl⟩ (rest := []) rfl (Nat.le_of_ble_eq_true rfl) dX0_odds_109 ?_
    refine gz_iload_n (pc := 112) hX dX0_odds_112 rfl 3 rfl ?_
    obtain ⟨⟨⟨⟩, m10⟩, c11, h⟩ := gz_bd h
    refine cc_X0_339 (pc := 113) hX (fun h => cz_k h (st_k g8)) g8 c11 ⟨Nat.le_of_ble_eq_true rfl, Nat.le_of_ble_eq_true rfl⟩ (rest := []) rfl (Nat.le_of_ble_eq_true rfl) dX0_odds_113 ?_
    refine gz_aload_n (pc := 116) hX dX0_odds_116 rfl 0 rfl ?_
    refine cg_X0_78_0 (pc := 117) hX (c := 1000) (v := .ref (gz_ad G 1073)) (fun h => cz_k h rfl) (fun h => cz_f h (by decide) rfl (by decide) rfl) dX0_odds_117 ?_
    obtain ⟨⟨r12, m13⟩, c14, h⟩ := gz_bd h
    refine cc_X0_304 (pc := 120) hX (fun h => cz_k h rfl) (by decide) c14 ⟨Nat.le_of_ble_eq_true rfl, Nat.le_of_ble_eq_true rfl⟩ (rest := []) rfl (Nat.le_of_ble_eq_true rfl) dX0_odds_120 ?_
    refine gz_pop (pc := 123) hX dX0_odds_123 rfl ?_
    refine gz_iload_n (pc := 124) hX dX0_odds_124 rfl 2 rfl ?_
    refine gz_aload_n (pc := 125) hX dX0_odds_125 rfl 0 rfl ?_
    refine cg_X0_78_0 (pc := 126) hX (c := 1000) (v := .ref (gz_ad G 1073)) (fun h => cz_k h rfl) (fun h => cz_f h (by decide) rfl (by decide) rfl) dX0_odds_126 ?_
    refine gz_iload_n (pc := 129) hX dX0_odds_129 rfl 1 rfl ?_
    obtain ⟨⟨r15, m16⟩, c17, h⟩ := gz_bd h
    refine cc_X0_301 (pc := 130) hX (fun h => cz_k h rfl) (by decide) c17 ⟨Nat.le_of_ble_eq_true rfl, Nat.le_of_ble_eq_true rfl⟩ (rest := [.int x2]) rfl (Nat.le_of_ble_eq_true rfl) dX0_odds_130 ?_
    refine gz_if_eq (pc := 133) (tgt := 140) hX dX0_odds_133 (by decide) (fun g18 => ?_) (fun g18 => ?_)
    · replace h := gz_it' g18 h
      refine gz_aload_n (pc := 140) hX dX0_odds_140 rfl 0 rfl ?_
      obtain ⟨r19, er19, h⟩ := gz_lt h
      obtain ⟨g20, h⟩ := gz_gu h
      refine cg_X0_31_0 (pc := 141) hX (c := 1000) (v := .ref (gz_ad G r19)) (fun h => cz_k h rfl) (fun _ => gz_rq er19 g20) dX0_odds_141 ?_
      obtain ⟨g21, h⟩ := gz_gu h
      refine cg_X0_336_1 (pc := 144) hX (c := r19) (v := .int (gI m16 r19 2)) (fun _ => g21) (fun _ => rfl) dX0_odds_144 ?_
      refine gz_sub (lw := [(0, .ref (gz_ad G 1000)), (1, .int x1), (3, .int x3)]) [0, 1, 3] rfl ?_
      exact wb_X0_odds_147 hX h hk
    · replace h := gz_if' g18 h
      refine gz_iconst (pc := 136) (v := (0 : Int32)) hX dX0_odds_136 (by decide) ?_
      refine gz_goto (pc := 137) (tgt := 147) hX dX0_odds_137 (by decide) ?_
      refine gz_sub (lw := [(0, .ref (gz_ad G 1000)), (1, .int x1), (3, .int x3)]) [0, 1, 3] rfl ?_
      exact wb_X0_odds_147 hX h hk
noncomputable def ml_X0_odds_93 (x1 : Int32) (x2 : Int32) (x3 : Int32) (m : gM) : Option (Int32 × gM) := gz_loop (fun q : (Int32 × Int32 × Int32 × gM) => mb_X0_odds_93 q.1 q.2.1 q.2.2.1 q.2.2.2) (x1, x2, x3, m)
theorem wl_X0_odds_93 {X : gz_X} {G : gz_G} (hX : gz_C cS X G cX0_odds 4 RX0 83 2783) {x1 : Int32} {x2 : Int32} {x3 : Int32}  {m : gM} {z : (Int32 × gM)} (h : ml_X0_odds_93 x1 x2 x3 m = some z) (hk : (fun z : (Int32 × gM) => gz_kI cS X G 4 (0, 0) cX0_odds z.2 z.1) z) : gz_V cS X G 4 (0, 0) m 93 [(0, .ref (gz_ad G 1000)), (1, .int x1), (2, .int x2), (3, .int x3)] [] := by
  have hp : mP_X0_odds_93 X G (x1, x2, x3, m) := gz_loop_ind (fun q z hz hkz => wb_X0_odds_93 hX  hz hkz) h hk
  exact hp
noncomputable def mj_X0_odds_90 (x1 : Int32) (s0 : Int32) (m : gM) : Option (Int32 × gM) :=
  (ml_X0_odds_93 x1 s0 (0 : Int32) m)
theorem wb_X0_odds_90 {X : gz_X} {G : gz_G} (hX : gz_C cS X G cX0_odds 4 RX0 83 2783) {x1 : Int32} {s0 : Int32}  {m : gM} {z : (Int32 × gM)} (h : mj_X0_odds_90 x1 s0 m = some z) (hk : (fun z : (Int32 × gM) => gz_kI cS X G 4 (0, 0) cX0_odds z.2 z.1) z) : gz_V cS X G 4 (0, 0) m 90 [(0, .ref (gz_ad G 1000)), (1, .int x1)] [.int s0] := by
  unfold mj_X0_odds_90 at h
  refine gz_istore_n (pc := 90) (lw := [(2, .int s0), (0, .ref (gz_ad G 1000)), (1, .int x1)]) hX dX0_odds_90 rfl (by decide) rfl ?_
  refine gz_iconst (pc := 91) (v := (0 : Int32)) hX dX0_odds_91 (by decide) ?_
  refine gz_istore_n (pc := 92) (lw := [(3, .int (0 : Int32)), (2, .int s0), (0, .ref (gz_ad G 1000)), (1, .int x1)]) hX dX0_odds_92 rfl (by decide) rfl ?_
  refine gz_sub (lw := [(0, .ref (gz_ad G 1000)), (1, .int x1), (2, .int s0), (3, .int (0 : Int32))]) [2, 3, 1, 0] rfl ?_
  exact wl_X0_odds_93 hX h hk
noncomputable def mj_X0_odds_13 (x1 : Int32) (m : gM) : Option (Int32 × gM) :=
  ((cf_X0_things m).bind fun (r1, m2) => (if r1 = (0 : Int32) then (mj_X0_odds_30  m2) else ((cf_X0_isAhead (1 : Int32) (1 : Int32) (1 : Int32) m2).bind fun (r5, m6) => (if r5 = (0 : Int32) then (mj_X0_odds_30  m6) else (if x1 = (-1 : Int32) then ((cf_X0_things m6).bind fun (r27, m28) => some (((100 : Int32) * r27), m28)) else ((cf_X5_copy 1073 1027 m6).bind fun (r10, m11) => (if cSt r10 = true then ((cf_X5_goes r10 m11).bind fun (r14, m15) => ((cf_X5_isLit 1073 x1 m15).bind fun (r17, m18) => (if r17 = (0 : Int32) then gz_let (gP m18 1000 0) fun r21 => (if r21 ≠ 0 then (if gK m18 r21 = 2 then ((cf_X0_things m18).bind fun (r24, m25) => (mj_X0_odds_90 x1 (((100 : Int32) - (gI m18 r21 2)) * r24) m25)) else none) else none) else (mj_X0_odds_90 x1 (0 : Int32) m18)))) else none)))))))
theorem wb_X0_odds_13 {X : gz_X} {G : gz_G} (hX : gz_C cS X G cX0_odds 4 RX0 83 2783) {x1 : Int32}  {m : gM} {z : (Int32 × gM)} (h : mj_X0_odds_13 x1 m = some z) (hk : (fun z : (Int32 × gM) => gz_kI cS X G 4 (0, 0) cX0_odds z.2 z.1) z) : gz_V cS X G 4 (0, 0) m 13 [(0, .ref (gz_ad G 1000)), (1, .int x1)] [] := by
  unfold mj_X0_odds_13 at h
  refine gz_aload_n (pc := 13) hX dX0_odds_13 rfl 0 rfl ?_
  obtain ⟨⟨r1, m2⟩, c3, h⟩ := gz_bd h
  refine cc_X0_181 (pc := 14) hX (fun h => cz_k h rfl) c3 ⟨Nat.le_of_ble_eq_true rfl, Nat.le_of_ble_eq_true rfl⟩ (rest := []) rfl (Nat.le_of_ble_eq_true rfl) dX0_odds_14 ?_
  refine gz_if_eq (pc := 17) (tgt := 30) hX dX0_odds_17 (by decide) (fun g4 => ?_) (fun g4 => ?_)
  · replace h := gz_it' g4 h
    refine gz_sub (lw := [(0, .ref (gz_ad G 1000))]) [0] rfl ?_
    exact wb_X0_odds_30 hX h hk
  · replace h := gz_if' g4 h
    refine gz_aload_n (pc := 20) hX dX0_odds_20 rfl 0 rfl ?_
    refine gz_iconst (pc := 21) (v := (1 : Int32)) hX dX0_odds_21 (by decide) ?_
    refine gz_iconst (pc := 22) (v := (1 : Int32)) hX dX0_odds_22 (by decide) ?_
    refine gz_iconst (pc := 23) (v := (1 : Int32)) hX dX0_odds_23 (by decide) ?_
    obtain ⟨⟨r5, m6⟩, c7, h⟩ := gz_bd h
    refine cc_X0_291 (pc := 24) hX (fun h => cz_k h rfl) c7 ⟨Nat.le_of_ble_eq_true rfl, Nat.le_of_ble_eq_true rfl⟩ (rest := []) rfl (Nat.le_of_ble_eq_true rfl) dX0_odds_24 ?_
    refine gz_if_ne (pc := 27) (tgt := 32) hX dX0_odds_27 (by decide) (fun g8 => ?_) (fun g8 => ?_)
    · replace h := gz_if' g8 h
      refine gz_iload_n (pc := 32) hX dX0_odds_32 rfl 1 rfl ?_
      refine gz_iconst (pc := 33) (v := (-1 : Int32)) hX dX0_odds_33 (by decide) ?_
      refine gz_icmp_ne (pc := 34) (tgt := 45) hX dX0_odds_34 (by decide) (fun g9 => ?_) (fun g9 => ?_)
      · replace h := gz_if' g9 h
        refine gz_aload_n (pc := 45) hX dX0_odds_45 rfl 0 rfl ?_
        refine cg_X0_78_0 (pc := 46) hX (c := 1000) (v := .ref (gz_ad G 1073)) (fun h => cz_k h rfl) (fun h => cz_f h (by decide) rfl (by decide) rfl) dX0_odds_46 ?_
        refine gz_aload_n (pc := 49) hX dX0_odds_49 rfl 0 rfl ?_
        refine cg_X0_74_0 (pc := 50) hX (c := 1000) (v := .ref (gz_ad G 1027)) (fun h => cz_k h rfl) (fun h => cz_f h (by decide) rfl (by decide) rfl) dX0_odds_50 ?_
        obtain ⟨⟨r10, m11⟩, c12, h⟩ := gz_bd h
        obtain ⟨g13, h⟩ := gz_gu h
        refine cc_X0_294 (pc := 53) hX (fun h => cz_k h rfl) (by decide) (by decide) c12 ⟨Nat.le_of_ble_eq_true rfl, Nat.le_of_ble_eq_true rfl⟩ (rest := []) rfl (Nat.le_of_ble_eq_true rfl) dX0_odds_53 ?_
        obtain ⟨⟨r14, m15⟩, c16, h⟩ := gz_bd h
        refine cc_X0_304 (pc := 56) hX (fun h => cz_k h (st_k g13)) g13 c16 ⟨Nat.le_of_ble_eq_true rfl, Nat.le_of_ble_eq_true rfl⟩ (rest := []) rfl (Nat.le_of_ble_eq_true rfl) dX0_odds_56 ?_
        refine gz_pop (pc := 59) hX dX0_odds_59 rfl ?_
        refine gz_aload_n (pc := 60) hX dX0_odds_60 rfl 0 rfl ?_
        refine cg_X0_78_0 (pc := 61) hX (c := 1000) (v := .ref (gz_ad G 1073)) (fun h => cz_k h rfl) (fun h => cz_f h (by decide) rfl (by decide) rfl) dX0_odds_61 ?_
        refine gz_iload_n (pc := 64) hX dX0_odds_64 rfl 1 rfl ?_
        obtain ⟨⟨r17, m18⟩, c19, h⟩ := gz_bd h
        refine cc_X0_301 (pc := 65) hX (fun h => cz_k h rfl) (by decide) c19 ⟨Nat.le_of_ble_eq_true rfl, Nat.le_of_ble_eq_true rfl⟩ (rest := []) rfl (Nat.le_of_ble_eq_true rfl) dX0_odds_65 ?_
        refine gz_if_eq (pc := 68) (tgt := 75) hX dX0_odds_68 (by decide) (fun g20 => ?_) (fun g20 => ?_)
        · replace h := gz_it' g20 h
          refine gz_bipush (pc := 75) (v := (100 : Int32)) hX dX0_odds_75 (by decide) ?_
          refine gz_aload_n (pc := 77) hX dX0_odds_77 rfl 0 rfl ?_
          obtain ⟨r21, er21, h⟩ := gz_lt h
          obtain ⟨g22, h⟩ := gz_gu h
          refine cg_X0_31_0 (pc := 78) hX (c := 1000) (v := .ref (gz_ad G r21)) (fun h => cz_k h rfl) (fun _ => gz_rq er21 g22) dX0_odds_78 ?_
          obtain ⟨g23, h⟩ := gz_gu h
          refine cg_X0_336_1 (pc := 81) hX (c := r21) (v := .int (gI m18 r21 2)) (fun _ => g23) (fun _ => rfl) dX0_odds_81 ?_
          refine gz_isub (pc := 84) hX dX0_odds_84 ?_
          refine gz_aload_n (pc := 85) hX dX0_odds_85 rfl 0 rfl ?_
          obtain ⟨⟨r24, m25⟩, c26, h⟩ := gz_bd h
          refine cc_X0_181 (pc := 86) hX (fun h => cz_k h rfl) c26 ⟨Nat.le_of_ble_eq_true rfl, Nat.le_of_ble_eq_true rfl⟩ (rest := [.int ((100 : Int32) - (gI m18 r21 2))]) rfl (Nat.le_of_ble_eq_true rfl) dX0_odds_86 ?_
          refine gz_imul (pc := 89) hX dX0_odds_89 ?_
          exact wb_X0_odds_90 hX h hk
        · replace h := gz_if' g20 h
          refine gz_iconst (pc := 71) (v := (0 : Int32)) hX dX0_odds_71 (by decide) ?_
          refine gz_goto (pc := 72) (tgt := 90) hX dX0_odds_72 (by decide) ?_
          exact wb_X0_odds_90 hX h hk
      · replace h := gz_it' g9 h
        refine gz_bipush (pc := 37) (v := (100 : Int32)) hX dX0_odds_37 (by decide) ?_
        refine gz_aload_n (pc := 39) hX dX0_odds_39 rfl 0 rfl ?_
        obtain ⟨⟨r27, m28⟩, c29, h⟩ := gz_bd h
        refine cc_X0_181 (pc := 40) hX (fun h => cz_k h rfl) c29 ⟨Nat.le_of_ble_eq_true rfl, Nat.le_of_ble_eq_true rfl⟩ (rest := [.int (100 : Int32)]) rfl (Nat.le_of_ble_eq_true rfl) dX0_odds_40 ?_
        refine gz_imul (pc := 43) hX dX0_odds_43 ?_
        obtain rfl := Option.some.inj h
        exact hk _ _ dX0_odds_44
    · replace h := gz_it' g8 h
      refine gz_sub (lw := [(0, .ref (gz_ad G 1000))]) [0] rfl ?_
      exact wb_X0_odds_30 hX h hk
noncomputable def cf_X0_odds (x1 : Int32) (m : gM) : Option (Int32 × gM) :=
  (if x1 = (-1 : Int32) then (mj_X0_odds_13 x1 m) else ((cf_X0_isThing x1 m).bind fun (r2, m3) => (if r2 = (0 : Int32) then (mj_X0_odds_30  m3) else (mj_X0_odds_13 x1 m3))))
theorem wm_X0_odds {X : gz_X} {G : gz_G} (hX : gz_C cS X G cX0_odds 4 RX0 83 2783) {x1 : Int32}  {m : gM} {z : (Int32 × gM)} (h : cf_X0_odds x1 m = some z) (hk : (fun z : (Int32 × gM) => gz_kI cS X G 4 (0, 0) cX0_odds z.2 z.1) z) : gz_V cS X G 4 (0, 0) m 0 [(0, .ref (gz_ad G 1000)), (1, .int x1)] [] := by
  unfold cf_X0_odds at h
  refine gz_iload_n (pc := 0) hX dX0_odds_0 rfl 1 rfl ?_
  refine gz_iconst (pc := 1) (v := (-1 : Int32)) hX dX0_odds_1 (by decide) ?_
  refine gz_icmp_eq (pc := 2) (tgt := 13) hX dX0_odds_2 (by decide) (fun g1 => ?_) (fun g1 => ?_)
  · replace h := gz_it' g1 h
    exact wb_X0_odds_13 hX h hk
  · replace h := gz_if' g1 h
    refine gz_aload_n (pc := 5) hX dX0_odds_5 rfl 0 rfl ?_
    refine gz_iload_n (pc := 6) hX dX0_odds_6 rfl 1 rfl ?_
    obtain ⟨⟨r2, m3⟩, c4, h⟩ := gz_bd h
    refine cc_X0_240 (pc := 7) hX (fun h => cz_k h rfl) c4 ⟨Nat.le_of_ble_eq_true rfl, Nat.le_of_ble_eq_true rfl⟩ (rest := []) rfl (Nat.le_of_ble_eq_true rfl) dX0_odds_7 ?_
    refine gz_if_eq (pc := 10) (tgt := 30) hX dX0_odds_10 (by decide) (fun g5 => ?_) (fun g5 => ?_)
    · replace h := gz_it' g5 h
      refine gz_sub (lw := [(0, .ref (gz_ad G 1000))]) [0] rfl ?_
      exact wb_X0_odds_30 hX h hk
    · replace h := gz_if' g5 h
      exact wb_X0_odds_13 hX h hk
theorem ct_X0_odds {G : gz_G} {l : Launch} {x1 : Int32}  {m m9 : gM} {r : Int32} (h : cf_X0_odds x1 m = some (r, m9)) : gz_Met cS G l yX0_odds cX0_odds 4 (some .int) (mRm 83 2783) [.ref (gz_ad G 1000), .int x1] m m9 (some (.int r)) :=
  gz_ofI (by decide +kernel) (Nat.le_of_ble_eq_true rfl) fun X _ hX hk => wm_X0_odds hX h hk
theorem cg_X0_345_5 {X : gz_X} {G : gz_G} {cc : ByteArray} {nL fr lo pc : Nat} {rem : Nat × Nat} {m : gM} {lv : List (Nat × Value)} {st : List Value} (hX : gz_C cS X G cc nL RX0 fr lo) {c : Nat} {v : Value} (hK : clc m.1 m.2.1 m.2.2.2.2.1 → m.1 c = 5 + 1) (hv : clc m.1 m.2.1 m.2.2.2.2.1 → gz_u (gz_ad G) m (ftC 5 7) c 7 = v) (hd : decode cc pc = .ok (.getfield 345, 3)) (kk : gz_V cS X G nL rem m (pc + 3) lv (v :: st)) : gz_V cS X G nL rem m pc lv (.ref (gz_ad G c) :: st) :=
  gz_getf hX (C := RX5) (T := TX5) (N := 10) (ci := 5) (k := 7) rfl (by decide) in_X5 (by decide) (Or.inr ⟨_, va_Nw.use rfl (cz_n (Z := cS) hX q432 rfl)⟩) hd hK hv kk
/-! FirstSnuffer.canBe(II)Z -/
def mP_X0_canBe_22 (X : gz_X) (G : gz_G) (q : (Int32 × Int32 × Int32 × gM)) : Prop := gz_V cS X G 6 (0, 0) q.2.2.2 22 [(0, .ref (gz_ad G 1000)), (2, .int q.1), (3, .int q.2.1), (4, .int q.2.2.1)] []
def mP_X0_canBe_37 (X : gz_X) (G : gz_G) (q : (Int32 × Int32 × Int32 × Int32 × gM)) : Prop := gz_V cS X G 6 (0, 0) q.2.2.2.2 37 [(0, .ref (gz_ad G 1000)), (2, .int q.1), (3, .int q.2.1), (4, .int q.2.2.1), (5, .int q.2.2.2.1)] []
def mP_X0_canBe_75 (X : gz_X) (G : gz_G) (q : (Int32 × Int32 × Int32 × Int32 × gM)) : Prop := gz_V cS X G 6 (0, 0) q.2.2.2.2 75 [(0, .ref (gz_ad G 1000)), (2, .int q.1), (3, .int q.2.1), (4, .int q.2.2.1), (5, .int q.2.2.2.1)] []
noncomputable def mj_X0_canBe_127 (x2 : Int32) (x4 : Int32) (x5 : Int32) (s0 : Int32) (s1 : Int32) (m : gM) : Option ((Int32 × Int32 × Int32 × Int32 × gM) ⊕ ((Int32 × Int32 × Int32 × gM) ⊕ (Int32 × gM))) :=
  gz_let ((s1 + s0)) fun y1 => gz_let (x5 + (1 : Int32)) fun y2 => some (Sum.inl (x2, y1, x4, y2, m))
theorem wb_X0_canBe_127 {X : gz_X} {G : gz_G} (hX : gz_C cS X G cX0_canBe 6 RX0 83 2783) {x2 : Int32} {x4 : Int32} {x5 : Int32} {s0 : Int32} {s1 : Int32}  {m : gM} {z : ((Int32 × Int32 × Int32 × Int32 × gM) ⊕ ((Int32 × Int32 × Int32 × gM) ⊕ (Int32 × gM)))} (h : mj_X0_canBe_127 x2 x4 x5 s0 s1 m = some z) (hk : (Sum.elim (mP_X0_canBe_75 X G) (Sum.elim (mP_X0_canBe_22 X G) (fun z : (Int32 × gM) => gz_kZ cS X G 6 (0, 0) cX0_canBe z.2 z.1))) z) : gz_V cS X G 6 (0, 0) m 127 [(0, .ref (gz_ad G 1000)), (2, .int x2), (4, .int x4), (5, .int x5)] [.int s0, .int s1] := by
  unfold mj_X0_canBe_127 at h
  refine gz_iadd (pc := 127) hX dX0_canBe_127 ?_
  obtain ⟨y1, ey1, h⟩ := gz_lt h
  refine gz_topi ey1 ?_
  refine gz_istore_n (pc := 128) (lw := [(3, .int y1), (0, .ref (gz_ad G 1000)), (2, .int x2), (4, .int x4), (5, .int x5)]) hX dX0_canBe_128 rfl (by decide) rfl ?_
  obtain ⟨y2, ey2, h⟩ := gz_lt h
  refine gz_iinc (pc := 129) (v := y2) (lw := [(5, .int y2), (3, .int y1), (0, .ref (gz_ad G 1000)), (2, .int x2), (4, .int x4)]) hX dX0_canBe_129 (k := 4) rfl (by rw [ey2]; rfl) (by decide) rfl ?_
  refine gz_goto (pc := 132) (tgt := 75) hX dX0_canBe_132 (by decide) ?_
  refine gz_sub (lw := [(0, .ref (gz_ad G 1000)), (2, .int x2), (3, .int y1), (4, .int x4), (5, .int y2)]) [2, 3, 1, 4, 0] rfl ?_
  obtain rfl := Option.some.inj h
  exact hk
noncomputable def mj_X0_canBe_126 (x2 : Int32) (x4 : Int32) (x5 : Int32) (s0 : Int32) (m : gM) : Option ((Int32 × Int32 × Int32 × Int32 × gM) ⊕ ((Int32 × Int32 × Int32 × gM) ⊕ (Int32 × gM))) :=
  (mj_X0_canBe_127 x2 x4 x5 (0 : Int32) s0 m)
theorem wb_X0_canBe_126 {X : gz_X} {G : gz_G} (hX : gz_C cS X G cX0_canBe 6 RX0 83 2783) {x2 : Int32} {x4 : Int32} {x5 : Int32} {s0 : Int32}  {m : gM} {z : ((Int32 × Int32 × Int32 × Int32 × gM) ⊕ ((Int32 × Int32 × Int32 × gM) ⊕ (Int32 × gM)))} (h : mj_X0_canBe_126 x2 x4 x5 s0 m = some z) (hk : (Sum.elim (mP_X0_canBe_75 X G) (Sum.elim (mP_X0_canBe_22 X G) (fun z : (Int32 × gM) => gz_kZ cS X G 6 (0, 0) cX0_canBe z.2 z.1))) z) : gz_V cS X G 6 (0, 0) m 126 [(0, .ref (gz_ad G 1000)), (2, .int x2), (4, .int x4), (5, .int x5)] [.int s0] := by
  unfold mj_X0_canBe_126 at h
  refine gz_iconst (pc := 126) (v := (0 : Int32)) hX dX0_canBe_126 (by decide) ?_
  exact wb_X0_canBe_127 hX h hk
noncomputable def mb_X0_canBe_75 (x2 : Int32) (x3 : Int32) (x4 : Int32) (x5 : Int32) (m : gM) : Option ((Int32 × Int32 × Int32 × Int32 × gM) ⊕ ((Int32 × Int32 × Int32 × gM) ⊕ (Int32 × gM))) :=
  (if (gI m 1000 20) ≤ x5 then ((cf_X5_goes 1073 m).bind fun (r2, m3) => gz_let (x4 + (1 : Int32)) fun y5 => some (Sum.inr (Sum.inl (x2, x3, y5, m3)))) else (if gz_in x5 (16) then (if (gI m 1123 (gz_ix x5)) = x4 then (if gz_in x5 (16) then (if gz_in (gI m 1124 (gz_ix x5)) (8) then (if gz_in x5 (16) then (if (gI m 1074 (gz_ix (gI m 1124 (gz_ix x5)))) = (gI m 1125 (gz_ix x5)) then (mj_X0_canBe_127 x2 x4 x5 (1 : Int32) x3 m) else (mj_X0_canBe_126 x2 x4 x5 x3 m)) else none) else none) else none) else (mj_X0_canBe_126 x2 x4 x5 x3 m)) else none))
theorem wb_X0_canBe_75 {X : gz_X} {G : gz_G} (hX : gz_C cS X G cX0_canBe 6 RX0 83 2783) {x2 : Int32} {x3 : Int32} {x4 : Int32} {x5 : Int32}  {m : gM} {z : ((Int32 × Int32 × Int32 × Int32 × gM) ⊕ ((Int32 × Int32 × Int32 × gM) ⊕ (Int32 × gM)))} (h : mb_X0_canBe_75 x2 x3 x4 x5 m = some z) (hk : (Sum.elim (mP_X0_canBe_75 X G) (Sum.elim (mP_X0_canBe_22 X G) (fun z : (Int32 × gM) => gz_kZ cS X G 6 (0, 0) cX0_canBe z.2 z.1))) z) : gz_V cS X G 6 (0, 0) m 75 [(0, .ref (gz_ad G 1000)), (2, .int x2), (3, .int x3), (4, .int x4), (5, .int x5)] [] := by
  unfold mb_X0_canBe_75 at h
  refine gz_iload (pc := 75) hX dX0_canBe_75 4 rfl ?_
  refine gz_aload_n (pc := 77) hX dX0_canBe_77 rfl 0 rfl ?_
  refine cg_X0_158_0 (pc := 78) hX (c := 1000) (v := .int (gI m 1000 20)) (fun h => cz_k h rfl) (fun _ => rfl) dX0_canBe_78 ?_
  refine gz_icmp_ge (pc := 81) (tgt := 135) hX dX0_canBe_81 (by decide) (fun g1 => ?_) (fun g1 => ?_)
  · replace h := gz_it' g1 h
    refine gz_aload_n (pc := 135) hX dX0_canBe_135 rfl 0 rfl ?_
    refine cg_X0_78_0 (pc := 136) hX (c := 1000) (v := .ref (gz_ad G 1073)) (fun h => cz_k h rfl) (fun h => cz_f h (by decide) rfl (by decide) rfl) dX0_canBe_136 ?_
    obtain ⟨⟨r2, m3⟩, c4, h⟩ := gz_bd h
    refine cc_X0_304 (pc := 139) hX (fun h => cz_k h rfl) (by decide) c4 ⟨Nat.le_of_ble_eq_true rfl, Nat.le_of_ble_eq_true rfl⟩ (rest := []) rfl (Nat.le_of_ble_eq_true rfl) dX0_canBe_139 ?_
    refine gz_pop (pc := 142) hX dX0_canBe_142 rfl ?_
    obtain ⟨y5, ey5, h⟩ := gz_lt h
    refine gz_iinc (pc := 143) (v := y5) (lw := [(4, .int y5), (0, .ref (gz_ad G 1000)), (2, .int x2), (3, .int x3), (5, .int x5)]) hX dX0_canBe_143 (k := 3) rfl (by rw [ey5]; rfl) (by decide) rfl ?_
    refine gz_goto (pc := 146) (tgt := 22) hX dX0_canBe_146 (by decide) ?_
    refine gz_sub (lw := [(0, .ref (gz_ad G 1000)), (2, .int x2), (3, .int x3), (4, .int y5)]) [1, 2, 3, 0] rfl ?_
    obtain rfl := Option.some.inj h
    exact hk
  · replace h := gz_if' g1 h
    refine gz_iload_n (pc := 84) hX dX0_canBe_84 rfl 2 rfl ?_
    refine gz_aload_n (pc := 85) hX dX0_canBe_85 rfl 0 rfl ?_
    refine cg_X0_97_0 (pc := 86) hX (c := 1000) (v := .ref (gz_ad G 1123)) (fun h => cz_k h rfl) (fun h => cz_f h (by decide) rfl (by decide) rfl) dX0_canBe_86 ?_
    refine gz_iload (pc := 89) hX dX0_canBe_89 4 rfl ?_
    obtain ⟨g6, h⟩ := gz_gu h
    refine gz_iald2 (pc := 91) (c := 1123) (n := 16) hX rfl (fun h => cz_a h rfl (by decide) rfl) g6 dX0_canBe_91 ?_
    refine gz_iload (pc := 92) hX dX0_canBe_92 3 rfl ?_
    refine gz_icmp_ne (pc := 94) (tgt := 126) hX dX0_canBe_94 (by decide) (fun g7 => ?_) (fun g7 => ?_)
    · replace h := gz_if' g7 h
      refine gz_sub (lw := [(0, .ref (gz_ad G 1000)), (2, .int x2), (4, .int x4), (5, .int x5)]) [0, 1, 3, 4] rfl ?_
      exact wb_X0_canBe_126 hX h hk
    · replace h := gz_it' g7 h
      refine gz_aload_n (pc := 97) hX dX0_canBe_97 rfl 0 rfl ?_
      refine cg_X0_78_0 (pc := 98) hX (c := 1000) (v := .ref (gz_ad G 1073)) (fun h => cz_k h rfl) (fun h => cz_f h (by decide) rfl (by decide) rfl) dX0_canBe_98 ?_
      refine cg_X0_254_5 (pc := 101) hX (c := 1073) (v := .ref (gz_ad G 1074)) (fun h => cz_k h rfl) (fun h => cz_f h (by decide) rfl (by decide) rfl) dX0_canBe_101 ?_
      refine gz_aload_n (pc := 104) hX dX0_canBe_104 rfl 0 rfl ?_
      refine cg_X0_100_0 (pc := 105) hX (c := 1000) (v := .ref (gz_ad G 1124)) (fun h => cz_k h rfl) (fun h => cz_f h (by decide) rfl (by decide) rfl) dX0_canBe_105 ?_
      refine gz_iload (pc := 108) hX dX0_canBe_108 4 rfl ?_
      obtain ⟨g8, h⟩ := gz_gu h
      refine gz_iald2 (pc := 110) (c := 1124) (n := 16) hX rfl (fun h => cz_a h rfl (by decide) rfl) g8 dX0_canBe_110 ?_
      obtain ⟨g9, h⟩ := gz_gu h
      refine gz_iald2 (pc := 111) (c := 1074) (n := 8) hX rfl (fun h => cz_a h rfl (by decide) rfl) g9 dX0_canBe_111 ?_
      refine gz_aload_n (pc := 112) hX dX0_canBe_112 rfl 0 rfl ?_
      refine cg_X0_103_0 (pc := 113) hX (c := 1000) (v := .ref (gz_ad G 1125)) (fun h => cz_k h rfl) (fun h => cz_f h (by decide) rfl (by decide) rfl) dX0_canBe_113 ?_
      refine gz_iload (pc := 116) hX dX0_canBe_116 4 rfl ?_
      obtain ⟨g10, h⟩ := gz_gu h
      refine gz_iald2 (pc := 118) (c := 1125) (n := 16) hX rfl (fun h => cz_a h rfl (by decide) rfl) g10 dX0_canBe_118 ?_
      refine gz_icmp_ne (pc := 119) (tgt := 126) hX dX0_canBe_119 (by decide) (fun g11 => ?_) (fun g11 => ?_)
      · replace h := gz_if' g11 h
        refine gz_sub (lw := [(0, .ref (gz_ad G 1000)), (2, .int x2), (4, .int x4), (5, .int x5)]) [0, 1, 3, 4] rfl ?_
        exact wb_X0_canBe_126 hX h hk
      · replace h := gz_it' g11 h
        refine gz_iconst (pc := 122) (v := (1 : Int32)) hX dX0_canBe_122 (by decide) ?_
        refine gz_goto (pc := 123) (tgt := 127) hX dX0_canBe_123 (by decide) ?_
        refine gz_sub (lw := [(0, .ref (gz_ad G 1000)), (2, .int x2), (4, .int x4), (5, .int x5)]) [0, 1, 3, 4] rfl ?_
        exact wb_X0_canBe_127 hX h hk
noncomputable def ml_X0_canBe_75 (x2 : Int32) (x3 : Int32) (x4 : Int32) (x5 : Int32) (m : gM) : Option ((Int32 × Int32 × Int32 × gM) ⊕ (Int32 × gM)) := gz_loop (fun q : (Int32 × Int32 × Int32 × Int32 × gM) => mb_X0_canBe_75 q.1 q.2.1 q.2.2.1 q.2.2.2.1 q.2.2.2.2) (x2, x3, x4, x5, m)
theorem wl_X0_canBe_75 {X : gz_X} {G : gz_G} (hX : gz_C cS X G cX0_canBe 6 RX0 83 2783) {x2 : Int32} {x3 : Int32} {x4 : Int32} {x5 : Int32}  {m : gM} {z : ((Int32 × Int32 × Int32 × gM) ⊕ (Int32 × gM))} (h : ml_X0_canBe_75 x2 x3 x4 x5 m = some z) (hk : (Sum.elim (mP_X0_canBe_22 X G) (fun z : (Int32 × gM) => gz_kZ cS X G 6 (0, 0) cX0_canBe z.2 z.1)) z) : gz_V cS X G 6 (0, 0) m 75 [(0, .ref (gz_ad G 1000)), (2, .int x2), (3, .int x3), (4, .int x4), (5, .int x5)] [] := by
  have hp : mP_X0_canBe_75 X G (x2, x3, x4, x5, m) := gz_loop_ind (fun q z hz hkz => wb_X0_canBe_75 hX  hz hkz) h hk
  exact hp
noncomputable def mb_X0_canBe_37 (x2 : Int32) (x3 : Int32) (x4 : Int32) (x5 : Int32) (m : gM) : Option ((Int32 × Int32 × Int32 × Int32 × gM) ⊕ ((Int32 × Int32 × Int32 × gM) ⊕ (Int32 × gM))) :=
  (if (8 : Int32) ≤ x5 then (Option.map Sum.inr (ml_X0_canBe_75 x2 x3 x4 (0 : Int32) m)) else (if gz_in x2 (10) then (if gz_in x4 (31) then (if gz_in x5 (8) then (if gz_in x5 (8) then gz_let (gz_sI m (1127 + 32 * (gz_ix x2) + 1 + (gz_ix x4)) (gz_ix x5) (gI m 1074 (gz_ix x5))) fun m6 => gz_let (x5 + (1 : Int32)) fun y7 => some (Sum.inl (x2, x3, x4, y7, m6)) else none) else none) else none) else none))
theorem wb_X0_canBe_37 {X : gz_X} {G : gz_G} (hX : gz_C cS X G cX0_canBe 6 RX0 83 2783) {x2 : Int32} {x3 : Int32} {x4 : Int32} {x5 : Int32}  {m : gM} {z : ((Int32 × Int32 × Int32 × Int32 × gM) ⊕ ((Int32 × Int32 × Int32 × gM) ⊕ (Int32 × gM)))} (h : mb_X0_canBe_37 x2 x3 x4 x5 m = some z) (hk : (Sum.elim (mP_X0_canBe_37 X G) (Sum.elim (mP_X0_canBe_22 X G) (fun z : (Int32 × gM) => gz_kZ cS X G 6 (0, 0) cX0_canBe z.2 z.1))) z) : gz_V cS X G 6 (0, 0) m 37 [(0, .ref (gz_ad G 1000)), (2, .int x2), (3, .int x3), (4, .int x4), (5, .int x5)] [] := by
  unfold mb_X0_canBe_37 at h
  refine gz_iload (pc := 37) hX dX0_canBe_37 4 rfl ?_
  refine gz_bipush (pc := 39) (v := (8 : Int32)) hX dX0_canBe_39 (by decide) ?_
  refine gz_icmp_ge (pc := 41) (tgt := 72) hX dX0_canBe_41 (by decide) (fun g1 => ?_) (fun g1 => ?_)
  · replace h := gz_it' g1 h
    refine gz_iconst (pc := 72) (v := (0 : Int32)) hX dX0_canBe_72 (by decide) ?_
    refine gz_istore (pc := 73) (lw := [(5, .int (0 : Int32)), (0, .ref (gz_ad G 1000)), (2, .int x2), (3, .int x3), (4, .int x4)]) hX dX0_canBe_73 (by decide) rfl ?_
    refine gz_sub (lw := [(0, .ref (gz_ad G 1000)), (2, .int x2), (3, .int x3), (4, .int x4), (5, .int (0 : Int32))]) [1, 2, 3, 4, 0] rfl ?_
    obtain ⟨z0, hm0, rfl⟩ := gz_mp h
    exact wl_X0_canBe_75 hX hm0 hk
  · replace h := gz_if' g1 h
    refine gz_aload_n (pc := 44) hX dX0_canBe_44 rfl 0 rfl ?_
    refine cg_X0_108_0 (pc := 45) hX (c := 1000) (v := .ref (gz_ad G 1126)) (fun h => cz_k h rfl) (fun h => cz_f h (by decide) rfl (by decide) rfl) dX0_canBe_45 ?_
    refine gz_iload_n (pc := 48) hX dX0_canBe_48 rfl 1 rfl ?_
    obtain ⟨g2, h⟩ := gz_gu h
    refine gz_aald (pc := 49) (c := 1126) (t := 8) (n := 10) hX rfl rfl rfl (v := .ref (gz_ad G (1127 + 32 * (gz_ix x2)))) (fun h => cz_a h rfl (by decide) rfl) g2 (fun h => cz_e h (by decide) (by1_s _ g2.2) (by omega)) dX0_canBe_49 ?_
    refine gz_iload (pc := 50) hX dX0_canBe_50 3 rfl ?_
    obtain ⟨g3, h⟩ := gz_gu h
    refine gz_aald (pc := 52) (c := (1127 + 32 * (gz_ix x2))) (t := 7) (n := 31) hX rfl rfl rfl (v := .ref (gz_ad G (1127 + 32 * (gz_ix x2) + 1 + (gz_ix x4)))) (fun h => cz_a h (by1_a _ g2.2).1 (by decide) (by1_a _ g2.2).2) g3 (fun h => cz_e h (by rw [(by1_a _ g2.2).1]; decide) (by2_s _ g2.2 _ g3.2) (by omega)) dX0_canBe_52 ?_
    refine gz_iload (pc := 53) hX dX0_canBe_53 4 rfl ?_
    refine gz_aload_n (pc := 55) hX dX0_canBe_55 rfl 0 rfl ?_
    refine cg_X0_78_0 (pc := 56) hX (c := 1000) (v := .ref (gz_ad G 1073)) (fun h => cz_k h rfl) (fun h => cz_f h (by decide) rfl (by decide) rfl) dX0_canBe_56 ?_
    refine cg_X0_254_5 (pc := 59) hX (c := 1073) (v := .ref (gz_ad G 1074)) (fun h => cz_k h rfl) (fun h => cz_f h (by decide) rfl (by decide) rfl) dX0_canBe_59 ?_
    refine gz_iload (pc := 62) hX dX0_canBe_62 4 rfl ?_
    obtain ⟨g4, h⟩ := gz_gu h
    refine gz_iald2 (pc := 64) (c := 1074) (n := 8) hX rfl (fun h => cz_a h rfl (by decide) rfl) g4 dX0_canBe_64 ?_
    obtain ⟨g5, h⟩ := gz_gu h
    obtain ⟨m6, em6, h⟩ := gz_lt h
    refine gz_iast2 (pc := 65) (c := (1127 + 32 * (gz_ix x2) + 1 + (gz_ix x4))) (n := 8) hX rfl (fun h => cz_a h (by2_a _ g2.2 _ g3.2).1 (by decide) (by2_a _ g2.2 _ g3.2).2) (by omega) g5 dX0_canBe_65 em6 ?_
    obtain ⟨y7, ey7, h⟩ := gz_lt h
    refine gz_iinc (pc := 66) (v := y7) (lw := [(5, .int y7), (0, .ref (gz_ad G 1000)), (2, .int x2), (3, .int x3), (4, .int x4)]) hX dX0_canBe_66 (k := 4) rfl (by rw [ey7]; rfl) (by decide) rfl ?_
    refine gz_goto (pc := 69) (tgt := 37) hX dX0_canBe_69 (by decide) ?_
    refine gz_sub (lw := [(0, .ref (gz_ad G 1000)), (2, .int x2), (3, .int x3), (4, .int x4), (5, .int y7)]) [1, 2, 3, 4, 0] rfl ?_
    obtain rfl := Option.some.inj h
    exact hk
noncomputable def ml_X0_canBe_37 (x2 : Int32) (x3 : Int32) (x4 : Int32) (x5 : Int32) (m : gM) : Option ((Int32 × Int32 × Int32 × gM) ⊕ (Int32 × gM)) := gz_loop (fun q : (Int32 × Int32 × Int32 × Int32 × gM) => mb_X0_canBe_37 q.1 q.2.1 q.2.2.1 q.2.2.2.1 q.2.2.2.2) (x2, x3, x4, x5, m)
theorem wl_X0_canBe_37 {X : gz_X} {G : gz_G} (hX : gz_C cS X G cX0_canBe 6 RX0 83 2783) {x2 : Int32} {x3 : Int32} {x4 : Int32} {x5 : Int32}  {m : gM} {z : ((Int32 × Int32 × Int32 × gM) ⊕ (Int32 × gM))} (h : ml_X0_canBe_37 x2 x3 x4 x5 m = some z) (hk : (Sum.elim (mP_X0_canBe_22 X G) (fun z : (Int32 × gM) => gz_kZ cS X G 6 (0, 0) cX0_canBe z.2 z.1)) z) : gz_V cS X G 6 (0, 0) m 37 [(0, .ref (gz_ad G 1000)), (2, .int x2), (3, .int x3), (4, .int x4), (5, .int x5)] [] := by
  have hp : mP_X0_canBe_37 X G (x2, x3, x4, x5, m) := gz_loop_ind (fun q z hz hkz => wb_X0_canBe_37 hX  hz hkz) h hk
  exact hp
noncomputable def mb_X0_canBe_22 (x2 : Int32) (x3 : Int32) (x4 : Int32) (m : gM) : Option ((Int32 × Int32 × Int32 × gM) ⊕ (Int32 × gM)) :=
  ((cf_X0_isAhead x4 (0 : Int32) (30 : Int32) m).bind fun (r1, m2) => (if r1 = (0 : Int32) then (if x3 = (gI m2 1000 20) then some (Sum.inr ((1 : Int32), m2)) else some (Sum.inr ((0 : Int32), m2))) else (ml_X0_canBe_37 x2 x3 x4 (0 : Int32) m2)))
theorem wb_X0_canBe_22 {X : gz_X} {G : gz_G} (hX : gz_C cS X G cX0_canBe 6 RX0 83 2783) {x2 : Int32} {x3 : Int32} {x4 : Int32}  {m : gM} {z : ((Int32 × Int32 × Int32 × gM) ⊕ (Int32 × gM))} (h : mb_X0_canBe_22 x2 x3 x4 m = some z) (hk : (Sum.elim (mP_X0_canBe_22 X G) (fun z : (Int32 × gM) => gz_kZ cS X G 6 (0, 0) cX0_canBe z.2 z.1)) z) : gz_V cS X G 6 (0, 0) m 22 [(0, .ref (gz_ad G 1000)), (2, .int x2), (3, .int x3), (4, .int x4)] [] := by
  unfold mb_X0_canBe_22 at h
  refine gz_aload_n (pc := 22) hX dX0_canBe_22 rfl 0 rfl ?_
  refine gz_iload (pc := 23) hX dX0_canBe_23 3 rfl ?_
  refine gz_iconst (pc := 25) (v := (0 : Int32)) hX dX0_canBe_25 (by decide) ?_
  refine gz_bipush (pc := 26) (v := (30 : Int32)) hX dX0_canBe_26 (by decide) ?_
  obtain ⟨⟨r1, m2⟩, c3, h⟩ := gz_bd h
  refine cc_X0_291 (pc := 28) hX (fun h => cz_k h rfl) c3 ⟨Nat.le_of_ble_eq_true rfl, Nat.le_of_ble_eq_true rfl⟩ (rest := []) rfl (Nat.le_of_ble_eq_true rfl) dX0_canBe_28 ?_
  refine gz_if_eq (pc := 31) (tgt := 149) hX dX0_canBe_31 (by decide) (fun g4 => ?_) (fun g4 => ?_)
  · replace h := gz_it' g4 h
    refine gz_iload_n (pc := 149) hX dX0_canBe_149 rfl 2 rfl ?_
    refine gz_aload_n (pc := 150) hX dX0_canBe_150 rfl 0 rfl ?_
    refine cg_X0_158_0 (pc := 151) hX (c := 1000) (v := .int (gI m2 1000 20)) (fun h => cz_k h rfl) (fun _ => rfl) dX0_canBe_151 ?_
    refine gz_icmp_ne (pc := 154) (tgt := 161) hX dX0_canBe_154 (by decide) (fun g5 => ?_) (fun g5 => ?_)
    · replace h := gz_if' g5 h
      refine gz_iconst (pc := 161) (v := (0 : Int32)) hX dX0_canBe_161 (by decide) ?_
      obtain rfl := Option.some.inj h
      exact hk _ _ dX0_canBe_162 (Or.inl rfl)
    · replace h := gz_it' g5 h
      refine gz_iconst (pc := 157) (v := (1 : Int32)) hX dX0_canBe_157 (by decide) ?_
      refine gz_goto (pc := 158) (tgt := 162) hX dX0_canBe_158 (by decide) ?_
      obtain rfl := Option.some.inj h
      exact hk _ _ dX0_canBe_162 (Or.inr rfl)
  · replace h := gz_if' g4 h
    refine gz_iconst (pc := 34) (v := (0 : Int32)) hX dX0_canBe_34 (by decide) ?_
    refine gz_istore (pc := 35) (lw := [(5, .int (0 : Int32)), (0, .ref (gz_ad G 1000)), (2, .int x2), (3, .int x3), (4, .int x4)]) hX dX0_canBe_35 (by decide) rfl ?_
    refine gz_sub (lw := [(0, .ref (gz_ad G 1000)), (2, .int x2), (3, .int x3), (4, .int x4), (5, .int (0 : Int32))]) [1, 2, 3, 4, 0] rfl ?_
    exact wl_X0_canBe_37 hX h hk
noncomputable def ml_X0_canBe_22 (x2 : Int32) (x3 : Int32) (x4 : Int32) (m : gM) : Option (Int32 × gM) := gz_loop (fun q : (Int32 × Int32 × Int32 × gM) => mb_X0_canBe_22 q.1 q.2.1 q.2.2.1 q.2.2.2) (x2, x3, x4, m)
theorem wl_X0_canBe_22 {X : gz_X} {G : gz_G} (hX : gz_C cS X G cX0_canBe 6 RX0 83 2783) {x2 : Int32} {x3 : Int32} {x4 : Int32}  {m : gM} {z : (Int32 × gM)} (h : ml_X0_canBe_22 x2 x3 x4 m = some z) (hk : (fun z : (Int32 × gM) => gz_kZ cS X G 6 (0, 0) cX0_canBe z.2 z.1) z) : gz_V cS X G 6 (0, 0) m 22 [(0, .ref (gz_ad G 1000)), (2, .int x2), (3, .int x3), (4, .int x4)] [] := by
  have hp : mP_X0_canBe_22 X G (x2, x3, x4, m) := gz_loop_ind (fun q z hz hkz => wb_X0_canBe_22 hX  hz hkz) h hk
  exact hp
noncomputable def cf_X0_canBe (x1 : Int32) (x2 : Int32) (m : gM) : Option (Int32 × gM) :=
  ((cf_X5_copy 1073 1027 m).bind fun (r1, m2) => (if cSt r1 = true then (if gz_in x1 (8) then gz_let (gz_sI m2 (r1 + 4) (gz_ix x1) x2) fun m6 => (ml_X0_canBe_22 x2 (0 : Int32) (0 : Int32) m6) else none) else none))
theorem wm_X0_canBe {X : gz_X} {G : gz_G} (hX : gz_C cS X G cX0_canBe 6 RX0 83 2783) {x1 : Int32} {x2 : Int32}  {m : gM} {z : (Int32 × gM)} (h : cf_X0_canBe x1 x2 m = some z) (hk : (fun z : (Int32 × gM) => gz_kZ cS X G 6 (0, 0) cX0_canBe z.2 z.1) z) : gz_V cS X G 6 (0, 0) m 0 [(0, .ref (gz_ad G 1000)), (1, .int x1), (2, .int x2)] [] := by
  unfold cf_X0_canBe at h
  refine gz_aload_n (pc := 0) hX dX0_canBe_0 rfl 0 rfl ?_
  refine cg_X0_78_0 (pc := 1) hX (c := 1000) (v := .ref (gz_ad G 1073)) (fun h => cz_k h rfl) (fun h => cz_f h (by decide) rfl (by decide) rfl) dX0_canBe_1 ?_
  refine gz_aload_n (pc := 4) hX dX0_canBe_4 rfl 0 rfl ?_
  refine cg_X0_74_0 (pc := 5) hX (c := 1000) (v := .ref (gz_ad G 1027)) (fun h => cz_k h rfl) (fun h => cz_f h (by decide) rfl (by decide) rfl) dX0_canBe_5 ?_
  obtain ⟨⟨r1, m2⟩, c3, h⟩ := gz_bd h
  obtain ⟨g4, h⟩ := gz_gu h
  refine cc_X0_294 (pc := 8) hX (fun h => cz_k h rfl) (by decide) (by decide) c3 ⟨Nat.le_of_ble_eq_true rfl, Nat.le_of_ble_eq_true rfl⟩ (rest := []) rfl (Nat.le_of_ble_eq_true rfl) dX0_canBe_8 ?_
  refine cg_X0_345_5 (pc := 11) hX (c := r1) (v := .ref (gz_ad G (r1 + 4))) (fun h => cz_k h (st_k g4)) (fun h => cz_f h (st_0 g4) (st_f7 g4) (by omega) rfl) dX0_canBe_11 ?_
  refine gz_iload_n (pc := 14) hX dX0_canBe_14 rfl 1 rfl ?_
  refine gz_iload_n (pc := 15) hX dX0_canBe_15 rfl 2 rfl ?_
  obtain ⟨g5, h⟩ := gz_gu h
  obtain ⟨m6, em6, h⟩ := gz_lt h
  refine gz_iast2 (pc := 16) (c := (r1 + 4)) (n := 8) hX rfl (fun h => cz_a h (st_a4 g4).1 (by decide) (st_a4 g4).2) (st_w1 g4 4) g5 dX0_canBe_16 em6 ?_
  refine gz_iconst (pc := 17) (v := (0 : Int32)) hX dX0_canBe_17 (by decide) ?_
  refine gz_istore_n (pc := 18) (lw := [(3, .int (0 : Int32)), (0, .ref (gz_ad G 1000)), (1, .int x1), (2, .int x2)]) hX dX0_canBe_18 rfl (by decide) rfl ?_
  refine gz_iconst (pc := 19) (v := (0 : Int32)) hX dX0_canBe_19 (by decide) ?_
  refine gz_istore (pc := 20) (lw := [(4, .int (0 : Int32)), (3, .int (0 : Int32)), (0, .ref (gz_ad G 1000)), (1, .int x1), (2, .int x2)]) hX dX0_canBe_20 (by decide) rfl ?_
  refine gz_sub (lw := [(0, .ref (gz_ad G 1000)), (2, .int x2), (3, .int (0 : Int32)), (4, .int (0 : Int32))]) [2, 4, 1, 0] rfl ?_
  exact wl_X0_canBe_22 hX h hk
theorem ct_X0_canBe {G : gz_G} {l : Launch} {x1 : Int32} {x2 : Int32}  {m m9 : gM} {r : Int32} (h : cf_X0_canBe x1 x2 m = some (r, m9)) : gz_Met cS G l yX0_canBe cX0_canBe 6 (some .boolean) (mRm 83 2783) [.ref (gz_ad G 1000), .int x1, .int x2] m m9 (some (.int r)) :=
  gz_ofZ (by decide +kernel) (Nat.le_of_ble_eq_true rfl) fun X _ hX hk => wm_X0_canBe hX h hk
theorem cc_X0_374 {X : gz_X} {G : gz_G} {cc : ByteArray} {nL fr lo pc : Nat} {rem : Nat × Nat} {lv : List (Nat × Value)} {rest st0 : List Value} (hX : gz_C cS X G cc nL RX0 fr lo) {x1 : Int32} {m m9 : gM} (hK : clc m.1 m.2.1 m.2.2.2.2.1 → m.1 1000 = 0 + 1)  {r : Int32} (h : cf_X0_draw x1 m = some (r, m9)) (hroom : 0 + 1 ≤ fr ∧ 8 + (2 + 11) + 0 ≤ lo) (hst : st0 = [.int x1, .ref (gz_ad G 1000)] ++ rest) (hW : (rest.map fun v => v.category).sum ≤ 8) (hd : decode cc pc = .ok (.invokevirtual 374, 3)) (kk : gz_V cS X G nL rem m9 (pc + 3) lv (.int r :: rest)) : gz_V cS X G nL rem m pc lv st0 :=
  gz_callV2 hX cs_E (As := [.int x1]) (rest := rest) (q := (RX0, TX0, 28)) (ci := 0) (c := 1000) (ct_X0_draw (l := X.2.1) h) (lw_V q1680 q1682 qs65 q167 q1683) (n := 1) (by decide +kernel) hroom rfl rfl (by decide) hK hst hW hd (rem := rem) kk
/-! FirstSnuffer.chance(I)I -/
def mP_X0_chance_25 (X : gz_X) (G : gz_G) (q : (Int32 × Int32 × Int32 × gM)) : Prop := gz_V cS X G 4 (0, 0) q.2.2.2 25 [(0, .ref (gz_ad G 1000)), (1, .int q.1), (2, .int q.2.1), (3, .int q.2.2.1)] []
noncomputable def mj_X0_chance_71 (x1 : Int32) (x2 : Int32) (x3 : Int32) (m : gM) : Option ((Int32 × Int32 × Int32 × gM) ⊕ (Int32 × gM)) :=
  ((cf_X5_goes 1027 m).bind fun (r1, m2) => gz_let (x3 + (1 : Int32)) fun y4 => some (Sum.inl (x1, x2, y4, m2)))
theorem wb_X0_chance_71 {X : gz_X} {G : gz_G} (hX : gz_C cS X G cX0_chance 4 RX0 83 2783) {x1 : Int32} {x2 : Int32} {x3 : Int32}  {m : gM} {z : ((Int32 × Int32 × Int32 × gM) ⊕ (Int32 × gM))} (h : mj_X0_chance_71 x1 x2 x3 m = some z) (hk : (Sum.elim (mP_X0_chance_25 X G) (fun z : (Int32 × gM) => gz_kI cS X G 4 (0, 0) cX0_chance z.2 z.1)) z) : gz_V cS X G 4 (0, 0) m 71 [(0, .ref (gz_ad G 1000)), (1, .int x1), (2, .int x2), (3, .int x3)] [] := by
  unfold mj_X0_chance_71 at h
  refine gz_aload_n (pc := 71) hX dX0_chance_71 rfl 0 rfl ?_
  refine cg_X0_74_0 (pc := 72) hX (c := 1000) (v := .ref (gz_ad G 1027)) (fun h => cz_k h rfl) (fun h => cz_f h (by decide) rfl (by decide) rfl) dX0_chance_72 ?_
  obtain ⟨⟨r1, m2⟩, c3, h⟩ := gz_bd h
  refine cc_X0_304 (pc := 75) hX (fun h => cz_k h rfl) (by decide) c3 ⟨Nat.le_of_ble_eq_true rfl, Nat.le_of_ble_eq_true rfl⟩ (rest := []) rfl (Nat.le_of_ble_eq_true rfl) dX0_chance_75 ?_
  refine gz_pop (pc := 78) hX dX0_chance_78 rfl ?_
  obtain ⟨y4, ey4, h⟩ := gz_lt h
  refine gz_iinc (pc := 79) (v := y4) (lw := [(3, .int y4), (0, .ref (gz_ad G 1000)), (1, .int x1), (2, .int x2)]) hX dX0_chance_79 (k := 3) rfl (by rw [ey4]; rfl) (by decide) rfl ?_
  refine gz_goto (pc := 82) (tgt := 25) hX dX0_chance_82 (by decide) ?_
  refine gz_sub (lw := [(0, .ref (gz_ad G 1000)), (1, .int x1), (2, .int x2), (3, .int y4)]) [1, 2, 3, 0] rfl ?_
  obtain rfl := Option.some.inj h
  exact hk
noncomputable def mb_X0_chance_25 (x1 : Int32) (x2 : Int32) (x3 : Int32) (m : gM) : Option ((Int32 × Int32 × Int32 × gM) ⊕ (Int32 × gM)) :=
  (if x1 ≤ x3 then some (Sum.inr (x2, m)) else ((cf_X0_draw (100 : Int32) m).bind fun (r2, m3) => gz_let (gP m3 1000 0) fun r5 => (if r5 ≠ 0 then (if gK m3 r5 = 2 then (if (gI m3 r5 2) ≤ r2 then (mj_X0_chance_71 x1 x2 x3 m3) else ((cf_X0_things m3).bind fun (r9, m10) => (if r9 ≤ (0 : Int32) then (mj_X0_chance_71 x1 x2 x3 m10) else ((cf_X0_things m10).bind fun (r13, m14) => ((cf_X0_draw r13 m14).bind fun (r16, m17) => ((cf_X5_blows 1027 r16 m17).bind fun (_, m20) => gz_let (x2 + (1 : Int32)) fun y22 => (mj_X0_chance_71 x1 y22 x3 m20))))))) else none) else none)))
theorem wb_X0_chance_25 {X : gz_X} {G : gz_G} (hX : gz_C cS X G cX0_chance 4 RX0 83 2783) {x1 : Int32} {x2 : Int32} {x3 : Int32}  {m : gM} {z : ((Int32 × Int32 × Int32 × gM) ⊕ (Int32 × gM))} (h : mb_X0_chance_25 x1 x2 x3 m = some z) (hk : (Sum.elim (mP_X0_chance_25 X G) (fun z : (Int32 × gM) => gz_kI cS X G 4 (0, 0) cX0_chance z.2 z.1)) z) : gz_V cS X G 4 (0, 0) m 25 [(0, .ref (gz_ad G 1000)), (1, .int x1), (2, .int x2), (3, .int x3)] [] := by
  unfold mb_X0_chance_25 at h
  refine gz_iload_n (pc := 25) hX dX0_chance_25 rfl 3 rfl ?_
  refine gz_iload_n (pc := 26) hX dX0_chance_26 rfl 1 rfl ?_
  refine gz_icmp_ge (pc := 27) (tgt := 85) hX dX0_chance_27 (by decide) (fun g1 => ?_) (fun g1 => ?_)
  · replace h := gz_it' g1 h
    refine gz_iload_n (pc := 85) hX dX0_chance_85 rfl 2 rfl ?_
    obtain rfl := Option.some.inj h
    exact hk _ _ dX0_chance_86
  · replace h := gz_if' g1 h
    refine gz_aload_n (pc := 30) hX dX0_chance_30 rfl 0 rfl ?_
    refine gz_bipush (pc := 31) (v := (100 : Int32)) hX dX0_chance_31 (by decide) ?_
    obtain ⟨⟨r2, m3⟩, c4, h⟩ := gz_bd h
    refine cc_X0_374 (pc := 33) hX (fun h => cz_k h rfl) c4 ⟨Nat.le_of_ble_eq_true rfl, Nat.le_of_ble_eq_true rfl⟩ (rest := []) rfl (Nat.le_of_ble_eq_true rfl) dX0_chance_33 ?_
    refine gz_aload_n (pc := 36) hX dX0_chance_36 rfl 0 rfl ?_
    obtain ⟨r5, er5, h⟩ := gz_lt h
    obtain ⟨g6, h⟩ := gz_gu h
    refine cg_X0_31_0 (pc := 37) hX (c := 1000) (v := .ref (gz_ad G r5)) (fun h => cz_k h rfl) (fun _ => gz_rq er5 g6) dX0_chance_37 ?_
    obtain ⟨g7, h⟩ := gz_gu h
    refine cg_X0_336_1 (pc := 40) hX (c := r5) (v := .int (gI m3 r5 2)) (fun _ => g7) (fun _ => rfl) dX0_chance_40 ?_
    refine gz_icmp_ge (pc := 43) (tgt := 71) hX dX0_chance_43 (by decide) (fun g8 => ?_) (fun g8 => ?_)
    · replace h := gz_it' g8 h
      exact wb_X0_chance_71 hX h hk
    · replace h := gz_if' g8 h
      refine gz_aload_n (pc := 46) hX dX0_chance_46 rfl 0 rfl ?_
      obtain ⟨⟨r9, m10⟩, c11, h⟩ := gz_bd h
      refine cc_X0_181 (pc := 47) hX (fun h => cz_k h rfl) c11 ⟨Nat.le_of_ble_eq_true rfl, Nat.le_of_ble_eq_true rfl⟩ (rest := []) rfl (Nat.le_of_ble_eq_true rfl) dX0_chance_47 ?_
      refine gz_if_le (pc := 50) (tgt := 71) hX dX0_chance_50 (by decide) (fun g12 => ?_) (fun g12 => ?_)
      · replace h := gz_it' g12 h
        exact wb_X0_chance_71 hX h hk
      · replace h := gz_if' g12 h
        refine gz_aload_n (pc := 53) hX dX0_chance_53 rfl 0 rfl ?_
        refine cg_X0_74_0 (pc := 54) hX (c := 1000) (v := .ref (gz_ad G 1027)) (fun h => cz_k h rfl) (fun h => cz_f h (by decide) rfl (by decide) rfl) dX0_chance_54 ?_
        refine gz_aload_n (pc := 57) hX dX0_chance_57 rfl 0 rfl ?_
        refine gz_aload_n (pc := 58) hX dX0_chance_58 rfl 0 rfl ?_
        obtain ⟨⟨r13, m14⟩, c15, h⟩ := gz_bd h
        refine cc_X0_181 (pc := 59) hX (fun h => cz_k h rfl) c15 ⟨Nat.le_of_ble_eq_true rfl, Nat.le_of_ble_eq_true rfl⟩ (rest := [.ref (gz_ad G 1000), .ref (gz_ad G 1027)]) rfl (Nat.le_of_ble_eq_true rfl) dX0_chance_59 ?_
        obtain ⟨⟨r16, m17⟩, c18, h⟩ := gz_bd h
        refine cc_X0_374 (pc := 62) hX (fun h => cz_k h rfl) c18 ⟨Nat.le_of_ble_eq_true rfl, Nat.le_of_ble_eq_true rfl⟩ (rest := [.ref (gz_ad G 1027)]) rfl (Nat.le_of_ble_eq_true rfl) dX0_chance_62 ?_
        obtain ⟨⟨⟨⟩, m20⟩, c21, h⟩ := gz_bd h
        refine cc_X0_339 (pc := 65) hX (fun h => cz_k h rfl) (by decide) c21 ⟨Nat.le_of_ble_eq_true rfl, Nat.le_of_ble_eq_true rfl⟩ (rest := []) rfl (Nat.le_of_ble_eq_true rfl) dX0_chance_65 ?_
        obtain ⟨y22, ey22, h⟩ := gz_lt h
        refine gz_iinc (pc := 68) (v := y22) (lw := [(2, .int y22), (0, .ref (gz_ad G 1000)), (1, .int x1), (3, .int x3)]) hX dX0_chance_68 (k := 2) rfl (by rw [ey22]; rfl) (by decide) rfl ?_
        refine gz_sub (lw := [(0, .ref (gz_ad G 1000)), (1, .int x1), (2, .int y22), (3, .int x3)]) [1, 2, 0, 3] rfl ?_
        exact wb_X0_chance_71 hX h hk
noncomputable def ml_X0_chance_25 (x1 : Int32) (x2 : Int32) (x3 : Int32) (m : gM) : Option (Int32 × gM) := gz_loop (fun q : (Int32 × Int32 × Int32 × gM) => mb_X0_chance_25 q.1 q.2.1 q.2.2.1 q.2.2.2) (x1, x2, x3, m)
theorem wl_X0_chance_25 {X : gz_X} {G : gz_G} (hX : gz_C cS X G cX0_chance 4 RX0 83 2783) {x1 : Int32} {x2 : Int32} {x3 : Int32}  {m : gM} {z : (Int32 × gM)} (h : ml_X0_chance_25 x1 x2 x3 m = some z) (hk : (fun z : (Int32 × gM) => gz_kI cS X G 4 (0, 0) cX0_chance z.2 z.1) z) : gz_V cS X G 4 (0, 0) m 25 [(0, .ref (gz_ad G 1000)), (1, .int x1), (2, .int x2), (3, .int x3)] [] := by
  have hp : mP_X0_chance_25 X G (x1, x2, x3, m) := gz_loop_ind (fun q z hz hkz => wb_X0_chance_25 hX  hz hkz) h hk
  exact hp
noncomputable def cf_X0_chance (x1 : Int32) (m : gM) : Option (Int32 × gM) :=
  ((cf_X0_isAhead x1 (1 : Int32) (100 : Int32) m).bind fun (r1, m2) => (if r1 = (0 : Int32) then ((cf_X0_refuses (3 : Int32) m2).bind fun (r8, m9) => some (r8, m9)) else ((cf_X0_remembers m2).bind fun (_, m6) => (ml_X0_chance_25 x1 (0 : Int32) (0 : Int32) m6))))
theorem wm_X0_chance {X : gz_X} {G : gz_G} (hX : gz_C cS X G cX0_chance 4 RX0 83 2783) {x1 : Int32}  {m : gM} {z : (Int32 × gM)} (h : cf_X0_chance x1 m = some z) (hk : (fun z : (Int32 × gM) => gz_kI cS X G 4 (0, 0) cX0_chance z.2 z.1) z) : gz_V cS X G 4 (0, 0) m 0 [(0, .ref (gz_ad G 1000)), (1, .int x1)] [] := by
  unfold cf_X0_chance at h
  refine gz_aload_n (pc := 0) hX dX0_chance_0 rfl 0 rfl ?_
  refine gz_iload_n (pc := 1) hX dX0_chance_1 rfl 1 rfl ?_
  refine gz_iconst (pc := 2) (v := (1 : Int32)) hX dX0_chance_2 (by decide) ?_
  refine gz_bipush (pc := 3) (v := (100 : Int32)) hX dX0_chance_3 (by decide) ?_
  obtain ⟨⟨r1, m2⟩, c3, h⟩ := gz_bd h
  refine cc_X0_291 (pc := 5) hX (fun h => cz_k h rfl) c3 ⟨Nat.le_of_ble_eq_true rfl, Nat.le_of_ble_eq_true rfl⟩ (rest := []) rfl (Nat.le_of_ble_eq_true rfl) dX0_chance_5 ?_
  refine gz_if_ne (pc := 8) (tgt := 17) hX dX0_chance_8 (by decide) (fun g4 => ?_) (fun g4 => ?_)
  · replace h := gz_if' g4 h
    refine gz_aload_n (pc := 17) hX dX0_chance_17 rfl 0 rfl ?_
    obtain ⟨⟨⟨⟩, m6⟩, c7, h⟩ := gz_bd h
    refine cc_X0_360 (pc := 18) hX (fun h => cz_k h rfl) c7 ⟨Nat.le_of_ble_eq_true rfl, Nat.le_of_ble_eq_true rfl⟩ (rest := []) rfl (Nat.le_of_ble_eq_true rfl) dX0_chance_18 ?_
    refine gz_iconst (pc := 21) (v := (0 : Int32)) hX dX0_chance_21 (by decide) ?_
    refine gz_istore_n (pc := 22) (lw := [(2, .int (0 : Int32)), (0, .ref (gz_ad G 1000)), (1, .int x1)]) hX dX0_chance_22 rfl (by decide) rfl ?_
    refine gz_iconst (pc := 23) (v := (0 : Int32)) hX dX0_chance_23 (by decide) ?_
    refine gz_istore_n (pc := 24) (lw := [(3, .int (0 : Int32)), (2, .int (0 : Int32)), (0, .ref (gz_ad G 1000)), (1, .int x1)]) hX dX0_chance_24 rfl (by decide) rfl ?_
    refine gz_sub (lw := [(0, .ref (gz_ad G 1000)), (1, .int x1), (2, .int (0 : Int32)), (3, .int (0 : Int32))]) [2, 3, 1, 0] rfl ?_
    exact wl_X0_chance_25 hX h hk
  · replace h := gz_it' g4 h
    refine gz_aload_n (pc := 11) hX dX0_chance_11 rfl 0 rfl ?_
    refine gz_iconst (pc := 12) (v := (3 : Int32)) hX dX0_chance_12 (by decide) ?_
    obtain ⟨⟨r8, m9⟩, c10, h⟩ := gz_bd h
    refine cc_X0_125 (pc := 13) hX (fun h => cz_k h rfl) c10 ⟨Nat.le_of_ble_eq_true rfl, Nat.le_of_ble_eq_true rfl⟩ (rest := []) rfl (Nat.le_of_ble_eq_true rfl) dX0_chance_13 ?_
    obtain rfl := Option.some.inj h
    exact hk _ _ dX0_chance_16
theorem ct_X0_chance {G : gz_G} {l : Launch} {x1 : Int32}  {m m9 : gM} {r : Int32} (h : cf_X0_chance x1 m = some (r, m9)) : gz_Met cS G l yX0_chance cX0_chance 4 (some .int) (mRm 83 2783) [.ref (gz_ad G 1000), .int x1] m m9 (some (.int r)) :=
  gz_ofI (by decide +kernel) (Nat.le_of_ble_eq_true rfl) fun X _ hX hk => wm_X0_chance hX h hk
theorem cc_X5_137 {X : gz_X} {G : gz_G} {cc : ByteArray} {nL fr lo pc : Nat} {rem : Nat × Nat} {lv : List (Nat × Value)} {rest st0 : List Value} (hX : gz_C cS X G cc nL RX5 fr lo) {c0 : Nat} {m m9 : gM} (hK : clc m.1 m.2.1 m.2.2.2.2.1 → m.1 c0 = 5 + 1) (hs_c0 : cSt c0 = true) {r : Int32} (h : cf_X5_goes c0 m = some (r, m9)) (hroom : 82 + 1 ≤ fr ∧ 8 + (3 + 11) + 2761 ≤ lo) (hst : st0 = [.ref (gz_ad G c0)] ++ rest) (hW : (rest.map fun v => v.category).sum ≤ 8) (hd : decode cc pc = .ok (.invokevirtual 137, 3)) (kk : gz_V cS X G nL rem m9 (pc + 3) lv (.int r :: rest)) : gz_V cS X G nL rem m pc lv st0 :=
  gz_callV2 hX cs_E (As := []) (rest := rest) (q := (RX5, TX5, 10)) (ci := 5) (c := c0) (ct_X5_goes (l := X.2.1) hs_c0 h) (lw_V q1525 q1526 q1527 q178 q1528) (n := 0) (by decide +kernel) hroom rfl rfl (by decide) hK hst hW hd (rem := rem) kk
/-! FirstSnuffer$State.goesBy(I)I -/
def mP_X5_goesBy_4 (X : gz_X) (G : gz_G) (c0 : Nat) (q : (Int32 × Int32 × Int32 × gM)) : Prop := gz_V cS X G 4 (0, 0) q.2.2.2 4 [(0, .ref (gz_ad G c0)), (1, .int q.1), (2, .int q.2.1), (3, .int q.2.2.1)] []
noncomputable def mb_X5_goesBy_4 (c0 : Nat) (x1 : Int32) (x2 : Int32) (x3 : Int32) (m : gM) : Option ((Int32 × Int32 × Int32 × gM) ⊕ (Int32 × gM)) :=
  (if x1 ≤ x3 then some (Sum.inr (x2, m)) else ((cf_X5_goes c0 m).bind fun (r2, m3) => gz_let ((x2 + r2)) fun y5 => gz_let (x3 + (1 : Int32)) fun y6 => some (Sum.inl (x1, y5, y6, m3))))
theorem wb_X5_goesBy_4 {X : gz_X} {G : gz_G} (hX : gz_C cS X G cX5_goesBy 4 RX5 83 2783) {c0 : Nat} {x1 : Int32} {x2 : Int32} {x3 : Int32} (hs_c0 : cSt c0 = true) {m : gM} {z : ((Int32 × Int32 × Int32 × gM) ⊕ (Int32 × gM))} (h : mb_X5_goesBy_4 c0 x1 x2 x3 m = some z) (hk : (Sum.elim (mP_X5_goesBy_4 X G c0) (fun z : (Int32 × gM) => gz_kI cS X G 4 (0, 0) cX5_goesBy z.2 z.1)) z) : gz_V cS X G 4 (0, 0) m 4 [(0, .ref (gz_ad G c0)), (1, .int x1), (2, .int x2), (3, .int x3)] [] := by
  unfold mb_X5_goesBy_4 at h
  refine gz_iload_n (pc := 4) hX dX5_goesBy_4 rfl 3 rfl ?_
  refine gz_iload_n (pc := 5) hX dX5_goesBy_5 rfl 1 rfl ?_
  refine gz_icmp_ge (pc := 6) (tgt := 22) hX dX5_goesBy_6 (by decide) (fun g1 => ?_) (fun g1 => ?_)
  · replace h := gz_it' g1 h
    refine gz_iload_n (pc := 22) hX dX5_goesBy_22 rfl 2 rfl ?_
    obtain rfl := Option.some.inj h
    exact hk _ _ dX5_goesBy_23
  · replace h := gz_if' g1 h
    refine gz_iload_n (pc := 9) hX dX5_goesBy_9 rfl 2 rfl ?_
    refine gz_aload_n (pc := 10) hX dX5_goesBy_10 rfl 0 rfl ?_
    obtain ⟨⟨r2, m3⟩, c4, h⟩ := gz_bd h
    refine cc_X5_137 (pc := 11) hX (fun h => cz_k h (st_k hs_c0)) hs_c0 c4 ⟨Nat.le_of_ble_eq_true rfl, Nat.le_of_ble_eq_true rfl⟩ (rest := [.int x2]) rfl (Nat.le_of_ble_eq_true rfl) dX5_goesBy_11 ?_
    refine gz_iadd (pc := 14) hX dX5_goesBy_14 ?_
    obtain ⟨y5, ey5, h⟩ := gz_lt h
    refine gz_topi ey5 ?_
    refine gz_istore_n (pc := 15) (lw := [(2, .int y5), (0, .ref (gz_ad G c0)), (1, .int x1), (3, .int x3)]) hX dX5_goesBy_15 rfl (by decide) rfl ?_
    obtain ⟨y6, ey6, h⟩ := gz_lt h
    refine gz_iinc (pc := 16) (v := y6) (lw := [(3, .int y6), (2, .int y5), (0, .ref (gz_ad G c0)), (1, .int x1)]) hX dX5_goesBy_16 (k := 3) rfl (by rw [ey6]; rfl) (by decide) rfl ?_
    refine gz_goto (pc := 19) (tgt := 4) hX dX5_goesBy_19 (by decide) ?_
    refine gz_sub (lw := [(0, .ref (gz_ad G c0)), (1, .int x1), (2, .int y5), (3, .int y6)]) [2, 3, 1, 0] rfl ?_
    obtain rfl := Option.some.inj h
    exact hk
noncomputable def ml_X5_goesBy_4 (c0 : Nat) (x1 : Int32) (x2 : Int32) (x3 : Int32) (m : gM) : Option (Int32 × gM) := gz_loop (fun q : (Int32 × Int32 × Int32 × gM) => mb_X5_goesBy_4 c0 q.1 q.2.1 q.2.2.1 q.2.2.2) (x1, x2, x3, m)
theorem wl_X5_goesBy_4 {X : gz_X} {G : gz_G} (hX : gz_C cS X G cX5_goesBy 4 RX5 83 2783) {c0 : Nat} {x1 : Int32} {x2 : Int32} {x3 : Int32} (hs_c0 : cSt c0 = true) {m : gM} {z : (Int32 × gM)} (h : ml_X5_goesBy_4 c0 x1 x2 x3 m = some z) (hk : (fun z : (Int32 × gM) => gz_kI cS X G 4 (0, 0) cX5_goesBy z.2 z.1) z) : gz_V cS X G 4 (0, 0) m 4 [(0, .ref (gz_ad G c0)), (1, .int x1), (2, .int x2), (3, .int x3)] [] := by
  have hp : mP_X5_goesBy_4 X G c0 (x1, x2, x3, m) := gz_loop_ind (fun q z hz hkz => wb_X5_goesBy_4 hX hs_c0 hz hkz) h hk
  exact hp
noncomputable def cf_X5_goesBy (c0 : Nat) (x1 : Int32) (m : gM) : Option (Int32 × gM) :=
  (ml_X5_goesBy_4 c0 x1 (0 : Int32) (0 : Int32) m)
theorem wm_X5_goesBy {X : gz_X} {G : gz_G} (hX : gz_C cS X G cX5_goesBy 4 RX5 83 2783) {c0 : Nat} {x1 : Int32} (hs_c0 : cSt c0 = true) {m : gM} {z : (Int32 × gM)} (h : cf_X5_goesBy c0 x1 m = some z) (hk : (fun z : (Int32 × gM) => gz_kI cS X G 4 (0, 0) cX5_goesBy z.2 z.1) z) : gz_V cS X G 4 (0, 0) m 0 [(0, .ref (gz_ad G c0)), (1, .int x1)] [] := by
  unfold cf_X5_goesBy at h
  refine gz_iconst (pc := 0) (v := (0 : Int32)) hX dX5_goesBy_0 (by decide) ?_
  refine gz_istore_n (pc := 1) (lw := [(2, .int (0 : Int32)), (0, .ref (gz_ad G c0)), (1, .int x1)]) hX dX5_goesBy_1 rfl (by decide) rfl ?_
  refine gz_iconst (pc := 2) (v := (0 : Int32)) hX dX5_goesBy_2 (by decide) ?_
  refine gz_istore_n (pc := 3) (lw := [(3, .int (0 : Int32)), (2, .int (0 : Int32)), (0, .ref (gz_ad G c0)), (1, .int x1)]) hX dX5_goesBy_3 rfl (by decide) rfl ?_
  refine gz_sub (lw := [(0, .ref (gz_ad G c0)), (1, .int x1), (2, .int (0 : Int32)), (3, .int (0 : Int32))]) [2, 3, 1, 0] rfl ?_
  exact wl_X5_goesBy_4 hX hs_c0 h hk
theorem ct_X5_goesBy {G : gz_G} {l : Launch} {c0 : Nat} {x1 : Int32} (hs_c0 : cSt c0 = true) {m m9 : gM} {r : Int32} (h : cf_X5_goesBy c0 x1 m = some (r, m9)) : gz_Met cS G l yX5_goesBy cX5_goesBy 4 (some .int) (mRm 83 2783) [.ref (gz_ad G c0), .int x1] m m9 (some (.int r)) :=
  gz_ofI (by decide +kernel) (Nat.le_of_ble_eq_true rfl) fun X _ hX hk => wm_X5_goesBy hX hs_c0 h hk
theorem cc_X0_298 {X : gz_X} {G : gz_G} {cc : ByteArray} {nL fr lo pc : Nat} {rem : Nat × Nat} {lv : List (Nat × Value)} {rest st0 : List Value} (hX : gz_C cS X G cc nL RX0 fr lo) {c0 : Nat} {x1 : Int32} {m m9 : gM} (hK : clc m.1 m.2.1 m.2.2.2.2.1 → m.1 c0 = 5 + 1) (hs_c0 : cSt c0 = true) {r : Int32} (h : cf_X5_goesBy c0 x1 m = some (r, m9)) (hroom : 83 + 1 ≤ fr ∧ 8 + (4 + 11) + 2783 ≤ lo) (hst : st0 = [.int x1, .ref (gz_ad G c0)] ++ rest) (hW : (rest.map fun v => v.category).sum ≤ 8) (hd : decode cc pc = .ok (.invokevirtual 298, 3)) (kk : gz_V cS X G nL rem m9 (pc + 3) lv (.int r :: rest)) : gz_V cS X G nL rem m pc lv st0 :=
  gz_callV2 hX cs_E (As := [.int x1]) (rest := rest) (q := (RX5, TX5, 10)) (ci := 5) (c := c0) (ct_X5_goesBy (l := X.2.1) hs_c0 h) (lw_V q1521 q1522 q1523 q178 q1524) (n := 1) (by decide +kernel) hroom rfl rfl (by decide) hK hst hW hd (rem := rem) kk
/-! FirstSnuffer.later(II)I -/
noncomputable def mj_X0_later_19  (m : gM) : Option (Int32 × gM) :=
  some ((-1 : Int32), m)
theorem wb_X0_later_19 {X : gz_X} {G : gz_G} (hX : gz_C cS X G cX0_later 3 RX0 84 2806)   {m : gM} {z : (Int32 × gM)} (h : mj_X0_later_19  m = some z) (hk : (fun z : (Int32 × gM) => gz_kI cS X G 3 (0, 0) cX0_later z.2 z.1) z) : gz_V cS X G 3 (0, 0) m 19 [(0, .ref (gz_ad G 1000))] [] := by
  unfold mj_X0_later_19 at h
  refine gz_iconst (pc := 19) (v := (-1 : Int32)) hX dX0_later_19 (by decide) ?_
  obtain rfl := Option.some.inj h
  exact hk _ _ dX0_later_20
noncomputable def cf_X0_later (x1 : Int32) (x2 : Int32) (m : gM) : Option (Int32 × gM) :=
  ((cf_X0_isThing x1 m).bind fun (r1, m2) => (if r1 = (0 : Int32) then (mj_X0_later_19  m2) else ((cf_X0_isAhead x2 (0 : Int32) (60 : Int32) m2).bind fun (r5, m6) => (if r5 = (0 : Int32) then (mj_X0_later_19  m6) else ((cf_X5_copy 1073 1027 m6).bind fun (r9, m10) => (if cSt r9 = true then ((cf_X5_goesBy r9 x2 m10).bind fun (r13, m14) => (if gz_in x1 (8) then some ((gI m14 1074 (gz_ix x1)), m14) else none)) else none))))))
theorem wm_X0_later {X : gz_X} {G : gz_G} (hX : gz_C cS X G cX0_later 3 RX0 84 2806) {x1 : Int32} {x2 : Int32}  {m : gM} {z : (Int32 × gM)} (h : cf_X0_later x1 x2 m = some z) (hk : (fun z : (Int32 × gM) => gz_kI cS X G 3 (0, 0) cX0_later z.2 z.1) z) : gz_V cS X G 3 (0, 0) m 0 [(0, .ref (gz_ad G 1000)), (1, .int x1), (2, .int x2)] [] := by
  unfold cf_X0_later at h
  refine gz_aload_n (pc := 0) hX dX0_later_0 rfl 0 rfl ?_
  refine gz_iload_n (pc := 1) hX dX0_later_1 rfl 1 rfl ?_
  obtain ⟨⟨r1, m2⟩, c3, h⟩ := gz_bd h
  refine cc_X0_240 (pc := 2) hX (fun h => cz_k h rfl) c3 ⟨Nat.le_of_ble_eq_true rfl, Nat.le_of_ble_eq_true rfl⟩ (rest := []) rfl (Nat.le_of_ble_eq_true rfl) dX0_later_2 ?_
  refine gz_if_eq (pc := 5) (tgt := 19) hX dX0_later_5 (by decide) (fun g4 => ?_) (fun g4 => ?_)
  · replace h := gz_it' g4 h
    refine gz_sub (lw := [(0, .ref (gz_ad G 1000))]) [0] rfl ?_
    exact wb_X0_later_19 hX h hk
  · replace h := gz_if' g4 h
    refine gz_aload_n (pc := 8) hX dX0_later_8 rfl 0 rfl ?_
    refine gz_iload_n (pc := 9) hX dX0_later_9 rfl 2 rfl ?_
    refine gz_iconst (pc := 10) (v := (0 : Int32)) hX dX0_later_10 (by decide) ?_
    refine gz_bipush (pc := 11) (v := (60 : Int32)) hX dX0_later_11 (by decide) ?_
    obtain ⟨⟨r5, m6⟩, c7, h⟩ := gz_bd h
    refine cc_X0_291 (pc := 13) hX (fun h => cz_k h rfl) c7 ⟨Nat.le_of_ble_eq_true rfl, Nat.le_of_ble_eq_true rfl⟩ (rest := []) rfl (Nat.le_of_ble_eq_true rfl) dX0_later_13 ?_
    refine gz_if_ne (pc := 16) (tgt := 21) hX dX0_later_16 (by decide) (fun g8 => ?_) (fun g8 => ?_)
    · replace h := gz_if' g8 h
      refine gz_aload_n (pc := 21) hX dX0_later_21 rfl 0 rfl ?_
      refine cg_X0_78_0 (pc := 22) hX (c := 1000) (v := .ref (gz_ad G 1073)) (fun h => cz_k h rfl) (fun h => cz_f h (by decide) rfl (by decide) rfl) dX0_later_22 ?_
      refine gz_aload_n (pc := 25) hX dX0_later_25 rfl 0 rfl ?_
      refine cg_X0_74_0 (pc := 26) hX (c := 1000) (v := .ref (gz_ad G 1027)) (fun h => cz_k h rfl) (fun h => cz_f h (by decide) rfl (by decide) rfl) dX0_later_26 ?_
      obtain ⟨⟨r9, m10⟩, c11, h⟩ := gz_bd h
      obtain ⟨g12, h⟩ := gz_gu h
      refine cc_X0_294 (pc := 29) hX (fun h => cz_k h rfl) (by decide) (by decide) c11 ⟨Nat.le_of_ble_eq_true rfl, Nat.le_of_ble_eq_true rfl⟩ (rest := []) rfl (Nat.le_of_ble_eq_true rfl) dX0_later_29 ?_
      refine gz_iload_n (pc := 32) hX dX0_later_32 rfl 2 rfl ?_
      obtain ⟨⟨r13, m14⟩, c15, h⟩ := gz_bd h
      refine cc_X0_298 (pc := 33) hX (fun h => cz_k h (st_k g12)) g12 c15 ⟨Nat.le_of_ble_eq_true rfl, Nat.le_of_ble_eq_true rfl⟩ (rest := []) rfl (Nat.le_of_ble_eq_true rfl) dX0_later_33 ?_
      refine gz_pop (pc := 36) hX dX0_later_36 rfl ?_
      refine gz_aload_n (pc := 37) hX dX0_later_37 rfl 0 rfl ?_
      refine cg_X0_78_0 (pc := 38) hX (c := 1000) (v := .ref (gz_ad G 1073)) (fun h => cz_k h rfl) (fun h => cz_f h (by decide) rfl (by decide) rfl) dX0_later_38 ?_
      refine cg_X0_254_5 (pc := 41) hX (c := 1073) (v := .ref (gz_ad G 1074)) (fun h => cz_k h rfl) (fun h => cz_f h (by decide) rfl (by decide) rfl) dX0_later_41 ?_
      refine gz_iload_n (pc := 44) hX dX0_later_44 rfl 1 rfl ?_
      obtain ⟨g16, h⟩ := gz_gu h
      refine gz_iald2 (pc := 45) (c := 1074) (n := 8) hX rfl (fun h => cz_a h rfl (by decide) rfl) g16 dX0_later_45 ?_
      obtain rfl := Option.some.inj h
      exact hk _ _ dX0_later_46
    · replace h := gz_it' g8 h
      refine gz_sub (lw := [(0, .ref (gz_ad G 1000))]) [0] rfl ?_
      exact wb_X0_later_19 hX h hk
theorem ct_X0_later {G : gz_G} {l : Launch} {x1 : Int32} {x2 : Int32}  {m m9 : gM} {r : Int32} (h : cf_X0_later x1 x2 m = some (r, m9)) : gz_Met cS G l yX0_later cX0_later 3 (some .int) (mRm 84 2806) [.ref (gz_ad G 1000), .int x1, .int x2] m m9 (some (.int r)) :=
  gz_ofI (by decide +kernel) (Nat.le_of_ble_eq_true rfl) fun X _ hX hk => wm_X0_later hX h hk
/-! FirstSnuffer.goesOn(I)Z -/
noncomputable def cf_X0_goesOn (x1 : Int32) (m : gM) : Option (Int32 × gM) :=
  (if ((gI m 1073 0) + x1) ≤ (999 : Int32) then ((cf_X5_goesBy 1073 x1 m).bind fun (r2, m3) => some ((1 : Int32), m3)) else some ((0 : Int32), m))
theorem wm_X0_goesOn {X : gz_X} {G : gz_G} (hX : gz_C cS X G cX0_goesOn 2 RX0 84 2806) {x1 : Int32}  {m : gM} {z : (Int32 × gM)} (h : cf_X0_goesOn x1 m = some z) (hk : (fun z : (Int32 × gM) => gz_kZ cS X G 2 (0, 0) cX0_goesOn z.2 z.1) z) : gz_V cS X G 2 (0, 0) m 0 [(0, .ref (gz_ad G 1000)), (1, .int x1)] [] := by
  unfold cf_X0_goesOn at h
  refine gz_aload_n (pc := 0) hX dX0_goesOn_0 rfl 0 rfl ?_
  refine cg_X0_78_0 (pc := 1) hX (c := 1000) (v := .ref (gz_ad G 1073)) (fun h => cz_k h rfl) (fun h => cz_f h (by decide) rfl (by decide) rfl) dX0_goesOn_1 ?_
  refine cg_X0_211_5 (pc := 4) hX (c := 1073) (v := .int (gI m 1073 0)) (fun h => cz_k h rfl) (fun _ => rfl) dX0_goesOn_4 ?_
  refine gz_iload_n (pc := 7) hX dX0_goesOn_7 rfl 1 rfl ?_
  refine gz_iadd (pc := 8) hX dX0_goesOn_8 ?_
  refine gz_sipush (pc := 9) (v := (999 : Int32)) hX dX0_goesOn_9 (by decide) ?_
  refine gz_icmp_le (pc := 12) (tgt := 17) hX dX0_goesOn_12 (by decide) (fun g1 => ?_) (fun g1 => ?_)
  · replace h := gz_it' g1 h
    refine gz_aload_n (pc := 17) hX dX0_goesOn_17 rfl 0 rfl ?_
    refine cg_X0_78_0 (pc := 18) hX (c := 1000) (v := .ref (gz_ad G 1073)) (fun h => cz_k h rfl) (fun h => cz_f h (by decide) rfl (by decide) rfl) dX0_goesOn_18 ?_
    refine gz_iload_n (pc := 21) hX dX0_goesOn_21 rfl 1 rfl ?_
    obtain ⟨⟨r2, m3⟩, c4, h⟩ := gz_bd h
    refine cc_X0_298 (pc := 22) hX (fun h => cz_k h rfl) (by decide) c4 ⟨Nat.le_of_ble_eq_true rfl, Nat.le_of_ble_eq_true rfl⟩ (rest := []) rfl (Nat.le_of_ble_eq_true rfl) dX0_goesOn_22 ?_
    refine gz_pop (pc := 25) hX dX0_goesOn_25 rfl ?_
    refine gz_iconst (pc := 26) (v := (1 : Int32)) hX dX0_goesOn_26 (by decide) ?_
    obtain rfl := Option.some.inj h
    exact hk _ _ dX0_goesOn_27 (Or.inr rfl)
  · replace h := gz_if' g1 h
    refine gz_iconst (pc := 15) (v := (0 : Int32)) hX dX0_goesOn_15 (by decide) ?_
    obtain rfl := Option.some.inj h
    exact hk _ _ dX0_goesOn_16 (Or.inl rfl)
theorem ct_X0_goesOn {G : gz_G} {l : Launch} {x1 : Int32}  {m m9 : gM} {r : Int32} (h : cf_X0_goesOn x1 m = some (r, m9)) : gz_Met cS G l yX0_goesOn cX0_goesOn 2 (some .boolean) (mRm 84 2806) [.ref (gz_ad G 1000), .int x1] m m9 (some (.int r)) :=
  gz_ofZ (by decide +kernel) (Nat.le_of_ble_eq_true rfl) fun X _ hX hk => wm_X0_goesOn hX h hk
theorem cc_X0_348 {X : gz_X} {G : gz_G} {cc : ByteArray} {nL fr lo pc : Nat} {rem : Nat × Nat} {lv : List (Nat × Value)} {rest st0 : List Value} (hX : gz_C cS X G cc nL RX0 fr lo) {x1 : Int32} {x2 : Int32} {m m9 : gM} (hK : clc m.1 m.2.1 m.2.2.2.2.1 → m.1 1000 = 0 + 1)  {r : Int32} (h : cf_X0_canBe x1 x2 m = some (r, m9)) (hroom : 83 + 1 ≤ fr ∧ 8 + (6 + 11) + 2783 ≤ lo) (hst : st0 = [.int x2, .int x1, .ref (gz_ad G 1000)] ++ rest) (hW : (rest.map fun v => v.category).sum ≤ 8) (hd : decode cc pc = .ok (.invokevirtual 348, 3)) (kk : gz_V cS X G nL rem m9 (pc + 3) lv (.int r :: rest)) : gz_V cS X G nL rem m pc lv st0 :=
  gz_callV2 hX cs_E (As := [.int x1, .int x2]) (rest := rest) (q := (RX0, TX0, 28)) (ci := 0) (c := 1000) (ct_X0_canBe (l := X.2.1) h) (lw_V q1630 q1632 qs61 q167 q1633) (n := 2) (by decide +kernel) hroom rfl rfl (by decide) hK hst hW hd (rem := rem) kk
/-! FirstSnuffer.heats(I)I -/
def mP_X0_heats_14 (X : gz_X) (G : gz_G) (q : (Int32 × Int32 × Int32 × gM)) : Prop := gz_V cS X G 4 (0, 0) q.2.2.2 14 [(0, .ref (gz_ad G 1000)), (1, .int q.1), (2, .int q.2.1), (3, .int q.2.2.1)] []
noncomputable def mj_X0_heats_37 (x1 : Int32) (x3 : Int32) (s0 : Int32) (s1 : Int32) (m : gM) : Option ((Int32 × Int32 × Int32 × gM) ⊕ (Int32 × gM)) :=
  gz_let ((s1 ||| s0)) fun y1 => gz_let (x3 + (1 : Int32)) fun y2 => some (Sum.inl (x1, y1, y2, m))
theorem wb_X0_heats_37 {X : gz_X} {G : gz_G} (hX : gz_C cS X G cX0_heats 4 RX0 84 2808) {x1 : Int32} {x3 : Int32} {s0 : Int32} {s1 : Int32}  {m : gM} {z : ((Int32 × Int32 × Int32 × gM) ⊕ (Int32 × gM))} (h : mj_X0_heats_37 x1 x3 s0 s1 m = some z) (hk : (Sum.elim (mP_X0_heats_14 X G) (fun z : (Int32 × gM) => gz_kI cS X G 4 (0, 0) cX0_heats z.2 z.1)) z) : gz_V cS X G 4 (0, 0) m 37 [(0, .ref (gz_ad G 1000)), (1, .int x1), (3, .int x3)] [.int s0, .int s1] := by
  unfold mj_X0_heats_37 at h
  refine gz_ior (pc := 37) hX dX0_heats_37 ?_
  obtain ⟨y1, ey1, h⟩ := gz_lt h
  refine gz_topi ey1 ?_
  refine gz_istore_n (pc := 38) (lw := [(2, .int y1), (0, .ref (gz_ad G 1000)), (1, .int x1), (3, .int x3)]) hX dX0_heats_38 rfl (by decide) rfl ?_
  obtain ⟨y2, ey2, h⟩ := gz_lt h
  refine gz_iinc (pc := 39) (v := y2) (lw := [(3, .int y2), (2, .int y1), (0, .ref (gz_ad G 1000)), (1, .int x1)]) hX dX0_heats_39 (k := 3) rfl (by rw [ey2]; rfl) (by decide) rfl ?_
  refine gz_goto (pc := 42) (tgt := 14) hX dX0_heats_42 (by decide) ?_
  refine gz_sub (lw := [(0, .ref (gz_ad G 1000)), (1, .int x1), (2, .int y1), (3, .int y2)]) [2, 3, 1, 0] rfl ?_
  obtain rfl := Option.some.inj h
  exact hk
noncomputable def mb_X0_heats_14 (x1 : Int32) (x2 : Int32) (x3 : Int32) (m : gM) : Option ((Int32 × Int32 × Int32 × gM) ⊕ (Int32 × gM)) :=
  (if (10 : Int32) ≤ x3 then some (Sum.inr (x2, m)) else ((cf_X0_canBe x1 x3 m).bind fun (r2, m3) => (if r2 = (0 : Int32) then (mj_X0_heats_37 x1 x3 (0 : Int32) x2 m3) else (mj_X0_heats_37 x1 x3 ((1 : Int32) <<< (x3 &&& 31)) x2 m3))))
theorem wb_X0_heats_14 {X : gz_X} {G : gz_G} (hX : gz_C cS X G cX0_heats 4 RX0 84 2808) {x1 : Int32} {x2 : Int32} {x3 : Int32}  {m : gM} {z : ((Int32 × Int32 × Int32 × gM) ⊕ (Int32 × gM))} (h : mb_X0_heats_14 x1 x2 x3 m = some z) (hk : (Sum.elim (mP_X0_heats_14 X G) (fun z : (Int32 × gM) => gz_kI cS X G 4 (0, 0) cX0_heats z.2 z.1)) z) : gz_V cS X G 4 (0, 0) m 14 [(0, .ref (gz_ad G 1000)), (1, .int x1), (2, .int x2), (3, .int x3)] [] := by
  unfold mb_X0_heats_14 at h
  refine gz_iload_n (pc := 14) hX dX0_heats_14 rfl 3 rfl ?_
  refine gz_bipush (pc := 15) (v := (10 : Int32)) hX dX0_heats_15 (by decide) ?_
  refine gz_icmp_ge (pc := 17) (tgt := 45) hX dX0_heats_17 (by decide) (fun g1 => ?_) (fun g1 => ?_)
  · replace h := gz_it' g1 h
    refine gz_iload_n (pc := 45) hX dX0_heats_45 rfl 2 rfl ?_
    obtain rfl := Option.some.inj h
    exact hk _ _ dX0_heats_46
  · replace h := gz_if' g1 h
    refine gz_iload_n (pc := 20) hX dX0_heats_20 rfl 2 rfl ?_
    refine gz_aload_n (pc := 21) hX dX0_heats_21 rfl 0 rfl ?_
    refine gz_iload_n (pc := 22) hX dX0_heats_22 rfl 1 rfl ?_
    refine gz_iload_n (pc := 23) hX dX0_heats_23 rfl 3 rfl ?_
    obtain ⟨⟨r2, m3⟩, c4, h⟩ := gz_bd h
    refine cc_X0_348 (pc := 24) hX (fun h => cz_k h rfl) c4 ⟨Nat.le_of_ble_eq_true rfl, Nat.le_of_ble_eq_true rfl⟩ (rest := [.int x2]) rfl (Nat.le_of_ble_eq_true rfl) dX0_heats_24 ?_
    refine gz_if_eq (pc := 27) (tgt := 36) hX dX0_heats_27 (by decide) (fun g5 => ?_) (fun g5 => ?_)
    · replace h := gz_it' g5 h
      refine gz_iconst (pc := 36) (v := (0 : Int32)) hX dX0_heats_36 (by decide) ?_
      refine gz_sub (lw := [(0, .ref (gz_ad G 1000)), (1, .int x1), (3, .int x3)]) [0, 1, 3] rfl ?_
      exact wb_X0_heats_37 hX h hk
    · replace h := gz_if' g5 h
      refine gz_iconst (pc := 30) (v := (1 : Int32)) hX dX0_heats_30 (by decide) ?_
      refine gz_iload_n (pc := 31) hX dX0_heats_31 rfl 3 rfl ?_
      refine gz_ishl (pc := 32) hX dX0_heats_32 ?_
      refine gz_goto (pc := 33) (tgt := 37) hX dX0_heats_33 (by decide) ?_
      refine gz_sub (lw := [(0, .ref (gz_ad G 1000)), (1, .int x1), (3, .int x3)]) [0, 1, 3] rfl ?_
      exact wb_X0_heats_37 hX h hk
noncomputable def ml_X0_heats_14 (x1 : Int32) (x2 : Int32) (x3 : Int32) (m : gM) : Option (Int32 × gM) := gz_loop (fun q : (Int32 × Int32 × Int32 × gM) => mb_X0_heats_14 q.1 q.2.1 q.2.2.1 q.2.2.2) (x1, x2, x3, m)
theorem wl_X0_heats_14 {X : gz_X} {G : gz_G} (hX : gz_C cS X G cX0_heats 4 RX0 84 2808) {x1 : Int32} {x2 : Int32} {x3 : Int32}  {m : gM} {z : (Int32 × gM)} (h : ml_X0_heats_14 x1 x2 x3 m = some z) (hk : (fun z : (Int32 × gM) => gz_kI cS X G 4 (0, 0) cX0_heats z.2 z.1) z) : gz_V cS X G 4 (0, 0) m 14 [(0, .ref (gz_ad G 1000)), (1, .int x1), (2, .int x2), (3, .int x3)] [] := by
  have hp : mP_X0_heats_14 X G (x1, x2, x3, m) := gz_loop_ind (fun q z hz hkz => wb_X0_heats_14 hX  hz hkz) h hk
  exact hp
noncomputable def cf_X0_heats (x1 : Int32) (m : gM) : Option (Int32 × gM) :=
  ((cf_X0_isThing x1 m).bind fun (r1, m2) => (if r1 = (0 : Int32) then some ((-1 : Int32), m2) else (ml_X0_heats_14 x1 (0 : Int32) (0 : Int32) m2)))
theorem wm_X0_heats {X : gz_X} {G : gz_G} (hX : gz_C cS X G cX0_heats 4 RX0 84 2808) {x1 : Int32}  {m : gM} {z : (Int32 × gM)} (h : cf_X0_heats x1 m = some z) (hk : (fun z : (Int32 × gM) => gz_kI cS X G 4 (0, 0) cX0_heats z.2 z.1) z) : gz_V cS X G 4 (0, 0) m 0 [(0, .ref (gz_ad G 1000)), (1, .int x1)] [] := by
  unfold cf_X0_heats at h
  refine gz_aload_n (pc := 0) hX dX0_heats_0 rfl 0 rfl ?_
  refine gz_iload_n (pc := 1) hX dX0_heats_1 rfl 1 rfl ?_
  obtain ⟨⟨r1, m2⟩, c3, h⟩ := gz_bd h
  refine cc_X0_240 (pc := 2) hX (fun h => cz_k h rfl) c3 ⟨Nat.le_of_ble_eq_true rfl, Nat.le_of_ble_eq_true rfl⟩ (rest := []) rfl (Nat.le_of_ble_eq_true rfl) dX0_heats_2 ?_
  refine gz_if_ne (pc := 5) (tgt := 10) hX dX0_heats_5 (by decide) (fun g4 => ?_) (fun g4 => ?_)
  · replace h := gz_if' g4 h
    refine gz_iconst (pc := 10) (v := (0 : Int32)) hX dX0_heats_10 (by decide) ?_
    refine gz_istore_n (pc := 11) (lw := [(2, .int (0 : Int32)), (0, .ref (gz_ad G 1000)), (1, .int x1)]) hX dX0_heats_11 rfl (by decide) rfl ?_
    refine gz_iconst (pc := 12) (v := (0 : Int32)) hX dX0_heats_12 (by decide) ?_
    refine gz_istore_n (pc := 13) (lw := [(3, .int (0 : Int32)), (2, .int (0 : Int32)), (0, .ref (gz_ad G 1000)), (1, .int x1)]) hX dX0_heats_13 rfl (by decide) rfl ?_
    refine gz_sub (lw := [(0, .ref (gz_ad G 1000)), (1, .int x1), (2, .int (0 : Int32)), (3, .int (0 : Int32))]) [2, 3, 1, 0] rfl ?_
    exact wl_X0_heats_14 hX h hk
  · replace h := gz_it' g4 h
    refine gz_iconst (pc := 8) (v := (-1 : Int32)) hX dX0_heats_8 (by decide) ?_
    obtain rfl := Option.some.inj h
    exact hk _ _ dX0_heats_9
theorem ct_X0_heats {G : gz_G} {l : Launch} {x1 : Int32}  {m m9 : gM} {r : Int32} (h : cf_X0_heats x1 m = some (r, m9)) : gz_Met cS G l yX0_heats cX0_heats 4 (some .int) (mRm 84 2808) [.ref (gz_ad G 1000), .int x1] m m9 (some (.int r)) :=
  gz_ofI (by decide +kernel) (Nat.le_of_ble_eq_true rfl) fun X _ hX hk => wm_X0_heats hX h hk
theorem cc_X0_353 {X : gz_X} {G : gz_G} {cc : ByteArray} {nL fr lo pc : Nat} {rem : Nat × Nat} {lv : List (Nat × Value)} {rest st0 : List Value} (hX : gz_C cS X G cc nL RX0 fr lo) {x1 : Int32} {m m9 : gM} (hK : clc m.1 m.2.1 m.2.2.2.2.1 → m.1 1000 = 0 + 1)  {r : Int32} (h : cf_X0_heats x1 m = some (r, m9)) (hroom : 84 + 1 ≤ fr ∧ 8 + (4 + 11) + 2808 ≤ lo) (hst : st0 = [.int x1, .ref (gz_ad G 1000)] ++ rest) (hW : (rest.map fun v => v.category).sum ≤ 8) (hd : decode cc pc = .ok (.invokevirtual 353, 3)) (kk : gz_V cS X G nL rem m9 (pc + 3) lv (.int r :: rest)) : gz_V cS X G nL rem m pc lv st0 :=
  gz_callV2 hX cs_E (As := [.int x1]) (rest := rest) (q := (RX0, TX0, 28)) (ci := 0) (c := 1000) (ct_X0_heats (l := X.2.1) h) (lw_V q1638 q1627 q1628 q167 q1629) (n := 1) (by decide +kernel) hroom rfl rfl (by decide) hK hst hW hd (rem := rem) kk
theorem cc_X0_356 {X : gz_X} {G : gz_G} {cc : ByteArray} {nL fr lo pc : Nat} {rem : Nat × Nat} {lv : List (Nat × Value)} {rest st0 : List Value} (hX : gz_C cS X G cc nL RX0 fr lo) {x1 : Int32} {x2 : Int32} {x3 : Int32} {m m9 : gM} (hK : clc m.1 m.2.1 m.2.2.2.2.1 → m.1 1000 = 0 + 1)  {r : Int32} (h : cf_X0_mostBy x1 x2 x3 m = some (r, m9)) (hroom : 1 + 1 ≤ fr ∧ 8 + (8 + 11) + 21 ≤ lo) (hst : st0 = [.int x3, .int x2, .int x1, .ref (gz_ad G 1000)] ++ rest) (hW : (rest.map fun v => v.category).sum ≤ 8) (hd : decode cc pc = .ok (.invokevirtual 356, 3)) (kk : gz_V cS X G nL rem m9 (pc + 3) lv (.int r :: rest)) : gz_V cS X G nL rem m pc lv st0 :=
  gz_callV2 hX cs_E (As := [.int x1, .int x2, .int x3]) (rest := rest) (q := (RX0, TX0, 28)) (ci := 0) (c := 1000) (ct_X0_mostBy (l := X.2.1) h) (lw_V q1639 q1641 qs62 q167 q1642) (n := 3) (by decide +kernel) hroom rfl rfl (by decide) hK hst hW hd (rem := rem) kk
/-! FirstSnuffer.tells(II)I -/
noncomputable def mj_X0_tells_19  (m : gM) : Option (Int32 × gM) :=
  some ((-1 : Int32), m)
theorem wb_X0_tells_19 {X : gz_X} {G : gz_G} (hX : gz_C cS X G cX0_tells 9 RX0 85 2831)   {m : gM} {z : (Int32 × gM)} (h : mj_X0_tells_19  m = some z) (hk : (fun z : (Int32 × gM) => gz_kI cS X G 9 (0, 0) cX0_tells z.2 z.1) z) : gz_V cS X G 9 (0, 0) m 19 [(0, .ref (gz_ad G 1000))] [] := by
  unfold mj_X0_tells_19 at h
  refine gz_iconst (pc := 19) (v := (-1 : Int32)) hX dX0_tells_19 (by decide) ?_
  obtain rfl := Option.some.inj h
  exact hk _ _ dX0_tells_20
def mP_X0_tells_31 (X : gz_X) (G : gz_G) (q : (Int32 × Int32 × Int32 × Int32 × Int32 × gM)) : Prop := gz_V cS X G 9 (0, 0) q.2.2.2.2.2 31 [(0, .ref (gz_ad G 1000)), (2, .int q.1), (3, .int q.2.1), (4, .int q.2.2.1), (5, .int q.2.2.2.1), (6, .int q.2.2.2.2.1)] []
def mP_X0_tells_46 (X : gz_X) (G : gz_G) (q : (Int32 × Int32 × Int32 × Int32 × Int32 × Int32 × gM)) : Prop := gz_V cS X G 9 (0, 0) q.2.2.2.2.2.2 46 [(0, .ref (gz_ad G 1000)), (2, .int q.1), (3, .int q.2.1), (4, .int q.2.2.1), (5, .int q.2.2.2.1), (6, .int q.2.2.2.2.1), (7, .int q.2.2.2.2.2.1)] []
noncomputable def mj_X0_tells_90 (x2 : Int32) (x3 : Int32) (x4 : Int32) (x5 : Int32) (x6 : Int32) (x7 : Int32) (m : gM) : Option ((Int32 × Int32 × Int32 × Int32 × Int32 × Int32 × gM) ⊕ ((Int32 × Int32 × Int32 × Int32 × Int32 × gM) ⊕ (Int32 × gM))) :=
  gz_let (x7 + (1 : Int32)) fun y1 => some (Sum.inl (x2, x3, x4, x5, x6, y1, m))
theorem wb_X0_tells_90 {X : gz_X} {G : gz_G} (hX : gz_C cS X G cX0_tells 9 RX0 85 2831) {x2 : Int32} {x3 : Int32} {x4 : Int32} {x5 : Int32} {x6 : Int32} {x7 : Int32}  {m : gM} {z : ((Int32 × Int32 × Int32 × Int32 × Int32 × Int32 × gM) ⊕ ((Int32 × Int32 × Int32 × Int32 × Int32 × gM) ⊕ (Int32 × gM)))} (h : mj_X0_tells_90 x2 x3 x4 x5 x6 x7 m = some z) (hk : (Sum.elim (mP_X0_tells_46 X G) (Sum.elim (mP_X0_tells_31 X G) (fun z : (Int32 × gM) => gz_kI cS X G 9 (0, 0) cX0_tells z.2 z.1))) z) : gz_V cS X G 9 (0, 0) m 90 [(0, .ref (gz_ad G 1000)), (2, .int x2), (3, .int x3), (4, .int x4), (5, .int x5), (6, .int x6), (7, .int x7)] [] := by
  unfold mj_X0_tells_90 at h
  obtain ⟨y1, ey1, h⟩ := gz_lt h
  refine gz_iinc (pc := 90) (v := y1) (lw := [(7, .int y1), (0, .ref (gz_ad G 1000)), (2, .int x2), (3, .int x3), (4, .int x4), (5, .int x5), (6, .int x6)]) hX dX0_tells_90 (k := 6) rfl (by rw [ey1]; rfl) (by decide) rfl ?_
  refine gz_goto (pc := 93) (tgt := 46) hX dX0_tells_93 (by decide) ?_
  refine gz_sub (lw := [(0, .ref (gz_ad G 1000)), (2, .int x2), (3, .int x3), (4, .int x4), (5, .int x5), (6, .int x6), (7, .int y1)]) [1, 2, 3, 4, 5, 6, 0] rfl ?_
  obtain rfl := Option.some.inj h
  exact hk
noncomputable def mb_X0_tells_46 (x2 : Int32) (x3 : Int32) (x4 : Int32) (x5 : Int32) (x6 : Int32) (x7 : Int32) (m : gM) : Option ((Int32 × Int32 × Int32 × Int32 × Int32 × Int32 × gM) ⊕ ((Int32 × Int32 × Int32 × Int32 × Int32 × gM) ⊕ (Int32 × gM))) :=
  ((cf_X0_things m).bind fun (r1, m2) => (if r1 ≤ x7 then gz_let (x6 + (1 : Int32)) fun y5 => some (Sum.inr (Sum.inl (x2, x3, x4, x5, y5, m2))) else ((cf_X0_mostBy x3 x6 x7 m2).bind fun (r6, m7) => (if r6 < x5 then gz_let ((((8 : Int32) * x6) + x7)) fun y10 => (mj_X0_tells_90 x2 x3 y10 r6 x6 x7 m7) else (mj_X0_tells_90 x2 x3 x4 x5 x6 x7 m7)))))
theorem wb_X0_tells_46 {X : gz_X} {G : gz_G} (hX : gz_C cS X G cX0_tells 9 RX0 85 2831) {x2 : Int32} {x3 : Int32} {x4 : Int32} {x5 : Int32} {x6 : Int32} {x7 : Int32}  {m : gM} {z : ((Int32 × Int32 × Int32 × Int32 × Int32 × Int32 × gM) ⊕ ((Int32 × Int32 × Int32 × Int32 × Int32 × gM) ⊕ (Int32 × gM)))} (h : mb_X0_tells_46 x2 x3 x4 x5 x6 x7 m = some z) (hk : (Sum.elim (mP_X0_tells_46 X G) (Sum.elim (mP_X0_tells_31 X G) (fun z : (Int32 × gM) => gz_kI cS X G 9 (0, 0) cX0_tells z.2 z.1))) z) : gz_V cS X G 9 (0, 0) m 46 [(0, .ref (gz_ad G 1000)), (2, .int x2), (3, .int x3), (4, .int x4), (5, .int x5), (6, .int x6), (7, .int x7)] [] := by
  unfold mb_X0_tells_46 at h
  refine gz_iload (pc := 46) hX dX0_tells_46 6 rfl ?_
  refine gz_aload_n (pc := 48) hX dX0_tells_48 rfl 0 rfl ?_
  obtain ⟨⟨r1, m2⟩, c3, h⟩ := gz_bd h
  refine cc_X0_181 (pc := 49) hX (fun h => cz_k h rfl) c3 ⟨Nat.le_of_ble_eq_true rfl, Nat.le_of_ble_eq_true rfl⟩ (rest := [.int x7]) rfl (Nat.le_of_ble_eq_true rfl) dX0_tells_49 ?_
  refine gz_icmp_ge (pc := 52) (tgt := 96) hX dX0_tells_52 (by decide) (fun g4 => ?_) (fun g4 => ?_)
  · replace h := gz_it' g4 h
    obtain ⟨y5, ey5, h⟩ := gz_lt h
    refine gz_iinc (pc := 96) (v := y5) (lw := [(6, .int y5), (0, .ref (gz_ad G 1000)), (2, .int x2), (3, .int x3), (4, .int x4), (5, .int x5), (7, .int x7)]) hX dX0_tells_96 (k := 5) rfl (by rw [ey5]; rfl) (by decide) rfl ?_
    refine gz_goto (pc := 99) (tgt := 31) hX dX0_tells_99 (by decide) ?_
    refine gz_sub (lw := [(0, .ref (gz_ad G 1000)), (2, .int x2), (3, .int x3), (4, .int x4), (5, .int x5), (6, .int y5)]) [1, 2, 3, 4, 5, 0] rfl ?_
    obtain rfl := Option.some.inj h
    exact hk
  · replace h := gz_if' g4 h
    refine gz_aload_n (pc := 55) hX dX0_tells_55 rfl 0 rfl ?_
    refine gz_iload_n (pc := 56) hX dX0_tells_56 rfl 2 rfl ?_
    refine gz_iload (pc := 57) hX dX0_tells_57 5 rfl ?_
    refine gz_iload (pc := 59) hX dX0_tells_59 6 rfl ?_
    obtain ⟨⟨r6, m7⟩, c8, h⟩ := gz_bd h
    refine cc_X0_356 (pc := 61) hX (fun h => cz_k h rfl) c8 ⟨Nat.le_of_ble_eq_true rfl, Nat.le_of_ble_eq_true rfl⟩ (rest := []) rfl (Nat.le_of_ble_eq_true rfl) dX0_tells_61 ?_
    refine gz_istore (pc := 64) (lw := [(8, .int r6), (0, .ref (gz_ad G 1000)), (2, .int x2), (3, .int x3), (4, .int x4), (5, .int x5), (6, .int x6), (7, .int x7)]) hX dX0_tells_64 (by decide) rfl ?_
    refine gz_iload (pc := 66) hX dX0_tells_66 0 rfl ?_
    refine gz_iload (pc := 68) hX dX0_tells_68 5 rfl ?_
    refine gz_icmp_lt (pc := 70) (tgt := 76) hX dX0_tells_70 (by decide) (fun g9 => ?_) (fun g9 => ?_)
    · replace h := gz_it' g9 h
      refine gz_iload (pc := 76) hX dX0_tells_76 0 rfl ?_
      refine gz_istore (pc := 78) (lw := [(5, .int r6), (8, .int r6), (0, .ref (gz_ad G 1000)), (2, .int x2), (3, .int x3), (4, .int x4), (6, .int x6), (7, .int x7)]) hX dX0_tells_78 (by decide) rfl ?_
      refine gz_bipush (pc := 80) (v := (8 : Int32)) hX dX0_tells_80 (by decide) ?_
      refine gz_iload (pc := 82) hX dX0_tells_82 6 rfl ?_
      refine gz_imul (pc := 84) hX dX0_tells_84 ?_
      refine gz_iload (pc := 85) hX dX0_tells_85 7 rfl ?_
      refine gz_iadd (pc := 87) hX dX0_tells_87 ?_
      obtain ⟨y10, ey10, h⟩ := gz_lt h
      refine gz_topi ey10 ?_
      refine gz_istore (pc := 88) (lw := [(4, .int y10), (5, .int r6), (8, .int r6), (0, .ref (gz_ad G 1000)), (2, .int x2), (3, .int x3), (6, .int x6), (7, .int x7)]) hX dX0_tells_88 (by decide) rfl ?_
      refine gz_sub (lw := [(0, .ref (gz_ad G 1000)), (2, .int x2), (3, .int x3), (4, .int y10), (5, .int r6), (6, .int x6), (7, .int x7)]) [3, 4, 5, 0, 1, 6, 7] rfl ?_
      exact wb_X0_tells_90 hX h hk
    · replace h := gz_if' g9 h
      refine gz_goto (pc := 73) (tgt := 90) hX dX0_tells_73 (by decide) ?_
      refine gz_sub (lw := [(0, .ref (gz_ad G 1000)), (2, .int x2), (3, .int x3), (4, .int x4), (5, .int x5), (6, .int x6), (7, .int x7)]) [1, 2, 3, 4, 5, 6, 7] rfl ?_
      exact wb_X0_tells_90 hX h hk
noncomputable def ml_X0_tells_46 (x2 : Int32) (x3 : Int32) (x4 : Int32) (x5 : Int32) (x6 : Int32) (x7 : Int32) (m : gM) : Option ((Int32 × Int32 × Int32 × Int32 × Int32 × gM) ⊕ (Int32 × gM)) := gz_loop (fun q : (Int32 × Int32 × Int32 × Int32 × Int32 × Int32 × gM) => mb_X0_tells_46 q.1 q.2.1 q.2.2.1 q.2.2.2.1 q.2.2.2.2.1 q.2.2.2.2.2.1 q.2.2.2.2.2.2) (x2, x3, x4, x5, x6, x7, m)
theorem wl_X0_tells_46 {X : gz_X} {G : gz_G} (hX : gz_C cS X G cX0_tells 9 RX0 85 2831) {x2 : Int32} {x3 : Int32} {x4 : Int32} {x5 : Int32} {x6 : Int32} {x7 : Int32}  {m : gM} {z : ((Int32 × Int32 × Int32 × Int32 × Int32 × gM) ⊕ (Int32 × gM))} (h : ml_X0_tells_46 x2 x3 x4 x5 x6 x7 m = some z) (hk : (Sum.elim (mP_X0_tells_31 X G) (fun z : (Int32 × gM) => gz_kI cS X G 9 (0, 0) cX0_tells z.2 z.1)) z) : gz_V cS X G 9 (0, 0) m 46 [(0, .ref (gz_ad G 1000)), (2, .int x2), (3, .int x3), (4, .int x4), (5, .int x5), (6, .int x6), (7, .int x7)] [] := by
  have hp : mP_X0_tells_46 X G (x2, x3, x4, x5, x6, x7, m) := gz_loop_ind (fun q z hz hkz => wb_X0_tells_46 hX  hz hkz) h hk
  exact hp
noncomputable def mb_X0_tells_31 (x2 : Int32) (x3 : Int32) (x4 : Int32) (x5 : Int32) (x6 : Int32) (m : gM) : Option ((Int32 × Int32 × Int32 × Int32 × Int32 × gM) ⊕ (Int32 × gM)) :=
  ((cf_X0_isAhead x6 (1 : Int32) (30 : Int32) m).bind fun (r1, m2) => (if r1 = (0 : Int32) then (if x4 = (-1 : Int32) then some (Sum.inr ((-1 : Int32), m2)) else (if x2 = (0 : Int32) then some (Sum.inr ((x4 / (8 : Int32)), m2)) else (if x2 = (1 : Int32) then some (Sum.inr ((x4 - x4 / (8 : Int32) * (8 : Int32)), m2)) else some (Sum.inr (x5, m2))))) else (ml_X0_tells_46 x2 x3 x4 x5 x6 (0 : Int32) m2)))
theorem wb_X0_tells_31 {X : gz_X} {G : gz_G} (hX : gz_C cS X G cX0_tells 9 RX0 85 2831) {x2 : Int32} {x3 : Int32} {x4 : Int32} {x5 : Int32} {x6 : Int32}  {m : gM} {z : ((Int32 × Int32 × Int32 × Int32 × Int32 × gM) ⊕ (Int32 × gM))} (h : mb_X0_tells_31 x2 x3 x4 x5 x6 m = some z) (hk : (Sum.elim (mP_X0_tells_31 X G) (fun z : (Int32 × gM) => gz_kI cS X G 9 (0, 0) cX0_tells z.2 z.1)) z) : gz_V cS X G 9 (0, 0) m 31 [(0, .ref (gz_ad G 1000)), (2, .int x2), (3, .int x3), (4, .int x4), (5, .int x5), (6, .int x6)] [] := by
  unfold mb_X0_tells_31 at h
  refine gz_aload_n (pc := 31) hX dX0_tells_31 rfl 0 rfl ?_
  refine gz_iload (pc := 32) hX dX0_tells_32 5 rfl ?_
  refine gz_iconst (pc := 34) (v := (1 : Int32)) hX dX0_tells_34 (by decide) ?_
  refine gz_bipush (pc := 35) (v := (30 : Int32)) hX dX0_tells_35 (by decide) ?_
  obtain ⟨⟨r1, m2⟩, c3, h⟩ := gz_bd h
  refine cc_X0_291 (pc := 37) hX (fun h => cz_k h rfl) c3 ⟨Nat.le_of_ble_eq_true rfl, Nat.le_of_ble_eq_true rfl⟩ (rest := []) rfl (Nat.le_of_ble_eq_true rfl) dX0_tells_37 ?_
  refine gz_if_eq (pc := 40) (tgt := 102) hX dX0_tells_40 (by decide) (fun g4 => ?_) (fun g4 => ?_)
  · replace h := gz_it' g4 h
    refine gz_iload (pc := 102) hX dX0_tells_102 3 rfl ?_
    refine gz_iconst (pc := 104) (v := (-1 : Int32)) hX dX0_tells_104 (by decide) ?_
    refine gz_icmp_ne (pc := 105) (tgt := 112) hX dX0_tells_105 (by decide) (fun g5 => ?_) (fun g5 => ?_)
    · replace h := gz_if' g5 h
      refine gz_iload_n (pc := 112) hX dX0_tells_112 rfl 1 rfl ?_
      refine gz_if_ne (pc := 113) (tgt := 124) hX dX0_tells_113 (by decide) (fun g6 => ?_) (fun g6 => ?_)
      · replace h := gz_if' g6 h
        refine gz_iload_n (pc := 124) hX dX0_tells_124 rfl 1 rfl ?_
        refine gz_iconst (pc := 125) (v := (1 : Int32)) hX dX0_tells_125 (by decide) ?_
        refine gz_icmp_ne (pc := 126) (tgt := 137) hX dX0_tells_126 (by decide) (fun g7 => ?_) (fun g7 => ?_)
        · replace h := gz_if' g7 h
          refine gz_iload (pc := 137) hX dX0_tells_137 4 rfl ?_
          obtain rfl := Option.some.inj h
          exact hk _ _ dX0_tells_139
        · replace h := gz_it' g7 h
          refine gz_iload (pc := 129) hX dX0_tells_129 3 rfl ?_
          refine gz_bipush (pc := 131) (v := (8 : Int32)) hX dX0_tells_131 (by decide) ?_
          refine gz_irem (pc := 133) hX dX0_tells_133 (by decide) ?_
          refine gz_goto (pc := 134) (tgt := 139) hX dX0_tells_134 (by decide) ?_
          obtain rfl := Option.some.inj h
          exact hk _ _ dX0_tells_139
      · replace h := gz_it' g6 h
        refine gz_iload (pc := 116) hX dX0_tells_116 3 rfl ?_
        refine gz_bipush (pc := 118) (v := (8 : Int32)) hX dX0_tells_118 (by decide) ?_
        refine gz_idiv (pc := 120) hX dX0_tells_120 (by decide) ?_
        refine gz_goto (pc := 121) (tgt := 139) hX dX0_tells_121 (by decide) ?_
        obtain rfl := Option.some.inj h
        exact hk _ _ dX0_tells_139
    · replace h := gz_it' g5 h
      refine gz_iconst (pc := 108) (v := (-1 : Int32)) hX dX0_tells_108 (by decide) ?_
      refine gz_goto (pc := 109) (tgt := 139) hX dX0_tells_109 (by decide) ?_
      obtain rfl := Option.some.inj h
      exact hk _ _ dX0_tells_139
  · replace h := gz_if' g4 h
    refine gz_iconst (pc := 43) (v := (0 : Int32)) hX dX0_tells_43 (by decide) ?_
    refine gz_istore (pc := 44) (lw := [(7, .int (0 : Int32)), (0, .ref (gz_ad G 1000)), (2, .int x2), (3, .int x3), (4, .int x4), (5, .int x5), (6, .int x6)]) hX dX0_tells_44 (by decide) rfl ?_
    refine gz_sub (lw := [(0, .ref (gz_ad G 1000)), (2, .int x2), (3, .int x3), (4, .int x4), (5, .int x5), (6, .int x6), (7, .int (0 : Int32))]) [1, 2, 3, 4, 5, 6, 0] rfl ?_
    exact wl_X0_tells_46 hX h hk
noncomputable def ml_X0_tells_31 (x2 : Int32) (x3 : Int32) (x4 : Int32) (x5 : Int32) (x6 : Int32) (m : gM) : Option (Int32 × gM) := gz_loop (fun q : (Int32 × Int32 × Int32 × Int32 × Int32 × gM) => mb_X0_tells_31 q.1 q.2.1 q.2.2.1 q.2.2.2.1 q.2.2.2.2.1 q.2.2.2.2.2) (x2, x3, x4, x5, x6, m)
theorem wl_X0_tells_31 {X : gz_X} {G : gz_G} (hX : gz_C cS X G cX0_tells 9 RX0 85 2831) {x2 : Int32} {x3 : Int32} {x4 : Int32} {x5 : Int32} {x6 : Int32}  {m : gM} {z : (Int32 × gM)} (h : ml_X0_tells_31 x2 x3 x4 x5 x6 m = some z) (hk : (fun z : (Int32 × gM) => gz_kI cS X G 9 (0, 0) cX0_tells z.2 z.1) z) : gz_V cS X G 9 (0, 0) m 31 [(0, .ref (gz_ad G 1000)), (2, .int x2), (3, .int x3), (4, .int x4), (5, .int x5), (6, .int x6)] [] := by
  have hp : mP_X0_tells_31 X G (x2, x3, x4, x5, x6, m) := gz_loop_ind (fun q z hz hkz => wb_X0_tells_31 hX  hz hkz) h hk
  exact hp
noncomputable def cf_X0_tells (x1 : Int32) (x2 : Int32) (m : gM) : Option (Int32 × gM) :=
  ((cf_X0_heats x1 m).bind fun (r1, m2) => (if r1 ≤ (0 : Int32) then (mj_X0_tells_19  m2) else ((cf_X0_is x2 (0 : Int32) (2 : Int32) m2).bind fun (r5, m6) => (if r5 = (0 : Int32) then (mj_X0_tells_19  m6) else (ml_X0_tells_31 x2 r1 (-1 : Int32) (100000000 : Int32) (1 : Int32) m6)))))
theorem wm_X0_tells {X : gz_X} {G : gz_G} (hX : gz_C cS X G cX0_tells 9 RX0 85 2831) {x1 : Int32} {x2 : Int32}  {m : gM} {z : (Int32 × gM)} (h : cf_X0_tells x1 x2 m = some z) (hk : (fun z : (Int32 × gM) => gz_kI cS X G 9 (0, 0) cX0_tells z.2 z.1) z) : gz_V cS X G 9 (0, 0) m 0 [(0, .ref (gz_ad G 1000)), (1, .int x1), (2, .int x2)] [] := by
  unfold cf_X0_tells at h
  refine gz_aload_n (pc := 0) hX dX0_tells_0 rfl 0 rfl ?_
  refine gz_iload_n (pc := 1) hX dX0_tells_1 rfl 1 rfl ?_
  obtain ⟨⟨r1, m2⟩, c3, h⟩ := gz_bd h
  refine cc_X0_353 (pc := 2) hX (fun h => cz_k h rfl) c3 ⟨Nat.le_of_ble_eq_true rfl, Nat.le_of_ble_eq_true rfl⟩ (rest := []) rfl (Nat.le_of_ble_eq_true rfl) dX0_tells_2 ?_
  refine gz_istore_n (pc := 5) (lw := [(3, .int r1), (0, .ref (gz_ad G 1000)), (1, .int x1), (2, .int x2)]) hX dX0_tells_5 rfl (by decide) rfl ?_
  refine gz_iload_n (pc := 6) hX dX0_tells_6 rfl 0 rfl ?_
  refine gz_if_le (pc := 7) (tgt := 19) hX dX0_tells_7 (by decide) (fun g4 => ?_) (fun g4 => ?_)
  · replace h := gz_it' g4 h
    refine gz_sub (lw := [(0, .ref (gz_ad G 1000))]) [1] rfl ?_
    exact wb_X0_tells_19 hX h hk
  · replace h := gz_if' g4 h
    refine gz_iload_n (pc := 10) hX dX0_tells_10 rfl 3 rfl ?_
    refine gz_iconst (pc := 11) (v := (0 : Int32)) hX dX0_tells_11 (by decide) ?_
    refine gz_iconst (pc := 12) (v := (2 : Int32)) hX dX0_tells_12 (by decide) ?_
    obtain ⟨⟨r5, m6⟩, c7, h⟩ := gz_bd h
    refine cc_X0_231 (pc := 13) hX c7 ⟨Nat.le_of_ble_eq_true rfl, Nat.le_of_ble_eq_true rfl⟩ (rest := []) rfl (Nat.le_of_ble_eq_true rfl) dX0_tells_13 ?_
    refine gz_if_ne (pc := 16) (tgt := 21) hX dX0_tells_16 (by decide) (fun g8 => ?_) (fun g8 => ?_)
    · replace h := gz_if' g8 h
      refine gz_iconst (pc := 21) (v := (-1 : Int32)) hX dX0_tells_21 (by decide) ?_
      refine gz_istore (pc := 22) (lw := [(4, .int (-1 : Int32)), (3, .int r1), (0, .ref (gz_ad G 1000)), (1, .int x1), (2, .int x2)]) hX dX0_tells_22 (by decide) rfl ?_
      refine gz_ldc (pc := 24) (v := (100000000 : Int32)) hX q462 dX0_tells_24 ?_
      refine gz_istore (pc := 26) (lw := [(5, .int (100000000 : Int32)), (4, .int (-1 : Int32)), (3, .int r1), (0, .ref (gz_ad G 1000)), (1, .int x1), (2, .int x2)]) hX dX0_tells_26 (by decide) rfl ?_
      refine gz_iconst (pc := 28) (v := (1 : Int32)) hX dX0_tells_28 (by decide) ?_
      refine gz_istore (pc := 29) (lw := [(6, .int (1 : Int32)), (5, .int (100000000 : Int32)), (4, .int (-1 : Int32)), (3, .int r1), (0, .ref (gz_ad G 1000)), (1, .int x1), (2, .int x2)]) hX dX0_tells_29 (by decide) rfl ?_
      refine gz_sub (lw := [(0, .ref (gz_ad G 1000)), (2, .int x2), (3, .int r1), (4, .int (-1 : Int32)), (5, .int (100000000 : Int32)), (6, .int (1 : Int32))]) [4, 6, 3, 2, 1, 0] rfl ?_
      exact wl_X0_tells_31 hX h hk
    · replace h := gz_it' g8 h
      refine gz_sub (lw := [(0, .ref (gz_ad G 1000))]) [1] rfl ?_
      exact wb_X0_tells_19 hX h hk
theorem ct_X0_tells {G : gz_G} {l : Launch} {x1 : Int32} {x2 : Int32}  {m m9 : gM} {r : Int32} (h : cf_X0_tells x1 x2 m = some (r, m9)) : gz_Met cS G l yX0_tells cX0_tells 9 (some .int) (mRm 85 2831) [.ref (gz_ad G 1000), .int x1, .int x2] m m9 (some (.int r)) :=
  gz_ofI (by decide +kernel) (Nat.le_of_ble_eq_true rfl) fun X _ hX hk => wm_X0_tells hX h hk
