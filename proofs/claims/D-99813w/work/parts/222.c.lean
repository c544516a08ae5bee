set_option maxRecDepth 100000
theorem cp_X0_133_0 {X : gz_X} {G : gz_G} {cc : ByteArray} {nL fr lo pc : Nat} {rem : Nat × Nat} {m m9 : gM} {lv : List (Nat × Value)} {st : List Value} (hX : gz_C cS X G cc nL RX0 fr lo) {c : Nat} {x : Int32} (hK : clc m.1 m.2.1 m.2.2.2.2.1 → m.1 c = 0 + 1) (hw : 1000 ≤ c) (hd : decode cc pc = .ok (.putfield 133, 3)) (hm : m9 = gz_sI m c 3 x) (kk : gz_V cS X G nL rem m9 (pc + 3) lv st) : gz_V cS X G nL rem m pc lv (.int x :: .ref (gz_ad G c) :: st) := by
  subst hm
  exact gz_putf hX (C := RX0) (T := TX0) (N := 28) (ci := 0) (k := 3) (ty := .int) (μ' := gz_sI m c 3 x) rfl (by decide) in_X0 tyX0 tyX0_ok nmX0 (by decide) (Or.inl (hX.2.2.2.2.1 _ q504)) rfl rfl rfl rfl hd hK hw rfl rfl rfl (fun d tc j h => gz_sI_o d tc j h) (gz_sI_v (fun j => ftC 0 j) rfl) (fun h => h) kk
theorem cp_X0_39_0 {X : gz_X} {G : gz_G} {cc : ByteArray} {nL fr lo pc : Nat} {rem : Nat × Nat} {m m9 : gM} {lv : List (Nat × Value)} {st : List Value} (hX : gz_C cS X G cc nL RX0 fr lo) {c : Nat} {x : Int32} (hK : clc m.1 m.2.1 m.2.2.2.2.1 → m.1 c = 0 + 1) (hw : 1000 ≤ c) (hd : decode cc pc = .ok (.putfield 39, 3)) (hm : m9 = gz_sI m c 4 x) (kk : gz_V cS X G nL rem m9 (pc + 3) lv st) : gz_V cS X G nL rem m pc lv (.int x :: .ref (gz_ad G c) :: st) := by
  subst hm
  exact gz_putf hX (C := RX0) (T := TX0) (N := 28) (ci := 0) (k := 4) (ty := .int) (μ' := gz_sI m c 4 x) rfl (by decide) in_X0 tyX0 tyX0_ok nmX0 (by decide) (Or.inl (hX.2.2.2.2.1 _ q505)) rfl rfl rfl rfl hd hK hw rfl rfl rfl (fun d tc j h => gz_sI_o d tc j h) (gz_sI_v (fun j => ftC 0 j) rfl) (fun h => h) kk
theorem cg_X0_48_0 {X : gz_X} {G : gz_G} {cc : ByteArray} {nL fr lo pc : Nat} {rem : Nat × Nat} {m : gM} {lv : List (Nat × Value)} {st : List Value} (hX : gz_C cS X G cc nL RX0 fr lo) {c : Nat} {v : Value} (hK : clc m.1 m.2.1 m.2.2.2.2.1 → m.1 c = 0 + 1) (hv : clc m.1 m.2.1 m.2.2.2.2.1 → gz_u (gz_ad G) m (ftC 0 5) c 5 = v) (hd : decode cc pc = .ok (.getfield 48, 3)) (kk : gz_V cS X G nL rem m (pc + 3) lv (v :: st)) : gz_V cS X G nL rem m pc lv (.ref (gz_ad G c) :: st) :=
  gz_getf hX (C := RX0) (T := TX0) (N := 28) (ci := 0) (k := 5) rfl (by decide) in_X0 (by decide) (Or.inl (hX.2.2.2.2.1 _ q506)) hd hK hv kk
theorem cc_X0_382 {X : gz_X} {G : gz_G} {cc : ByteArray} {nL fr lo pc : Nat} {rem : Nat × Nat} {lv : List (Nat × Value)} {rest st0 : List Value} (hX : gz_C cS X G cc nL RX0 fr lo) {x1 : Int32} {m m9 : gM} (hK : clc m.1 m.2.1 m.2.2.2.2.1 → m.1 1011 = 2 + 1)  {r : Nat} (h : cf_X2_question x1 m = some (some r, m9)) (hroom : 147 + 1 ≤ fr ∧ 8 + (4 + 11) + 5061 ≤ lo) (hst : st0 = [.int x1, .ref (gz_ad G 1011)] ++ rest) (hW : (rest.map fun v => v.category).sum ≤ 8) (hd : decode cc pc = .ok (.invokevirtual 382, 3)) (kk : gz_V cS X G nL rem m9 (pc + 3) lv (.ref (gz_ad G r) :: rest)) : gz_V cS X G nL (rem.1 + (gZ m9 - gZ m), rem.2 + (gW m9 - gW m)) m pc lv st0 :=
  gz_callX hX cs_E (As := [.int x1]) (rest := rest) (q := (RX2, TX2, 8)) (ci := 2) (c := 1011) (ct_X2_question (l := X.2.1) h) (lw_V q1696 q1697 q1698 q172 q1699) (n := 1) (by decide +kernel) hroom rfl rfl (by decide) hK hst hW hd (rem := rem) (fun rv e => by obtain rfl := Option.some.inj e; exact kk) (fun e => by simp at e)
theorem cc_X0_382x {X : gz_X} {G : gz_G} {cc : ByteArray} {nL fr lo pc : Nat} {rem : Nat × Nat} {lv : List (Nat × Value)} {rest st0 : List Value} (hX : gz_C cS X G cc nL RX0 fr lo) {x1 : Int32} {m m9 : gM} (hK : clc m.1 m.2.1 m.2.2.2.2.1 → m.1 1011 = 2 + 1)  (h : cf_X2_question x1 m = some (none, m9)) (hroom : 147 + 1 ≤ fr ∧ 8 + (4 + 11) + 5061 ≤ lo) (hst : st0 = [.int x1, .ref (gz_ad G 1011)] ++ rest) (hW : (rest.map fun v => v.category).sum ≤ 8) (hd : decode cc pc = .ok (.invokevirtual 382, 3)) (kk : gz_VX cS X G nL rem m9 pc lv) : gz_V cS X G nL (rem.1 + (gZ m9 - gZ m), rem.2 + (gW m9 - gW m)) m pc lv st0 :=
  gz_callX hX cs_E (As := [.int x1]) (rest := rest) (q := (RX2, TX2, 8)) (ci := 2) (c := 1011) (ct_X2_question (l := X.2.1) h) (lw_V q1696 q1697 q1698 q172 q1699) (n := 1) (by decide +kernel) hroom rfl rfl (by decide) hK hst hW hd (rem := rem) (fun rv e => by simp at e) (fun _ => kk)
theorem cg_X0_146_3 {X : gz_X} {G : gz_G} {cc : ByteArray} {nL fr lo pc : Nat} {rem : Nat × Nat} {m : gM} {lv : List (Nat × Value)} {st : List Value} (hX : gz_C cS X G cc nL RX0 fr lo) {c : Nat} {v : Value} (hK : clc m.1 m.2.1 m.2.2.2.2.1 → m.1 c = 3 + 1) (hv : clc m.1 m.2.1 m.2.2.2.2.1 → gz_u (gz_ad G) m (ftC 3 6) c 6 = v) (hd : decode cc pc = .ok (.getfield 146, 3)) (kk : gz_V cS X G nL rem m (pc + 3) lv (v :: st)) : gz_V cS X G nL rem m pc lv (.ref (gz_ad G c) :: st) :=
  gz_getf hX (C := RX3) (T := TX3) (N := 8) (ci := 3) (k := 6) rfl (by decide) in_X3 (by decide) (Or.inr ⟨_, va_Nw.use rfl (cz_n (Z := cS) hX q349 rfl)⟩) hd hK hv kk
theorem cg_X0_149_3 {X : gz_X} {G : gz_G} {cc : ByteArray} {nL fr lo pc : Nat} {rem : Nat × Nat} {m : gM} {lv : List (Nat × Value)} {st : List Value} (hX : gz_C cS X G cc nL RX0 fr lo) {c : Nat} {v : Value} (hK : clc m.1 m.2.1 m.2.2.2.2.1 → m.1 c = 3 + 1) (hv : clc m.1 m.2.1 m.2.2.2.2.1 → gz_u (gz_ad G) m (ftC 3 7) c 7 = v) (hd : decode cc pc = .ok (.getfield 149, 3)) (kk : gz_V cS X G nL rem m (pc + 3) lv (v :: st)) : gz_V cS X G nL rem m pc lv (.ref (gz_ad G c) :: st) :=
  gz_getf hX (C := RX3) (T := TX3) (N := 8) (ci := 3) (k := 7) rfl (by decide) in_X3 (by decide) (Or.inr ⟨_, va_Nw.use rfl (cz_n (Z := cS) hX q351 rfl)⟩) hd hK hv kk
theorem cp_X0_377_0 {X : gz_X} {G : gz_G} {cc : ByteArray} {nL fr lo pc : Nat} {rem : Nat × Nat} {m m9 : gM} {lv : List (Nat × Value)} {st : List Value} (hX : gz_C cS X G cc nL RX0 fr lo) {c : Nat} {x : Int32} (hK : clc m.1 m.2.1 m.2.2.2.2.1 → m.1 c = 0 + 1) (hw : 1000 ≤ c) (hd : decode cc pc = .ok (.putfield 377, 3)) (hm : m9 = gz_sI m c 25 x) (kk : gz_V cS X G nL rem m9 (pc + 3) lv st) : gz_V cS X G nL rem m pc lv (.int x :: .ref (gz_ad G c) :: st) := by
  subst hm
  exact gz_putf hX (C := RX0) (T := TX0) (N := 28) (ci := 0) (k := 25) (ty := .int) (μ' := gz_sI m c 25 x) rfl (by decide) in_X0 tyX0 tyX0_ok nmX0 (by decide) (Or.inl (hX.2.2.2.2.1 _ q527)) rfl rfl rfl rfl hd hK hw rfl rfl rfl (fun d tc j h => gz_sI_o d tc j h) (gz_sI_v (fun j => ftC 0 j) rfl) (fun h => h) kk
theorem cc_X0_398 {X : gz_X} {G : gz_G} {cc : ByteArray} {nL fr lo pc : Nat} {rem : Nat × Nat} {lv : List (Nat × Value)} {rest st0 : List Value} (hX : gz_C cS X G cc nL RX0 fr lo) {c0 : Nat} {m m9 : gM} (hK : clc m.1 m.2.1 m.2.2.2.2.1 → m.1 c0 = 19 + 1)  {r : Int64} (h : cf_X22_answer c0 m = some (r, m9)) (hroom : 0 + 1 ≤ fr ∧ 8 + (1 + 11) + 0 ≤ lo) (hst : st0 = [.ref (gz_ad G c0)] ++ rest) (hW : (rest.map fun v => v.category).sum ≤ 8) (hd : decode cc pc = .ok (.invokevirtual 398, 3)) (kk : gz_V cS X G nL rem m9 (pc + 3) lv (.long r :: rest)) : gz_V cS X G nL rem m pc lv st0 :=
  gz_callV2 hX cs_E (As := []) (rest := rest) (q := (RX22, TX22, 5)) (ci := 19) (c := c0) (ct_X22_answer (l := X.2.1) h) (lw_V q1734 q1735 q1736 q207 q1737) (n := 0) (by decide +kernel) hroom rfl rfl (by decide) hK hst hW hd (rem := rem) kk
theorem cg_X0_59_0 {X : gz_X} {G : gz_G} {cc : ByteArray} {nL fr lo pc : Nat} {rem : Nat × Nat} {m : gM} {lv : List (Nat × Value)} {st : List Value} (hX : gz_C cS X G cc nL RX0 fr lo) {c : Nat} {v : Value} (hK : clc m.1 m.2.1 m.2.2.2.2.1 → m.1 c = 0 + 1) (hv : clc m.1 m.2.1 m.2.2.2.2.1 → gz_u (gz_ad G) m (ftC 0 7) c 7 = v) (hd : decode cc pc = .ok (.getfield 59, 3)) (kk : gz_V cS X G nL rem m (pc + 3) lv (v :: st)) : gz_V cS X G nL rem m pc lv (.ref (gz_ad G c) :: st) :=
  gz_getf hX (C := RX0) (T := TX0) (N := 28) (ci := 0) (k := 7) rfl (by decide) in_X0 (by decide) (Or.inl (hX.2.2.2.2.1 _ q509)) hd hK hv kk
theorem cg_X0_388_4 {X : gz_X} {G : gz_G} {cc : ByteArray} {nL fr lo pc : Nat} {rem : Nat × Nat} {m : gM} {lv : List (Nat × Value)} {st : List Value} (hX : gz_C cS X G cc nL RX0 fr lo) {c : Nat} {v : Value} (hK : clc m.1 m.2.1 m.2.2.2.2.1 → m.1 c = 4 + 1) (hv : clc m.1 m.2.1 m.2.2.2.2.1 → gz_u (gz_ad G) m (ftC 4 0) c 0 = v) (hd : decode cc pc = .ok (.getfield 388, 3)) (kk : gz_V cS X G nL rem m (pc + 3) lv (v :: st)) : gz_V cS X G nL rem m pc lv (.ref (gz_ad G c) :: st) :=
  gz_getf hX (C := RX4) (T := TX4) (N := 1) (ci := 4) (k := 0) rfl (by decide) in_X4 (by decide) (Or.inr ⟨_, va_Nw.use rfl (cz_n (Z := cS) hX q404 rfl)⟩) hd hK hv kk
theorem cc_X0_392 {X : gz_X} {G : gz_G} {cc : ByteArray} {nL fr lo pc : Nat} {rem : Nat × Nat} {lv : List (Nat × Value)} {rest st0 : List Value} (hX : gz_C cS X G cc nL RX0 fr lo) {c0 : Nat} {x1 : Int32} {c2 : Nat} {m m9 : gM} (hK : clc m.1 m.2.1 m.2.2.2.2.1 → m.1 c0 = 19 + 1)  (h : cf_X22_meets c0 x1 c2 m = some ((), m9)) (hroom : 81 + 1 ≤ fr ∧ 8 + (5 + 11) + 2740 ≤ lo) (hst : st0 = [.ref (gz_ad G c2), .int x1, .ref (gz_ad G c0)] ++ rest) (hW : (rest.map fun v => v.category).sum ≤ 8) (hd : decode cc pc = .ok (.invokevirtual 392, 3)) (kk : gz_V cS X G nL rem m9 (pc + 3) lv (rest)) : gz_V cS X G nL rem m pc lv st0 :=
  gz_callV2 hX cs_E (As := [.int x1, .ref (gz_ad G c2)]) (rest := rest) (q := (RX22, TX22, 5)) (ci := 19) (c := c0) (ct_X22_meets (l := X.2.1) h) (lw_V q1726 q1727 q1728 q207 q1729) (n := 2) (by decide +kernel) hroom rfl rfl (by decide) hK hst hW hd (rem := rem) kk
/-! FirstSnuffer.ask()J -/
def mP_X0_ask_53 (X : gz_X) (G : gz_G) (zE : Nat × Nat) (c2 : Nat) (q : (gM)) : Prop := gz_Va cS X G 4 zE q 53 [(0, .ref (gz_ad G 1000)), (2, .ref (gz_ad G c2))] []
noncomputable def mb_X0_ask_53 (c2 : Nat) (m : gM) : Option ((gM) ⊕ (Int64 × gM)) :=
  ((cf_X0_things m).bind fun (r1, m2) => (if m2.2.2.2.2.2 = m.2.2.2.2.2 then (if r1 ≤ (gI m 1000 25) then (if gK m2 c2 = 20 then ((cf_X22_answer c2 m2).bind fun (r7, m8) => (if m8.2.2.2.2.2 = m2.2.2.2.2.2 then some (Sum.inr (r7, m8)) else none)) else none) else (if gz_in (gI m2 1000 25) (8) then (if gz_in (0 : Int32) (7) then gz_let (gz_sL m2 1016 (gz_ix (0 : Int32)) ((gI m2 1028 (gz_ix (gI m2 1000 25))).toInt64)) fun m13 => ((cf_X0_thingOf (gI m13 1000 25) m13).bind fun (r14, m15) => (if m15.2.2.2.2.2 = m13.2.2.2.2.2 then (if gK m15 r14 = 9 then (if gz_in (1 : Int32) (7) then gz_let (gz_sL m15 1016 (gz_ix (1 : Int32)) ((gI m15 r14 3).toInt64)) fun m20 => (if gz_in (3 : Int32) (7) then gz_let (gz_sL m20 1016 (gz_ix (3 : Int32)) ((gI m20 1027 0).toInt64)) fun m22 => (if gz_in (gI m22 1000 25) (8) then (if gz_in (4 : Int32) (7) then gz_let (gz_sL m22 1016 (gz_ix (4 : Int32)) ((gI m22 1030 (gz_ix (gI m22 1000 25))).toInt64)) fun m25 => (if gz_in (5 : Int32) (7) then gz_let (gz_sL m25 1016 (gz_ix (5 : Int32)) ((gI m25 1000 25).toInt64)) fun m27 => ((cf_X0_thingOf (gI m27 1000 25) m27).bind fun (r28, m29) => (if m29.2.2.2.2.2 = m27.2.2.2.2.2 then (if gK m29 r28 = 9 then (if gz_in (6 : Int32) (7) then gz_let (gz_sL m29 1016 (gz_ix (6 : Int32)) ((gI m29 r28 1).toInt64)) fun m34 => (if gK m34 c2 = 20 then ((cf_X22_meets c2 (gI m34 1000 25) 1015 m34).bind fun (_, m37) => (if m37.2.2.2.2.2 = m34.2.2.2.2.2 then gz_let (gz_sI m37 1000 25 ((gI m37 1000 25) + (1 : Int32))) fun m40 => some (Sum.inl (m40)) else none)) else none) else none) else none) else none)) else none) else none) else none) else none) else none) else none) else none)) else none) else none)) else none))
theorem wb_X0_ask_53 {X : gz_X} {G : gz_G} {zE : Nat × Nat} (hX : gz_C cS X G cX0_ask 4 RX0 148 5084) (hT : X.2.2.2.2.2.2.2.2.2.1.exceptionTable.toList = tableOf [(15, 24, 27, 144)]) {c2 : Nat}  {m : gM} {z : ((gM) ⊕ (Int64 × gM))} (h : mb_X0_ask_53 c2 m = some z) (hk : (Sum.elim (mP_X0_ask_53 X G zE c2) (fun z : (Int64 × gM) => gz_kLa cS X G 4 zE cX0_ask z.2 z.1)) z) : gz_Va cS X G 4 zE m 53 [(0, .ref (gz_ad G 1000)), (2, .ref (gz_ad G c2))] [] := by
  unfold mb_X0_ask_53 at h
  refine gz_Vs (fun _ kk => gz_aload_n (pc := 53) hX dX0_ask_53 rfl 0 rfl kk) rfl ?_
  refine gz_Vs (fun _ kk => cg_X0_377_0 (pc := 54) hX (c := 1000) (v := .int (gI m 1000 25)) (fun h => cz_k h rfl) (fun _ => rfl) dX0_ask_54 kk) rfl ?_
  refine gz_Vs (fun _ kk => gz_aload_n (pc := 57) hX dX0_ask_57 rfl 0 rfl kk) rfl ?_
  obtain ⟨⟨r1, m2⟩, c3, h⟩ := gz_bd h
  obtain ⟨g4, h⟩ := gz_gu h
  refine gz_Vs (fun _ kk => cc_X0_181 (pc := 58) hX (fun h => cz_k h rfl) c3 ⟨Nat.le_of_ble_eq_true rfl, Nat.le_of_ble_eq_true rfl⟩ (rest := [.int (gI m 1000 25)]) rfl (Nat.le_of_ble_eq_true rfl) dX0_ask_58 kk) g4 ?_
  refine gz_Vif (μ1 := m) (μ2 := m) (fun _ k1 k2 => gz_icmp_ge (pc := 61) (tgt := 207) hX dX0_ask_61 (by decide) k1 k2) (by first | exact Classical.em _ | exact (Classical.em _).symm) (fun g5 => ?_) (fun g5 => ?_)
  · replace h := gz_it' g5 h
    refine gz_Vs (fun _ kk => gz_aload_n (pc := 207) hX dX0_ask_207 rfl 1 rfl kk) rfl ?_
    obtain ⟨g6, h⟩ := gz_gu h
    obtain ⟨⟨r7, m8⟩, c9, h⟩ := gz_bd h
    obtain ⟨g10, h⟩ := gz_gu h
    refine gz_Vs (fun _ kk => cc_X0_398 (pc := 208) hX (fun _ => g6) c9 ⟨Nat.le_of_ble_eq_true rfl, Nat.le_of_ble_eq_true rfl⟩ (rest := []) rfl (Nat.le_of_ble_eq_true rfl) dX0_ask_208 kk) g10 ?_
    obtain rfl := Option.some.inj h
    exact hk _ _ dX0_ask_211
  · replace h := gz_if' g5 h
    refine gz_Vs (fun _ kk => gz_aload_n (pc := 64) hX dX0_ask_64 rfl 0 rfl kk) rfl ?_
    refine gz_Vs (fun _ kk => cg_X0_59_0 (pc := 65) hX (c := 1000) (v := .ref (gz_ad G 1015)) (fun h => cz_k h rfl) (fun h => cz_f h (by decide) rfl (by decide) rfl) dX0_ask_65 kk) rfl ?_
    refine gz_Vs (fun _ kk => cg_X0_388_4 (pc := 68) hX (c := 1015) (v := .ref (gz_ad G 1016)) (fun h => cz_k h rfl) (fun h => cz_f h (by decide) rfl (by decide) rfl) dX0_ask_68 kk) rfl ?_
    refine gz_Vs (fun _ kk => gz_iconst (pc := 71) (v := (0 : Int32)) hX dX0_ask_71 (by decide) kk) rfl ?_
    refine gz_Vs (fun _ kk => gz_aload_n (pc := 72) hX dX0_ask_72 rfl 0 rfl kk) rfl ?_
    refine gz_Vs (fun _ kk => cg_X0_74_0 (pc := 73) hX (c := 1000) (v := .ref (gz_ad G 1027)) (fun h => cz_k h rfl) (fun h => cz_f h (by decide) rfl (by decide) rfl) dX0_ask_73 kk) rfl ?_
    refine gz_Vs (fun _ kk => cg_X0_254_5 (pc := 76) hX (c := 1027) (v := .ref (gz_ad G 1028)) (fun h => cz_k h rfl) (fun h => cz_f h (by decide) rfl (by decide) rfl) dX0_ask_76 kk) rfl ?_
    refine gz_Vs (fun _ kk => gz_aload_n (pc := 79) hX dX0_ask_79 rfl 0 rfl kk) rfl ?_
    refine gz_Vs (fun _ kk => cg_X0_377_0 (pc := 80) hX (c := 1000) (v := .int (gI m2 1000 25)) (fun h => cz_k h rfl) (fun _ => rfl) dX0_ask_80 kk) rfl ?_
    obtain ⟨g11, h⟩ := gz_gu h
    refine gz_Vs (fun _ kk => gz_iald2 (pc := 83) (c := 1028) (n := 8) hX rfl (fun h => cz_a h rfl (by decide) rfl) g11 dX0_ask_83 kk) rfl ?_
    refine gz_Vs (fun _ kk => gz_i2l (pc := 84) hX dX0_ask_84 kk) rfl ?_
    obtain ⟨g12, h⟩ := gz_gu h
    obtain ⟨m13, em13, h⟩ := gz_lt h
    refine gz_Vs (fun _ kk => gz_last2 (pc := 85) (c := 1016) (n := 7) hX rfl (fun h => cz_a h rfl (by decide) rfl) (Nat.le_of_ble_eq_true rfl) g12 dX0_ask_85 em13 kk) (by rw [em13]; rfl) ?_
    refine gz_Vs (fun _ kk => gz_aload_n (pc := 86) hX dX0_ask_86 rfl 0 rfl kk) rfl ?_
    refine gz_Vs (fun _ kk => cg_X0_59_0 (pc := 87) hX (c := 1000) (v := .ref (gz_ad G 1015)) (fun h => cz_k h rfl) (fun h => cz_f h (by decide) rfl (by decide) rfl) dX0_ask_87 kk) rfl ?_
    refine gz_Vs (fun _ kk => cg_X0_388_4 (pc := 90) hX (c := 1015) (v := .ref (gz_ad G 1016)) (fun h => cz_k h rfl) (fun h => cz_f h (by decide) rfl (by decide) rfl) dX0_ask_90 kk) rfl ?_
    refine gz_Vs (fun _ kk => gz_iconst (pc := 93) (v := (1 : Int32)) hX dX0_ask_93 (by decide) kk) rfl ?_
    refine gz_Vs (fun _ kk => gz_aload_n (pc := 94) hX dX0_ask_94 rfl 0 rfl kk) rfl ?_
    refine gz_Vs (fun _ kk => gz_aload_n (pc := 95) hX dX0_ask_95 rfl 0 rfl kk) rfl ?_
    refine gz_Vs (fun _ kk => cg_X0_377_0 (pc := 96) hX (c := 1000) (v := .int (gI m13 1000 25)) (fun h => cz_k h rfl) (fun _ => rfl) dX0_ask_96 kk) rfl ?_
    obtain ⟨⟨r14, m15⟩, c16, h⟩ := gz_bd h
    obtain ⟨g17, h⟩ := gz_gu h
    refine gz_Vs (fun _ kk => cc_X0_244 (pc := 99) hX (fun h => cz_k h rfl) c16 ⟨Nat.le_of_ble_eq_true rfl, Nat.le_of_ble_eq_true rfl⟩ (rest := [.int (1 : Int32), .ref (gz_ad G 1016)]) rfl (Nat.le_of_ble_eq_true rfl) dX0_ask_99 kk) g17 ?_
    obtain ⟨g18, h⟩ := gz_gu h
    refine gz_Vs (fun _ kk => cg_X0_251_8 (pc := 102) hX (c := r14) (v := .int (gI m15 r14 3)) (fun _ => g18) (fun _ => rfl) dX0_ask_102 kk) rfl ?_
    refine gz_Vs (fun _ kk => gz_i2l (pc := 105) hX dX0_ask_105 kk) rfl ?_
    obtain ⟨g19, h⟩ := gz_gu h
    obtain ⟨m20, em20, h⟩ := gz_lt h
    refine gz_Vs (fun _ kk => gz_last2 (pc := 106) (c := 1016) (n := 7) hX rfl (fun h => cz_a h rfl (by decide) rfl) (Nat.le_of_ble_eq_true rfl) g19 dX0_ask_106 em20 kk) (by rw [em20]; rfl) ?_
    refine gz_Vs (fun _ kk => gz_aload_n (pc := 107) hX dX0_ask_107 rfl 0 rfl kk) rfl ?_
    refine gz_Vs (fun _ kk => cg_X0_59_0 (pc := 108) hX (c := 1000) (v := .ref (gz_ad G 1015)) (fun h => cz_k h rfl) (fun h => cz_f h (by decide) rfl (by decide) rfl) dX0_ask_108 kk) rfl ?_
    refine gz_Vs (fun _ kk => cg_X0_388_4 (pc := 111) hX (c := 1015) (v := .ref (gz_ad G 1016)) (fun h => cz_k h rfl) (fun h => cz_f h (by decide) rfl (by decide) rfl) dX0_ask_111 kk) rfl ?_
    refine gz_Vs (fun _ kk => gz_iconst (pc := 114) (v := (3 : Int32)) hX dX0_ask_114 (by decide) kk) rfl ?_
    refine gz_Vs (fun _ kk => gz_aload_n (pc := 115) hX dX0_ask_115 rfl 0 rfl kk) rfl ?_
    refine gz_Vs (fun _ kk => cg_X0_74_0 (pc := 116) hX (c := 1000) (v := .ref (gz_ad G 1027)) (fun h => cz_k h rfl) (fun h => cz_f h (by decide) rfl (by decide) rfl) dX0_ask_116 kk) rfl ?_
    refine gz_Vs (fun _ kk => cg_X0_211_5 (pc := 119) hX (c := 1027) (v := .int (gI m20 1027 0)) (fun h => cz_k h rfl) (fun _ => rfl) dX0_ask_119 kk) rfl ?_
    refine gz_Vs (fun _ kk => gz_i2l (pc := 122) hX dX0_ask_122 kk) rfl ?_
    obtain ⟨g21, h⟩ := gz_gu h
    obtain ⟨m22, em22, h⟩ := gz_lt h
    refine gz_Vs (fun _ kk => gz_last2 (pc := 123) (c := 1016) (n := 7) hX rfl (fun h => cz_a h rfl (by decide) rfl) (Nat.le_of_ble_eq_true rfl) g21 dX0_ask_123 em22 kk) (by rw [em22]; rfl) ?_
    refine gz_Vs (fun _ kk => gz_aload_n (pc := 124) hX dX0_ask_124 rfl 0 rfl kk) rfl ?_
    refine gz_Vs (fun _ kk => cg_X0_59_0 (pc := 125) hX (c := 1000) (v := .ref (gz_ad G 1015)) (fun h => cz_k h rfl) (fun h => cz_f h (by decide) rfl (by decide) rfl) dX0_ask_125 kk) rfl ?_
    refine gz_Vs (fun _ kk => cg_X0_388_4 (pc := 128) hX (c := 1015) (v := .ref (gz_ad G 1016)) (fun h => cz_k h rfl) (fun h => cz_f h (by decide) rfl (by decide) rfl) dX0_ask_128 kk) rfl ?_
    refine gz_Vs (fun _ kk => gz_iconst (pc := 131) (v := (4 : Int32)) hX dX0_ask_131 (by decide) kk) rfl ?_
    refine gz_Vs (fun _ kk => gz_aload_n (pc := 132) hX dX0_ask_132 rfl 0 rfl kk) rfl ?_
    refine gz_Vs (fun _ kk => cg_X0_74_0 (pc := 133) hX (c := 1000) (v := .ref (gz_ad G 1027)) (fun h => cz_k h rfl) (fun h => cz_f h (by decide) rfl (by decide) rfl) dX0_ask_133 kk) rfl ?_
    refine gz_Vs (fun _ kk => cg_X0_257_5 (pc := 136) hX (c := 1027) (v := .ref (gz_ad G 1030)) (fun h => cz_k h rfl) (fun h => cz_f h (by decide) rfl (by decide) rfl) dX0_ask_136 kk) rfl ?_
    refine gz_Vs (fun _ kk => gz_aload_n (pc := 139) hX dX0_ask_139 rfl 0 rfl kk) rfl ?_
    refine gz_Vs (fun _ kk => cg_X0_377_0 (pc := 140) hX (c := 1000) (v := .int (gI m22 1000 25)) (fun h => cz_k h rfl) (fun _ => rfl) dX0_ask_140 kk) rfl ?_
    obtain ⟨g23, h⟩ := gz_gu h
    refine gz_Vs (fun _ kk => gz_iald2 (pc := 143) (c := 1030) (n := 8) hX rfl (fun h => cz_a h rfl (by decide) rfl) g23 dX0_ask_143 kk) rfl ?_
    refine gz_Vs (fun _ kk => gz_i2l (pc := 144) hX dX0_ask_144 kk) rfl ?_
    obtain ⟨g24, h⟩ := gz_gu h
    obtain ⟨m25, em25, h⟩ := gz_lt h
    refine gz_Vs (fun _ kk => gz_last2 (pc := 145) (c := 1016) (n := 7) hX rfl (fun h => cz_a h rfl (by decide) rfl) (Nat.le_of_ble_eq_true rfl) g24 dX0_ask_145 em25 kk) (by rw [em25]; rfl) ?_
    refine gz_Vs (fun _ kk => gz_aload_n (pc := 146) hX dX0_ask_146 rfl 0 rfl kk) rfl ?_
    refine gz_Vs (fun _ kk => cg_X0_59_0 (pc := 147) hX (c := 1000) (v := .ref (gz_ad G 1015)) (fun h => cz_k h rfl) (fun h => cz_f h (by decide) rfl (by decide) rfl) dX0_ask_147 kk) rfl ?_
    refine gz_Vs (fun _ kk => cg_X0_388_4 (pc := 150) hX (c := 1015) (v := .ref (gz_ad G 1016)) (fun h => cz_k h rfl) (fun h => cz_f h (by decide) rfl (by decide) rfl) dX0_ask_150 kk) rfl ?_
    refine gz_Vs (fun _ kk => gz_iconst (pc := 153) (v := (5 : Int32)) hX dX0_ask_153 (by decide) kk) rfl ?_
    refine gz_Vs (fun _ kk => gz_aload_n (pc := 154) hX dX0_ask_154 rfl 0 rfl kk) rfl ?_
    refine gz_Vs (fun _ kk => cg_X0_377_0 (pc := 155) hX (c := 1000) (v := .int (gI m25 1000 25)) (fun h => cz_k h rfl) (fun _ => rfl) dX0_ask_155 kk) rfl ?_
    refine gz_Vs (fun _ kk => gz_i2l (pc := 158) hX dX0_ask_158 kk) rfl ?_
    obtain ⟨g26, h⟩ := gz_gu h
    obtain ⟨m27, em27, h⟩ := gz_lt h
    refine gz_Vs (fun _ kk => gz_last2 (pc := 159) (c := 1016) (n := 7) hX rfl (fun h => cz_a h rfl (by decide) rfl) (Nat.le_of_ble_eq_true rfl) g26 dX0_ask_159 em27 kk) (by rw [em27]; rfl) ?_
    refine gz_Vs (fun _ kk => gz_aload_n (pc := 160) hX dX0_ask_160 rfl 0 rfl kk) rfl ?_
    refine gz_Vs (fun _ kk => cg_X0_59_0 (pc := 161) hX (c := 1000) (v := .ref (gz_ad G 1015)) (fun h => cz_k h rfl) (fun h => cz_f h (by decide) rfl (by decide) rfl) dX0_ask_161 kk) rfl ?_
    refine gz_Vs (fun _ kk => cg_X0_388_4 (pc := 164) hX (c := 1015) (v := .ref (gz_ad G 1016)) (fun h => cz_k h rfl) (fun h => cz_f h (by decide) rfl (by decide) rfl) dX0_ask_164 kk) rfl ?_
    refine gz_Vs (fun _ kk => gz_bipush (pc := 167) (v := (6 : Int32)) hX dX0_ask_167 (by decide) kk) rfl ?_
    refine gz_Vs (fun _ kk => gz_aload_n (pc := 169) hX dX0_ask_169 rfl 0 rfl kk) rfl ?_
    refine gz_Vs (fun _ kk => gz_aload_n (pc := 170) hX dX0_ask_170 rfl 0 rfl kk) rfl ?_
    refine gz_Vs (fun _ kk => cg_X0_377_0 (pc := 171) hX (c := 1000) (v := .int (gI m27 1000 25)) (fun h => cz_k h rfl) (fun _ => rfl) dX0_ask_171 kk) rfl ?_
    obtain ⟨⟨r28, m29⟩, c30, h⟩ := gz_bd h
    obtain ⟨g31, h⟩ := gz_gu h
    refine gz_Vs (fun _ kk => cc_X0_244 (pc := 174) hX (fun h => cz_k h rfl) c30 ⟨Nat.le_of_ble_eq_true rfl, Nat.le_of_ble_eq_true rfl⟩ (rest := [.int (6 : Int32), .ref (gz_ad G 1016)]) rfl (Nat.le_of_ble_eq_true rfl) dX0_ask_174 kk) g31 ?_
    obtain ⟨g32, h⟩ := gz_gu h
    refine gz_Vs (fun _ kk => cg_X0_248_8 (pc := 177) hX (c := r28) (v := .int (gI m29 r28 1)) (fun _ => g32) (fun _ => rfl) dX0_ask_177 kk) rfl ?_
    refine gz_Vs (fun _ kk => gz_i2l (pc := 180) hX dX0_ask_180 kk) rfl ?_
    obtain ⟨g33, h⟩ := gz_gu h
    obtain ⟨m34, em34, h⟩ := gz_lt h
    refine gz_Vs (fun _ kk => gz_last2 (pc := 181) (c := 1016) (n := 7) hX rfl (fun h => cz_a h rfl (by decide) rfl) (Nat.le_of_ble_eq_true rfl) g33 dX0_ask_181 em34 kk) (by rw [em34]; rfl) ?_
    refine gz_Vs (fun _ kk => gz_aload_n (pc := 182) hX dX0_ask_182 rfl 1 rfl kk) rfl ?_
    refine gz_Vs (fun _ kk => gz_aload_n (pc := 183) hX dX0_ask_183 rfl 0 rfl kk) rfl ?_
    refine gz_Vs (fun _ kk => cg_X0_377_0 (pc := 184) hX (c := 1000) (v := .int (gI m34 1000 25)) (fun h => cz_k h rfl) (fun _ => rfl) dX0_ask_184 kk) rfl ?_
    refine gz_Vs (fun _ kk => gz_aload_n (pc := 187) hX dX0_ask_187 rfl 0 rfl kk) rfl ?_
    refine gz_Vs (fun _ kk => cg_X0_59_0 (pc := 188) hX (c := 1000) (v := .ref (gz_ad G 1015)) (fun h => cz_k h rfl) (fun h => cz_f h (by decide) rfl (by decide) rfl) dX0_ask_188 kk) rfl ?_
    obtain ⟨g35, h⟩ := gz_gu h
    obtain ⟨⟨⟨⟩, m37⟩, c38, h⟩ := gz_bd h
    obtain ⟨g39, h⟩ := gz_gu h
    refine gz_Vs (fun _ kk => cc_X0_392 (pc := 191) hX (fun _ => g35) c38 ⟨Nat.le_of_ble_eq_true rfl, Nat.le_of_ble_eq_true rfl⟩ (rest := []) rfl (Nat.le_of_ble_eq_true rfl) dX0_ask_191 kk) g39 ?_
    refine gz_Vs (fun _ kk => gz_aload_n (pc := 194) hX dX0_ask_194 rfl 0 rfl kk) rfl ?_
    refine gz_Vs (fun _ kk => gz_dup (pc := 195) hX dX0_ask_195 rfl kk) rfl ?_
    refine gz_Vs (fun _ kk => cg_X0_377_0 (pc := 196) hX (c := 1000) (v := .int (gI m37 1000 25)) (fun h => cz_k h rfl) (fun _ => rfl) dX0_ask_196 kk) rfl ?_
    refine gz_Vs (fun _ kk => gz_iconst (pc := 199) (v := (1 : Int32)) hX dX0_ask_199 (by decide) kk) rfl ?_
    refine gz_Vs (fun _ kk => gz_iadd (pc := 200) hX dX0_ask_200 kk) rfl ?_
    obtain ⟨m40, em40, h⟩ := gz_lt h
    refine gz_Vs (fun _ kk => cp_X0_377_0 (pc := 201) hX (c := 1000) (fun h => cz_k h rfl) (Nat.le_of_ble_eq_true rfl) dX0_ask_201 em40 kk) (by rw [em40]; rfl) ?_
    refine gz_Vs (fun _ kk => gz_goto (pc := 204) (tgt := 53) hX dX0_ask_204 (by decide) kk) rfl ?_
    obtain rfl := Option.some.inj h
    exact hk
noncomputable def ml_X0_ask_53 (c2 : Nat) (m : gM) : Option (Int64 × gM) := gz_loop (fun q : (gM) => mb_X0_ask_53 c2 q) (m)
theorem wl_X0_ask_53 {X : gz_X} {G : gz_G} {zE : Nat × Nat} (hX : gz_C cS X G cX0_ask 4 RX0 148 5084) (hT : X.2.2.2.2.2.2.2.2.2.1.exceptionTable.toList = tableOf [(15, 24, 27, 144)]) {c2 : Nat}  {m : gM} {z : (Int64 × gM)} (h : ml_X0_ask_53 c2 m = some z) (hk : (fun z : (Int64 × gM) => gz_kLa cS X G 4 zE cX0_ask z.2 z.1) z) : gz_Va cS X G 4 zE m 53 [(0, .ref (gz_ad G 1000)), (2, .ref (gz_ad G c2))] [] := by
  have hp : mP_X0_ask_53 X G zE c2 (m) := gz_loop_ind (fun q z hz hkz => wb_X0_ask_53 hX hT  hz hkz) h hk
  exact hp
noncomputable def cf_X0_ask  (m : gM) : Option (Int64 × gM) :=
  ((cf_X0_tapeTaken m).bind fun (r1, m2) => (if m2.2.2.2.2.2 = m.2.2.2.2.2 then gz_let (gz_sI m2 1000 3 (0 : Int32)) fun m5 => gz_let (gz_sI m5 1000 4 (-1 : Int32)) fun m6 => ((cf_X2_question r1 m6).bind fun (o10, m8) => (if gZ m6 ≤ gZ m8 ∧ gW m6 ≤ gW m8 then gx_o o10 (fun r7 => gz_let (gz_sI m8 1000 25 (0 : Int32)) fun m14 => (ml_X0_ask_53 r7 m14)) (gz_let (gz_sI m8 1000 3 (gI m8 1012 6)) fun m12 => gz_let (gz_sI m12 1000 4 (gI m12 1012 7)) fun m13 => some ((-1000000000000000 : Int64), m13)) else none)) else none))
theorem wm_X0_ask {X : gz_X} {G : gz_G} {zE : Nat × Nat} (hX : gz_C cS X G cX0_ask 4 RX0 148 5084) (hT : X.2.2.2.2.2.2.2.2.2.1.exceptionTable.toList = tableOf [(15, 24, 27, 144)])   {m : gM} {z : (Int64 × gM)} (h : cf_X0_ask  m = some z) (hk : (fun z : (Int64 × gM) => gz_kLa cS X G 4 zE cX0_ask z.2 z.1) z) : gz_Va cS X G 4 zE m 0 [(0, .ref (gz_ad G 1000))] [] := by
  unfold cf_X0_ask at h
  refine gz_Vs (fun _ kk => gz_aload_n (pc := 0) hX dX0_ask_0 rfl 0 rfl kk) rfl ?_
  obtain ⟨⟨r1, m2⟩, c3, h⟩ := gz_bd h
  obtain ⟨g4, h⟩ := gz_gu h
  refine gz_Vs (fun _ kk => cc_X0_136 (pc := 1) hX (fun h => cz_k h rfl) c3 ⟨Nat.le_of_ble_eq_true rfl, Nat.le_of_ble_eq_true rfl⟩ (rest := []) rfl (Nat.le_of_ble_eq_true rfl) dX0_ask_1 kk) g4 ?_
  refine gz_Vs (fun _ kk => gz_istore_n (pc := 4) (lw := [(1, .int r1), (0, .ref (gz_ad G 1000))]) hX dX0_ask_4 rfl (by decide) rfl kk) rfl ?_
  refine gz_Vs (fun _ kk => gz_aload_n (pc := 5) hX dX0_ask_5 rfl 1 rfl kk) rfl ?_
  refine gz_Vs (fun _ kk => gz_iconst (pc := 6) (v := (0 : Int32)) hX dX0_ask_6 (by decide) kk) rfl ?_
  obtain ⟨m5, em5, h⟩ := gz_lt h
  refine gz_Vs (fun _ kk => cp_X0_133_0 (pc := 7) hX (c := 1000) (fun h => cz_k h rfl) (Nat.le_of_ble_eq_true rfl) dX0_ask_7 em5 kk) (by rw [em5]; rfl) ?_
  refine gz_Vs (fun _ kk => gz_aload_n (pc := 10) hX dX0_ask_10 rfl 1 rfl kk) rfl ?_
  refine gz_Vs (fun _ kk => gz_iconst (pc := 11) (v := (-1 : Int32)) hX dX0_ask_11 (by decide) kk) rfl ?_
  obtain ⟨m6, em6, h⟩ := gz_lt h
  refine gz_Vs (fun _ kk => cp_X0_39_0 (pc := 12) hX (c := 1000) (fun h => cz_k h rfl) (Nat.le_of_ble_eq_true rfl) dX0_ask_12 em6 kk) (by rw [em6]; rfl) ?_
  refine gz_Vs (fun _ kk => gz_aload_n (pc := 15) hX dX0_ask_15 rfl 1 rfl kk) rfl ?_
  refine gz_Vs (fun _ kk => cg_X0_48_0 (pc := 16) hX (c := 1000) (v := .ref (gz_ad G 1011)) (fun h => cz_k h rfl) (fun h => cz_f h (by decide) rfl (by decide) rfl) dX0_ask_16 kk) rfl ?_
  refine gz_Vs (fun _ kk => gz_iload_n (pc := 19) hX dX0_ask_19 rfl 0 rfl kk) rfl ?_
  obtain ⟨⟨o10, m8⟩, c9, h⟩ := gz_bd h
  obtain ⟨g11, h⟩ := gz_gu h
  cases o10 with
  | none =>
    replace h := gx_on h
    refine gz_Vcx (k := gZ m8 - gZ m6) (n := gW m8 - gW m6) (fun _ kk => cc_X0_382x (pc := 20) hX (fun h => cz_k h rfl) c9 ⟨Nat.le_of_ble_eq_true rfl, Nat.le_of_ble_eq_true rfl⟩ (rest := []) rfl (Nat.le_of_ble_eq_true rfl) dX0_ask_20 kk) ⟨by have := g11.1; dsimp only [gZ] at *; omega, by have := g11.2; dsimp only [gW] at *; omega⟩ ?_
    refine gz_catcha hX hT (by decide) rfl rfl q608 (va_Nw.use rfl (cz_n (Z := cS) hX q299 rfl)) (fun h => cz_k (c := 1012) (k := 3) h rfl) ?_
    refine gz_Vs (fun _ kk => gz_astore_n (pc := 27) (lw := [(3, .ref (gz_ad G 1012)), (1, .int r1), (0, .ref (gz_ad G 1000))]) hX dX0_ask_27 rfl (by decide) rfl kk) rfl ?_
    refine gz_Vs (fun _ kk => gz_aload_n (pc := 28) hX dX0_ask_28 rfl 2 rfl kk) rfl ?_
    refine gz_Vs (fun _ kk => gz_aload_n (pc := 29) hX dX0_ask_29 rfl 0 rfl kk) rfl ?_
    refine gz_Vs (fun _ kk => cg_X0_146_3 (pc := 30) hX (c := 1012) (v := .int (gI m8 1012 6)) (fun h => cz_k h rfl) (fun _ => rfl) dX0_ask_30 kk) rfl ?_
    obtain ⟨m12, em12, h⟩ := gz_lt h
    refine gz_Vs (fun _ kk => cp_X0_133_0 (pc := 33) hX (c := 1000) (fun h => cz_k h rfl) (Nat.le_of_ble_eq_true rfl) dX0_ask_33 em12 kk) (by rw [em12]; rfl) ?_
    refine gz_Vs (fun _ kk => gz_aload_n (pc := 36) hX dX0_ask_36 rfl 2 rfl kk) rfl ?_
    refine gz_Vs (fun _ kk => gz_aload_n (pc := 37) hX dX0_ask_37 rfl 0 rfl kk) rfl ?_
    refine gz_Vs (fun _ kk => cg_X0_149_3 (pc := 38) hX (c := 1012) (v := .int (gI m12 1012 7)) (fun h => cz_k h rfl) (fun _ => rfl) dX0_ask_38 kk) rfl ?_
    obtain ⟨m13, em13, h⟩ := gz_lt h
    refine gz_Vs (fun _ kk => cp_X0_39_0 (pc := 41) hX (c := 1000) (fun h => cz_k h rfl) (Nat.le_of_ble_eq_true rfl) dX0_ask_41 em13 kk) (by rw [em13]; rfl) ?_
    refine gz_Vs (fun _ kk => gz_ldc2 (pc := 44) (v := (-1000000000000000 : Int64)) hX q1725 dX0_ask_44 kk) rfl ?_
    obtain rfl := Option.some.inj h
    exact hk _ _ dX0_ask_47
  | some r7 =>
    replace h := gx_os h
    refine gz_Vc (k := gZ m8 - gZ m6) (n := gW m8 - gW m6) (fun _ kk => cc_X0_382 (pc := 20) hX (fun h => cz_k h rfl) c9 ⟨Nat.le_of_ble_eq_true rfl, Nat.le_of_ble_eq_true rfl⟩ (rest := []) rfl (Nat.le_of_ble_eq_true rfl) dX0_ask_20 kk) ⟨by have := g11.1; dsimp only [gZ] at *; omega, by have := g11.2; dsimp only [gW] at *; omega⟩ ?_
    refine gz_Vs (fun _ kk => gz_astore_n (pc := 23) (lw := [(2, .ref (gz_ad G r7)), (1, .int r1), (0, .ref (gz_ad G 1000))]) hX dX0_ask_23 rfl (by decide) rfl kk) rfl ?_
    refine gz_Vs (fun _ kk => gz_goto (pc := 24) (tgt := 48) hX dX0_ask_24 (by decide) kk) rfl ?_
    refine gz_Vs (fun _ kk => gz_aload_n (pc := 48) hX dX0_ask_48 rfl 2 rfl kk) rfl ?_
    refine gz_Vs (fun _ kk => gz_iconst (pc := 49) (v := (0 : Int32)) hX dX0_ask_49 (by decide) kk) rfl ?_
    obtain ⟨m14, em14, h⟩ := gz_lt h
    refine gz_Vs (fun _ kk => cp_X0_377_0 (pc := 50) hX (c := 1000) (fun h => cz_k h rfl) (Nat.le_of_ble_eq_true rfl) dX0_ask_50 em14 kk) (by rw [em14]; rfl) ?_
    refine gz_Vs (fun _ kk => gz_sub (lw := [(0, .ref (gz_ad G 1000)), (2, .ref (gz_ad G r7))]) [2, 0] rfl kk) rfl ?_
    exact wl_X0_ask_53 hX hT h hk
theorem ct_X0_ask {G : gz_G} {l : Launch}   {m m9 : gM} {r : Int64} (h : cf_X0_ask  m = some (r, m9)) : gw_Met cS G l yX0_ask cX0_ask 4 (some .long) [(15, 24, 27, 144)] (mRc 148 5084 (gZ m9 - gZ m) (gW m9 - gW m)) [.ref (gz_ad G 1000)] m m9 (some (.long r)) :=
  gw_ofL (by decide +kernel) (Nat.le_of_ble_eq_true rfl) fun X _ hT hX hk => (wm_X0_ask (zE := m9.2.2.2.2.2) hX hT h (fun pc lv hd => gz_Ve (hk pc lv hd))).2
theorem cn_X2_108 {X : gz_X} {G : gz_G} {cc : ByteArray} {nL fr lo pc : Nat} {rem : Nat × Nat} {m m9 : gM} {lv : List (Nat × Value)} {st : List Value} (hX : gz_C cS X G cc nL RX2 fr lo) (hz : gZ m ≠ 0) (hd : decode cc pc = .ok (.new 108, 3)) (hm : m9 = gz_al m (1 + 1) 0 9) (kk : gz_V cS X G nL rem m9 (pc + 3) lv (.ref (gz_ad G (gZ m)) :: st)) : gz_V cS X G nL (rem.1 + 1, rem.2 + 9) m pc lv st :=
  gz_new hX (C := RX1) (T := TX1) (N := 9) (ci := 1) rfl (by decide) in_X1 tyX1 tyX1_ok (by decide +kernel) q617 q217 q168 hz clc_al hd hm kk
theorem cc_X2_118 {X : gz_X} {G : gz_G} {cc : ByteArray} {nL fr lo pc : Nat} {rem : Nat × Nat} {lv : List (Nat × Value)} {rest st0 : List Value} (hX : gz_C cS X G cc nL RX2 fr lo) {c0 : Nat} {m m9 : gM}  (h : cf_X1_init c0 m = some ((), m9)) (hroom : 4 + 1 ≤ fr ∧ 8 + (1 + 11) + 81 ≤ lo) (hst : st0 = [.ref (gz_ad G c0)] ++ rest) (hW : (rest.map fun v => v.category).sum ≤ 8) (hd : decode cc pc = .ok (.invokespecial 118, 3)) (kk : gz_V cS X G nL rem m9 (pc + 3) lv (rest)) : gz_V cS X G nL (rem.1 + (gZ m9 - gZ m), rem.2 + (gW m9 - gW m)) m pc lv st0 :=
  gz_callIN hX cs_E (As := []) (rest := rest) (c := c0) (ct_X1_init (l := X.2.1) h) q220 (cz_n (Z := cS) hX q618 rfl) q168 q219 rfl (n := 0) (by decide +kernel) hroom rfl hst hW hd (rem := rem) kk
theorem cp_X2_103_2 {X : gz_X} {G : gz_G} {cc : ByteArray} {nL fr lo pc : Nat} {rem : Nat × Nat} {m m9 : gM} {lv : List (Nat × Value)} {st : List Value} (hX : gz_C cS X G cc nL RX2 fr lo) {c : Nat} {r : Nat} (hK : clc m.1 m.2.1 m.2.2.2.2.1 → m.1 c = 2 + 1) (hw : 1000 ≤ c) (hs : sr c 6 = 0 ∧ r ≠ 0) (hd : decode cc pc = .ok (.putfield 103, 3)) (hm : m9 = gz_sP m c 6 r) (kk : gz_V cS X G nL rem m9 (pc + 3) lv st) : gz_V cS X G nL rem m pc lv (.ref (gz_ad G r) :: .ref (gz_ad G c) :: st) := by
  subst hm
  exact gz_putf hX (C := RX2) (T := TX2) (N := 8) (ci := 2) (k := 6) (μ' := gz_sP m c 6 r) (v := .ref (gz_ad G r)) rfl (by decide) in_X2 tyX2 tyX2_ok nmX2 (by decide) (Or.inl (hX.2.2.2.2.1 _ q376)) rfl rfl rfl rfl hd hK hw rfl rfl rfl (fun d tc j h => gz_sP_o d tc j h) (by intro j; rw [← gz_rfp hs.2]; exact gz_sP_v (fun j => ftC 2 j) rfl j) (clc_sP hs.1) kk
theorem cg_X2_122_1 {X : gz_X} {G : gz_G} {cc : ByteArray} {nL fr lo pc : Nat} {rem : Nat × Nat} {m : gM} {lv : List (Nat × Value)} {st : List Value} (hX : gz_C cS X G cc nL RX2 fr lo) {c : Nat} {v : Value} (hK : clc m.1 m.2.1 m.2.2.2.2.1 → m.1 c = 1 + 1) (hv : clc m.1 m.2.1 m.2.2.2.2.1 → gz_u (gz_ad G) m (ftC 1 0) c 0 = v) (hd : decode cc pc = .ok (.getfield 122, 3)) (kk : gz_V cS X G nL rem m (pc + 3) lv (v :: st)) : gz_V cS X G nL rem m pc lv (.ref (gz_ad G c) :: st) :=
  gz_getf hX (C := RX1) (T := TX1) (N := 9) (ci := 1) (k := 0) rfl (by decide) in_X1 (by decide) (Or.inr ⟨_, va_Nw.use rfl (cz_n (Z := cS) hX q251 rfl)⟩) hd hK hv kk
theorem cp_X2_122_1 {X : gz_X} {G : gz_G} {cc : ByteArray} {nL fr lo pc : Nat} {rem : Nat × Nat} {m m9 : gM} {lv : List (Nat × Value)} {st : List Value} (hX : gz_C cS X G cc nL RX2 fr lo) {c : Nat} {x : Int32} (hK : clc m.1 m.2.1 m.2.2.2.2.1 → m.1 c = 1 + 1) (hw : 1000 ≤ c) (hd : decode cc pc = .ok (.putfield 122, 3)) (hm : m9 = gz_sI m c 0 x) (kk : gz_V cS X G nL rem m9 (pc + 3) lv st) : gz_V cS X G nL rem m pc lv (.int x :: .ref (gz_ad G c) :: st) := by
  subst hm
  exact gz_putf hX (C := RX1) (T := TX1) (N := 9) (ci := 1) (k := 0) (ty := .int) (μ' := gz_sI m c 0 x) rfl (by decide) in_X1 tyX1 tyX1_ok nmX1 (by decide) (Or.inr ⟨_, va_Nw.use rfl (cz_n (Z := cS) hX q251 rfl)⟩) rfl rfl rfl rfl hd hK hw rfl rfl rfl (fun d tc j h => gz_sI_o d tc j h) (gz_sI_v (fun j => ftC 1 j) rfl) (fun h => h) kk
theorem cc_X2_129 {X : gz_X} {G : gz_G} {cc : ByteArray} {nL fr lo pc : Nat} {rem : Nat × Nat} {lv : List (Nat × Value)} {rest st0 : List Value} (hX : gz_C cS X G cc nL RX2 fr lo) {c1 : Nat} {x2 : Int32} {m m9 : gM} (hK : clc m.1 m.2.1 m.2.2.2.2.1 → m.1 1011 = 2 + 1)  {r : Int32} (h : cf_X2_isTold c1 x2 m = some (some r, m9)) (hroom : 10 + 1 ≤ fr ∧ 8 + (5 + 11) + 222 ≤ lo) (hst : st0 = [.int x2, .ref (gz_ad G c1), .ref (gz_ad G 1011)] ++ rest) (hW : (rest.map fun v => v.category).sum ≤ 8) (hd : decode cc pc = .ok (.invokevirtual 129, 3)) (kk : gz_V cS X G nL rem m9 (pc + 3) lv (.int r :: rest)) : gz_V cS X G nL (rem.1 + (gZ m9 - gZ m), rem.2 + (gW m9 - gW m)) m pc lv st0 :=
  gz_callX hX cs_E (As := [.ref (gz_ad G c1), .int x2]) (rest := rest) (q := (RX2, TX2, 8)) (ci := 2) (c := 1011) (ct_X2_isTold (l := X.2.1) h) (lw_V q727 q729 qs11 q172 q730) (n := 2) (by decide +kernel) hroom rfl rfl (by decide) hK hst hW hd (rem := rem) (fun rv e => by obtain rfl := Option.some.inj e; exact kk) (fun e => by simp at e)
theorem cc_X2_129x {X : gz_X} {G : gz_G} {cc : ByteArray} {nL fr lo pc : Nat} {rem : Nat × Nat} {lv : List (Nat × Value)} {rest st0 : List Value} (hX : gz_C cS X G cc nL RX2 fr lo) {c1 : Nat} {x2 : Int32} {m m9 : gM} (hK : clc m.1 m.2.1 m.2.2.2.2.1 → m.1 1011 = 2 + 1)  (h : cf_X2_isTold c1 x2 m = some (none, m9)) (hroom : 10 + 1 ≤ fr ∧ 8 + (5 + 11) + 222 ≤ lo) (hst : st0 = [.int x2, .ref (gz_ad G c1), .ref (gz_ad G 1011)] ++ rest) (hW : (rest.map fun v => v.category).sum ≤ 8) (hd : decode cc pc = .ok (.invokevirtual 129, 3)) (kk : gz_VX cS X G nL rem m9 pc lv) : gz_V cS X G nL (rem.1 + (gZ m9 - gZ m), rem.2 + (gW m9 - gW m)) m pc lv st0 :=
  gz_callX hX cs_E (As := [.ref (gz_ad G c1), .int x2]) (rest := rest) (q := (RX2, TX2, 8)) (ci := 2) (c := 1011) (ct_X2_isTold (l := X.2.1) h) (lw_V q727 q729 qs11 q172 q730) (n := 2) (by decide +kernel) hroom rfl rfl (by decide) hK hst hW hd (rem := rem) (fun rv e => by simp at e) (fun _ => kk)
theorem cc_X2_133 {X : gz_X} {G : gz_G} {cc : ByteArray} {nL fr lo pc : Nat} {rem : Nat × Nat} {lv : List (Nat × Value)} {rest st0 : List Value} (hX : gz_C cS X G cc nL RX2 fr lo) {c1 : Nat} {x2 : Int32} {m m9 : gM} (hK : clc m.1 m.2.1 m.2.2.2.2.1 → m.1 1011 = 2 + 1)  (h : cf_X2_more c1 x2 m = some (some (), m9)) (hroom : 147 + 1 ≤ fr ∧ 8 + (5 + 11) + 5061 ≤ lo) (hst : st0 = [.int x2, .ref (gz_ad G c1), .ref (gz_ad G 1011)] ++ rest) (hW : (rest.map fun v => v.category).sum ≤ 8) (hd : decode cc pc = .ok (.invokevirtual 133, 3)) (kk : gz_V cS X G nL rem m9 (pc + 3) lv (rest)) : gz_V cS X G nL (rem.1 + (gZ m9 - gZ m), rem.2 + (gW m9 - gW m)) m pc lv st0 :=
  gz_callX hX cs_E (As := [.ref (gz_ad G c1), .int x2]) (rest := rest) (q := (RX2, TX2, 8)) (ci := 2) (c := 1011) (ct_X2_more (l := X.2.1) h) (lw_V q1024 q1026 qs24 q172 q1027) (n := 2) (by decide +kernel) hroom rfl rfl (by decide) hK hst hW hd (rem := rem) (fun rv e => by obtain rfl := Option.some.inj e; exact kk) (fun e => by simp at e)
theorem cc_X2_133x {X : gz_X} {G : gz_G} {cc : ByteArray} {nL fr lo pc : Nat} {rem : Nat × Nat} {lv : List (Nat × Value)} {rest st0 : List Value} (hX : gz_C cS X G cc nL RX2 fr lo) {c1 : Nat} {x2 : Int32} {m m9 : gM} (hK : clc m.1 m.2.1 m.2.2.2.2.1 → m.1 1011 = 2 + 1)  (h : cf_X2_more c1 x2 m = some (none, m9)) (hroom : 147 + 1 ≤ fr ∧ 8 + (5 + 11) + 5061 ≤ lo) (hst : st0 = [.int x2, .ref (gz_ad G c1), .ref (gz_ad G 1011)] ++ rest) (hW : (rest.map fun v => v.category).sum ≤ 8) (hd : decode cc pc = .ok (.invokevirtual 133, 3)) (kk : gz_VX cS X G nL rem m9 pc lv) : gz_V cS X G nL (rem.1 + (gZ m9 - gZ m), rem.2 + (gW m9 - gW m)) m pc lv st0 :=
  gz_callX hX cs_E (As := [.ref (gz_ad G c1), .int x2]) (rest := rest) (q := (RX2, TX2, 8)) (ci := 2) (c := 1011) (ct_X2_more (l := X.2.1) h) (lw_V q1024 q1026 qs24 q172 q1027) (n := 2) (by decide +kernel) hroom rfl rfl (by decide) hK hst hW hd (rem := rem) (fun rv e => by simp at e) (fun _ => kk)
/-! FirstSnuffer$Reader.all(I)LFirstSnuffer$Household; -/
def mP_X2_all_26 (X : gz_X) (G : gz_G) (zE : Nat × Nat) (q : (gM)) : Prop := gz_Va cS X G 3 zE q 26 [(0, .ref (gz_ad G 1011))] []
noncomputable def mj_X2_all_98  (m : gM) : Option ((gM) ⊕ (Option Nat × gM)) :=
  ((cf_X2_must (59 : Int32) m).bind fun (o4, m2) => (if gZ m ≤ gZ m2 ∧ gW m ≤ gW m2 then gx_o o4 (fun r1 => some (Sum.inl (m2))) (some (Sum.inr (none, m2))) else none))
theorem wb_X2_all_98 {X : gz_X} {G : gz_G} {zE : Nat × Nat} (hX : gz_C cS X G cX2_all 3 RX2 148 5085)   {m : gM} {z : ((gM) ⊕ (Option Nat × gM))} (h : mj_X2_all_98  m = some z) (hk : (Sum.elim (mP_X2_all_26 X G zE) (fun z : (Option Nat × gM) => gx_k (fun r => gz_kRa cS X G 3 zE cX2_all z.2 r) (∀ (pc : Nat) (lv : List (Nat × Value)), gz_VXa cS X G 3 zE z.2 pc lv) z.1)) z) : gz_Va cS X G 3 zE m 98 [(0, .ref (gz_ad G 1011))] [] := by
  unfold mj_X2_all_98 at h
  refine gz_Vs (fun _ kk => gz_aload_n (pc := 98) hX dX2_all_98 rfl 0 rfl kk) rfl ?_
  refine gz_Vs (fun _ kk => gz_bipush (pc := 99) (v := (59 : Int32)) hX dX2_all_99 (by decide) kk) rfl ?_
  obtain ⟨⟨o4, m2⟩, c3, h⟩ := gz_bd h
  obtain ⟨g5, h⟩ := gz_gu h
  cases o4 with
  | none =>
    replace h := gx_on h
    obtain rfl := Option.some.inj h
    exact gz_Vcx (k := gZ m2 - gZ m) (n := gW m2 - gW m) (fun _ kk => cc_X2_137x (pc := 101) hX (fun h => cz_k h rfl) c3 ⟨Nat.le_of_ble_eq_true rfl, Nat.le_of_ble_eq_true rfl⟩ (rest := []) rfl (Nat.le_of_ble_eq_true rfl) dX2_all_101 kk) ⟨by have := g5.1; dsimp only [gZ] at *; omega, by have := g5.2; dsimp only [gW] at *; omega⟩ (hk _ _)
  | some r1 =>
    replace h := gx_os h
    refine gz_Vc (k := gZ m2 - gZ m) (n := gW m2 - gW m) (fun _ kk => cc_X2_137 (pc := 101) hX (fun h => cz_k h rfl) c3 ⟨Nat.le_of_ble_eq_true rfl, Nat.le_of_ble_eq_true rfl⟩ (rest := []) rfl (Nat.le_of_ble_eq_true rfl) dX2_all_101 kk) ⟨by have := g5.1; dsimp only [gZ] at *; omega, by have := g5.2; dsimp only [gW] at *; omega⟩ ?_
    refine gz_Vs (fun _ kk => gz_goto (pc := 104) (tgt := 26) hX dX2_all_104 (by decide) kk) rfl ?_
    obtain rfl := Option.some.inj h
    exact hk
noncomputable def mj_X2_all_52 (s0 : Int32) (m : gM) : Option ((gM) ⊕ (Option Nat × gM)) :=
  ((cf_X2_most s0 (gI m 1011 2) m).bind fun (o4, m2) => (if gZ m ≤ gZ m2 ∧ gW m ≤ gW m2 then gx_o o4 (fun r1 => gz_let (gP m2 1011 6) fun r6 => (if r6 ≠ 0 then (if gK m2 r6 = 2 then (if gK m2 r6 = 2 then (if 1000 ≤ r6 then gz_let (gz_sI m2 r6 0 ((gI m2 r6 0) + (1 : Int32))) fun m11 => ((cf_X2_word  m11).bind fun (o15, m13) => (if gZ m11 ≤ gZ m13 ∧ gW m11 ≤ gW m13 then gx_o o15 (fun r12 => ((cf_X2_isTold r12 (gI m13 1011 3) m13).bind fun (o20, m18) => (if gZ m13 ≤ gZ m18 ∧ gW m13 ≤ gW m18 then gx_o o20 (fun r17 => (if r17 = (0 : Int32) then ((cf_X2_more r12 (gI m18 1011 3) m18).bind fun (o26, m24) => (if gZ m18 ≤ gZ m24 ∧ gW m18 ≤ gW m24 then gx_o o26 (fun r23 => (mj_X2_all_98  m24)) (some (Sum.inr (none, m24))) else none)) else (mj_X2_all_98  m18))) (some (Sum.inr (none, m18))) else none))) (some (Sum.inr (none, m13))) else none)) else none) else none) else none) else none)) (some (Sum.inr (none, m2))) else none))
theorem wb_X2_all_52 {X : gz_X} {G : gz_G} {zE : Nat × Nat} (hX : gz_C cS X G cX2_all 3 RX2 148 5085) {s0 : Int32}  {m : gM} {z : ((gM) ⊕ (Option Nat × gM))} (h : mj_X2_all_52 s0 m = some z) (hk : (Sum.elim (mP_X2_all_26 X G zE) (fun z : (Option Nat × gM) => gx_k (fun r => gz_kRa cS X G 3 zE cX2_all z.2 r) (∀ (pc : Nat) (lv : List (Nat × Value)), gz_VXa cS X G 3 zE z.2 pc lv) z.1)) z) : gz_Va cS X G 3 zE m 52 [(0, .ref (gz_ad G 1011))] [.int s0, .ref (gz_ad G 1011)] := by
  unfold mj_X2_all_52 at h
  refine gz_Vs (fun _ kk => gz_aload_n (pc := 52) hX dX2_all_52 rfl 0 rfl kk) rfl ?_
  refine gz_Vs (fun _ kk => cg_X2_36_2 (pc := 53) hX (c := 1011) (v := .int (gI m 1011 2)) (fun h => cz_k h rfl) (fun _ => rfl) dX2_all_53 kk) rfl ?_
  obtain ⟨⟨o4, m2⟩, c3, h⟩ := gz_bd h
  obtain ⟨g5, h⟩ := gz_gu h
  cases o4 with
  | none =>
    replace h := gx_on h
    obtain rfl := Option.some.inj h
    exact gz_Vcx (k := gZ m2 - gZ m) (n := gW m2 - gW m) (fun _ kk => cc_X2_125x (pc := 56) hX (fun h => cz_k h rfl) c3 ⟨Nat.le_of_ble_eq_true rfl, Nat.le_of_ble_eq_true rfl⟩ (rest := []) rfl (Nat.le_of_ble_eq_true rfl) dX2_all_56 kk) ⟨by have := g5.1; dsimp only [gZ] at *; omega, by have := g5.2; dsimp only [gW] at *; omega⟩ (hk _ _)
  | some r1 =>
    replace h := gx_os h
    refine gz_Vc (k := gZ m2 - gZ m) (n := gW m2 - gW m) (fun _ kk => cc_X2_125 (pc := 56) hX (fun h => cz_k h rfl) c3 ⟨Nat.le_of_ble_eq_true rfl, Nat.le_of_ble_eq_true rfl⟩ (rest := []) rfl (Nat.le_of_ble_eq_true rfl) dX2_all_56 kk) ⟨by have := g5.1; dsimp only [gZ] at *; omega, by have := g5.2; dsimp only [gW] at *; omega⟩ ?_
    refine gz_Vs (fun _ kk => gz_aload_n (pc := 59) hX dX2_all_59 rfl 0 rfl kk) rfl ?_
    obtain ⟨r6, er6, h⟩ := gz_lt h
    obtain ⟨g7, h⟩ := gz_gu h
    refine gz_Vs (fun _ kk => cg_X2_103_2 (pc := 60) hX (c := 1011) (v := .ref (gz_ad G r6)) (fun h => cz_k h rfl) (fun _ => gz_rq er6 g7) dX2_all_60 kk) rfl ?_
    refine gz_Vs (fun _ kk => gz_dup (pc := 63) hX dX2_all_63 rfl kk) rfl ?_
    obtain ⟨g8, h⟩ := gz_gu h
    refine gz_Vs (fun _ kk => cg_X2_122_1 (pc := 64) hX (c := r6) (v := .int (gI m2 r6 0)) (fun _ => g8) (fun _ => rfl) dX2_all_64 kk) rfl ?_
    refine gz_Vs (fun _ kk => gz_iconst (pc := 67) (v := (1 : Int32)) hX dX2_all_67 (by decide) kk) rfl ?_
    refine gz_Vs (fun _ kk => gz_iadd (pc := 68) hX dX2_all_68 kk) rfl ?_
    obtain ⟨g9, h⟩ := gz_gu h
    obtain ⟨g10, h⟩ := gz_gu h
    obtain ⟨m11, em11, h⟩ := gz_lt h
    refine gz_Vs (fun _ kk => cp_X2_122_1 (pc := 69) hX (c := r6) (fun _ => g9) g10 dX2_all_69 em11 kk) (by rw [em11]; rfl) ?_
    refine gz_Vs (fun _ kk => gz_aload_n (pc := 72) hX dX2_all_72 rfl 0 rfl kk) rfl ?_
    obtain ⟨⟨o15, m13⟩, c14, h⟩ := gz_bd h
    obtain ⟨g16, h⟩ := gz_gu h
    cases o15 with
    | none =>
      replace h := gx_on h
      obtain rfl := Option.some.inj h
      exact gz_Vcx (k := gZ m13 - gZ m11) (n := gW m13 - gW m11) (fun _ kk => cc_X2_70x (pc := 73) hX (fun h => cz_k h rfl) c14 ⟨Nat.le_of_ble_eq_true rfl, Nat.le_of_ble_eq_true rfl⟩ (rest := []) rfl (Nat.le_of_ble_eq_true rfl) dX2_all_73 kk) ⟨by have := g16.1; dsimp only [gZ] at *; omega, by have := g16.2; dsimp only [gW] at *; omega⟩ (hk _ _)
    | some r12 =>
      replace h := gx_os h
      refine gz_Vc (k := gZ m13 - gZ m11) (n := gW m13 - gW m11) (fun _ kk => cc_X2_70 (pc := 73) hX (fun h => cz_k h rfl) c14 ⟨Nat.le_of_ble_eq_true rfl, Nat.le_of_ble_eq_true rfl⟩ (rest := []) rfl (Nat.le_of_ble_eq_true rfl) dX2_all_73 kk) ⟨by have := g16.1; dsimp only [gZ] at *; omega, by have := g16.2; dsimp only [gW] at *; omega⟩ ?_
      refine gz_Vs (fun _ kk => gz_astore_n (pc := 76) (lw := [(2, .ref (gz_ad G r12)), (0, .ref (gz_ad G 1011))]) hX dX2_all_76 rfl (by decide) rfl kk) rfl ?_
      refine gz_Vs (fun _ kk => gz_aload_n (pc := 77) hX dX2_all_77 rfl 1 rfl kk) rfl ?_
      refine gz_Vs (fun _ kk => gz_aload_n (pc := 78) hX dX2_all_78 rfl 0 rfl kk) rfl ?_
      refine gz_Vs (fun _ kk => gz_aload_n (pc := 79) hX dX2_all_79 rfl 1 rfl kk) rfl ?_
      refine gz_Vs (fun _ kk => cg_X2_61_2 (pc := 80) hX (c := 1011) (v := .int (gI m13 1011 3)) (fun h => cz_k h rfl) (fun _ => rfl) dX2_all_80 kk) rfl ?_
      obtain ⟨⟨o20, m18⟩, c19, h⟩ := gz_bd h
      obtain ⟨g21, h⟩ := gz_gu h
      cases o20 with
      | none =>
        replace h := gx_on h
        obtain rfl := Option.some.inj h
        exact gz_Vcx (k := gZ m18 - gZ m13) (n := gW m18 - gW m13) (fun _ kk => cc_X2_129x (pc := 83) hX (fun h => cz_k h rfl) c19 ⟨Nat.le_of_ble_eq_true rfl, Nat.le_of_ble_eq_true rfl⟩ (rest := []) rfl (Nat.le_of_ble_eq_true rfl) dX2_all_83 kk) ⟨by have := g21.1; dsimp only [gZ] at *; omega, by have := g21.2; dsimp only [gW] at *; omega⟩ (hk _ _)
      | some r17 =>
        replace h := gx_os h
        refine gz_Vc (k := gZ m18 - gZ m13) (n := gW m18 - gW m13) (fun _ kk => cc_X2_129 (pc := 83) hX (fun h => cz_k h rfl) c19 ⟨Nat.le_of_ble_eq_true rfl, Nat.le_of_ble_eq_true rfl⟩ (rest := []) rfl (Nat.le_of_ble_eq_true rfl) dX2_all_83 kk) ⟨by have := g21.1; dsimp only [gZ] at *; omega, by have := g21.2; dsimp only [gW] at *; omega⟩ ?_
        refine gz_Vif (μ1 := m) (μ2 := m) (fun _ k1 k2 => gz_if_ne (pc := 86) (tgt := 98) hX dX2_all_86 (by decide) k1 k2) (by first | exact Classical.em _ | exact (Classical.em _).symm) (fun g22 => ?_) (fun g22 => ?_)
        · replace h := gz_if' g22 h
          refine gz_Vs (fun _ kk => gz_sub (lw := [(0, .ref (gz_ad G 1011))]) [1] rfl kk) rfl ?_
          exact wb_X2_all_98 hX h hk
        · replace h := gz_it' g22 h
          refine gz_Vs (fun _ kk => gz_aload_n (pc := 89) hX dX2_all_89 rfl 1 rfl kk) rfl ?_
          refine gz_Vs (fun _ kk => gz_aload_n (pc := 90) hX dX2_all_90 rfl 0 rfl kk) rfl ?_
          refine gz_Vs (fun _ kk => gz_aload_n (pc := 91) hX dX2_all_91 rfl 1 rfl kk) rfl ?_
          refine gz_Vs (fun _ kk => cg_X2_61_2 (pc := 92) hX (c := 1011) (v := .int (gI m18 1011 3)) (fun h => cz_k h rfl) (fun _ => rfl) dX2_all_92 kk) rfl ?_
          obtain ⟨⟨o26, m24⟩, c25, h⟩ := gz_bd h
          obtain ⟨g27, h⟩ := gz_gu h
          cases o26 with
          | none =>
            replace h := gx_on h
            obtain rfl := Option.some.inj h
            exact gz_Vcx (k := gZ m24 - gZ m18) (n := gW m24 - gW m18) (fun _ kk => cc_X2_133x (pc := 95) hX (fun h => cz_k h rfl) c25 ⟨Nat.le_of_ble_eq_true rfl, Nat.le_of_ble_eq_true rfl⟩ (rest := []) rfl (Nat.le_of_ble_eq_true rfl) dX2_all_95 kk) ⟨by have := g27.1; dsimp only [gZ] at *; omega, by have := g27.2; dsimp only [gW] at *; omega⟩ (hk _ _)
          | some r23 =>
            replace h := gx_os h
            refine gz_Vc (k := gZ m24 - gZ m18) (n := gW m24 - gW m18) (fun _ kk => cc_X2_133 (pc := 95) hX (fun h => cz_k h rfl) c25 ⟨Nat.le_of_ble_eq_true rfl, Nat.le_of_ble_eq_true rfl⟩ (rest := []) rfl (Nat.le_of_ble_eq_true rfl) dX2_all_95 kk) ⟨by have := g27.1; dsimp only [gZ] at *; omega, by have := g27.2; dsimp only [gW] at *; omega⟩ ?_
            refine gz_Vs (fun _ kk => gz_sub (lw := [(0, .ref (gz_ad G 1011))]) [1] rfl kk) rfl ?_
            exact wb_X2_all_98 hX h hk
noncomputable def mb_X2_all_26  (m : gM) : Option ((gM) ⊕ (Option Nat × gM)) :=
  ((cf_X2_here m).bind fun (r1, m2) => (if m2.2.2.2.2.2 = m.2.2.2.2.2 then (if r1 = (-1 : Int32) then gz_let (gP m2 1011 6) fun r6 => (if r6 ≠ 0 then some (Sum.inr (some r6, m2)) else none) else gz_let (gP m2 1011 6) fun r8 => (if r8 ≠ 0 then (if gK m2 r8 = 2 then (if (gI m2 r8 0) = (60 : Int32) then (mj_X2_all_52 (1 : Int32) m2) else (mj_X2_all_52 (0 : Int32) m2)) else none) else none)) else none))
theorem wb_X2_all_26 {X : gz_X} {G : gz_G} {zE : Nat × Nat} (hX : gz_C cS X G cX2_all 3 RX2 148 5085)   {m : gM} {z : ((gM) ⊕ (Option Nat × gM))} (h : mb_X2_all_26  m = some z) (hk : (Sum.elim (mP_X2_all_26 X G zE) (fun z : (Option Nat × gM) => gx_k (fun r => gz_kRa cS X G 3 zE cX2_all z.2 r) (∀ (pc : Nat) (lv : List (Nat × Value)), gz_VXa cS X G 3 zE z.2 pc lv) z.1)) z) : gz_Va cS X G 3 zE m 26 [(0, .ref (gz_ad G 1011))] [] := by
  unfold mb_X2_all_26 at h
  refine gz_Vs (fun _ kk => gz_aload_n (pc := 26) hX dX2_all_26 rfl 0 rfl kk) rfl ?_
  obtain ⟨⟨r1, m2⟩, c3, h⟩ := gz_bd h
  obtain ⟨g4, h⟩ := gz_gu h
  refine gz_Vs (fun _ kk => cc_X2_43 (pc := 27) hX (fun h => cz_k h rfl) c3 ⟨Nat.le_of_ble_eq_true rfl, Nat.le_of_ble_eq_true rfl⟩ (rest := []) rfl (Nat.le_of_ble_eq_true rfl) dX2_all_27 kk) g4 ?_
  refine gz_Vs (fun _ kk => gz_iconst (pc := 30) (v := (-1 : Int32)) hX dX2_all_30 (by decide) kk) rfl ?_
  refine gz_Vif (μ1 := m) (μ2 := m) (fun _ k1 k2 => gz_icmp_eq (pc := 31) (tgt := 107) hX dX2_all_31 (by decide) k1 k2) (by first | exact Classical.em _ | exact (Classical.em _).symm) (fun g5 => ?_) (fun g5 => ?_)
  · replace h := gz_it' g5 h
    refine gz_Vs (fun _ kk => gz_aload_n (pc := 107) hX dX2_all_107 rfl 0 rfl kk) rfl ?_
    obtain ⟨r6, er6, h⟩ := gz_lt h
    obtain ⟨g7, h⟩ := gz_gu h
    refine gz_Vs (fun _ kk => cg_X2_103_2 (pc := 108) hX (c := 1011) (v := .ref (gz_ad G r6)) (fun h => cz_k h rfl) (fun _ => gz_rq er6 g7) dX2_all_108 kk) rfl ?_
    obtain rfl := Option.some.inj h
    exact hk _ _ dX2_all_111
  · replace h := gz_if' g5 h
    refine gz_Vs (fun _ kk => gz_aload_n (pc := 34) hX dX2_all_34 rfl 0 rfl kk) rfl ?_
    refine gz_Vs (fun _ kk => gz_aload_n (pc := 35) hX dX2_all_35 rfl 0 rfl kk) rfl ?_
    obtain ⟨r8, er8, h⟩ := gz_lt h
    obtain ⟨g9, h⟩ := gz_gu h
    refine gz_Vs (fun _ kk => cg_X2_103_2 (pc := 36) hX (c := 1011) (v := .ref (gz_ad G r8)) (fun h => cz_k h rfl) (fun _ => gz_rq er8 g9) dX2_all_36 kk) rfl ?_
    obtain ⟨g10, h⟩ := gz_gu h
    refine gz_Vs (fun _ kk => cg_X2_122_1 (pc := 39) hX (c := r8) (v := .int (gI m2 r8 0)) (fun _ => g10) (fun _ => rfl) dX2_all_39 kk) rfl ?_
    refine gz_Vs (fun _ kk => gz_bipush (pc := 42) (v := (60 : Int32)) hX dX2_all_42 (by decide) kk) rfl ?_
    refine gz_Vif (μ1 := m) (μ2 := m) (fun _ k1 k2 => gz_icmp_ne (pc := 44) (tgt := 51) hX dX2_all_44 (by decide) k1 k2) (by first | exact Classical.em _ | exact (Classical.em _).symm) (fun g11 => ?_) (fun g11 => ?_)
    · replace h := gz_if' g11 h
      refine gz_Vs (fun _ kk => gz_iconst (pc := 51) (v := (0 : Int32)) hX dX2_all_51 (by decide) kk) rfl ?_
      exact wb_X2_all_52 hX h hk
    · replace h := gz_it' g11 h
      refine gz_Vs (fun _ kk => gz_iconst (pc := 47) (v := (1 : Int32)) hX dX2_all_47 (by decide) kk) rfl ?_
      refine gz_Vs (fun _ kk => gz_goto (pc := 48) (tgt := 52) hX dX2_all_48 (by decide) kk) rfl ?_
      exact wb_X2_all_52 hX h hk
noncomputable def ml_X2_all_26  (m : gM) : Option (Option Nat × gM) := gz_loop (fun q : (gM) => mb_X2_all_26  q) (m)
theorem wl_X2_all_26 {X : gz_X} {G : gz_G} {zE : Nat × Nat} (hX : gz_C cS X G cX2_all 3 RX2 148 5085)   {m : gM} {z : (Option Nat × gM)} (h : ml_X2_all_26  m = some z) (hk : (fun z : (Option Nat × gM) => gx_k (fun r => gz_kRa cS X G 3 zE cX2_all z.2 r) (∀ (pc : Nat) (lv : List (Nat × Value)), gz_VXa cS X G 3 zE z.2 pc lv) z.1) z) : gz_Va cS X G 3 zE m 26 [(0, .ref (gz_ad G 1011))] [] := by
  have hp : mP_X2_all_26 X G zE (m) := gz_loop_ind (fun q z hz hkz => wb_X2_all_26 hX  hz hkz) h hk
  exact hp
noncomputable def cf_X2_all (x1 : Int32) (m : gM) : Option (Option Nat × gM) :=
  (if gZ m ≠ 0 then gz_let (gz_al m (1 + 1) 0 9) fun m2 => ((cf_X1_init (gZ m) m2).bind fun (_, m4) => (if gZ m2 ≤ gZ m4 ∧ gW m2 ≤ gW m4 then (if sr 1011 6 = 0 ∧ (gZ m) ≠ 0 then gz_let (gz_sP m4 1011 6 (gZ m)) fun m8 => gz_let (gz_sI m8 1011 1 x1) fun m9 => gz_let (gz_sI m9 1011 2 (0 : Int32)) fun m10 => gz_let (gz_sI m10 1011 4 (0 : Int32)) fun m11 => (ml_X2_all_26  m11) else none) else none)) else none)
theorem wm_X2_all {X : gz_X} {G : gz_G} {zE : Nat × Nat} (hX : gz_C cS X G cX2_all 3 RX2 148 5085) {x1 : Int32}  {m : gM} {z : (Option Nat × gM)} (h : cf_X2_all x1 m = some z) (hk : (fun z : (Option Nat × gM) => gx_k (fun r => gz_kRa cS X G 3 zE cX2_all z.2 r) (∀ (pc : Nat) (lv : List (Nat × Value)), gz_VXa cS X G 3 zE z.2 pc lv) z.1) z) : gz_Va cS X G 3 zE m 0 [(0, .ref (gz_ad G 1011)), (1, .int x1)] [] := by
  unfold cf_X2_all at h
  refine gz_Vs (fun _ kk => gz_aload_n (pc := 0) hX dX2_all_0 rfl 0 rfl kk) rfl ?_
  obtain ⟨g1, h⟩ := gz_gu h
  obtain ⟨m2, em2, h⟩ := gz_lt h
  refine gz_Vn (fun _ kk => cn_X2_108 (pc := 1) hX g1 dX2_all_1 em2 kk) em2 ?_
  refine gz_Vs (fun _ kk => gz_dup (pc := 4) hX dX2_all_4 rfl kk) rfl ?_
  obtain ⟨⟨⟨⟩, m4⟩, c5, h⟩ := gz_bd h
  obtain ⟨g6, h⟩ := gz_gu h
  refine gz_Vc (k := gZ m4 - gZ m2) (n := gW m4 - gW m2) (fun _ kk => cc_X2_118 (pc := 5) hX c5 ⟨Nat.le_of_ble_eq_true rfl, Nat.le_of_ble_eq_true rfl⟩ (rest := [.ref (gz_ad G (gZ m)), .ref (gz_ad G 1011)]) rfl (Nat.le_of_ble_eq_true rfl) dX2_all_5 kk) ⟨by have := g6.1; dsimp only [gZ] at *; omega, by have := g6.2; dsimp only [gW] at *; omega⟩ ?_
  obtain ⟨g7, h⟩ := gz_gu h
  obtain ⟨m8, em8, h⟩ := gz_lt h
  refine gz_Vs (fun _ kk => cp_X2_103_2 (pc := 8) hX (c := 1011) (fun h => cz_k h rfl) (Nat.le_of_ble_eq_true rfl) g7 dX2_all_8 em8 kk) (by rw [em8]; rfl) ?_
  refine gz_Vs (fun _ kk => gz_aload_n (pc := 11) hX dX2_all_11 rfl 0 rfl kk) rfl ?_
  refine gz_Vs (fun _ kk => gz_iload_n (pc := 12) hX dX2_all_12 rfl 1 rfl kk) rfl ?_
  obtain ⟨m9, em9, h⟩ := gz_lt h
  refine gz_Vs (fun _ kk => cp_X2_29_2 (pc := 13) hX (c := 1011) (fun h => cz_k h rfl) (Nat.le_of_ble_eq_true rfl) dX2_all_13 em9 kk) (by rw [em9]; rfl) ?_
  refine gz_Vs (fun _ kk => gz_aload_n (pc := 16) hX dX2_all_16 rfl 0 rfl kk) rfl ?_
  refine gz_Vs (fun _ kk => gz_iconst (pc := 17) (v := (0 : Int32)) hX dX2_all_17 (by decide) kk) rfl ?_
  obtain ⟨m10, em10, h⟩ := gz_lt h
  refine gz_Vs (fun _ kk => cp_X2_36_2 (pc := 18) hX (c := 1011) (fun h => cz_k h rfl) (Nat.le_of_ble_eq_true rfl) dX2_all_18 em10 kk) (by rw [em10]; rfl) ?_
  refine gz_Vs (fun _ kk => gz_aload_n (pc := 21) hX dX2_all_21 rfl 0 rfl kk) rfl ?_
  refine gz_Vs (fun _ kk => gz_iconst (pc := 22) (v := (0 : Int32)) hX dX2_all_22 (by decide) kk) rfl ?_
  obtain ⟨m11, em11, h⟩ := gz_lt h
  refine gz_Vs (fun _ kk => cp_X2_119_2 (pc := 23) hX (c := 1011) (fun h => cz_k h rfl) (Nat.le_of_ble_eq_true rfl) dX2_all_23 em11 kk) (by rw [em11]; rfl) ?_
  refine gz_Vs (fun _ kk => gz_sub (lw := [(0, .ref (gz_ad G 1011))]) [0] rfl kk) rfl ?_
  exact wl_X2_all_26 hX h hk
theorem ct_X2_all {G : gz_G} {l : Launch} {x1 : Int32}  {m m9 : gM} {o : Option Nat} (h : cf_X2_all x1 m = some (o, m9)) : gx_Met cS G l yX2_all cX2_all 3 (some (.object "FirstSnuffer$Household")) (mRc 148 5085 (gZ m9 - gZ m) (gW m9 - gW m)) [.ref (gz_ad G 1011), .int x1] m m9 (o.map (fun r => some (.ref (gz_ad G r)))) :=
  gx_ofR (Or.inl ⟨_, rfl⟩) (by decide +kernel) (Nat.le_of_ble_eq_true rfl) ⟨_, rfl, rfl⟩ (fun h => cz_k (c := 1012) (k := 3) h rfl) fun X _ hX hk => (wm_X2_all (zE := m9.2.2.2.2.2) hX h (gx_km (fun _ q pc lv hd => gz_Ve (q pc lv hd)) (fun q pc lv => gz_VXe (q pc lv)) hk)).2
theorem cc_X0_140 {X : gz_X} {G : gz_G} {cc : ByteArray} {nL fr lo pc : Nat} {rem : Nat × Nat} {lv : List (Nat × Value)} {rest st0 : List Value} (hX : gz_C cS X G cc nL RX0 fr lo) {x1 : Int32} {m m9 : gM} (hK : clc m.1 m.2.1 m.2.2.2.2.1 → m.1 1011 = 2 + 1)  {r : Nat} (h : cf_X2_all x1 m = some (some r, m9)) (hroom : 148 + 1 ≤ fr ∧ 8 + (3 + 11) + 5085 ≤ lo) (hst : st0 = [.int x1, .ref (gz_ad G 1011)] ++ rest) (hW : (rest.map fun v => v.category).sum ≤ 8) (hd : decode cc pc = .ok (.invokevirtual 140, 3)) (kk : gz_V cS X G nL rem m9 (pc + 3) lv (.ref (gz_ad G r) :: rest)) : gz_V cS X G nL (rem.1 + (gZ m9 - gZ m), rem.2 + (gW m9 - gW m)) m pc lv st0 :=
  gz_callX hX cs_E (As := [.int x1]) (rest := rest) (q := (RX2, TX2, 8)) (ci := 2) (c := 1011) (ct_X2_all (l := X.2.1) h) (lw_V q613 q614 q615 q172 q616) (n := 1) (by decide +kernel) hroom rfl rfl (by decide) hK hst hW hd (rem := rem) (fun rv e => by obtain rfl := Option.some.inj e; exact kk) (fun e => by simp at e)
theorem cc_X0_140x {X : gz_X} {G : gz_G} {cc : ByteArray} {nL fr lo pc : Nat} {rem : Nat × Nat} {lv : List (Nat × Value)} {rest st0 : List Value} (hX : gz_C cS X G cc nL RX0 fr lo) {x1 : Int32} {m m9 : gM} (hK : clc m.1 m.2.1 m.2.2.2.2.1 → m.1 1011 = 2 + 1)  (h : cf_X2_all x1 m = some (none, m9)) (hroom : 148 + 1 ≤ fr ∧ 8 + (3 + 11) + 5085 ≤ lo) (hst : st0 = [.int x1, .ref (gz_ad G 1011)] ++ rest) (hW : (rest.map fun v => v.category).sum ≤ 8) (hd : decode cc pc = .ok (.invokevirtual 140, 3)) (kk : gz_VX cS X G nL rem m9 pc lv) : gz_V cS X G nL (rem.1 + (gZ m9 - gZ m), rem.2 + (gW m9 - gW m)) m pc lv st0 :=
  gz_callX hX cs_E (As := [.int x1]) (rest := rest) (q := (RX2, TX2, 8)) (ci := 2) (c := 1011) (ct_X2_all (l := X.2.1) h) (lw_V q613 q614 q615 q172 q616) (n := 1) (by decide +kernel) hroom rfl rfl (by decide) hK hst hW hd (rem := rem) (fun rv e => by simp at e) (fun _ => kk)
theorem cp_X0_31_0 {X : gz_X} {G : gz_G} {cc : ByteArray} {nL fr lo pc : Nat} {rem : Nat × Nat} {m m9 : gM} {lv : List (Nat × Value)} {st : List Value} (hX : gz_C cS X G cc nL RX0 fr lo) {c : Nat} {r : Nat} (hK : clc m.1 m.2.1 m.2.2.2.2.1 → m.1 c = 0 + 1) (hw : 1000 ≤ c) (hs : sr c 0 = 0 ∧ r ≠ 0) (hd : decode cc pc = .ok (.putfield 31, 3)) (hm : m9 = gz_sP m c 0 r) (kk : gz_V cS X G nL rem m9 (pc + 3) lv st) : gz_V cS X G nL rem m pc lv (.ref (gz_ad G r) :: .ref (gz_ad G c) :: st) := by
  subst hm
  exact gz_putf hX (C := RX0) (T := TX0) (N := 28) (ci := 0) (k := 0) (μ' := gz_sP m c 0 r) (v := .ref (gz_ad G r)) rfl (by decide) in_X0 tyX0 tyX0_ok nmX0 (by decide) (Or.inl (hX.2.2.2.2.1 _ q500)) rfl rfl rfl rfl hd hK hw rfl rfl rfl (fun d tc j h => gz_sP_o d tc j h) (by intro j; rw [← gz_rfp hs.2]; exact gz_sP_v (fun j => ftC 0 j) rfl j) (clc_sP hs.1) kk
theorem cc_X0_81 {X : gz_X} {G : gz_G} {cc : ByteArray} {nL fr lo pc : Nat} {rem : Nat × Nat} {lv : List (Nat × Value)} {rest st0 : List Value} (hX : gz_C cS X G cc nL RX0 fr lo)  {m m9 : gM} (hK : clc m.1 m.2.1 m.2.2.2.2.1 → m.1 1000 = 0 + 1)  (h : cf_X0_reckonsWays  m = some ((), m9)) (hroom : 3 + 1 ≤ fr ∧ 8 + (4 + 11) + 64 ≤ lo) (hst : st0 = [.ref (gz_ad G 1000)] ++ rest) (hW : (rest.map fun v => v.category).sum ≤ 8) (hd : decode cc pc = .ok (.invokevirtual 81, 3)) (kk : gz_V cS X G nL rem m9 (pc + 3) lv (rest)) : gz_V cS X G nL rem m pc lv st0 :=
  gz_callV2 hX cs_E (As := []) (rest := rest) (q := (RX0, TX0, 28)) (ci := 0) (c := 1000) (ct_X0_reckonsWays (l := X.2.1) h) (lw_V q458 q460 qs1 q167 q461) (n := 0) (by decide +kernel) hroom rfl rfl (by decide) hK hst hW hd (rem := rem) kk
theorem cc_X0_152 {X : gz_X} {G : gz_G} {cc : ByteArray} {nL fr lo pc : Nat} {rem : Nat × Nat} {lv : List (Nat × Value)} {rest st0 : List Value} (hX : gz_C cS X G cc nL RX0 fr lo) {c0 : Nat} {m m9 : gM} (hK : clc m.1 m.2.1 m.2.2.2.2.1 → m.1 c0 = 5 + 1) (hs_c0 : cSt c0 = true) (h : cf_X5_begins c0 m = some ((), m9)) (hroom : 4 + 1 ≤ fr ∧ 8 + (2 + 11) + 85 ≤ lo) (hst : st0 = [.ref (gz_ad G c0)] ++ rest) (hW : (rest.map fun v => v.category).sum ≤ 8) (hd : decode cc pc = .ok (.invokevirtual 152, 3)) (kk : gz_V cS X G nL rem m9 (pc + 3) lv (rest)) : gz_V cS X G nL rem m pc lv st0 :=
  gz_callV2 hX cs_E (As := []) (rest := rest) (q := (RX5, TX5, 10)) (ci := 5) (c := c0) (ct_X5_begins (l := X.2.1) hs_c0 h) (lw_V q1297 q1298 q1299 q178 q1300) (n := 0) (by decide +kernel) hroom rfl rfl (by decide) hK hst hW hd (rem := rem) kk
theorem cg_X0_161_1 {X : gz_X} {G : gz_G} {cc : ByteArray} {nL fr lo pc : Nat} {rem : Nat × Nat} {m : gM} {lv : List (Nat × Value)} {st : List Value} (hX : gz_C cS X G cc nL RX0 fr lo) {c : Nat} {v : Value} (hK : clc m.1 m.2.1 m.2.2.2.2.1 → m.1 c = 1 + 1) (hv : clc m.1 m.2.1 m.2.2.2.2.1 → gz_u (gz_ad G) m (ftC 1 0) c 0 = v) (hd : decode cc pc = .ok (.getfield 161, 3)) (kk : gz_V cS X G nL rem m (pc + 3) lv (v :: st)) : gz_V cS X G nL rem m pc lv (.ref (gz_ad G c) :: st) :=
  gz_getf hX (C := RX1) (T := TX1) (N := 9) (ci := 1) (k := 0) rfl (by decide) in_X1 (by decide) (Or.inr ⟨_, va_Nw.use rfl (cz_n (Z := cS) hX q250 rfl)⟩) hd hK hv kk
/-! FirstSnuffer.household()I -/
noncomputable def cf_X0_household  (m : gM) : Option (Int32 × gM) :=
  gz_let (gz_sI m 1000 3 (0 : Int32)) fun m1 => gz_let (gz_sI m1 1000 4 (-1 : Int32)) fun m2 => ((cf_X0_tapeTaken m2).bind fun (r3, m4) => (if m4.2.2.2.2.2 = m2.2.2.2.2.2 then ((cf_X2_all r3 m4).bind fun (o10, m8) => (if gZ m4 ≤ gZ m8 ∧ gW m4 ≤ gW m8 then gx_o o10 (fun r7 => (if sr 1000 0 = 0 ∧ r7 ≠ 0 then gz_let (gz_sP m8 1000 0 r7) fun m19 => ((cf_X0_reckonsWays m19).bind fun (_, m21) => (if m21.2.2.2.2.2 = m19.2.2.2.2.2 then ((cf_X5_begins 1027 m21).bind fun (_, m25) => (if m25.2.2.2.2.2 = m21.2.2.2.2.2 then gz_let (gz_sI m25 1000 23 (0 : Int32)) fun m28 => gz_let (gz_sI m28 1000 20 (0 : Int32)) fun m29 => gz_let (gP m29 1000 0) fun r30 => (if r30 ≠ 0 then (if gK m29 r30 = 2 then some ((gI m29 r30 0), m29) else none) else none) else none)) else none)) else none)) (gz_let (gz_sI m8 1000 3 (gI m8 1012 6)) fun m12 => gz_let (gz_sI m12 1000 4 (gI m12 1012 7)) fun m13 => ((cf_X0_refuses (1 : Int32) m13).bind fun (r14, m15) => (if m15.2.2.2.2.2 = m13.2.2.2.2.2 then some (r14, m15) else none))) else none)) else none))
theorem wm_X0_household {X : gz_X} {G : gz_G} {zE : Nat × Nat} (hX : gz_C cS X G cX0_household 2 RX0 149 5107) (hT : X.2.2.2.2.2.2.2.2.2.1.exceptionTable.toList = tableOf [(10, 25, 28, 144)])   {m : gM} {z : (Int32 × gM)} (h : cf_X0_household  m = some z) (hk : (fun z : (Int32 × gM) => gz_kIa cS X G 2 zE cX0_household z.2 z.1) z) : gz_Va cS X G 2 zE m 0 [(0, .ref (gz_ad G 1000))] [] := by
  unfold cf_X0_household at h
  refine gz_Vs (fun _ kk => gz_aload_n (pc := 0) hX dX0_household_0 rfl 0 rfl kk) rfl ?_
  refine gz_Vs (fun _ kk => gz_iconst (pc := 1) (v := (0 : Int32)) hX dX0_household_1 (by decide) kk) rfl ?_
  obtain ⟨m1, em1, h⟩ := gz_lt h
  refine gz_Vs (fun _ kk => cp_X0_133_0 (pc := 2) hX (c := 1000) (fun h => cz_k h rfl) (Nat.le_of_ble_eq_true rfl) dX0_household_2 em1 kk) (by rw [em1]; rfl) ?_
  refine gz_Vs (fun _ kk => gz_aload_n (pc := 5) hX dX0_household_5 rfl 0 rfl kk) rfl ?_
  refine gz_Vs (fun _ kk => gz_iconst (pc := 6) (v := (-1 : Int32)) hX dX0_household_6 (by decide) kk) rfl ?_
  obtain ⟨m2, em2, h⟩ := gz_lt h
  refine gz_Vs (fun _ kk => cp_X0_39_0 (pc := 7) hX (c := 1000) (fun h => cz_k h rfl) (Nat.le_of_ble_eq_true rfl) dX0_household_7 em2 kk) (by rw [em2]; rfl) ?_
  refine gz_Vs (fun _ kk => gz_aload_n (pc := 10) hX dX0_household_10 rfl 0 rfl kk) rfl ?_
  refine gz_Vs (fun _ kk => gz_aload_n (pc := 11) hX dX0_household_11 rfl 0 rfl kk) rfl ?_
  refine gz_Vs (fun _ kk => cg_X0_48_0 (pc := 12) hX (c := 1000) (v := .ref (gz_ad G 1011)) (fun h => cz_k h rfl) (fun h => cz_f h (by decide) rfl (by decide) rfl) dX0_household_12 kk) rfl ?_
  refine gz_Vs (fun _ kk => gz_aload_n (pc := 15) hX dX0_household_15 rfl 0 rfl kk) rfl ?_
  obtain ⟨⟨r3, m4⟩, c5, h⟩ := gz_bd h
  obtain ⟨g6, h⟩ := gz_gu h
  refine gz_Vs (fun _ kk => cc_X0_136 (pc := 16) hX (fun h => cz_k h rfl) c5 ⟨Nat.le_of_ble_eq_true rfl, Nat.le_of_ble_eq_true rfl⟩ (rest := [.ref (gz_ad G 1011), .ref (gz_ad G 1000)]) rfl (Nat.le_of_ble_eq_true rfl) dX0_household_16 kk) g6 ?_
  obtain ⟨⟨o10, m8⟩, c9, h⟩ := gz_bd h
  obtain ⟨g11, h⟩ := gz_gu h
  cases o10 with
  | none =>
    replace h := gx_on h
    refine gz_Vcx (k := gZ m8 - gZ m4) (n := gW m8 - gW m4) (fun _ kk => cc_X0_140x (pc := 19) hX (fun h => cz_k h rfl) c9 ⟨Nat.le_of_ble_eq_true rfl, Nat.le_of_ble_eq_true rfl⟩ (rest := [.ref (gz_ad G 1000)]) rfl (Nat.le_of_ble_eq_true rfl) dX0_household_19 kk) ⟨by have := g11.1; dsimp only [gZ] at *; omega, by have := g11.2; dsimp only [gW] at *; omega⟩ ?_
    refine gz_catcha hX hT (by decide) rfl rfl q608 (va_Nw.use rfl (cz_n (Z := cS) hX q299 rfl)) (fun h => cz_k (c := 1012) (k := 3) h rfl) ?_
    refine gz_Vs (fun _ kk => gz_astore_n (pc := 28) (lw := [(1, .ref (gz_ad G 1012)), (0, .ref (gz_ad G 1000))]) hX dX0_household_28 rfl (by decide) rfl kk) rfl ?_
    refine gz_Vs (fun _ kk => gz_aload_n (pc := 29) hX dX0_household_29 rfl 1 rfl kk) rfl ?_
    refine gz_Vs (fun _ kk => gz_aload_n (pc := 30) hX dX0_household_30 rfl 0 rfl kk) rfl ?_
    refine gz_Vs (fun _ kk => cg_X0_146_3 (pc := 31) hX (c := 1012) (v := .int (gI m8 1012 6)) (fun h => cz_k h rfl) (fun _ => rfl) dX0_household_31 kk) rfl ?_
    obtain ⟨m12, em12, h⟩ := gz_lt h
    refine gz_Vs (fun _ kk => cp_X0_133_0 (pc := 34) hX (c := 1000) (fun h => cz_k h rfl) (Nat.le_of_ble_eq_true rfl) dX0_household_34 em12 kk) (by rw [em12]; rfl) ?_
    refine gz_Vs (fun _ kk => gz_aload_n (pc := 37) hX dX0_household_37 rfl 1 rfl kk) rfl ?_
    refine gz_Vs (fun _ kk => gz_aload_n (pc := 38) hX dX0_household_38 rfl 0 rfl kk) rfl ?_
    refine gz_Vs (fun _ kk => cg_X0_149_3 (pc := 39) hX (c := 1012) (v := .int (gI m12 1012 7)) (fun h => cz_k h rfl) (fun _ => rfl) dX0_household_39 kk) rfl ?_
    obtain ⟨m13, em13, h⟩ := gz_lt h
    refine gz_Vs (fun _ kk => cp_X0_39_0 (pc := 42) hX (c := 1000) (fun h => cz_k h rfl) (Nat.le_of_ble_eq_true rfl) dX0_household_42 em13 kk) (by rw [em13]; rfl) ?_
    refine gz_Vs (fun _ kk => gz_aload_n (pc := 45) hX dX0_household_45 rfl 1 rfl kk) rfl ?_
    refine gz_Vs (fun _ kk => gz_iconst (pc := 46) (v := (1 : Int32)) hX dX0_household_46 (by decide) kk) rfl ?_
    obtain ⟨⟨r14, m15⟩, c16, h⟩ := gz_bd h
    obtain ⟨g17, h⟩ := gz_gu h
    refine gz_Vs (fun _ kk => cc_X0_125 (pc := 47) hX (fun h => cz_k h rfl) c16 ⟨Nat.le_of_ble_eq_true rfl, Nat.le_of_ble_eq_true rfl⟩ (rest := []) rfl (Nat.le_of_ble_eq_true rfl) dX0_household_47 kk) g17 ?_
    obtain rfl := Option.some.inj h
    exact hk _ _ dX0_household_50
  | some r7 =>
    replace h := gx_os h
    refine gz_Vc (k := gZ m8 - gZ m4) (n := gW m8 - gW m4) (fun _ kk => cc_X0_140 (pc := 19) hX (fun h => cz_k h rfl) c9 ⟨Nat.le_of_ble_eq_true rfl, Nat.le_of_ble_eq_true rfl⟩ (rest := [.ref (gz_ad G 1000)]) rfl (Nat.le_of_ble_eq_true rfl) dX0_household_19 kk) ⟨by have := g11.1; dsimp only [gZ] at *; omega, by have := g11.2; dsimp only [gW] at *; omega⟩ ?_
    obtain ⟨g18, h⟩ := gz_gu h
    obtain ⟨m19, em19, h⟩ := gz_lt h
    refine gz_Vs (fun _ kk => cp_X0_31_0 (pc := 22) hX (c := 1000) (fun h => cz_k h rfl) (Nat.le_of_ble_eq_true rfl) g18 dX0_household_22 em19 kk) (by rw [em19]; rfl) ?_
    refine gz_Vs (fun _ kk => gz_goto (pc := 25) (tgt := 51) hX dX0_household_25 (by decide) kk) rfl ?_
    refine gz_Vs (fun _ kk => gz_aload_n (pc := 51) hX dX0_household_51 rfl 0 rfl kk) rfl ?_
    obtain ⟨⟨⟨⟩, m21⟩, c22, h⟩ := gz_bd h
    obtain ⟨g23, h⟩ := gz_gu h
    refine gz_Vs (fun _ kk => cc_X0_81 (pc := 52) hX (fun h => cz_k h rfl) c22 ⟨Nat.le_of_ble_eq_true rfl, Nat.le_of_ble_eq_true rfl⟩ (rest := []) rfl (Nat.le_of_ble_eq_true rfl) dX0_household_52 kk) g23 ?_
    refine gz_Vs (fun _ kk => gz_aload_n (pc := 55) hX dX0_household_55 rfl 0 rfl kk) rfl ?_
    refine gz_Vs (fun _ kk => cg_X0_74_0 (pc := 56) hX (c := 1000) (v := .ref (gz_ad G 1027)) (fun h => cz_k h rfl) (fun h => cz_f h (by decide) rfl (by decide) rfl) dX0_household_56 kk) rfl ?_
    obtain ⟨⟨⟨⟩, m25⟩, c26, h⟩ := gz_bd h
    obtain ⟨g27, h⟩ := gz_gu h
    refine gz_Vs (fun _ kk => cc_X0_152 (pc := 59) hX (fun h => cz_k h rfl) (by decide) c26 ⟨Nat.le_of_ble_eq_true rfl, Nat.le_of_ble_eq_true rfl⟩ (rest := []) rfl (Nat.le_of_ble_eq_true rfl) dX0_household_59 kk) g27 ?_
    refine gz_Vs (fun _ kk => gz_aload_n (pc := 62) hX dX0_household_62 rfl 0 rfl kk) rfl ?_
    refine gz_Vs (fun _ kk => gz_iconst (pc := 63) (v := (0 : Int32)) hX dX0_household_63 (by decide) kk) rfl ?_
    obtain ⟨m28, em28, h⟩ := gz_lt h
    refine gz_Vs (fun _ kk => cp_X0_155_0 (pc := 64) hX (c := 1000) (fun h => cz_k h rfl) (Nat.le_of_ble_eq_true rfl) dX0_household_64 em28 kk) (by rw [em28]; rfl) ?_
    refine gz_Vs (fun _ kk => gz_aload_n (pc := 67) hX dX0_household_67 rfl 0 rfl kk) rfl ?_
    refine gz_Vs (fun _ kk => gz_iconst (pc := 68) (v := (0 : Int32)) hX dX0_household_68 (by decide) kk) rfl ?_
    obtain ⟨m29, em29, h⟩ := gz_lt h
    refine gz_Vs (fun _ kk => cp_X0_158_0 (pc := 69) hX (c := 1000) (fun h => cz_k h rfl) (Nat.le_of_ble_eq_true rfl) dX0_household_69 em29 kk) (by rw [em29]; rfl) ?_
    refine gz_Vs (fun _ kk => gz_aload_n (pc := 72) hX dX0_household_72 rfl 0 rfl kk) rfl ?_
    obtain ⟨r30, er30, h⟩ := gz_lt h
    obtain ⟨g31, h⟩ := gz_gu h
    refine gz_Vs (fun _ kk => cg_X0_31_0 (pc := 73) hX (c := 1000) (v := .ref (gz_ad G r30)) (fun h => cz_k h rfl) (fun _ => gz_rq er30 g31) dX0_household_73 kk) rfl ?_
    obtain ⟨g32, h⟩ := gz_gu h
    refine gz_Vs (fun _ kk => cg_X0_161_1 (pc := 76) hX (c := r30) (v := .int (gI m29 r30 0)) (fun _ => g32) (fun _ => rfl) dX0_household_76 kk) rfl ?_
    obtain rfl := Option.some.inj h
    exact hk _ _ dX0_household_79
theorem ct_X0_household {G : gz_G} {l : Launch}   {m m9 : gM} {r : Int32} (h : cf_X0_household  m = some (r, m9)) : gw_Met cS G l yX0_household cX0_household 2 (some .int) [(10, 25, 28, 144)] (mRc 149 5107 (gZ m9 - gZ m) (gW m9 - gW m)) [.ref (gz_ad G 1000)] m m9 (some (.int r)) :=
  gw_ofI (by decide +kernel) (Nat.le_of_ble_eq_true rfl) fun X _ hT hX hk => (wm_X0_household (zE := m9.2.2.2.2.2) hX hT h (fun pc lv hd => gz_Ve (hk pc lv hd))).2
