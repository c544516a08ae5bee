set_option maxRecDepth 100000
theorem cc_X0_263 {X : gz_X} {G : gz_G} {cc : ByteArray} {nL fr lo pc : Nat} {rem : Nat × Nat} {lv : List (Nat × Value)} {rest st0 : List Value} (hX : gz_C cS X G cc nL RX0 fr lo) {x1 : Int32} {m m9 : gM} (hK : clc m.1 m.2.1 m.2.2.2.2.1 → m.1 1000 = 0 + 1)  {r : Int32} (h : cf_X0_isTie x1 m = some (r, m9)) (hroom : 2 + 1 ≤ fr ∧ 8 + (2 + 11) + 40 ≤ lo) (hst : st0 = [.int x1, .ref (gz_ad G 1000)] ++ rest) (hW : (rest.map fun v => v.category).sum ≤ 8) (hd : decode cc pc = .ok (.invokevirtual 263, 3)) (kk : gz_V cS X G nL rem m9 (pc + 3) lv (.int r :: rest)) : gz_V cS X G nL rem m pc lv st0 :=
  gz_callV2 hX cs_E (As := [.int x1]) (rest := rest) (q := (RX0, TX0, 28)) (ci := 0) (c := 1000) (ct_X0_isTie (l := X.2.1) h) (lw_V q1488 q1490 qs47 q167 q1491) (n := 1) (by decide +kernel) hroom rfl rfl (by decide) hK hst hW hd (rem := rem) kk
theorem cg_X0_225_5 {X : gz_X} {G : gz_G} {cc : ByteArray} {nL fr lo pc : Nat} {rem : Nat × Nat} {m : gM} {lv : List (Nat × Value)} {st : List Value} (hX : gz_C cS X G cc nL RX0 fr lo) {c : Nat} {v : Value} (hK : clc m.1 m.2.1 m.2.2.2.2.1 → m.1 c = 5 + 1) (hv : clc m.1 m.2.1 m.2.2.2.2.1 → gz_u (gz_ad G) m (ftC 5 3) c 3 = v) (hd : decode cc pc = .ok (.getfield 225, 3)) (kk : gz_V cS X G nL rem m (pc + 3) lv (v :: st)) : gz_V cS X G nL rem m pc lv (.ref (gz_ad G c) :: st) :=
  gz_getf hX (C := RX5) (T := TX5) (N := 10) (ci := 5) (k := 3) rfl (by decide) in_X5 (by decide) (Or.inr ⟨_, va_Nw.use rfl (cz_n (Z := cS) hX q425 rfl)⟩) hd hK hv kk
theorem cc_X0_360 {X : gz_X} {G : gz_G} {cc : ByteArray} {nL fr lo pc : Nat} {rem : Nat × Nat} {lv : List (Nat × Value)} {rest st0 : List Value} (hX : gz_C cS X G cc nL RX0 fr lo)  {m m9 : gM} (hK : clc m.1 m.2.1 m.2.2.2.2.1 → m.1 1000 = 0 + 1)  (h : cf_X0_remembers  m = some ((), m9)) (hroom : 1 + 1 ≤ fr ∧ 8 + (3 + 11) + 23 ≤ lo) (hst : st0 = [.ref (gz_ad G 1000)] ++ rest) (hW : (rest.map fun v => v.category).sum ≤ 8) (hd : decode cc pc = .ok (.invokevirtual 360, 3)) (kk : gz_V cS X G nL rem m9 (pc + 3) lv (rest)) : gz_V cS X G nL rem m pc lv st0 :=
  gz_callV2 hX cs_E (As := []) (rest := rest) (q := (RX0, TX0, 28)) (ci := 0) (c := 1000) (ct_X0_remembers (l := X.2.1) h) (lw_V q1652 q1654 qs63 q167 q1655) (n := 0) (by decide +kernel) hroom rfl rfl (by decide) hK hst hW hd (rem := rem) kk
theorem cp_X0_225_5 {X : gz_X} {G : gz_G} {cc : ByteArray} {nL fr lo pc : Nat} {rem : Nat × Nat} {m m9 : gM} {lv : List (Nat × Value)} {st : List Value} (hX : gz_C cS X G cc nL RX0 fr lo) {c : Nat} {x : Int32} (hK : clc m.1 m.2.1 m.2.2.2.2.1 → m.1 c = 5 + 1) (hw : 1000 ≤ c) (hd : decode cc pc = .ok (.putfield 225, 3)) (hm : m9 = gz_sI m c 3 x) (kk : gz_V cS X G nL rem m9 (pc + 3) lv st) : gz_V cS X G nL rem m pc lv (.int x :: .ref (gz_ad G c) :: st) := by
  subst hm
  exact gz_putf hX (C := RX5) (T := TX5) (N := 10) (ci := 5) (k := 3) (ty := .int) (μ' := gz_sI m c 3 x) rfl (by decide) in_X5 tyX5 tyX5_ok nmX5 (by decide) (Or.inr ⟨_, va_Nw.use rfl (cz_n (Z := cS) hX q425 rfl)⟩) rfl rfl rfl rfl hd hK hw rfl rfl rfl (fun d tc j h => gz_sI_o d tc j h) (gz_sI_v (fun j => ftC 5 j) rfl) (fun h => h) kk
/-! FirstSnuffer.bind(II)Z -/
noncomputable def mj_X0_bind_41  (m : gM) : Option (Int32 × gM) :=
  ((cf_X0_refuses (2 : Int32) m).bind fun (r1, m2) => (if r1 < (0 : Int32) then some ((0 : Int32), m2) else some ((1 : Int32), m2)))
theorem wb_X0_bind_41 {X : gz_X} {G : gz_G} (hX : gz_C cS X G cX0_bind 3 RX0 3 61)   {m : gM} {z : (Int32 × gM)} (h : mj_X0_bind_41  m = some z) (hk : (fun z : (Int32 × gM) => gz_kZ cS X G 3 (0, 0) cX0_bind z.2 z.1) z) : gz_V cS X G 3 (0, 0) m 41 [(0, .ref (gz_ad G 1000))] [] := by
  unfold mj_X0_bind_41 at h
  refine gz_aload_n (pc := 41) hX dX0_bind_41 rfl 0 rfl ?_
  refine gz_iconst (pc := 42) (v := (2 : Int32)) hX dX0_bind_42 (by decide) ?_
  obtain ⟨⟨r1, m2⟩, c3, h⟩ := gz_bd h
  refine cc_X0_125 (pc := 43) hX (fun h => cz_k h rfl) c3 ⟨Nat.le_of_ble_eq_true rfl, Nat.le_of_ble_eq_true rfl⟩ (rest := []) rfl (Nat.le_of_ble_eq_true rfl) dX0_bind_43 ?_
  refine gz_if_lt (pc := 46) (tgt := 53) hX dX0_bind_46 (by decide) (fun g4 => ?_) (fun g4 => ?_)
  · replace h := gz_it' g4 h
    refine gz_iconst (pc := 53) (v := (0 : Int32)) hX dX0_bind_53 (by decide) ?_
    obtain rfl := Option.some.inj h
    exact hk _ _ dX0_bind_54 (Or.inl rfl)
  · replace h := gz_if' g4 h
    refine gz_iconst (pc := 49) (v := (1 : Int32)) hX dX0_bind_49 (by decide) ?_
    refine gz_goto (pc := 50) (tgt := 54) hX dX0_bind_50 (by decide) ?_
    obtain rfl := Option.some.inj h
    exact hk _ _ dX0_bind_54 (Or.inr rfl)
noncomputable def mj_X0_bind_38 (x1 : Int32) (s0 : Int32) (s1 : Int32) (m : gM) : Option (Int32 × gM) :=
  (if s1 = s0 then (mj_X0_bind_41  m) else ((cf_X0_remembers m).bind fun (_, m3) => gz_let (gz_sI m3 1027 3 ((gI m3 1027 3) ^^^ ((1 : Int32) <<< (x1 &&& 31)))) fun m5 => some ((1 : Int32), m5)))
theorem wb_X0_bind_38 {X : gz_X} {G : gz_G} (hX : gz_C cS X G cX0_bind 3 RX0 3 61) {x1 : Int32} {s0 : Int32} {s1 : Int32}  {m : gM} {z : (Int32 × gM)} (h : mj_X0_bind_38 x1 s0 s1 m = some z) (hk : (fun z : (Int32 × gM) => gz_kZ cS X G 3 (0, 0) cX0_bind z.2 z.1) z) : gz_V cS X G 3 (0, 0) m 38 [(0, .ref (gz_ad G 1000)), (1, .int x1)] [.int s0, .int s1] := by
  unfold mj_X0_bind_38 at h
  refine gz_icmp_ne (pc := 38) (tgt := 55) hX dX0_bind_38 (by decide) (fun g1 => ?_) (fun g1 => ?_)
  · replace h := gz_if' g1 h
    refine gz_aload_n (pc := 55) hX dX0_bind_55 rfl 0 rfl ?_
    obtain ⟨⟨⟨⟩, m3⟩, c4, h⟩ := gz_bd h
    refine cc_X0_360 (pc := 56) hX (fun h => cz_k h rfl) c4 ⟨Nat.le_of_ble_eq_true rfl, Nat.le_of_ble_eq_true rfl⟩ (rest := []) rfl (Nat.le_of_ble_eq_true rfl) dX0_bind_56 ?_
    refine gz_aload_n (pc := 59) hX dX0_bind_59 rfl 0 rfl ?_
    refine cg_X0_74_0 (pc := 60) hX (c := 1000) (v := .ref (gz_ad G 1027)) (fun h => cz_k h rfl) (fun h => cz_f h (by decide) rfl (by decide) rfl) dX0_bind_60 ?_
    refine gz_dup (pc := 63) hX dX0_bind_63 rfl ?_
    refine cg_X0_225_5 (pc := 64) hX (c := 1027) (v := .int (gI m3 1027 3)) (fun h => cz_k h rfl) (fun _ => rfl) dX0_bind_64 ?_
    refine gz_iconst (pc := 67) (v := (1 : Int32)) hX dX0_bind_67 (by decide) ?_
    refine gz_iload_n (pc := 68) hX dX0_bind_68 rfl 1 rfl ?_
    refine gz_ishl (pc := 69) hX dX0_bind_69 ?_
    refine gz_ixor (pc := 70) hX dX0_bind_70 ?_
    obtain ⟨m5, em5, h⟩ := gz_lt h
    refine cp_X0_225_5 (pc := 71) hX (c := 1027) (fun h => cz_k h rfl) (Nat.le_of_ble_eq_true rfl) dX0_bind_71 em5 ?_
    refine gz_iconst (pc := 74) (v := (1 : Int32)) hX dX0_bind_74 (by decide) ?_
    obtain rfl := Option.some.inj h
    exact hk _ _ dX0_bind_75 (Or.inr rfl)
  · replace h := gz_it' g1 h
    refine gz_sub (lw := [(0, .ref (gz_ad G 1000))]) [0] rfl ?_
    exact wb_X0_bind_41 hX h hk
noncomputable def cf_X0_bind (x1 : Int32) (x2 : Int32) (m : gM) : Option (Int32 × gM) :=
  ((cf_X0_isTie x1 m).bind fun (r1, m2) => (if r1 = (0 : Int32) then (mj_X0_bind_41  m2) else ((cf_X0_is x2 (0 : Int32) (1 : Int32) m2).bind fun (r5, m6) => (if r5 = (0 : Int32) then (mj_X0_bind_41  m6) else ((cf_X0_has (gI m6 1027 3) x1 m6).bind fun (r9, m10) => (if x2 = (1 : Int32) then (mj_X0_bind_38 x1 (1 : Int32) r9 m10) else (mj_X0_bind_38 x1 (0 : Int32) r9 m10)))))))
theorem wm_X0_bind {X : gz_X} {G : gz_G} (hX : gz_C cS X G cX0_bind 3 RX0 3 61) {x1 : Int32} {x2 : Int32}  {m : gM} {z : (Int32 × gM)} (h : cf_X0_bind x1 x2 m = some z) (hk : (fun z : (Int32 × gM) => gz_kZ cS X G 3 (0, 0) cX0_bind z.2 z.1) z) : gz_V cS X G 3 (0, 0) m 0 [(0, .ref (gz_ad G 1000)), (1, .int x1), (2, .int x2)] [] := by
  unfold cf_X0_bind at h
  refine gz_aload_n (pc := 0) hX dX0_bind_0 rfl 0 rfl ?_
  refine gz_iload_n (pc := 1) hX dX0_bind_1 rfl 1 rfl ?_
  obtain ⟨⟨r1, m2⟩, c3, h⟩ := gz_bd h
  refine cc_X0_263 (pc := 2) hX (fun h => cz_k h rfl) c3 ⟨Nat.le_of_ble_eq_true rfl, Nat.le_of_ble_eq_true rfl⟩ (rest := []) rfl (Nat.le_of_ble_eq_true rfl) dX0_bind_2 ?_
  refine gz_if_eq (pc := 5) (tgt := 41) hX dX0_bind_5 (by decide) (fun g4 => ?_) (fun g4 => ?_)
  · replace h := gz_it' g4 h
    refine gz_sub (lw := [(0, .ref (gz_ad G 1000))]) [0] rfl ?_
    exact wb_X0_bind_41 hX h hk
  · replace h := gz_if' g4 h
    refine gz_iload_n (pc := 8) hX dX0_bind_8 rfl 2 rfl ?_
    refine gz_iconst (pc := 9) (v := (0 : Int32)) hX dX0_bind_9 (by decide) ?_
    refine gz_iconst (pc := 10) (v := (1 : Int32)) hX dX0_bind_10 (by decide) ?_
    obtain ⟨⟨r5, m6⟩, c7, h⟩ := gz_bd h
    refine cc_X0_231 (pc := 11) hX c7 ⟨Nat.le_of_ble_eq_true rfl, Nat.le_of_ble_eq_true rfl⟩ (rest := []) rfl (Nat.le_of_ble_eq_true rfl) dX0_bind_11 ?_
    refine gz_if_eq (pc := 14) (tgt := 41) hX dX0_bind_14 (by decide) (fun g8 => ?_) (fun g8 => ?_)
    · replace h := gz_it' g8 h
      refine gz_sub (lw := [(0, .ref (gz_ad G 1000))]) [0] rfl ?_
      exact wb_X0_bind_41 hX h hk
    · replace h := gz_if' g8 h
      refine gz_aload_n (pc := 17) hX dX0_bind_17 rfl 0 rfl ?_
      refine cg_X0_74_0 (pc := 18) hX (c := 1000) (v := .ref (gz_ad G 1027)) (fun h => cz_k h rfl) (fun h => cz_f h (by decide) rfl (by decide) rfl) dX0_bind_18 ?_
      refine cg_X0_225_5 (pc := 21) hX (c := 1027) (v := .int (gI m6 1027 3)) (fun h => cz_k h rfl) (fun _ => rfl) dX0_bind_21 ?_
      refine gz_iload_n (pc := 24) hX dX0_bind_24 rfl 1 rfl ?_
      obtain ⟨⟨r9, m10⟩, c11, h⟩ := gz_bd h
      refine cc_X0_276 (pc := 25) hX c11 ⟨Nat.le_of_ble_eq_true rfl, Nat.le_of_ble_eq_true rfl⟩ (rest := []) rfl (Nat.le_of_ble_eq_true rfl) dX0_bind_25 ?_
      refine gz_iload_n (pc := 28) hX dX0_bind_28 rfl 2 rfl ?_
      refine gz_iconst (pc := 29) (v := (1 : Int32)) hX dX0_bind_29 (by decide) ?_
      refine gz_icmp_ne (pc := 30) (tgt := 37) hX dX0_bind_30 (by decide) (fun g12 => ?_) (fun g12 => ?_)
      · replace h := gz_if' g12 h
        refine gz_iconst (pc := 37) (v := (0 : Int32)) hX dX0_bind_37 (by decide) ?_
        refine gz_sub (lw := [(0, .ref (gz_ad G 1000)), (1, .int x1)]) [0, 1] rfl ?_
        exact wb_X0_bind_38 hX h hk
      · replace h := gz_it' g12 h
        refine gz_iconst (pc := 33) (v := (1 : Int32)) hX dX0_bind_33 (by decide) ?_
        refine gz_goto (pc := 34) (tgt := 38) hX dX0_bind_34 (by decide) ?_
        refine gz_sub (lw := [(0, .ref (gz_ad G 1000)), (1, .int x1)]) [0, 1] rfl ?_
        exact wb_X0_bind_38 hX h hk
theorem ct_X0_bind {G : gz_G} {l : Launch} {x1 : Int32} {x2 : Int32}  {m m9 : gM} {r : Int32} (h : cf_X0_bind x1 x2 m = some (r, m9)) : gz_Met cS G l yX0_bind cX0_bind 3 (some .boolean) (mRm 3 61) [.ref (gz_ad G 1000), .int x1, .int x2] m m9 (some (.int r)) :=
  gz_ofZ (by decide +kernel) (Nat.le_of_ble_eq_true rfl) fun X _ hX hk => wm_X0_bind hX h hk
theorem cc_X0_405 {X : gz_X} {G : gz_G} {cc : ByteArray} {nL fr lo pc : Nat} {rem : Nat × Nat} {lv : List (Nat × Value)} {rest st0 : List Value} (hX : gz_C cS X G cc nL RX0 fr lo) {x1 : Int32} {m m9 : gM} (hK : clc m.1 m.2.1 m.2.2.2.2.1 → m.1 1000 = 0 + 1)  (h : cf_X0_writes x1 m = some ((), m9)) (hroom : 0 + 1 ≤ fr ∧ 8 + (2 + 11) + 0 ≤ lo) (hst : st0 = [.int x1, .ref (gz_ad G 1000)] ++ rest) (hW : (rest.map fun v => v.category).sum ≤ 8) (hd : decode cc pc = .ok (.invokevirtual 405, 3)) (kk : gz_V cS X G nL rem m9 (pc + 3) lv (rest)) : gz_V cS X G nL rem m pc lv st0 :=
  gz_callV2 hX cs_E (As := [.int x1]) (rest := rest) (q := (RX0, TX0, 28)) (ci := 0) (c := 1000) (ct_X0_writes (l := X.2.1) h) (lw_V q1742 q1744 qs66 q167 q1745) (n := 1) (by decide +kernel) hroom rfl rfl (by decide) hK hst hW hd (rem := rem) kk
theorem cg_X0_214_5 {X : gz_X} {G : gz_G} {cc : ByteArray} {nL fr lo pc : Nat} {rem : Nat × Nat} {m : gM} {lv : List (Nat × Value)} {st : List Value} (hX : gz_C cS X G cc nL RX0 fr lo) {c : Nat} {v : Value} (hK : clc m.1 m.2.1 m.2.2.2.2.1 → m.1 c = 5 + 1) (hv : clc m.1 m.2.1 m.2.2.2.2.1 → gz_u (gz_ad G) m (ftC 5 2) c 2 = v) (hd : decode cc pc = .ok (.getfield 214, 3)) (kk : gz_V cS X G nL rem m (pc + 3) lv (v :: st)) : gz_V cS X G nL rem m pc lv (.ref (gz_ad G c) :: st) :=
  gz_getf hX (C := RX5) (T := TX5) (N := 10) (ci := 5) (k := 2) rfl (by decide) in_X5 (by decide) (Or.inr ⟨_, va_Nw.use rfl (cz_n (Z := cS) hX q423 rfl)⟩) hd hK hv kk
theorem cc_X0_408 {X : gz_X} {G : gz_G} {cc : ByteArray} {nL fr lo pc : Nat} {rem : Nat × Nat} {lv : List (Nat × Value)} {rest st0 : List Value} (hX : gz_C cS X G cc nL RX0 fr lo) {c0 : Nat} {x1 : Int32} {m m9 : gM}  {r : Int32} (h : cf_X0_check c0 x1 m = some (r, m9)) (hroom : 0 + 1 ≤ fr ∧ 8 + (4 + 11) + 0 ≤ lo) (hst : st0 = [.int x1, .ref (gz_ad G c0)] ++ rest) (hW : (rest.map fun v => v.category).sum ≤ 8) (hd : decode cc pc = .ok (.invokestatic 408, 3)) (kk : gz_V cS X G nL rem m9 (pc + 3) lv (.int r :: rest)) : gz_V cS X G nL rem m pc lv st0 :=
  gz_callS hX cs_E (As := [.ref (gz_ad G c0), .int x1]) (rest := rest) (ct_X0_check (l := X.2.1) h) (lw_S q1746 q1747 q167 q1748) (n := 2) (by decide +kernel) hroom rfl hst hW hd (rem := rem) kk
theorem cg_X0_254_5 {X : gz_X} {G : gz_G} {cc : ByteArray} {nL fr lo pc : Nat} {rem : Nat × Nat} {m : gM} {lv : List (Nat × Value)} {st : List Value} (hX : gz_C cS X G cc nL RX0 fr lo) {c : Nat} {v : Value} (hK : clc m.1 m.2.1 m.2.2.2.2.1 → m.1 c = 5 + 1) (hv : clc m.1 m.2.1 m.2.2.2.2.1 → gz_u (gz_ad G) m (ftC 5 4) c 4 = v) (hd : decode cc pc = .ok (.getfield 254, 3)) (kk : gz_V cS X G nL rem m (pc + 3) lv (v :: st)) : gz_V cS X G nL rem m pc lv (.ref (gz_ad G c) :: st) :=
  gz_getf hX (C := RX5) (T := TX5) (N := 10) (ci := 5) (k := 4) rfl (by decide) in_X5 (by decide) (Or.inr ⟨_, va_Nw.use rfl (cz_n (Z := cS) hX q427 rfl)⟩) hd hK hv kk
theorem cg_X0_257_5 {X : gz_X} {G : gz_G} {cc : ByteArray} {nL fr lo pc : Nat} {rem : Nat × Nat} {m : gM} {lv : List (Nat × Value)} {st : List Value} (hX : gz_C cS X G cc nL RX0 fr lo) {c : Nat} {v : Value} (hK : clc m.1 m.2.1 m.2.2.2.2.1 → m.1 c = 5 + 1) (hv : clc m.1 m.2.1 m.2.2.2.2.1 → gz_u (gz_ad G) m (ftC 5 6) c 6 = v) (hd : decode cc pc = .ok (.getfield 257, 3)) (kk : gz_V cS X G nL rem m (pc + 3) lv (v :: st)) : gz_V cS X G nL rem m pc lv (.ref (gz_ad G c) :: st) :=
  gz_getf hX (C := RX5) (T := TX5) (N := 10) (ci := 5) (k := 6) rfl (by decide) in_X5 (by decide) (Or.inr ⟨_, va_Nw.use rfl (cz_n (Z := cS) hX q430 rfl)⟩) hd hK hv kk
/-! FirstSnuffer.image()I -/
def mP_X0_image_43 (X : gz_X) (G : gz_G) (q : (Int32 × gM)) : Prop := gz_V cS X G 2 (0, 0) q.2 43 [(0, .ref (gz_ad G 1000)), (1, .int q.1)] []
def mP_X0_image_82 (X : gz_X) (G : gz_G) (q : (Int32 × gM)) : Prop := gz_V cS X G 2 (0, 0) q.2 82 [(0, .ref (gz_ad G 1000)), (1, .int q.1)] []
noncomputable def mb_X0_image_82 (x1 : Int32) (m : gM) : Option ((Int32 × gM) ⊕ (Int32 × gM)) :=
  ((cf_X0_things m).bind fun (r1, m2) => (if r1 ≤ x1 then ((cf_X0_check 2368 (gI m2 1000 27) m2).bind fun (r5, m6) => ((cf_X0_writes r5 m6).bind fun (_, m9) => some (Sum.inr ((gI m9 1000 27), m9)))) else (if gz_in x1 (8) then ((cf_X0_writes (gI m2 1028 (gz_ix x1)) m2).bind fun (_, m13) => (if gz_in x1 (8) then ((cf_X0_writes (gI m13 1030 (gz_ix x1)) m13).bind fun (_, m17) => gz_let (x1 + (1 : Int32)) fun y19 => some (Sum.inl (y19, m17))) else none)) else none)))
theorem wb_X0_image_82 {X : gz_X} {G : gz_G} (hX : gz_C cS X G cX0_image 2 RX0 2 40) {x1 : Int32}  {m : gM} {z : ((Int32 × gM) ⊕ (Int32 × gM))} (h : mb_X0_image_82 x1 m = some z) (hk : (Sum.elim (mP_X0_image_82 X G) (fun z : (Int32 × gM) => gz_kI cS X G 2 (0, 0) cX0_image z.2 z.1)) z) : gz_V cS X G 2 (0, 0) m 82 [(0, .ref (gz_ad G 1000)), (1, .int x1)] [] := by
  unfold mb_X0_image_82 at h
  refine gz_iload_n (pc := 82) hX dX0_image_82 rfl 1 rfl ?_
  refine gz_aload_n (pc := 83) hX dX0_image_83 rfl 0 rfl ?_
  obtain ⟨⟨r1, m2⟩, c3, h⟩ := gz_bd h
  refine cc_X0_181 (pc := 84) hX (fun h => cz_k h rfl) c3 ⟨Nat.le_of_ble_eq_true rfl, Nat.le_of_ble_eq_true rfl⟩ (rest := [.int x1]) rfl (Nat.le_of_ble_eq_true rfl) dX0_image_84 ?_
  refine gz_icmp_ge (pc := 87) (tgt := 122) hX dX0_image_87 (by decide) (fun g4 => ?_) (fun g4 => ?_)
  · replace h := gz_it' g4 h
    refine gz_aload_n (pc := 122) hX dX0_image_122 rfl 0 rfl ?_
    refine gz_aload_n (pc := 123) hX dX0_image_123 rfl 0 rfl ?_
    refine cg_X0_119_0 (pc := 124) hX (c := 1000) (v := .ref (gz_ad G 2368)) (fun h => cz_k h rfl) (fun h => cz_f h (by decide) rfl (by decide) rfl) dX0_image_124 ?_
    refine gz_aload_n (pc := 127) hX dX0_image_127 rfl 0 rfl ?_
    refine cg_X0_402_0 (pc := 128) hX (c := 1000) (v := .int (gI m2 1000 27)) (fun h => cz_k h rfl) (fun _ => rfl) dX0_image_128 ?_
    obtain ⟨⟨r5, m6⟩, c7, h⟩ := gz_bd h
    refine cc_X0_408 (pc := 131) hX c7 ⟨Nat.le_of_ble_eq_true rfl, Nat.le_of_ble_eq_true rfl⟩ (rest := [.ref (gz_ad G 1000)]) rfl (Nat.le_of_ble_eq_true rfl) dX0_image_131 ?_
    obtain ⟨⟨⟨⟩, m9⟩, c10, h⟩ := gz_bd h
    refine cc_X0_405 (pc := 134) hX (fun h => cz_k h rfl) c10 ⟨Nat.le_of_ble_eq_true rfl, Nat.le_of_ble_eq_true rfl⟩ (rest := []) rfl (Nat.le_of_ble_eq_true rfl) dX0_image_134 ?_
    refine gz_aload_n (pc := 137) hX dX0_image_137 rfl 0 rfl ?_
    refine cg_X0_402_0 (pc := 138) hX (c := 1000) (v := .int (gI m9 1000 27)) (fun h => cz_k h rfl) (fun _ => rfl) dX0_image_138 ?_
    obtain rfl := Option.some.inj h
    exact hk _ _ dX0_image_141
  · replace h := gz_if' g4 h
    refine gz_aload_n (pc := 90) hX dX0_image_90 rfl 0 rfl ?_
    refine gz_aload_n (pc := 91) hX dX0_image_91 rfl 0 rfl ?_
    refine cg_X0_74_0 (pc := 92) hX (c := 1000) (v := .ref (gz_ad G 1027)) (fun h => cz_k h rfl) (fun h => cz_f h (by decide) rfl (by decide) rfl) dX0_image_92 ?_
    refine cg_X0_254_5 (pc := 95) hX (c := 1027) (v := .ref (gz_ad G 1028)) (fun h => cz_k h rfl) (fun h => cz_f h (by decide) rfl (by decide) rfl) dX0_image_95 ?_
    refine gz_iload_n (pc := 98) hX dX0_image_98 rfl 1 rfl ?_
    obtain ⟨g11, h⟩ := gz_gu h
    refine gz_iald2 (pc := 99) (c := 1028) (n := 8) hX rfl (fun h => cz_a h rfl (by decide) rfl) g11 dX0_image_99 ?_
    obtain ⟨⟨⟨⟩, m13⟩, c14, h⟩ := gz_bd h
    refine cc_X0_405 (pc := 100) hX (fun h => cz_k h rfl) c14 ⟨Nat.le_of_ble_eq_true rfl, Nat.le_of_ble_eq_true rfl⟩ (rest := []) rfl (Nat.le_of_ble_eq_true rfl) dX0_image_100 ?_
    refine gz_aload_n (pc := 103) hX dX0_image_103 rfl 0 rfl ?_
    refine gz_aload_n (pc := 104) hX dX0_image_104 rfl 0 rfl ?_
    refine cg_X0_74_0 (pc := 105) hX (c := 1000) (v := .ref (gz_ad G 1027)) (fun h => cz_k h rfl) (fun h => cz_f h (by decide) rfl (by decide) rfl) dX0_image_105 ?_
    refine cg_X0_257_5 (pc := 108) hX (c := 1027) (v := .ref (gz_ad G 1030)) (fun h => cz_k h rfl) (fun h => cz_f h (by decide) rfl (by decide) rfl) dX0_image_108 ?_
    refine gz_iload_n (pc := 111) hX dX0_image_111 rfl 1 rfl ?_
    obtain ⟨g15, h⟩ := gz_gu h
    refine gz_iald2 (pc := 112) (c := 1030) (n := 8) hX rfl (fun h => cz_a h rfl (by decide) rfl) g15 dX0_image_112 ?_
    obtain ⟨⟨⟨⟩, m17⟩, c18, h⟩ := gz_bd h
    refine cc_X0_405 (pc := 113) hX (fun h => cz_k h rfl) c18 ⟨Nat.le_of_ble_eq_true rfl, Nat.le_of_ble_eq_true rfl⟩ (rest := []) rfl (Nat.le_of_ble_eq_true rfl) dX0_image_113 ?_
    obtain ⟨y19, ey19, h⟩ := gz_lt h
    refine gz_iinc (pc := 116) (v := y19) (lw := [(1, .int y19), (0, .ref (gz_ad G 1000))]) hX dX0_image_116 (k := 1) rfl (by rw [ey19]; rfl) (by decide) rfl ?_
    refine gz_goto (pc := 119) (tgt := 82) hX dX0_image_119 (by decide) ?_
    refine gz_sub (lw := [(0, .ref (gz_ad G 1000)), (1, .int y19)]) [1, 0] rfl ?_
    obtain rfl := Option.some.inj h
    exact hk
noncomputable def ml_X0_image_82 (x1 : Int32) (m : gM) : Option (Int32 × gM) := gz_loop (fun q : (Int32 × gM) => mb_X0_image_82 q.1 q.2) (x1, m)
theorem wl_X0_image_82 {X : gz_X} {G : gz_G} (hX : gz_C cS X G cX0_image 2 RX0 2 40) {x1 : Int32}  {m : gM} {z : (Int32 × gM)} (h : ml_X0_image_82 x1 m = some z) (hk : (fun z : (Int32 × gM) => gz_kI cS X G 2 (0, 0) cX0_image z.2 z.1) z) : gz_V cS X G 2 (0, 0) m 82 [(0, .ref (gz_ad G 1000)), (1, .int x1)] [] := by
  have hp : mP_X0_image_82 X G (x1, m) := gz_loop_ind (fun q z hz hkz => wb_X0_image_82 hX  hz hkz) h hk
  exact hp
noncomputable def mj_X0_image_71 (x1 : Int32) (s0 : Int32) (m : gM) : Option ((Int32 × gM) ⊕ (Int32 × gM)) :=
  ((cf_X0_writes s0 m).bind fun (_, m2) => gz_let (x1 + (1 : Int32)) fun y4 => some (Sum.inl (y4, m2)))
theorem wb_X0_image_71 {X : gz_X} {G : gz_G} (hX : gz_C cS X G cX0_image 2 RX0 2 40) {x1 : Int32} {s0 : Int32}  {m : gM} {z : ((Int32 × gM) ⊕ (Int32 × gM))} (h : mj_X0_image_71 x1 s0 m = some z) (hk : (Sum.elim (mP_X0_image_43 X G) (fun z : (Int32 × gM) => gz_kI cS X G 2 (0, 0) cX0_image z.2 z.1)) z) : gz_V cS X G 2 (0, 0) m 71 [(0, .ref (gz_ad G 1000)), (1, .int x1)] [.int s0, .ref (gz_ad G 1000)] := by
  unfold mj_X0_image_71 at h
  obtain ⟨⟨⟨⟩, m2⟩, c3, h⟩ := gz_bd h
  refine cc_X0_405 (pc := 71) hX (fun h => cz_k h rfl) c3 ⟨Nat.le_of_ble_eq_true rfl, Nat.le_of_ble_eq_true rfl⟩ (rest := []) rfl (Nat.le_of_ble_eq_true rfl) dX0_image_71 ?_
  obtain ⟨y4, ey4, h⟩ := gz_lt h
  refine gz_iinc (pc := 74) (v := y4) (lw := [(1, .int y4), (0, .ref (gz_ad G 1000))]) hX dX0_image_74 (k := 1) rfl (by rw [ey4]; rfl) (by decide) rfl ?_
  refine gz_goto (pc := 77) (tgt := 43) hX dX0_image_77 (by decide) ?_
  refine gz_sub (lw := [(0, .ref (gz_ad G 1000)), (1, .int y4)]) [1, 0] rfl ?_
  obtain rfl := Option.some.inj h
  exact hk
noncomputable def mb_X0_image_43 (x1 : Int32) (m : gM) : Option ((Int32 × gM) ⊕ (Int32 × gM)) :=
  ((cf_X0_ties m).bind fun (r1, m2) => (if r1 ≤ x1 then (Option.map Sum.inr (ml_X0_image_82 (0 : Int32) m2)) else ((cf_X0_has (gI m2 1027 3) x1 m2).bind fun (r5, m6) => (if r5 = (0 : Int32) then (mj_X0_image_71 x1 (0 : Int32) m6) else (mj_X0_image_71 x1 (1 : Int32) m6)))))
theorem wb_X0_image_43 {X : gz_X} {G : gz_G} (hX : gz_C cS X G cX0_image 2 RX0 2 40) {x1 : Int32}  {m : gM} {z : ((Int32 × gM) ⊕ (Int32 × gM))} (h : mb_X0_image_43 x1 m = some z) (hk : (Sum.elim (mP_X0_image_43 X G) (fun z : (Int32 × gM) => gz_kI cS X G 2 (0, 0) cX0_image z.2 z.1)) z) : gz_V cS X G 2 (0, 0) m 43 [(0, .ref (gz_ad G 1000)), (1, .int x1)] [] := by
  unfold mb_X0_image_43 at h
  refine gz_iload_n (pc := 43) hX dX0_image_43 rfl 1 rfl ?_
  refine gz_aload_n (pc := 44) hX dX0_image_44 rfl 0 rfl ?_
  obtain ⟨⟨r1, m2⟩, c3, h⟩ := gz_bd h
  refine cc_X0_183 (pc := 45) hX (fun h => cz_k h rfl) c3 ⟨Nat.le_of_ble_eq_true rfl, Nat.le_of_ble_eq_true rfl⟩ (rest := [.int x1]) rfl (Nat.le_of_ble_eq_true rfl) dX0_image_45 ?_
  refine gz_icmp_ge (pc := 48) (tgt := 80) hX dX0_image_48 (by decide) (fun g4 => ?_) (fun g4 => ?_)
  · replace h := gz_it' g4 h
    refine gz_iconst (pc := 80) (v := (0 : Int32)) hX dX0_image_80 (by decide) ?_
    refine gz_istore_n (pc := 81) (lw := [(1, .int (0 : Int32)), (0, .ref (gz_ad G 1000))]) hX dX0_image_81 rfl (by decide) rfl ?_
    refine gz_sub (lw := [(0, .ref (gz_ad G 1000)), (1, .int (0 : Int32))]) [1, 0] rfl ?_
    obtain ⟨z0, hm0, rfl⟩ := gz_mp h
    exact wl_X0_image_82 hX hm0 hk
  · replace h := gz_if' g4 h
    refine gz_aload_n (pc := 51) hX dX0_image_51 rfl 0 rfl ?_
    refine gz_aload_n (pc := 52) hX dX0_image_52 rfl 0 rfl ?_
    refine cg_X0_74_0 (pc := 53) hX (c := 1000) (v := .ref (gz_ad G 1027)) (fun h => cz_k h rfl) (fun h => cz_f h (by decide) rfl (by decide) rfl) dX0_image_53 ?_
    refine cg_X0_225_5 (pc := 56) hX (c := 1027) (v := .int (gI m2 1027 3)) (fun h => cz_k h rfl) (fun _ => rfl) dX0_image_56 ?_
    refine gz_iload_n (pc := 59) hX dX0_image_59 rfl 1 rfl ?_
    obtain ⟨⟨r5, m6⟩, c7, h⟩ := gz_bd h
    refine cc_X0_276 (pc := 60) hX c7 ⟨Nat.le_of_ble_eq_true rfl, Nat.le_of_ble_eq_true rfl⟩ (rest := [.ref (gz_ad G 1000)]) rfl (Nat.le_of_ble_eq_true rfl) dX0_image_60 ?_
    refine gz_if_eq (pc := 63) (tgt := 70) hX dX0_image_63 (by decide) (fun g8 => ?_) (fun g8 => ?_)
    · replace h := gz_it' g8 h
      refine gz_iconst (pc := 70) (v := (0 : Int32)) hX dX0_image_70 (by decide) ?_
      exact wb_X0_image_71 hX h hk
    · replace h := gz_if' g8 h
      refine gz_iconst (pc := 66) (v := (1 : Int32)) hX dX0_image_66 (by decide) ?_
      refine gz_goto (pc := 67) (tgt := 71) hX dX0_image_67 (by decide) ?_
      exact wb_X0_image_71 hX h hk
noncomputable def ml_X0_image_43 (x1 : Int32) (m : gM) : Option (Int32 × gM) := gz_loop (fun q : (Int32 × gM) => mb_X0_image_43 q.1 q.2) (x1, m)
theorem wl_X0_image_43 {X : gz_X} {G : gz_G} (hX : gz_C cS X G cX0_image 2 RX0 2 40) {x1 : Int32}  {m : gM} {z : (Int32 × gM)} (h : ml_X0_image_43 x1 m = some z) (hk : (fun z : (Int32 × gM) => gz_kI cS X G 2 (0, 0) cX0_image z.2 z.1) z) : gz_V cS X G 2 (0, 0) m 43 [(0, .ref (gz_ad G 1000)), (1, .int x1)] [] := by
  have hp : mP_X0_image_43 X G (x1, m) := gz_loop_ind (fun q z hz hkz => wb_X0_image_43 hX  hz hkz) h hk
  exact hp
noncomputable def cf_X0_image  (m : gM) : Option (Int32 × gM) :=
  gz_let (gz_sI m 1000 27 (0 : Int32)) fun m1 => ((cf_X0_writes ((gI m1 1027 0) >>> ((8 : Int32) &&& 31)) m1).bind fun (_, m3) => ((cf_X0_writes (gI m3 1027 0) m3).bind fun (_, m6) => ((cf_X0_writes (gI m6 1027 2) m6).bind fun (_, m9) => (ml_X0_image_43 (0 : Int32) m9))))
theorem wm_X0_image {X : gz_X} {G : gz_G} (hX : gz_C cS X G cX0_image 2 RX0 2 40)   {m : gM} {z : (Int32 × gM)} (h : cf_X0_image  m = some z) (hk : (fun z : (Int32 × gM) => gz_kI cS X G 2 (0, 0) cX0_image z.2 z.1) z) : gz_V cS X G 2 (0, 0) m 0 [(0, .ref (gz_ad G 1000))] [] := by
  unfold cf_X0_image at h
  refine gz_aload_n (pc := 0) hX dX0_image_0 rfl 0 rfl ?_
  refine gz_iconst (pc := 1) (v := (0 : Int32)) hX dX0_image_1 (by decide) ?_
  obtain ⟨m1, em1, h⟩ := gz_lt h
  refine cp_X0_402_0 (pc := 2) hX (c := 1000) (fun h => cz_k h rfl) (Nat.le_of_ble_eq_true rfl) dX0_image_2 em1 ?_
  refine gz_aload_n (pc := 5) hX dX0_image_5 rfl 0 rfl ?_
  refine gz_aload_n (pc := 6) hX dX0_image_6 rfl 0 rfl ?_
  refine cg_X0_74_0 (pc := 7) hX (c := 1000) (v := .ref (gz_ad G 1027)) (fun h => cz_k h rfl) (fun h => cz_f h (by decide) rfl (by decide) rfl) dX0_image_7 ?_
  refine cg_X0_211_5 (pc := 10) hX (c := 1027) (v := .int (gI m1 1027 0)) (fun h => cz_k h rfl) (fun _ => rfl) dX0_image_10 ?_
  refine gz_bipush (pc := 13) (v := (8 : Int32)) hX dX0_image_13 (by decide) ?_
  refine gz_ishr (pc := 15) hX dX0_image_15 ?_
  obtain ⟨⟨⟨⟩, m3⟩, c4, h⟩ := gz_bd h
  refine cc_X0_405 (pc := 16) hX (fun h => cz_k h rfl) c4 ⟨Nat.le_of_ble_eq_true rfl, Nat.le_of_ble_eq_true rfl⟩ (rest := []) rfl (Nat.le_of_ble_eq_true rfl) dX0_image_16 ?_
  refine gz_aload_n (pc := 19) hX dX0_image_19 rfl 0 rfl ?_
  refine gz_aload_n (pc := 20) hX dX0_image_20 rfl 0 rfl ?_
  refine cg_X0_74_0 (pc := 21) hX (c := 1000) (v := .ref (gz_ad G 1027)) (fun h => cz_k h rfl) (fun h => cz_f h (by decide) rfl (by decide) rfl) dX0_image_21 ?_
  refine cg_X0_211_5 (pc := 24) hX (c := 1027) (v := .int (gI m3 1027 0)) (fun h => cz_k h rfl) (fun _ => rfl) dX0_image_24 ?_
  obtain ⟨⟨⟨⟩, m6⟩, c7, h⟩ := gz_bd h
  refine cc_X0_405 (pc := 27) hX (fun h => cz_k h rfl) c7 ⟨Nat.le_of_ble_eq_true rfl, Nat.le_of_ble_eq_true rfl⟩ (rest := []) rfl (Nat.le_of_ble_eq_true rfl) dX0_image_27 ?_
  refine gz_aload_n (pc := 30) hX dX0_image_30 rfl 0 rfl ?_
  refine gz_aload_n (pc := 31) hX dX0_image_31 rfl 0 rfl ?_
  refine cg_X0_74_0 (pc := 32) hX (c := 1000) (v := .ref (gz_ad G 1027)) (fun h => cz_k h rfl) (fun h => cz_f h (by decide) rfl (by decide) rfl) dX0_image_32 ?_
  refine cg_X0_214_5 (pc := 35) hX (c := 1027) (v := .int (gI m6 1027 2)) (fun h => cz_k h rfl) (fun _ => rfl) dX0_image_35 ?_
  obtain ⟨⟨⟨⟩, m9⟩, c10, h⟩ := gz_bd h
  refine cc_X0_405 (pc := 38) hX (fun h => cz_k h rfl) c10 ⟨Nat.le_of_ble_eq_true rfl, Nat.le_of_ble_eq_true rfl⟩ (rest := []) rfl (Nat.le_of_ble_eq_true rfl) dX0_image_38 ?_
  refine gz_iconst (pc := 41) (v := (0 : Int32)) hX dX0_image_41 (by decide) ?_
  refine gz_istore_n (pc := 42) (lw := [(1, .int (0 : Int32)), (0, .ref (gz_ad G 1000))]) hX dX0_image_42 rfl (by decide) rfl ?_
  refine gz_sub (lw := [(0, .ref (gz_ad G 1000)), (1, .int (0 : Int32))]) [1, 0] rfl ?_
  exact wl_X0_image_43 hX h hk
theorem ct_X0_image {G : gz_G} {l : Launch}   {m m9 : gM} {r : Int32} (h : cf_X0_image  m = some (r, m9)) : gz_Met cS G l yX0_image cX0_image 2 (some .int) (mRm 2 40) [.ref (gz_ad G 1000)] m m9 (some (.int r)) :=
  gz_ofI (by decide +kernel) (Nat.le_of_ble_eq_true rfl) fun X _ hX hk => wm_X0_image hX h hk
theorem cg_X0_78_0 {X : gz_X} {G : gz_G} {cc : ByteArray} {nL fr lo pc : Nat} {rem : Nat × Nat} {m : gM} {lv : List (Nat × Value)} {st : List Value} (hX : gz_C cS X G cc nL RX0 fr lo) {c : Nat} {v : Value} (hK : clc m.1 m.2.1 m.2.2.2.2.1 → m.1 c = 0 + 1) (hv : clc m.1 m.2.1 m.2.2.2.2.1 → gz_u (gz_ad G) m (ftC 0 11) c 11 = v) (hd : decode cc pc = .ok (.getfield 78, 3)) (kk : gz_V cS X G nL rem m (pc + 3) lv (v :: st)) : gz_V cS X G nL rem m pc lv (.ref (gz_ad G c) :: st) :=
  gz_getf hX (C := RX0) (T := TX0) (N := 28) (ci := 0) (k := 11) rfl (by decide) in_X0 (by decide) (Or.inl (hX.2.2.2.2.1 _ q513)) hd hK hv kk
theorem cp_X0_211_5 {X : gz_X} {G : gz_G} {cc : ByteArray} {nL fr lo pc : Nat} {rem : Nat × Nat} {m m9 : gM} {lv : List (Nat × Value)} {st : List Value} (hX : gz_C cS X G cc nL RX0 fr lo) {c : Nat} {x : Int32} (hK : clc m.1 m.2.1 m.2.2.2.2.1 → m.1 c = 5 + 1) (hw : 1000 ≤ c) (hd : decode cc pc = .ok (.putfield 211, 3)) (hm : m9 = gz_sI m c 0 x) (kk : gz_V cS X G nL rem m9 (pc + 3) lv st) : gz_V cS X G nL rem m pc lv (.int x :: .ref (gz_ad G c) :: st) := by
  subst hm
  exact gz_putf hX (C := RX5) (T := TX5) (N := 10) (ci := 5) (k := 0) (ty := .int) (μ' := gz_sI m c 0 x) rfl (by decide) in_X5 tyX5 tyX5_ok nmX5 (by decide) (Or.inr ⟨_, va_Nw.use rfl (cz_n (Z := cS) hX q419 rfl)⟩) rfl rfl rfl rfl hd hK hw rfl rfl rfl (fun d tc j h => gz_sI_o d tc j h) (gz_sI_v (fun j => ftC 5 j) rfl) (fun h => h) kk
theorem cp_X0_228_5 {X : gz_X} {G : gz_G} {cc : ByteArray} {nL fr lo pc : Nat} {rem : Nat × Nat} {m m9 : gM} {lv : List (Nat × Value)} {st : List Value} (hX : gz_C cS X G cc nL RX0 fr lo) {c : Nat} {x : Int32} (hK : clc m.1 m.2.1 m.2.2.2.2.1 → m.1 c = 5 + 1) (hw : 1000 ≤ c) (hd : decode cc pc = .ok (.putfield 228, 3)) (hm : m9 = gz_sI m c 1 x) (kk : gz_V cS X G nL rem m9 (pc + 3) lv st) : gz_V cS X G nL rem m pc lv (.int x :: .ref (gz_ad G c) :: st) := by
  subst hm
  exact gz_putf hX (C := RX5) (T := TX5) (N := 10) (ci := 5) (k := 1) (ty := .int) (μ' := gz_sI m c 1 x) rfl (by decide) in_X5 tyX5 tyX5_ok nmX5 (by decide) (Or.inr ⟨_, va_Nw.use rfl (cz_n (Z := cS) hX q421 rfl)⟩) rfl rfl rfl rfl hd hK hw rfl rfl rfl (fun d tc j h => gz_sI_o d tc j h) (gz_sI_v (fun j => ftC 5 j) rfl) (fun h => h) kk
theorem cp_X0_214_5 {X : gz_X} {G : gz_G} {cc : ByteArray} {nL fr lo pc : Nat} {rem : Nat × Nat} {m m9 : gM} {lv : List (Nat × Value)} {st : List Value} (hX : gz_C cS X G cc nL RX0 fr lo) {c : Nat} {x : Int32} (hK : clc m.1 m.2.1 m.2.2.2.2.1 → m.1 c = 5 + 1) (hw : 1000 ≤ c) (hd : decode cc pc = .ok (.putfield 214, 3)) (hm : m9 = gz_sI m c 2 x) (kk : gz_V cS X G nL rem m9 (pc + 3) lv st) : gz_V cS X G nL rem m pc lv (.int x :: .ref (gz_ad G c) :: st) := by
  subst hm
  exact gz_putf hX (C := RX5) (T := TX5) (N := 10) (ci := 5) (k := 2) (ty := .int) (μ' := gz_sI m c 2 x) rfl (by decide) in_X5 tyX5 tyX5_ok nmX5 (by decide) (Or.inr ⟨_, va_Nw.use rfl (cz_n (Z := cS) hX q423 rfl)⟩) rfl rfl rfl rfl hd hK hw rfl rfl rfl (fun d tc j h => gz_sI_o d tc j h) (gz_sI_v (fun j => ftC 5 j) rfl) (fun h => h) kk
/-! FirstSnuffer.comesOn(I)Z -/
noncomputable def mj_X0_comesOn_79  (m : gM) : Option (Int32 × gM) :=
  some ((0 : Int32), m)
theorem wb_X0_comesOn_79 {X : gz_X} {G : gz_G} (hX : gz_C cS X G cX0_comesOn 6 RX0 2 40)   {m : gM} {z : (Int32 × gM)} (h : mj_X0_comesOn_79  m = some z) (hk : (fun z : (Int32 × gM) => gz_kZ cS X G 6 (0, 0) cX0_comesOn z.2 z.1) z) : gz_V cS X G 6 (0, 0) m 79 [(0, .ref (gz_ad G 1000))] [] := by
  unfold mj_X0_comesOn_79 at h
  refine gz_iconst (pc := 79) (v := (0 : Int32)) hX dX0_comesOn_79 (by decide) ?_
  obtain rfl := Option.some.inj h
  exact hk _ _ dX0_comesOn_80 (Or.inl rfl)
def mP_X0_comesOn_127 (X : gz_X) (G : gz_G) (q : (Int32 × Int32 × gM)) : Prop := gz_V cS X G 6 (0, 0) q.2.2 127 [(0, .ref (gz_ad G 1000)), (2, .int q.1), (4, .int q.2.1)] []
def mP_X0_comesOn_182 (X : gz_X) (G : gz_G) (q : (Int32 × Int32 × gM)) : Prop := gz_V cS X G 6 (0, 0) q.2.2 182 [(0, .ref (gz_ad G 1000)), (2, .int q.1), (4, .int q.2.1)] []
noncomputable def mj_X0_comesOn_270  (m : gM) : Option (Int32 × gM) :=
  some ((0 : Int32), m)
theorem wb_X0_comesOn_270 {X : gz_X} {G : gz_G} (hX : gz_C cS X G cX0_comesOn 6 RX0 2 40)   {m : gM} {z : (Int32 × gM)} (h : mj_X0_comesOn_270  m = some z) (hk : (fun z : (Int32 × gM) => gz_kZ cS X G 6 (0, 0) cX0_comesOn z.2 z.1) z) : gz_V cS X G 6 (0, 0) m 270 [(0, .ref (gz_ad G 1000))] [] := by
  unfold mj_X0_comesOn_270 at h
  refine gz_iconst (pc := 270) (v := (0 : Int32)) hX dX0_comesOn_270 (by decide) ?_
  obtain rfl := Option.some.inj h
  exact hk _ _ dX0_comesOn_271 (Or.inl rfl)
noncomputable def mj_X0_comesOn_267 (x2 : Int32) (x4 : Int32) (s0 : Int32) (s1 : Int32) (m : gM) : Option ((Int32 × Int32 × gM) ⊕ (Int32 × gM)) :=
  (if s1 ≤ s0 then gz_let (x4 + (1 : Int32)) fun y2 => some (Sum.inl (x2, y2, m)) else (Option.map Sum.inr (mj_X0_comesOn_270  m)))
theorem wb_X0_comesOn_267 {X : gz_X} {G : gz_G} (hX : gz_C cS X G cX0_comesOn 6 RX0 2 40) {x2 : Int32} {x4 : Int32} {s0 : Int32} {s1 : Int32}  {m : gM} {z : ((Int32 × Int32 × gM) ⊕ (Int32 × gM))} (h : mj_X0_comesOn_267 x2 x4 s0 s1 m = some z) (hk : (Sum.elim (mP_X0_comesOn_182 X G) (fun z : (Int32 × gM) => gz_kZ cS X G 6 (0, 0) cX0_comesOn z.2 z.1)) z) : gz_V cS X G 6 (0, 0) m 267 [(0, .ref (gz_ad G 1000)), (2, .int x2), (4, .int x4)] [.int s0, .int s1] := by
  unfold mj_X0_comesOn_267 at h
  refine gz_icmp_le (pc := 267) (tgt := 272) hX dX0_comesOn_267 (by decide) (fun g1 => ?_) (fun g1 => ?_)
  · replace h := gz_it' g1 h
    obtain ⟨y2, ey2, h⟩ := gz_lt h
    refine gz_iinc (pc := 272) (v := y2) (lw := [(4, .int y2), (0, .ref (gz_ad G 1000)), (2, .int x2)]) hX dX0_comesOn_272 (k := 2) rfl (by rw [ey2]; rfl) (by decide) rfl ?_
    refine gz_goto (pc := 275) (tgt := 182) hX dX0_comesOn_275 (by decide) ?_
    refine gz_sub (lw := [(0, .ref (gz_ad G 1000)), (2, .int x2), (4, .int y2)]) [1, 2, 0] rfl ?_
    obtain rfl := Option.some.inj h
    exact hk
  · replace h := gz_if' g1 h
    refine gz_sub (lw := [(0, .ref (gz_ad G 1000))]) [0] rfl ?_
    obtain ⟨z0, hm0, rfl⟩ := gz_mp h
    exact wb_X0_comesOn_270 hX hm0 hk
noncomputable def mb_X0_comesOn_182 (x2 : Int32) (x4 : Int32) (m : gM) : Option ((Int32 × Int32 × gM) ⊕ (Int32 × gM)) :=
  ((cf_X0_things m).bind fun (r1, m2) => (if r1 ≤ x4 then some (Sum.inr ((1 : Int32), m2)) else gz_let ((x2 + ((2 : Int32) * x4))) fun y5 => ((cf_X0_byteAt y5 m2).bind fun (r6, m7) => (if gz_in x4 (8) then gz_let (gz_sI m7 1074 (gz_ix x4) r6) fun m10 => ((cf_X0_byteAt (y5 + (1 : Int32)) m10).bind fun (r11, m12) => (if gz_in x4 (8) then gz_let (gz_sI m12 1076 (gz_ix x4) r11) fun m15 => ((cf_X0_byteAt y5 m15).bind fun (r16, m17) => (if (99 : Int32) < r16 then (Option.map Sum.inr (mj_X0_comesOn_270  m17)) else ((cf_X0_byteAt (y5 + (1 : Int32)) m17).bind fun (r20, m21) => ((cf_X0_byteAt y5 m21).bind fun (r23, m24) => (if r23 ≤ (0 : Int32) then (mj_X0_comesOn_267 x2 x4 (99 : Int32) r20 m24) else (mj_X0_comesOn_267 x2 x4 (0 : Int32) r20 m24)))))) else none)) else none))))
theorem wb_X0_comesOn_182 {X : gz_X} {G : gz_G} (hX : gz_C cS X G cX0_comesOn 6 RX0 2 40) {x2 : Int32} {x4 : Int32}  {m : gM} {z : ((Int32 × Int32 × gM) ⊕ (Int32 × gM))} (h : mb_X0_comesOn_182 x2 x4 m = some z) (hk : (Sum.elim (mP_X0_comesOn_182 X G) (fun z : (Int32 × gM) => gz_kZ cS X G 6 (0, 0) cX0_comesOn z.2 z.1)) z) : gz_V cS X G 6 (0, 0) m 182 [(0, .ref (gz_ad G 1000)), (2, .int x2), (4, .int x4)] [] := by
  unfold mb_X0_comesOn_182 at h
  refine gz_iload (pc := 182) hX dX0_comesOn_182 2 rfl ?_
  refine gz_aload_n (pc := 184) hX dX0_comesOn_184 rfl 0 rfl ?_
  obtain ⟨⟨r1, m2⟩, c3, h⟩ := gz_bd h
  refine cc_X0_181 (pc := 185) hX (fun h => cz_k h rfl) c3 ⟨Nat.le_of_ble_eq_true rfl, Nat.le_of_ble_eq_true rfl⟩ (rest := [.int x4]) rfl (Nat.le_of_ble_eq_true rfl) dX0_comesOn_185 ?_
  refine gz_icmp_ge (pc := 188) (tgt := 278) hX dX0_comesOn_188 (by decide) (fun g4 => ?_) (fun g4 => ?_)
  · replace h := gz_it' g4 h
    refine gz_iconst (pc := 278) (v := (1 : Int32)) hX dX0_comesOn_278 (by decide) ?_
    obtain rfl := Option.some.inj h
    exact hk _ _ dX0_comesOn_279 (Or.inr rfl)
  · replace h := gz_if' g4 h
    refine gz_iload_n (pc := 191) hX dX0_comesOn_191 rfl 1 rfl ?_
    refine gz_iconst (pc := 192) (v := (2 : Int32)) hX dX0_comesOn_192 (by decide) ?_
    refine gz_iload (pc := 193) hX dX0_comesOn_193 2 rfl ?_
    refine gz_imul (pc := 195) hX dX0_comesOn_195 ?_
    refine gz_iadd (pc := 196) hX dX0_comesOn_196 ?_
    obtain ⟨y5, ey5, h⟩ := gz_lt h
    refine gz_topi ey5 ?_
    refine gz_istore (pc := 197) (lw := [(5, .int y5), (0, .ref (gz_ad G 1000)), (2, .int x2), (4, .int x4)]) hX dX0_comesOn_197 (by decide) rfl ?_
    refine gz_aload_n (pc := 199) hX dX0_comesOn_199 rfl 1 rfl ?_
    refine cg_X0_78_0 (pc := 200) hX (c := 1000) (v := .ref (gz_ad G 1073)) (fun h => cz_k h rfl) (fun h => cz_f h (by decide) rfl (by decide) rfl) dX0_comesOn_200 ?_
    refine cg_X0_254_5 (pc := 203) hX (c := 1073) (v := .ref (gz_ad G 1074)) (fun h => cz_k h rfl) (fun h => cz_f h (by decide) rfl (by decide) rfl) dX0_comesOn_203 ?_
    refine gz_iload (pc := 206) hX dX0_comesOn_206 3 rfl ?_
    refine gz_aload_n (pc := 208) hX dX0_comesOn_208 rfl 1 rfl ?_
    refine gz_iload (pc := 209) hX dX0_comesOn_209 0 rfl ?_
    obtain ⟨⟨r6, m7⟩, c8, h⟩ := gz_bd h
    refine cc_X0_342 (pc := 211) hX (fun h => cz_k h rfl) c8 ⟨Nat.le_of_ble_eq_true rfl, Nat.le_of_ble_eq_true rfl⟩ (rest := [.int x4, .ref (gz_ad G 1074)]) rfl (Nat.le_of_ble_eq_true rfl) dX0_comesOn_211 ?_
    obtain ⟨g9, h⟩ := gz_gu h
    obtain ⟨m10, em10, h⟩ := gz_lt h
    refine gz_iast2 (pc := 214) (c := 1074) (n := 8) hX rfl (fun h => cz_a h rfl (by decide) rfl) (Nat.le_of_ble_eq_true rfl) g9 dX0_comesOn_214 em10 ?_
    refine gz_aload_n (pc := 215) hX dX0_comesOn_215 rfl 1 rfl ?_
    refine cg_X0_78_0 (pc := 216) hX (c := 1000) (v := .ref (gz_ad G 1073)) (fun h => cz_k h rfl) (fun h => cz_f h (by decide) rfl (by decide) rfl) dX0_comesOn_216 ?_
    refine cg_X0_257_5 (pc := 219) hX (c := 1073) (v := .ref (gz_ad G 1076)) (fun h => cz_k h rfl) (fun h => cz_f h (by decide) rfl (by decide) rfl) dX0_comesOn_219 ?_
    refine gz_iload (pc := 222) hX dX0_comesOn_222 3 rfl ?_
    refine gz_aload_n (pc := 224) hX dX0_comesOn_224 rfl 1 rfl ?_
    refine gz_iload (pc := 225) hX dX0_comesOn_225 0 rfl ?_
    refine gz_iconst (pc := 227) (v := (1 : Int32)) hX dX0_comesOn_227 (by decide) ?_
    refine gz_iadd (pc := 228) hX dX0_comesOn_228 ?_
    obtain ⟨⟨r11, m12⟩, c13, h⟩ := gz_bd h
    refine cc_X0_342 (pc := 229) hX (fun h => cz_k h rfl) c13 ⟨Nat.le_of_ble_eq_true rfl, Nat.le_of_ble_eq_true rfl⟩ (rest := [.int x4, .ref (gz_ad G 1076)]) rfl (Nat.le_of_ble_eq_true rfl) dX0_comesOn_229 ?_
    obtain ⟨g14, h⟩ := gz_gu h
    obtain ⟨m15, em15, h⟩ := gz_lt h
    refine gz_iast2 (pc := 232) (c := 1076) (n := 8) hX rfl (fun h => cz_a h rfl (by decide) rfl) (Nat.le_of_ble_eq_true rfl) g14 dX0_comesOn_232 em15 ?_
    refine gz_aload_n (pc := 233) hX dX0_comesOn_233 rfl 1 rfl ?_
    refine gz_iload (pc := 234) hX dX0_comesOn_234 0 rfl ?_
    obtain ⟨⟨r16, m17⟩, c18, h⟩ := gz_bd h
    refine cc_X0_342 (pc := 236) hX (fun h => cz_k h rfl) c18 ⟨Nat.le_of_ble_eq_true rfl, Nat.le_of_ble_eq_true rfl⟩ (rest := []) rfl (Nat.le_of_ble_eq_true rfl) dX0_comesOn_236 ?_
    refine gz_bipush (pc := 239) (v := (99 : Int32)) hX dX0_comesOn_239 (by decide) ?_
    refine gz_icmp_gt (pc := 241) (tgt := 270) hX dX0_comesOn_241 (by decide) (fun g19 => ?_) (fun g19 => ?_)
    · replace h := gz_it' g19 h
      refine gz_sub (lw := [(0, .ref (gz_ad G 1000))]) [1] rfl ?_
      obtain ⟨z0, hm0, rfl⟩ := gz_mp h
      exact wb_X0_comesOn_270 hX hm0 hk
    · replace h := gz_if' g19 h
      refine gz_aload_n (pc := 244) hX dX0_comesOn_244 rfl 1 rfl ?_
      refine gz_iload (pc := 245) hX dX0_comesOn_245 0 rfl ?_
      refine gz_iconst (pc := 247) (v := (1 : Int32)) hX dX0_comesOn_247 (by decide) ?_
      refine gz_iadd (pc := 248) hX dX0_comesOn_248 ?_
      obtain ⟨⟨r20, m21⟩, c22, h⟩ := gz_bd h
      refine cc_X0_342 (pc := 249) hX (fun h => cz_k h rfl) c22 ⟨Nat.le_of_ble_eq_true rfl, Nat.le_of_ble_eq_true rfl⟩ (rest := []) rfl (Nat.le_of_ble_eq_true rfl) dX0_comesOn_249 ?_
      refine gz_aload_n (pc := 252) hX dX0_comesOn_252 rfl 1 rfl ?_
      refine gz_iload (pc := 253) hX dX0_comesOn_253 0 rfl ?_
      obtain ⟨⟨r23, m24⟩, c25, h⟩ := gz_bd h
      refine cc_X0_342 (pc := 255) hX (fun h => cz_k h rfl) c25 ⟨Nat.le_of_ble_eq_true rfl, Nat.le_of_ble_eq_true rfl⟩ (rest := [.int r20]) rfl (Nat.le_of_ble_eq_true rfl) dX0_comesOn_255 ?_
      refine gz_if_le (pc := 258) (tgt := 265) hX dX0_comesOn_258 (by decide) (fun g26 => ?_) (fun g26 => ?_)
      · replace h := gz_it' g26 h
        refine gz_bipush (pc := 265) (v := (99 : Int32)) hX dX0_comesOn_265 (by decide) ?_
        refine gz_sub (lw := [(0, .ref (gz_ad G 1000)), (2, .int x2), (4, .int x4)]) [1, 2, 3] rfl ?_
        exact wb_X0_comesOn_267 hX h hk
      · replace h := gz_if' g26 h
        refine gz_iconst (pc := 261) (v := (0 : Int32)) hX dX0_comesOn_261 (by decide) ?_
        refine gz_goto (pc := 262) (tgt := 267) hX dX0_comesOn_262 (by decide) ?_
        refine gz_sub (lw := [(0, .ref (gz_ad G 1000)), (2, .int x2), (4, .int x4)]) [1, 2, 3] rfl ?_
        exact wb_X0_comesOn_267 hX h hk
noncomputable def ml_X0_comesOn_182 (x2 : Int32) (x4 : Int32) (m : gM) : Option (Int32 × gM) := gz_loop (fun q : (Int32 × Int32 × gM) => mb_X0_comesOn_182 q.1 q.2.1 q.2.2) (x2, x4, m)
theorem wl_X0_comesOn_182 {X : gz_X} {G : gz_G} (hX : gz_C cS X G cX0_comesOn 6 RX0 2 40) {x2 : Int32} {x4 : Int32}  {m : gM} {z : (Int32 × gM)} (h : ml_X0_comesOn_182 x2 x4 m = some z) (hk : (fun z : (Int32 × gM) => gz_kZ cS X G 6 (0, 0) cX0_comesOn z.2 z.1) z) : gz_V cS X G 6 (0, 0) m 182 [(0, .ref (gz_ad G 1000)), (2, .int x2), (4, .int x4)] [] := by
  have hp : mP_X0_comesOn_182 X G (x2, x4, m) := gz_loop_ind (fun q z hz hkz => wb_X0_comesOn_182 hX  hz hkz) h hk
  exact hp
noncomputable def mb_X0_comesOn_127 (x2 : Int32) (x4 : Int32) (m : gM) : Option ((Int32 × Int32 × gM) ⊕ (Int32 × gM)) :=
  ((cf_X0_ties m).bind fun (r1, m2) => (if r1 ≤ x4 then (Option.map Sum.inr (ml_X0_comesOn_182 x2 (0 : Int32) m2)) else ((cf_X0_byteAt ((3 : Int32) + x4) m2).bind fun (r5, m6) => (if r5 ≤ (1 : Int32) then ((cf_X0_byteAt ((3 : Int32) + x4) m6).bind fun (r9, m10) => gz_let (gz_sI m10 1073 3 ((gI m6 1073 3) ||| (r9 <<< (x4 &&& 31)))) fun m12 => gz_let (x4 + (1 : Int32)) fun y13 => some (Sum.inl (x2, y13, m12))) else some (Sum.inr ((0 : Int32), m6))))))
theorem wb_X0_comesOn_127 {X : gz_X} {G : gz_G} (hX : gz_C cS X G cX0_comesOn 6 RX0 2 40) {x2 : Int32} {x4 : Int32}  {m : gM} {z : ((Int32 × Int32 × gM) ⊕ (Int32 × gM))} (h : mb_X0_comesOn_127 x2 x4 m = some z) (hk : (Sum.elim (mP_X0_comesOn_127 X G) (fun z : (Int32 × gM) => gz_kZ cS X G 6 (0, 0) cX0_comesOn z.2 z.1)) z) : gz_V cS X G 6 (0, 0) m 127 [(0, .ref (gz_ad G 1000)), (2, .int x2), (4, .int x4)] [] := by
  unfold mb_X0_comesOn_127 at h
  refine gz_iload (pc := 127) hX dX0_comesOn_127 2 rfl ?_
  refine gz_aload_n (pc := 129) hX dX0_comesOn_129 rfl 0 rfl ?_
  obtain ⟨⟨r1, m2⟩, c3, h⟩ := gz_bd h
  refine cc_X0_183 (pc := 130) hX (fun h => cz_k h rfl) c3 ⟨Nat.le_of_ble_eq_true rfl, Nat.le_of_ble_eq_true rfl⟩ (rest := [.int x4]) rfl (Nat.le_of_ble_eq_true rfl) dX0_comesOn_130 ?_
  refine gz_icmp_ge (pc := 133) (tgt := 179) hX dX0_comesOn_133 (by decide) (fun g4 => ?_) (fun g4 => ?_)
  · replace h := gz_it' g4 h
    refine gz_iconst (pc := 179) (v := (0 : Int32)) hX dX0_comesOn_179 (by decide) ?_
    refine gz_istore (pc := 180) (lw := [(4, .int (0 : Int32)), (0, .ref (gz_ad G 1000)), (2, .int x2)]) hX dX0_comesOn_180 (by decide) rfl ?_
    refine gz_sub (lw := [(0, .ref (gz_ad G 1000)), (2, .int x2), (4, .int (0 : Int32))]) [1, 2, 0] rfl ?_
    obtain ⟨z0, hm0, rfl⟩ := gz_mp h
    exact wl_X0_comesOn_182 hX hm0 hk
  · replace h := gz_if' g4 h
    refine gz_aload_n (pc := 136) hX dX0_comesOn_136 rfl 0 rfl ?_
    refine gz_iconst (pc := 137) (v := (3 : Int32)) hX dX0_comesOn_137 (by decide) ?_
    refine gz_iload (pc := 138) hX dX0_comesOn_138 2 rfl ?_
    refine gz_iadd (pc := 140) hX dX0_comesOn_140 ?_
    obtain ⟨⟨r5, m6⟩, c7, h⟩ := gz_bd h
    refine cc_X0_342 (pc := 141) hX (fun h => cz_k h rfl) c7 ⟨Nat.le_of_ble_eq_true rfl, Nat.le_of_ble_eq_true rfl⟩ (rest := []) rfl (Nat.le_of_ble_eq_true rfl) dX0_comesOn_141 ?_
    refine gz_iconst (pc := 144) (v := (1 : Int32)) hX dX0_comesOn_144 (by decide) ?_
    refine gz_icmp_le (pc := 145) (tgt := 150) hX dX0_comesOn_145 (by decide) (fun g8 => ?_) (fun g8 => ?_)
    · replace h := gz_it' g8 h
      refine gz_aload_n (pc := 150) hX dX0_comesOn_150 rfl 0 rfl ?_
      refine cg_X0_78_0 (pc := 151) hX (c := 1000) (v := .ref (gz_ad G 1073)) (fun h => cz_k h rfl) (fun h => cz_f h (by decide) rfl (by decide) rfl) dX0_comesOn_151 ?_
      refine gz_dup (pc := 154) hX dX0_comesOn_154 rfl ?_
      refine cg_X0_225_5 (pc := 155) hX (c := 1073) (v := .int (gI m6 1073 3)) (fun h => cz_k h rfl) (fun _ => rfl) dX0_comesOn_155 ?_
      refine gz_aload_n (pc := 158) hX dX0_comesOn_158 rfl 0 rfl ?_
      refine gz_iconst (pc := 159) (v := (3 : Int32)) hX dX0_comesOn_159 (by decide) ?_
      refine gz_iload (pc := 160) hX dX0_comesOn_160 2 rfl ?_
      refine gz_iadd (pc := 162) hX dX0_comesOn_162 ?_
      obtain ⟨⟨r9, m10⟩, c11, h⟩ := gz_bd h
      refine cc_X0_342 (pc := 163) hX (fun h => cz_k h rfl) c11 ⟨Nat.le_of_ble_eq_true rfl, Nat.le_of_ble_eq_true rfl⟩ (rest := [.int (gI m6 1073 3), .ref (gz_ad G 1073)]) rfl (Nat.le_of_ble_eq_true rfl) dX0_comesOn_163 ?_
      refine gz_iload (pc := 166) hX dX0_comesOn_166 2 rfl ?_
      refine gz_ishl (pc := 168) hX dX0_comesOn_168 ?_
      refine gz_ior (pc := 169) hX dX0_comesOn_169 ?_
      obtain ⟨m12, em12, h⟩ := gz_lt h
      refine cp_X0_225_5 (pc := 170) hX (c := 1073) (fun h => cz_k h rfl) (Nat.le_of_ble_eq_true rfl) dX0_comesOn_170 em12 ?_
      obtain ⟨y13, ey13, h⟩ := gz_lt h
      refine gz_iinc (pc := 173) (v := y13) (lw := [(4, .int y13), (0, .ref (gz_ad G 1000)), (2, .int x2)]) hX dX0_comesOn_173 (k := 2) rfl (by rw [ey13]; rfl) (by decide) rfl ?_
      refine gz_goto (pc := 176) (tgt := 127) hX dX0_comesOn_176 (by decide) ?_
      refine gz_sub (lw := [(0, .ref (gz_ad G 1000)), (2, .int x2), (4, .int y13)]) [1, 2, 0] rfl ?_
      obtain rfl := Option.some.inj h
      exact hk
    · replace h := gz_if' g8 h
      refine gz_iconst (pc := 148) (v := (0 : Int32)) hX dX0_comesOn_148 (by decide) ?_
      obtain rfl := Option.some.inj h
      exact hk _ _ dX0_comesOn_149 (Or.inl rfl)
noncomputable def ml_X0_comesOn_127 (x2 : Int32) (x4 : Int32) (m : gM) : Option (Int32 × gM) := gz_loop (fun q : (Int32 × Int32 × gM) => mb_X0_comesOn_127 q.1 q.2.1 q.2.2) (x2, x4, m)
theorem wl_X0_comesOn_127 {X : gz_X} {G : gz_G} (hX : gz_C cS X G cX0_comesOn 6 RX0 2 40) {x2 : Int32} {x4 : Int32}  {m : gM} {z : (Int32 × gM)} (h : ml_X0_comesOn_127 x2 x4 m = some z) (hk : (fun z : (Int32 × gM) => gz_kZ cS X G 6 (0, 0) cX0_comesOn z.2 z.1) z) : gz_V cS X G 6 (0, 0) m 127 [(0, .ref (gz_ad G 1000)), (2, .int x2), (4, .int x4)] [] := by
  have hp : mP_X0_comesOn_127 X G (x2, x4, m) := gz_loop_ind (fun q z hz hkz => wb_X0_comesOn_127 hX  hz hkz) h hk
  exact hp
noncomputable def cf_X0_comesOn (x1 : Int32) (m : gM) : Option (Int32 × gM) :=
  ((cf_X0_ties m).bind fun (r1, m2) => gz_let (((3 : Int32) + r1)) fun y4 => ((cf_X0_byteAt (0 : Int32) m2).bind fun (r5, m6) => ((cf_X0_byteAt (1 : Int32) m6).bind fun (r8, m9) => gz_let (((r5 <<< ((8 : Int32) &&& 31)) ||| r8)) fun y11 => ((cf_X0_things m9).bind fun (r12, m13) => (if x1 = ((y4 + ((2 : Int32) * r12)) + (1 : Int32)) then ((cf_X0_byteAt (x1 - (1 : Int32)) m13).bind fun (r16, m17) => ((cf_X0_check 1010 (x1 - (1 : Int32)) m17).bind fun (r19, m20) => (if r16 = r19 then (if (999 : Int32) < y11 then (mj_X0_comesOn_79  m20) else ((cf_X0_byteAt (2 : Int32) m20).bind fun (r24, m25) => ((cf_X0_halls m25).bind fun (r27, m28) => ((cf_J8_max (1 : Int32) r27 m28).bind fun (r30, m31) => (if r24 < r30 then ((cf_X5_copy 1073 1027 m31).bind fun (r34, m35) => (if cSt r34 = true then gz_let (gz_sI m35 r34 0 y11) fun m38 => gz_let (gz_sI m38 1073 1 (0 : Int32)) fun m39 => ((cf_X0_byteAt (2 : Int32) m39).bind fun (r40, m41) => gz_let (gz_sI m41 1073 2 r40) fun m43 => gz_let (gz_sI m43 1073 3 (0 : Int32)) fun m44 => (ml_X0_comesOn_127 y4 (0 : Int32) m44)) else none)) else (mj_X0_comesOn_79  m31)))))) else (mj_X0_comesOn_79  m20)))) else (mj_X0_comesOn_79  m13))))))
theorem wm_X0_comesOn {X : gz_X} {G : gz_G} (hX : gz_C cS X G cX0_comesOn 6 RX0 2 40) {x1 : Int32}  {m : gM} {z : (Int32 × gM)} (h : cf_X0_comesOn x1 m = some z) (hk : (fun z : (Int32 × gM) => gz_kZ cS X G 6 (0, 0) cX0_comesOn z.2 z.1) z) : gz_V cS X G 6 (0, 0) m 0 [(0, .ref (gz_ad G 1000)), (1, .int x1)] [] := by
  unfold cf_X0_comesOn at h
  refine gz_iconst (pc := 0) (v := (3 : Int32)) hX dX0_comesOn_0 (by decide) ?_
  refine gz_aload_n (pc := 1) hX dX0_comesOn_1 rfl 0 rfl ?_
  obtain ⟨⟨r1, m2⟩, c3, h⟩ := gz_bd h
  refine cc_X0_183 (pc := 2) hX (fun h => cz_k h rfl) c3 ⟨Nat.le_of_ble_eq_true rfl, Nat.le_of_ble_eq_true rfl⟩ (rest := [.int (3 : Int32)]) rfl (Nat.le_of_ble_eq_true rfl) dX0_comesOn_2 ?_
  refine gz_iadd (pc := 5) hX dX0_comesOn_5 ?_
  obtain ⟨y4, ey4, h⟩ := gz_lt h
  refine gz_topi ey4 ?_
  refine gz_istore_n (pc := 6) (lw := [(2, .int y4), (0, .ref (gz_ad G 1000)), (1, .int x1)]) hX dX0_comesOn_6 rfl (by decide) rfl ?_
  refine gz_aload_n (pc := 7) hX dX0_comesOn_7 rfl 1 rfl ?_
  refine gz_iconst (pc := 8) (v := (0 : Int32)) hX dX0_comesOn_8 (by decide) ?_
  obtain ⟨⟨r5, m6⟩, c7, h⟩ := gz_bd h
  refine cc_X0_342 (pc := 9) hX (fun h => cz_k h rfl) c7 ⟨Nat.le_of_ble_eq_true rfl, Nat.le_of_ble_eq_true rfl⟩ (rest := []) rfl (Nat.le_of_ble_eq_true rfl) dX0_comesOn_9 ?_
  refine gz_bipush (pc := 12) (v := (8 : Int32)) hX dX0_comesOn_12 (by decide) ?_
  refine gz_ishl (pc := 14) hX dX0_comesOn_14 ?_
  refine gz_aload_n (pc := 15) hX dX0_comesOn_15 rfl 1 rfl ?_
  refine gz_iconst (pc := 16) (v := (1 : Int32)) hX dX0_comesOn_16 (by decide) ?_
  obtain ⟨⟨r8, m9⟩, c10, h⟩ := gz_bd h
  refine cc_X0_342 (pc := 17) hX (fun h => cz_k h rfl) c10 ⟨Nat.le_of_ble_eq_true rfl, Nat.le_of_ble_eq_true rfl⟩ (rest := [.int (r5 <<< ((8 : Int32) &&& 31))]) rfl (Nat.le_of_ble_eq_true rfl) dX0_comesOn_17 ?_
  refine gz_ior (pc := 20) hX dX0_comesOn_20 ?_
  obtain ⟨y11, ey11, h⟩ := gz_lt h
  refine gz_topi ey11 ?_
  refine gz_istore_n (pc := 21) (lw := [(3, .int y11), (2, .int y4), (0, .ref (gz_ad G 1000)), (1, .int x1)]) hX dX0_comesOn_21 rfl (by decide) rfl ?_
  refine gz_iload_n (pc := 22) hX dX0_comesOn_22 rfl 3 rfl ?_
  refine gz_iload_n (pc := 23) hX dX0_comesOn_23 rfl 1 rfl ?_
  refine gz_iconst (pc := 24) (v := (2 : Int32)) hX dX0_comesOn_24 (by decide) ?_
  refine gz_aload_n (pc := 25) hX dX0_comesOn_25 rfl 2 rfl ?_
  obtain ⟨⟨r12, m13⟩, c14, h⟩ := gz_bd h
  refine cc_X0_181 (pc := 26) hX (fun h => cz_k h rfl) c14 ⟨Nat.le_of_ble_eq_true rfl, Nat.le_of_ble_eq_true rfl⟩ (rest := [.int (2 : Int32), .int y4, .int x1]) rfl (Nat.le_of_ble_eq_true rfl) dX0_comesOn_26 ?_
  refine gz_imul (pc := 29) hX dX0_comesOn_29 ?_
  refine gz_iadd (pc := 30) hX dX0_comesOn_30 ?_
  refine gz_iconst (pc := 31) (v := (1 : Int32)) hX dX0_comesOn_31 (by decide) ?_
  refine gz_iadd (pc := 32) hX dX0_comesOn_32 ?_
  refine gz_icmp_ne (pc := 33) (tgt := 79) hX dX0_comesOn_33 (by decide) (fun g15 => ?_) (fun g15 => ?_)
  · replace h := gz_if' g15 h
    refine gz_sub (lw := [(0, .ref (gz_ad G 1000))]) [2] rfl ?_
    exact wb_X0_comesOn_79 hX h hk
  · replace h := gz_it' g15 h
    refine gz_aload_n (pc := 36) hX dX0_comesOn_36 rfl 2 rfl ?_
    refine gz_iload_n (pc := 37) hX dX0_comesOn_37 rfl 3 rfl ?_
    refine gz_iconst (pc := 38) (v := (1 : Int32)) hX dX0_comesOn_38 (by decide) ?_
    refine gz_isub (pc := 39) hX dX0_comesOn_39 ?_
    obtain ⟨⟨r16, m17⟩, c18, h⟩ := gz_bd h
    refine cc_X0_342 (pc := 40) hX (fun h => cz_k h rfl) c18 ⟨Nat.le_of_ble_eq_true rfl, Nat.le_of_ble_eq_true rfl⟩ (rest := []) rfl (Nat.le_of_ble_eq_true rfl) dX0_comesOn_40 ?_
    refine gz_aload_n (pc := 43) hX dX0_comesOn_43 rfl 2 rfl ?_
    refine cg_X0_35_0 (pc := 44) hX (c := 1000) (v := .ref (gz_ad G 1010)) (fun h => cz_k h rfl) (fun h => cz_f h (by decide) rfl (by decide) rfl) dX0_comesOn_44 ?_
    refine gz_iload_n (pc := 47) hX dX0_comesOn_47 rfl 3 rfl ?_
    refine gz_iconst (pc := 48) (v := (1 : Int32)) hX dX0_comesOn_48 (by decide) ?_
    refine gz_isub (pc := 49) hX dX0_comesOn_49 ?_
    obtain ⟨⟨r19, m20⟩, c21, h⟩ := gz_bd h
    refine cc_X0_408 (pc := 50) hX c21 ⟨Nat.le_of_ble_eq_true rfl, Nat.le_of_ble_eq_true rfl⟩ (rest := [.int r16]) rfl (Nat.le_of_ble_eq_true rfl) dX0_comesOn_50 ?_
    refine gz_icmp_ne (pc := 53) (tgt := 79) hX dX0_comesOn_53 (by decide) (fun g22 => ?_) (fun g22 => ?_)
    · replace h := gz_if' g22 h
      refine gz_sub (lw := [(0, .ref (gz_ad G 1000))]) [2] rfl ?_
      exact wb_X0_comesOn_79 hX h hk
    · replace h := gz_it' g22 h
      refine gz_iload_n (pc := 56) hX dX0_comesOn_56 rfl 0 rfl ?_
      refine gz_sipush (pc := 57) (v := (999 : Int32)) hX dX0_comesOn_57 (by decide) ?_
      refine gz_icmp_gt (pc := 60) (tgt := 79) hX dX0_comesOn_60 (by decide) (fun g23 => ?_) (fun g23 => ?_)
      · replace h := gz_it' g23 h
        refine gz_sub (lw := [(0, .ref (gz_ad G 1000))]) [2] rfl ?_
        exact wb_X0_comesOn_79 hX h hk
      · replace h := gz_if' g23 h
        refine gz_aload_n (pc := 63) hX dX0_comesOn_63 rfl 2 rfl ?_
        refine gz_iconst (pc := 64) (v := (2 : Int32)) hX dX0_comesOn_64 (by decide) ?_
        obtain ⟨⟨r24, m25⟩, c26, h⟩ := gz_bd h
        refine cc_X0_342 (pc := 65) hX (fun h => cz_k h rfl) c26 ⟨Nat.le_of_ble_eq_true rfl, Nat.le_of_ble_eq_true rfl⟩ (rest := []) rfl (Nat.le_of_ble_eq_true rfl) dX0_comesOn_65 ?_
        refine gz_iconst (pc := 68) (v := (1 : Int32)) hX dX0_comesOn_68 (by decide) ?_
        refine gz_aload_n (pc := 69) hX dX0_comesOn_69 rfl 2 rfl ?_
        obtain ⟨⟨r27, m28⟩, c29, h⟩ := gz_bd h
        refine cc_X0_179 (pc := 70) hX (fun h => cz_k h rfl) c29 ⟨Nat.le_of_ble_eq_true rfl, Nat.le_of_ble_eq_true rfl⟩ (rest := [.int (1 : Int32), .int r24]) rfl (Nat.le_of_ble_eq_true rfl) dX0_comesOn_70 ?_
        obtain ⟨⟨r30, m31⟩, c32, h⟩ := gz_bd h
        refine cc_X0_351 (pc := 73) hX c32 ⟨Nat.le_of_ble_eq_true rfl, Nat.le_of_ble_eq_true rfl⟩ (rest := [.int r24]) rfl (Nat.le_of_ble_eq_true rfl) dX0_comesOn_73 ?_
        refine gz_icmp_lt (pc := 76) (tgt := 81) hX dX0_comesOn_76 (by decide) (fun g33 => ?_) (fun g33 => ?_)
        · replace h := gz_it' g33 h
          refine gz_aload_n (pc := 81) hX dX0_comesOn_81 rfl 2 rfl ?_
          refine cg_X0_78_0 (pc := 82) hX (c := 1000) (v := .ref (gz_ad G 1073)) (fun h => cz_k h rfl) (fun h => cz_f h (by decide) rfl (by decide) rfl) dX0_comesOn_82 ?_
          refine gz_aload_n (pc := 85) hX dX0_comesOn_85 rfl 2 rfl ?_
          refine cg_X0_74_0 (pc := 86) hX (c := 1000) (v := .ref (gz_ad G 1027)) (fun h => cz_k h rfl) (fun h => cz_f h (by decide) rfl (by decide) rfl) dX0_comesOn_86 ?_
          obtain ⟨⟨r34, m35⟩, c36, h⟩ := gz_bd h
          obtain ⟨g37, h⟩ := gz_gu h
          refine cc_X0_294 (pc := 89) hX (fun h => cz_k h rfl) (by decide) (by decide) c36 ⟨Nat.le_of_ble_eq_true rfl, Nat.le_of_ble_eq_true rfl⟩ (rest := []) rfl (Nat.le_of_ble_eq_true rfl) dX0_comesOn_89 ?_
          refine gz_iload_n (pc := 92) hX dX0_comesOn_92 rfl 0 rfl ?_
          obtain ⟨m38, em38, h⟩ := gz_lt h
          refine cp_X0_211_5 (pc := 93) hX (c := r34) (fun h => cz_k h (st_k g37)) (st_w g37) dX0_comesOn_93 em38 ?_
          refine gz_aload_n (pc := 96) hX dX0_comesOn_96 rfl 2 rfl ?_
          refine cg_X0_78_0 (pc := 97) hX (c := 1000) (v := .ref (gz_ad G 1073)) (fun h => cz_k h rfl) (fun h => cz_f h (by decide) rfl (by decide) rfl) dX0_comesOn_97 ?_
          refine gz_iconst (pc := 100) (v := (0 : Int32)) hX dX0_comesOn_100 (by decide) ?_
          obtain ⟨m39, em39, h⟩ := gz_lt h
          refine cp_X0_228_5 (pc := 101) hX (c := 1073) (fun h => cz_k h rfl) (Nat.le_of_ble_eq_true rfl) dX0_comesOn_101 em39 ?_
          refine gz_aload_n (pc := 104) hX dX0_comesOn_104 rfl 2 rfl ?_
          refine cg_X0_78_0 (pc := 105) hX (c := 1000) (v := .ref (gz_ad G 1073)) (fun h => cz_k h rfl) (fun h => cz_f h (by decide) rfl (by decide) rfl) dX0_comesOn_105 ?_
          refine gz_aload_n (pc := 108) hX dX0_comesOn_108 rfl 2 rfl ?_
          refine gz_iconst (pc := 109) (v := (2 : Int32)) hX dX0_comesOn_109 (by decide) ?_
          obtain ⟨⟨r40, m41⟩, c42, h⟩ := gz_bd h
          refine cc_X0_342 (pc := 110) hX (fun h => cz_k h rfl) c42 ⟨Nat.le_of_ble_eq_true rfl, Nat.le_of_ble_eq_true rfl⟩ (rest := [.ref (gz_ad G 1073)]) rfl (Nat.le_of_ble_eq_true rfl) dX0_comesOn_110 ?_
          obtain ⟨m43, em43, h⟩ := gz_lt h
          refine cp_X0_214_5 (pc := 113) hX (c := 1073) (fun h => cz_k h rfl) (Nat.le_of_ble_eq_true rfl) dX0_comesOn_113 em43 ?_
          refine gz_aload_n (pc := 116) hX dX0_comesOn_116 rfl 2 rfl ?_
          refine cg_X0_78_0 (pc := 117) hX (c := 1000) (v := .ref (gz_ad G 1073)) (fun h => cz_k h rfl) (fun h => cz_f h (by decide) rfl (by decide) rfl) dX0_comesOn_117 ?_
          refine gz_iconst (pc := 120) (v := (0 : Int32)) hX dX0_comesOn_120 (by decide) ?_
          obtain ⟨m44, em44, h⟩ := gz_lt h
          refine cp_X0_225_5 (pc := 121) hX (c := 1073) (fun h => cz_k h rfl) (Nat.le_of_ble_eq_true rfl) dX0_comesOn_121 em44 ?_
          refine gz_iconst (pc := 124) (v := (0 : Int32)) hX dX0_comesOn_124 (by decide) ?_
          refine gz_istore (pc := 125) (lw := [(4, .int (0 : Int32)), (3, .int y11), (2, .int y4), (0, .ref (gz_ad G 1000)), (1, .int x1)]) hX dX0_comesOn_125 (by decide) rfl ?_
          refine gz_sub (lw := [(0, .ref (gz_ad G 1000)), (2, .int y4), (4, .int (0 : Int32))]) [3, 2, 0] rfl ?_
          exact wl_X0_comesOn_127 hX h hk
        · replace h := gz_if' g33 h
          refine gz_sub (lw := [(0, .ref (gz_ad G 1000))]) [2] rfl ?_
          exact wb_X0_comesOn_79 hX h hk
theorem ct_X0_comesOn {G : gz_G} {l : Launch} {x1 : Int32}  {m m9 : gM} {r : Int32} (h : cf_X0_comesOn x1 m = some (r, m9)) : gz_Met cS G l yX0_comesOn cX0_comesOn 6 (some .boolean) (mRm 2 40) [.ref (gz_ad G 1000), .int x1] m m9 (some (.int r)) :=
  gz_ofZ (by decide +kernel) (Nat.le_of_ble_eq_true rfl) fun X _ hX hk => wm_X0_comesOn hX h hk
theorem cc_J11_84 {X : gz_X} {G : gz_G} {cc : ByteArray} {nL fr lo pc : Nat} {rem : Nat × Nat} {lv : List (Nat × Value)} {rest st0 : List Value} (hX : gz_C cS X G cc nL RJ11 fr lo) {c0 : Nat} {x1 : Int32} {x2 : Int32} {x3 : Int32} {x4 : Int32} {m m9 : gM}  {r : Int32} (h : cf_J12_vectorizedHashCode c0 x1 x2 x3 x4 m = some (r, m9)) (hroom : 1 + 1 ≤ fr ∧ 8 + (5 + 11) + 25 ≤ lo) (hst : st0 = [.int x4, .int x3, .int x2, .int x1, .ref (gz_ad G c0)] ++ rest) (hW : (rest.map fun v => v.category).sum ≤ 8) (hd : decode cc pc = .ok (.invokestatic 84, 3)) (kk : gz_V cS X G nL rem m9 (pc + 3) lv (.int r :: rest)) : gz_V cS X G nL rem m pc lv st0 :=
  gz_callS hX cs_E (As := [.ref (gz_ad G c0), .int x1, .int x2, .int x3, .int x4]) (rest := rest) (ct_J12_vectorizedHashCode (l := X.2.1) h) (lw_S q742 q743 q186 q744) (n := 5) (by decide +kernel) hroom rfl hst hW hd (rem := rem) kk
/-! java/lang/StringLatin1.hashCode([B)I -/
noncomputable def cf_J11_hashCode (c0 : Nat) (m : gM) : Option (Int32 × gM) :=
  (if gK m c0 = 102 then (if (nI (gN m c0)) = (0 : Int32) then some ((0 : Int32), m) else (if (nI (gN m c0)) = (1 : Int32) then (if gK m c0 = 102 then (if gz_in (0 : Int32) (gN m c0) then some (((gI m c0 (gz_ix (0 : Int32))) &&& (255 : Int32)), m) else none) else none) else (if gK m c0 = 102 then ((cf_J12_vectorizedHashCode c0 (0 : Int32) (nI (gN m c0)) (0 : Int32) (4 : Int32) m).bind fun (r7, m8) => some (r7, m8)) else none))) else none)
theorem wm_J11_hashCode {X : gz_X} {G : gz_G} (hX : gz_C cS X G cJ11_hashCode 1 RJ11 2 49) {c0 : Nat}  {m : gM} {z : (Int32 × gM)} (h : cf_J11_hashCode c0 m = some z) (hk : (fun z : (Int32 × gM) => gz_kI cS X G 1 (0, 0) cJ11_hashCode z.2 z.1) z) : gz_V cS X G 1 (0, 0) m 0 [(0, .ref (gz_ad G c0))] [] := by
  unfold cf_J11_hashCode at h
  refine gz_aload_n (pc := 0) hX dJ11_hashCode_0 rfl 0 rfl ?_
  obtain ⟨g1, h⟩ := gz_gu h
  refine gz_alen2 (pc := 1) (c := c0) (t := 1) (n := gN m c0) hX rfl (fun _ => ⟨g1, rfl⟩) dJ11_hashCode_1 ?_
  by_cases g2 : (nI (gN m c0)) = (0 : Int32)
  · replace h := gz_it' g2 h
    refine gz_lsw (pc := 2) (tgt := 28) (off := 26) hX dJ11_hashCode_2 (by decide) (by rw [g2]; decide) (by decide) ?_
    refine gz_iconst (pc := 28) (v := (0 : Int32)) hX dJ11_hashCode_28 (by decide) ?_
    refine gz_goto (pc := 29) (tgt := 51) hX dJ11_hashCode_29 (by decide) ?_
    obtain rfl := Option.some.inj h
    exact hk _ _ dJ11_hashCode_51
  · replace h := gz_if' g2 h
    by_cases g3 : (nI (gN m c0)) = (1 : Int32)
    · replace h := gz_it' g3 h
      refine gz_lsw (pc := 2) (tgt := 32) (off := 30) hX dJ11_hashCode_2 (by decide) (by rw [g3]; decide) (by decide) ?_
      refine gz_aload_n (pc := 32) hX dJ11_hashCode_32 rfl 0 rfl ?_
      refine gz_iconst (pc := 33) (v := (0 : Int32)) hX dJ11_hashCode_33 (by decide) ?_
      obtain ⟨g4, h⟩ := gz_gu h
      obtain ⟨g5, h⟩ := gz_gu h
      refine gz_bald2 (pc := 34) (c := c0) (n := gN m c0) hX rfl (fun _ => ⟨g4, rfl⟩) g5 dJ11_hashCode_34 ?_
      refine gz_sipush (pc := 35) (v := (255 : Int32)) hX dJ11_hashCode_35 (by decide) ?_
      refine gz_iand (pc := 38) hX dJ11_hashCode_38 ?_
      refine gz_goto (pc := 39) (tgt := 51) hX dJ11_hashCode_39 (by decide) ?_
      obtain rfl := Option.some.inj h
      exact hk _ _ dJ11_hashCode_51
    · replace h := gz_if' g3 h
      refine gz_lsw (pc := 2) (tgt := 42) (off := 40) hX dJ11_hashCode_2 (by decide) ((lv_osw g2 (by decide)).trans ((lv_osw g3 (by decide)).trans rfl)) (by decide) ?_
      refine gz_aload_n (pc := 42) hX dJ11_hashCode_42 rfl 0 rfl ?_
      refine gz_iconst (pc := 43) (v := (0 : Int32)) hX dJ11_hashCode_43 (by decide) ?_
      refine gz_aload_n (pc := 44) hX dJ11_hashCode_44 rfl 0 rfl ?_
      obtain ⟨g6, h⟩ := gz_gu h
      refine gz_alen2 (pc := 45) (c := c0) (t := 1) (n := gN m c0) hX rfl (fun _ => ⟨g6, rfl⟩) dJ11_hashCode_45 ?_
      refine gz_iconst (pc := 46) (v := (0 : Int32)) hX dJ11_hashCode_46 (by decide) ?_
      refine gz_iconst (pc := 47) (v := (4 : Int32)) hX dJ11_hashCode_47 (by decide) ?_
      obtain ⟨⟨r7, m8⟩, c9, h⟩ := gz_bd h
      refine cc_J11_84 (pc := 48) hX c9 ⟨Nat.le_of_ble_eq_true rfl, Nat.le_of_ble_eq_true rfl⟩ (rest := []) rfl (Nat.le_of_ble_eq_true rfl) dJ11_hashCode_48 ?_
      obtain rfl := Option.some.inj h
      exact hk _ _ dJ11_hashCode_51
theorem ct_J11_hashCode {G : gz_G} {l : Launch} {c0 : Nat}  {m m9 : gM} {r : Int32} (h : cf_J11_hashCode c0 m = some (r, m9)) : gz_Met cS G l yJ11_hashCode cJ11_hashCode 1 (some .int) (mRm 2 49) [.ref (gz_ad G c0)] m m9 (some (.int r)) :=
  gz_ofI (by decide +kernel) (Nat.le_of_ble_eq_true rfl) fun X _ hX hk => wm_J11_hashCode hX h hk
theorem cc_J11_240 {X : gz_X} {G : gz_G} {cc : ByteArray} {nL fr lo pc : Nat} {rem : Nat × Nat} {lv : List (Nat × Value)} {rest st0 : List Value} (hX : gz_C cS X G cc nL RJ11 fr lo) {c0 : Nat} {x1 : Int32} {c2 : Nat} {x3 : Int32} {x4 : Int32} {m m9 : gM}  (h : cf_J10_inflate c0 x1 c2 x3 x4 m = some ((), m9)) (hroom : 3 + 1 ≤ fr ∧ 8 + (6 + 11) + 67 ≤ lo) (hst : st0 = [.int x4, .int x3, .ref (gz_ad G c2), .int x1, .ref (gz_ad G c0)] ++ rest) (hW : (rest.map fun v => v.category).sum ≤ 8) (hd : decode cc pc = .ok (.invokestatic 240, 3)) (kk : gz_V cS X G nL rem m9 (pc + 3) lv (rest)) : gz_V cS X G nL rem m pc lv st0 :=
  gz_callS hX cs_E (As := [.ref (gz_ad G c0), .int x1, .ref (gz_ad G c2), .int x3, .int x4]) (rest := rest) (ct_J10_inflate (l := X.2.1) h) (lw_S q1206 q1207 q184 q1208) (n := 5) (by decide +kernel) hroom rfl hst hW hd (rem := rem) kk
/-! java/lang/StringLatin1.inflate([BI[BII)V -/
noncomputable def cf_J11_inflate (c0 : Nat) (x1 : Int32) (c2 : Nat) (x3 : Int32) (x4 : Int32) (m : gM) : Option (Unit × gM) :=
  ((cf_J10_inflate c0 x1 c2 x3 x4 m).bind fun (_, m2) => some ((), m2))
theorem wm_J11_inflate {X : gz_X} {G : gz_G} (hX : gz_C cS X G cJ11_inflate 5 RJ11 4 92) {c0 : Nat} {x1 : Int32} {c2 : Nat} {x3 : Int32} {x4 : Int32}  {m : gM} {z : (Unit × gM)} (h : cf_J11_inflate c0 x1 c2 x3 x4 m = some z) (hk : (fun z : (Unit × gM) => gz_kV cS X G 5 (0, 0) cJ11_inflate z.2) z) : gz_V cS X G 5 (0, 0) m 0 [(0, .ref (gz_ad G c0)), (1, .int x1), (2, .ref (gz_ad G c2)), (3, .int x3), (4, .int x4)] [] := by
  unfold cf_J11_inflate at h
  refine gz_aload_n (pc := 0) hX dJ11_inflate_0 rfl 0 rfl ?_
  refine gz_iload_n (pc := 1) hX dJ11_inflate_1 rfl 1 rfl ?_
  refine gz_aload_n (pc := 2) hX dJ11_inflate_2 rfl 2 rfl ?_
  refine gz_iload_n (pc := 3) hX dJ11_inflate_3 rfl 3 rfl ?_
  refine gz_iload (pc := 4) hX dJ11_inflate_4 4 rfl ?_
  obtain ⟨⟨⟨⟩, m2⟩, c3, h⟩ := gz_bd h
  refine cc_J11_240 (pc := 6) hX c3 ⟨Nat.le_of_ble_eq_true rfl, Nat.le_of_ble_eq_true rfl⟩ (rest := []) rfl (Nat.le_of_ble_eq_true rfl) dJ11_inflate_6 ?_
  obtain rfl := Option.some.inj h
  exact hk _ _ dJ11_inflate_9
theorem ct_J11_inflate {G : gz_G} {l : Launch} {c0 : Nat} {x1 : Int32} {c2 : Nat} {x3 : Int32} {x4 : Int32}  {m m9 : gM} (h : cf_J11_inflate c0 x1 c2 x3 x4 m = some ((), m9)) : gz_Met cS G l yJ11_inflate cJ11_inflate 5 none (mRm 4 92) [.ref (gz_ad G c0), .int x1, .ref (gz_ad G c2), .int x3, .int x4] m m9 none :=
  gz_ofV (by decide +kernel) (Nat.le_of_ble_eq_true rfl) fun X _ hX hk => wm_J11_inflate hX h hk
theorem cc_J11_9 {X : gz_X} {G : gz_G} {cc : ByteArray} {nL fr lo pc : Nat} {rem : Nat × Nat} {lv : List (Nat × Value)} {rest st0 : List Value} (hX : gz_C cS X G cc nL RJ11 fr lo) {x0 : Int32} {x1 : Int32} {m m9 : gM}  (h : cf_J9_checkIndex x0 x1 m = some ((), m9)) (hroom : 1 + 1 ≤ fr ∧ 8 + (2 + 11) + 22 ≤ lo) (hst : st0 = [.int x1, .int x0] ++ rest) (hW : (rest.map fun v => v.category).sum ≤ 8) (hd : decode cc pc = .ok (.invokestatic 9, 3)) (kk : gz_V cS X G nL rem m9 (pc + 3) lv (rest)) : gz_V cS X G nL rem m pc lv st0 :=
  gz_callS hX cs_E (As := [.int x0, .int x1]) (rest := rest) (ct_J9_checkIndex (l := X.2.1) h) (lw_S q1362 q1216 q183 q1217) (n := 2) (by decide +kernel) hroom rfl hst hW hd (rem := rem) kk
/-! java/lang/StringLatin1.charAt([BI)C -/
noncomputable def cf_J11_charAt (c0 : Nat) (x1 : Int32) (m : gM) : Option (Int32 × gM) :=
  (if gK m c0 = 102 then ((cf_J9_checkIndex x1 (nI (gN m c0)) m).bind fun (_, m3) => (if gK m3 c0 = 102 then (if gz_in x1 (gN m3 c0) then (if ((((gI m3 c0 (gz_ix x1)) &&& (255 : Int32)).toUInt32 % 65536).toInt32).toUInt32.toUInt16.toUInt32.toInt32 = ((((gI m3 c0 (gz_ix x1)) &&& (255 : Int32)).toUInt32 % 65536).toInt32) then some (((((gI m3 c0 (gz_ix x1)) &&& (255 : Int32)).toUInt32 % 65536).toInt32), m3) else none) else none) else none)) else none)
theorem wm_J11_charAt {X : gz_X} {G : gz_G} (hX : gz_C cS X G cJ11_charAt 2 RJ11 2 43) {c0 : Nat} {x1 : Int32}  {m : gM} {z : (Int32 × gM)} (h : cf_J11_charAt c0 x1 m = some z) (hk : (fun z : (Int32 × gM) => gz_kN cS X G 2 (0, 0) cJ11_charAt .char z.2 z.1) z) : gz_V cS X G 2 (0, 0) m 0 [(0, .ref (gz_ad G c0)), (1, .int x1)] [] := by
  unfold cf_J11_charAt at h
  refine gz_iload_n (pc := 0) hX dJ11_charAt_0 rfl 1 rfl ?_
  refine gz_aload_n (pc := 1) hX dJ11_charAt_1 rfl 0 rfl ?_
  obtain ⟨g1, h⟩ := gz_gu h
  refine gz_alen2 (pc := 2) (c := c0) (t := 1) (n := gN m c0) hX rfl (fun _ => ⟨g1, rfl⟩) dJ11_charAt_2 ?_
  obtain ⟨⟨⟨⟩, m3⟩, c4, h⟩ := gz_bd h
  refine cc_J11_9 (pc := 3) hX c4 ⟨Nat.le_of_ble_eq_true rfl, Nat.le_of_ble_eq_true rfl⟩ (rest := []) rfl (Nat.le_of_ble_eq_true rfl) dJ11_charAt_3 ?_
  refine gz_aload_n (pc := 6) hX dJ11_charAt_6 rfl 0 rfl ?_
  refine gz_iload_n (pc := 7) hX dJ11_charAt_7 rfl 1 rfl ?_
  obtain ⟨g5, h⟩ := gz_gu h
  obtain ⟨g6, h⟩ := gz_gu h
  refine gz_bald2 (pc := 8) (c := c0) (n := gN m3 c0) hX rfl (fun _ => ⟨g5, rfl⟩) g6 dJ11_charAt_8 ?_
  refine gz_sipush (pc := 9) (v := (255 : Int32)) hX dJ11_charAt_9 (by decide) ?_
  refine gz_iand (pc := 12) hX dJ11_charAt_12 ?_
  refine gz_i2c (pc := 13) hX dJ11_charAt_13 ?_
  obtain ⟨g7, h⟩ := gz_gu h
  obtain rfl := Option.some.inj h
  exact hk _ _ dJ11_charAt_14 (congrArg Value.int g7)
theorem ct_J11_charAt {G : gz_G} {l : Launch} {c0 : Nat} {x1 : Int32}  {m m9 : gM} {r : Int32} (h : cf_J11_charAt c0 x1 m = some (r, m9)) : gz_Met cS G l yJ11_charAt cJ11_charAt 2 (some .char) (mRm 2 43) [.ref (gz_ad G c0), .int x1] m m9 (some (.int r)) :=
  gz_ofN (by decide +kernel) (Nat.le_of_ble_eq_true rfl) fun X _ hX hk => wm_J11_charAt hX h hk
theorem cc_J2_1 {X : gz_X} {G : gz_G} {cc : ByteArray} {nL fr lo pc : Nat} {rem : Nat × Nat} {lv : List (Nat × Value)} {rest st0 : List Value} (hX : gz_C cS X G cc nL RJ2 fr lo) {c0 : Nat} {m m9 : gM}  (h : cf_J1_init c0 m = some ((), m9)) (hroom : 2 + 1 ≤ fr ∧ 8 + (1 + 11) + 40 ≤ lo) (hst : st0 = [.ref (gz_ad G c0)] ++ rest) (hW : (rest.map fun v => v.category).sum ≤ 8) (hd : decode cc pc = .ok (.invokespecial 1, 3)) (kk : gz_V cS X G nL rem m9 (pc + 3) lv (rest)) : gz_V cS X G nL rem m pc lv st0 :=
  gz_callI hX cs_E (As := []) (rest := rest) (c := c0) (ct_J1_init (l := X.2.1) h) q229 q170 q227 q228 rfl (n := 0) (by decide +kernel) hroom rfl hst hW hd (rem := rem) kk
theorem cs_J2_15 {X : gz_X} {G : gz_G} {cc : ByteArray} {nL fr lo pc : Nat} {rem : Nat × Nat} {m : gM} {lv : List (Nat × Value)} {st : List Value} (hX : gz_C cS X G cc nL RJ2 fr lo) (hd : decode cc pc = .ok (.getstatic 15, 3)) (kk : gz_V cS X G nL rem m (pc + 3) lv (.ref (gz_ad G 14) :: st)) : gz_V cS X G nL rem m pc lv st := gz_gets hX ((cz_s hX).2.2.1 _ (List.mem_of_getElem? (show cSr[4]? = some ("java/util/ArrayList", "EMPTY_ELEMENTDATA", "[Ljava/lang/Object;", 14) from rfl))) (Or.inl (hX.2.2.2.2.1 _ q236)) hd kk
theorem cp_J2_9_20 {X : gz_X} {G : gz_G} {cc : ByteArray} {nL fr lo pc : Nat} {rem : Nat × Nat} {m m9 : gM} {lv : List (Nat × Value)} {st : List Value} (hX : gz_C cS X G cc nL RJ2 fr lo) {c : Nat} {r : Nat} (hK : clc m.1 m.2.1 m.2.2.2.2.1 → m.1 c = 20 + 1) (hw : 1000 ≤ c) (hs : sr c 1 = 0 ∧ r ≠ 0) (hd : decode cc pc = .ok (.putfield 9, 3)) (hm : m9 = gz_sP m c 1 r) (kk : gz_V cS X G nL rem m9 (pc + 3) lv st) : gz_V cS X G nL rem m pc lv (.ref (gz_ad G r) :: .ref (gz_ad G c) :: st) := by
  subst hm
  exact gz_putf hX (C := RJ2) (T := TJ2) (N := 3) (ci := 20) (k := 1) (μ' := gz_sP m c 1 r) (v := .ref (gz_ad G r)) rfl (by decide) in_J2 tyJ2 tyJ2_ok nmJ2 (by decide) (Or.inl (hX.2.2.2.2.1 _ q238)) rfl rfl rfl rfl hd hK hw rfl rfl rfl (fun d tc j h => gz_sP_o d tc j h) (by intro j; rw [← gz_rfp hs.2]; exact gz_sP_v (fun j => ftC 20 j) rfl j) (clc_sP hs.1) kk
/-! java/util/ArrayList.<init>(I)V -/
noncomputable def cf_J2_init (c0 : Nat) (x1 : Int32) (m : gM) : Option (Unit × gM) :=
  ((cf_J1_init c0 m).bind fun (_, m2) => (if m2.2.2.2.2.2 = m.2.2.2.2.2 then (if x1 ≤ (0 : Int32) then (if x1 = (0 : Int32) then (if gK m2 c0 = 21 then (if 1000 ≤ c0 then (if sr c0 1 = 0 ∧ 14 ≠ 0 then gz_let (gz_sP m2 c0 1 14) fun m10 => some ((), m10) else none) else none) else none) else none) else (if 0 ≤ x1 ∧ gz_ix x1 * 4 ≤ 536870912 ∧ gZ m2 ≠ 0 then gz_let (gz_al m2 (5 + 101) (gz_ix x1) (gz_ix x1)) fun m12 => (if gK m12 c0 = 21 then (if 1000 ≤ c0 then (if sr c0 1 = 0 ∧ (gZ m2) ≠ 0 then gz_let (gz_sP m12 c0 1 (gZ m2)) fun m16 => some ((), m16) else none) else none) else none) else none)) else none))
theorem wm_J2_init {X : gz_X} {G : gz_G} {zE : Nat × Nat} (hX : gz_C cS X G cJ2_init 2 RJ2 3 60) (hn0 : X.2.2.2.2.2.2.2.2.1.name = "<init>") {c0 : Nat} {x1 : Int32}  {m : gM} {z : (Unit × gM)} (h : cf_J2_init c0 x1 m = some z) (hk : (fun z : (Unit × gM) => gz_kVa cS X G 2 zE cJ2_init z.2) z) : gz_Va cS X G 2 zE m 0 [(0, .ref (gz_ad G c0)), (1, .int x1)] [] := by
  unfold cf_J2_init at h
  refine gz_Vs (fun _ kk => gz_aload_n (pc := 0) hX dJ2_init_0 rfl 0 rfl kk) rfl ?_
  obtain ⟨⟨⟨⟩, m2⟩, c3, h⟩ := gz_bd h
  obtain ⟨g4, h⟩ := gz_gu h
  refine gz_Vs (fun _ kk => cc_J2_1 (pc := 1) hX c3 ⟨Nat.le_of_ble_eq_true rfl, Nat.le_of_ble_eq_true rfl⟩ (rest := []) rfl (Nat.le_of_ble_eq_true rfl) dJ2_init_1 kk) g4 ?_
  refine gz_Vs (fun _ kk => gz_iload_n (pc := 4) hX dJ2_init_4 rfl 1 rfl kk) rfl ?_
  refine gz_Vif (μ1 := m) (μ2 := m) (fun _ k1 k2 => gz_if_le (pc := 5) (tgt := 19) hX dJ2_init_5 (by decide) k1 k2) (by first | exact Classical.em _ | exact (Classical.em _).symm) (fun g5 => ?_) (fun g5 => ?_)
  · replace h := gz_it' g5 h
    refine gz_Vs (fun _ kk => gz_iload_n (pc := 19) hX dJ2_init_19 rfl 1 rfl kk) rfl ?_
    refine gz_Vif (μ1 := m) (μ2 := m) (fun _ k1 k2 => gz_if_ne (pc := 20) (tgt := 33) hX dJ2_init_20 (by decide) k1 k2) (by first | exact Classical.em _ | exact (Classical.em _).symm) (fun g6 => ?_) (fun g6 => ?_)
    · replace h := gz_if' g6 h
      exact nomatch h
    · replace h := gz_it' g6 h
      refine gz_Vs (fun _ kk => gz_aload_n (pc := 23) hX dJ2_init_23 rfl 0 rfl kk) rfl ?_
      refine gz_Vs (fun _ kk => cs_J2_15 (pc := 24) hX dJ2_init_24 kk) rfl ?_
      obtain ⟨g7, h⟩ := gz_gu h
      obtain ⟨g8, h⟩ := gz_gu h
      obtain ⟨g9, h⟩ := gz_gu h
      obtain ⟨m10, em10, h⟩ := gz_lt h
      refine gz_Vs (fun _ kk => cp_J2_9_20 (pc := 27) hX (c := c0) (fun _ => g7) g8 g9 dJ2_init_27 em10 kk) (by rw [em10]; rfl) ?_
      refine gz_Vs (fun _ kk => gz_goto (pc := 30) (tgt := 60) hX dJ2_init_30 (by decide) kk) rfl ?_
      obtain rfl := Option.some.inj h
      exact hk _ _ dJ2_init_60
  · replace h := gz_if' g5 h
    refine gz_Vs (fun _ kk => gz_aload_n (pc := 8) hX dJ2_init_8 rfl 0 rfl kk) rfl ?_
    refine gz_Vs (fun _ kk => gz_iload_n (pc := 9) hX dJ2_init_9 rfl 1 rfl kk) rfl ?_
    obtain ⟨g11, h⟩ := gz_gu h
    obtain ⟨m12, em12, h⟩ := gz_lt h
    refine gz_Vn (fun _ kk => gz_anew (pc := 10) (t := 5) (N := gz_ix x1) hX rfl rfl q234 (cz_s hX).2.2.2.1.1 ⟨⟨g11.1, Nat.lt_succ_self _⟩, rfl⟩ g11.2.1 g11.2.2 clc_al dJ2_init_10 em12 kk) em12 ?_
    obtain ⟨g13, h⟩ := gz_gu h
    obtain ⟨g14, h⟩ := gz_gu h
    obtain ⟨g15, h⟩ := gz_gu h
    obtain ⟨m16, em16, h⟩ := gz_lt h
    refine gz_Vs (fun _ kk => cp_J2_9_20 (pc := 13) hX (c := c0) (fun _ => g13) g14 g15 dJ2_init_13 em16 kk) (by rw [em16]; rfl) ?_
    refine gz_Vs (fun _ kk => gz_goto (pc := 16) (tgt := 60) hX dJ2_init_16 (by decide) kk) rfl ?_
    obtain rfl := Option.some.inj h
    exact hk _ _ dJ2_init_60
theorem ct_J2_init {G : gz_G} {l : Launch} {c0 : Nat} {x1 : Int32}  {m m9 : gM} (h : cf_J2_init c0 x1 m = some ((), m9)) : gz_Met cS G l yJ2_init cJ2_init 2 none (mRc 3 60 (gZ m9 - gZ m) (gW m9 - gW m)) [.ref (gz_ad G c0), .int x1] m m9 none :=
  gz_ofVc (by decide +kernel) (Nat.le_of_ble_eq_true rfl) fun X _ hn hX hk => (wm_J2_init (zE := m9.2.2.2.2.2) hX hn h (fun pc lv hd => gz_Ve (hk pc lv hd))).2
theorem cc_J2_118 {X : gz_X} {G : gz_G} {cc : ByteArray} {nL fr lo pc : Nat} {rem : Nat × Nat} {lv : List (Nat × Value)} {rest st0 : List Value} (hX : gz_C cS X G cc nL RJ2 fr lo) {x0 : Int32} {x1 : Int32} {m m9 : gM}  {r : Int32} (h : cf_J6_checkIndex x0 x1 m = some (r, m9)) (hroom : 1 + 1 ≤ fr ∧ 8 + (2 + 11) + 22 ≤ lo) (hst : st0 = [.int x1, .int x0] ++ rest) (hW : (rest.map fun v => v.category).sum ≤ 8) (hd : decode cc pc = .ok (.invokestatic 118, 3)) (kk : gz_V cS X G nL rem m9 (pc + 3) lv (.int r :: rest)) : gz_V cS X G nL rem m pc lv st0 :=
  gz_callS hX cs_E (As := [.int x0, .int x1]) (rest := rest) (ct_J6_checkIndex (l := X.2.1) h) (lw_S q482 q483 q179 q484) (n := 2) (by decide +kernel) hroom rfl hst hW hd (rem := rem) kk
theorem cc_J2_123 {X : gz_X} {G : gz_G} {cc : ByteArray} {nL fr lo pc : Nat} {rem : Nat × Nat} {lv : List (Nat × Value)} {rest st0 : List Value} (hX : gz_C cS X G cc nL RJ2 fr lo) {c0 : Nat} {x1 : Int32} {m m9 : gM} (hK : clc m.1 m.2.1 m.2.2.2.2.1 → m.1 c0 = 20 + 1)  {r : Nat} (h : cf_J2_elementData c0 x1 m = some (r, m9)) (hroom : 0 + 1 ≤ fr ∧ 8 + (2 + 11) + 0 ≤ lo) (hst : st0 = [.int x1, .ref (gz_ad G c0)] ++ rest) (hW : (rest.map fun v => v.category).sum ≤ 8) (hd : decode cc pc = .ok (.invokevirtual 123, 3)) (kk : gz_V cS X G nL rem m9 (pc + 3) lv (.ref (gz_ad G r) :: rest)) : gz_V cS X G nL rem m pc lv st0 :=
  gz_callV2 hX cs_E (As := [.int x1]) (rest := rest) (q := (RJ2, TJ2, 3)) (ci := 20) (c := c0) (ct_J2_elementData (l := X.2.1) h) (lw_V q488 q489 q490 q171 q491) (n := 1) (by decide +kernel) hroom rfl rfl (by decide) hK hst hW hd (rem := rem) kk
/-! java/util/ArrayList.get(I)Ljava/lang/Object; -/
noncomputable def cf_J2_get (c0 : Nat) (x1 : Int32) (m : gM) : Option (Nat × gM) :=
  (if gK m c0 = 21 then ((cf_J6_checkIndex x1 (gI m c0 2) m).bind fun (r2, m3) => (if gK m3 c0 = 21 then ((cf_J2_elementData c0 x1 m3).bind fun (r6, m7) => some (r6, m7)) else none)) else none)
theorem wm_J2_get {X : gz_X} {G : gz_G} (hX : gz_C cS X G cJ2_get 2 RJ2 2 43) {c0 : Nat} {x1 : Int32}  {m : gM} {z : (Nat × gM)} (h : cf_J2_get c0 x1 m = some z) (hk : (fun z : (Nat × gM) => gz_kR cS X G 2 (0, 0) cJ2_get z.2 z.1) z) : gz_V cS X G 2 (0, 0) m 0 [(0, .ref (gz_ad G c0)), (1, .int x1)] [] := by
  unfold cf_J2_get at h
  refine gz_iload_n (pc := 0) hX dJ2_get_0 rfl 1 rfl ?_
  refine gz_aload_n (pc := 1) hX dJ2_get_1 rfl 0 rfl ?_
  obtain ⟨g1, h⟩ := gz_gu h
  refine cg_J2_48_20 (pc := 2) hX (c := c0) (v := .int (gI m c0 2)) (fun _ => g1) (fun _ => rfl) dJ2_get_2 ?_
  obtain ⟨⟨r2, m3⟩, c4, h⟩ := gz_bd h
  refine cc_J2_118 (pc := 5) hX c4 ⟨Nat.le_of_ble_eq_true rfl, Nat.le_of_ble_eq_true rfl⟩ (rest := []) rfl (Nat.le_of_ble_eq_true rfl) dJ2_get_5 ?_
  refine gz_pop (pc := 8) hX dJ2_get_8 rfl ?_
  refine gz_aload_n (pc := 9) hX dJ2_get_9 rfl 0 rfl ?_
  refine gz_iload_n (pc := 10) hX dJ2_get_10 rfl 1 rfl ?_
  obtain ⟨g5, h⟩ := gz_gu h
  obtain ⟨⟨r6, m7⟩, c8, h⟩ := gz_bd h
  refine cc_J2_123 (pc := 11) hX (fun _ => g5) c8 ⟨Nat.le_of_ble_eq_true rfl, Nat.le_of_ble_eq_true rfl⟩ (rest := []) rfl (Nat.le_of_ble_eq_true rfl) dJ2_get_11 ?_
  obtain rfl := Option.some.inj h
  exact hk _ _ dJ2_get_14
theorem ct_J2_get {G : gz_G} {l : Launch} {c0 : Nat} {x1 : Int32}  {m m9 : gM} {r : Nat} (h : cf_J2_get c0 x1 m = some (r, m9)) : gz_Met cS G l yJ2_get cJ2_get 2 (some (.object "java/lang/Object")) (mRm 2 43) [.ref (gz_ad G c0), .int x1] m m9 (some (.ref (gz_ad G r))) :=
  gz_ofR (Or.inl ⟨_, rfl⟩) (by decide +kernel) (Nat.le_of_ble_eq_true rfl) fun X _ hX hk => wm_J2_get hX h hk
theorem cc_J2_73 {X : gz_X} {G : gz_G} {cc : ByteArray} {nL fr lo pc : Nat} {rem : Nat × Nat} {lv : List (Nat × Value)} {rest st0 : List Value} (hX : gz_C cS X G cc nL RJ2 fr lo) {x0 : Int32} {x1 : Int32} {x2 : Int32} {m m9 : gM}  {r : Int32} (h : cf_J12_newLength x0 x1 x2 m = some (r, m9)) (hroom : 1 + 1 ≤ fr ∧ 8 + (4 + 11) + 22 ≤ lo) (hst : st0 = [.int x2, .int x1, .int x0] ++ rest) (hW : (rest.map fun v => v.category).sum ≤ 8) (hd : decode cc pc = .ok (.invokestatic 73, 3)) (kk : gz_V cS X G nL rem m9 (pc + 3) lv (.int r :: rest)) : gz_V cS X G nL rem m pc lv st0 :=
  gz_callS hX cs_E (As := [.int x0, .int x1, .int x2]) (rest := rest) (ct_J12_newLength (l := X.2.1) h) (lw_S q866 q867 q186 q868) (n := 3) (by decide +kernel) hroom rfl hst hW hd (rem := rem) kk
theorem cc_J2_66 {X : gz_X} {G : gz_G} {cc : ByteArray} {nL fr lo pc : Nat} {rem : Nat × Nat} {lv : List (Nat × Value)} {rest st0 : List Value} (hX : gz_C cS X G cc nL RJ2 fr lo) {c0 : Nat} {x1 : Int32} {m m9 : gM}  {r : Nat} (h : cf_J13_copyOf c0 x1 m = some (r, m9)) (hroom : 2 + 1 ≤ fr ∧ 8 + (2 + 11) + 83 ≤ lo) (hst : st0 = [.int x1, .ref (gz_ad G c0)] ++ rest) (hW : (rest.map fun v => v.category).sum ≤ 8) (hd : decode cc pc = .ok (.invokestatic 66, 3)) (kk : gz_V cS X G nL rem m9 (pc + 3) lv (.ref (gz_ad G r) :: rest)) : gz_V cS X G nL (rem.1 + (gZ m9 - gZ m), rem.2 + (gW m9 - gW m)) m pc lv st0 :=
  gz_callS hX cs_E (As := [.ref (gz_ad G c0), .int x1]) (rest := rest) (ct_J13_copyOf (l := X.2.1) h) (lw_S q876 q877 q188 q878) (n := 2) (by decide +kernel) hroom rfl hst hW hd (rem := rem) kk
theorem cs_J2_39 {X : gz_X} {G : gz_G} {cc : ByteArray} {nL fr lo pc : Nat} {rem : Nat × Nat} {m : gM} {lv : List (Nat × Value)} {st : List Value} (hX : gz_C cS X G cc nL RJ2 fr lo) (hd : decode cc pc = .ok (.getstatic 39, 3)) (kk : gz_V cS X G nL rem m (pc + 3) lv (.ref (gz_ad G 15) :: st)) : gz_V cS X G nL rem m pc lv st := gz_gets hX ((cz_s hX).2.2.1 _ (List.mem_of_getElem? (show cSr[5]? = some ("java/util/ArrayList", "DEFAULTCAPACITY_EMPTY_ELEMENTDATA", "[Ljava/lang/Object;", 15) from rfl))) (Or.inl (hX.2.2.2.2.1 _ q864)) hd kk
theorem cc_J2_79 {X : gz_X} {G : gz_G} {cc : ByteArray} {nL fr lo pc : Nat} {rem : Nat × Nat} {lv : List (Nat × Value)} {rest st0 : List Value} (hX : gz_C cS X G cc nL RJ2 fr lo) {x0 : Int32} {x1 : Int32} {m m9 : gM}  {r : Int32} (h : cf_J8_max x0 x1 m = some (r, m9)) (hroom : 0 + 1 ≤ fr ∧ 8 + (2 + 11) + 0 ≤ lo) (hst : st0 = [.int x1, .int x0] ++ rest) (hW : (rest.map fun v => v.category).sum ≤ 8) (hd : decode cc pc = .ok (.invokestatic 79, 3)) (kk : gz_V cS X G nL rem m9 (pc + 3) lv (.int r :: rest)) : gz_V cS X G nL rem m pc lv st0 :=
  gz_callS hX cs_E (As := [.int x0, .int x1]) (rest := rest) (ct_J8_max (l := X.2.1) h) (lw_S q917 q870 q181 q871) (n := 2) (by decide +kernel) hroom rfl hst hW hd (rem := rem) kk
/-! java/util/ArrayList.grow(I)[Ljava/lang/Object; -/
noncomputable def mj_J2_grow_2_20 (c0 : Nat) (x1 : Int32) (x2 : Int32) (m : gM) : Option (Nat × gM) :=
  ((cf_J12_newLength x2 (x1 - x2) (x2 >>> ((1 : Int32) &&& 31)) m).bind fun (r1, m2) => (if m2.2.2.2.2.2 = m.2.2.2.2.2 then (if gK m2 c0 = 21 then gz_let (gP m2 c0 1) fun r6 => (if r6 ≠ 0 then ((cf_J13_copyOf r6 r1 m2).bind fun (r8, m9) => (if gZ m2 ≤ gZ m9 ∧ gW m2 ≤ gW m9 then (if gK m9 c0 = 21 then (if 1000 ≤ c0 then (if sr c0 1 = 0 ∧ r8 ≠ 0 then gz_let (gz_sP m9 c0 1 r8) fun m15 => some (r8, m15) else none) else none) else none) else none)) else none) else none) else none))
theorem wb_J2_grow_2_20 {X : gz_X} {G : gz_G} {zE : Nat × Nat} (hX : gz_C cS X G cJ2_grow_2 4 RJ2 3 104) {c0 : Nat} {x1 : Int32} {x2 : Int32}  {m : gM} {z : (Nat × gM)} (h : mj_J2_grow_2_20 c0 x1 x2 m = some z) (hk : (fun z : (Nat × gM) => gz_kRa cS X G 4 zE cJ2_grow_2 z.2 z.1) z) : gz_Va cS X G 4 zE m 20 [(0, .ref (gz_ad G c0)), (1, .int x1), (2, .int x2)] [] := by
  unfold mj_J2_grow_2_20 at h
  refine gz_Vs (fun _ kk => gz_iload_n (pc := 20) hX dJ2_grow_2_20 rfl 2 rfl kk) rfl ?_
  refine gz_Vs (fun _ kk => gz_iload_n (pc := 21) hX dJ2_grow_2_21 rfl 1 rfl kk) rfl ?_
  refine gz_Vs (fun _ kk => gz_iload_n (pc := 22) hX dJ2_grow_2_22 rfl 2 rfl kk) rfl ?_
  refine gz_Vs (fun _ kk => gz_isub (pc := 23) hX dJ2_grow_2_23 kk) rfl ?_
  refine gz_Vs (fun _ kk => gz_iload_n (pc := 24) hX dJ2_grow_2_24 rfl 2 rfl kk) rfl ?_
  refine gz_Vs (fun _ kk => gz_iconst (pc := 25) (v := (1 : Int32)) hX dJ2_grow_2_25 (by decide) kk) rfl ?_
  refine gz_Vs (fun _ kk => gz_ishr (pc := 26) hX dJ2_grow_2_26 kk) rfl ?_
  obtain ⟨⟨r1, m2⟩, c3, h⟩ := gz_bd h
  obtain ⟨g4, h⟩ := gz_gu h
  refine gz_Vs (fun _ kk => cc_J2_73 (pc := 27) hX c3 ⟨Nat.le_of_ble_eq_true rfl, Nat.le_of_ble_eq_true rfl⟩ (rest := []) rfl (Nat.le_of_ble_eq_true rfl) dJ2_grow_2_27 kk) g4 ?_
  refine gz_Vs (fun _ kk => gz_istore_n (pc := 30) (lw := [(3, .int r1), (0, .ref (gz_ad G c0)), (1, .int x1), (2, .int x2)]) hX dJ2_grow_2_30 rfl (by decide) rfl kk) rfl ?_
  refine gz_Vs (fun _ kk => gz_aload_n (pc := 31) hX dJ2_grow_2_31 rfl 1 rfl kk) rfl ?_
  refine gz_Vs (fun _ kk => gz_aload_n (pc := 32) hX dJ2_grow_2_32 rfl 1 rfl kk) rfl ?_
  obtain ⟨g5, h⟩ := gz_gu h
  obtain ⟨r6, er6, h⟩ := gz_lt h
  obtain ⟨g7, h⟩ := gz_gu h
  refine gz_Vs (fun _ kk => cg_J2_9_20 (pc := 33) hX (c := c0) (v := .ref (gz_ad G r6)) (fun _ => g5) (fun _ => gz_rq er6 g7) dJ2_grow_2_33 kk) rfl ?_
  refine gz_Vs (fun _ kk => gz_iload_n (pc := 36) hX dJ2_grow_2_36 rfl 0 rfl kk) rfl ?_
  obtain ⟨⟨r8, m9⟩, c10, h⟩ := gz_bd h
  obtain ⟨g11, h⟩ := gz_gu h
  refine gz_Vc (k := gZ m9 - gZ m2) (n := gW m9 - gW m2) (fun _ kk => cc_J2_66 (pc := 37) hX c10 ⟨Nat.le_of_ble_eq_true rfl, Nat.le_of_ble_eq_true rfl⟩ (rest := [.ref (gz_ad G c0)]) rfl (Nat.le_of_ble_eq_true rfl) dJ2_grow_2_37 kk) ⟨by have := g11.1; dsimp only [gZ] at *; omega, by have := g11.2; dsimp only [gW] at *; omega⟩ ?_
  refine gz_Vs (fun _ kk => gz_dup_x1 (pc := 40) hX dJ2_grow_2_40 rfl rfl kk) rfl ?_
  obtain ⟨g12, h⟩ := gz_gu h
  obtain ⟨g13, h⟩ := gz_gu h
  obtain ⟨g14, h⟩ := gz_gu h
  obtain ⟨m15, em15, h⟩ := gz_lt h
  refine gz_Vs (fun _ kk => cp_J2_9_20 (pc := 41) hX (c := c0) (fun _ => g12) g13 g14 dJ2_grow_2_41 em15 kk) (by rw [em15]; rfl) ?_
  obtain rfl := Option.some.inj h
  exact hk _ _ dJ2_grow_2_44
noncomputable def cf_J2_grow_2 (c0 : Nat) (x1 : Int32) (m : gM) : Option (Nat × gM) :=
  (if gK m c0 = 21 then gz_let (gP m c0 1) fun r2 => (if r2 ≠ 0 then (if gK m r2 = 106 then gz_let ((nI (gN m r2))) fun y5 => (if (0 : Int32) < y5 then (mj_J2_grow_2_20 c0 x1 y5 m) else (if gK m c0 = 21 then gz_let (gP m c0 1) fun r8 => (if r8 ≠ 0 then (if gK m r8 ≠ 0 ∧ gK m 15 ≠ 0 then (if r8 = 15 then ((cf_J8_max (10 : Int32) x1 m).bind fun (r12, m13) => (if m13.2.2.2.2.2 = m.2.2.2.2.2 then (if 0 ≤ r12 ∧ gz_ix r12 * 4 ≤ 536870912 ∧ gZ m13 ≠ 0 then gz_let (gz_al m13 (5 + 101) (gz_ix r12) (gz_ix r12)) fun m17 => (if gK m17 c0 = 21 then (if 1000 ≤ c0 then (if sr c0 1 = 0 ∧ (gZ m13) ≠ 0 then gz_let (gz_sP m17 c0 1 (gZ m13)) fun m21 => some ((gZ m13), m21) else none) else none) else none) else none) else none)) else (mj_J2_grow_2_20 c0 x1 y5 m)) else none) else none) else none)) else none) else none) else none)
theorem wm_J2_grow_2 {X : gz_X} {G : gz_G} {zE : Nat × Nat} (hX : gz_C cS X G cJ2_grow_2 4 RJ2 3 104) {c0 : Nat} {x1 : Int32}  {m : gM} {z : (Nat × gM)} (h : cf_J2_grow_2 c0 x1 m = some z) (hk : (fun z : (Nat × gM) => gz_kRa cS X G 4 zE cJ2_grow_2 z.2 z.1) z) : gz_Va cS X G 4 zE m 0 [(0, .ref (gz_ad G c0)), (1, .int x1)] [] := by
  unfold cf_J2_grow_2 at h
  refine gz_Vs (fun _ kk => gz_aload_n (pc := 0) hX dJ2_grow_2_0 rfl 0 rfl kk) rfl ?_
  obtain ⟨g1, h⟩ := gz_gu h
  obtain ⟨r2, er2, h⟩ := gz_lt h
  obtain ⟨g3, h⟩ := gz_gu h
  refine gz_Vs (fun _ kk => cg_J2_9_20 (pc := 1) hX (c := c0) (v := .ref (gz_ad G r2)) (fun _ => g1) (fun _ => gz_rq er2 g3) dJ2_grow_2_1 kk) rfl ?_
  obtain ⟨g4, h⟩ := gz_gu h
  refine gz_Vs (fun _ kk => gz_alen2 (pc := 4) (c := r2) (t := 5) (n := gN m r2) hX rfl (fun _ => ⟨g4, rfl⟩) dJ2_grow_2_4 kk) rfl ?_
  obtain ⟨y5, ey5, h⟩ := gz_lt h
  refine gz_Vs (fun _ kk => gz_topi ey5 kk) rfl ?_
  refine gz_Vs (fun _ kk => gz_istore_n (pc := 5) (lw := [(2, .int y5), (0, .ref (gz_ad G c0)), (1, .int x1)]) hX dJ2_grow_2_5 rfl (by decide) rfl kk) rfl ?_
  refine gz_Vs (fun _ kk => gz_iload_n (pc := 6) hX dJ2_grow_2_6 rfl 0 rfl kk) rfl ?_
  refine gz_Vif (μ1 := m) (μ2 := m) (fun _ k1 k2 => gz_if_gt (pc := 7) (tgt := 20) hX dJ2_grow_2_7 (by decide) k1 k2) (by first | exact Classical.em _ | exact (Classical.em _).symm) (fun g6 => ?_) (fun g6 => ?_)
  · replace h := gz_it' g6 h
    refine gz_Vs (fun _ kk => gz_sub (lw := [(0, .ref (gz_ad G c0)), (1, .int x1), (2, .int y5)]) [1, 2, 0] rfl kk) rfl ?_
    exact wb_J2_grow_2_20 hX h hk
  · replace h := gz_if' g6 h
    refine gz_Vs (fun _ kk => gz_aload_n (pc := 10) hX dJ2_grow_2_10 rfl 1 rfl kk) rfl ?_
    obtain ⟨g7, h⟩ := gz_gu h
    obtain ⟨r8, er8, h⟩ := gz_lt h
    obtain ⟨g9, h⟩ := gz_gu h
    refine gz_Vs (fun _ kk => cg_J2_9_20 (pc := 11) hX (c := c0) (v := .ref (gz_ad G r8)) (fun _ => g7) (fun _ => gz_rq er8 g9) dJ2_grow_2_11 kk) rfl ?_
    refine gz_Vs (fun _ kk => cs_J2_39 (pc := 14) hX dJ2_grow_2_14 kk) rfl ?_
    obtain ⟨g10, h⟩ := gz_gu h
    refine gz_Vif (μ1 := m) (μ2 := m) (fun _ k1 k2 => gz_acmp_eq (pc := 17) (x := r8) (y := 15) (tgt := 45) hX g10 dJ2_grow_2_17 (by decide) k1 k2) (by first | exact Classical.em _ | exact (Classical.em _).symm) (fun g11 => ?_) (fun g11 => ?_)
    · replace h := gz_it' g11 h
      refine gz_Vs (fun _ kk => gz_aload_n (pc := 45) hX dJ2_grow_2_45 rfl 1 rfl kk) rfl ?_
      refine gz_Vs (fun _ kk => gz_bipush (pc := 46) (v := (10 : Int32)) hX dJ2_grow_2_46 (by decide) kk) rfl ?_
      refine gz_Vs (fun _ kk => gz_iload_n (pc := 48) hX dJ2_grow_2_48 rfl 2 rfl kk) rfl ?_
      obtain ⟨⟨r12, m13⟩, c14, h⟩ := gz_bd h
      obtain ⟨g15, h⟩ := gz_gu h
      refine gz_Vs (fun _ kk => cc_J2_79 (pc := 49) hX c14 ⟨Nat.le_of_ble_eq_true rfl, Nat.le_of_ble_eq_true rfl⟩ (rest := [.ref (gz_ad G c0)]) rfl (Nat.le_of_ble_eq_true rfl) dJ2_grow_2_49 kk) g15 ?_
      obtain ⟨g16, h⟩ := gz_gu h
      obtain ⟨m17, em17, h⟩ := gz_lt h
      refine gz_Vn (fun _ kk => gz_anew (pc := 52) (t := 5) (N := gz_ix r12) hX rfl rfl q234 (cz_s hX).2.2.2.1.1 ⟨⟨g16.1, Nat.lt_succ_self _⟩, rfl⟩ g16.2.1 g16.2.2 clc_al dJ2_grow_2_52 em17 kk) em17 ?_
      refine gz_Vs (fun _ kk => gz_dup_x1 (pc := 55) hX dJ2_grow_2_55 rfl rfl kk) rfl ?_
      obtain ⟨g18, h⟩ := gz_gu h
      obtain ⟨g19, h⟩ := gz_gu h
      obtain ⟨g20, h⟩ := gz_gu h
      obtain ⟨m21, em21, h⟩ := gz_lt h
      refine gz_Vs (fun _ kk => cp_J2_9_20 (pc := 56) hX (c := c0) (fun _ => g18) g19 g20 dJ2_grow_2_56 em21 kk) (by rw [em21]; rfl) ?_
      obtain rfl := Option.some.inj h
      exact hk _ _ dJ2_grow_2_59
    · replace h := gz_if' g11 h
      refine gz_Vs (fun _ kk => gz_sub (lw := [(0, .ref (gz_ad G c0)), (1, .int x1), (2, .int y5)]) [1, 2, 0] rfl kk) rfl ?_
      exact wb_J2_grow_2_20 hX h hk
theorem ct_J2_grow_2 {G : gz_G} {l : Launch} {c0 : Nat} {x1 : Int32}  {m m9 : gM} {r : Nat} (h : cf_J2_grow_2 c0 x1 m = some (r, m9)) : gz_Met cS G l yJ2_grow_2 cJ2_grow_2 4 (some (.array (.object "java/lang/Object"))) (mRc 3 104 (gZ m9 - gZ m) (gW m9 - gW m)) [.ref (gz_ad G c0), .int x1] m m9 (some (.ref (gz_ad G r))) :=
  gz_ofR (Or.inr ⟨_, rfl⟩) (by decide +kernel) (Nat.le_of_ble_eq_true rfl) fun X _ hX hk => (wm_J2_grow_2 (zE := m9.2.2.2.2.2) hX h (fun pc lv hd => gz_Ve (hk pc lv hd))).2
theorem cc_J15_329 {X : gz_X} {G : gz_G} {cc : ByteArray} {nL fr lo pc : Nat} {rem : Nat × Nat} {lv : List (Nat × Value)} {rest st0 : List Value} (hX : gz_C cS X G cc nL RJ15 fr lo) {c0 : Nat} {x1 : Int32} {m m9 : gM} (hK : clc m.1 m.2.1 m.2.2.2.2.1 → m.1 c0 = 22 + 1)  {r : Int32} (h : cf_J14_charAt c0 x1 m = some (r, m9)) (hroom : 2 + 1 ≤ fr ∧ 8 + (5 + 11) + 43 ≤ lo) (hst : st0 = [.int x1, .ref (gz_ad G c0)] ++ rest) (hW : (rest.map fun v => v.category).sum ≤ 8) (hd : decode cc pc = .ok (.invokespecial 329, 3)) (kk : gz_V cS X G nL rem m9 (pc + 3) lv (.int r :: rest)) : gz_V cS X G nL rem m pc lv st0 :=
  gz_callSU hX cs_E (As := [.int x1]) (rest := rest) (q := (RJ15, TJ15, 4)) (ci := 22) (c := c0) (ct_J14_charAt (l := X.2.1) h) (va_cwSU 1 hX.2.2.2.2.1 (lw_app (by intro w hw; simp only [List.mem_cons, List.not_mem_nil, or_false] at hw; rcases hw with e | e | e | e | e <;> rw [e] <;> first | exact q1466 | exact q2661 | exact q1067 | exact q1467 | exact q195) (lw_meth q1468)) rfl rfl rfl (by decide +kernel) ⟨Nat.le_trans hroom.1 hX.2.2.2.2.2.2.1, Nat.le_trans hroom.2 hX.2.2.2.2.2.2.2⟩) rfl rfl (by decide) hK hst hW hd (rem := rem) kk
/-! java/lang/StringBuilder.charAt(I)C -/
noncomputable def cf_J15_charAt (c0 : Nat) (x1 : Int32) (m : gM) : Option (Int32 × gM) :=
  (if gK m c0 = 23 then ((cf_J14_charAt c0 x1 m).bind fun (r2, m3) => (if r2.toUInt32.toUInt16.toUInt32.toInt32 = r2 then some (r2, m3) else none)) else none)
theorem wm_J15_charAt {X : gz_X} {G : gz_G} (hX : gz_C cS X G cJ15_charAt 2 RJ15 3 67) {c0 : Nat} {x1 : Int32}  {m : gM} {z : (Int32 × gM)} (h : cf_J15_charAt c0 x1 m = some z) (hk : (fun z : (Int32 × gM) => gz_kN cS X G 2 (0, 0) cJ15_charAt .char z.2 z.1) z) : gz_V cS X G 2 (0, 0) m 0 [(0, .ref (gz_ad G c0)), (1, .int x1)] [] := by
  unfold cf_J15_charAt at h
  refine gz_aload_n (pc := 0) hX dJ15_charAt_0 rfl 0 rfl ?_
  refine gz_iload_n (pc := 1) hX dJ15_charAt_1 rfl 1 rfl ?_
  obtain ⟨g1, h⟩ := gz_gu h
  obtain ⟨⟨r2, m3⟩, c4, h⟩ := gz_bd h
  refine cc_J15_329 (pc := 2) hX (fun _ => g1) c4 ⟨Nat.le_of_ble_eq_true rfl, Nat.le_of_ble_eq_true rfl⟩ (rest := []) rfl (Nat.le_of_ble_eq_true rfl) dJ15_charAt_2 ?_
  obtain ⟨g5, h⟩ := gz_gu h
  obtain rfl := Option.some.inj h
  exact hk _ _ dJ15_charAt_5 (congrArg Value.int g5)
theorem ct_J15_charAt {G : gz_G} {l : Launch} {c0 : Nat} {x1 : Int32}  {m m9 : gM} {r : Int32} (h : cf_J15_charAt c0 x1 m = some (r, m9)) : gz_Met cS G l yJ15_charAt cJ15_charAt 2 (some .char) (mRm 3 67) [.ref (gz_ad G c0), .int x1] m m9 (some (.int r)) :=
  gz_ofN (by decide +kernel) (Nat.le_of_ble_eq_true rfl) fun X _ hX hk => wm_J15_charAt hX h hk
theorem cc_X2_264 {X : gz_X} {G : gz_G} {cc : ByteArray} {nL fr lo pc : Nat} {rem : Nat × Nat} {lv : List (Nat × Value)} {rest st0 : List Value} (hX : gz_C cS X G cc nL RX2 fr lo) {x1 : Int32} {m m9 : gM} (hK : clc m.1 m.2.1 m.2.2.2.2.1 → m.1 1011 = 2 + 1)  (h : cf_X2_opens x1 m = some (some (), m9)) (hroom : 1 + 1 ≤ fr ∧ 8 + (2 + 11) + 22 ≤ lo) (hst : st0 = [.int x1, .ref (gz_ad G 1011)] ++ rest) (hW : (rest.map fun v => v.category).sum ≤ 8) (hd : decode cc pc = .ok (.invokevirtual 264, 3)) (kk : gz_V cS X G nL rem m9 (pc + 3) lv (rest)) : gz_V cS X G nL (rem.1 + (gZ m9 - gZ m), rem.2 + (gW m9 - gW m)) m pc lv st0 :=
  gz_callX hX cs_E (As := [.int x1]) (rest := rest) (q := (RX2, TX2, 8)) (ci := 2) (c := 1011) (ct_X2_opens (l := X.2.1) h) (lw_V q1087 q1089 qs29 q172 q1090) (n := 1) (by decide +kernel) hroom rfl rfl (by decide) hK hst hW hd (rem := rem) (fun rv e => by obtain rfl := Option.some.inj e; exact kk) (fun e => by simp at e)
theorem cc_X2_264x {X : gz_X} {G : gz_G} {cc : ByteArray} {nL fr lo pc : Nat} {rem : Nat × Nat} {lv : List (Nat × Value)} {rest st0 : List Value} (hX : gz_C cS X G cc nL RX2 fr lo) {x1 : Int32} {m m9 : gM} (hK : clc m.1 m.2.1 m.2.2.2.2.1 → m.1 1011 = 2 + 1)  (h : cf_X2_opens x1 m = some (none, m9)) (hroom : 1 + 1 ≤ fr ∧ 8 + (2 + 11) + 22 ≤ lo) (hst : st0 = [.int x1, .ref (gz_ad G 1011)] ++ rest) (hW : (rest.map fun v => v.category).sum ≤ 8) (hd : decode cc pc = .ok (.invokevirtual 264, 3)) (kk : gz_VX cS X G nL rem m9 pc lv) : gz_V cS X G nL (rem.1 + (gZ m9 - gZ m), rem.2 + (gW m9 - gW m)) m pc lv st0 :=
  gz_callX hX cs_E (As := [.int x1]) (rest := rest) (q := (RX2, TX2, 8)) (ci := 2) (c := 1011) (ct_X2_opens (l := X.2.1) h) (lw_V q1087 q1089 qs29 q172 q1090) (n := 1) (by decide +kernel) hroom rfl rfl (by decide) hK hst hW hd (rem := rem) (fun rv e => by simp at e) (fun _ => kk)
theorem cn_X2_339 {X : gz_X} {G : gz_G} {cc : ByteArray} {nL fr lo pc : Nat} {rem : Nat × Nat} {m m9 : gM} {lv : List (Nat × Value)} {st : List Value} (hX : gz_C cS X G cc nL RX2 fr lo) (hz : gZ m ≠ 0) (hd : decode cc pc = .ok (.new 339, 3)) (hm : m9 = gz_al m (14 + 1) 0 3) (kk : gz_V cS X G nL rem m9 (pc + 3) lv (.ref (gz_ad G (gZ m)) :: st)) : gz_V cS X G nL (rem.1 + 1, rem.2 + 3) m pc lv st :=
  gz_new hX (C := RX16) (T := TX16) (N := 3) (ci := 14) rfl (by decide) in_X16 tyX16 tyX16_ok (by decide +kernel) q1142 q1143 q200 hz clc_al hd hm kk
theorem cc_X2_261o {X : gz_X} {G : gz_G} {cc : ByteArray} {nL fr lo pc : Nat} {rem : Nat × Nat} {lv : List (Nat × Value)} {rest st0 : List Value} (hX : gz_C cS X G cc nL RX2 fr lo)  {m m9 : gM} (hK : clc m.1 m.2.1 m.2.2.2.2.1 → m.1 1011 = 2 + 1)  {oR : gM → Option (Option Nat × gM)} {f n : Nat} (hO : cOA G X.2.1 f n oR) {r : Nat} (h : oR  m = some (some r, m9)) (hroom : f + 1 ≤ fr ∧ 8 + (3 + 11) + n ≤ lo) (hst : st0 = [.ref (gz_ad G 1011)] ++ rest) (hW : (rest.map fun v => v.category).sum ≤ 8) (hd : decode cc pc = .ok (.invokevirtual 261, 3)) (kk : gz_V cS X G nL rem m9 (pc + 3) lv (.ref (gz_ad G r) :: rest)) : gz_V cS X G nL (rem.1 + (gZ m9 - gZ m), rem.2 + (gW m9 - gW m)) m pc lv st0 :=
  gz_callX hX cs_E (As := []) (rest := rest) (q := (RX2, TX2, 8)) (ci := 2) (c := 1011) (hO _ _ _ h) (lw_V q1079 q1081 qs27 q172 q1082) (n := 0) (by decide +kernel) hroom rfl rfl (by decide) hK hst hW hd (rem := rem) (fun rv e => by obtain rfl := Option.some.inj e; exact kk) (fun e => by simp at e)
theorem cc_X2_261ox {X : gz_X} {G : gz_G} {cc : ByteArray} {nL fr lo pc : Nat} {rem : Nat × Nat} {lv : List (Nat × Value)} {rest st0 : List Value} (hX : gz_C cS X G cc nL RX2 fr lo)  {m m9 : gM} (hK : clc m.1 m.2.1 m.2.2.2.2.1 → m.1 1011 = 2 + 1)  {oR : gM → Option (Option Nat × gM)} {f n : Nat} (hO : cOA G X.2.1 f n oR) (h : oR  m = some (none, m9)) (hroom : f + 1 ≤ fr ∧ 8 + (3 + 11) + n ≤ lo) (hst : st0 = [.ref (gz_ad G 1011)] ++ rest) (hW : (rest.map fun v => v.category).sum ≤ 8) (hd : decode cc pc = .ok (.invokevirtual 261, 3)) (kk : gz_VX cS X G nL rem m9 pc lv) : gz_V cS X G nL (rem.1 + (gZ m9 - gZ m), rem.2 + (gW m9 - gW m)) m pc lv st0 :=
  gz_callX hX cs_E (As := []) (rest := rest) (q := (RX2, TX2, 8)) (ci := 2) (c := 1011) (hO _ _ _ h) (lw_V q1079 q1081 qs27 q172 q1082) (n := 0) (by decide +kernel) hroom rfl rfl (by decide) hK hst hW hd (rem := rem) (fun rv e => by simp at e) (fun _ => kk)
theorem cc_X2_341 {X : gz_X} {G : gz_G} {cc : ByteArray} {nL fr lo pc : Nat} {rem : Nat × Nat} {lv : List (Nat × Value)} {rest st0 : List Value} (hX : gz_C cS X G cc nL RX2 fr lo) {c0 : Nat} {c1 : Nat} {x2 : Int32} {c3 : Nat} {m m9 : gM}  (h : cf_X16_init c0 c1 x2 c3 m = some ((), m9)) (hroom : 2 + 1 ≤ fr ∧ 8 + (4 + 11) + 40 ≤ lo) (hst : st0 = [.ref (gz_ad G c3), .int x2, .ref (gz_ad G c1), .ref (gz_ad G c0)] ++ rest) (hW : (rest.map fun v => v.category).sum ≤ 8) (hd : decode cc pc = .ok (.invokespecial 341, 3)) (kk : gz_V cS X G nL rem m9 (pc + 3) lv (rest)) : gz_V cS X G nL rem m pc lv st0 :=
  gz_callI hX cs_E (As := [.ref (gz_ad G c1), .int x2, .ref (gz_ad G c3)]) (rest := rest) (c := c0) (ct_X16_init (l := X.2.1) h) q1146 q200 q1144 q1145 rfl (n := 3) (by decide +kernel) hroom rfl hst hW hd (rem := rem) kk
/-! FirstSnuffer$Reader.looked(I)LFirstSnuffer$Value; -/
noncomputable def cf_X2_looked (oR : gM → Option (Option Nat × gM)) (x1 : Int32) (m : gM) : Option (Option Nat × gM) :=
  ((cf_X2_opens (gI m 1011 3) m).bind fun (o4, m2) => (if gZ m ≤ gZ m2 ∧ gW m ≤ gW m2 then gx_o o4 (fun r1 => (if gZ m2 ≠ 0 then gz_let (gz_al m2 (14 + 1) 0 3) fun m7 => ((oR  m7).bind fun (o11, m9) => (if gZ m7 ≤ gZ m9 ∧ gW m7 ≤ gW m9 then gx_o o11 (fun r8 => ((cf_X16_init (gZ m2) 1000 x1 r8 m9).bind fun (_, m14) => (if m14.2.2.2.2.2 = m9.2.2.2.2.2 then gz_let (gz_sI m14 1011 4 ((gI m14 1011 4) - (1 : Int32))) fun m17 => some (some (gZ m2), m17) else none))) (some (none, m9)) else none)) else none)) (some (none, m2)) else none))
theorem wm_X2_looked {X : gz_X} {G : gz_G} {zE : Nat × Nat} {oR : gM → Option (Option Nat × gM)} {f n : Nat} (hX : gz_C cS X G cX2_looked 3 RX2 (f + 1) (n + 40)) (h1 : 60 ≤ f) (h2 : 1500 ≤ n) (hO : cOA G X.2.1 f n oR) {x1 : Int32}  {m : gM} {z : (Option Nat × gM)} (h : cf_X2_looked oR x1 m = some z) (hk : (fun z : (Option Nat × gM) => gx_k (fun r => gz_kRa cS X G 3 zE cX2_looked z.2 r) (∀ (pc : Nat) (lv : List (Nat × Value)), gz_VXa cS X G 3 zE z.2 pc lv) z.1) z) : gz_Va cS X G 3 zE m 0 [(0, .ref (gz_ad G 1011)), (1, .int x1)] [] := by
  unfold cf_X2_looked at h
  refine gz_Vs (fun _ kk => gz_aload_n (pc := 0) hX dX2_looked_0 rfl 0 rfl kk) rfl ?_
  refine gz_Vs (fun _ kk => gz_aload_n (pc := 1) hX dX2_looked_1 rfl 0 rfl kk) rfl ?_
  refine gz_Vs (fun _ kk => cg_X2_61_2 (pc := 2) hX (c := 1011) (v := .int (gI m 1011 3)) (fun h => cz_k h rfl) (fun _ => rfl) dX2_looked_2 kk) rfl ?_
  obtain ⟨⟨o4, m2⟩, c3, h⟩ := gz_bd h
  obtain ⟨g5, h⟩ := gz_gu h
  cases o4 with
  | none =>
    replace h := gx_on h
    obtain rfl := Option.some.inj h
    exact gz_Vcx (k := gZ m2 - gZ m) (n := gW m2 - gW m) (fun _ kk => cc_X2_264x (pc := 5) hX (fun h => cz_k h rfl) c3 ⟨by omega, by omega⟩ (rest := []) rfl (Nat.le_of_ble_eq_true rfl) dX2_looked_5 kk) ⟨by have := g5.1; dsimp only [gZ] at *; omega, by have := g5.2; dsimp only [gW] at *; omega⟩ (hk _ _)
  | some r1 =>
    replace h := gx_os h
    refine gz_Vc (k := gZ m2 - gZ m) (n := gW m2 - gW m) (fun _ kk => cc_X2_264 (pc := 5) hX (fun h => cz_k h rfl) c3 ⟨by omega, by omega⟩ (rest := []) rfl (Nat.le_of_ble_eq_true rfl) dX2_looked_5 kk) ⟨by have := g5.1; dsimp only [gZ] at *; omega, by have := g5.2; dsimp only [gW] at *; omega⟩ ?_
    obtain ⟨g6, h⟩ := gz_gu h
    obtain ⟨m7, em7, h⟩ := gz_lt h
    refine gz_Vn (fun _ kk => cn_X2_339 (pc := 8) hX g6 dX2_looked_8 em7 kk) em7 ?_
    refine gz_Vs (fun _ kk => gz_dup (pc := 11) hX dX2_looked_11 rfl kk) rfl ?_
    refine gz_Vs (fun _ kk => gz_aload_n (pc := 12) hX dX2_looked_12 rfl 0 rfl kk) rfl ?_
    refine gz_Vs (fun _ kk => cg_X2_3_2 (pc := 13) hX (c := 1011) (v := .ref (gz_ad G 1000)) (fun h => cz_k h rfl) (fun h => cz_f h (by decide) rfl (by decide) rfl) dX2_looked_13 kk) rfl ?_
    refine gz_Vs (fun _ kk => gz_iload_n (pc := 16) hX dX2_looked_16 rfl 1 rfl kk) rfl ?_
    refine gz_Vs (fun _ kk => gz_aload_n (pc := 17) hX dX2_looked_17 rfl 0 rfl kk) rfl ?_
    obtain ⟨⟨o11, m9⟩, c10, h⟩ := gz_bd h
    obtain ⟨g12, h⟩ := gz_gu h
    cases o11 with
    | none =>
      replace h := gx_on h
      obtain rfl := Option.some.inj h
      exact gz_Vcx (k := gZ m9 - gZ m7) (n := gW m9 - gW m7) (fun _ kk => cc_X2_261ox (pc := 18) hX (fun h => cz_k h rfl) hO c10 ⟨by omega, by omega⟩ (rest := [.int x1, .ref (gz_ad G 1000), .ref (gz_ad G (gZ m2)), .ref (gz_ad G (gZ m2))]) rfl (Nat.le_of_ble_eq_true rfl) dX2_looked_18 kk) ⟨by have := g12.1; dsimp only [gZ] at *; omega, by have := g12.2; dsimp only [gW] at *; omega⟩ (hk _ _)
    | some r8 =>
      replace h := gx_os h
      refine gz_Vc (k := gZ m9 - gZ m7) (n := gW m9 - gW m7) (fun _ kk => cc_X2_261o (pc := 18) hX (fun h => cz_k h rfl) hO c10 ⟨by omega, by omega⟩ (rest := [.int x1, .ref (gz_ad G 1000), .ref (gz_ad G (gZ m2)), .ref (gz_ad G (gZ m2))]) rfl (Nat.le_of_ble_eq_true rfl) dX2_looked_18 kk) ⟨by have := g12.1; dsimp only [gZ] at *; omega, by have := g12.2; dsimp only [gW] at *; omega⟩ ?_
      obtain ⟨⟨⟨⟩, m14⟩, c15, h⟩ := gz_bd h
      obtain ⟨g16, h⟩ := gz_gu h
      refine gz_Vs (fun _ kk => cc_X2_341 (pc := 21) hX c15 ⟨by omega, by omega⟩ (rest := [.ref (gz_ad G (gZ m2))]) rfl (Nat.le_of_ble_eq_true rfl) dX2_looked_21 kk) g16 ?_
      refine gz_Vs (fun _ kk => gz_astore_n (pc := 24) (lw := [(2, .ref (gz_ad G (gZ m2))), (0, .ref (gz_ad G 1011)), (1, .int x1)]) hX dX2_looked_24 rfl (by decide) rfl kk) rfl ?_
      refine gz_Vs (fun _ kk => gz_aload_n (pc := 25) hX dX2_looked_25 rfl 1 rfl kk) rfl ?_
      refine gz_Vs (fun _ kk => gz_dup (pc := 26) hX dX2_looked_26 rfl kk) rfl ?_
      refine gz_Vs (fun _ kk => cg_X2_119_2 (pc := 27) hX (c := 1011) (v := .int (gI m14 1011 4)) (fun h => cz_k h rfl) (fun _ => rfl) dX2_looked_27 kk) rfl ?_
      refine gz_Vs (fun _ kk => gz_iconst (pc := 30) (v := (1 : Int32)) hX dX2_looked_30 (by decide) kk) rfl ?_
      refine gz_Vs (fun _ kk => gz_isub (pc := 31) hX dX2_looked_31 kk) rfl ?_
      obtain ⟨m17, em17, h⟩ := gz_lt h
      refine gz_Vs (fun _ kk => cp_X2_119_2 (pc := 32) hX (c := 1011) (fun h => cz_k h rfl) (Nat.le_of_ble_eq_true rfl) dX2_looked_32 em17 kk) (by rw [em17]; rfl) ?_
      refine gz_Vs (fun _ kk => gz_aload_n (pc := 35) hX dX2_looked_35 rfl 0 rfl kk) rfl ?_
      obtain rfl := Option.some.inj h
      exact hk _ _ dX2_looked_36
theorem ct_X2_looked {G : gz_G} {l : Launch} {oR : gM → Option (Option Nat × gM)} {f n : Nat} (h1 : 60 ≤ f) (h2 : 1500 ≤ n) (hO : cOA G l f n oR) {x1 : Int32}  {m m9 : gM} {o : Option Nat} (h : cf_X2_looked oR x1 m = some (o, m9)) : gx_Met cS G l yX2_looked cX2_looked 3 (some (.object "FirstSnuffer$Value")) (mRc (f + 1) (n + 40) (gZ m9 - gZ m) (gW m9 - gW m)) [.ref (gz_ad G 1011), .int x1] m m9 (o.map (fun r => some (.ref (gz_ad G r)))) :=
  gx_ofR (Or.inl ⟨_, rfl⟩) (by decide +kernel) (Nat.le_of_ble_eq_true rfl) ⟨_, rfl, rfl⟩ (fun h => cz_k (c := 1012) (k := 3) h rfl) fun X e hX hk => (wm_X2_looked (zE := m9.2.2.2.2.2) hX h1 h2 (e ▸ hO) h (gx_km (fun _ q pc lv hd => gz_Ve (q pc lv hd)) (fun q pc lv => gz_VXe (q pc lv)) hk)).2
theorem cp_J9_15_21 {X : gz_X} {G : gz_G} {cc : ByteArray} {nL fr lo pc : Nat} {rem : Nat × Nat} {m m9 : gM} {lv : List (Nat × Value)} {st : List Value} (hX : gz_C cS X G cc nL RJ9 fr lo) (hn0 : X.2.2.2.2.2.2.2.2.1.name = "<init>") {c : Nat} {x : Int32} (hK : clc m.1 m.2.1 m.2.2.2.2.1 → m.1 c = 21 + 1) (hw : 1000 ≤ c) (hz : x = 0 ∨ x = 1) (hd : decode cc pc = .ok (.putfield 15, 3)) (hm : m9 = gz_sI m c 1 x) (kk : gz_V cS X G nL rem m9 (pc + 3) lv st) : gz_V cS X G nL rem m pc lv (.int x :: .ref (gz_ad G c) :: st) := by
  subst hm
  exact gz_putff hX (C := RJ9) (T := TJ9) (N := 4) (ci := 21) (k := 1) (ty := .byte) (μ' := gz_sI m c 1 x) rfl (by decide) in_J9 tyJ9 tyJ9_ok nmJ9 (by decide) (hX.2.2.2.2.1 _ q714) (fun _ h => h) rfl hn0 rfl rfl (by rcases hz with h | h <;> rw [h] <;> rfl) (by rcases hz with h | h <;> rw [h] <;> rfl) hd hK hw rfl rfl rfl (fun d tc j h => gz_sI_o d tc j h) (gz_sI_v (fun j => ftC 21 j) rfl) (fun h => h) kk
theorem cc_J9_177 {X : gz_X} {G : gz_G} {cc : ByteArray} {nL fr lo pc : Nat} {rem : Nat × Nat} {lv : List (Nat × Value)} {rest st0 : List Value} (hX : gz_C cS X G cc nL RJ9 fr lo) {c0 : Nat} {x1 : Int32} {x2 : Int32} {m m9 : gM}  {r : Nat} (h : cf_J10_compress c0 x1 x2 m = some (r, m9)) (hroom : 2 + 1 ≤ fr ∧ 8 + (6 + 11) + 41 ≤ lo) (hst : st0 = [.int x2, .int x1, .ref (gz_ad G c0)] ++ rest) (hW : (rest.map fun v => v.category).sum ≤ 8) (hd : decode cc pc = .ok (.invokestatic 177, 3)) (kk : gz_V cS X G nL rem m9 (pc + 3) lv (.ref (gz_ad G r) :: rest)) : gz_V cS X G nL (rem.1 + (gZ m9 - gZ m), rem.2 + (gW m9 - gW m)) m pc lv st0 :=
  gz_callS hX cs_E (As := [.ref (gz_ad G c0), .int x1, .int x2]) (rest := rest) (ct_J10_compress (l := X.2.1) h) (lw_S q664 q665 q184 q666) (n := 3) (by decide +kernel) hroom rfl hst hW hd (rem := rem) kk
theorem cc_J9_47 {X : gz_X} {G : gz_G} {cc : ByteArray} {nL fr lo pc : Nat} {rem : Nat × Nat} {lv : List (Nat × Value)} {rest st0 : List Value} (hX : gz_C cS X G cc nL RJ9 fr lo) {c0 : Nat} {x1 : Int32} {m m9 : gM}  {r : Int32} (h : cf_J10_coderFromArrayLen c0 x1 m = some (r, m9)) (hroom : 0 + 1 ≤ fr ∧ 8 + (2 + 11) + 0 ≤ lo) (hst : st0 = [.int x1, .ref (gz_ad G c0)] ++ rest) (hW : (rest.map fun v => v.category).sum ≤ 8) (hd : decode cc pc = .ok (.invokestatic 47, 3)) (kk : gz_V cS X G nL rem m9 (pc + 3) lv (.int r :: rest)) : gz_V cS X G nL rem m pc lv st0 :=
  gz_callS hX cs_E (As := [.ref (gz_ad G c0), .int x1]) (rest := rest) (ct_J10_coderFromArrayLen (l := X.2.1) h) (lw_S q709 q710 q184 q711) (n := 2) (by decide +kernel) hroom rfl hst hW hd (rem := rem) kk
theorem cp_J9_9_21 {X : gz_X} {G : gz_G} {cc : ByteArray} {nL fr lo pc : Nat} {rem : Nat × Nat} {m m9 : gM} {lv : List (Nat × Value)} {st : List Value} (hX : gz_C cS X G cc nL RJ9 fr lo) (hn0 : X.2.2.2.2.2.2.2.2.1.name = "<init>") {c : Nat} {r : Nat} (hK : clc m.1 m.2.1 m.2.2.2.2.1 → m.1 c = 21 + 1) (hw : 1000 ≤ c) (hs : sr c 0 = 0 ∧ r ≠ 0) (hd : decode cc pc = .ok (.putfield 9, 3)) (hm : m9 = gz_sP m c 0 r) (kk : gz_V cS X G nL rem m9 (pc + 3) lv st) : gz_V cS X G nL rem m pc lv (.ref (gz_ad G r) :: .ref (gz_ad G c) :: st) := by
  subst hm
  exact gz_putff hX (C := RJ9) (T := TJ9) (N := 4) (ci := 21) (k := 0) (μ' := gz_sP m c 0 r) (v := .ref (gz_ad G r)) rfl (by decide) in_J9 tyJ9 tyJ9_ok nmJ9 (by decide) (hX.2.2.2.2.1 _ q713) (fun _ h => h) rfl hn0 rfl rfl rfl rfl hd hK hw rfl rfl rfl (fun d tc j h => gz_sP_o d tc j h) (by intro j; rw [← gz_rfp hs.2]; exact gz_sP_v (fun j => ftC 21 j) rfl j) (clc_sP hs.1) kk
theorem cl_s_J9_7 {X : gz_X} {G : gz_G} {cc : ByteArray} {nL : Nat} {own : String} {fr lo : Nat} (hX : gz_C cS X G cc nL own fr lo) : vk_R RJ9 7 "" (gz_ad G 162) X.2.2.2.2.1 := (cz_s hX).1 _ (List.mem_of_getElem? (show cKs[49]? = some ("java/lang/String", 7, "", 162) from rfl))
/-! java/lang/String.<init>([CIILjava/lang/Void;)V -/
noncomputable def cf_J9_init_2 (c0 : Nat) (c1 : Nat) (x2 : Int32) (x3 : Int32) (m : gM) : Option (Unit × gM) :=
  (if x3 = (0 : Int32) then (if gK m 162 = 22 then gz_let (gP m 162 0) fun r23 => (if r23 ≠ 0 then (if gK m c0 = 22 then (if 1000 ≤ c0 then (if sr c0 0 = 0 ∧ r23 ≠ 0 then gz_let (gz_sP m c0 0 r23) fun m28 => (if gK m28 162 = 22 then (if gK m28 c0 = 22 then (if (gI m28 162 1) = 0 ∨ (gI m28 162 1) = 1 then (if 1000 ≤ c0 then gz_let (gz_sI m28 c0 1 (gI m28 162 1)) fun m33 => some ((), m33) else none) else none) else none) else none) else none) else none) else none) else none) else none) else (if (1 : Int32) = (0 : Int32) then (if gK m c0 = 22 then (if 1000 ≤ c0 then gz_let (gz_sI m c0 1 (1 : Int32)) fun m5 => none else none) else none) else ((cf_J10_compress c1 x2 x3 m).bind fun (r6, m7) => (if gZ m ≤ gZ m7 ∧ gW m ≤ gW m7 then ((cf_J10_coderFromArrayLen r6 x3 m7).bind fun (r10, m11) => (if m11.2.2.2.2.2 = m7.2.2.2.2.2 then (if gK m11 c0 = 22 then (if r10 = 0 ∨ r10 = 1 then (if 1000 ≤ c0 then gz_let (gz_sI m11 c0 1 r10) fun m17 => (if gK m17 c0 = 22 then (if 1000 ≤ c0 then (if sr c0 0 = 0 ∧ r6 ≠ 0 then gz_let (gz_sP m17 c0 0 r6) fun m21 => some ((), m21) else none) else none) else none) else none) else none) else none) else none)) else none))))
theorem wm_J9_init_2 {X : gz_X} {G : gz_G} {zE : Nat × Nat} (hX : gz_C cS X G cJ9_init_2 6 RJ9 3 66) (hn0 : X.2.2.2.2.2.2.2.2.1.name = "<init>") {c0 : Nat} {c1 : Nat} {x2 : Int32} {x3 : Int32}  {m : gM} {z : (Unit × gM)} (h : cf_J9_init_2 c0 c1 x2 x3 m = some z) (hk : (fun z : (Unit × gM) => gz_kVa cS X G 6 zE cJ9_init_2 z.2) z) : gz_Va cS X G 6 zE m 0 [(0, .ref (gz_ad G c0)), (1, .ref (gz_ad G c1)), (2, .int x2), (3, .int x3), (4, .null)] [] := by
  unfold cf_J9_init_2 at h
  refine gz_Vs (fun _ kk => gz_aload_n (pc := 0) hX dJ9_init_2_0 rfl 0 rfl kk) rfl ?_
  refine gz_Vs (fun _ kk => gz_objI (pc := 1) hX q660 q214 q215 ⟨Nat.le_of_ble_eq_true rfl, Nat.le_of_ble_eq_true rfl⟩ (Nat.le_of_ble_eq_true rfl) dJ9_init_2_1 kk) rfl ?_
  refine gz_Vs (fun _ kk => gz_iload_n (pc := 4) hX dJ9_init_2_4 rfl 3 rfl kk) rfl ?_
  refine gz_Vif (μ1 := m) (μ2 := m) (fun _ k1 k2 => gz_if_ne (pc := 5) (tgt := 27) hX dJ9_init_2_5 (by decide) k1 k2) (by first | exact Classical.em _ | exact (Classical.em _).symm) (fun g1 => ?_) (fun g1 => ?_)
  · replace h := gz_if' g1 h
    refine gz_Vs (fun _ kk => cs_J9_38 (pc := 27) hX dJ9_init_2_27 kk) rfl ?_
    refine gz_Vif (μ1 := m) (μ2 := m) (fun _ k1 k2 => gz_if_eq (pc := 30) (tgt := 58) hX dJ9_init_2_30 (by decide) k1 k2) (by first | exact Classical.em _ | exact (Classical.em _).symm) (fun g2 => ?_) (fun g2 => ?_)
    · replace h := gz_it' g2 h
      refine gz_Vs (fun _ kk => gz_aload_n (pc := 58) hX dJ9_init_2_58 rfl 0 rfl kk) rfl ?_
      refine gz_Vs (fun _ kk => gz_iconst (pc := 59) (v := (1 : Int32)) hX dJ9_init_2_59 (by decide) kk) rfl ?_
      obtain ⟨g3, h⟩ := gz_gu h
      obtain ⟨g4, h⟩ := gz_gu h
      obtain ⟨m5, em5, h⟩ := gz_lt h
      refine gz_Vs (fun _ kk => cp_J9_15_21 (pc := 60) hX hn0 (c := c0) (fun _ => g3) g4 (Or.inr rfl) dJ9_init_2_60 em5 kk) (by rw [em5]; rfl) ?_
      refine gz_Vs (fun _ kk => gz_aload_n (pc := 63) hX dJ9_init_2_63 rfl 0 rfl kk) rfl ?_
      refine gz_Vs (fun _ kk => gz_aload_n (pc := 64) hX dJ9_init_2_64 rfl 1 rfl kk) rfl ?_
      refine gz_Vs (fun _ kk => gz_iload_n (pc := 65) hX dJ9_init_2_65 rfl 2 rfl kk) rfl ?_
      refine gz_Vs (fun _ kk => gz_iload_n (pc := 66) hX dJ9_init_2_66 rfl 3 rfl kk) rfl ?_
      exact nomatch h
    · replace h := gz_if' g2 h
      refine gz_Vs (fun _ kk => gz_aload_n (pc := 33) hX dJ9_init_2_33 rfl 1 rfl kk) rfl ?_
      refine gz_Vs (fun _ kk => gz_iload_n (pc := 34) hX dJ9_init_2_34 rfl 2 rfl kk) rfl ?_
      refine gz_Vs (fun _ kk => gz_iload_n (pc := 35) hX dJ9_init_2_35 rfl 3 rfl kk) rfl ?_
      obtain ⟨⟨r6, m7⟩, c8, h⟩ := gz_bd h
      obtain ⟨g9, h⟩ := gz_gu h
      refine gz_Vc (k := gZ m7 - gZ m) (n := gW m7 - gW m) (fun _ kk => cc_J9_177 (pc := 36) hX c8 ⟨Nat.le_of_ble_eq_true rfl, Nat.le_of_ble_eq_true rfl⟩ (rest := []) rfl (Nat.le_of_ble_eq_true rfl) dJ9_init_2_36 kk) ⟨by have := g9.1; dsimp only [gZ] at *; omega, by have := g9.2; dsimp only [gW] at *; omega⟩ ?_
      refine gz_Vs (fun _ kk => gz_astore (pc := 39) (lw := [(5, .ref (gz_ad G r6)), (0, .ref (gz_ad G c0)), (1, .ref (gz_ad G c1)), (2, .int x2), (3, .int x3), (4, .null)]) hX dJ9_init_2_39 (by decide) rfl kk) rfl ?_
      refine gz_Vs (fun _ kk => gz_aload_n (pc := 41) hX dJ9_init_2_41 rfl 1 rfl kk) rfl ?_
      refine gz_Vs (fun _ kk => gz_aload (pc := 42) hX dJ9_init_2_42 0 rfl kk) rfl ?_
      refine gz_Vs (fun _ kk => gz_iload_n (pc := 44) hX dJ9_init_2_44 rfl 4 rfl kk) rfl ?_
      obtain ⟨⟨r10, m11⟩, c12, h⟩ := gz_bd h
      obtain ⟨g13, h⟩ := gz_gu h
      refine gz_Vs (fun _ kk => cc_J9_47 (pc := 45) hX c12 ⟨Nat.le_of_ble_eq_true rfl, Nat.le_of_ble_eq_true rfl⟩ (rest := [.ref (gz_ad G c0)]) rfl (Nat.le_of_ble_eq_true rfl) dJ9_init_2_45 kk) g13 ?_
      obtain ⟨g14, h⟩ := gz_gu h
      obtain ⟨g15, h⟩ := gz_gu h
      obtain ⟨g16, h⟩ := gz_gu h
      obtain ⟨m17, em17, h⟩ := gz_lt h
      refine gz_Vs (fun _ kk => cp_J9_15_21 (pc := 48) hX hn0 (c := c0) (fun _ => g14) g16 g15 dJ9_init_2_48 em17 kk) (by rw [em17]; rfl) ?_
      refine gz_Vs (fun _ kk => gz_aload_n (pc := 51) hX dJ9_init_2_51 rfl 1 rfl kk) rfl ?_
      refine gz_Vs (fun _ kk => gz_aload (pc := 52) hX dJ9_init_2_52 0 rfl kk) rfl ?_
      obtain ⟨g18, h⟩ := gz_gu h
      obtain ⟨g19, h⟩ := gz_gu h
      obtain ⟨g20, h⟩ := gz_gu h
      obtain ⟨m21, em21, h⟩ := gz_lt h
      refine gz_Vs (fun _ kk => cp_J9_9_21 (pc := 54) hX hn0 (c := c0) (fun _ => g18) g19 g20 dJ9_init_2_54 em21 kk) (by rw [em21]; rfl) ?_
      obtain rfl := Option.some.inj h
      exact hk _ _ dJ9_init_2_57
  · replace h := gz_it' g1 h
    refine gz_Vs (fun _ kk => gz_aload_n (pc := 8) hX dJ9_init_2_8 rfl 0 rfl kk) rfl ?_
    refine gz_Vs (fun _ kk => gz_ldcS (pc := 9) (tx := "") (c := 162) hX (cl_s_J9_7 hX) dJ9_init_2_9 kk) rfl ?_
    obtain ⟨g22, h⟩ := gz_gu h
    obtain ⟨r23, er23, h⟩ := gz_lt h
    obtain ⟨g24, h⟩ := gz_gu h
    refine gz_Vs (fun _ kk => cg_J9_9_21 (pc := 11) hX (c := 162) (v := .ref (gz_ad G r23)) (fun _ => g22) (fun _ => gz_rq er23 g24) dJ9_init_2_11 kk) rfl ?_
    obtain ⟨g25, h⟩ := gz_gu h
    obtain ⟨g26, h⟩ := gz_gu h
    obtain ⟨g27, h⟩ := gz_gu h
    obtain ⟨m28, em28, h⟩ := gz_lt h
    refine gz_Vs (fun _ kk => cp_J9_9_21 (pc := 14) hX hn0 (c := c0) (fun _ => g25) g26 g27 dJ9_init_2_14 em28 kk) (by rw [em28]; rfl) ?_
    refine gz_Vs (fun _ kk => gz_aload_n (pc := 17) hX dJ9_init_2_17 rfl 0 rfl kk) rfl ?_
    refine gz_Vs (fun _ kk => gz_ldcS (pc := 18) (tx := "") (c := 162) hX (cl_s_J9_7 hX) dJ9_init_2_18 kk) rfl ?_
    obtain ⟨g29, h⟩ := gz_gu h
    refine gz_Vs (fun _ kk => cg_J9_15_21 (pc := 20) hX (c := 162) (v := .int (gI m28 162 1)) (fun _ => g29) (fun _ => rfl) dJ9_init_2_20 kk) rfl ?_
    obtain ⟨g30, h⟩ := gz_gu h
    obtain ⟨g31, h⟩ := gz_gu h
    obtain ⟨g32, h⟩ := gz_gu h
    obtain ⟨m33, em33, h⟩ := gz_lt h
    refine gz_Vs (fun _ kk => cp_J9_15_21 (pc := 23) hX hn0 (c := c0) (fun _ => g30) g32 g31 dJ9_init_2_23 em33 kk) (by rw [em33]; rfl) ?_
    obtain rfl := Option.some.inj h
    exact hk _ _ dJ9_init_2_26
theorem ct_J9_init_2 {G : gz_G} {l : Launch} {c0 : Nat} {c1 : Nat} {x2 : Int32} {x3 : Int32}  {m m9 : gM} (h : cf_J9_init_2 c0 c1 x2 x3 m = some ((), m9)) : gz_Met cS G l yJ9_init_2 cJ9_init_2 6 none (mRc 3 66 (gZ m9 - gZ m) (gW m9 - gW m)) [.ref (gz_ad G c0), .ref (gz_ad G c1), .int x2, .int x3, .null] m m9 none :=
  gz_ofVc (by decide +kernel) (Nat.le_of_ble_eq_true rfl) fun X _ hn hX hk => (wm_J9_init_2 (zE := m9.2.2.2.2.2) hX hn h (fun pc lv hd => gz_Ve (hk pc lv hd))).2
theorem cg_J9_19_21 {X : gz_X} {G : gz_G} {cc : ByteArray} {nL fr lo pc : Nat} {rem : Nat × Nat} {m : gM} {lv : List (Nat × Value)} {st : List Value} (hX : gz_C cS X G cc nL RJ9 fr lo) {c : Nat} {v : Value} (hK : clc m.1 m.2.1 m.2.2.2.2.1 → m.1 c = 21 + 1) (hv : clc m.1 m.2.1 m.2.2.2.2.1 → gz_u (gz_ad G) m (ftC 21 2) c 2 = v) (hd : decode cc pc = .ok (.getfield 19, 3)) (kk : gz_V cS X G nL rem m (pc + 3) lv (v :: st)) : gz_V cS X G nL rem m pc lv (.ref (gz_ad G c) :: st) :=
  gz_getf hX (C := RJ9) (T := TJ9) (N := 4) (ci := 21) (k := 2) rfl (by decide) in_J9 (by decide) (Or.inl (hX.2.2.2.2.1 _ q715)) hd hK hv kk
theorem cg_J9_23_21 {X : gz_X} {G : gz_G} {cc : ByteArray} {nL fr lo pc : Nat} {rem : Nat × Nat} {m : gM} {lv : List (Nat × Value)} {st : List Value} (hX : gz_C cS X G cc nL RJ9 fr lo) {c : Nat} {v : Value} (hK : clc m.1 m.2.1 m.2.2.2.2.1 → m.1 c = 21 + 1) (hv : clc m.1 m.2.1 m.2.2.2.2.1 → gz_u (gz_ad G) m (ftC 21 3) c 3 = v) (hd : decode cc pc = .ok (.getfield 23, 3)) (kk : gz_V cS X G nL rem m (pc + 3) lv (v :: st)) : gz_V cS X G nL rem m pc lv (.ref (gz_ad G c) :: st) :=
  gz_getf hX (C := RJ9) (T := TJ9) (N := 4) (ci := 21) (k := 3) rfl (by decide) in_J9 (by decide) (Or.inl (hX.2.2.2.2.1 _ q716)) hd hK hv kk
theorem cc_J9_492 {X : gz_X} {G : gz_G} {cc : ByteArray} {nL fr lo pc : Nat} {rem : Nat × Nat} {lv : List (Nat × Value)} {rest st0 : List Value} (hX : gz_C cS X G cc nL RJ9 fr lo) {c0 : Nat} {m m9 : gM} (hK : clc m.1 m.2.1 m.2.2.2.2.1 → m.1 c0 = 21 + 1)  {r : Int32} (h : cf_J9_isLatin1 c0 m = some (r, m9)) (hroom : 0 + 1 ≤ fr ∧ 8 + (1 + 11) + 0 ≤ lo) (hst : st0 = [.ref (gz_ad G c0)] ++ rest) (hW : (rest.map fun v => v.category).sum ≤ 8) (hd : decode cc pc = .ok (.invokevirtual 492, 3)) (kk : gz_V cS X G nL rem m9 (pc + 3) lv (.int r :: rest)) : gz_V cS X G nL rem m pc lv st0 :=
  gz_callV2 hX cs_E (As := []) (rest := rest) (q := (RJ9, TJ9, 4)) (ci := 21) (c := c0) (ct_J9_isLatin1 (l := X.2.1) h) (lw_V q735 q736 q737 q183 q738) (n := 0) (by decide +kernel) hroom rfl rfl (by decide) hK hst hW hd (rem := rem) kk
theorem cc_J9_628 {X : gz_X} {G : gz_G} {cc : ByteArray} {nL fr lo pc : Nat} {rem : Nat × Nat} {lv : List (Nat × Value)} {rest st0 : List Value} (hX : gz_C cS X G cc nL RJ9 fr lo) {c0 : Nat} {m m9 : gM}  {r : Int32} (h : cf_J11_hashCode c0 m = some (r, m9)) (hroom : 2 + 1 ≤ fr ∧ 8 + (1 + 11) + 49 ≤ lo) (hst : st0 = [.ref (gz_ad G c0)] ++ rest) (hW : (rest.map fun v => v.category).sum ≤ 8) (hd : decode cc pc = .ok (.invokestatic 628, 3)) (kk : gz_V cS X G nL rem m9 (pc + 3) lv (.int r :: rest)) : gz_V cS X G nL rem m pc lv st0 :=
  gz_callS hX cs_E (As := [.ref (gz_ad G c0)]) (rest := rest) (ct_J11_hashCode (l := X.2.1) h) (lw_S q739 q740 q185 q741) (n := 1) (by decide +kernel) hroom rfl hst hW hd (rem := rem) kk
theorem cp_J9_19_21 {X : gz_X} {G : gz_G} {cc : ByteArray} {nL fr lo pc : Nat} {rem : Nat × Nat} {m m9 : gM} {lv : List (Nat × Value)} {st : List Value} (hX : gz_C cS X G cc nL RJ9 fr lo) {c : Nat} {x : Int32} (hK : clc m.1 m.2.1 m.2.2.2.2.1 → m.1 c = 21 + 1) (hw : 1000 ≤ c) (hd : decode cc pc = .ok (.putfield 19, 3)) (hm : m9 = gz_sI m c 2 x) (kk : gz_V cS X G nL rem m9 (pc + 3) lv st) : gz_V cS X G nL rem m pc lv (.int x :: .ref (gz_ad G c) :: st) := by
  subst hm
  exact gz_putf hX (C := RJ9) (T := TJ9) (N := 4) (ci := 21) (k := 2) (ty := .int) (μ' := gz_sI m c 2 x) rfl (by decide) in_J9 tyJ9 tyJ9_ok nmJ9 (by decide) (Or.inl (hX.2.2.2.2.1 _ q715)) rfl rfl rfl rfl hd hK hw rfl rfl rfl (fun d tc j h => gz_sI_o d tc j h) (gz_sI_v (fun j => ftC 21 j) rfl) (fun h => h) kk
theorem cp_J9_23_21 {X : gz_X} {G : gz_G} {cc : ByteArray} {nL fr lo pc : Nat} {rem : Nat × Nat} {m m9 : gM} {lv : List (Nat × Value)} {st : List Value} (hX : gz_C cS X G cc nL RJ9 fr lo) {c : Nat} {x : Int32} (hK : clc m.1 m.2.1 m.2.2.2.2.1 → m.1 c = 21 + 1) (hw : 1000 ≤ c) (hz : x = 0 ∨ x = 1) (hd : decode cc pc = .ok (.putfield 23, 3)) (hm : m9 = gz_sI m c 3 x) (kk : gz_V cS X G nL rem m9 (pc + 3) lv st) : gz_V cS X G nL rem m pc lv (.int x :: .ref (gz_ad G c) :: st) := by
  subst hm
  exact gz_putf hX (C := RJ9) (T := TJ9) (N := 4) (ci := 21) (k := 3) (ty := .boolean) (μ' := gz_sI m c 3 x) rfl (by decide) in_J9 tyJ9 tyJ9_ok nmJ9 (by decide) (Or.inl (hX.2.2.2.2.1 _ q716)) rfl rfl (by rcases hz with h | h <;> rw [h] <;> rfl) (by rcases hz with h | h <;> rw [h] <;> rfl) hd hK hw rfl rfl rfl (fun d tc j h => gz_sI_o d tc j h) (gz_sI_v (fun j => ftC 21 j) rfl) (fun h => h) kk
/-! java/lang/String.hashCode()I -/
noncomputable def mj_J9_hashCode_58 (c0 : Nat) (x1 : Int32) (m : gM) : Option (Int32 × gM) :=
  some (x1, m)
theorem wb_J9_hashCode_58 {X : gz_X} {G : gz_G} (hX : gz_C cS X G cJ9_hashCode 2 RJ9 3 69) {c0 : Nat} {x1 : Int32}  {m : gM} {z : (Int32 × gM)} (h : mj_J9_hashCode_58 c0 x1 m = some z) (hk : (fun z : (Int32 × gM) => gz_kI cS X G 2 (0, 0) cJ9_hashCode z.2 z.1) z) : gz_V cS X G 2 (0, 0) m 58 [(0, .ref (gz_ad G c0)), (1, .int x1)] [] := by
  unfold mj_J9_hashCode_58 at h
  refine gz_iload_n (pc := 58) hX dJ9_hashCode_58 rfl 1 rfl ?_
  obtain rfl := Option.some.inj h
  exact hk _ _ dJ9_hashCode_59
noncomputable def mj_J9_hashCode_40 (c0 : Nat) (s0 : Int32) (m : gM) : Option (Int32 × gM) :=
  (if s0 = (0 : Int32) then (if gK m c0 = 22 then (if 1000 ≤ c0 then gz_let (gz_sI m c0 3 (1 : Int32)) fun m7 => (mj_J9_hashCode_58 c0 s0 m7) else none) else none) else (if gK m c0 = 22 then (if 1000 ≤ c0 then gz_let (gz_sI m c0 2 s0) fun m4 => (mj_J9_hashCode_58 c0 s0 m4) else none) else none))
theorem wb_J9_hashCode_40 {X : gz_X} {G : gz_G} (hX : gz_C cS X G cJ9_hashCode 2 RJ9 3 69) {c0 : Nat} {s0 : Int32}  {m : gM} {z : (Int32 × gM)} (h : mj_J9_hashCode_40 c0 s0 m = some z) (hk : (fun z : (Int32 × gM) => gz_kI cS X G 2 (0, 0) cJ9_hashCode z.2 z.1) z) : gz_V cS X G 2 (0, 0) m 40 [(0, .ref (gz_ad G c0))] [.int s0] := by
  unfold mj_J9_hashCode_40 at h
  refine gz_istore_n (pc := 40) (lw := [(1, .int s0), (0, .ref (gz_ad G c0))]) hX dJ9_hashCode_40 rfl (by decide) rfl ?_
  refine gz_iload_n (pc := 41) hX dJ9_hashCode_41 rfl 0 rfl ?_
  refine gz_if_ne (pc := 42) (tgt := 53) hX dJ9_hashCode_42 (by decide) (fun g1 => ?_) (fun g1 => ?_)
  · replace h := gz_if' g1 h
    refine gz_aload_n (pc := 53) hX dJ9_hashCode_53 rfl 1 rfl ?_
    refine gz_iload_n (pc := 54) hX dJ9_hashCode_54 rfl 0 rfl ?_
    obtain ⟨g2, h⟩ := gz_gu h
    obtain ⟨g3, h⟩ := gz_gu h
    obtain ⟨m4, em4, h⟩ := gz_lt h
    refine cp_J9_19_21 (pc := 55) hX (c := c0) (fun _ => g2) g3 dJ9_hashCode_55 em4 ?_
    refine gz_sub (lw := [(0, .ref (gz_ad G c0)), (1, .int s0)]) [1, 0] rfl ?_
    exact wb_J9_hashCode_58 hX h hk
  · replace h := gz_it' g1 h
    refine gz_aload_n (pc := 45) hX dJ9_hashCode_45 rfl 1 rfl ?_
    refine gz_iconst (pc := 46) (v := (1 : Int32)) hX dJ9_hashCode_46 (by decide) ?_
    obtain ⟨g5, h⟩ := gz_gu h
    obtain ⟨g6, h⟩ := gz_gu h
    obtain ⟨m7, em7, h⟩ := gz_lt h
    refine cp_J9_23_21 (pc := 47) hX (c := c0) (fun _ => g5) g6 (Or.inr rfl) dJ9_hashCode_47 em7 ?_
    refine gz_goto (pc := 50) (tgt := 58) hX dJ9_hashCode_50 (by decide) ?_
    refine gz_sub (lw := [(0, .ref (gz_ad G c0)), (1, .int s0)]) [1, 0] rfl ?_
    exact wb_J9_hashCode_58 hX h hk
noncomputable def cf_J9_hashCode (c0 : Nat) (m : gM) : Option (Int32 × gM) :=
  (if gK m c0 = 22 then gz_let ((gI m c0 2)) fun y2 => (if y2 = (0 : Int32) then (if gK m c0 = 22 then (if (gI m c0 3) = (0 : Int32) then (if gK m c0 = 22 then ((cf_J9_isLatin1 c0 m).bind fun (r7, m8) => (if r7 = (0 : Int32) then (if gK m8 c0 = 22 then gz_let (gP m8 c0 0) fun r12 => (if r12 ≠ 0 then none else none) else none) else (if gK m8 c0 = 22 then gz_let (gP m8 c0 0) fun r15 => (if r15 ≠ 0 then ((cf_J11_hashCode r15 m8).bind fun (r17, m18) => (mj_J9_hashCode_40 c0 r17 m18)) else none) else none))) else none) else (mj_J9_hashCode_58 c0 y2 m)) else none) else (mj_J9_hashCode_58 c0 y2 m)) else none)
theorem wm_J9_hashCode {X : gz_X} {G : gz_G} (hX : gz_C cS X G cJ9_hashCode 2 RJ9 3 69) {c0 : Nat}  {m : gM} {z : (Int32 × gM)} (h : cf_J9_hashCode c0 m = some z) (hk : (fun z : (Int32 × gM) => gz_kI cS X G 2 (0, 0) cJ9_hashCode z.2 z.1) z) : gz_V cS X G 2 (0, 0) m 0 [(0, .ref (gz_ad G c0))] [] := by
  unfold cf_J9_hashCode at h
  refine gz_aload_n (pc := 0) hX dJ9_hashCode_0 rfl 0 rfl ?_
  obtain ⟨g1, h⟩ := gz_gu h
  refine cg_J9_19_21 (pc := 1) hX (c := c0) (v := .int (gI m c0 2)) (fun _ => g1) (fun _ => rfl) dJ9_hashCode_1 ?_
  obtain ⟨y2, ey2, h⟩ := gz_lt h
  refine gz_topi ey2 ?_
  refine gz_istore_n (pc := 4) (lw := [(1, .int y2), (0, .ref (gz_ad G c0))]) hX dJ9_hashCode_4 rfl (by decide) rfl ?_
  refine gz_iload_n (pc := 5) hX dJ9_hashCode_5 rfl 0 rfl ?_
  refine gz_if_ne (pc := 6) (tgt := 58) hX dJ9_hashCode_6 (by decide) (fun g3 => ?_) (fun g3 => ?_)
  · replace h := gz_if' g3 h
    refine gz_sub (lw := [(0, .ref (gz_ad G c0)), (1, .int y2)]) [1, 0] rfl ?_
    exact wb_J9_hashCode_58 hX h hk
  · replace h := gz_it' g3 h
    refine gz_aload_n (pc := 9) hX dJ9_hashCode_9 rfl 1 rfl ?_
    obtain ⟨g4, h⟩ := gz_gu h
    refine cg_J9_23_21 (pc := 10) hX (c := c0) (v := .int (gI m c0 3)) (fun _ => g4) (fun _ => rfl) dJ9_hashCode_10 ?_
    refine gz_if_ne (pc := 13) (tgt := 58) hX dJ9_hashCode_13 (by decide) (fun g5 => ?_) (fun g5 => ?_)
    · replace h := gz_if' g5 h
      refine gz_sub (lw := [(0, .ref (gz_ad G c0)), (1, .int y2)]) [1, 0] rfl ?_
      exact wb_J9_hashCode_58 hX h hk
    · replace h := gz_it' g5 h
      refine gz_aload_n (pc := 16) hX dJ9_hashCode_16 rfl 1 rfl ?_
      obtain ⟨g6, h⟩ := gz_gu h
      obtain ⟨⟨r7, m8⟩, c9, h⟩ := gz_bd h
      refine cc_J9_492 (pc := 17) hX (fun _ => g6) c9 ⟨Nat.le_of_ble_eq_true rfl, Nat.le_of_ble_eq_true rfl⟩ (rest := []) rfl (Nat.le_of_ble_eq_true rfl) dJ9_hashCode_17 ?_
      refine gz_if_eq (pc := 20) (tgt := 33) hX dJ9_hashCode_20 (by decide) (fun g10 => ?_) (fun g10 => ?_)
      · replace h := gz_it' g10 h
        refine gz_aload_n (pc := 33) hX dJ9_hashCode_33 rfl 1 rfl ?_
        obtain ⟨g11, h⟩ := gz_gu h
        obtain ⟨r12, er12, h⟩ := gz_lt h
        obtain ⟨g13, h⟩ := gz_gu h
        refine cg_J9_9_21 (pc := 34) hX (c := c0) (v := .ref (gz_ad G r12)) (fun _ => g11) (fun _ => gz_rq er12 g13) dJ9_hashCode_34 ?_
        exact nomatch h
      · replace h := gz_if' g10 h
        refine gz_aload_n (pc := 23) hX dJ9_hashCode_23 rfl 1 rfl ?_
        obtain ⟨g14, h⟩ := gz_gu h
        obtain ⟨r15, er15, h⟩ := gz_lt h
        obtain ⟨g16, h⟩ := gz_gu h
        refine cg_J9_9_21 (pc := 24) hX (c := c0) (v := .ref (gz_ad G r15)) (fun _ => g14) (fun _ => gz_rq er15 g16) dJ9_hashCode_24 ?_
        obtain ⟨⟨r17, m18⟩, c19, h⟩ := gz_bd h
        refine cc_J9_628 (pc := 27) hX c19 ⟨Nat.le_of_ble_eq_true rfl, Nat.le_of_ble_eq_true rfl⟩ (rest := []) rfl (Nat.le_of_ble_eq_true rfl) dJ9_hashCode_27 ?_
        refine gz_goto (pc := 30) (tgt := 40) hX dJ9_hashCode_30 (by decide) ?_
        refine gz_sub (lw := [(0, .ref (gz_ad G c0))]) [1] rfl ?_
        exact wb_J9_hashCode_40 hX h hk
theorem ct_J9_hashCode {G : gz_G} {l : Launch} {c0 : Nat}  {m m9 : gM} {r : Int32} (h : cf_J9_hashCode c0 m = some (r, m9)) : gz_Met cS G l yJ9_hashCode cJ9_hashCode 2 (some .int) (mRm 3 69) [.ref (gz_ad G c0)] m m9 (some (.int r)) :=
  gz_ofI (by decide +kernel) (Nat.le_of_ble_eq_true rfl) fun X _ hX hk => wm_J9_hashCode hX h hk
theorem cc_J9_498 {X : gz_X} {G : gz_G} {cc : ByteArray} {nL fr lo pc : Nat} {rem : Nat × Nat} {lv : List (Nat × Value)} {rest st0 : List Value} (hX : gz_C cS X G cc nL RJ9 fr lo) {c0 : Nat} {x1 : Int32} {m m9 : gM}  {r : Int32} (h : cf_J10_charAt c0 x1 m = some (r, m9)) (hroom : 3 + 1 ≤ fr ∧ 8 + (2 + 11) + 64 ≤ lo) (hst : st0 = [.int x1, .ref (gz_ad G c0)] ++ rest) (hW : (rest.map fun v => v.category).sum ≤ 8) (hd : decode cc pc = .ok (.invokestatic 498, 3)) (kk : gz_V cS X G nL rem m9 (pc + 3) lv (.int r :: rest)) : gz_V cS X G nL rem m pc lv st0 :=
  gz_callS hX cs_E (As := [.ref (gz_ad G c0), .int x1]) (rest := rest) (ct_J10_charAt (l := X.2.1) h) (lw_S q1363 q1364 q184 q1365) (n := 2) (by decide +kernel) hroom rfl hst hW hd (rem := rem) kk
theorem cc_J9_495 {X : gz_X} {G : gz_G} {cc : ByteArray} {nL fr lo pc : Nat} {rem : Nat × Nat} {lv : List (Nat × Value)} {rest st0 : List Value} (hX : gz_C cS X G cc nL RJ9 fr lo) {c0 : Nat} {x1 : Int32} {m m9 : gM}  {r : Int32} (h : cf_J11_charAt c0 x1 m = some (r, m9)) (hroom : 2 + 1 ≤ fr ∧ 8 + (2 + 11) + 43 ≤ lo) (hst : st0 = [.int x1, .ref (gz_ad G c0)] ++ rest) (hW : (rest.map fun v => v.category).sum ≤ 8) (hd : decode cc pc = .ok (.invokestatic 495, 3)) (kk : gz_V cS X G nL rem m9 (pc + 3) lv (.int r :: rest)) : gz_V cS X G nL rem m pc lv st0 :=
  gz_callS hX cs_E (As := [.ref (gz_ad G c0), .int x1]) (rest := rest) (ct_J11_charAt (l := X.2.1) h) (lw_S q1359 q1360 q185 q1361) (n := 2) (by decide +kernel) hroom rfl hst hW hd (rem := rem) kk
/-! java/lang/String.charAt(I)C -/
noncomputable def cf_J9_charAt (c0 : Nat) (x1 : Int32) (m : gM) : Option (Int32 × gM) :=
  (if gK m c0 = 22 then ((cf_J9_isLatin1 c0 m).bind fun (r2, m3) => (if r2 = (0 : Int32) then (if gK m3 c0 = 22 then gz_let (gP m3 c0 0) fun r7 => (if r7 ≠ 0 then ((cf_J10_charAt r7 x1 m3).bind fun (r9, m10) => (if r9.toUInt32.toUInt16.toUInt32.toInt32 = r9 then some (r9, m10) else none)) else none) else none) else (if gK m3 c0 = 22 then gz_let (gP m3 c0 0) fun r14 => (if r14 ≠ 0 then ((cf_J11_charAt r14 x1 m3).bind fun (r16, m17) => (if r16.toUInt32.toUInt16.toUInt32.toInt32 = r16 then some (r16, m17) else none)) else none) else none))) else none)
theorem wm_J9_charAt {X : gz_X} {G : gz_G} (hX : gz_C cS X G cJ9_charAt 2 RJ9 4 85) {c0 : Nat} {x1 : Int32}  {m : gM} {z : (Int32 × gM)} (h : cf_J9_charAt c0 x1 m = some z) (hk : (fun z : (Int32 × gM) => gz_kN cS X G 2 (0, 0) cJ9_charAt .char z.2 z.1) z) : gz_V cS X G 2 (0, 0) m 0 [(0, .ref (gz_ad G c0)), (1, .int x1)] [] := by
  unfold cf_J9_charAt at h
  refine gz_aload_n (pc := 0) hX dJ9_charAt_0 rfl 0 rfl ?_
  obtain ⟨g1, h⟩ := gz_gu h
  obtain ⟨⟨r2, m3⟩, c4, h⟩ := gz_bd h
  refine cc_J9_492 (pc := 1) hX (fun _ => g1) c4 ⟨Nat.le_of_ble_eq_true rfl, Nat.le_of_ble_eq_true rfl⟩ (rest := []) rfl (Nat.le_of_ble_eq_true rfl) dJ9_charAt_1 ?_
  refine gz_if_eq (pc := 4) (tgt := 16) hX dJ9_charAt_4 (by decide) (fun g5 => ?_) (fun g5 => ?_)
  · replace h := gz_it' g5 h
    refine gz_aload_n (pc := 16) hX dJ9_charAt_16 rfl 0 rfl ?_
    obtain ⟨g6, h⟩ := gz_gu h
    obtain ⟨r7, er7, h⟩ := gz_lt h
    obtain ⟨g8, h⟩ := gz_gu h
    refine cg_J9_9_21 (pc := 17) hX (c := c0) (v := .ref (gz_ad G r7)) (fun _ => g6) (fun _ => gz_rq er7 g8) dJ9_charAt_17 ?_
    refine gz_iload_n (pc := 20) hX dJ9_charAt_20 rfl 1 rfl ?_
    obtain ⟨⟨r9, m10⟩, c11, h⟩ := gz_bd h
    refine cc_J9_498 (pc := 21) hX c11 ⟨Nat.le_of_ble_eq_true rfl, Nat.le_of_ble_eq_true rfl⟩ (rest := []) rfl (Nat.le_of_ble_eq_true rfl) dJ9_charAt_21 ?_
    obtain ⟨g12, h⟩ := gz_gu h
    obtain rfl := Option.some.inj h
    exact hk _ _ dJ9_charAt_24 (congrArg Value.int g12)
  · replace h := gz_if' g5 h
    refine gz_aload_n (pc := 7) hX dJ9_charAt_7 rfl 0 rfl ?_
    obtain ⟨g13, h⟩ := gz_gu h
    obtain ⟨r14, er14, h⟩ := gz_lt h
    obtain ⟨g15, h⟩ := gz_gu h
    refine cg_J9_9_21 (pc := 8) hX (c := c0) (v := .ref (gz_ad G r14)) (fun _ => g13) (fun _ => gz_rq er14 g15) dJ9_charAt_8 ?_
    refine gz_iload_n (pc := 11) hX dJ9_charAt_11 rfl 1 rfl ?_
    obtain ⟨⟨r16, m17⟩, c18, h⟩ := gz_bd h
    refine cc_J9_495 (pc := 12) hX c18 ⟨Nat.le_of_ble_eq_true rfl, Nat.le_of_ble_eq_true rfl⟩ (rest := []) rfl (Nat.le_of_ble_eq_true rfl) dJ9_charAt_12 ?_
    obtain ⟨g19, h⟩ := gz_gu h
    obtain rfl := Option.some.inj h
    exact hk _ _ dJ9_charAt_15 (congrArg Value.int g19)
theorem ct_J9_charAt {G : gz_G} {l : Launch} {c0 : Nat} {x1 : Int32}  {m m9 : gM} {r : Int32} (h : cf_J9_charAt c0 x1 m = some (r, m9)) : gz_Met cS G l yJ9_charAt cJ9_charAt 2 (some .char) (mRm 4 85) [.ref (gz_ad G c0), .int x1] m m9 (some (.int r)) :=
  gz_ofN (by decide +kernel) (Nat.le_of_ble_eq_true rfl) fun X _ hX hk => wm_J9_charAt hX h hk
theorem cc_J14_114 {X : gz_X} {G : gz_G} {cc : ByteArray} {nL fr lo pc : Nat} {rem : Nat × Nat} {lv : List (Nat × Value)} {rest st0 : List Value} (hX : gz_C cS X G cc nL RJ14 fr lo) {x0 : Int32} {x1 : Int32} {x2 : Int32} {m m9 : gM}  {r : Int32} (h : cf_J12_newLength x0 x1 x2 m = some (r, m9)) (hroom : 1 + 1 ≤ fr ∧ 8 + (4 + 11) + 22 ≤ lo) (hst : st0 = [.int x2, .int x1, .int x0] ++ rest) (hW : (rest.map fun v => v.category).sum ≤ 8) (hd : decode cc pc = .ok (.invokestatic 114, 3)) (kk : gz_V cS X G nL rem m9 (pc + 3) lv (.int r :: rest)) : gz_V cS X G nL rem m pc lv st0 :=
  gz_callS hX cs_E (As := [.int x0, .int x1, .int x2]) (rest := rest) (ct_J12_newLength (l := X.2.1) h) (lw_S q1179 q867 q186 q868) (n := 3) (by decide +kernel) hroom rfl hst hW hd (rem := rem) kk
/-! java/lang/AbstractStringBuilder.newCapacity(I)I -/
noncomputable def cf_J14_newCapacity (c0 : Nat) (x1 : Int32) (m : gM) : Option (Int32 × gM) :=
  (if gK m c0 = 23 then gz_let (gP m c0 0) fun r2 => (if r2 ≠ 0 then (if gK m r2 = 102 then gz_let ((nI (gN m r2))) fun y5 => (if gK m c0 = 23 then gz_let ((x1 <<< ((gI m c0 1) &&& 31))) fun y7 => gz_let ((y7 - y5)) fun y8 => (if gK m c0 = 23 then ((cf_J12_newLength y5 y8 (y5 + ((2 : Int32) <<< ((gI m c0 1) &&& 31))) m).bind fun (r10, m11) => (if r10 = (2147483647 : Int32) then none else (if gK m11 c0 = 23 then some ((r10 >>> ((gI m11 c0 1) &&& 31)), m11) else none))) else none) else none) else none) else none) else none)
theorem wm_J14_newCapacity {X : gz_X} {G : gz_G} (hX : gz_C cS X G cJ14_newCapacity 6 RJ14 2 45) {c0 : Nat} {x1 : Int32}  {m : gM} {z : (Int32 × gM)} (h : cf_J14_newCapacity c0 x1 m = some z) (hk : (fun z : (Int32 × gM) => gz_kI cS X G 6 (0, 0) cJ14_newCapacity z.2 z.1) z) : gz_V cS X G 6 (0, 0) m 0 [(0, .ref (gz_ad G c0)), (1, .int x1)] [] := by
  unfold cf_J14_newCapacity at h
  refine gz_aload_n (pc := 0) hX dJ14_newCapacity_0 rfl 0 rfl ?_
  obtain ⟨g1, h⟩ := gz_gu h
  obtain ⟨r2, er2, h⟩ := gz_lt h
  obtain ⟨g3, h⟩ := gz_gu h
  refine cg_J14_15_22 (pc := 1) hX (c := c0) (v := .ref (gz_ad G r2)) (fun _ => g1) (fun _ => gz_rq er2 g3) dJ14_newCapacity_1 ?_
  obtain ⟨g4, h⟩ := gz_gu h
  refine gz_alen2 (pc := 4) (c := r2) (t := 1) (n := gN m r2) hX rfl (fun _ => ⟨g4, rfl⟩) dJ14_newCapacity_4 ?_
  obtain ⟨y5, ey5, h⟩ := gz_lt h
  refine gz_topi ey5 ?_
  refine gz_istore_n (pc := 5) (lw := [(2, .int y5), (0, .ref (gz_ad G c0)), (1, .int x1)]) hX dJ14_newCapacity_5 rfl (by decide) rfl ?_
  refine gz_iload_n (pc := 6) hX dJ14_newCapacity_6 rfl 2 rfl ?_
  refine gz_aload_n (pc := 7) hX dJ14_newCapacity_7 rfl 1 rfl ?_
  obtain ⟨g6, h⟩ := gz_gu h
  refine cg_J14_22_22 (pc := 8) hX (c := c0) (v := .int (gI m c0 1)) (fun _ => g6) (fun _ => rfl) dJ14_newCapacity_8 ?_
  refine gz_ishl (pc := 11) hX dJ14_newCapacity_11 ?_
  obtain ⟨y7, ey7, h⟩ := gz_lt h
  refine gz_topi ey7 ?_
  refine gz_istore_n (pc := 12) (lw := [(3, .int y7), (2, .int y5), (0, .ref (gz_ad G c0)), (1, .int x1)]) hX dJ14_newCapacity_12 rfl (by decide) rfl ?_
  refine gz_iload_n (pc := 13) hX dJ14_newCapacity_13 rfl 0 rfl ?_
  refine gz_iload_n (pc := 14) hX dJ14_newCapacity_14 rfl 1 rfl ?_
  refine gz_isub (pc := 15) hX dJ14_newCapacity_15 ?_
  obtain ⟨y8, ey8, h⟩ := gz_lt h
  refine gz_topi ey8 ?_
  refine gz_istore (pc := 16) (lw := [(4, .int y8), (3, .int y7), (2, .int y5), (0, .ref (gz_ad G c0)), (1, .int x1)]) hX dJ14_newCapacity_16 (by decide) rfl ?_
  refine gz_iload_n (pc := 18) hX dJ14_newCapacity_18 rfl 2 rfl ?_
  refine gz_iload (pc := 19) hX dJ14_newCapacity_19 0 rfl ?_
  refine gz_iload_n (pc := 21) hX dJ14_newCapacity_21 rfl 2 rfl ?_
  refine gz_iconst (pc := 22) (v := (2 : Int32)) hX dJ14_newCapacity_22 (by decide) ?_
  refine gz_aload_n (pc := 23) hX dJ14_newCapacity_23 rfl 3 rfl ?_
  obtain ⟨g9, h⟩ := gz_gu h
  refine cg_J14_22_22 (pc := 24) hX (c := c0) (v := .int (gI m c0 1)) (fun _ => g9) (fun _ => rfl) dJ14_newCapacity_24 ?_
  refine gz_ishl (pc := 27) hX dJ14_newCapacity_27 ?_
  refine gz_iadd (pc := 28) hX dJ14_newCapacity_28 ?_
  obtain ⟨⟨r10, m11⟩, c12, h⟩ := gz_bd h
  refine cc_J14_114 (pc := 29) hX c12 ⟨Nat.le_of_ble_eq_true rfl, Nat.le_of_ble_eq_true rfl⟩ (rest := []) rfl (Nat.le_of_ble_eq_true rfl) dJ14_newCapacity_29 ?_
  refine gz_istore (pc := 32) (lw := [(5, .int r10), (4, .int y8), (3, .int y7), (2, .int y5), (0, .ref (gz_ad G c0)), (1, .int x1)]) hX dJ14_newCapacity_32 (by decide) rfl ?_
  refine gz_iload (pc := 34) hX dJ14_newCapacity_34 0 rfl ?_
  refine gz_ldc (pc := 36) (v := (2147483647 : Int32)) hX q1180 dJ14_newCapacity_36 ?_
  refine gz_icmp_ne (pc := 38) (tgt := 51) hX dJ14_newCapacity_38 (by decide) (fun g13 => ?_) (fun g13 => ?_)
  · replace h := gz_if' g13 h
    refine gz_iload (pc := 51) hX dJ14_newCapacity_51 0 rfl ?_
    refine gz_aload_n (pc := 53) hX dJ14_newCapacity_53 rfl 4 rfl ?_
    obtain ⟨g14, h⟩ := gz_gu h
    refine cg_J14_22_22 (pc := 54) hX (c := c0) (v := .int (gI m11 c0 1)) (fun _ => g14) (fun _ => rfl) dJ14_newCapacity_54 ?_
    refine gz_ishr (pc := 57) hX dJ14_newCapacity_57 ?_
    obtain rfl := Option.some.inj h
    exact hk _ _ dJ14_newCapacity_58
  · replace h := gz_it' g13 h
    exact nomatch h
theorem ct_J14_newCapacity {G : gz_G} {l : Launch} {c0 : Nat} {x1 : Int32}  {m m9 : gM} {r : Int32} (h : cf_J14_newCapacity c0 x1 m = some (r, m9)) : gz_Met cS G l yJ14_newCapacity cJ14_newCapacity 6 (some .int) (mRm 2 45) [.ref (gz_ad G c0), .int x1] m m9 (some (.int r)) :=
  gz_ofI (by decide +kernel) (Nat.le_of_ble_eq_true rfl) fun X _ hX hk => wm_J14_newCapacity hX h hk
theorem cn_X1_9 {X : gz_X} {G : gz_G} {cc : ByteArray} {nL fr lo pc : Nat} {rem : Nat × Nat} {m m9 : gM} {lv : List (Nat × Value)} {st : List Value} (hX : gz_C cS X G cc nL RX1 fr lo) (hz : gZ m ≠ 0) (hd : decode cc pc = .ok (.new 9, 3)) (hm : m9 = gz_al m (20 + 1) 0 3) (kk : gz_V cS X G nL rem m9 (pc + 3) lv (.ref (gz_ad G (gZ m)) :: st)) : gz_V cS X G nL (rem.1 + 1, rem.2 + 3) m pc lv st :=
  gz_new hX (C := RJ2) (T := TJ2) (N := 3) (ci := 20) rfl (by decide) in_J2 tyJ2 tyJ2_ok (by decide +kernel) q222 q223 q171 hz clc_al hd hm kk
theorem cc_X1_11 {X : gz_X} {G : gz_G} {cc : ByteArray} {nL fr lo pc : Nat} {rem : Nat × Nat} {lv : List (Nat × Value)} {rest st0 : List Value} (hX : gz_C cS X G cc nL RX1 fr lo) {c0 : Nat} {x1 : Int32} {m m9 : gM}  (h : cf_J2_init c0 x1 m = some ((), m9)) (hroom : 3 + 1 ≤ fr ∧ 8 + (2 + 11) + 60 ≤ lo) (hst : st0 = [.int x1, .ref (gz_ad G c0)] ++ rest) (hW : (rest.map fun v => v.category).sum ≤ 8) (hd : decode cc pc = .ok (.invokespecial 11, 3)) (kk : gz_V cS X G nL rem m9 (pc + 3) lv (rest)) : gz_V cS X G nL (rem.1 + (gZ m9 - gZ m), rem.2 + (gW m9 - gW m)) m pc lv st0 :=
  gz_callI hX cs_E (As := [.int x1]) (rest := rest) (c := c0) (ct_J2_init (l := X.2.1) h) q226 q171 q224 q225 rfl (n := 1) (by decide +kernel) hroom rfl hst hW hd (rem := rem) kk
theorem cp_X1_14_1 {X : gz_X} {G : gz_G} {cc : ByteArray} {nL fr lo pc : Nat} {rem : Nat × Nat} {m m9 : gM} {lv : List (Nat × Value)} {st : List Value} (hX : gz_C cS X G cc nL RX1 fr lo) (hn0 : X.2.2.2.2.2.2.2.2.1.name = "<init>") {c : Nat} {r : Nat} (hK : clc m.1 m.2.1 m.2.2.2.2.1 → m.1 c = 1 + 1) (hw : 1000 ≤ c) (hs : sr c 3 = 0 ∧ r ≠ 0) (hd : decode cc pc = .ok (.putfield 14, 3)) (hm : m9 = gz_sP m c 3 r) (kk : gz_V cS X G nL rem m9 (pc + 3) lv st) : gz_V cS X G nL rem m pc lv (.ref (gz_ad G r) :: .ref (gz_ad G c) :: st) := by
  subst hm
  exact gz_putff hX (C := RX1) (T := TX1) (N := 9) (ci := 1) (k := 3) (μ' := gz_sP m c 3 r) (v := .ref (gz_ad G r)) rfl (by decide) in_X1 tyX1 tyX1_ok nmX1 (by decide) (hX.2.2.2.2.1 _ q256) (fun _ h => h) rfl hn0 rfl rfl rfl rfl hd hK hw rfl rfl rfl (fun d tc j h => gz_sP_o d tc j h) (by intro j; rw [← gz_rfp hs.2]; exact gz_sP_v (fun j => ftC 1 j) rfl j) (clc_sP hs.1) kk
theorem cp_X1_20_1 {X : gz_X} {G : gz_G} {cc : ByteArray} {nL fr lo pc : Nat} {rem : Nat × Nat} {m m9 : gM} {lv : List (Nat × Value)} {st : List Value} (hX : gz_C cS X G cc nL RX1 fr lo) (hn0 : X.2.2.2.2.2.2.2.2.1.name = "<init>") {c : Nat} {r : Nat} (hK : clc m.1 m.2.1 m.2.2.2.2.1 → m.1 c = 1 + 1) (hw : 1000 ≤ c) (hs : sr c 4 = 0 ∧ r ≠ 0) (hd : decode cc pc = .ok (.putfield 20, 3)) (hm : m9 = gz_sP m c 4 r) (kk : gz_V cS X G nL rem m9 (pc + 3) lv st) : gz_V cS X G nL rem m pc lv (.ref (gz_ad G r) :: .ref (gz_ad G c) :: st) := by
  subst hm
  exact gz_putff hX (C := RX1) (T := TX1) (N := 9) (ci := 1) (k := 4) (μ' := gz_sP m c 4 r) (v := .ref (gz_ad G r)) rfl (by decide) in_X1 tyX1 tyX1_ok nmX1 (by decide) (hX.2.2.2.2.1 _ q259) (fun _ h => h) rfl hn0 rfl rfl rfl rfl hd hK hw rfl rfl rfl (fun d tc j h => gz_sP_o d tc j h) (by intro j; rw [← gz_rfp hs.2]; exact gz_sP_v (fun j => ftC 1 j) rfl j) (clc_sP hs.1) kk
theorem cp_X1_23_1 {X : gz_X} {G : gz_G} {cc : ByteArray} {nL fr lo pc : Nat} {rem : Nat × Nat} {m m9 : gM} {lv : List (Nat × Value)} {st : List Value} (hX : gz_C cS X G cc nL RX1 fr lo) (hn0 : X.2.2.2.2.2.2.2.2.1.name = "<init>") {c : Nat} {r : Nat} (hK : clc m.1 m.2.1 m.2.2.2.2.1 → m.1 c = 1 + 1) (hw : 1000 ≤ c) (hs : sr c 5 = 0 ∧ r ≠ 0) (hd : decode cc pc = .ok (.putfield 23, 3)) (hm : m9 = gz_sP m c 5 r) (kk : gz_V cS X G nL rem m9 (pc + 3) lv st) : gz_V cS X G nL rem m pc lv (.ref (gz_ad G r) :: .ref (gz_ad G c) :: st) := by
  subst hm
  exact gz_putff hX (C := RX1) (T := TX1) (N := 9) (ci := 1) (k := 5) (μ' := gz_sP m c 5 r) (v := .ref (gz_ad G r)) rfl (by decide) in_X1 tyX1 tyX1_ok nmX1 (by decide) (hX.2.2.2.2.1 _ q262) (fun _ h => h) rfl hn0 rfl rfl rfl rfl hd hK hw rfl rfl rfl (fun d tc j h => gz_sP_o d tc j h) (by intro j; rw [← gz_rfp hs.2]; exact gz_sP_v (fun j => ftC 1 j) rfl j) (clc_sP hs.1) kk
theorem cp_X1_26_1 {X : gz_X} {G : gz_G} {cc : ByteArray} {nL fr lo pc : Nat} {rem : Nat × Nat} {m m9 : gM} {lv : List (Nat × Value)} {st : List Value} (hX : gz_C cS X G cc nL RX1 fr lo) (hn0 : X.2.2.2.2.2.2.2.2.1.name = "<init>") {c : Nat} {r : Nat} (hK : clc m.1 m.2.1 m.2.2.2.2.1 → m.1 c = 1 + 1) (hw : 1000 ≤ c) (hs : sr c 6 = 0 ∧ r ≠ 0) (hd : decode cc pc = .ok (.putfield 26, 3)) (hm : m9 = gz_sP m c 6 r) (kk : gz_V cS X G nL rem m9 (pc + 3) lv st) : gz_V cS X G nL rem m pc lv (.ref (gz_ad G r) :: .ref (gz_ad G c) :: st) := by
  subst hm
  exact gz_putff hX (C := RX1) (T := TX1) (N := 9) (ci := 1) (k := 6) (μ' := gz_sP m c 6 r) (v := .ref (gz_ad G r)) rfl (by decide) in_X1 tyX1 tyX1_ok nmX1 (by decide) (hX.2.2.2.2.1 _ q265) (fun _ h => h) rfl hn0 rfl rfl rfl rfl hd hK hw rfl rfl rfl (fun d tc j h => gz_sP_o d tc j h) (by intro j; rw [← gz_rfp hs.2]; exact gz_sP_v (fun j => ftC 1 j) rfl j) (clc_sP hs.1) kk
/-! FirstSnuffer$Household.<init>()V -/
noncomputable def cf_X1_init (c0 : Nat) (m : gM) : Option (Unit × gM) :=
  (if gZ m ≠ 0 then gz_let (gz_al m (20 + 1) 0 3) fun m2 => ((cf_J2_init (gZ m) (4 : Int32) m2).bind fun (_, m4) => (if gZ m2 ≤ gZ m4 ∧ gW m2 ≤ gW m4 then (if gK m4 c0 = 2 then (if 1000 ≤ c0 then (if sr c0 3 = 0 ∧ (gZ m) ≠ 0 then gz_let (gz_sP m4 c0 3 (gZ m)) fun m10 => (if gZ m10 ≠ 0 then gz_let (gz_al m10 (20 + 1) 0 3) fun m12 => ((cf_J2_init (gZ m10) (4 : Int32) m12).bind fun (_, m14) => (if gZ m12 ≤ gZ m14 ∧ gW m12 ≤ gW m14 then (if gK m14 c0 = 2 then (if 1000 ≤ c0 then (if sr c0 4 = 0 ∧ (gZ m10) ≠ 0 then gz_let (gz_sP m14 c0 4 (gZ m10)) fun m20 => (if gZ m20 ≠ 0 then gz_let (gz_al m20 (20 + 1) 0 3) fun m22 => ((cf_J2_init (gZ m20) (4 : Int32) m22).bind fun (_, m24) => (if gZ m22 ≤ gZ m24 ∧ gW m22 ≤ gW m24 then (if gK m24 c0 = 2 then (if 1000 ≤ c0 then (if sr c0 5 = 0 ∧ (gZ m20) ≠ 0 then gz_let (gz_sP m24 c0 5 (gZ m20)) fun m30 => (if gZ m30 ≠ 0 then gz_let (gz_al m30 (20 + 1) 0 3) fun m32 => ((cf_J2_init (gZ m30) (4 : Int32) m32).bind fun (_, m34) => (if gZ m32 ≤ gZ m34 ∧ gW m32 ≤ gW m34 then (if gK m34 c0 = 2 then (if 1000 ≤ c0 then (if sr c0 6 = 0 ∧ (gZ m30) ≠ 0 then gz_let (gz_sP m34 c0 6 (gZ m30)) fun m40 => some ((), m40) else none) else none) else none) else none)) else none) else none) else none) else none) else none)) else none) else none) else none) else none) else none)) else none) else none) else none) else none) else none)) else none)
theorem wm_X1_init {X : gz_X} {G : gz_G} {zE : Nat × Nat} (hX : gz_C cS X G cX1_init 1 RX1 4 81) (hn0 : X.2.2.2.2.2.2.2.2.1.name = "<init>") {c0 : Nat}  {m : gM} {z : (Unit × gM)} (h : cf_X1_init c0 m = some z) (hk : (fun z : (Unit × gM) => gz_kVa cS X G 1 zE cX1_init z.2) z) : gz_Va cS X G 1 zE m 0 [(0, .ref (gz_ad G c0))] [] := by
  unfold cf_X1_init at h
  refine gz_Vs (fun _ kk => gz_aload_n (pc := 0) hX dX1_init_0 rfl 0 rfl kk) rfl ?_
  refine gz_Vs (fun _ kk => gz_objI (pc := 1) hX q221 q214 q215 ⟨Nat.le_of_ble_eq_true rfl, Nat.le_of_ble_eq_true rfl⟩ (Nat.le_of_ble_eq_true rfl) dX1_init_1 kk) rfl ?_
  refine gz_Vs (fun _ kk => gz_aload_n (pc := 4) hX dX1_init_4 rfl 0 rfl kk) rfl ?_
  obtain ⟨g1, h⟩ := gz_gu h
  obtain ⟨m2, em2, h⟩ := gz_lt h
  refine gz_Vn (fun _ kk => cn_X1_9 (pc := 5) hX g1 dX1_init_5 em2 kk) em2 ?_
  refine gz_Vs (fun _ kk => gz_dup (pc := 8) hX dX1_init_8 rfl kk) rfl ?_
  refine gz_Vs (fun _ kk => gz_iconst (pc := 9) (v := (4 : Int32)) hX dX1_init_9 (by decide) kk) rfl ?_
  obtain ⟨⟨⟨⟩, m4⟩, c5, h⟩ := gz_bd h
  obtain ⟨g6, h⟩ := gz_gu h
  refine gz_Vc (k := gZ m4 - gZ m2) (n := gW m4 - gW m2) (fun _ kk => cc_X1_11 (pc := 10) hX c5 ⟨Nat.le_of_ble_eq_true rfl, Nat.le_of_ble_eq_true rfl⟩ (rest := [.ref (gz_ad G (gZ m)), .ref (gz_ad G c0)]) rfl (Nat.le_of_ble_eq_true rfl) dX1_init_10 kk) ⟨by have := g6.1; dsimp only [gZ] at *; omega, by have := g6.2; dsimp only [gW] at *; omega⟩ ?_
  obtain ⟨g7, h⟩ := gz_gu h
  obtain ⟨g8, h⟩ := gz_gu h
  obtain ⟨g9, h⟩ := gz_gu h
  obtain ⟨m10, em10, h⟩ := gz_lt h
  refine gz_Vs (fun _ kk => cp_X1_14_1 (pc := 13) hX hn0 (c := c0) (fun _ => g7) g8 g9 dX1_init_13 em10 kk) (by rw [em10]; rfl) ?_
  refine gz_Vs (fun _ kk => gz_aload_n (pc := 16) hX dX1_init_16 rfl 0 rfl kk) rfl ?_
  obtain ⟨g11, h⟩ := gz_gu h
  obtain ⟨m12, em12, h⟩ := gz_lt h
  refine gz_Vn (fun _ kk => cn_X1_9 (pc := 17) hX g11 dX1_init_17 em12 kk) em12 ?_
  refine gz_Vs (fun _ kk => gz_dup (pc := 20) hX dX1_init_20 rfl kk) rfl ?_
  refine gz_Vs (fun _ kk => gz_iconst (pc := 21) (v := (4 : Int32)) hX dX1_init_21 (by decide) kk) rfl ?_
  obtain ⟨⟨⟨⟩, m14⟩, c15, h⟩ := gz_bd h
  obtain ⟨g16, h⟩ := gz_gu h
  refine gz_Vc (k := gZ m14 - gZ m12) (n := gW m14 - gW m12) (fun _ kk => cc_X1_11 (pc := 22) hX c15 ⟨Nat.le_of_ble_eq_true rfl, Nat.le_of_ble_eq_true rfl⟩ (rest := [.ref (gz_ad G (gZ m10)), .ref (gz_ad G c0)]) rfl (Nat.le_of_ble_eq_true rfl) dX1_init_22 kk) ⟨by have := g16.1; dsimp only [gZ] at *; omega, by have := g16.2; dsimp only [gW] at *; omega⟩ ?_
  obtain ⟨g17, h⟩ := gz_gu h
  obtain ⟨g18, h⟩ := gz_gu h
  obtain ⟨g19, h⟩ := gz_gu h
  obtain ⟨m20, em20, h⟩ := gz_lt h
  refine gz_Vs (fun _ kk => cp_X1_20_1 (pc := 25) hX hn0 (c := c0) (fun _ => g17) g18 g19 dX1_init_25 em20 kk) (by rw [em20]; rfl) ?_
  refine gz_Vs (fun _ kk => gz_aload_n (pc := 28) hX dX1_init_28 rfl 0 rfl kk) rfl ?_
  obtain ⟨g21, h⟩ := gz_gu h
  obtain ⟨m22, em22, h⟩ := gz_lt h
  refine gz_Vn (fun _ kk => cn_X1_9 (pc := 29) hX g21 dX1_init_29 em22 kk) em22 ?_
  refine gz_Vs (fun _ kk => gz_dup (pc := 32) hX dX1_init_32 rfl kk) rfl ?_
  refine gz_Vs (fun _ kk => gz_iconst (pc := 33) (v := (4 : Int32)) hX dX1_init_33 (by decide) kk) rfl ?_
  obtain ⟨⟨⟨⟩, m24⟩, c25, h⟩ := gz_bd h
  obtain ⟨g26, h⟩ := gz_gu h
  refine gz_Vc (k := gZ m24 - gZ m22) (n := gW m24 - gW m22) (fun _ kk => cc_X1_11 (pc := 34) hX c25 ⟨Nat.le_of_ble_eq_true rfl, Nat.le_of_ble_eq_true rfl⟩ (rest := [.ref (gz_ad G (gZ m20)), .ref (gz_ad G c0)]) rfl (Nat.le_of_ble_eq_true rfl) dX1_init_34 kk) ⟨by have := g26.1; dsimp only [gZ] at *; omega, by have := g26.2; dsimp only [gW] at *; omega⟩ ?_
  obtain ⟨g27, h⟩ := gz_gu h
  obtain ⟨g28, h⟩ := gz_gu h
  obtain ⟨g29, h⟩ := gz_gu h
  obtain ⟨m30, em30, h⟩ := gz_lt h
  refine gz_Vs (fun _ kk => cp_X1_23_1 (pc := 37) hX hn0 (c := c0) (fun _ => g27) g28 g29 dX1_init_37 em30 kk) (by rw [em30]; rfl) ?_
  refine gz_Vs (fun _ kk => gz_aload_n (pc := 40) hX dX1_init_40 rfl 0 rfl kk) rfl ?_
  obtain ⟨g31, h⟩ := gz_gu h
  obtain ⟨m32, em32, h⟩ := gz_lt h
  refine gz_Vn (fun _ kk => cn_X1_9 (pc := 41) hX g31 dX1_init_41 em32 kk) em32 ?_
  refine gz_Vs (fun _ kk => gz_dup (pc := 44) hX dX1_init_44 rfl kk) rfl ?_
  refine gz_Vs (fun _ kk => gz_iconst (pc := 45) (v := (4 : Int32)) hX dX1_init_45 (by decide) kk) rfl ?_
  obtain ⟨⟨⟨⟩, m34⟩, c35, h⟩ := gz_bd h
  obtain ⟨g36, h⟩ := gz_gu h
  refine gz_Vc (k := gZ m34 - gZ m32) (n := gW m34 - gW m32) (fun _ kk => cc_X1_11 (pc := 46) hX c35 ⟨Nat.le_of_ble_eq_true rfl, Nat.le_of_ble_eq_true rfl⟩ (rest := [.ref (gz_ad G (gZ m30)), .ref (gz_ad G c0)]) rfl (Nat.le_of_ble_eq_true rfl) dX1_init_46 kk) ⟨by have := g36.1; dsimp only [gZ] at *; omega, by have := g36.2; dsimp only [gW] at *; omega⟩ ?_
  obtain ⟨g37, h⟩ := gz_gu h
  obtain ⟨g38, h⟩ := gz_gu h
  obtain ⟨g39, h⟩ := gz_gu h
  obtain ⟨m40, em40, h⟩ := gz_lt h
  refine gz_Vs (fun _ kk => cp_X1_26_1 (pc := 49) hX hn0 (c := c0) (fun _ => g37) g38 g39 dX1_init_49 em40 kk) (by rw [em40]; rfl) ?_
  obtain rfl := Option.some.inj h
  exact hk _ _ dX1_init_52
theorem ct_X1_init {G : gz_G} {l : Launch} {c0 : Nat}  {m m9 : gM} (h : cf_X1_init c0 m = some ((), m9)) : gz_Met cS G l yX1_init cX1_init 1 none (mRc 4 81 (gZ m9 - gZ m) (gW m9 - gW m)) [.ref (gz_ad G c0)] m m9 none :=
  gz_ofVc (by decide +kernel) (Nat.le_of_ble_eq_true rfl) fun X _ hn hX hk => (wm_X1_init (zE := m9.2.2.2.2.2) hX hn h (fun pc lv hd => gz_Ve (hk pc lv hd))).2
