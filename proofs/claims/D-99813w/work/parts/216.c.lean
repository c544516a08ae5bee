set_option maxRecDepth 100000
theorem cc_X0_283 {X : gz_X} {G : gz_G} {cc : ByteArray} {nL fr lo pc : Nat} {rem : Nat × Nat} {lv : List (Nat × Value)} {rest st0 : List Value} (hX : gz_C cS X G cc nL RX0 fr lo) {x1 : Int32} {m m9 : gM} (hK : clc m.1 m.2.1 m.2.2.2.2.1 → m.1 1000 = 0 + 1)  {r : Int32} (h : cf_X0_isHall x1 m = some (r, m9)) (hroom : 2 + 1 ≤ fr ∧ 8 + (2 + 11) + 40 ≤ lo) (hst : st0 = [.int x1, .ref (gz_ad G 1000)] ++ rest) (hW : (rest.map fun v => v.category).sum ≤ 8) (hd : decode cc pc = .ok (.invokevirtual 283, 3)) (kk : gz_V cS X G nL rem m9 (pc + 3) lv (.int r :: rest)) : gz_V cS X G nL rem m pc lv st0 :=
  gz_callV2 hX cs_E (As := [.int x1]) (rest := rest) (q := (RX0, TX0, 28)) (ci := 0) (c := 1000) (ct_X0_isHall (l := X.2.1) h) (lw_V q1501 q1503 qs48 q167 q1504) (n := 1) (by decide +kernel) hroom rfl rfl (by decide) hK hst hW hd (rem := rem) kk
theorem cc_X0_286 {X : gz_X} {G : gz_G} {cc : ByteArray} {nL fr lo pc : Nat} {rem : Nat × Nat} {lv : List (Nat × Value)} {rest st0 : List Value} (hX : gz_C cS X G cc nL RX0 fr lo) {x1 : Int32} {x2 : Int32} {m m9 : gM} (hK : clc m.1 m.2.1 m.2.2.2.2.1 → m.1 1000 = 0 + 1)  {r : Int32} (h : cf_X0_wayBetween x1 x2 m = some (r, m9)) (hroom : 0 + 1 ≤ fr ∧ 8 + (3 + 11) + 0 ≤ lo) (hst : st0 = [.int x2, .int x1, .ref (gz_ad G 1000)] ++ rest) (hW : (rest.map fun v => v.category).sum ≤ 8) (hd : decode cc pc = .ok (.invokevirtual 286, 3)) (kk : gz_V cS X G nL rem m9 (pc + 3) lv (.int r :: rest)) : gz_V cS X G nL rem m pc lv st0 :=
  gz_callV2 hX cs_E (As := [.int x1, .int x2]) (rest := rest) (q := (RX0, TX0, 28)) (ci := 0) (c := 1000) (ct_X0_wayBetween (l := X.2.1) h) (lw_V q1454 q1456 qs46 q167 q1457) (n := 2) (by decide +kernel) hroom rfl rfl (by decide) hK hst hW hd (rem := rem) kk
/-! FirstSnuffer.way(II)I -/
noncomputable def mj_X0_way_25  (m : gM) : Option (Int32 × gM) :=
  some ((-1 : Int32), m)
theorem wb_X0_way_25 {X : gz_X} {G : gz_G} (hX : gz_C cS X G cX0_way 3 RX0 3 61)   {m : gM} {z : (Int32 × gM)} (h : mj_X0_way_25  m = some z) (hk : (fun z : (Int32 × gM) => gz_kI cS X G 3 (0, 0) cX0_way z.2 z.1) z) : gz_V cS X G 3 (0, 0) m 25 [(0, .ref (gz_ad G 1000))] [] := by
  unfold mj_X0_way_25 at h
  refine gz_iconst (pc := 25) (v := (-1 : Int32)) hX dX0_way_25 (by decide) ?_
  obtain rfl := Option.some.inj h
  exact hk _ _ dX0_way_26
noncomputable def cf_X0_way (x1 : Int32) (x2 : Int32) (m : gM) : Option (Int32 × gM) :=
  ((cf_X0_isHall x1 m).bind fun (r1, m2) => (if r1 = (0 : Int32) then (mj_X0_way_25  m2) else ((cf_X0_isHall x2 m2).bind fun (r5, m6) => (if r5 = (0 : Int32) then (mj_X0_way_25  m6) else ((cf_X0_wayBetween x1 x2 m6).bind fun (r9, m10) => some (r9, m10))))))
theorem wm_X0_way {X : gz_X} {G : gz_G} (hX : gz_C cS X G cX0_way 3 RX0 3 61) {x1 : Int32} {x2 : Int32}  {m : gM} {z : (Int32 × gM)} (h : cf_X0_way x1 x2 m = some z) (hk : (fun z : (Int32 × gM) => gz_kI cS X G 3 (0, 0) cX0_way z.2 z.1) z) : gz_V cS X G 3 (0, 0) m 0 [(0, .ref (gz_ad G 1000)), (1, .int x1), (2, .int x2)] [] := by
  unfold cf_X0_way at h
  refine gz_aload_n (pc := 0) hX dX0_way_0 rfl 0 rfl ?_
  refine gz_iload_n (pc := 1) hX dX0_way_1 rfl 1 rfl ?_
  obtain ⟨⟨r1, m2⟩, c3, h⟩ := gz_bd h
  refine cc_X0_283 (pc := 2) hX (fun h => cz_k h rfl) c3 ⟨Nat.le_of_ble_eq_true rfl, Nat.le_of_ble_eq_true rfl⟩ (rest := []) rfl (Nat.le_of_ble_eq_true rfl) dX0_way_2 ?_
  refine gz_if_eq (pc := 5) (tgt := 25) hX dX0_way_5 (by decide) (fun g4 => ?_) (fun g4 => ?_)
  · replace h := gz_it' g4 h
    refine gz_sub (lw := [(0, .ref (gz_ad G 1000))]) [0] rfl ?_
    exact wb_X0_way_25 hX h hk
  · replace h := gz_if' g4 h
    refine gz_aload_n (pc := 8) hX dX0_way_8 rfl 0 rfl ?_
    refine gz_iload_n (pc := 9) hX dX0_way_9 rfl 2 rfl ?_
    obtain ⟨⟨r5, m6⟩, c7, h⟩ := gz_bd h
    refine cc_X0_283 (pc := 10) hX (fun h => cz_k h rfl) c7 ⟨Nat.le_of_ble_eq_true rfl, Nat.le_of_ble_eq_true rfl⟩ (rest := []) rfl (Nat.le_of_ble_eq_true rfl) dX0_way_10 ?_
    refine gz_if_eq (pc := 13) (tgt := 25) hX dX0_way_13 (by decide) (fun g8 => ?_) (fun g8 => ?_)
    · replace h := gz_it' g8 h
      refine gz_sub (lw := [(0, .ref (gz_ad G 1000))]) [0] rfl ?_
      exact wb_X0_way_25 hX h hk
    · replace h := gz_if' g8 h
      refine gz_aload_n (pc := 16) hX dX0_way_16 rfl 0 rfl ?_
      refine gz_iload_n (pc := 17) hX dX0_way_17 rfl 1 rfl ?_
      refine gz_iload_n (pc := 18) hX dX0_way_18 rfl 2 rfl ?_
      obtain ⟨⟨r9, m10⟩, c11, h⟩ := gz_bd h
      refine cc_X0_286 (pc := 19) hX (fun h => cz_k h rfl) c11 ⟨Nat.le_of_ble_eq_true rfl, Nat.le_of_ble_eq_true rfl⟩ (rest := []) rfl (Nat.le_of_ble_eq_true rfl) dX0_way_19 ?_
      refine gz_goto (pc := 22) (tgt := 26) hX dX0_way_22 (by decide) ?_
      obtain rfl := Option.some.inj h
      exact hk _ _ dX0_way_26
theorem ct_X0_way {G : gz_G} {l : Launch} {x1 : Int32} {x2 : Int32}  {m m9 : gM} {r : Int32} (h : cf_X0_way x1 x2 m = some (r, m9)) : gz_Met cS G l yX0_way cX0_way 3 (some .int) (mRm 3 61) [.ref (gz_ad G 1000), .int x1, .int x2] m m9 (some (.int r)) :=
  gz_ofI (by decide +kernel) (Nat.le_of_ble_eq_true rfl) fun X _ hX hk => wm_X0_way hX h hk
theorem cg_X0_94_0 {X : gz_X} {G : gz_G} {cc : ByteArray} {nL fr lo pc : Nat} {rem : Nat × Nat} {m : gM} {lv : List (Nat × Value)} {st : List Value} (hX : gz_C cS X G cc nL RX0 fr lo) {c : Nat} {v : Value} (hK : clc m.1 m.2.1 m.2.2.2.2.1 → m.1 c = 0 + 1) (hv : clc m.1 m.2.1 m.2.2.2.2.1 → gz_u (gz_ad G) m (ftC 0 16) c 16 = v) (hd : decode cc pc = .ok (.getfield 94, 3)) (kk : gz_V cS X G nL rem m (pc + 3) lv (v :: st)) : gz_V cS X G nL rem m pc lv (.ref (gz_ad G c) :: st) :=
  gz_getf hX (C := RX0) (T := TX0) (N := 28) (ci := 0) (k := 16) rfl (by decide) in_X0 (by decide) (Or.inl (hX.2.2.2.2.1 _ q518)) hd hK hv kk
theorem cg_X0_90_0 {X : gz_X} {G : gz_G} {cc : ByteArray} {nL fr lo pc : Nat} {rem : Nat × Nat} {m : gM} {lv : List (Nat × Value)} {st : List Value} (hX : gz_C cS X G cc nL RX0 fr lo) {c : Nat} {v : Value} (hK : clc m.1 m.2.1 m.2.2.2.2.1 → m.1 c = 0 + 1) (hv : clc m.1 m.2.1 m.2.2.2.2.1 → gz_u (gz_ad G) m (ftC 0 15) c 15 = v) (hd : decode cc pc = .ok (.getfield 90, 3)) (kk : gz_V cS X G nL rem m (pc + 3) lv (v :: st)) : gz_V cS X G nL rem m pc lv (.ref (gz_ad G c) :: st) :=
  gz_getf hX (C := RX0) (T := TX0) (N := 28) (ci := 0) (k := 15) rfl (by decide) in_X0 (by decide) (Or.inl (hX.2.2.2.2.1 _ q517)) hd hK hv kk
/-! FirstSnuffer.leadsOn(II)Z -/
def mP_X0_leadsOn_2 (X : gz_X) (G : gz_G) (q : (Int32 × Int32 × Int32 × gM)) : Prop := gz_V cS X G 7 (0, 0) q.2.2.2 2 [(0, .ref (gz_ad G 1000)), (1, .int q.1), (2, .int q.2.1), (3, .int q.2.2.1)] []
def mP_X0_leadsOn_23 (X : gz_X) (G : gz_G) (q : (Int32 × Int32 × Int32 × gM)) : Prop := gz_V cS X G 7 (0, 0) q.2.2.2 23 [(0, .ref (gz_ad G 1000)), (1, .int q.1), (2, .int q.2.1), (3, .int q.2.2.1)] []
noncomputable def mj_X0_leadsOn_189 (x2 : Int32) (m : gM) : Option (Int32 × gM) :=
  (if gz_in x2 (8) then (if (gI m 1122 (gz_ix x2)) = (-1 : Int32) then some ((0 : Int32), m) else some ((1 : Int32), m)) else none)
theorem wb_X0_leadsOn_189 {X : gz_X} {G : gz_G} (hX : gz_C cS X G cX0_leadsOn 7 RX0 4 85) {x2 : Int32}  {m : gM} {z : (Int32 × gM)} (h : mj_X0_leadsOn_189 x2 m = some z) (hk : (fun z : (Int32 × gM) => gz_kZ cS X G 7 (0, 0) cX0_leadsOn z.2 z.1) z) : gz_V cS X G 7 (0, 0) m 189 [(0, .ref (gz_ad G 1000)), (2, .int x2)] [] := by
  unfold mj_X0_leadsOn_189 at h
  refine gz_aload_n (pc := 189) hX dX0_leadsOn_189 rfl 0 rfl ?_
  refine cg_X0_94_0 (pc := 190) hX (c := 1000) (v := .ref (gz_ad G 1122)) (fun h => cz_k h rfl) (fun h => cz_f h (by decide) rfl (by decide) rfl) dX0_leadsOn_190 ?_
  refine gz_iload_n (pc := 193) hX dX0_leadsOn_193 rfl 1 rfl ?_
  obtain ⟨g1, h⟩ := gz_gu h
  refine gz_iald2 (pc := 194) (c := 1122) (n := 8) hX rfl (fun h => cz_a h rfl (by decide) rfl) g1 dX0_leadsOn_194 ?_
  refine gz_iconst (pc := 195) (v := (-1 : Int32)) hX dX0_leadsOn_195 (by decide) ?_
  refine gz_icmp_eq (pc := 196) (tgt := 203) hX dX0_leadsOn_196 (by decide) (fun g2 => ?_) (fun g2 => ?_)
  · replace h := gz_it' g2 h
    refine gz_iconst (pc := 203) (v := (0 : Int32)) hX dX0_leadsOn_203 (by decide) ?_
    obtain rfl := Option.some.inj h
    exact hk _ _ dX0_leadsOn_204 (Or.inl rfl)
  · replace h := gz_if' g2 h
    refine gz_iconst (pc := 199) (v := (1 : Int32)) hX dX0_leadsOn_199 (by decide) ?_
    refine gz_goto (pc := 200) (tgt := 204) hX dX0_leadsOn_200 (by decide) ?_
    obtain rfl := Option.some.inj h
    exact hk _ _ dX0_leadsOn_204 (Or.inr rfl)
def mP_X0_leadsOn_42 (X : gz_X) (G : gz_G) (q : (Int32 × Int32 × Int32 × Int32 × gM)) : Prop := gz_V cS X G 7 (0, 0) q.2.2.2.2 42 [(0, .ref (gz_ad G 1000)), (1, .int q.1), (2, .int q.2.1), (3, .int q.2.2.1), (4, .int q.2.2.2.1)] []
noncomputable def mj_X0_leadsOn_180 (x1 : Int32) (x2 : Int32) (x3 : Int32) (x4 : Int32) (m : gM) : Option ((Int32 × Int32 × Int32 × Int32 × gM) ⊕ ((Int32 × Int32 × Int32 × gM) ⊕ (Int32 × gM))) :=
  gz_let (x4 + (1 : Int32)) fun y1 => some (Sum.inl (x1, x2, x3, y1, m))
theorem wb_X0_leadsOn_180 {X : gz_X} {G : gz_G} (hX : gz_C cS X G cX0_leadsOn 7 RX0 4 85) {x1 : Int32} {x2 : Int32} {x3 : Int32} {x4 : Int32}  {m : gM} {z : ((Int32 × Int32 × Int32 × Int32 × gM) ⊕ ((Int32 × Int32 × Int32 × gM) ⊕ (Int32 × gM)))} (h : mj_X0_leadsOn_180 x1 x2 x3 x4 m = some z) (hk : (Sum.elim (mP_X0_leadsOn_42 X G) (Sum.elim (mP_X0_leadsOn_23 X G) (fun z : (Int32 × gM) => gz_kZ cS X G 7 (0, 0) cX0_leadsOn z.2 z.1))) z) : gz_V cS X G 7 (0, 0) m 180 [(0, .ref (gz_ad G 1000)), (1, .int x1), (2, .int x2), (3, .int x3), (4, .int x4)] [] := by
  unfold mj_X0_leadsOn_180 at h
  obtain ⟨y1, ey1, h⟩ := gz_lt h
  refine gz_iinc (pc := 180) (v := y1) (lw := [(4, .int y1), (0, .ref (gz_ad G 1000)), (1, .int x1), (2, .int x2), (3, .int x3)]) hX dX0_leadsOn_180 (k := 4) rfl (by rw [ey1]; rfl) (by decide) rfl ?_
  refine gz_goto (pc := 183) (tgt := 42) hX dX0_leadsOn_183 (by decide) ?_
  refine gz_sub (lw := [(0, .ref (gz_ad G 1000)), (1, .int x1), (2, .int x2), (3, .int x3), (4, .int y1)]) [1, 2, 3, 4, 0] rfl ?_
  obtain rfl := Option.some.inj h
  exact hk
noncomputable def mj_X0_leadsOn_169 (x1 : Int32) (x2 : Int32) (x4 : Int32) (x6 : Int32) (m : gM) : Option ((Int32 × Int32 × Int32 × Int32 × gM) ⊕ ((Int32 × Int32 × Int32 × gM) ⊕ (Int32 × gM))) :=
  (if gz_in x6 (8) then gz_let (gz_sI m 1122 (gz_ix x6) x4) fun m2 => (mj_X0_leadsOn_180 x1 x2 (1 : Int32) x4 m2) else none)
theorem wb_X0_leadsOn_169 {X : gz_X} {G : gz_G} (hX : gz_C cS X G cX0_leadsOn 7 RX0 4 85) {x1 : Int32} {x2 : Int32} {x4 : Int32} {x6 : Int32}  {m : gM} {z : ((Int32 × Int32 × Int32 × Int32 × gM) ⊕ ((Int32 × Int32 × Int32 × gM) ⊕ (Int32 × gM)))} (h : mj_X0_leadsOn_169 x1 x2 x4 x6 m = some z) (hk : (Sum.elim (mP_X0_leadsOn_42 X G) (Sum.elim (mP_X0_leadsOn_23 X G) (fun z : (Int32 × gM) => gz_kZ cS X G 7 (0, 0) cX0_leadsOn z.2 z.1))) z) : gz_V cS X G 7 (0, 0) m 169 [(0, .ref (gz_ad G 1000)), (1, .int x1), (2, .int x2), (4, .int x4), (6, .int x6)] [] := by
  unfold mj_X0_leadsOn_169 at h
  refine gz_aload_n (pc := 169) hX dX0_leadsOn_169 rfl 0 rfl ?_
  refine cg_X0_94_0 (pc := 170) hX (c := 1000) (v := .ref (gz_ad G 1122)) (fun h => cz_k h rfl) (fun h => cz_f h (by decide) rfl (by decide) rfl) dX0_leadsOn_170 ?_
  refine gz_iload (pc := 173) hX dX0_leadsOn_173 4 rfl ?_
  refine gz_iload (pc := 175) hX dX0_leadsOn_175 3 rfl ?_
  obtain ⟨g1, h⟩ := gz_gu h
  obtain ⟨m2, em2, h⟩ := gz_lt h
  refine gz_iast2 (pc := 177) (c := 1122) (n := 8) hX rfl (fun h => cz_a h rfl (by decide) rfl) (Nat.le_of_ble_eq_true rfl) g1 dX0_leadsOn_177 em2 ?_
  refine gz_iconst (pc := 178) (v := (1 : Int32)) hX dX0_leadsOn_178 (by decide) ?_
  refine gz_istore_n (pc := 179) (lw := [(3, .int (1 : Int32)), (0, .ref (gz_ad G 1000)), (1, .int x1), (2, .int x2), (4, .int x4), (6, .int x6)]) hX dX0_leadsOn_179 rfl (by decide) rfl ?_
  refine gz_sub (lw := [(0, .ref (gz_ad G 1000)), (1, .int x1), (2, .int x2), (3, .int (1 : Int32)), (4, .int x4)]) [1, 2, 3, 0, 4] rfl ?_
  exact wb_X0_leadsOn_180 hX h hk
noncomputable def mj_X0_leadsOn_115 (x1 : Int32) (x2 : Int32) (x3 : Int32) (x4 : Int32) (x5 : Int32) (s0 : Int32) (m : gM) : Option ((Int32 × Int32 × Int32 × Int32 × gM) ⊕ ((Int32 × Int32 × Int32 × gM) ⊕ (Int32 × gM))) :=
  ((cf_X0_has (gI m 1027 3) x4 m).bind fun (r1, m2) => (if r1 = (0 : Int32) then (mj_X0_leadsOn_180 x1 x2 x3 x4 m2) else (if s0 = x1 then (mj_X0_leadsOn_180 x1 x2 x3 x4 m2) else (if gz_in s0 (8) then (if (gI m2 1122 (gz_ix s0)) = (-1 : Int32) then (if x5 = x1 then (mj_X0_leadsOn_169 x1 x2 x4 s0 m2) else (if gz_in x5 (8) then (if (gI m2 1122 (gz_ix x5)) = (-1 : Int32) then (mj_X0_leadsOn_180 x1 x2 x3 x4 m2) else (mj_X0_leadsOn_169 x1 x2 x4 s0 m2)) else none)) else (mj_X0_leadsOn_180 x1 x2 x3 x4 m2)) else none))))
theorem wb_X0_leadsOn_115 {X : gz_X} {G : gz_G} (hX : gz_C cS X G cX0_leadsOn 7 RX0 4 85) {x1 : Int32} {x2 : Int32} {x3 : Int32} {x4 : Int32} {x5 : Int32} {s0 : Int32}  {m : gM} {z : ((Int32 × Int32 × Int32 × Int32 × gM) ⊕ ((Int32 × Int32 × Int32 × gM) ⊕ (Int32 × gM)))} (h : mj_X0_leadsOn_115 x1 x2 x3 x4 x5 s0 m = some z) (hk : (Sum.elim (mP_X0_leadsOn_42 X G) (Sum.elim (mP_X0_leadsOn_23 X G) (fun z : (Int32 × gM) => gz_kZ cS X G 7 (0, 0) cX0_leadsOn z.2 z.1))) z) : gz_V cS X G 7 (0, 0) m 115 [(0, .ref (gz_ad G 1000)), (1, .int x1), (2, .int x2), (3, .int x3), (4, .int x4), (5, .int x5)] [.int s0] := by
  unfold mj_X0_leadsOn_115 at h
  refine gz_istore (pc := 115) (lw := [(6, .int s0), (0, .ref (gz_ad G 1000)), (1, .int x1), (2, .int x2), (3, .int x3), (4, .int x4), (5, .int x5)]) hX dX0_leadsOn_115 (by decide) rfl ?_
  refine gz_aload_n (pc := 117) hX dX0_leadsOn_117 rfl 1 rfl ?_
  refine cg_X0_74_0 (pc := 118) hX (c := 1000) (v := .ref (gz_ad G 1027)) (fun h => cz_k h rfl) (fun h => cz_f h (by decide) rfl (by decide) rfl) dX0_leadsOn_118 ?_
  refine cg_X0_225_5 (pc := 121) hX (c := 1027) (v := .int (gI m 1027 3)) (fun h => cz_k h rfl) (fun _ => rfl) dX0_leadsOn_121 ?_
  refine gz_iload (pc := 124) hX dX0_leadsOn_124 5 rfl ?_
  obtain ⟨⟨r1, m2⟩, c3, h⟩ := gz_bd h
  refine cc_X0_276 (pc := 126) hX c3 ⟨Nat.le_of_ble_eq_true rfl, Nat.le_of_ble_eq_true rfl⟩ (rest := []) rfl (Nat.le_of_ble_eq_true rfl) dX0_leadsOn_126 ?_
  refine gz_if_eq (pc := 129) (tgt := 180) hX dX0_leadsOn_129 (by decide) (fun g4 => ?_) (fun g4 => ?_)
  · replace h := gz_it' g4 h
    refine gz_sub (lw := [(0, .ref (gz_ad G 1000)), (1, .int x1), (2, .int x2), (3, .int x3), (4, .int x4)]) [1, 2, 3, 4, 5] rfl ?_
    exact wb_X0_leadsOn_180 hX h hk
  · replace h := gz_if' g4 h
    refine gz_iload (pc := 132) hX dX0_leadsOn_132 0 rfl ?_
    refine gz_iload_n (pc := 134) hX dX0_leadsOn_134 rfl 2 rfl ?_
    refine gz_icmp_eq (pc := 135) (tgt := 180) hX dX0_leadsOn_135 (by decide) (fun g5 => ?_) (fun g5 => ?_)
    · replace h := gz_it' g5 h
      refine gz_sub (lw := [(0, .ref (gz_ad G 1000)), (1, .int x1), (2, .int x2), (3, .int x3), (4, .int x4)]) [1, 2, 3, 4, 5] rfl ?_
      exact wb_X0_leadsOn_180 hX h hk
    · replace h := gz_if' g5 h
      refine gz_aload_n (pc := 138) hX dX0_leadsOn_138 rfl 1 rfl ?_
      refine cg_X0_94_0 (pc := 139) hX (c := 1000) (v := .ref (gz_ad G 1122)) (fun h => cz_k h rfl) (fun h => cz_f h (by decide) rfl (by decide) rfl) dX0_leadsOn_139 ?_
      refine gz_iload (pc := 142) hX dX0_leadsOn_142 0 rfl ?_
      obtain ⟨g6, h⟩ := gz_gu h
      refine gz_iald2 (pc := 144) (c := 1122) (n := 8) hX rfl (fun h => cz_a h rfl (by decide) rfl) g6 dX0_leadsOn_144 ?_
      refine gz_iconst (pc := 145) (v := (-1 : Int32)) hX dX0_leadsOn_145 (by decide) ?_
      refine gz_icmp_ne (pc := 146) (tgt := 180) hX dX0_leadsOn_146 (by decide) (fun g7 => ?_) (fun g7 => ?_)
      · replace h := gz_if' g7 h
        refine gz_sub (lw := [(0, .ref (gz_ad G 1000)), (1, .int x1), (2, .int x2), (3, .int x3), (4, .int x4)]) [1, 2, 3, 4, 5] rfl ?_
        exact wb_X0_leadsOn_180 hX h hk
      · replace h := gz_it' g7 h
        refine gz_iload (pc := 149) hX dX0_leadsOn_149 6 rfl ?_
        refine gz_iload_n (pc := 151) hX dX0_leadsOn_151 rfl 2 rfl ?_
        refine gz_icmp_eq (pc := 152) (tgt := 169) hX dX0_leadsOn_152 (by decide) (fun g8 => ?_) (fun g8 => ?_)
        · replace h := gz_it' g8 h
          refine gz_sub (lw := [(0, .ref (gz_ad G 1000)), (1, .int x1), (2, .int x2), (4, .int x4), (6, .int s0)]) [1, 2, 3, 5, 0] rfl ?_
          exact wb_X0_leadsOn_169 hX h hk
        · replace h := gz_if' g8 h
          refine gz_aload_n (pc := 155) hX dX0_leadsOn_155 rfl 1 rfl ?_
          refine cg_X0_94_0 (pc := 156) hX (c := 1000) (v := .ref (gz_ad G 1122)) (fun h => cz_k h rfl) (fun h => cz_f h (by decide) rfl (by decide) rfl) dX0_leadsOn_156 ?_
          refine gz_iload (pc := 159) hX dX0_leadsOn_159 6 rfl ?_
          obtain ⟨g9, h⟩ := gz_gu h
          refine gz_iald2 (pc := 161) (c := 1122) (n := 8) hX rfl (fun h => cz_a h rfl (by decide) rfl) g9 dX0_leadsOn_161 ?_
          refine gz_iconst (pc := 162) (v := (-1 : Int32)) hX dX0_leadsOn_162 (by decide) ?_
          refine gz_icmp_ne (pc := 163) (tgt := 169) hX dX0_leadsOn_163 (by decide) (fun g10 => ?_) (fun g10 => ?_)
          · replace h := gz_if' g10 h
            refine gz_sub (lw := [(0, .ref (gz_ad G 1000)), (1, .int x1), (2, .int x2), (4, .int x4), (6, .int s0)]) [1, 2, 3, 5, 0] rfl ?_
            exact wb_X0_leadsOn_169 hX h hk
          · replace h := gz_it' g10 h
            refine gz_goto (pc := 166) (tgt := 180) hX dX0_leadsOn_166 (by decide) ?_
            refine gz_sub (lw := [(0, .ref (gz_ad G 1000)), (1, .int x1), (2, .int x2), (3, .int x3), (4, .int x4)]) [1, 2, 3, 4, 5] rfl ?_
            exact wb_X0_leadsOn_180 hX h hk
noncomputable def mj_X0_leadsOn_82 (x1 : Int32) (x2 : Int32) (x3 : Int32) (x4 : Int32) (s0 : Int32) (m : gM) : Option ((Int32 × Int32 × Int32 × Int32 × gM) ⊕ ((Int32 × Int32 × Int32 × gM) ⊕ (Int32 × gM))) :=
  (if gz_in x4 (12) then (if (gI m 1121 (gz_ix x4)) = (0 : Int32) then ((cf_X0_tieOf x4 m).bind fun (r3, m4) => (if gK m4 r3 = 10 then (mj_X0_leadsOn_115 x1 x2 x3 x4 s0 (gI m4 r3 1) m4) else none)) else ((cf_X0_tieOf x4 m).bind fun (r7, m8) => (if gK m8 r7 = 10 then (mj_X0_leadsOn_115 x1 x2 x3 x4 s0 (gI m8 r7 0) m8) else none))) else none)
theorem wb_X0_leadsOn_82 {X : gz_X} {G : gz_G} (hX : gz_C cS X G cX0_leadsOn 7 RX0 4 85) {x1 : Int32} {x2 : Int32} {x3 : Int32} {x4 : Int32} {s0 : Int32}  {m : gM} {z : ((Int32 × Int32 × Int32 × Int32 × gM) ⊕ ((Int32 × Int32 × Int32 × gM) ⊕ (Int32 × gM)))} (h : mj_X0_leadsOn_82 x1 x2 x3 x4 s0 m = some z) (hk : (Sum.elim (mP_X0_leadsOn_42 X G) (Sum.elim (mP_X0_leadsOn_23 X G) (fun z : (Int32 × gM) => gz_kZ cS X G 7 (0, 0) cX0_leadsOn z.2 z.1))) z) : gz_V cS X G 7 (0, 0) m 82 [(0, .ref (gz_ad G 1000)), (1, .int x1), (2, .int x2), (3, .int x3), (4, .int x4)] [.int s0] := by
  unfold mj_X0_leadsOn_82 at h
  refine gz_istore (pc := 82) (lw := [(5, .int s0), (0, .ref (gz_ad G 1000)), (1, .int x1), (2, .int x2), (3, .int x3), (4, .int x4)]) hX dX0_leadsOn_82 (by decide) rfl ?_
  refine gz_aload_n (pc := 84) hX dX0_leadsOn_84 rfl 1 rfl ?_
  refine cg_X0_90_0 (pc := 85) hX (c := 1000) (v := .ref (gz_ad G 1121)) (fun h => cz_k h rfl) (fun h => cz_f h (by decide) rfl (by decide) rfl) dX0_leadsOn_85 ?_
  refine gz_iload (pc := 88) hX dX0_leadsOn_88 5 rfl ?_
  obtain ⟨g1, h⟩ := gz_gu h
  refine gz_zald2 (pc := 90) (c := 1121) (n := 12) hX rfl (fun h => cz_a h rfl (by decide) rfl) g1 dX0_leadsOn_90 ?_
  refine gz_if_eq (pc := 91) (tgt := 106) hX dX0_leadsOn_91 (by decide) (fun g2 => ?_) (fun g2 => ?_)
  · replace h := gz_it' g2 h
    refine gz_aload_n (pc := 106) hX dX0_leadsOn_106 rfl 1 rfl ?_
    refine gz_iload (pc := 107) hX dX0_leadsOn_107 5 rfl ?_
    obtain ⟨⟨r3, m4⟩, c5, h⟩ := gz_bd h
    refine cc_X0_266 (pc := 109) hX (fun h => cz_k h rfl) c5 ⟨Nat.le_of_ble_eq_true rfl, Nat.le_of_ble_eq_true rfl⟩ (rest := []) rfl (Nat.le_of_ble_eq_true rfl) dX0_leadsOn_109 ?_
    obtain ⟨g6, h⟩ := gz_gu h
    refine cg_X0_273_9 (pc := 112) hX (c := r3) (v := .int (gI m4 r3 1)) (fun _ => g6) (fun _ => rfl) dX0_leadsOn_112 ?_
    refine gz_sub (lw := [(0, .ref (gz_ad G 1000)), (1, .int x1), (2, .int x2), (3, .int x3), (4, .int x4), (5, .int s0)]) [1, 2, 3, 4, 5, 0] rfl ?_
    exact wb_X0_leadsOn_115 hX h hk
  · replace h := gz_if' g2 h
    refine gz_aload_n (pc := 94) hX dX0_leadsOn_94 rfl 1 rfl ?_
    refine gz_iload (pc := 95) hX dX0_leadsOn_95 5 rfl ?_
    obtain ⟨⟨r7, m8⟩, c9, h⟩ := gz_bd h
    refine cc_X0_266 (pc := 97) hX (fun h => cz_k h rfl) c9 ⟨Nat.le_of_ble_eq_true rfl, Nat.le_of_ble_eq_true rfl⟩ (rest := []) rfl (Nat.le_of_ble_eq_true rfl) dX0_leadsOn_97 ?_
    obtain ⟨g10, h⟩ := gz_gu h
    refine cg_X0_270_9 (pc := 100) hX (c := r7) (v := .int (gI m8 r7 0)) (fun _ => g10) (fun _ => rfl) dX0_leadsOn_100 ?_
    refine gz_goto (pc := 103) (tgt := 115) hX dX0_leadsOn_103 (by decide) ?_
    refine gz_sub (lw := [(0, .ref (gz_ad G 1000)), (1, .int x1), (2, .int x2), (3, .int x3), (4, .int x4), (5, .int s0)]) [1, 2, 3, 4, 5, 0] rfl ?_
    exact wb_X0_leadsOn_115 hX h hk
noncomputable def mb_X0_leadsOn_42 (x1 : Int32) (x2 : Int32) (x3 : Int32) (x4 : Int32) (m : gM) : Option ((Int32 × Int32 × Int32 × Int32 × gM) ⊕ ((Int32 × Int32 × Int32 × gM) ⊕ (Int32 × gM))) :=
  ((cf_X0_ties m).bind fun (r1, m2) => (if r1 ≤ x4 then some (Sum.inr (Sum.inl (x1, x2, x3, m2))) else (if gz_in x4 (12) then (if (gI m2 1121 (gz_ix x4)) = (0 : Int32) then ((cf_X0_tieOf x4 m2).bind fun (r7, m8) => (if gK m8 r7 = 10 then (mj_X0_leadsOn_82 x1 x2 x3 x4 (gI m8 r7 0) m8) else none)) else ((cf_X0_tieOf x4 m2).bind fun (r11, m12) => (if gK m12 r11 = 10 then (mj_X0_leadsOn_82 x1 x2 x3 x4 (gI m12 r11 1) m12) else none))) else none)))
theorem wb_X0_leadsOn_42 {X : gz_X} {G : gz_G} (hX : gz_C cS X G cX0_leadsOn 7 RX0 4 85) {x1 : Int32} {x2 : Int32} {x3 : Int32} {x4 : Int32}  {m : gM} {z : ((Int32 × Int32 × Int32 × Int32 × gM) ⊕ ((Int32 × Int32 × Int32 × gM) ⊕ (Int32 × gM)))} (h : mb_X0_leadsOn_42 x1 x2 x3 x4 m = some z) (hk : (Sum.elim (mP_X0_leadsOn_42 X G) (Sum.elim (mP_X0_leadsOn_23 X G) (fun z : (Int32 × gM) => gz_kZ cS X G 7 (0, 0) cX0_leadsOn z.2 z.1))) z) : gz_V cS X G 7 (0, 0) m 42 [(0, .ref (gz_ad G 1000)), (1, .int x1), (2, .int x2), (3, .int x3), (4, .int x4)] [] := by
  unfold mb_X0_leadsOn_42 at h
  refine gz_iload (pc := 42) hX dX0_leadsOn_42 4 rfl ?_
  refine gz_aload_n (pc := 44) hX dX0_leadsOn_44 rfl 0 rfl ?_
  obtain ⟨⟨r1, m2⟩, c3, h⟩ := gz_bd h
  refine cc_X0_183 (pc := 45) hX (fun h => cz_k h rfl) c3 ⟨Nat.le_of_ble_eq_true rfl, Nat.le_of_ble_eq_true rfl⟩ (rest := [.int x4]) rfl (Nat.le_of_ble_eq_true rfl) dX0_leadsOn_45 ?_
  refine gz_icmp_ge (pc := 48) (tgt := 186) hX dX0_leadsOn_48 (by decide) (fun g4 => ?_) (fun g4 => ?_)
  · replace h := gz_it' g4 h
    refine gz_goto (pc := 186) (tgt := 23) hX dX0_leadsOn_186 (by decide) ?_
    refine gz_sub (lw := [(0, .ref (gz_ad G 1000)), (1, .int x1), (2, .int x2), (3, .int x3)]) [0, 1, 2, 3] rfl ?_
    obtain rfl := Option.some.inj h
    exact hk
  · replace h := gz_if' g4 h
    refine gz_aload_n (pc := 51) hX dX0_leadsOn_51 rfl 0 rfl ?_
    refine cg_X0_90_0 (pc := 52) hX (c := 1000) (v := .ref (gz_ad G 1121)) (fun h => cz_k h rfl) (fun h => cz_f h (by decide) rfl (by decide) rfl) dX0_leadsOn_52 ?_
    refine gz_iload (pc := 55) hX dX0_leadsOn_55 4 rfl ?_
    obtain ⟨g5, h⟩ := gz_gu h
    refine gz_zald2 (pc := 57) (c := 1121) (n := 12) hX rfl (fun h => cz_a h rfl (by decide) rfl) g5 dX0_leadsOn_57 ?_
    refine gz_if_eq (pc := 58) (tgt := 73) hX dX0_leadsOn_58 (by decide) (fun g6 => ?_) (fun g6 => ?_)
    · replace h := gz_it' g6 h
      refine gz_aload_n (pc := 73) hX dX0_leadsOn_73 rfl 0 rfl ?_
      refine gz_iload (pc := 74) hX dX0_leadsOn_74 4 rfl ?_
      obtain ⟨⟨r7, m8⟩, c9, h⟩ := gz_bd h
      refine cc_X0_266 (pc := 76) hX (fun h => cz_k h rfl) c9 ⟨Nat.le_of_ble_eq_true rfl, Nat.le_of_ble_eq_true rfl⟩ (rest := []) rfl (Nat.le_of_ble_eq_true rfl) dX0_leadsOn_76 ?_
      obtain ⟨g10, h⟩ := gz_gu h
      refine cg_X0_270_9 (pc := 79) hX (c := r7) (v := .int (gI m8 r7 0)) (fun _ => g10) (fun _ => rfl) dX0_leadsOn_79 ?_
      exact wb_X0_leadsOn_82 hX h hk
    · replace h := gz_if' g6 h
      refine gz_aload_n (pc := 61) hX dX0_leadsOn_61 rfl 0 rfl ?_
      refine gz_iload (pc := 62) hX dX0_leadsOn_62 4 rfl ?_
      obtain ⟨⟨r11, m12⟩, c13, h⟩ := gz_bd h
      refine cc_X0_266 (pc := 64) hX (fun h => cz_k h rfl) c13 ⟨Nat.le_of_ble_eq_true rfl, Nat.le_of_ble_eq_true rfl⟩ (rest := []) rfl (Nat.le_of_ble_eq_true rfl) dX0_leadsOn_64 ?_
      obtain ⟨g14, h⟩ := gz_gu h
      refine cg_X0_273_9 (pc := 67) hX (c := r11) (v := .int (gI m12 r11 1)) (fun _ => g14) (fun _ => rfl) dX0_leadsOn_67 ?_
      refine gz_goto (pc := 70) (tgt := 82) hX dX0_leadsOn_70 (by decide) ?_
      exact wb_X0_leadsOn_82 hX h hk
noncomputable def ml_X0_leadsOn_42 (x1 : Int32) (x2 : Int32) (x3 : Int32) (x4 : Int32) (m : gM) : Option ((Int32 × Int32 × Int32 × gM) ⊕ (Int32 × gM)) := gz_loop (fun q : (Int32 × Int32 × Int32 × Int32 × gM) => mb_X0_leadsOn_42 q.1 q.2.1 q.2.2.1 q.2.2.2.1 q.2.2.2.2) (x1, x2, x3, x4, m)
theorem wl_X0_leadsOn_42 {X : gz_X} {G : gz_G} (hX : gz_C cS X G cX0_leadsOn 7 RX0 4 85) {x1 : Int32} {x2 : Int32} {x3 : Int32} {x4 : Int32}  {m : gM} {z : ((Int32 × Int32 × Int32 × gM) ⊕ (Int32 × gM))} (h : ml_X0_leadsOn_42 x1 x2 x3 x4 m = some z) (hk : (Sum.elim (mP_X0_leadsOn_23 X G) (fun z : (Int32 × gM) => gz_kZ cS X G 7 (0, 0) cX0_leadsOn z.2 z.1)) z) : gz_V cS X G 7 (0, 0) m 42 [(0, .ref (gz_ad G 1000)), (1, .int x1), (2, .int x2), (3, .int x3), (4, .int x4)] [] := by
  have hp : mP_X0_leadsOn_42 X G (x1, x2, x3, x4, m) := gz_loop_ind (fun q z hz hkz => wb_X0_leadsOn_42 hX  hz hkz) h hk
  exact hp
noncomputable def mb_X0_leadsOn_23 (x1 : Int32) (x2 : Int32) (x3 : Int32) (m : gM) : Option ((Int32 × Int32 × Int32 × gM) ⊕ (Int32 × gM)) :=
  (if x3 = (0 : Int32) then (Option.map Sum.inr (mj_X0_leadsOn_189 x2 m)) else (if gz_in x2 (8) then (if (gI m 1122 (gz_ix x2)) = (-1 : Int32) then (ml_X0_leadsOn_42 x1 x2 (0 : Int32) (0 : Int32) m) else (Option.map Sum.inr (mj_X0_leadsOn_189 x2 m))) else none))
theorem wb_X0_leadsOn_23 {X : gz_X} {G : gz_G} (hX : gz_C cS X G cX0_leadsOn 7 RX0 4 85) {x1 : Int32} {x2 : Int32} {x3 : Int32}  {m : gM} {z : ((Int32 × Int32 × Int32 × gM) ⊕ (Int32 × gM))} (h : mb_X0_leadsOn_23 x1 x2 x3 m = some z) (hk : (Sum.elim (mP_X0_leadsOn_23 X G) (fun z : (Int32 × gM) => gz_kZ cS X G 7 (0, 0) cX0_leadsOn z.2 z.1)) z) : gz_V cS X G 7 (0, 0) m 23 [(0, .ref (gz_ad G 1000)), (1, .int x1), (2, .int x2), (3, .int x3)] [] := by
  unfold mb_X0_leadsOn_23 at h
  refine gz_iload_n (pc := 23) hX dX0_leadsOn_23 rfl 3 rfl ?_
  refine gz_if_eq (pc := 24) (tgt := 189) hX dX0_leadsOn_24 (by decide) (fun g1 => ?_) (fun g1 => ?_)
  · replace h := gz_it' g1 h
    refine gz_sub (lw := [(0, .ref (gz_ad G 1000)), (2, .int x2)]) [0, 2] rfl ?_
    obtain ⟨z0, hm0, rfl⟩ := gz_mp h
    exact wb_X0_leadsOn_189 hX hm0 hk
  · replace h := gz_if' g1 h
    refine gz_aload_n (pc := 27) hX dX0_leadsOn_27 rfl 0 rfl ?_
    refine cg_X0_94_0 (pc := 28) hX (c := 1000) (v := .ref (gz_ad G 1122)) (fun h => cz_k h rfl) (fun h => cz_f h (by decide) rfl (by decide) rfl) dX0_leadsOn_28 ?_
    refine gz_iload_n (pc := 31) hX dX0_leadsOn_31 rfl 2 rfl ?_
    obtain ⟨g2, h⟩ := gz_gu h
    refine gz_iald2 (pc := 32) (c := 1122) (n := 8) hX rfl (fun h => cz_a h rfl (by decide) rfl) g2 dX0_leadsOn_32 ?_
    refine gz_iconst (pc := 33) (v := (-1 : Int32)) hX dX0_leadsOn_33 (by decide) ?_
    refine gz_icmp_ne (pc := 34) (tgt := 189) hX dX0_leadsOn_34 (by decide) (fun g3 => ?_) (fun g3 => ?_)
    · replace h := gz_if' g3 h
      refine gz_sub (lw := [(0, .ref (gz_ad G 1000)), (2, .int x2)]) [0, 2] rfl ?_
      obtain ⟨z0, hm0, rfl⟩ := gz_mp h
      exact wb_X0_leadsOn_189 hX hm0 hk
    · replace h := gz_it' g3 h
      refine gz_iconst (pc := 37) (v := (0 : Int32)) hX dX0_leadsOn_37 (by decide) ?_
      refine gz_istore_n (pc := 38) (lw := [(3, .int (0 : Int32)), (0, .ref (gz_ad G 1000)), (1, .int x1), (2, .int x2)]) hX dX0_leadsOn_38 rfl (by decide) rfl ?_
      refine gz_iconst (pc := 39) (v := (0 : Int32)) hX dX0_leadsOn_39 (by decide) ?_
      refine gz_istore (pc := 40) (lw := [(4, .int (0 : Int32)), (3, .int (0 : Int32)), (0, .ref (gz_ad G 1000)), (1, .int x1), (2, .int x2)]) hX dX0_leadsOn_40 (by decide) rfl ?_
      refine gz_sub (lw := [(0, .ref (gz_ad G 1000)), (1, .int x1), (2, .int x2), (3, .int (0 : Int32)), (4, .int (0 : Int32))]) [2, 3, 4, 1, 0] rfl ?_
      exact wl_X0_leadsOn_42 hX h hk
noncomputable def ml_X0_leadsOn_23 (x1 : Int32) (x2 : Int32) (x3 : Int32) (m : gM) : Option (Int32 × gM) := gz_loop (fun q : (Int32 × Int32 × Int32 × gM) => mb_X0_leadsOn_23 q.1 q.2.1 q.2.2.1 q.2.2.2) (x1, x2, x3, m)
theorem wl_X0_leadsOn_23 {X : gz_X} {G : gz_G} (hX : gz_C cS X G cX0_leadsOn 7 RX0 4 85) {x1 : Int32} {x2 : Int32} {x3 : Int32}  {m : gM} {z : (Int32 × gM)} (h : ml_X0_leadsOn_23 x1 x2 x3 m = some z) (hk : (fun z : (Int32 × gM) => gz_kZ cS X G 7 (0, 0) cX0_leadsOn z.2 z.1) z) : gz_V cS X G 7 (0, 0) m 23 [(0, .ref (gz_ad G 1000)), (1, .int x1), (2, .int x2), (3, .int x3)] [] := by
  have hp : mP_X0_leadsOn_23 X G (x1, x2, x3, m) := gz_loop_ind (fun q z hz hkz => wb_X0_leadsOn_23 hX  hz hkz) h hk
  exact hp
noncomputable def mb_X0_leadsOn_2 (x1 : Int32) (x2 : Int32) (x3 : Int32) (m : gM) : Option ((Int32 × Int32 × Int32 × gM) ⊕ (Int32 × gM)) :=
  (if (8 : Int32) ≤ x3 then (Option.map Sum.inr (ml_X0_leadsOn_23 x1 x2 (1 : Int32) m)) else (if gz_in x3 (8) then gz_let (gz_sI m 1122 (gz_ix x3) (-1 : Int32)) fun m3 => gz_let (x3 + (1 : Int32)) fun y4 => some (Sum.inl (x1, x2, y4, m3)) else none))
theorem wb_X0_leadsOn_2 {X : gz_X} {G : gz_G} (hX : gz_C cS X G cX0_leadsOn 7 RX0 4 85) {x1 : Int32} {x2 : Int32} {x3 : Int32}  {m : gM} {z : ((Int32 × Int32 × Int32 × gM) ⊕ (Int32 × gM))} (h : mb_X0_leadsOn_2 x1 x2 x3 m = some z) (hk : (Sum.elim (mP_X0_leadsOn_2 X G) (fun z : (Int32 × gM) => gz_kZ cS X G 7 (0, 0) cX0_leadsOn z.2 z.1)) z) : gz_V cS X G 7 (0, 0) m 2 [(0, .ref (gz_ad G 1000)), (1, .int x1), (2, .int x2), (3, .int x3)] [] := by
  unfold mb_X0_leadsOn_2 at h
  refine gz_iload_n (pc := 2) hX dX0_leadsOn_2 rfl 3 rfl ?_
  refine gz_bipush (pc := 3) (v := (8 : Int32)) hX dX0_leadsOn_3 (by decide) ?_
  refine gz_icmp_ge (pc := 5) (tgt := 21) hX dX0_leadsOn_5 (by decide) (fun g1 => ?_) (fun g1 => ?_)
  · replace h := gz_it' g1 h
    refine gz_iconst (pc := 21) (v := (1 : Int32)) hX dX0_leadsOn_21 (by decide) ?_
    refine gz_istore_n (pc := 22) (lw := [(3, .int (1 : Int32)), (0, .ref (gz_ad G 1000)), (1, .int x1), (2, .int x2)]) hX dX0_leadsOn_22 rfl (by decide) rfl ?_
    refine gz_sub (lw := [(0, .ref (gz_ad G 1000)), (1, .int x1), (2, .int x2), (3, .int (1 : Int32))]) [1, 2, 3, 0] rfl ?_
    obtain ⟨z0, hm0, rfl⟩ := gz_mp h
    exact wl_X0_leadsOn_23 hX hm0 hk
  · replace h := gz_if' g1 h
    refine gz_aload_n (pc := 8) hX dX0_leadsOn_8 rfl 0 rfl ?_
    refine cg_X0_94_0 (pc := 9) hX (c := 1000) (v := .ref (gz_ad G 1122)) (fun h => cz_k h rfl) (fun h => cz_f h (by decide) rfl (by decide) rfl) dX0_leadsOn_9 ?_
    refine gz_iload_n (pc := 12) hX dX0_leadsOn_12 rfl 3 rfl ?_
    refine gz_iconst (pc := 13) (v := (-1 : Int32)) hX dX0_leadsOn_13 (by decide) ?_
    obtain ⟨g2, h⟩ := gz_gu h
    obtain ⟨m3, em3, h⟩ := gz_lt h
    refine gz_iast2 (pc := 14) (c := 1122) (n := 8) hX rfl (fun h => cz_a h rfl (by decide) rfl) (Nat.le_of_ble_eq_true rfl) g2 dX0_leadsOn_14 em3 ?_
    obtain ⟨y4, ey4, h⟩ := gz_lt h
    refine gz_iinc (pc := 15) (v := y4) (lw := [(3, .int y4), (0, .ref (gz_ad G 1000)), (1, .int x1), (2, .int x2)]) hX dX0_leadsOn_15 (k := 3) rfl (by rw [ey4]; rfl) (by decide) rfl ?_
    refine gz_goto (pc := 18) (tgt := 2) hX dX0_leadsOn_18 (by decide) ?_
    refine gz_sub (lw := [(0, .ref (gz_ad G 1000)), (1, .int x1), (2, .int x2), (3, .int y4)]) [1, 2, 3, 0] rfl ?_
    obtain rfl := Option.some.inj h
    exact hk
noncomputable def ml_X0_leadsOn_2 (x1 : Int32) (x2 : Int32) (x3 : Int32) (m : gM) : Option (Int32 × gM) := gz_loop (fun q : (Int32 × Int32 × Int32 × gM) => mb_X0_leadsOn_2 q.1 q.2.1 q.2.2.1 q.2.2.2) (x1, x2, x3, m)
theorem wl_X0_leadsOn_2 {X : gz_X} {G : gz_G} (hX : gz_C cS X G cX0_leadsOn 7 RX0 4 85) {x1 : Int32} {x2 : Int32} {x3 : Int32}  {m : gM} {z : (Int32 × gM)} (h : ml_X0_leadsOn_2 x1 x2 x3 m = some z) (hk : (fun z : (Int32 × gM) => gz_kZ cS X G 7 (0, 0) cX0_leadsOn z.2 z.1) z) : gz_V cS X G 7 (0, 0) m 2 [(0, .ref (gz_ad G 1000)), (1, .int x1), (2, .int x2), (3, .int x3)] [] := by
  have hp : mP_X0_leadsOn_2 X G (x1, x2, x3, m) := gz_loop_ind (fun q z hz hkz => wb_X0_leadsOn_2 hX  hz hkz) h hk
  exact hp
noncomputable def cf_X0_leadsOn (x1 : Int32) (x2 : Int32) (m : gM) : Option (Int32 × gM) :=
  (ml_X0_leadsOn_2 x1 x2 (0 : Int32) m)
theorem wm_X0_leadsOn {X : gz_X} {G : gz_G} (hX : gz_C cS X G cX0_leadsOn 7 RX0 4 85) {x1 : Int32} {x2 : Int32}  {m : gM} {z : (Int32 × gM)} (h : cf_X0_leadsOn x1 x2 m = some z) (hk : (fun z : (Int32 × gM) => gz_kZ cS X G 7 (0, 0) cX0_leadsOn z.2 z.1) z) : gz_V cS X G 7 (0, 0) m 0 [(0, .ref (gz_ad G 1000)), (1, .int x1), (2, .int x2)] [] := by
  unfold cf_X0_leadsOn at h
  refine gz_iconst (pc := 0) (v := (0 : Int32)) hX dX0_leadsOn_0 (by decide) ?_
  refine gz_istore_n (pc := 1) (lw := [(3, .int (0 : Int32)), (0, .ref (gz_ad G 1000)), (1, .int x1), (2, .int x2)]) hX dX0_leadsOn_1 rfl (by decide) rfl ?_
  refine gz_sub (lw := [(0, .ref (gz_ad G 1000)), (1, .int x1), (2, .int x2), (3, .int (0 : Int32))]) [1, 2, 3, 0] rfl ?_
  exact wl_X0_leadsOn_2 hX h hk
theorem ct_X0_leadsOn {G : gz_G} {l : Launch} {x1 : Int32} {x2 : Int32}  {m m9 : gM} {r : Int32} (h : cf_X0_leadsOn x1 x2 m = some (r, m9)) : gz_Met cS G l yX0_leadsOn cX0_leadsOn 7 (some .boolean) (mRm 4 85) [.ref (gz_ad G 1000), .int x1, .int x2] m m9 (some (.int r)) :=
  gz_ofZ (by decide +kernel) (Nat.le_of_ble_eq_true rfl) fun X _ hX hk => wm_X0_leadsOn hX h hk
/-! FirstSnuffer.uses(II)V -/
def mP_X0_uses_2 (X : gz_X) (G : gz_G) (q : (Int32 × Int32 × gM)) : Prop := gz_V cS X G 5 (0, 0) q.2.2 2 [(0, .ref (gz_ad G 1000)), (1, .int q.1), (3, .int q.2.1)] []
noncomputable def mj_X0_uses_68 (x1 : Int32) (x3 : Int32) (s0 : Int32) (s1 : Int32) (m : gM) : Option ((Int32 × Int32 × gM) ⊕ (Unit × gM)) :=
  (if gz_in s1 (12) then gz_let (gz_sI m 1121 (gz_ix s1) (s0 &&& 1)) fun m2 => some (Sum.inl (x1, x3, m2)) else none)
theorem wb_X0_uses_68 {X : gz_X} {G : gz_G} (hX : gz_C cS X G cX0_uses 5 RX0 4 85) {x1 : Int32} {x3 : Int32} {s0 : Int32} {s1 : Int32}  {m : gM} {z : ((Int32 × Int32 × gM) ⊕ (Unit × gM))} (h : mj_X0_uses_68 x1 x3 s0 s1 m = some z) (hk : (Sum.elim (mP_X0_uses_2 X G) (fun z : (Unit × gM) => gz_kV cS X G 5 (0, 0) cX0_uses z.2)) z) : gz_V cS X G 5 (0, 0) m 68 [(0, .ref (gz_ad G 1000)), (1, .int x1), (3, .int x3)] [.int s0, .int s1, .ref (gz_ad G 1121)] := by
  unfold mj_X0_uses_68 at h
  obtain ⟨g1, h⟩ := gz_gu h
  obtain ⟨m2, em2, h⟩ := gz_lt h
  refine gz_zast2 (pc := 68) (c := 1121) (n := 12) hX rfl (fun h => cz_a h rfl (by decide) rfl) (Nat.le_of_ble_eq_true rfl) g1 dX0_uses_68 em2 ?_
  refine gz_goto (pc := 69) (tgt := 2) hX dX0_uses_69 (by decide) ?_
  obtain rfl := Option.some.inj h
  exact hk
noncomputable def mj_X0_uses_46 (x1 : Int32) (x4 : Int32) (s0 : Int32) (m : gM) : Option ((Int32 × Int32 × gM) ⊕ (Unit × gM)) :=
  (if gz_in x4 (12) then (if (gI m 1121 (gz_ix x4)) = (0 : Int32) then (mj_X0_uses_68 x1 s0 (1 : Int32) x4 m) else (mj_X0_uses_68 x1 s0 (0 : Int32) x4 m)) else none)
theorem wb_X0_uses_46 {X : gz_X} {G : gz_G} (hX : gz_C cS X G cX0_uses 5 RX0 4 85) {x1 : Int32} {x4 : Int32} {s0 : Int32}  {m : gM} {z : ((Int32 × Int32 × gM) ⊕ (Unit × gM))} (h : mj_X0_uses_46 x1 x4 s0 m = some z) (hk : (Sum.elim (mP_X0_uses_2 X G) (fun z : (Unit × gM) => gz_kV cS X G 5 (0, 0) cX0_uses z.2)) z) : gz_V cS X G 5 (0, 0) m 46 [(0, .ref (gz_ad G 1000)), (1, .int x1), (4, .int x4)] [.int s0] := by
  unfold mj_X0_uses_46 at h
  refine gz_istore_n (pc := 46) (lw := [(3, .int s0), (0, .ref (gz_ad G 1000)), (1, .int x1), (4, .int x4)]) hX dX0_uses_46 rfl (by decide) rfl ?_
  refine gz_aload_n (pc := 47) hX dX0_uses_47 rfl 1 rfl ?_
  refine cg_X0_90_0 (pc := 48) hX (c := 1000) (v := .ref (gz_ad G 1121)) (fun h => cz_k h rfl) (fun h => cz_f h (by decide) rfl (by decide) rfl) dX0_uses_48 ?_
  refine gz_iload (pc := 51) hX dX0_uses_51 3 rfl ?_
  refine gz_aload_n (pc := 53) hX dX0_uses_53 rfl 1 rfl ?_
  refine cg_X0_90_0 (pc := 54) hX (c := 1000) (v := .ref (gz_ad G 1121)) (fun h => cz_k h rfl) (fun h => cz_f h (by decide) rfl (by decide) rfl) dX0_uses_54 ?_
  refine gz_iload (pc := 57) hX dX0_uses_57 3 rfl ?_
  obtain ⟨g1, h⟩ := gz_gu h
  refine gz_zald2 (pc := 59) (c := 1121) (n := 12) hX rfl (fun h => cz_a h rfl (by decide) rfl) g1 dX0_uses_59 ?_
  refine gz_if_ne (pc := 60) (tgt := 67) hX dX0_uses_60 (by decide) (fun g2 => ?_) (fun g2 => ?_)
  · replace h := gz_if' g2 h
    refine gz_iconst (pc := 67) (v := (0 : Int32)) hX dX0_uses_67 (by decide) ?_
    refine gz_sub (lw := [(0, .ref (gz_ad G 1000)), (1, .int x1), (3, .int s0)]) [1, 2, 0] rfl ?_
    exact wb_X0_uses_68 hX h hk
  · replace h := gz_it' g2 h
    refine gz_iconst (pc := 63) (v := (1 : Int32)) hX dX0_uses_63 (by decide) ?_
    refine gz_goto (pc := 64) (tgt := 68) hX dX0_uses_64 (by decide) ?_
    refine gz_sub (lw := [(0, .ref (gz_ad G 1000)), (1, .int x1), (3, .int s0)]) [1, 2, 0] rfl ?_
    exact wb_X0_uses_68 hX h hk
noncomputable def mb_X0_uses_2 (x1 : Int32) (x3 : Int32) (m : gM) : Option ((Int32 × Int32 × gM) ⊕ (Unit × gM)) :=
  (if x3 = x1 then some (Sum.inr ((), m)) else (if gz_in x3 (8) then gz_let ((gI m 1122 (gz_ix x3))) fun y3 => (if gz_in y3 (12) then (if (gI m 1121 (gz_ix y3)) = (0 : Int32) then ((cf_X0_tieOf y3 m).bind fun (r6, m7) => (if gK m7 r6 = 10 then (mj_X0_uses_46 x1 y3 (gI m7 r6 0) m7) else none)) else ((cf_X0_tieOf y3 m).bind fun (r10, m11) => (if gK m11 r10 = 10 then (mj_X0_uses_46 x1 y3 (gI m11 r10 1) m11) else none))) else none) else none))
theorem wb_X0_uses_2 {X : gz_X} {G : gz_G} (hX : gz_C cS X G cX0_uses 5 RX0 4 85) {x1 : Int32} {x3 : Int32}  {m : gM} {z : ((Int32 × Int32 × gM) ⊕ (Unit × gM))} (h : mb_X0_uses_2 x1 x3 m = some z) (hk : (Sum.elim (mP_X0_uses_2 X G) (fun z : (Unit × gM) => gz_kV cS X G 5 (0, 0) cX0_uses z.2)) z) : gz_V cS X G 5 (0, 0) m 2 [(0, .ref (gz_ad G 1000)), (1, .int x1), (3, .int x3)] [] := by
  unfold mb_X0_uses_2 at h
  refine gz_iload_n (pc := 2) hX dX0_uses_2 rfl 2 rfl ?_
  refine gz_iload_n (pc := 3) hX dX0_uses_3 rfl 1 rfl ?_
  refine gz_icmp_eq (pc := 4) (tgt := 72) hX dX0_uses_4 (by decide) (fun g1 => ?_) (fun g1 => ?_)
  · replace h := gz_it' g1 h
    obtain rfl := Option.some.inj h
    exact hk _ _ dX0_uses_72
  · replace h := gz_if' g1 h
    refine gz_aload_n (pc := 7) hX dX0_uses_7 rfl 0 rfl ?_
    refine cg_X0_94_0 (pc := 8) hX (c := 1000) (v := .ref (gz_ad G 1122)) (fun h => cz_k h rfl) (fun h => cz_f h (by decide) rfl (by decide) rfl) dX0_uses_8 ?_
    refine gz_iload_n (pc := 11) hX dX0_uses_11 rfl 2 rfl ?_
    obtain ⟨g2, h⟩ := gz_gu h
    refine gz_iald2 (pc := 12) (c := 1122) (n := 8) hX rfl (fun h => cz_a h rfl (by decide) rfl) g2 dX0_uses_12 ?_
    obtain ⟨y3, ey3, h⟩ := gz_lt h
    refine gz_topi ey3 ?_
    refine gz_istore (pc := 13) (lw := [(4, .int y3), (0, .ref (gz_ad G 1000)), (1, .int x1), (3, .int x3)]) hX dX0_uses_13 (by decide) rfl ?_
    refine gz_aload_n (pc := 15) hX dX0_uses_15 rfl 1 rfl ?_
    refine cg_X0_90_0 (pc := 16) hX (c := 1000) (v := .ref (gz_ad G 1121)) (fun h => cz_k h rfl) (fun h => cz_f h (by decide) rfl (by decide) rfl) dX0_uses_16 ?_
    refine gz_iload (pc := 19) hX dX0_uses_19 0 rfl ?_
    obtain ⟨g4, h⟩ := gz_gu h
    refine gz_zald2 (pc := 21) (c := 1121) (n := 12) hX rfl (fun h => cz_a h rfl (by decide) rfl) g4 dX0_uses_21 ?_
    refine gz_if_eq (pc := 22) (tgt := 37) hX dX0_uses_22 (by decide) (fun g5 => ?_) (fun g5 => ?_)
    · replace h := gz_it' g5 h
      refine gz_aload_n (pc := 37) hX dX0_uses_37 rfl 1 rfl ?_
      refine gz_iload (pc := 38) hX dX0_uses_38 0 rfl ?_
      obtain ⟨⟨r6, m7⟩, c8, h⟩ := gz_bd h
      refine cc_X0_266 (pc := 40) hX (fun h => cz_k h rfl) c8 ⟨Nat.le_of_ble_eq_true rfl, Nat.le_of_ble_eq_true rfl⟩ (rest := []) rfl (Nat.le_of_ble_eq_true rfl) dX0_uses_40 ?_
      obtain ⟨g9, h⟩ := gz_gu h
      refine cg_X0_270_9 (pc := 43) hX (c := r6) (v := .int (gI m7 r6 0)) (fun _ => g9) (fun _ => rfl) dX0_uses_43 ?_
      refine gz_sub (lw := [(0, .ref (gz_ad G 1000)), (1, .int x1), (4, .int y3)]) [1, 2, 0] rfl ?_
      exact wb_X0_uses_46 hX h hk
    · replace h := gz_if' g5 h
      refine gz_aload_n (pc := 25) hX dX0_uses_25 rfl 1 rfl ?_
      refine gz_iload (pc := 26) hX dX0_uses_26 0 rfl ?_
      obtain ⟨⟨r10, m11⟩, c12, h⟩ := gz_bd h
      refine cc_X0_266 (pc := 28) hX (fun h => cz_k h rfl) c12 ⟨Nat.le_of_ble_eq_true rfl, Nat.le_of_ble_eq_true rfl⟩ (rest := []) rfl (Nat.le_of_ble_eq_true rfl) dX0_uses_28 ?_
      obtain ⟨g13, h⟩ := gz_gu h
      refine cg_X0_273_9 (pc := 31) hX (c := r10) (v := .int (gI m11 r10 1)) (fun _ => g13) (fun _ => rfl) dX0_uses_31 ?_
      refine gz_goto (pc := 34) (tgt := 46) hX dX0_uses_34 (by decide) ?_
      refine gz_sub (lw := [(0, .ref (gz_ad G 1000)), (1, .int x1), (4, .int y3)]) [1, 2, 0] rfl ?_
      exact wb_X0_uses_46 hX h hk
noncomputable def ml_X0_uses_2 (x1 : Int32) (x3 : Int32) (m : gM) : Option (Unit × gM) := gz_loop (fun q : (Int32 × Int32 × gM) => mb_X0_uses_2 q.1 q.2.1 q.2.2) (x1, x3, m)
theorem wl_X0_uses_2 {X : gz_X} {G : gz_G} (hX : gz_C cS X G cX0_uses 5 RX0 4 85) {x1 : Int32} {x3 : Int32}  {m : gM} {z : (Unit × gM)} (h : ml_X0_uses_2 x1 x3 m = some z) (hk : (fun z : (Unit × gM) => gz_kV cS X G 5 (0, 0) cX0_uses z.2) z) : gz_V cS X G 5 (0, 0) m 2 [(0, .ref (gz_ad G 1000)), (1, .int x1), (3, .int x3)] [] := by
  have hp : mP_X0_uses_2 X G (x1, x3, m) := gz_loop_ind (fun q z hz hkz => wb_X0_uses_2 hX  hz hkz) h hk
  exact hp
noncomputable def cf_X0_uses (x1 : Int32) (x2 : Int32) (m : gM) : Option (Unit × gM) :=
  (ml_X0_uses_2 x1 x2 m)
theorem wm_X0_uses {X : gz_X} {G : gz_G} (hX : gz_C cS X G cX0_uses 5 RX0 4 85) {x1 : Int32} {x2 : Int32}  {m : gM} {z : (Unit × gM)} (h : cf_X0_uses x1 x2 m = some z) (hk : (fun z : (Unit × gM) => gz_kV cS X G 5 (0, 0) cX0_uses z.2) z) : gz_V cS X G 5 (0, 0) m 0 [(0, .ref (gz_ad G 1000)), (1, .int x1), (2, .int x2)] [] := by
  unfold cf_X0_uses at h
  refine gz_iload_n (pc := 0) hX dX0_uses_0 rfl 2 rfl ?_
  refine gz_istore_n (pc := 1) (lw := [(3, .int x2), (0, .ref (gz_ad G 1000)), (1, .int x1), (2, .int x2)]) hX dX0_uses_1 rfl (by decide) rfl ?_
  refine gz_sub (lw := [(0, .ref (gz_ad G 1000)), (1, .int x1), (3, .int x2)]) [1, 2, 0] rfl ?_
  exact wl_X0_uses_2 hX h hk
theorem ct_X0_uses {G : gz_G} {l : Launch} {x1 : Int32} {x2 : Int32}  {m m9 : gM} (h : cf_X0_uses x1 x2 m = some ((), m9)) : gz_Met cS G l yX0_uses cX0_uses 5 none (mRm 4 85) [.ref (gz_ad G 1000), .int x1, .int x2] m m9 none :=
  gz_ofV (by decide +kernel) (Nat.le_of_ble_eq_true rfl) fun X _ hX hk => wm_X0_uses hX h hk
theorem cc_X0_244 {X : gz_X} {G : gz_G} {cc : ByteArray} {nL fr lo pc : Nat} {rem : Nat × Nat} {lv : List (Nat × Value)} {rest st0 : List Value} (hX : gz_C cS X G cc nL RX0 fr lo) {x1 : Int32} {m m9 : gM} (hK : clc m.1 m.2.1 m.2.2.2.2.1 → m.1 1000 = 0 + 1)  {r : Nat} (h : cf_X0_thingOf x1 m = some (r, m9)) (hroom : 3 + 1 ≤ fr ∧ 8 + (2 + 11) + 64 ≤ lo) (hst : st0 = [.int x1, .ref (gz_ad G 1000)] ++ rest) (hW : (rest.map fun v => v.category).sum ≤ 8) (hd : decode cc pc = .ok (.invokevirtual 244, 3)) (kk : gz_V cS X G nL rem m9 (pc + 3) lv (.ref (gz_ad G r) :: rest)) : gz_V cS X G nL rem m pc lv st0 :=
  gz_callV2 hX cs_E (As := [.int x1]) (rest := rest) (q := (RX0, TX0, 28)) (ci := 0) (c := 1000) (ct_X0_thingOf (l := X.2.1) h) (lw_V q1374 q1311 qs39 q167 q1312) (n := 1) (by decide +kernel) hroom rfl rfl (by decide) hK hst hW hd (rem := rem) kk
theorem cg_X0_248_8 {X : gz_X} {G : gz_G} {cc : ByteArray} {nL fr lo pc : Nat} {rem : Nat × Nat} {m : gM} {lv : List (Nat × Value)} {st : List Value} (hX : gz_C cS X G cc nL RX0 fr lo) {c : Nat} {v : Value} (hK : clc m.1 m.2.1 m.2.2.2.2.1 → m.1 c = 8 + 1) (hv : clc m.1 m.2.1 m.2.2.2.2.1 → gz_u (gz_ad G) m (ftC 8 1) c 1 = v) (hd : decode cc pc = .ok (.getfield 248, 3)) (kk : gz_V cS X G nL rem m (pc + 3) lv (v :: st)) : gz_V cS X G nL rem m pc lv (.ref (gz_ad G c) :: st) :=
  gz_getf hX (C := RX9) (T := TX9) (N := 4) (ci := 8) (k := 1) rfl (by decide) in_X9 (by decide) (Or.inr ⟨_, va_Nw.use rfl (cz_n (Z := cS) hX q978 rfl)⟩) hd hK hv kk
/-! FirstSnuffer.isHere(I)Z -/
noncomputable def mj_X0_isHere_30  (m : gM) : Option (Int32 × gM) :=
  some ((0 : Int32), m)
theorem wb_X0_isHere_30 {X : gz_X} {G : gz_G} (hX : gz_C cS X G cX0_isHere 2 RX0 4 85)   {m : gM} {z : (Int32 × gM)} (h : mj_X0_isHere_30  m = some z) (hk : (fun z : (Int32 × gM) => gz_kZ cS X G 2 (0, 0) cX0_isHere z.2 z.1) z) : gz_V cS X G 2 (0, 0) m 30 [(0, .ref (gz_ad G 1000))] [] := by
  unfold mj_X0_isHere_30 at h
  refine gz_iconst (pc := 30) (v := (0 : Int32)) hX dX0_isHere_30 (by decide) ?_
  obtain rfl := Option.some.inj h
  exact hk _ _ dX0_isHere_31 (Or.inl rfl)
noncomputable def cf_X0_isHere (x1 : Int32) (m : gM) : Option (Int32 × gM) :=
  ((cf_X0_isThing x1 m).bind fun (r1, m2) => (if r1 = (0 : Int32) then (mj_X0_isHere_30  m2) else ((cf_X0_thingOf x1 m2).bind fun (r5, m6) => (if gK m6 r5 = 9 then (if (gI m6 r5 1) = (gI m6 1027 2) then some ((1 : Int32), m6) else (mj_X0_isHere_30  m6)) else none))))
theorem wm_X0_isHere {X : gz_X} {G : gz_G} (hX : gz_C cS X G cX0_isHere 2 RX0 4 85) {x1 : Int32}  {m : gM} {z : (Int32 × gM)} (h : cf_X0_isHere x1 m = some z) (hk : (fun z : (Int32 × gM) => gz_kZ cS X G 2 (0, 0) cX0_isHere z.2 z.1) z) : gz_V cS X G 2 (0, 0) m 0 [(0, .ref (gz_ad G 1000)), (1, .int x1)] [] := by
  unfold cf_X0_isHere at h
  refine gz_aload_n (pc := 0) hX dX0_isHere_0 rfl 0 rfl ?_
  refine gz_iload_n (pc := 1) hX dX0_isHere_1 rfl 1 rfl ?_
  obtain ⟨⟨r1, m2⟩, c3, h⟩ := gz_bd h
  refine cc_X0_240 (pc := 2) hX (fun h => cz_k h rfl) c3 ⟨Nat.le_of_ble_eq_true rfl, Nat.le_of_ble_eq_true rfl⟩ (rest := []) rfl (Nat.le_of_ble_eq_true rfl) dX0_isHere_2 ?_
  refine gz_if_eq (pc := 5) (tgt := 30) hX dX0_isHere_5 (by decide) (fun g4 => ?_) (fun g4 => ?_)
  · replace h := gz_it' g4 h
    refine gz_sub (lw := [(0, .ref (gz_ad G 1000))]) [0] rfl ?_
    exact wb_X0_isHere_30 hX h hk
  · replace h := gz_if' g4 h
    refine gz_aload_n (pc := 8) hX dX0_isHere_8 rfl 0 rfl ?_
    refine gz_iload_n (pc := 9) hX dX0_isHere_9 rfl 1 rfl ?_
    obtain ⟨⟨r5, m6⟩, c7, h⟩ := gz_bd h
    refine cc_X0_244 (pc := 10) hX (fun h => cz_k h rfl) c7 ⟨Nat.le_of_ble_eq_true rfl, Nat.le_of_ble_eq_true rfl⟩ (rest := []) rfl (Nat.le_of_ble_eq_true rfl) dX0_isHere_10 ?_
    obtain ⟨g8, h⟩ := gz_gu h
    refine cg_X0_248_8 (pc := 13) hX (c := r5) (v := .int (gI m6 r5 1)) (fun _ => g8) (fun _ => rfl) dX0_isHere_13 ?_
    refine gz_aload_n (pc := 16) hX dX0_isHere_16 rfl 0 rfl ?_
    refine cg_X0_74_0 (pc := 17) hX (c := 1000) (v := .ref (gz_ad G 1027)) (fun h => cz_k h rfl) (fun h => cz_f h (by decide) rfl (by decide) rfl) dX0_isHere_17 ?_
    refine cg_X0_214_5 (pc := 20) hX (c := 1027) (v := .int (gI m6 1027 2)) (fun h => cz_k h rfl) (fun _ => rfl) dX0_isHere_20 ?_
    refine gz_icmp_ne (pc := 23) (tgt := 30) hX dX0_isHere_23 (by decide) (fun g9 => ?_) (fun g9 => ?_)
    · replace h := gz_if' g9 h
      refine gz_sub (lw := [(0, .ref (gz_ad G 1000))]) [0] rfl ?_
      exact wb_X0_isHere_30 hX h hk
    · replace h := gz_it' g9 h
      refine gz_iconst (pc := 26) (v := (1 : Int32)) hX dX0_isHere_26 (by decide) ?_
      refine gz_goto (pc := 27) (tgt := 31) hX dX0_isHere_27 (by decide) ?_
      obtain rfl := Option.some.inj h
      exact hk _ _ dX0_isHere_31 (Or.inr rfl)
theorem ct_X0_isHere {G : gz_G} {l : Launch} {x1 : Int32}  {m m9 : gM} {r : Int32} (h : cf_X0_isHere x1 m = some (r, m9)) : gz_Met cS G l yX0_isHere cX0_isHere 2 (some .boolean) (mRm 4 85) [.ref (gz_ad G 1000), .int x1] m m9 (some (.int r)) :=
  gz_ofZ (by decide +kernel) (Nat.le_of_ble_eq_true rfl) fun X _ hX hk => wm_X0_isHere hX h hk
theorem cc_X0_412 {X : gz_X} {G : gz_G} {cc : ByteArray} {nL fr lo pc : Nat} {rem : Nat × Nat} {lv : List (Nat × Value)} {rest st0 : List Value} (hX : gz_C cS X G cc nL RX0 fr lo) {x1 : Int32} {m m9 : gM} (hK : clc m.1 m.2.1 m.2.2.2.2.1 → m.1 1000 = 0 + 1)  {r : Int32} (h : cf_X0_comesOn x1 m = some (r, m9)) (hroom : 2 + 1 ≤ fr ∧ 8 + (6 + 11) + 40 ≤ lo) (hst : st0 = [.int x1, .ref (gz_ad G 1000)] ++ rest) (hW : (rest.map fun v => v.category).sum ≤ 8) (hd : decode cc pc = .ok (.invokevirtual 412, 3)) (kk : gz_V cS X G nL rem m9 (pc + 3) lv (.int r :: rest)) : gz_V cS X G nL rem m pc lv st0 :=
  gz_callV2 hX cs_E (As := [.int x1]) (rest := rest) (q := (RX0, TX0, 28)) (ci := 0) (c := 1000) (ct_X0_comesOn (l := X.2.1) h) (lw_V q1757 q1759 qs67 q167 q1760) (n := 1) (by decide +kernel) hroom rfl rfl (by decide) hK hst hW hd (rem := rem) kk
/-! FirstSnuffer.on()Z -/
noncomputable def cf_X0_on  (m : gM) : Option (Int32 × gM) :=
  ((cf_X0_tapeTaken m).bind fun (r1, m2) => ((cf_X0_comesOn r1 m2).bind fun (r4, m5) => (if r4 = (0 : Int32) then ((cf_X0_refuses (5 : Int32) m5).bind fun (r13, m14) => (if r13 < (0 : Int32) then some ((0 : Int32), m14) else some ((1 : Int32), m14))) else ((cf_X5_copy 1027 1073 m5).bind fun (r8, m9) => (if cSt r8 = true then gz_let (gz_sI m9 1000 23 (0 : Int32)) fun m12 => some ((1 : Int32), m12) else none)))))
theorem wm_X0_on {X : gz_X} {G : gz_G} (hX : gz_C cS X G cX0_on 1 RX0 3 65)   {m : gM} {z : (Int32 × gM)} (h : cf_X0_on  m = some z) (hk : (fun z : (Int32 × gM) => gz_kZ cS X G 1 (0, 0) cX0_on z.2 z.1) z) : gz_V cS X G 1 (0, 0) m 0 [(0, .ref (gz_ad G 1000))] [] := by
  unfold cf_X0_on at h
  refine gz_aload_n (pc := 0) hX dX0_on_0 rfl 0 rfl ?_
  refine gz_aload_n (pc := 1) hX dX0_on_1 rfl 0 rfl ?_
  obtain ⟨⟨r1, m2⟩, c3, h⟩ := gz_bd h
  refine cc_X0_136 (pc := 2) hX (fun h => cz_k h rfl) c3 ⟨Nat.le_of_ble_eq_true rfl, Nat.le_of_ble_eq_true rfl⟩ (rest := [.ref (gz_ad G 1000)]) rfl (Nat.le_of_ble_eq_true rfl) dX0_on_2 ?_
  obtain ⟨⟨r4, m5⟩, c6, h⟩ := gz_bd h
  refine cc_X0_412 (pc := 5) hX (fun h => cz_k h rfl) c6 ⟨Nat.le_of_ble_eq_true rfl, Nat.le_of_ble_eq_true rfl⟩ (rest := []) rfl (Nat.le_of_ble_eq_true rfl) dX0_on_5 ?_
  refine gz_if_ne (pc := 8) (tgt := 25) hX dX0_on_8 (by decide) (fun g7 => ?_) (fun g7 => ?_)
  · replace h := gz_if' g7 h
    refine gz_aload_n (pc := 25) hX dX0_on_25 rfl 0 rfl ?_
    refine cg_X0_74_0 (pc := 26) hX (c := 1000) (v := .ref (gz_ad G 1027)) (fun h => cz_k h rfl) (fun h => cz_f h (by decide) rfl (by decide) rfl) dX0_on_26 ?_
    refine gz_aload_n (pc := 29) hX dX0_on_29 rfl 0 rfl ?_
    refine cg_X0_78_0 (pc := 30) hX (c := 1000) (v := .ref (gz_ad G 1073)) (fun h => cz_k h rfl) (fun h => cz_f h (by decide) rfl (by decide) rfl) dX0_on_30 ?_
    obtain ⟨⟨r8, m9⟩, c10, h⟩ := gz_bd h
    obtain ⟨g11, h⟩ := gz_gu h
    refine cc_X0_294 (pc := 33) hX (fun h => cz_k h rfl) (by decide) (by decide) c10 ⟨Nat.le_of_ble_eq_true rfl, Nat.le_of_ble_eq_true rfl⟩ (rest := []) rfl (Nat.le_of_ble_eq_true rfl) dX0_on_33 ?_
    refine gz_pop (pc := 36) hX dX0_on_36 rfl ?_
    refine gz_aload_n (pc := 37) hX dX0_on_37 rfl 0 rfl ?_
    refine gz_iconst (pc := 38) (v := (0 : Int32)) hX dX0_on_38 (by decide) ?_
    obtain ⟨m12, em12, h⟩ := gz_lt h
    refine cp_X0_155_0 (pc := 39) hX (c := 1000) (fun h => cz_k h rfl) (Nat.le_of_ble_eq_true rfl) dX0_on_39 em12 ?_
    refine gz_iconst (pc := 42) (v := (1 : Int32)) hX dX0_on_42 (by decide) ?_
    obtain rfl := Option.some.inj h
    exact hk _ _ dX0_on_43 (Or.inr rfl)
  · replace h := gz_it' g7 h
    refine gz_aload_n (pc := 11) hX dX0_on_11 rfl 0 rfl ?_
    refine gz_iconst (pc := 12) (v := (5 : Int32)) hX dX0_on_12 (by decide) ?_
    obtain ⟨⟨r13, m14⟩, c15, h⟩ := gz_bd h
    refine cc_X0_125 (pc := 13) hX (fun h => cz_k h rfl) c15 ⟨Nat.le_of_ble_eq_true rfl, Nat.le_of_ble_eq_true rfl⟩ (rest := []) rfl (Nat.le_of_ble_eq_true rfl) dX0_on_13 ?_
    refine gz_if_lt (pc := 16) (tgt := 23) hX dX0_on_16 (by decide) (fun g16 => ?_) (fun g16 => ?_)
    · replace h := gz_it' g16 h
      refine gz_iconst (pc := 23) (v := (0 : Int32)) hX dX0_on_23 (by decide) ?_
      obtain rfl := Option.some.inj h
      exact hk _ _ dX0_on_24 (Or.inl rfl)
    · replace h := gz_if' g16 h
      refine gz_iconst (pc := 19) (v := (1 : Int32)) hX dX0_on_19 (by decide) ?_
      refine gz_goto (pc := 20) (tgt := 24) hX dX0_on_20 (by decide) ?_
      obtain rfl := Option.some.inj h
      exact hk _ _ dX0_on_24 (Or.inr rfl)
theorem ct_X0_on {G : gz_G} {l : Launch}   {m m9 : gM} {r : Int32} (h : cf_X0_on  m = some (r, m9)) : gz_Met cS G l yX0_on cX0_on 1 (some .boolean) (mRm 3 65) [.ref (gz_ad G 1000)] m m9 (some (.int r)) :=
  gz_ofZ (by decide +kernel) (Nat.le_of_ble_eq_true rfl) fun X _ hX hk => wm_X0_on hX h hk
theorem cc_X12_1 {X : gz_X} {G : gz_G} {cc : ByteArray} {nL fr lo pc : Nat} {rem : Nat × Nat} {lv : List (Nat × Value)} {rest st0 : List Value} (hX : gz_C cS X G cc nL RX12 fr lo) {c0 : Nat} {m m9 : gM}  (h : cf_X11_init c0 m = some ((), m9)) (hroom : 1 + 1 ≤ fr ∧ 8 + (1 + 11) + 20 ≤ lo) (hst : st0 = [.ref (gz_ad G c0)] ++ rest) (hW : (rest.map fun v => v.category).sum ≤ 8) (hd : decode cc pc = .ok (.invokespecial 1, 3)) (kk : gz_V cS X G nL rem m9 (pc + 3) lv (rest)) : gz_V cS X G nL rem m pc lv st0 :=
  gz_callIN hX cs_E (As := []) (rest := rest) (c := c0) (ct_X11_init (l := X.2.1) h) q1041 (cz_n (Z := cS) hX q1039 rfl) q193 q1040 rfl (n := 0) (by decide +kernel) hroom rfl hst hW hd (rem := rem) kk
theorem cn_X12_7 {X : gz_X} {G : gz_G} {cc : ByteArray} {nL fr lo pc : Nat} {rem : Nat × Nat} {m m9 : gM} {lv : List (Nat × Value)} {st : List Value} (hX : gz_C cS X G cc nL RX12 fr lo) (hz : gZ m ≠ 0) (hd : decode cc pc = .ok (.new 7, 3)) (hm : m9 = gz_al m (20 + 1) 0 3) (kk : gz_V cS X G nL rem m9 (pc + 3) lv (.ref (gz_ad G (gZ m)) :: st)) : gz_V cS X G nL (rem.1 + 1, rem.2 + 3) m pc lv st :=
  gz_new hX (C := RJ2) (T := TJ2) (N := 3) (ci := 20) rfl (by decide) in_J2 tyJ2 tyJ2_ok (by decide +kernel) q1043 q223 q171 hz clc_al hd hm kk
theorem cc_X12_9 {X : gz_X} {G : gz_G} {cc : ByteArray} {nL fr lo pc : Nat} {rem : Nat × Nat} {lv : List (Nat × Value)} {rest st0 : List Value} (hX : gz_C cS X G cc nL RX12 fr lo) {c0 : Nat} {x1 : Int32} {m m9 : gM}  (h : cf_J2_init c0 x1 m = some ((), m9)) (hroom : 3 + 1 ≤ fr ∧ 8 + (2 + 11) + 60 ≤ lo) (hst : st0 = [.int x1, .ref (gz_ad G c0)] ++ rest) (hW : (rest.map fun v => v.category).sum ≤ 8) (hd : decode cc pc = .ok (.invokespecial 9, 3)) (kk : gz_V cS X G nL rem m9 (pc + 3) lv (rest)) : gz_V cS X G nL (rem.1 + (gZ m9 - gZ m), rem.2 + (gW m9 - gW m)) m pc lv st0 :=
  gz_callI hX cs_E (As := [.int x1]) (rest := rest) (c := c0) (ct_J2_init (l := X.2.1) h) q226 q171 q1044 q225 rfl (n := 1) (by decide +kernel) hroom rfl hst hW hd (rem := rem) kk
theorem cp_X12_12_10 {X : gz_X} {G : gz_G} {cc : ByteArray} {nL fr lo pc : Nat} {rem : Nat × Nat} {m m9 : gM} {lv : List (Nat × Value)} {st : List Value} (hX : gz_C cS X G cc nL RX12 fr lo) (hn0 : X.2.2.2.2.2.2.2.2.1.name = "<init>") {c : Nat} {r : Nat} (hK : clc m.1 m.2.1 m.2.2.2.2.1 → m.1 c = 10 + 1) (hw : 1000 ≤ c) (hs : sr c 0 = 0 ∧ r ≠ 0) (hd : decode cc pc = .ok (.putfield 12, 3)) (hm : m9 = gz_sP m c 0 r) (kk : gz_V cS X G nL rem m9 (pc + 3) lv st) : gz_V cS X G nL rem m pc lv (.ref (gz_ad G r) :: .ref (gz_ad G c) :: st) := by
  subst hm
  exact gz_putff hX (C := RX12) (T := TX12) (N := 2) (ci := 10) (k := 0) (μ' := gz_sP m c 0 r) (v := .ref (gz_ad G r)) rfl (by decide) in_X12 tyX12 tyX12_ok nmX12 (by decide) (hX.2.2.2.2.1 _ q1068) (fun _ h => h) rfl hn0 rfl rfl rfl rfl hd hK hw rfl rfl rfl (fun d tc j h => gz_sP_o d tc j h) (by intro j; rw [← gz_rfp hs.2]; exact gz_sP_v (fun j => ftC 10 j) rfl j) (clc_sP hs.1) kk
theorem cn_X12_18 {X : gz_X} {G : gz_G} {cc : ByteArray} {nL fr lo pc : Nat} {rem : Nat × Nat} {m m9 : gM} {lv : List (Nat × Value)} {st : List Value} (hX : gz_C cS X G cc nL RX12 fr lo) (hz : gZ m ≠ 0) (hd : decode cc pc = .ok (.new 18, 3)) (hm : m9 = gz_al m (22 + 1) 0 4) (kk : gz_V cS X G nL rem m9 (pc + 3) lv (.ref (gz_ad G (gZ m)) :: st)) : gz_V cS X G nL (rem.1 + 1, rem.2 + 4) m pc lv st :=
  gz_new hX (C := RJ15) (T := TJ15) (N := 4) (ci := 22) rfl (by decide) in_J15 tyJ15 tyJ15_ok (by decide +kernel) q1045 q1046 q196 hz clc_al hd hm kk
theorem cc_X12_20 {X : gz_X} {G : gz_G} {cc : ByteArray} {nL fr lo pc : Nat} {rem : Nat × Nat} {lv : List (Nat × Value)} {rest st0 : List Value} (hX : gz_C cS X G cc nL RX12 fr lo) {c0 : Nat} {m m9 : gM}  (h : cf_J15_init c0 m = some ((), m9)) (hroom : 2 + 1 ≤ fr ∧ 8 + (1 + 11) + 41 ≤ lo) (hst : st0 = [.ref (gz_ad G c0)] ++ rest) (hW : (rest.map fun v => v.category).sum ≤ 8) (hd : decode cc pc = .ok (.invokespecial 20, 3)) (kk : gz_V cS X G nL rem m9 (pc + 3) lv (rest)) : gz_V cS X G nL (rem.1 + (gZ m9 - gZ m), rem.2 + (gW m9 - gW m)) m pc lv st0 :=
  gz_callI hX cs_E (As := []) (rest := rest) (c := c0) (ct_J15_init (l := X.2.1) h) q1049 q196 q1047 q1048 rfl (n := 0) (by decide +kernel) hroom rfl hst hW hd (rem := rem) kk
theorem cp_X12_21_10 {X : gz_X} {G : gz_G} {cc : ByteArray} {nL fr lo pc : Nat} {rem : Nat × Nat} {m m9 : gM} {lv : List (Nat × Value)} {st : List Value} (hX : gz_C cS X G cc nL RX12 fr lo) (hn0 : X.2.2.2.2.2.2.2.2.1.name = "<init>") {c : Nat} {r : Nat} (hK : clc m.1 m.2.1 m.2.2.2.2.1 → m.1 c = 10 + 1) (hw : 1000 ≤ c) (hs : sr c 1 = 0 ∧ r ≠ 0) (hd : decode cc pc = .ok (.putfield 21, 3)) (hm : m9 = gz_sP m c 1 r) (kk : gz_V cS X G nL rem m9 (pc + 3) lv st) : gz_V cS X G nL rem m pc lv (.ref (gz_ad G r) :: .ref (gz_ad G c) :: st) := by
  subst hm
  exact gz_putff hX (C := RX12) (T := TX12) (N := 2) (ci := 10) (k := 1) (μ' := gz_sP m c 1 r) (v := .ref (gz_ad G r)) rfl (by decide) in_X12 tyX12 tyX12_ok nmX12 (by decide) (hX.2.2.2.2.1 _ q1069) (fun _ h => h) rfl hn0 rfl rfl rfl rfl hd hK hw rfl rfl rfl (fun d tc j h => gz_sP_o d tc j h) (by intro j; rw [← gz_rfp hs.2]; exact gz_sP_v (fun j => ftC 10 j) rfl j) (clc_sP hs.1) kk
/-! FirstSnuffer$Chain.<init>()V -/
noncomputable def cf_X12_init (c0 : Nat) (m : gM) : Option (Unit × gM) :=
  ((cf_X11_init c0 m).bind fun (_, m2) => (if m2.2.2.2.2.2 = m.2.2.2.2.2 then (if gZ m2 ≠ 0 then gz_let (gz_al m2 (20 + 1) 0 3) fun m6 => ((cf_J2_init (gZ m2) (2 : Int32) m6).bind fun (_, m8) => (if gZ m6 ≤ gZ m8 ∧ gW m6 ≤ gW m8 then (if gK m8 c0 = 11 then (if 1000 ≤ c0 then (if sr c0 0 = 0 ∧ (gZ m2) ≠ 0 then gz_let (gz_sP m8 c0 0 (gZ m2)) fun m14 => (if gZ m14 ≠ 0 then gz_let (gz_al m14 (22 + 1) 0 4) fun m16 => ((cf_J15_init (gZ m14) m16).bind fun (_, m18) => (if gZ m16 ≤ gZ m18 ∧ gW m16 ≤ gW m18 then (if gK m18 c0 = 11 then (if 1000 ≤ c0 then (if sr c0 1 = 0 ∧ (gZ m14) ≠ 0 then gz_let (gz_sP m18 c0 1 (gZ m14)) fun m24 => some ((), m24) else none) else none) else none) else none)) else none) else none) else none) else none) else none)) else none) else none))
theorem wm_X12_init {X : gz_X} {G : gz_G} {zE : Nat × Nat} (hX : gz_C cS X G cX12_init 1 RX12 4 81) (hn0 : X.2.2.2.2.2.2.2.2.1.name = "<init>") {c0 : Nat}  {m : gM} {z : (Unit × gM)} (h : cf_X12_init c0 m = some z) (hk : (fun z : (Unit × gM) => gz_kVa cS X G 1 zE cX12_init z.2) z) : gz_Va cS X G 1 zE m 0 [(0, .ref (gz_ad G c0))] [] := by
  unfold cf_X12_init at h
  refine gz_Vs (fun _ kk => gz_aload_n (pc := 0) hX dX12_init_0 rfl 0 rfl kk) rfl ?_
  obtain ⟨⟨⟨⟩, m2⟩, c3, h⟩ := gz_bd h
  obtain ⟨g4, h⟩ := gz_gu h
  refine gz_Vs (fun _ kk => cc_X12_1 (pc := 1) hX c3 ⟨Nat.le_of_ble_eq_true rfl, Nat.le_of_ble_eq_true rfl⟩ (rest := []) rfl (Nat.le_of_ble_eq_true rfl) dX12_init_1 kk) g4 ?_
  refine gz_Vs (fun _ kk => gz_aload_n (pc := 4) hX dX12_init_4 rfl 0 rfl kk) rfl ?_
  obtain ⟨g5, h⟩ := gz_gu h
  obtain ⟨m6, em6, h⟩ := gz_lt h
  refine gz_Vn (fun _ kk => cn_X12_7 (pc := 5) hX g5 dX12_init_5 em6 kk) em6 ?_
  refine gz_Vs (fun _ kk => gz_dup (pc := 8) hX dX12_init_8 rfl kk) rfl ?_
  refine gz_Vs (fun _ kk => gz_iconst (pc := 9) (v := (2 : Int32)) hX dX12_init_9 (by decide) kk) rfl ?_
  obtain ⟨⟨⟨⟩, m8⟩, c9, h⟩ := gz_bd h
  obtain ⟨g10, h⟩ := gz_gu h
  refine gz_Vc (k := gZ m8 - gZ m6) (n := gW m8 - gW m6) (fun _ kk => cc_X12_9 (pc := 10) hX c9 ⟨Nat.le_of_ble_eq_true rfl, Nat.le_of_ble_eq_true rfl⟩ (rest := [.ref (gz_ad G (gZ m2)), .ref (gz_ad G c0)]) rfl (Nat.le_of_ble_eq_true rfl) dX12_init_10 kk) ⟨by have := g10.1; dsimp only [gZ] at *; omega, by have := g10.2; dsimp only [gW] at *; omega⟩ ?_
  obtain ⟨g11, h⟩ := gz_gu h
  obtain ⟨g12, h⟩ := gz_gu h
  obtain ⟨g13, h⟩ := gz_gu h
  obtain ⟨m14, em14, h⟩ := gz_lt h
  refine gz_Vs (fun _ kk => cp_X12_12_10 (pc := 13) hX hn0 (c := c0) (fun _ => g11) g12 g13 dX12_init_13 em14 kk) (by rw [em14]; rfl) ?_
  refine gz_Vs (fun _ kk => gz_aload_n (pc := 16) hX dX12_init_16 rfl 0 rfl kk) rfl ?_
  obtain ⟨g15, h⟩ := gz_gu h
  obtain ⟨m16, em16, h⟩ := gz_lt h
  refine gz_Vn (fun _ kk => cn_X12_18 (pc := 17) hX g15 dX12_init_17 em16 kk) em16 ?_
  refine gz_Vs (fun _ kk => gz_dup (pc := 20) hX dX12_init_20 rfl kk) rfl ?_
  obtain ⟨⟨⟨⟩, m18⟩, c19, h⟩ := gz_bd h
  obtain ⟨g20, h⟩ := gz_gu h
  refine gz_Vc (k := gZ m18 - gZ m16) (n := gW m18 - gW m16) (fun _ kk => cc_X12_20 (pc := 21) hX c19 ⟨Nat.le_of_ble_eq_true rfl, Nat.le_of_ble_eq_true rfl⟩ (rest := [.ref (gz_ad G (gZ m14)), .ref (gz_ad G c0)]) rfl (Nat.le_of_ble_eq_true rfl) dX12_init_21 kk) ⟨by have := g20.1; dsimp only [gZ] at *; omega, by have := g20.2; dsimp only [gW] at *; omega⟩ ?_
  obtain ⟨g21, h⟩ := gz_gu h
  obtain ⟨g22, h⟩ := gz_gu h
  obtain ⟨g23, h⟩ := gz_gu h
  obtain ⟨m24, em24, h⟩ := gz_lt h
  refine gz_Vs (fun _ kk => cp_X12_21_10 (pc := 24) hX hn0 (c := c0) (fun _ => g21) g22 g23 dX12_init_24 em24 kk) (by rw [em24]; rfl) ?_
  obtain rfl := Option.some.inj h
  exact hk _ _ dX12_init_27
theorem ct_X12_init {G : gz_G} {l : Launch} {c0 : Nat}  {m m9 : gM} (h : cf_X12_init c0 m = some ((), m9)) : gz_Met cS G l yX12_init cX12_init 1 none (mRc 4 81 (gZ m9 - gZ m) (gW m9 - gW m)) [.ref (gz_ad G c0)] m m9 none :=
  gz_ofVc (by decide +kernel) (Nat.le_of_ble_eq_true rfl) fun X _ hn hX hk => (wm_X12_init (zE := m9.2.2.2.2.2) hX hn h (fun pc lv hd => gz_Ve (hk pc lv hd))).2
theorem cg_X12_12_10 {X : gz_X} {G : gz_G} {cc : ByteArray} {nL fr lo pc : Nat} {rem : Nat × Nat} {m : gM} {lv : List (Nat × Value)} {st : List Value} (hX : gz_C cS X G cc nL RX12 fr lo) {c : Nat} {v : Value} (hK : clc m.1 m.2.1 m.2.2.2.2.1 → m.1 c = 10 + 1) (hv : clc m.1 m.2.1 m.2.2.2.2.1 → gz_u (gz_ad G) m (ftC 10 0) c 0 = v) (hd : decode cc pc = .ok (.getfield 12, 3)) (kk : gz_V cS X G nL rem m (pc + 3) lv (v :: st)) : gz_V cS X G nL rem m pc lv (.ref (gz_ad G c) :: st) :=
  gz_getf hX (C := RX12) (T := TX12) (N := 2) (ci := 10) (k := 0) rfl (by decide) in_X12 (by decide) (Or.inl (hX.2.2.2.2.1 _ q1068)) hd hK hv kk
theorem cc_X12_35 {X : gz_X} {G : gz_G} {cc : ByteArray} {nL fr lo pc : Nat} {rem : Nat × Nat} {lv : List (Nat × Value)} {rest st0 : List Value} (hX : gz_C cS X G cc nL RX12 fr lo) {c0 : Nat} {x1 : Int32} {m m9 : gM} (hK : clc m.1 m.2.1 m.2.2.2.2.1 → m.1 c0 = 20 + 1)  {r : Nat} (h : cf_J2_get c0 x1 m = some (r, m9)) (hroom : 2 + 1 ≤ fr ∧ 8 + (2 + 11) + 43 ≤ lo) (hst : st0 = [.int x1, .ref (gz_ad G c0)] ++ rest) (hW : (rest.map fun v => v.category).sum ≤ 8) (hd : decode cc pc = .ok (.invokeinterface 35 2, 5)) (kk : gz_V cS X G nL rem m9 (pc + 5) lv (.ref (gz_ad G r) :: rest)) : gz_V cS X G nL rem m pc lv st0 :=
  gz_callF hX cs_E (x := cLg) (As := [.int x1]) (rest := rest) (q := (RJ2, TJ2, 3)) (ci := 20) (c := c0) (ct_J2_get (l := X.2.1) h) (va_cwF 1 hX.2.2.2.2.1 (lw_app (by intro w hw; simp only [List.mem_cons, List.not_mem_nil, or_false] at hw; rcases hw with e | e | e | e <;> rw [e] <;> first | exact q1428 | exact q477 | exact q479 | exact q171) (lw_meth q481)) rfl rfl rfl hX.2.2.2.2.2.1.2.2.2.2.1 (by decide +kernel) ⟨Nat.le_trans hroom.1 hX.2.2.2.2.2.2.1, Nat.le_trans hroom.2 hX.2.2.2.2.2.2.2⟩) rfl rfl (by decide) hK hst hW hd (rem := rem) kk
theorem ck_X12_2 {X : gz_X} {G : gz_G} {cc : ByteArray} {nL fr lo pc : Nat} {rem : Nat × Nat} {m : gM} {lv : List (Nat × Value)} {st : List Value} (hX : gz_C cS X G cc nL RX12 fr lo) {c : Nat} (hK : m.1 c = 13 ∨ m.1 c = 14 ∨ m.1 c = 12 ∨ m.1 c = 11 ∨ m.1 c = 15) (hd : decode cc pc = .ok (.checkcast 2, 3)) (kk : gz_V cS X G nL rem m (pc + 3) lv (.ref (gz_ad G c) :: st)) : gz_V cS X G nL rem m pc lv (.ref (gz_ad G c) :: st) := by
  intro H locs ls cs hR hC hA hl
  rcases hK with z | z | z | z | z
  · obtain ⟨cell, q1, q2, q3⟩ := gz_recv (X := X) hX.2.2.2.2.2.1 hR (ci := 12) (c := c) (q := (RX14, TX14, 1)) rfl (by decide) z
    exact va_castY hX.1 hX.2.1 (C := RX14) hX.2.2.2.1 (hX.2.2.2.2.1 _ q1429) (cz_n (Z := cS) hX q2669 rfl) ⟨cell, q1, q2, q3⟩ hd (kk H locs ls cs hR hC hA hl)
  · obtain ⟨cell, q1, q2, q3⟩ := gz_recv (X := X) hX.2.2.2.2.2.1 hR (ci := 13) (c := c) (q := (RX15, TX15, 1)) rfl (by decide) z
    exact va_castY hX.1 hX.2.1 (C := RX15) hX.2.2.2.1 (hX.2.2.2.2.1 _ q1429) (cz_n (Z := cS) hX q2667 rfl) ⟨cell, q1, q2, q3⟩ hd (kk H locs ls cs hR hC hA hl)
  · obtain ⟨cell, q1, q2, q3⟩ := gz_recv (X := X) hX.2.2.2.2.2.1 hR (ci := 11) (c := c) (q := (RX13, TX13, 3)) rfl (by decide) z
    exact va_castY hX.1 hX.2.1 (C := RX13) hX.2.2.2.1 (hX.2.2.2.2.1 _ q1429) (cz_n (Z := cS) hX q2671 rfl) ⟨cell, q1, q2, q3⟩ hd (kk H locs ls cs hR hC hA hl)
  · obtain ⟨cell, q1, q2, q3⟩ := gz_recv (X := X) hX.2.2.2.2.2.1 hR (ci := 10) (c := c) (q := (RX12, TX12, 2)) rfl (by decide) z
    exact va_castY hX.1 hX.2.1 (C := RX12) hX.2.2.2.1 (hX.2.2.2.2.1 _ q1429) (cz_n (Z := cS) hX q2668 rfl) ⟨cell, q1, q2, q3⟩ hd (kk H locs ls cs hR hC hA hl)
  · obtain ⟨cell, q1, q2, q3⟩ := gz_recv (X := X) hX.2.2.2.2.2.1 hR (ci := 14) (c := c) (q := (RX16, TX16, 3)) rfl (by decide) z
    exact va_castY hX.1 hX.2.1 (C := RX16) hX.2.2.2.1 (hX.2.2.2.2.1 _ q1429) (cz_n (Z := cS) hX q2670 rfl) ⟨cell, q1, q2, q3⟩ hd (kk H locs ls cs hR hC hA hl)
theorem cd_X12_39 {X : gz_X} {G : gz_G} {cc : ByteArray} {nL fr lo pc f n : Nat} {lv : List (Nat × Value)} {rest st0 : List Value} (hX : gz_C cS X G cc nL RX12 fr lo) {oA : Nat → Nat → gM → Option (Int64 × gM)} {oT : Nat → Nat → gM → Option (Int32 × gM)} {v mo : Nat} {m m9 : gM} {r : Int64} (hO : cO G X.2.1 f n oA oT) (h : oA v mo m = some (r, m9)) (hroom : f + 1 ≤ fr ∧ n + 40 ≤ lo) (hst : st0 = [.ref (gz_ad G mo), .ref (gz_ad G v)] ++ rest) (hW : (rest.map fun v => v.category).sum ≤ 8) (hd : decode cc pc = .ok (.invokevirtual 39, 3)) (kk : gz_V cS X G nL (0, 0) m9 (pc + 3) lv (.long r :: rest)) : gz_V cS X G nL (0, 0) m pc lv st0 := by
  rcases hO.1 v mo m r m9 h with ⟨hk, hM⟩ | ⟨hk, hM⟩ | ⟨hk, hM⟩ | ⟨hk, hM⟩ | ⟨hk, hM⟩
  · exact gz_callU hX cs_E (x := ⟨"FirstSnuffer$Value", "at", "(LFirstSnuffer$Moment;)J"⟩) (owner := "FirstSnuffer$Value") (As := [.ref (gz_ad G mo)]) (rest := rest) (q := (RX14, TX14, 1)) (ci := 12) (c := v) hM (va_cwA 1 hX.2.2.2.2.1 (lw_app (by intro w hw; simp only [List.mem_cons, List.not_mem_nil, or_false] at hw; rcases hw with e | e | e | e | e <;> rw [e] <;> first | exact q1430 | exact q1409 | exact q1479 | exact q1431 | exact q198) (lw_meth q1432)) rfl rfl rfl (cz_n (Z := cS) hX q1408 rfl) (by decide +kernel) ⟨Nat.le_trans hroom.1 hX.2.2.2.2.2.2.1, by have := hX.2.2.2.2.2.2.2; have h1 := hroom.2; show 8 + (2 + 11) + n ≤ _; omega⟩) rfl rfl (by decide) (fun _ => hk) hst hW hd (rem := (0, 0)) kk
  · exact gz_callU hX cs_E (x := ⟨"FirstSnuffer$Value", "at", "(LFirstSnuffer$Moment;)J"⟩) (owner := "FirstSnuffer$Value") (As := [.ref (gz_ad G mo)]) (rest := rest) (q := (RX15, TX15, 1)) (ci := 13) (c := v) hM (va_cwA 1 hX.2.2.2.2.1 (lw_app (by intro w hw; simp only [List.mem_cons, List.not_mem_nil, or_false] at hw; rcases hw with e | e | e | e | e <;> rw [e] <;> first | exact q1430 | exact q1409 | exact q1410 | exact q1411 | exact q199) (lw_meth q1412)) rfl rfl rfl (cz_n (Z := cS) hX q1408 rfl) (by decide +kernel) ⟨Nat.le_trans hroom.1 hX.2.2.2.2.2.2.1, by have := hX.2.2.2.2.2.2.2; have h1 := hroom.2; show 8 + (2 + 11) + n ≤ _; omega⟩) rfl rfl (by decide) (fun _ => hk) hst hW hd (rem := (0, 0)) kk
  · exact gz_callU hX cs_E (x := ⟨"FirstSnuffer$Value", "at", "(LFirstSnuffer$Moment;)J"⟩) (owner := "FirstSnuffer$Value") (As := [.ref (gz_ad G mo)]) (rest := rest) (q := (RX13, TX13, 3)) (ci := 11) (c := v) hM (va_cwA 1 hX.2.2.2.2.1 (lw_app (by intro w hw; simp only [List.mem_cons, List.not_mem_nil, or_false] at hw; rcases hw with e | e | e | e | e <;> rw [e] <;> first | exact q1430 | exact q1409 | exact q1481 | exact q1436 | exact q197) (lw_meth q1437)) rfl rfl rfl (cz_n (Z := cS) hX q1408 rfl) (by decide +kernel) ⟨Nat.le_trans hroom.1 hX.2.2.2.2.2.2.1, by have := hX.2.2.2.2.2.2.2; have h1 := hroom.2; show 8 + (6 + 11) + n ≤ _; omega⟩) rfl rfl (by decide) (fun _ => hk) hst hW hd (rem := (0, 0)) kk
  · exact gz_callU hX cs_E (x := ⟨"FirstSnuffer$Value", "at", "(LFirstSnuffer$Moment;)J"⟩) (owner := "FirstSnuffer$Value") (As := [.ref (gz_ad G mo)]) (rest := rest) (q := (RX12, TX12, 2)) (ci := 10) (c := v) hM (va_cwA 1 hX.2.2.2.2.1 (lw_app (by intro w hw; simp only [List.mem_cons, List.not_mem_nil, or_false] at hw; rcases hw with e | e | e | e | e <;> rw [e] <;> first | exact q1430 | exact q1409 | exact q1424 | exact q1425 | exact q194) (lw_meth q1426)) rfl rfl rfl (cz_n (Z := cS) hX q1408 rfl) (by decide +kernel) ⟨Nat.le_trans hroom.1 hX.2.2.2.2.2.2.1, by have := hX.2.2.2.2.2.2.2; have h1 := hroom.2; show 8 + (5 + 11) + n ≤ _; omega⟩) rfl rfl (by decide) (fun _ => hk) hst hW hd (rem := (0, 0)) kk
  · exact gz_callU hX cs_E (x := ⟨"FirstSnuffer$Value", "at", "(LFirstSnuffer$Moment;)J"⟩) (owner := "FirstSnuffer$Value") (As := [.ref (gz_ad G mo)]) (rest := rest) (q := (RX16, TX16, 3)) (ci := 14) (c := v) hM (va_cwA 1 hX.2.2.2.2.1 (lw_app (by intro w hw; simp only [List.mem_cons, List.not_mem_nil, or_false] at hw; rcases hw with e | e | e | e | e <;> rw [e] <;> first | exact q1430 | exact q1409 | exact q1480 | exact q1433 | exact q200) (lw_meth q1434)) rfl rfl rfl (cz_n (Z := cS) hX q1408 rfl) (by decide +kernel) ⟨Nat.le_trans hroom.1 hX.2.2.2.2.2.2.1, by have := hX.2.2.2.2.2.2.2; have h1 := hroom.2; show 8 + (2 + 11) + n ≤ _; omega⟩) rfl rfl (by decide) (fun _ => hk) hst hW hd (rem := (0, 0)) kk
theorem cc_X12_43 {X : gz_X} {G : gz_G} {cc : ByteArray} {nL fr lo pc : Nat} {rem : Nat × Nat} {lv : List (Nat × Value)} {rest st0 : List Value} (hX : gz_C cS X G cc nL RX12 fr lo) {c0 : Nat} {m m9 : gM} (hK : clc m.1 m.2.1 m.2.2.2.2.1 → m.1 c0 = 20 + 1)  {r : Int32} (h : cf_J2_size c0 m = some (r, m9)) (hroom : 0 + 1 ≤ fr ∧ 8 + (1 + 11) + 0 ≤ lo) (hst : st0 = [.ref (gz_ad G c0)] ++ rest) (hW : (rest.map fun v => v.category).sum ≤ 8) (hd : decode cc pc = .ok (.invokeinterface 43 1, 5)) (kk : gz_V cS X G nL rem m9 (pc + 5) lv (.int r :: rest)) : gz_V cS X G nL rem m pc lv st0 :=
  gz_callF hX cs_E (x := cLs) (As := []) (rest := rest) (q := (RJ2, TJ2, 3)) (ci := 20) (c := c0) (ct_J2_size (l := X.2.1) h) (va_cwF 0 hX.2.2.2.2.1 (lw_app (by intro w hw; simp only [List.mem_cons, List.not_mem_nil, or_false] at hw; rcases hw with e | e | e | e <;> rw [e] <;> first | exact q1461 | exact q468 | exact q470 | exact q171) (lw_meth q472)) rfl rfl rfl hX.2.2.2.2.2.1.2.2.2.1 (by decide +kernel) ⟨Nat.le_trans hroom.1 hX.2.2.2.2.2.2.1, Nat.le_trans hroom.2 hX.2.2.2.2.2.2.2⟩) rfl rfl (by decide) hK hst hW hd (rem := rem) kk
theorem cg_X12_21_10 {X : gz_X} {G : gz_G} {cc : ByteArray} {nL fr lo pc : Nat} {rem : Nat × Nat} {m : gM} {lv : List (Nat × Value)} {st : List Value} (hX : gz_C cS X G cc nL RX12 fr lo) {c : Nat} {v : Value} (hK : clc m.1 m.2.1 m.2.2.2.2.1 → m.1 c = 10 + 1) (hv : clc m.1 m.2.1 m.2.2.2.2.1 → gz_u (gz_ad G) m (ftC 10 1) c 1 = v) (hd : decode cc pc = .ok (.getfield 21, 3)) (kk : gz_V cS X G nL rem m (pc + 3) lv (v :: st)) : gz_V cS X G nL rem m pc lv (.ref (gz_ad G c) :: st) :=
  gz_getf hX (C := RX12) (T := TX12) (N := 2) (ci := 10) (k := 1) rfl (by decide) in_X12 (by decide) (Or.inl (hX.2.2.2.2.1 _ q1069)) hd hK hv kk
theorem cc_X12_47 {X : gz_X} {G : gz_G} {cc : ByteArray} {nL fr lo pc : Nat} {rem : Nat × Nat} {lv : List (Nat × Value)} {rest st0 : List Value} (hX : gz_C cS X G cc nL RX12 fr lo) {c0 : Nat} {x1 : Int32} {m m9 : gM} (hK : clc m.1 m.2.1 m.2.2.2.2.1 → m.1 c0 = 22 + 1)  {r : Int32} (h : cf_J15_charAt c0 x1 m = some (r, m9)) (hroom : 3 + 1 ≤ fr ∧ 8 + (2 + 11) + 67 ≤ lo) (hst : st0 = [.int x1, .ref (gz_ad G c0)] ++ rest) (hW : (rest.map fun v => v.category).sum ≤ 8) (hd : decode cc pc = .ok (.invokevirtual 47, 3)) (kk : gz_V cS X G nL rem m9 (pc + 3) lv (.int r :: rest)) : gz_V cS X G nL rem m pc lv st0 :=
  gz_callV2 hX cs_E (As := [.int x1]) (rest := rest) (q := (RJ15, TJ15, 4)) (ci := 22) (c := c0) (ct_J15_charAt (l := X.2.1) h) (lw_V q1462 q1463 q1464 q196 q1465) (n := 1) (by decide +kernel) hroom rfl rfl (by decide) hK hst hW hd (rem := rem) kk
theorem cc_X12_51 {X : gz_X} {G : gz_G} {cc : ByteArray} {nL fr lo pc : Nat} {rem : Nat × Nat} {lv : List (Nat × Value)} {rest st0 : List Value} (hX : gz_C cS X G cc nL RX12 fr lo) {x0 : Int32} {x1 : Int64} {x3 : Int64} {m m9 : gM}  {r : Int64} (h : cf_X12_two x0 x1 x3 m = some (r, m9)) (hroom : 1 + 1 ≤ fr ∧ 8 + (5 + 11) + 25 ≤ lo) (hst : st0 = [.long x3, .long x1, .int x0] ++ rest) (hW : (rest.map fun v => v.category).sum ≤ 8) (hd : decode cc pc = .ok (.invokestatic 51, 3)) (kk : gz_V cS X G nL rem m9 (pc + 3) lv (.long r :: rest)) : gz_V cS X G nL rem m pc lv st0 :=
  gz_callS hX cs_E (As := [.int x0, .long x1, .long x3]) (rest := rest) (ct_X12_two (l := X.2.1) h) (lw_S q1472 q1473 q194 q1474) (n := 3) (by decide +kernel) hroom rfl hst hW hd (rem := rem) kk
theorem cc_X12_55 {X : gz_X} {G : gz_G} {cc : ByteArray} {nL fr lo pc : Nat} {rem : Nat × Nat} {lv : List (Nat × Value)} {rest st0 : List Value} (hX : gz_C cS X G cc nL RX12 fr lo) {x0 : Int64} {m m9 : gM}  {r : Int64} (h : cf_X0_held x0 m = some (r, m9)) (hroom : 1 + 1 ≤ fr ∧ 8 + (2 + 11) + 23 ≤ lo) (hst : st0 = [.long x0] ++ rest) (hW : (rest.map fun v => v.category).sum ≤ 8) (hd : decode cc pc = .ok (.invokestatic 55, 3)) (kk : gz_V cS X G nL rem m9 (pc + 3) lv (.long r :: rest)) : gz_V cS X G nL rem m pc lv st0 :=
  gz_callSN hX cs_E (As := [.long x0]) (rest := rest) (ct_X0_held (l := X.2.1) h) q1415 (cz_n (Z := cS) hX q1478 rfl) q167 q1414 (n := 1) (by decide +kernel) hroom rfl hst hW hd (rem := rem) kk
/-! FirstSnuffer$Chain.at(LFirstSnuffer$Moment;)J -/
def mP_X12_at_21 (X : gz_X) (G : gz_G) (c0 : Nat) (c1 : Nat) (q : (Int64 × Int32 × gM)) : Prop := gz_V cS X G 5 (0, 0) q.2.2 21 [(0, .ref (gz_ad G c0)), (1, .ref (gz_ad G c1)), (2, .long q.1), (4, .int q.2.1)] []
noncomputable def mb_X12_at_21 (oA : Nat → Nat → gM → Option (Int64 × gM)) (oT : Nat → Nat → gM → Option (Int32 × gM)) (c0 : Nat) (c1 : Nat) (x2 : Int64) (x4 : Int32) (m : gM) : Option ((Int64 × Int32 × gM) ⊕ (Int64 × gM)) :=
  (if gK m c0 = 11 then gz_let (gP m c0 0) fun r2 => (if r2 ≠ 0 then (if gK m r2 = 21 then ((cf_J2_size r2 m).bind fun (r5, m6) => (if r5 ≤ x4 then some (Sum.inr (x2, m6)) else (if gK m6 c0 = 11 then gz_let (gP m6 c0 1) fun r10 => (if r10 ≠ 0 then (if gK m6 r10 = 23 then ((cf_J15_charAt r10 x4 m6).bind fun (r13, m14) => (if gK m14 c0 = 11 then gz_let (gP m14 c0 0) fun r17 => (if r17 ≠ 0 then (if gK m14 r17 = 21 then ((cf_J2_get r17 x4 m14).bind fun (r20, m21) => (if gK m21 r20 = 13 ∨ gK m21 r20 = 14 ∨ gK m21 r20 = 12 ∨ gK m21 r20 = 11 ∨ gK m21 r20 = 15 then ((oA r20 c1 m21).bind fun (r24, m25) => ((cf_X12_two r13 x2 r24 m25).bind fun (r27, m28) => ((cf_X0_held r27 m28).bind fun (r30, m31) => gz_let (x4 + (1 : Int32)) fun y33 => some (Sum.inl (r30, y33, m31))))) else none)) else none) else none) else none)) else none) else none) else none))) else none) else none) else none)
theorem wb_X12_at_21 {X : gz_X} {G : gz_G} {oA : Nat → Nat → gM → Option (Int64 × gM)} {oT : Nat → Nat → gM → Option (Int32 × gM)} {f n : Nat} (hX : gz_C cS X G cX12_at 5 RX12 (f + 1) (n + 40)) (h1 : 20 ≤ f) (h2 : 300 ≤ n) (hO : cO G X.2.1 f n oA oT) {c0 : Nat} {c1 : Nat} {x2 : Int64} {x4 : Int32}  {m : gM} {z : ((Int64 × Int32 × gM) ⊕ (Int64 × gM))} (h : mb_X12_at_21 oA oT c0 c1 x2 x4 m = some z) (hk : (Sum.elim (mP_X12_at_21 X G c0 c1) (fun z : (Int64 × gM) => gz_kL cS X G 5 (0, 0) cX12_at z.2 z.1)) z) : gz_V cS X G 5 (0, 0) m 21 [(0, .ref (gz_ad G c0)), (1, .ref (gz_ad G c1)), (2, .long x2), (4, .int x4)] [] := by
  unfold mb_X12_at_21 at h
  refine gz_iload (pc := 21) hX dX12_at_21 3 rfl ?_
  refine gz_aload_n (pc := 23) hX dX12_at_23 rfl 0 rfl ?_
  obtain ⟨g1, h⟩ := gz_gu h
  obtain ⟨r2, er2, h⟩ := gz_lt h
  obtain ⟨g3, h⟩ := gz_gu h
  refine cg_X12_12_10 (pc := 24) hX (c := c0) (v := .ref (gz_ad G r2)) (fun _ => g1) (fun _ => gz_rq er2 g3) dX12_at_24 ?_
  obtain ⟨g4, h⟩ := gz_gu h
  obtain ⟨⟨r5, m6⟩, c7, h⟩ := gz_bd h
  refine cc_X12_43 (pc := 27) hX (fun _ => g4) c7 ⟨by omega, by omega⟩ (rest := [.int x4]) rfl (Nat.le_of_ble_eq_true rfl) dX12_at_27 ?_
  refine gz_icmp_ge (pc := 32) (tgt := 76) hX dX12_at_32 (by decide) (fun g8 => ?_) (fun g8 => ?_)
  · replace h := gz_it' g8 h
    refine gz_lload_n (pc := 76) hX dX12_at_76 rfl 2 rfl ?_
    obtain rfl := Option.some.inj h
    exact hk _ _ dX12_at_77
  · replace h := gz_if' g8 h
    refine gz_aload_n (pc := 35) hX dX12_at_35 rfl 0 rfl ?_
    obtain ⟨g9, h⟩ := gz_gu h
    obtain ⟨r10, er10, h⟩ := gz_lt h
    obtain ⟨g11, h⟩ := gz_gu h
    refine cg_X12_21_10 (pc := 36) hX (c := c0) (v := .ref (gz_ad G r10)) (fun _ => g9) (fun _ => gz_rq er10 g11) dX12_at_36 ?_
    refine gz_iload (pc := 39) hX dX12_at_39 3 rfl ?_
    obtain ⟨g12, h⟩ := gz_gu h
    obtain ⟨⟨r13, m14⟩, c15, h⟩ := gz_bd h
    refine cc_X12_47 (pc := 41) hX (fun _ => g12) c15 ⟨by omega, by omega⟩ (rest := []) rfl (Nat.le_of_ble_eq_true rfl) dX12_at_41 ?_
    refine gz_lload_n (pc := 44) hX dX12_at_44 rfl 2 rfl ?_
    refine gz_aload_n (pc := 45) hX dX12_at_45 rfl 0 rfl ?_
    obtain ⟨g16, h⟩ := gz_gu h
    obtain ⟨r17, er17, h⟩ := gz_lt h
    obtain ⟨g18, h⟩ := gz_gu h
    refine cg_X12_12_10 (pc := 46) hX (c := c0) (v := .ref (gz_ad G r17)) (fun _ => g16) (fun _ => gz_rq er17 g18) dX12_at_46 ?_
    refine gz_iload (pc := 49) hX dX12_at_49 3 rfl ?_
    obtain ⟨g19, h⟩ := gz_gu h
    obtain ⟨⟨r20, m21⟩, c22, h⟩ := gz_bd h
    refine cc_X12_35 (pc := 51) hX (fun _ => g19) c22 ⟨by omega, by omega⟩ (rest := [.long x2, .int r13]) rfl (Nat.le_of_ble_eq_true rfl) dX12_at_51 ?_
    obtain ⟨g23, h⟩ := gz_gu h
    refine ck_X12_2 (pc := 56) hX (c := r20) g23 dX12_at_56 ?_
    refine gz_aload_n (pc := 59) hX dX12_at_59 rfl 1 rfl ?_
    obtain ⟨⟨r24, m25⟩, c26, h⟩ := gz_bd h
    refine cd_X12_39 (pc := 60) hX hO c26 ⟨by omega, by omega⟩ (rest := [.long x2, .int r13]) rfl (Nat.le_of_ble_eq_true rfl) dX12_at_60 ?_
    obtain ⟨⟨r27, m28⟩, c29, h⟩ := gz_bd h
    refine cc_X12_51 (pc := 63) hX c29 ⟨by omega, by omega⟩ (rest := []) rfl (Nat.le_of_ble_eq_true rfl) dX12_at_63 ?_
    obtain ⟨⟨r30, m31⟩, c32, h⟩ := gz_bd h
    refine cc_X12_55 (pc := 66) hX c32 ⟨by omega, by omega⟩ (rest := []) rfl (Nat.le_of_ble_eq_true rfl) dX12_at_66 ?_
    refine gz_lstore_n (pc := 69) (lw := [(2, .long r30), (0, .ref (gz_ad G c0)), (1, .ref (gz_ad G c1)), (4, .int x4)]) hX dX12_at_69 rfl (by decide) rfl ?_
    obtain ⟨y33, ey33, h⟩ := gz_lt h
    refine gz_iinc (pc := 70) (v := y33) (lw := [(4, .int y33), (2, .long r30), (0, .ref (gz_ad G c0)), (1, .ref (gz_ad G c1))]) hX dX12_at_70 (k := 3) rfl (by rw [ey33]; rfl) (by decide) rfl ?_
    refine gz_goto (pc := 73) (tgt := 21) hX dX12_at_73 (by decide) ?_
    refine gz_sub (lw := [(0, .ref (gz_ad G c0)), (1, .ref (gz_ad G c1)), (2, .long r30), (4, .int y33)]) [2, 3, 1, 0] rfl ?_
    obtain rfl := Option.some.inj h
    exact hk
noncomputable def ml_X12_at_21 (oA : Nat → Nat → gM → Option (Int64 × gM)) (oT : Nat → Nat → gM → Option (Int32 × gM)) (c0 : Nat) (c1 : Nat) (x2 : Int64) (x4 : Int32) (m : gM) : Option (Int64 × gM) := gz_loop (fun q : (Int64 × Int32 × gM) => mb_X12_at_21 oA oT c0 c1 q.1 q.2.1 q.2.2) (x2, x4, m)
theorem wl_X12_at_21 {X : gz_X} {G : gz_G} {oA : Nat → Nat → gM → Option (Int64 × gM)} {oT : Nat → Nat → gM → Option (Int32 × gM)} {f n : Nat} (hX : gz_C cS X G cX12_at 5 RX12 (f + 1) (n + 40)) (h1 : 20 ≤ f) (h2 : 300 ≤ n) (hO : cO G X.2.1 f n oA oT) {c0 : Nat} {c1 : Nat} {x2 : Int64} {x4 : Int32}  {m : gM} {z : (Int64 × gM)} (h : ml_X12_at_21 oA oT c0 c1 x2 x4 m = some z) (hk : (fun z : (Int64 × gM) => gz_kL cS X G 5 (0, 0) cX12_at z.2 z.1) z) : gz_V cS X G 5 (0, 0) m 21 [(0, .ref (gz_ad G c0)), (1, .ref (gz_ad G c1)), (2, .long x2), (4, .int x4)] [] := by
  have hp : mP_X12_at_21 X G c0 c1 (x2, x4, m) := gz_loop_ind (fun q z hz hkz => wb_X12_at_21 hX h1 h2 hO  hz hkz) h hk
  exact hp
noncomputable def cf_X12_at (oA : Nat → Nat → gM → Option (Int64 × gM)) (oT : Nat → Nat → gM → Option (Int32 × gM)) (c0 : Nat) (c1 : Nat) (m : gM) : Option (Int64 × gM) :=
  (if gK m c0 = 11 then gz_let (gP m c0 0) fun r2 => (if r2 ≠ 0 then (if gK m r2 = 21 then ((cf_J2_get r2 (0 : Int32) m).bind fun (r5, m6) => (if gK m6 r5 = 13 ∨ gK m6 r5 = 14 ∨ gK m6 r5 = 12 ∨ gK m6 r5 = 11 ∨ gK m6 r5 = 15 then ((oA r5 c1 m6).bind fun (r9, m10) => (ml_X12_at_21 oA oT c0 c1 r9 (1 : Int32) m10)) else none)) else none) else none) else none)
theorem wm_X12_at {X : gz_X} {G : gz_G} {oA : Nat → Nat → gM → Option (Int64 × gM)} {oT : Nat → Nat → gM → Option (Int32 × gM)} {f n : Nat} (hX : gz_C cS X G cX12_at 5 RX12 (f + 1) (n + 40)) (h1 : 20 ≤ f) (h2 : 300 ≤ n) (hO : cO G X.2.1 f n oA oT) {c0 : Nat} {c1 : Nat}  {m : gM} {z : (Int64 × gM)} (h : cf_X12_at oA oT c0 c1 m = some z) (hk : (fun z : (Int64 × gM) => gz_kL cS X G 5 (0, 0) cX12_at z.2 z.1) z) : gz_V cS X G 5 (0, 0) m 0 [(0, .ref (gz_ad G c0)), (1, .ref (gz_ad G c1))] [] := by
  unfold cf_X12_at at h
  refine gz_aload_n (pc := 0) hX dX12_at_0 rfl 0 rfl ?_
  obtain ⟨g1, h⟩ := gz_gu h
  obtain ⟨r2, er2, h⟩ := gz_lt h
  obtain ⟨g3, h⟩ := gz_gu h
  refine cg_X12_12_10 (pc := 1) hX (c := c0) (v := .ref (gz_ad G r2)) (fun _ => g1) (fun _ => gz_rq er2 g3) dX12_at_1 ?_
  refine gz_iconst (pc := 4) (v := (0 : Int32)) hX dX12_at_4 (by decide) ?_
  obtain ⟨g4, h⟩ := gz_gu h
  obtain ⟨⟨r5, m6⟩, c7, h⟩ := gz_bd h
  refine cc_X12_35 (pc := 5) hX (fun _ => g4) c7 ⟨by omega, by omega⟩ (rest := []) rfl (Nat.le_of_ble_eq_true rfl) dX12_at_5 ?_
  obtain ⟨g8, h⟩ := gz_gu h
  refine ck_X12_2 (pc := 10) hX (c := r5) g8 dX12_at_10 ?_
  refine gz_aload_n (pc := 13) hX dX12_at_13 rfl 1 rfl ?_
  obtain ⟨⟨r9, m10⟩, c11, h⟩ := gz_bd h
  refine cd_X12_39 (pc := 14) hX hO c11 ⟨by omega, by omega⟩ (rest := []) rfl (Nat.le_of_ble_eq_true rfl) dX12_at_14 ?_
  refine gz_lstore_n (pc := 17) (lw := [(2, .long r9), (0, .ref (gz_ad G c0)), (1, .ref (gz_ad G c1))]) hX dX12_at_17 rfl (by decide) rfl ?_
  refine gz_iconst (pc := 18) (v := (1 : Int32)) hX dX12_at_18 (by decide) ?_
  refine gz_istore (pc := 19) (lw := [(4, .int (1 : Int32)), (2, .long r9), (0, .ref (gz_ad G c0)), (1, .ref (gz_ad G c1))]) hX dX12_at_19 (by decide) rfl ?_
  refine gz_sub (lw := [(0, .ref (gz_ad G c0)), (1, .ref (gz_ad G c1)), (2, .long r9), (4, .int (1 : Int32))]) [2, 3, 1, 0] rfl ?_
  exact wl_X12_at_21 hX h1 h2 hO h hk
theorem cc_J2_69 {X : gz_X} {G : gz_G} {cc : ByteArray} {nL fr lo pc : Nat} {rem : Nat × Nat} {lv : List (Nat × Value)} {rest st0 : List Value} (hX : gz_C cS X G cc nL RJ2 fr lo) {c0 : Nat} {x1 : Int32} {m m9 : gM} (hK : clc m.1 m.2.1 m.2.2.2.2.1 → m.1 c0 = 20 + 1)  {r : Nat} (h : cf_J2_grow_2 c0 x1 m = some (r, m9)) (hroom : 3 + 1 ≤ fr ∧ 8 + (4 + 11) + 104 ≤ lo) (hst : st0 = [.int x1, .ref (gz_ad G c0)] ++ rest) (hW : (rest.map fun v => v.category).sum ≤ 8) (hd : decode cc pc = .ok (.invokevirtual 69, 3)) (kk : gz_V cS X G nL rem m9 (pc + 3) lv (.ref (gz_ad G r) :: rest)) : gz_V cS X G nL (rem.1 + (gZ m9 - gZ m), rem.2 + (gW m9 - gW m)) m pc lv st0 :=
  gz_callV2 hX cs_E (As := [.int x1]) (rest := rest) (q := (RJ2, TJ2, 3)) (ci := 20) (c := c0) (ct_J2_grow_2 (l := X.2.1) h) (lw_V q860 q862 qs16 q171 q863) (n := 1) (by decide +kernel) hroom rfl rfl (by decide) hK hst hW hd (rem := rem) kk
/-! java/util/ArrayList.grow()[Ljava/lang/Object; -/
noncomputable def cf_J2_grow (c0 : Nat) (m : gM) : Option (Nat × gM) :=
  (if gK m c0 = 21 then (if gK m c0 = 21 then ((cf_J2_grow_2 c0 ((gI m c0 2) + (1 : Int32)) m).bind fun (r3, m4) => (if gZ m ≤ gZ m4 ∧ gW m ≤ gW m4 then some (r3, m4) else none)) else none) else none)
theorem wm_J2_grow {X : gz_X} {G : gz_G} {zE : Nat × Nat} (hX : gz_C cS X G cJ2_grow 1 RJ2 4 127) {c0 : Nat}  {m : gM} {z : (Nat × gM)} (h : cf_J2_grow c0 m = some z) (hk : (fun z : (Nat × gM) => gz_kRa cS X G 1 zE cJ2_grow z.2 z.1) z) : gz_Va cS X G 1 zE m 0 [(0, .ref (gz_ad G c0))] [] := by
  unfold cf_J2_grow at h
  refine gz_Vs (fun _ kk => gz_aload_n (pc := 0) hX dJ2_grow_0 rfl 0 rfl kk) rfl ?_
  refine gz_Vs (fun _ kk => gz_aload_n (pc := 1) hX dJ2_grow_1 rfl 0 rfl kk) rfl ?_
  obtain ⟨g1, h⟩ := gz_gu h
  refine gz_Vs (fun _ kk => cg_J2_48_20 (pc := 2) hX (c := c0) (v := .int (gI m c0 2)) (fun _ => g1) (fun _ => rfl) dJ2_grow_2 kk) rfl ?_
  refine gz_Vs (fun _ kk => gz_iconst (pc := 5) (v := (1 : Int32)) hX dJ2_grow_5 (by decide) kk) rfl ?_
  refine gz_Vs (fun _ kk => gz_iadd (pc := 6) hX dJ2_grow_6 kk) rfl ?_
  obtain ⟨g2, h⟩ := gz_gu h
  obtain ⟨⟨r3, m4⟩, c5, h⟩ := gz_bd h
  obtain ⟨g6, h⟩ := gz_gu h
  refine gz_Vc (k := gZ m4 - gZ m) (n := gW m4 - gW m) (fun _ kk => cc_J2_69 (pc := 7) hX (fun _ => g2) c5 ⟨Nat.le_of_ble_eq_true rfl, Nat.le_of_ble_eq_true rfl⟩ (rest := []) rfl (Nat.le_of_ble_eq_true rfl) dJ2_grow_7 kk) ⟨by have := g6.1; dsimp only [gZ] at *; omega, by have := g6.2; dsimp only [gW] at *; omega⟩ ?_
  obtain rfl := Option.some.inj h
  exact hk _ _ dJ2_grow_10
theorem ct_J2_grow {G : gz_G} {l : Launch} {c0 : Nat}  {m m9 : gM} {r : Nat} (h : cf_J2_grow c0 m = some (r, m9)) : gz_Met cS G l yJ2_grow cJ2_grow 1 (some (.array (.object "java/lang/Object"))) (mRc 4 127 (gZ m9 - gZ m) (gW m9 - gW m)) [.ref (gz_ad G c0)] m m9 (some (.ref (gz_ad G r))) :=
  gz_ofR (Or.inr ⟨_, rfl⟩) (by decide +kernel) (Nat.le_of_ble_eq_true rfl) fun X _ hX hk => (wm_J2_grow (zE := m9.2.2.2.2.2) hX h (fun pc lv hd => gz_Ve (hk pc lv hd))).2
theorem cc_J9_27 {X : gz_X} {G : gz_G} {cc : ByteArray} {nL fr lo pc : Nat} {rem : Nat × Nat} {lv : List (Nat × Value)} {rest st0 : List Value} (hX : gz_C cS X G cc nL RJ9 fr lo) {c0 : Nat} {c1 : Nat} {x2 : Int32} {x3 : Int32} {m m9 : gM}  (h : cf_J9_init_2 c0 c1 x2 x3 m = some ((), m9)) (hroom : 3 + 1 ≤ fr ∧ 8 + (6 + 11) + 66 ≤ lo) (hst : st0 = [.null, .int x3, .int x2, .ref (gz_ad G c1), .ref (gz_ad G c0)] ++ rest) (hW : (rest.map fun v => v.category).sum ≤ 8) (hd : decode cc pc = .ok (.invokespecial 27, 3)) (kk : gz_V cS X G nL rem m9 (pc + 3) lv (rest)) : gz_V cS X G nL (rem.1 + (gZ m9 - gZ m), rem.2 + (gW m9 - gW m)) m pc lv st0 :=
  gz_callI hX cs_E (As := [.ref (gz_ad G c1), .int x2, .int x3, .null]) (rest := rest) (c := c0) (ct_J9_init_2 (l := X.2.1) h) q659 q183 q657 q658 rfl (n := 4) (by decide +kernel) hroom rfl hst hW hd (rem := rem) kk
/-! java/lang/String.<init>([C)V -/
noncomputable def cf_J9_init (c0 : Nat) (c1 : Nat) (m : gM) : Option (Unit × gM) :=
  (if gK m c1 = 103 then ((cf_J9_init_2 c0 c1 (0 : Int32) (nI (gN m c1)) m).bind fun (_, m3) => (if gZ m ≤ gZ m3 ∧ gW m ≤ gW m3 then some ((), m3) else none)) else none)
theorem wm_J9_init {X : gz_X} {G : gz_G} {zE : Nat × Nat} (hX : gz_C cS X G cJ9_init 2 RJ9 4 91) (hn0 : X.2.2.2.2.2.2.2.2.1.name = "<init>") {c0 : Nat} {c1 : Nat}  {m : gM} {z : (Unit × gM)} (h : cf_J9_init c0 c1 m = some z) (hk : (fun z : (Unit × gM) => gz_kVa cS X G 2 zE cJ9_init z.2) z) : gz_Va cS X G 2 zE m 0 [(0, .ref (gz_ad G c0)), (1, .ref (gz_ad G c1))] [] := by
  unfold cf_J9_init at h
  refine gz_Vs (fun _ kk => gz_aload_n (pc := 0) hX dJ9_init_0 rfl 0 rfl kk) rfl ?_
  refine gz_Vs (fun _ kk => gz_aload_n (pc := 1) hX dJ9_init_1 rfl 1 rfl kk) rfl ?_
  refine gz_Vs (fun _ kk => gz_iconst (pc := 2) (v := (0 : Int32)) hX dJ9_init_2 (by decide) kk) rfl ?_
  refine gz_Vs (fun _ kk => gz_aload_n (pc := 3) hX dJ9_init_3 rfl 1 rfl kk) rfl ?_
  obtain ⟨g1, h⟩ := gz_gu h
  refine gz_Vs (fun _ kk => gz_alen2 (pc := 4) (c := c1) (t := 2) (n := gN m c1) hX rfl (fun _ => ⟨g1, rfl⟩) dJ9_init_4 kk) rfl ?_
  refine gz_Vs (fun _ kk => gz_null (pc := 5) hX dJ9_init_5 kk) rfl ?_
  obtain ⟨⟨⟨⟩, m3⟩, c4, h⟩ := gz_bd h
  obtain ⟨g5, h⟩ := gz_gu h
  refine gz_Vc (k := gZ m3 - gZ m) (n := gW m3 - gW m) (fun _ kk => cc_J9_27 (pc := 6) hX c4 ⟨Nat.le_of_ble_eq_true rfl, Nat.le_of_ble_eq_true rfl⟩ (rest := []) rfl (Nat.le_of_ble_eq_true rfl) dJ9_init_6 kk) ⟨by have := g5.1; dsimp only [gZ] at *; omega, by have := g5.2; dsimp only [gW] at *; omega⟩ ?_
  obtain rfl := Option.some.inj h
  exact hk _ _ dJ9_init_9
theorem ct_J9_init {G : gz_G} {l : Launch} {c0 : Nat} {c1 : Nat}  {m m9 : gM} (h : cf_J9_init c0 c1 m = some ((), m9)) : gz_Met cS G l yJ9_init cJ9_init 2 none (mRc 4 91 (gZ m9 - gZ m) (gW m9 - gW m)) [.ref (gz_ad G c0), .ref (gz_ad G c1)] m m9 none :=
  gz_ofVc (by decide +kernel) (Nat.le_of_ble_eq_true rfl) fun X _ hn hX hk => (wm_J9_init (zE := m9.2.2.2.2.2) hX hn h (fun pc lv hd => gz_Ve (hk pc lv hd))).2
theorem cc_J14_104 {X : gz_X} {G : gz_G} {cc : ByteArray} {nL fr lo pc : Nat} {rem : Nat × Nat} {lv : List (Nat × Value)} {rest st0 : List Value} (hX : gz_C cS X G cc nL RJ14 fr lo) {c0 : Nat} {x1 : Int32} {m m9 : gM} (hK : clc m.1 m.2.1 m.2.2.2.2.1 → m.1 c0 = 22 + 1)  {r : Int32} (h : cf_J14_newCapacity c0 x1 m = some (r, m9)) (hroom : 2 + 1 ≤ fr ∧ 8 + (6 + 11) + 45 ≤ lo) (hst : st0 = [.int x1, .ref (gz_ad G c0)] ++ rest) (hW : (rest.map fun v => v.category).sum ≤ 8) (hd : decode cc pc = .ok (.invokevirtual 104, 3)) (kk : gz_V cS X G nL rem m9 (pc + 3) lv (.int r :: rest)) : gz_V cS X G nL rem m pc lv st0 :=
  gz_callU hX cs_E (x := ⟨"java/lang/AbstractStringBuilder", "newCapacity", "(I)I"⟩) (owner := "java/lang/AbstractStringBuilder") (As := [.int x1]) (rest := rest) (q := (RJ15, TJ15, 4)) (ci := 22) (c := c0) (ct_J14_newCapacity (l := X.2.1) h) (gz_cwUP 1 hX.2.2.2.2.1 q1178 q195 q1175 q2659 q1177 q1046 (va_Nw.use rfl (cz_n (Z := cS) hX q1176 rfl)) rfl q1194 rfl (by decide +kernel) ⟨Nat.le_trans hroom.1 hX.2.2.2.2.2.2.1, Nat.le_trans hroom.2 hX.2.2.2.2.2.2.2⟩) rfl rfl (by decide) hK hst hW hd (rem := rem) kk
theorem cc_J14_108 {X : gz_X} {G : gz_G} {cc : ByteArray} {nL fr lo pc : Nat} {rem : Nat × Nat} {lv : List (Nat × Value)} {rest st0 : List Value} (hX : gz_C cS X G cc nL RJ14 fr lo) {c0 : Nat} {x1 : Int32} {m m9 : gM}  {r : Nat} (h : cf_J13_copyOf_3 c0 x1 m = some (r, m9)) (hroom : 1 + 1 ≤ fr ∧ 8 + (3 + 11) + 60 ≤ lo) (hst : st0 = [.int x1, .ref (gz_ad G c0)] ++ rest) (hW : (rest.map fun v => v.category).sum ≤ 8) (hd : decode cc pc = .ok (.invokestatic 108, 3)) (kk : gz_V cS X G nL rem m9 (pc + 3) lv (.ref (gz_ad G r) :: rest)) : gz_V cS X G nL (rem.1 + (gZ m9 - gZ m), rem.2 + (gW m9 - gW m)) m pc lv st0 :=
  gz_callS hX cs_E (As := [.ref (gz_ad G c0), .int x1]) (rest := rest) (ct_J13_copyOf_3 (l := X.2.1) h) (lw_S q1181 q1182 q188 q1183) (n := 2) (by decide +kernel) hroom rfl hst hW hd (rem := rem) kk
/-! java/lang/AbstractStringBuilder.ensureCapacityInternal(I)V -/
noncomputable def cf_J14_ensureCapacityInternal (c0 : Nat) (x1 : Int32) (m : gM) : Option (Unit × gM) :=
  (if gK m c0 = 23 then gz_let (gP m c0 0) fun r2 => (if r2 ≠ 0 then (if gK m r2 = 102 then (if gK m c0 = 23 then gz_let (((nI (gN m r2)) >>> ((gI m c0 1) &&& 31))) fun y6 => (if (x1 - y6) ≤ (0 : Int32) then some ((), m) else (if gK m c0 = 23 then gz_let (gP m c0 0) fun r9 => (if r9 ≠ 0 then (if gK m c0 = 23 then ((cf_J14_newCapacity c0 x1 m).bind fun (r12, m13) => (if m13.2.2.2.2.2 = m.2.2.2.2.2 then (if gK m13 c0 = 23 then ((cf_J13_copyOf_3 r9 (r12 <<< ((gI m13 c0 1) &&& 31)) m13).bind fun (r17, m18) => (if gZ m13 ≤ gZ m18 ∧ gW m13 ≤ gW m18 then (if gK m18 c0 = 23 then (if 1000 ≤ c0 then (if sr c0 0 = 0 ∧ r17 ≠ 0 then gz_let (gz_sP m18 c0 0 r17) fun m24 => some ((), m24) else none) else none) else none) else none)) else none) else none)) else none) else none) else none)) else none) else none) else none) else none)
theorem wm_J14_ensureCapacityInternal {X : gz_X} {G : gz_G} {zE : Nat × Nat} (hX : gz_C cS X G cJ14_ensureCapacityInternal 3 RJ14 3 82) {c0 : Nat} {x1 : Int32}  {m : gM} {z : (Unit × gM)} (h : cf_J14_ensureCapacityInternal c0 x1 m = some z) (hk : (fun z : (Unit × gM) => gz_kVa cS X G 3 zE cJ14_ensureCapacityInternal z.2) z) : gz_Va cS X G 3 zE m 0 [(0, .ref (gz_ad G c0)), (1, .int x1)] [] := by
  unfold cf_J14_ensureCapacityInternal at h
  refine gz_Vs (fun _ kk => gz_aload_n (pc := 0) hX dJ14_ensureCapacityInternal_0 rfl 0 rfl kk) rfl ?_
  obtain ⟨g1, h⟩ := gz_gu h
  obtain ⟨r2, er2, h⟩ := gz_lt h
  obtain ⟨g3, h⟩ := gz_gu h
  refine gz_Vs (fun _ kk => cg_J14_15_22 (pc := 1) hX (c := c0) (v := .ref (gz_ad G r2)) (fun _ => g1) (fun _ => gz_rq er2 g3) dJ14_ensureCapacityInternal_1 kk) rfl ?_
  obtain ⟨g4, h⟩ := gz_gu h
  refine gz_Vs (fun _ kk => gz_alen2 (pc := 4) (c := r2) (t := 1) (n := gN m r2) hX rfl (fun _ => ⟨g4, rfl⟩) dJ14_ensureCapacityInternal_4 kk) rfl ?_
  refine gz_Vs (fun _ kk => gz_aload_n (pc := 5) hX dJ14_ensureCapacityInternal_5 rfl 0 rfl kk) rfl ?_
  obtain ⟨g5, h⟩ := gz_gu h
  refine gz_Vs (fun _ kk => cg_J14_22_22 (pc := 6) hX (c := c0) (v := .int (gI m c0 1)) (fun _ => g5) (fun _ => rfl) dJ14_ensureCapacityInternal_6 kk) rfl ?_
  refine gz_Vs (fun _ kk => gz_ishr (pc := 9) hX dJ14_ensureCapacityInternal_9 kk) rfl ?_
  obtain ⟨y6, ey6, h⟩ := gz_lt h
  refine gz_Vs (fun _ kk => gz_topi ey6 kk) rfl ?_
  refine gz_Vs (fun _ kk => gz_istore_n (pc := 10) (lw := [(2, .int y6), (0, .ref (gz_ad G c0)), (1, .int x1)]) hX dJ14_ensureCapacityInternal_10 rfl (by decide) rfl kk) rfl ?_
  refine gz_Vs (fun _ kk => gz_iload_n (pc := 11) hX dJ14_ensureCapacityInternal_11 rfl 2 rfl kk) rfl ?_
  refine gz_Vs (fun _ kk => gz_iload_n (pc := 12) hX dJ14_ensureCapacityInternal_12 rfl 0 rfl kk) rfl ?_
  refine gz_Vs (fun _ kk => gz_isub (pc := 13) hX dJ14_ensureCapacityInternal_13 kk) rfl ?_
  refine gz_Vif (μ1 := m) (μ2 := m) (fun _ k1 k2 => gz_if_le (pc := 14) (tgt := 38) hX dJ14_ensureCapacityInternal_14 (by decide) k1 k2) (by first | exact Classical.em _ | exact (Classical.em _).symm) (fun g7 => ?_) (fun g7 => ?_)
  · replace h := gz_it' g7 h
    obtain rfl := Option.some.inj h
    exact hk _ _ dJ14_ensureCapacityInternal_38
  · replace h := gz_if' g7 h
    refine gz_Vs (fun _ kk => gz_aload_n (pc := 17) hX dJ14_ensureCapacityInternal_17 rfl 1 rfl kk) rfl ?_
    refine gz_Vs (fun _ kk => gz_aload_n (pc := 18) hX dJ14_ensureCapacityInternal_18 rfl 1 rfl kk) rfl ?_
    obtain ⟨g8, h⟩ := gz_gu h
    obtain ⟨r9, er9, h⟩ := gz_lt h
    obtain ⟨g10, h⟩ := gz_gu h
    refine gz_Vs (fun _ kk => cg_J14_15_22 (pc := 19) hX (c := c0) (v := .ref (gz_ad G r9)) (fun _ => g8) (fun _ => gz_rq er9 g10) dJ14_ensureCapacityInternal_19 kk) rfl ?_
    refine gz_Vs (fun _ kk => gz_aload_n (pc := 22) hX dJ14_ensureCapacityInternal_22 rfl 1 rfl kk) rfl ?_
    refine gz_Vs (fun _ kk => gz_iload_n (pc := 23) hX dJ14_ensureCapacityInternal_23 rfl 2 rfl kk) rfl ?_
    obtain ⟨g11, h⟩ := gz_gu h
    obtain ⟨⟨r12, m13⟩, c14, h⟩ := gz_bd h
    obtain ⟨g15, h⟩ := gz_gu h
    refine gz_Vs (fun _ kk => cc_J14_104 (pc := 24) hX (fun _ => g11) c14 ⟨Nat.le_of_ble_eq_true rfl, Nat.le_of_ble_eq_true rfl⟩ (rest := [.ref (gz_ad G r9), .ref (gz_ad G c0)]) rfl (Nat.le_of_ble_eq_true rfl) dJ14_ensureCapacityInternal_24 kk) g15 ?_
    refine gz_Vs (fun _ kk => gz_aload_n (pc := 27) hX dJ14_ensureCapacityInternal_27 rfl 1 rfl kk) rfl ?_
    obtain ⟨g16, h⟩ := gz_gu h
    refine gz_Vs (fun _ kk => cg_J14_22_22 (pc := 28) hX (c := c0) (v := .int (gI m13 c0 1)) (fun _ => g16) (fun _ => rfl) dJ14_ensureCapacityInternal_28 kk) rfl ?_
    refine gz_Vs (fun _ kk => gz_ishl (pc := 31) hX dJ14_ensureCapacityInternal_31 kk) rfl ?_
    obtain ⟨⟨r17, m18⟩, c19, h⟩ := gz_bd h
    obtain ⟨g20, h⟩ := gz_gu h
    refine gz_Vc (k := gZ m18 - gZ m13) (n := gW m18 - gW m13) (fun _ kk => cc_J14_108 (pc := 32) hX c19 ⟨Nat.le_of_ble_eq_true rfl, Nat.le_of_ble_eq_true rfl⟩ (rest := [.ref (gz_ad G c0)]) rfl (Nat.le_of_ble_eq_true rfl) dJ14_ensureCapacityInternal_32 kk) ⟨by have := g20.1; dsimp only [gZ] at *; omega, by have := g20.2; dsimp only [gW] at *; omega⟩ ?_
    obtain ⟨g21, h⟩ := gz_gu h
    obtain ⟨g22, h⟩ := gz_gu h
    obtain ⟨g23, h⟩ := gz_gu h
    obtain ⟨m24, em24, h⟩ := gz_lt h
    refine gz_Vs (fun _ kk => cp_J14_15_22 (pc := 35) hX (c := c0) (fun _ => g21) g22 g23 dJ14_ensureCapacityInternal_35 em24 kk) (by rw [em24]; rfl) ?_
    obtain rfl := Option.some.inj h
    exact hk _ _ dJ14_ensureCapacityInternal_38
theorem ct_J14_ensureCapacityInternal {G : gz_G} {l : Launch} {c0 : Nat} {x1 : Int32}  {m m9 : gM} (h : cf_J14_ensureCapacityInternal c0 x1 m = some ((), m9)) : gz_Met cS G l yJ14_ensureCapacityInternal cJ14_ensureCapacityInternal 3 none (mRc 3 82 (gZ m9 - gZ m) (gW m9 - gW m)) [.ref (gz_ad G c0), .int x1] m m9 none :=
  gz_ofV (by decide +kernel) (Nat.le_of_ble_eq_true rfl) fun X _ hX hk => (wm_J14_ensureCapacityInternal (zE := m9.2.2.2.2.2) hX h (fun pc lv hd => gz_Ve (hk pc lv hd))).2
theorem cg_X1_14_1 {X : gz_X} {G : gz_G} {cc : ByteArray} {nL fr lo pc : Nat} {rem : Nat × Nat} {m : gM} {lv : List (Nat × Value)} {st : List Value} (hX : gz_C cS X G cc nL RX1 fr lo) {c : Nat} {v : Value} (hK : clc m.1 m.2.1 m.2.2.2.2.1 → m.1 c = 1 + 1) (hv : clc m.1 m.2.1 m.2.2.2.2.1 → gz_u (gz_ad G) m (ftC 1 3) c 3 = v) (hd : decode cc pc = .ok (.getfield 14, 3)) (kk : gz_V cS X G nL rem m (pc + 3) lv (v :: st)) : gz_V cS X G nL rem m pc lv (.ref (gz_ad G c) :: st) :=
  gz_getf hX (C := RX1) (T := TX1) (N := 9) (ci := 1) (k := 3) rfl (by decide) in_X1 (by decide) (Or.inl (hX.2.2.2.2.1 _ q256)) hd hK hv kk
theorem cc_X1_29 {X : gz_X} {G : gz_G} {cc : ByteArray} {nL fr lo pc : Nat} {rem : Nat × Nat} {lv : List (Nat × Value)} {rest st0 : List Value} (hX : gz_C cS X G cc nL RX1 fr lo) {c0 : Nat} {c1 : Nat} {m m9 : gM}  {r : Int32} (h : cf_X7_find c0 c1 m = some (r, m9)) (hroom : 3 + 1 ≤ fr ∧ 8 + (3 + 11) + 64 ≤ lo) (hst : st0 = [.ref (gz_ad G c1), .ref (gz_ad G c0)] ++ rest) (hW : (rest.map fun v => v.category).sum ≤ 8) (hd : decode cc pc = .ok (.invokestatic 29, 3)) (kk : gz_V cS X G nL rem m9 (pc + 3) lv (.int r :: rest)) : gz_V cS X G nL rem m pc lv st0 :=
  gz_callS hX cs_E (As := [.ref (gz_ad G c0), .ref (gz_ad G c1)]) (rest := rest) (ct_X7_find (l := X.2.1) h) (lw_S q826 q827 q187 q828) (n := 2) (by decide +kernel) hroom rfl hst hW hd (rem := rem) kk
theorem cg_X1_23_1 {X : gz_X} {G : gz_G} {cc : ByteArray} {nL fr lo pc : Nat} {rem : Nat × Nat} {m : gM} {lv : List (Nat × Value)} {st : List Value} (hX : gz_C cS X G cc nL RX1 fr lo) {c : Nat} {v : Value} (hK : clc m.1 m.2.1 m.2.2.2.2.1 → m.1 c = 1 + 1) (hv : clc m.1 m.2.1 m.2.2.2.2.1 → gz_u (gz_ad G) m (ftC 1 5) c 5 = v) (hd : decode cc pc = .ok (.getfield 23, 3)) (kk : gz_V cS X G nL rem m (pc + 3) lv (v :: st)) : gz_V cS X G nL rem m pc lv (.ref (gz_ad G c) :: st) :=
  gz_getf hX (C := RX1) (T := TX1) (N := 9) (ci := 1) (k := 5) rfl (by decide) in_X1 (by decide) (Or.inl (hX.2.2.2.2.1 _ q262)) hd hK hv kk
/-! FirstSnuffer$Household.isNamed(Ljava/lang/String;)Z -/
noncomputable def mj_X1_isNamed_24 (c0 : Nat) (m : gM) : Option (Int32 × gM) :=
  some ((1 : Int32), m)
theorem wb_X1_isNamed_24 {X : gz_X} {G : gz_G} (hX : gz_C cS X G cX1_isNamed 2 RX1 4 86) {c0 : Nat}  {m : gM} {z : (Int32 × gM)} (h : mj_X1_isNamed_24 c0 m = some z) (hk : (fun z : (Int32 × gM) => gz_kZ cS X G 2 (0, 0) cX1_isNamed z.2 z.1) z) : gz_V cS X G 2 (0, 0) m 24 [(0, .ref (gz_ad G c0))] [] := by
  unfold mj_X1_isNamed_24 at h
  refine gz_iconst (pc := 24) (v := (1 : Int32)) hX dX1_isNamed_24 (by decide) ?_
  refine gz_goto (pc := 25) (tgt := 29) hX dX1_isNamed_25 (by decide) ?_
  obtain rfl := Option.some.inj h
  exact hk _ _ dX1_isNamed_29 (Or.inr rfl)
noncomputable def cf_X1_isNamed (c0 : Nat) (c1 : Nat) (m : gM) : Option (Int32 × gM) :=
  (if gK m c0 = 2 then gz_let (gP m c0 3) fun r2 => (if r2 ≠ 0 then ((cf_X7_find r2 c1 m).bind fun (r4, m5) => (if r4 = (-1 : Int32) then (if gK m5 c0 = 2 then gz_let (gP m5 c0 5) fun r9 => (if r9 ≠ 0 then ((cf_X7_find r9 c1 m5).bind fun (r11, m12) => (if r11 = (-1 : Int32) then some ((0 : Int32), m12) else (mj_X1_isNamed_24 c0 m12))) else none) else none) else (mj_X1_isNamed_24 c0 m5))) else none) else none)
theorem wm_X1_isNamed {X : gz_X} {G : gz_G} (hX : gz_C cS X G cX1_isNamed 2 RX1 4 86) {c0 : Nat} {c1 : Nat}  {m : gM} {z : (Int32 × gM)} (h : cf_X1_isNamed c0 c1 m = some z) (hk : (fun z : (Int32 × gM) => gz_kZ cS X G 2 (0, 0) cX1_isNamed z.2 z.1) z) : gz_V cS X G 2 (0, 0) m 0 [(0, .ref (gz_ad G c0)), (1, .ref (gz_ad G c1))] [] := by
  unfold cf_X1_isNamed at h
  refine gz_aload_n (pc := 0) hX dX1_isNamed_0 rfl 0 rfl ?_
  obtain ⟨g1, h⟩ := gz_gu h
  obtain ⟨r2, er2, h⟩ := gz_lt h
  obtain ⟨g3, h⟩ := gz_gu h
  refine cg_X1_14_1 (pc := 1) hX (c := c0) (v := .ref (gz_ad G r2)) (fun _ => g1) (fun _ => gz_rq er2 g3) dX1_isNamed_1 ?_
  refine gz_aload_n (pc := 4) hX dX1_isNamed_4 rfl 1 rfl ?_
  obtain ⟨⟨r4, m5⟩, c6, h⟩ := gz_bd h
  refine cc_X1_29 (pc := 5) hX c6 ⟨Nat.le_of_ble_eq_true rfl, Nat.le_of_ble_eq_true rfl⟩ (rest := []) rfl (Nat.le_of_ble_eq_true rfl) dX1_isNamed_5 ?_
  refine gz_iconst (pc := 8) (v := (-1 : Int32)) hX dX1_isNamed_8 (by decide) ?_
  refine gz_icmp_ne (pc := 9) (tgt := 24) hX dX1_isNamed_9 (by decide) (fun g7 => ?_) (fun g7 => ?_)
  · replace h := gz_if' g7 h
    refine gz_sub (lw := [(0, .ref (gz_ad G c0))]) [0] rfl ?_
    exact wb_X1_isNamed_24 hX h hk
  · replace h := gz_it' g7 h
    refine gz_aload_n (pc := 12) hX dX1_isNamed_12 rfl 0 rfl ?_
    obtain ⟨g8, h⟩ := gz_gu h
    obtain ⟨r9, er9, h⟩ := gz_lt h
    obtain ⟨g10, h⟩ := gz_gu h
    refine cg_X1_23_1 (pc := 13) hX (c := c0) (v := .ref (gz_ad G r9)) (fun _ => g8) (fun _ => gz_rq er9 g10) dX1_isNamed_13 ?_
    refine gz_aload_n (pc := 16) hX dX1_isNamed_16 rfl 1 rfl ?_
    obtain ⟨⟨r11, m12⟩, c13, h⟩ := gz_bd h
    refine cc_X1_29 (pc := 17) hX c13 ⟨Nat.le_of_ble_eq_true rfl, Nat.le_of_ble_eq_true rfl⟩ (rest := []) rfl (Nat.le_of_ble_eq_true rfl) dX1_isNamed_17 ?_
    refine gz_iconst (pc := 20) (v := (-1 : Int32)) hX dX1_isNamed_20 (by decide) ?_
    refine gz_icmp_eq (pc := 21) (tgt := 28) hX dX1_isNamed_21 (by decide) (fun g14 => ?_) (fun g14 => ?_)
    · replace h := gz_it' g14 h
      refine gz_iconst (pc := 28) (v := (0 : Int32)) hX dX1_isNamed_28 (by decide) ?_
      obtain rfl := Option.some.inj h
      exact hk _ _ dX1_isNamed_29 (Or.inl rfl)
    · replace h := gz_if' g14 h
      refine gz_sub (lw := [(0, .ref (gz_ad G c0))]) [0] rfl ?_
      exact wb_X1_isNamed_24 hX h hk
theorem ct_X1_isNamed {G : gz_G} {l : Launch} {c0 : Nat} {c1 : Nat}  {m m9 : gM} {r : Int32} (h : cf_X1_isNamed c0 c1 m = some (r, m9)) : gz_Met cS G l yX1_isNamed cX1_isNamed 2 (some .boolean) (mRm 4 86) [.ref (gz_ad G c0), .ref (gz_ad G c1)] m m9 (some (.int r)) :=
  gz_ofZ (by decide +kernel) (Nat.le_of_ble_eq_true rfl) fun X _ hX hk => wm_X1_isNamed hX h hk
theorem cg_X5_40_0 {X : gz_X} {G : gz_G} {cc : ByteArray} {nL fr lo pc : Nat} {rem : Nat × Nat} {m : gM} {lv : List (Nat × Value)} {st : List Value} (hX : gz_C cS X G cc nL RX5 fr lo) {c : Nat} {v : Value} (hK : clc m.1 m.2.1 m.2.2.2.2.1 → m.1 c = 0 + 1) (hv : clc m.1 m.2.1 m.2.2.2.2.1 → gz_u (gz_ad G) m (ftC 0 0) c 0 = v) (hd : decode cc pc = .ok (.getfield 40, 3)) (kk : gz_V cS X G nL rem m (pc + 3) lv (v :: st)) : gz_V cS X G nL rem m pc lv (.ref (gz_ad G c) :: st) :=
  gz_getf hX (C := RX0) (T := TX0) (N := 28) (ci := 0) (k := 0) rfl (by decide) in_X0 (by decide) (Or.inr ⟨_, va_Nw.use rfl (cz_n (Z := cS) hX q499 rfl)⟩) hd hK hv kk
theorem cg_X5_44_1 {X : gz_X} {G : gz_G} {cc : ByteArray} {nL fr lo pc : Nat} {rem : Nat × Nat} {m : gM} {lv : List (Nat × Value)} {st : List Value} (hX : gz_C cS X G cc nL RX5 fr lo) {c : Nat} {v : Value} (hK : clc m.1 m.2.1 m.2.2.2.2.1 → m.1 c = 1 + 1) (hv : clc m.1 m.2.1 m.2.2.2.2.1 → gz_u (gz_ad G) m (ftC 1 1) c 1 = v) (hd : decode cc pc = .ok (.getfield 44, 3)) (kk : gz_V cS X G nL rem m (pc + 3) lv (v :: st)) : gz_V cS X G nL rem m pc lv (.ref (gz_ad G c) :: st) :=
  gz_getf hX (C := RX1) (T := TX1) (N := 9) (ci := 1) (k := 1) rfl (by decide) in_X1 (by decide) (Or.inr ⟨_, va_Nw.use rfl (cz_n (Z := cS) hX q252 rfl)⟩) hd hK hv kk
theorem cc_X5_52 {X : gz_X} {G : gz_G} {cc : ByteArray} {nL fr lo pc : Nat} {rem : Nat × Nat} {lv : List (Nat × Value)} {rest st0 : List Value} (hX : gz_C cS X G cc nL RX5 fr lo)  {m m9 : gM} (hK : clc m.1 m.2.1 m.2.2.2.2.1 → m.1 1000 = 0 + 1)  {r : Int32} (h : cf_X0_ties  m = some (r, m9)) (hroom : 1 + 1 ≤ fr ∧ 8 + (1 + 11) + 20 ≤ lo) (hst : st0 = [.ref (gz_ad G 1000)] ++ rest) (hW : (rest.map fun v => v.category).sum ≤ 8) (hd : decode cc pc = .ok (.invokevirtual 52, 3)) (kk : gz_V cS X G nL rem m9 (pc + 3) lv (.int r :: rest)) : gz_V cS X G nL rem m pc lv st0 :=
  gz_callVN hX cs_E (As := []) (rest := rest) (q := (RX0, TX0, 28)) (ci := 0) (c := 1000) (ct_X0_ties (l := X.2.1) h) q1304 (cz_n (Z := cS) hX q1301 rfl) q167 q1303 qs37 (n := 0) (by decide +kernel) hroom rfl rfl (by decide) hK hst hW hd (rem := rem) kk
theorem cc_X5_62 {X : gz_X} {G : gz_G} {cc : ByteArray} {nL fr lo pc : Nat} {rem : Nat × Nat} {lv : List (Nat × Value)} {rest st0 : List Value} (hX : gz_C cS X G cc nL RX5 fr lo) {x1 : Int32} {m m9 : gM} (hK : clc m.1 m.2.1 m.2.2.2.2.1 → m.1 1000 = 0 + 1)  {r : Nat} (h : cf_X0_thingOf x1 m = some (r, m9)) (hroom : 3 + 1 ≤ fr ∧ 8 + (2 + 11) + 64 ≤ lo) (hst : st0 = [.int x1, .ref (gz_ad G 1000)] ++ rest) (hW : (rest.map fun v => v.category).sum ≤ 8) (hd : decode cc pc = .ok (.invokevirtual 62, 3)) (kk : gz_V cS X G nL rem m9 (pc + 3) lv (.ref (gz_ad G r) :: rest)) : gz_V cS X G nL rem m pc lv st0 :=
  gz_callVN hX cs_E (As := [.int x1]) (rest := rest) (q := (RX0, TX0, 28)) (ci := 0) (c := 1000) (ct_X0_thingOf (l := X.2.1) h) q1312 (cz_n (Z := cS) hX q1309 rfl) q167 q1311 qs39 (n := 1) (by decide +kernel) hroom rfl rfl (by decide) hK hst hW hd (rem := rem) kk
theorem cg_X5_66_8 {X : gz_X} {G : gz_G} {cc : ByteArray} {nL fr lo pc : Nat} {rem : Nat × Nat} {m : gM} {lv : List (Nat × Value)} {st : List Value} (hX : gz_C cS X G cc nL RX5 fr lo) {c : Nat} {v : Value} (hK : clc m.1 m.2.1 m.2.2.2.2.1 → m.1 c = 8 + 1) (hv : clc m.1 m.2.1 m.2.2.2.2.1 → gz_u (gz_ad G) m (ftC 8 2) c 2 = v) (hd : decode cc pc = .ok (.getfield 66, 3)) (kk : gz_V cS X G nL rem m (pc + 3) lv (v :: st)) : gz_V cS X G nL rem m pc lv (.ref (gz_ad G c) :: st) :=
  gz_getf hX (C := RX9) (T := TX9) (N := 4) (ci := 8) (k := 2) rfl (by decide) in_X9 (by decide) (Or.inr ⟨_, va_Nw.use rfl (cz_n (Z := cS) hX q980 rfl)⟩) hd hK hv kk
theorem cg_X5_70_8 {X : gz_X} {G : gz_G} {cc : ByteArray} {nL fr lo pc : Nat} {rem : Nat × Nat} {m : gM} {lv : List (Nat × Value)} {st : List Value} (hX : gz_C cS X G cc nL RX5 fr lo) {c : Nat} {v : Value} (hK : clc m.1 m.2.1 m.2.2.2.2.1 → m.1 c = 8 + 1) (hv : clc m.1 m.2.1 m.2.2.2.2.1 → gz_u (gz_ad G) m (ftC 8 3) c 3 = v) (hd : decode cc pc = .ok (.getfield 70, 3)) (kk : gz_V cS X G nL rem m (pc + 3) lv (v :: st)) : gz_V cS X G nL rem m pc lv (.ref (gz_ad G c) :: st) :=
  gz_getf hX (C := RX9) (T := TX9) (N := 4) (ci := 8) (k := 3) rfl (by decide) in_X9 (by decide) (Or.inr ⟨_, va_Nw.use rfl (cz_n (Z := cS) hX q982 rfl)⟩) hd hK hv kk
/-! FirstSnuffer$State.begins()V -/
def mP_X5_begins_41 (X : gz_X) (G : gz_G) (c0 : Nat) (q : (Int32 × gM)) : Prop := gz_V cS X G 2 (0, 0) q.2 41 [(0, .ref (gz_ad G c0)), (1, .int q.1)] []
noncomputable def mb_X5_begins_41 (c0 : Nat) (x1 : Int32) (m : gM) : Option ((Int32 × gM) ⊕ (Unit × gM)) :=
  ((cf_X0_things m).bind fun (r1, m2) => (if r1 ≤ x1 then some (Sum.inr ((), m2)) else ((cf_X0_thingOf x1 m2).bind fun (r5, m6) => (if gK m6 r5 = 9 then (if gz_in x1 (8) then gz_let (gz_sI m6 (c0 + 1) (gz_ix x1) (gI m6 r5 2)) fun m10 => (if gz_in x1 (8) then gz_let (gz_sI m10 (c0 + 3) (gz_ix x1) (0 : Int32)) fun m12 => ((cf_X0_thingOf x1 m12).bind fun (r13, m14) => (if gK m14 r13 = 9 then (if gz_in x1 (8) then gz_let (gz_sI m14 (c0 + 4) (gz_ix x1) (gI m14 r13 3)) fun m18 => gz_let (x1 + (1 : Int32)) fun y19 => some (Sum.inl (y19, m18)) else none) else none)) else none) else none) else none))))
theorem wb_X5_begins_41 {X : gz_X} {G : gz_G} (hX : gz_C cS X G cX5_begins 2 RX5 4 85) {c0 : Nat} {x1 : Int32} (hs_c0 : cSt c0 = true) {m : gM} {z : ((Int32 × gM) ⊕ (Unit × gM))} (h : mb_X5_begins_41 c0 x1 m = some z) (hk : (Sum.elim (mP_X5_begins_41 X G c0) (fun z : (Unit × gM) => gz_kV cS X G 2 (0, 0) cX5_begins z.2)) z) : gz_V cS X G 2 (0, 0) m 41 [(0, .ref (gz_ad G c0)), (1, .int x1)] [] := by
  unfold mb_X5_begins_41 at h
  refine gz_iload_n (pc := 41) hX dX5_begins_41 rfl 1 rfl ?_
  refine gz_aload_n (pc := 42) hX dX5_begins_42 rfl 0 rfl ?_
  refine cg_X5_3_5 (pc := 43) hX (c := c0) (v := .ref (gz_ad G 1000)) (fun h => cz_k h (st_k hs_c0)) (fun h => cz_f h (st_0 hs_c0) (st_f9 hs_c0) (by decide) rfl) dX5_begins_43 ?_
  obtain ⟨⟨r1, m2⟩, c3, h⟩ := gz_bd h
  refine cc_X5_59 (pc := 46) hX (fun h => cz_k h rfl) c3 ⟨Nat.le_of_ble_eq_true rfl, Nat.le_of_ble_eq_true rfl⟩ (rest := [.int x1]) rfl (Nat.le_of_ble_eq_true rfl) dX5_begins_46 ?_
  refine gz_icmp_ge (pc := 49) (tgt := 99) hX dX5_begins_49 (by decide) (fun g4 => ?_) (fun g4 => ?_)
  · replace h := gz_it' g4 h
    obtain rfl := Option.some.inj h
    exact hk _ _ dX5_begins_99
  · replace h := gz_if' g4 h
    refine gz_aload_n (pc := 52) hX dX5_begins_52 rfl 0 rfl ?_
    refine cg_X5_15_5 (pc := 53) hX (c := c0) (v := .ref (gz_ad G (c0 + 1))) (fun h => cz_k h (st_k hs_c0)) (fun h => cz_f h (st_0 hs_c0) (st_f4 hs_c0) (by omega) rfl) dX5_begins_53 ?_
    refine gz_iload_n (pc := 56) hX dX5_begins_56 rfl 1 rfl ?_
    refine gz_aload_n (pc := 57) hX dX5_begins_57 rfl 0 rfl ?_
    refine cg_X5_3_5 (pc := 58) hX (c := c0) (v := .ref (gz_ad G 1000)) (fun h => cz_k h (st_k hs_c0)) (fun h => cz_f h (st_0 hs_c0) (st_f9 hs_c0) (by decide) rfl) dX5_begins_58 ?_
    refine gz_iload_n (pc := 61) hX dX5_begins_61 rfl 1 rfl ?_
    obtain ⟨⟨r5, m6⟩, c7, h⟩ := gz_bd h
    refine cc_X5_62 (pc := 62) hX (fun h => cz_k h rfl) c7 ⟨Nat.le_of_ble_eq_true rfl, Nat.le_of_ble_eq_true rfl⟩ (rest := [.int x1, .ref (gz_ad G (c0 + 1))]) rfl (Nat.le_of_ble_eq_true rfl) dX5_begins_62 ?_
    obtain ⟨g8, h⟩ := gz_gu h
    refine cg_X5_66_8 (pc := 65) hX (c := r5) (v := .int (gI m6 r5 2)) (fun _ => g8) (fun _ => rfl) dX5_begins_65 ?_
    obtain ⟨g9, h⟩ := gz_gu h
    obtain ⟨m10, em10, h⟩ := gz_lt h
    refine gz_iast2 (pc := 68) (c := (c0 + 1)) (n := 8) hX rfl (fun h => cz_a h (st_a1 hs_c0).1 (by decide) (st_a1 hs_c0).2) (st_w1 hs_c0 1) g9 dX5_begins_68 em10 ?_
    refine gz_aload_n (pc := 69) hX dX5_begins_69 rfl 0 rfl ?_
    refine cg_X5_22_5 (pc := 70) hX (c := c0) (v := .ref (gz_ad G (c0 + 3))) (fun h => cz_k h (st_k hs_c0)) (fun h => cz_f h (st_0 hs_c0) (st_f6 hs_c0) (by omega) rfl) dX5_begins_70 ?_
    refine gz_iload_n (pc := 73) hX dX5_begins_73 rfl 1 rfl ?_
    refine gz_iconst (pc := 74) (v := (0 : Int32)) hX dX5_begins_74 (by decide) ?_
    obtain ⟨g11, h⟩ := gz_gu h
    obtain ⟨m12, em12, h⟩ := gz_lt h
    refine gz_iast2 (pc := 75) (c := (c0 + 3)) (n := 8) hX rfl (fun h => cz_a h (st_a3 hs_c0).1 (by decide) (st_a3 hs_c0).2) (st_w1 hs_c0 3) g11 dX5_begins_75 em12 ?_
    refine gz_aload_n (pc := 76) hX dX5_begins_76 rfl 0 rfl ?_
    refine cg_X5_25_5 (pc := 77) hX (c := c0) (v := .ref (gz_ad G (c0 + 4))) (fun h => cz_k h (st_k hs_c0)) (fun h => cz_f h (st_0 hs_c0) (st_f7 hs_c0) (by omega) rfl) dX5_begins_77 ?_
    refine gz_iload_n (pc := 80) hX dX5_begins_80 rfl 1 rfl ?_
    refine gz_aload_n (pc := 81) hX dX5_begins_81 rfl 0 rfl ?_
    refine cg_X5_3_5 (pc := 82) hX (c := c0) (v := .ref (gz_ad G 1000)) (fun h => cz_k h (st_k hs_c0)) (fun h => cz_f h (st_0 hs_c0) (st_f9 hs_c0) (by decide) rfl) dX5_begins_82 ?_
    refine gz_iload_n (pc := 85) hX dX5_begins_85 rfl 1 rfl ?_
    obtain ⟨⟨r13, m14⟩, c15, h⟩ := gz_bd h
    refine cc_X5_62 (pc := 86) hX (fun h => cz_k h rfl) c15 ⟨Nat.le_of_ble_eq_true rfl, Nat.le_of_ble_eq_true rfl⟩ (rest := [.int x1, .ref (gz_ad G (c0 + 4))]) rfl (Nat.le_of_ble_eq_true rfl) dX5_begins_86 ?_
    obtain ⟨g16, h⟩ := gz_gu h
    refine cg_X5_70_8 (pc := 89) hX (c := r13) (v := .int (gI m14 r13 3)) (fun _ => g16) (fun _ => rfl) dX5_begins_89 ?_
    obtain ⟨g17, h⟩ := gz_gu h
    obtain ⟨m18, em18, h⟩ := gz_lt h
    refine gz_iast2 (pc := 92) (c := (c0 + 4)) (n := 8) hX rfl (fun h => cz_a h (st_a4 hs_c0).1 (by decide) (st_a4 hs_c0).2) (st_w1 hs_c0 4) g17 dX5_begins_92 em18 ?_
    obtain ⟨y19, ey19, h⟩ := gz_lt h
    refine gz_iinc (pc := 93) (v := y19) (lw := [(1, .int y19), (0, .ref (gz_ad G c0))]) hX dX5_begins_93 (k := 1) rfl (by rw [ey19]; rfl) (by decide) rfl ?_
    refine gz_goto (pc := 96) (tgt := 41) hX dX5_begins_96 (by decide) ?_
    refine gz_sub (lw := [(0, .ref (gz_ad G c0)), (1, .int y19)]) [1, 0] rfl ?_
    obtain rfl := Option.some.inj h
    exact hk
noncomputable def ml_X5_begins_41 (c0 : Nat) (x1 : Int32) (m : gM) : Option (Unit × gM) := gz_loop (fun q : (Int32 × gM) => mb_X5_begins_41 c0 q.1 q.2) (x1, m)
theorem wl_X5_begins_41 {X : gz_X} {G : gz_G} (hX : gz_C cS X G cX5_begins 2 RX5 4 85) {c0 : Nat} {x1 : Int32} (hs_c0 : cSt c0 = true) {m : gM} {z : (Unit × gM)} (h : ml_X5_begins_41 c0 x1 m = some z) (hk : (fun z : (Unit × gM) => gz_kV cS X G 2 (0, 0) cX5_begins z.2) z) : gz_V cS X G 2 (0, 0) m 41 [(0, .ref (gz_ad G c0)), (1, .int x1)] [] := by
  have hp : mP_X5_begins_41 X G c0 (x1, m) := gz_loop_ind (fun q z hz hkz => wb_X5_begins_41 hX hs_c0 hz hkz) h hk
  exact hp
noncomputable def cf_X5_begins (c0 : Nat) (m : gM) : Option (Unit × gM) :=
  gz_let (gz_sI m c0 0 (0 : Int32)) fun m1 => gz_let (gz_sI m1 c0 1 (0 : Int32)) fun m2 => gz_let (gP m2 1000 0) fun r3 => (if r3 ≠ 0 then (if gK m2 r3 = 2 then gz_let (gz_sI m2 c0 2 (gI m2 r3 1)) fun m6 => ((cf_X0_ties m6).bind fun (r7, m8) => gz_let (gz_sI m8 c0 3 (((1 : Int32) <<< (r7 &&& 31)) - (1 : Int32))) fun m10 => (ml_X5_begins_41 c0 (0 : Int32) m10)) else none) else none)
theorem wm_X5_begins {X : gz_X} {G : gz_G} (hX : gz_C cS X G cX5_begins 2 RX5 4 85) {c0 : Nat} (hs_c0 : cSt c0 = true) {m : gM} {z : (Unit × gM)} (h : cf_X5_begins c0 m = some z) (hk : (fun z : (Unit × gM) => gz_kV cS X G 2 (0, 0) cX5_begins z.2) z) : gz_V cS X G 2 (0, 0) m 0 [(0, .ref (gz_ad G c0))] [] := by
  unfold cf_X5_begins at h
  refine gz_aload_n (pc := 0) hX dX5_begins_0 rfl 0 rfl ?_
  refine gz_iconst (pc := 1) (v := (0 : Int32)) hX dX5_begins_1 (by decide) ?_
  obtain ⟨m1, em1, h⟩ := gz_lt h
  refine cp_X5_33_5 (pc := 2) hX (c := c0) (fun h => cz_k h (st_k hs_c0)) (st_w hs_c0) dX5_begins_2 em1 ?_
  refine gz_aload_n (pc := 5) hX dX5_begins_5 rfl 0 rfl ?_
  refine gz_iconst (pc := 6) (v := (0 : Int32)) hX dX5_begins_6 (by decide) ?_
  obtain ⟨m2, em2, h⟩ := gz_lt h
  refine cp_X5_37_5 (pc := 7) hX (c := c0) (fun h => cz_k h (st_k hs_c0)) (st_w hs_c0) dX5_begins_7 em2 ?_
  refine gz_aload_n (pc := 10) hX dX5_begins_10 rfl 0 rfl ?_
  refine gz_aload_n (pc := 11) hX dX5_begins_11 rfl 0 rfl ?_
  refine cg_X5_3_5 (pc := 12) hX (c := c0) (v := .ref (gz_ad G 1000)) (fun h => cz_k h (st_k hs_c0)) (fun h => cz_f h (st_0 hs_c0) (st_f9 hs_c0) (by decide) rfl) dX5_begins_12 ?_
  obtain ⟨r3, er3, h⟩ := gz_lt h
  obtain ⟨g4, h⟩ := gz_gu h
  refine cg_X5_40_0 (pc := 15) hX (c := 1000) (v := .ref (gz_ad G r3)) (fun h => cz_k h rfl) (fun _ => gz_rq er3 g4) dX5_begins_15 ?_
  obtain ⟨g5, h⟩ := gz_gu h
  refine cg_X5_44_1 (pc := 18) hX (c := r3) (v := .int (gI m2 r3 1)) (fun _ => g5) (fun _ => rfl) dX5_begins_18 ?_
  obtain ⟨m6, em6, h⟩ := gz_lt h
  refine cp_X5_49_5 (pc := 21) hX (c := c0) (fun h => cz_k h (st_k hs_c0)) (st_w hs_c0) dX5_begins_21 em6 ?_
  refine gz_aload_n (pc := 24) hX dX5_begins_24 rfl 0 rfl ?_
  refine gz_iconst (pc := 25) (v := (1 : Int32)) hX dX5_begins_25 (by decide) ?_
  refine gz_aload_n (pc := 26) hX dX5_begins_26 rfl 0 rfl ?_
  refine cg_X5_3_5 (pc := 27) hX (c := c0) (v := .ref (gz_ad G 1000)) (fun h => cz_k h (st_k hs_c0)) (fun h => cz_f h (st_0 hs_c0) (st_f9 hs_c0) (by decide) rfl) dX5_begins_27 ?_
  obtain ⟨⟨r7, m8⟩, c9, h⟩ := gz_bd h
  refine cc_X5_52 (pc := 30) hX (fun h => cz_k h rfl) c9 ⟨Nat.le_of_ble_eq_true rfl, Nat.le_of_ble_eq_true rfl⟩ (rest := [.int (1 : Int32), .ref (gz_ad G c0)]) rfl (Nat.le_of_ble_eq_true rfl) dX5_begins_30 ?_
  refine gz_ishl (pc := 33) hX dX5_begins_33 ?_
  refine gz_iconst (pc := 34) (v := (1 : Int32)) hX dX5_begins_34 (by decide) ?_
  refine gz_isub (pc := 35) hX dX5_begins_35 ?_
  obtain ⟨m10, em10, h⟩ := gz_lt h
  refine cp_X5_56_5 (pc := 36) hX (c := c0) (fun h => cz_k h (st_k hs_c0)) (st_w hs_c0) dX5_begins_36 em10 ?_
  refine gz_iconst (pc := 39) (v := (0 : Int32)) hX dX5_begins_39 (by decide) ?_
  refine gz_istore_n (pc := 40) (lw := [(1, .int (0 : Int32)), (0, .ref (gz_ad G c0))]) hX dX5_begins_40 rfl (by decide) rfl ?_
  refine gz_sub (lw := [(0, .ref (gz_ad G c0)), (1, .int (0 : Int32))]) [1, 0] rfl ?_
  exact wl_X5_begins_41 hX hs_c0 h hk
theorem ct_X5_begins {G : gz_G} {l : Launch} {c0 : Nat} (hs_c0 : cSt c0 = true) {m m9 : gM} (h : cf_X5_begins c0 m = some ((), m9)) : gz_Met cS G l yX5_begins cX5_begins 2 none (mRm 4 85) [.ref (gz_ad G c0)] m m9 none :=
  gz_ofV (by decide +kernel) (Nat.le_of_ble_eq_true rfl) fun X _ hX hk => wm_X5_begins hX hs_c0 h hk
theorem cg_X5_77_8 {X : gz_X} {G : gz_G} {cc : ByteArray} {nL fr lo pc : Nat} {rem : Nat × Nat} {m : gM} {lv : List (Nat × Value)} {st : List Value} (hX : gz_C cS X G cc nL RX5 fr lo) {c : Nat} {v : Value} (hK : clc m.1 m.2.1 m.2.2.2.2.1 → m.1 c = 8 + 1) (hv : clc m.1 m.2.1 m.2.2.2.2.1 → gz_u (gz_ad G) m (ftC 8 1) c 1 = v) (hd : decode cc pc = .ok (.getfield 77, 3)) (kk : gz_V cS X G nL rem m (pc + 3) lv (v :: st)) : gz_V cS X G nL rem m pc lv (.ref (gz_ad G c) :: st) :=
  gz_getf hX (C := RX9) (T := TX9) (N := 4) (ci := 8) (k := 1) rfl (by decide) in_X9 (by decide) (Or.inr ⟨_, va_Nw.use rfl (cz_n (Z := cS) hX q977 rfl)⟩) hd hK hv kk
/-! FirstSnuffer$State.nearby(I)I -/
def mP_X5_nearby_4 (X : gz_X) (G : gz_G) (c0 : Nat) (q : (Int32 × Int32 × Int32 × gM)) : Prop := gz_V cS X G 4 (0, 0) q.2.2.2 4 [(0, .ref (gz_ad G c0)), (1, .int q.1), (2, .int q.2.1), (3, .int q.2.2.1)] []
noncomputable def mj_X5_nearby_59 (c0 : Nat) (x1 : Int32) (x3 : Int32) (s0 : Int32) (s1 : Int32) (m : gM) : Option ((Int32 × Int32 × Int32 × gM) ⊕ (Int32 × gM)) :=
  gz_let ((s1 + s0)) fun y1 => gz_let (x3 + (1 : Int32)) fun y2 => some (Sum.inl (x1, y1, y2, m))
theorem wb_X5_nearby_59 {X : gz_X} {G : gz_G} (hX : gz_C cS X G cX5_nearby 4 RX5 4 85) {c0 : Nat} {x1 : Int32} {x3 : Int32} {s0 : Int32} {s1 : Int32} (hs_c0 : cSt c0 = true) {m : gM} {z : ((Int32 × Int32 × Int32 × gM) ⊕ (Int32 × gM))} (h : mj_X5_nearby_59 c0 x1 x3 s0 s1 m = some z) (hk : (Sum.elim (mP_X5_nearby_4 X G c0) (fun z : (Int32 × gM) => gz_kI cS X G 4 (0, 0) cX5_nearby z.2 z.1)) z) : gz_V cS X G 4 (0, 0) m 59 [(0, .ref (gz_ad G c0)), (1, .int x1), (3, .int x3)] [.int s0, .int s1] := by
  unfold mj_X5_nearby_59 at h
  refine gz_iadd (pc := 59) hX dX5_nearby_59 ?_
  obtain ⟨y1, ey1, h⟩ := gz_lt h
  refine gz_topi ey1 ?_
  refine gz_istore_n (pc := 60) (lw := [(2, .int y1), (0, .ref (gz_ad G c0)), (1, .int x1), (3, .int x3)]) hX dX5_nearby_60 rfl (by decide) rfl ?_
  obtain ⟨y2, ey2, h⟩ := gz_lt h
  refine gz_iinc (pc := 61) (v := y2) (lw := [(3, .int y2), (2, .int y1), (0, .ref (gz_ad G c0)), (1, .int x1)]) hX dX5_nearby_61 (k := 3) rfl (by rw [ey2]; rfl) (by decide) rfl ?_
  refine gz_goto (pc := 64) (tgt := 4) hX dX5_nearby_64 (by decide) ?_
  refine gz_sub (lw := [(0, .ref (gz_ad G c0)), (1, .int x1), (2, .int y1), (3, .int y2)]) [2, 3, 1, 0] rfl ?_
  obtain rfl := Option.some.inj h
  exact hk
noncomputable def mj_X5_nearby_58 (c0 : Nat) (x1 : Int32) (x3 : Int32) (s0 : Int32) (m : gM) : Option ((Int32 × Int32 × Int32 × gM) ⊕ (Int32 × gM)) :=
  (mj_X5_nearby_59 c0 x1 x3 (0 : Int32) s0 m)
theorem wb_X5_nearby_58 {X : gz_X} {G : gz_G} (hX : gz_C cS X G cX5_nearby 4 RX5 4 85) {c0 : Nat} {x1 : Int32} {x3 : Int32} {s0 : Int32} (hs_c0 : cSt c0 = true) {m : gM} {z : ((Int32 × Int32 × Int32 × gM) ⊕ (Int32 × gM))} (h : mj_X5_nearby_58 c0 x1 x3 s0 m = some z) (hk : (Sum.elim (mP_X5_nearby_4 X G c0) (fun z : (Int32 × gM) => gz_kI cS X G 4 (0, 0) cX5_nearby z.2 z.1)) z) : gz_V cS X G 4 (0, 0) m 58 [(0, .ref (gz_ad G c0)), (1, .int x1), (3, .int x3)] [.int s0] := by
  unfold mj_X5_nearby_58 at h
  refine gz_iconst (pc := 58) (v := (0 : Int32)) hX dX5_nearby_58 (by decide) ?_
  exact wb_X5_nearby_59 hX hs_c0 h hk
noncomputable def mb_X5_nearby_4 (c0 : Nat) (x1 : Int32) (x2 : Int32) (x3 : Int32) (m : gM) : Option ((Int32 × Int32 × Int32 × gM) ⊕ (Int32 × gM)) :=
  ((cf_X0_things m).bind fun (r1, m2) => (if r1 ≤ x3 then some (Sum.inr (x2, m2)) else (if x3 = x1 then (mj_X5_nearby_58 c0 x1 x3 x2 m2) else ((cf_X5_isLit c0 x3 m2).bind fun (r6, m7) => (if r6 = (0 : Int32) then (mj_X5_nearby_58 c0 x1 x3 x2 m7) else ((cf_X0_thingOf x3 m7).bind fun (r10, m11) => (if gK m11 r10 = 9 then ((cf_X0_thingOf x1 m11).bind fun (r14, m15) => (if gK m15 r14 = 9 then (if (gI m11 r10 1) = (gI m15 r14 1) then (mj_X5_nearby_59 c0 x1 x3 (1 : Int32) x2 m15) else (mj_X5_nearby_58 c0 x1 x3 x2 m15)) else none)) else none)))))))
theorem wb_X5_nearby_4 {X : gz_X} {G : gz_G} (hX : gz_C cS X G cX5_nearby 4 RX5 4 85) {c0 : Nat} {x1 : Int32} {x2 : Int32} {x3 : Int32} (hs_c0 : cSt c0 = true) {m : gM} {z : ((Int32 × Int32 × Int32 × gM) ⊕ (Int32 × gM))} (h : mb_X5_nearby_4 c0 x1 x2 x3 m = some z) (hk : (Sum.elim (mP_X5_nearby_4 X G c0) (fun z : (Int32 × gM) => gz_kI cS X G 4 (0, 0) cX5_nearby z.2 z.1)) z) : gz_V cS X G 4 (0, 0) m 4 [(0, .ref (gz_ad G c0)), (1, .int x1), (2, .int x2), (3, .int x3)] [] := by
  unfold mb_X5_nearby_4 at h
  refine gz_iload_n (pc := 4) hX dX5_nearby_4 rfl 3 rfl ?_
  refine gz_aload_n (pc := 5) hX dX5_nearby_5 rfl 0 rfl ?_
  refine cg_X5_3_5 (pc := 6) hX (c := c0) (v := .ref (gz_ad G 1000)) (fun h => cz_k h (st_k hs_c0)) (fun h => cz_f h (st_0 hs_c0) (st_f9 hs_c0) (by decide) rfl) dX5_nearby_6 ?_
  obtain ⟨⟨r1, m2⟩, c3, h⟩ := gz_bd h
  refine cc_X5_59 (pc := 9) hX (fun h => cz_k h rfl) c3 ⟨Nat.le_of_ble_eq_true rfl, Nat.le_of_ble_eq_true rfl⟩ (rest := [.int x3]) rfl (Nat.le_of_ble_eq_true rfl) dX5_nearby_9 ?_
  refine gz_icmp_ge (pc := 12) (tgt := 67) hX dX5_nearby_12 (by decide) (fun g4 => ?_) (fun g4 => ?_)
  · replace h := gz_it' g4 h
    refine gz_iload_n (pc := 67) hX dX5_nearby_67 rfl 2 rfl ?_
    obtain rfl := Option.some.inj h
    exact hk _ _ dX5_nearby_68
  · replace h := gz_if' g4 h
    refine gz_iload_n (pc := 15) hX dX5_nearby_15 rfl 2 rfl ?_
    refine gz_iload_n (pc := 16) hX dX5_nearby_16 rfl 3 rfl ?_
    refine gz_iload_n (pc := 17) hX dX5_nearby_17 rfl 1 rfl ?_
    refine gz_icmp_eq (pc := 18) (tgt := 58) hX dX5_nearby_18 (by decide) (fun g5 => ?_) (fun g5 => ?_)
    · replace h := gz_it' g5 h
      refine gz_sub (lw := [(0, .ref (gz_ad G c0)), (1, .int x1), (3, .int x3)]) [0, 1, 3] rfl ?_
      exact wb_X5_nearby_58 hX hs_c0 h hk
    · replace h := gz_if' g5 h
      refine gz_aload_n (pc := 21) hX dX5_nearby_21 rfl 0 rfl ?_
      refine gz_iload_n (pc := 22) hX dX5_nearby_22 rfl 3 rfl ?_
      obtain ⟨⟨r6, m7⟩, c8, h⟩ := gz_bd h
      refine cc_X5_73 (pc := 23) hX (fun h => cz_k h (st_k hs_c0)) hs_c0 c8 ⟨Nat.le_of_ble_eq_true rfl, Nat.le_of_ble_eq_true rfl⟩ (rest := [.int x2]) rfl (Nat.le_of_ble_eq_true rfl) dX5_nearby_23 ?_
      refine gz_if_eq (pc := 26) (tgt := 58) hX dX5_nearby_26 (by decide) (fun g9 => ?_) (fun g9 => ?_)
      · replace h := gz_it' g9 h
        refine gz_sub (lw := [(0, .ref (gz_ad G c0)), (1, .int x1), (3, .int x3)]) [0, 1, 3] rfl ?_
        exact wb_X5_nearby_58 hX hs_c0 h hk
      · replace h := gz_if' g9 h
        refine gz_aload_n (pc := 29) hX dX5_nearby_29 rfl 0 rfl ?_
        refine cg_X5_3_5 (pc := 30) hX (c := c0) (v := .ref (gz_ad G 1000)) (fun h => cz_k h (st_k hs_c0)) (fun h => cz_f h (st_0 hs_c0) (st_f9 hs_c0) (by decide) rfl) dX5_nearby_30 ?_
        refine gz_iload_n (pc := 33) hX dX5_nearby_33 rfl 3 rfl ?_
        obtain ⟨⟨r10, m11⟩, c12, h⟩ := gz_bd h
        refine cc_X5_62 (pc := 34) hX (fun h => cz_k h rfl) c12 ⟨Nat.le_of_ble_eq_true rfl, Nat.le_of_ble_eq_true rfl⟩ (rest := [.int x2]) rfl (Nat.le_of_ble_eq_true rfl) dX5_nearby_34 ?_
        obtain ⟨g13, h⟩ := gz_gu h
        refine cg_X5_77_8 (pc := 37) hX (c := r10) (v := .int (gI m11 r10 1)) (fun _ => g13) (fun _ => rfl) dX5_nearby_37 ?_
        refine gz_aload_n (pc := 40) hX dX5_nearby_40 rfl 0 rfl ?_
        refine cg_X5_3_5 (pc := 41) hX (c := c0) (v := .ref (gz_ad G 1000)) (fun h => cz_k h (st_k hs_c0)) (fun h => cz_f h (st_0 hs_c0) (st_f9 hs_c0) (by decide) rfl) dX5_nearby_41 ?_
        refine gz_iload_n (pc := 44) hX dX5_nearby_44 rfl 1 rfl ?_
        obtain ⟨⟨r14, m15⟩, c16, h⟩ := gz_bd h
        refine cc_X5_62 (pc := 45) hX (fun h => cz_k h rfl) c16 ⟨Nat.le_of_ble_eq_true rfl, Nat.le_of_ble_eq_true rfl⟩ (rest := [.int (gI m11 r10 1), .int x2]) rfl (Nat.le_of_ble_eq_true rfl) dX5_nearby_45 ?_
        obtain ⟨g17, h⟩ := gz_gu h
        refine cg_X5_77_8 (pc := 48) hX (c := r14) (v := .int (gI m15 r14 1)) (fun _ => g17) (fun _ => rfl) dX5_nearby_48 ?_
        refine gz_icmp_ne (pc := 51) (tgt := 58) hX dX5_nearby_51 (by decide) (fun g18 => ?_) (fun g18 => ?_)
        · replace h := gz_if' g18 h
          refine gz_sub (lw := [(0, .ref (gz_ad G c0)), (1, .int x1), (3, .int x3)]) [0, 1, 3] rfl ?_
          exact wb_X5_nearby_58 hX hs_c0 h hk
        · replace h := gz_it' g18 h
          refine gz_iconst (pc := 54) (v := (1 : Int32)) hX dX5_nearby_54 (by decide) ?_
          refine gz_goto (pc := 55) (tgt := 59) hX dX5_nearby_55 (by decide) ?_
          refine gz_sub (lw := [(0, .ref (gz_ad G c0)), (1, .int x1), (3, .int x3)]) [0, 1, 3] rfl ?_
          exact wb_X5_nearby_59 hX hs_c0 h hk
noncomputable def ml_X5_nearby_4 (c0 : Nat) (x1 : Int32) (x2 : Int32) (x3 : Int32) (m : gM) : Option (Int32 × gM) := gz_loop (fun q : (Int32 × Int32 × Int32 × gM) => mb_X5_nearby_4 c0 q.1 q.2.1 q.2.2.1 q.2.2.2) (x1, x2, x3, m)
theorem wl_X5_nearby_4 {X : gz_X} {G : gz_G} (hX : gz_C cS X G cX5_nearby 4 RX5 4 85) {c0 : Nat} {x1 : Int32} {x2 : Int32} {x3 : Int32} (hs_c0 : cSt c0 = true) {m : gM} {z : (Int32 × gM)} (h : ml_X5_nearby_4 c0 x1 x2 x3 m = some z) (hk : (fun z : (Int32 × gM) => gz_kI cS X G 4 (0, 0) cX5_nearby z.2 z.1) z) : gz_V cS X G 4 (0, 0) m 4 [(0, .ref (gz_ad G c0)), (1, .int x1), (2, .int x2), (3, .int x3)] [] := by
  have hp : mP_X5_nearby_4 X G c0 (x1, x2, x3, m) := gz_loop_ind (fun q z hz hkz => wb_X5_nearby_4 hX hs_c0 hz hkz) h hk
  exact hp
noncomputable def cf_X5_nearby (c0 : Nat) (x1 : Int32) (m : gM) : Option (Int32 × gM) :=
  (ml_X5_nearby_4 c0 x1 (0 : Int32) (0 : Int32) m)
theorem wm_X5_nearby {X : gz_X} {G : gz_G} (hX : gz_C cS X G cX5_nearby 4 RX5 4 85) {c0 : Nat} {x1 : Int32} (hs_c0 : cSt c0 = true) {m : gM} {z : (Int32 × gM)} (h : cf_X5_nearby c0 x1 m = some z) (hk : (fun z : (Int32 × gM) => gz_kI cS X G 4 (0, 0) cX5_nearby z.2 z.1) z) : gz_V cS X G 4 (0, 0) m 0 [(0, .ref (gz_ad G c0)), (1, .int x1)] [] := by
  unfold cf_X5_nearby at h
  refine gz_iconst (pc := 0) (v := (0 : Int32)) hX dX5_nearby_0 (by decide) ?_
  refine gz_istore_n (pc := 1) (lw := [(2, .int (0 : Int32)), (0, .ref (gz_ad G c0)), (1, .int x1)]) hX dX5_nearby_1 rfl (by decide) rfl ?_
  refine gz_iconst (pc := 2) (v := (0 : Int32)) hX dX5_nearby_2 (by decide) ?_
  refine gz_istore_n (pc := 3) (lw := [(3, .int (0 : Int32)), (2, .int (0 : Int32)), (0, .ref (gz_ad G c0)), (1, .int x1)]) hX dX5_nearby_3 rfl (by decide) rfl ?_
  refine gz_sub (lw := [(0, .ref (gz_ad G c0)), (1, .int x1), (2, .int (0 : Int32)), (3, .int (0 : Int32))]) [2, 3, 1, 0] rfl ?_
  exact wl_X5_nearby_4 hX hs_c0 h hk
theorem ct_X5_nearby {G : gz_G} {l : Launch} {c0 : Nat} {x1 : Int32} (hs_c0 : cSt c0 = true) {m m9 : gM} {r : Int32} (h : cf_X5_nearby c0 x1 m = some (r, m9)) : gz_Met cS G l yX5_nearby cX5_nearby 4 (some .int) (mRm 4 85) [.ref (gz_ad G c0), .int x1] m m9 (some (.int r)) :=
  gz_ofI (by decide +kernel) (Nat.le_of_ble_eq_true rfl) fun X _ hX hk => wm_X5_nearby hX hs_c0 h hk
theorem cc_X5_140 {X : gz_X} {G : gz_G} {cc : ByteArray} {nL fr lo pc : Nat} {rem : Nat × Nat} {lv : List (Nat × Value)} {rest st0 : List Value} (hX : gz_C cS X G cc nL RX5 fr lo) {x0 : Int32} {x1 : Int32} {m m9 : gM}  {r : Int32} (h : cf_X0_has x0 x1 m = some (r, m9)) (hroom : 0 + 1 ≤ fr ∧ 8 + (2 + 11) + 0 ≤ lo) (hst : st0 = [.int x1, .int x0] ++ rest) (hW : (rest.map fun v => v.category).sum ≤ 8) (hd : decode cc pc = .ok (.invokestatic 140, 3)) (kk : gz_V cS X G nL rem m9 (pc + 3) lv (.int r :: rest)) : gz_V cS X G nL rem m pc lv st0 :=
  gz_callSN hX cs_E (As := [.int x0, .int x1]) (rest := rest) (ct_X0_has (l := X.2.1) h) q1125 (cz_n (Z := cS) hX q1447 rfl) q167 q1124 (n := 2) (by decide +kernel) hroom rfl hst hW hd (rem := rem) kk
theorem cc_X5_144 {X : gz_X} {G : gz_G} {cc : ByteArray} {nL fr lo pc : Nat} {rem : Nat × Nat} {lv : List (Nat × Value)} {rest st0 : List Value} (hX : gz_C cS X G cc nL RX5 fr lo) {x1 : Int32} {m m9 : gM} (hK : clc m.1 m.2.1 m.2.2.2.2.1 → m.1 1000 = 0 + 1)  {r : Nat} (h : cf_X0_tieOf x1 m = some (r, m9)) (hroom : 3 + 1 ≤ fr ∧ 8 + (2 + 11) + 64 ≤ lo) (hst : st0 = [.int x1, .ref (gz_ad G 1000)] ++ rest) (hW : (rest.map fun v => v.category).sum ≤ 8) (hd : decode cc pc = .ok (.invokevirtual 144, 3)) (kk : gz_V cS X G nL rem m9 (pc + 3) lv (.ref (gz_ad G r) :: rest)) : gz_V cS X G nL rem m pc lv st0 :=
  gz_callVN hX cs_E (As := [.int x1]) (rest := rest) (q := (RX0, TX0, 28)) (ci := 0) (c := 1000) (ct_X0_tieOf (l := X.2.1) h) q1451 (cz_n (Z := cS) hX q1448 rfl) q167 q1450 qs45 (n := 1) (by decide +kernel) hroom rfl rfl (by decide) hK hst hW hd (rem := rem) kk
theorem cg_X5_148_9 {X : gz_X} {G : gz_G} {cc : ByteArray} {nL fr lo pc : Nat} {rem : Nat × Nat} {m : gM} {lv : List (Nat × Value)} {st : List Value} (hX : gz_C cS X G cc nL RX5 fr lo) {c : Nat} {v : Value} (hK : clc m.1 m.2.1 m.2.2.2.2.1 → m.1 c = 9 + 1) (hv : clc m.1 m.2.1 m.2.2.2.2.1 → gz_u (gz_ad G) m (ftC 9 0) c 0 = v) (hd : decode cc pc = .ok (.getfield 148, 3)) (kk : gz_V cS X G nL rem m (pc + 3) lv (v :: st)) : gz_V cS X G nL rem m pc lv (.ref (gz_ad G c) :: st) :=
  gz_getf hX (C := RX10) (T := TX10) (N := 2) (ci := 9) (k := 0) rfl (by decide) in_X10 (by decide) (Or.inr ⟨_, va_Nw.use rfl (cz_n (Z := cS) hX q1013 rfl)⟩) hd hK hv kk
theorem cg_X5_153_9 {X : gz_X} {G : gz_G} {cc : ByteArray} {nL fr lo pc : Nat} {rem : Nat × Nat} {m : gM} {lv : List (Nat × Value)} {st : List Value} (hX : gz_C cS X G cc nL RX5 fr lo) {c : Nat} {v : Value} (hK : clc m.1 m.2.1 m.2.2.2.2.1 → m.1 c = 9 + 1) (hv : clc m.1 m.2.1 m.2.2.2.2.1 → gz_u (gz_ad G) m (ftC 9 1) c 1 = v) (hd : decode cc pc = .ok (.getfield 153, 3)) (kk : gz_V cS X G nL rem m (pc + 3) lv (v :: st)) : gz_V cS X G nL rem m pc lv (.ref (gz_ad G c) :: st) :=
  gz_getf hX (C := RX10) (T := TX10) (N := 2) (ci := 9) (k := 1) rfl (by decide) in_X10 (by decide) (Or.inr ⟨_, va_Nw.use rfl (cz_n (Z := cS) hX q1017 rfl)⟩) hd hK hv kk
/-! FirstSnuffer$State.along(I)I -/
def mP_X5_along_6 (X : gz_X) (G : gz_G) (c0 : Nat) (q : (Int32 × Int32 × Int32 × gM)) : Prop := gz_V cS X G 6 (0, 0) q.2.2.2 6 [(0, .ref (gz_ad G c0)), (1, .int q.1), (2, .int q.2.1), (3, .int q.2.2.1)] []
def mP_X5_along_16 (X : gz_X) (G : gz_G) (c0 : Nat) (q : (Int32 × Int32 × Int32 × Int32 × gM)) : Prop := gz_V cS X G 6 (0, 0) q.2.2.2.2 16 [(0, .ref (gz_ad G c0)), (1, .int q.1), (2, .int q.2.1), (4, .int q.2.2.1), (5, .int q.2.2.2.1)] []
noncomputable def mj_X5_along_93 (c0 : Nat) (x1 : Int32) (x2 : Int32) (s0 : Int32) (m : gM) : Option ((Int32 × Int32 × Int32 × gM) ⊕ (Int32 × gM)) :=
  some (Sum.inl (x1, x2, s0, m))
theorem wb_X5_along_93 {X : gz_X} {G : gz_G} (hX : gz_C cS X G cX5_along 6 RX5 4 85) {c0 : Nat} {x1 : Int32} {x2 : Int32} {s0 : Int32} (hs_c0 : cSt c0 = true) {m : gM} {z : ((Int32 × Int32 × Int32 × gM) ⊕ (Int32 × gM))} (h : mj_X5_along_93 c0 x1 x2 s0 m = some z) (hk : (Sum.elim (mP_X5_along_6 X G c0) (fun z : (Int32 × gM) => gz_kI cS X G 6 (0, 0) cX5_along z.2 z.1)) z) : gz_V cS X G 6 (0, 0) m 93 [(0, .ref (gz_ad G c0)), (1, .int x1), (2, .int x2)] [.int s0] := by
  unfold mj_X5_along_93 at h
  refine gz_istore_n (pc := 93) (lw := [(3, .int s0), (0, .ref (gz_ad G c0)), (1, .int x1), (2, .int x2)]) hX dX5_along_93 rfl (by decide) rfl ?_
  refine gz_goto (pc := 94) (tgt := 6) hX dX5_along_94 (by decide) ?_
  refine gz_sub (lw := [(0, .ref (gz_ad G c0)), (1, .int x1), (2, .int x2), (3, .int s0)]) [1, 2, 3, 0] rfl ?_
  obtain rfl := Option.some.inj h
  exact hk
noncomputable def mj_X5_along_76 (c0 : Nat) (x1 : Int32) (x2 : Int32) (x4 : Int32) (x5 : Int32) (m : gM) : Option ((Int32 × Int32 × Int32 × Int32 × gM) ⊕ ((Int32 × Int32 × Int32 × gM) ⊕ (Int32 × gM))) :=
  gz_let (x5 + (1 : Int32)) fun y1 => some (Sum.inl (x1, x2, x4, y1, m))
theorem wb_X5_along_76 {X : gz_X} {G : gz_G} (hX : gz_C cS X G cX5_along 6 RX5 4 85) {c0 : Nat} {x1 : Int32} {x2 : Int32} {x4 : Int32} {x5 : Int32} (hs_c0 : cSt c0 = true) {m : gM} {z : ((Int32 × Int32 × Int32 × Int32 × gM) ⊕ ((Int32 × Int32 × Int32 × gM) ⊕ (Int32 × gM)))} (h : mj_X5_along_76 c0 x1 x2 x4 x5 m = some z) (hk : (Sum.elim (mP_X5_along_16 X G c0) (Sum.elim (mP_X5_along_6 X G c0) (fun z : (Int32 × gM) => gz_kI cS X G 6 (0, 0) cX5_along z.2 z.1))) z) : gz_V cS X G 6 (0, 0) m 76 [(0, .ref (gz_ad G c0)), (1, .int x1), (2, .int x2), (4, .int x4), (5, .int x5)] [] := by
  unfold mj_X5_along_76 at h
  obtain ⟨y1, ey1, h⟩ := gz_lt h
  refine gz_iinc (pc := 76) (v := y1) (lw := [(5, .int y1), (0, .ref (gz_ad G c0)), (1, .int x1), (2, .int x2), (4, .int x4)]) hX dX5_along_76 (k := 4) rfl (by rw [ey1]; rfl) (by decide) rfl ?_
  refine gz_goto (pc := 79) (tgt := 16) hX dX5_along_79 (by decide) ?_
  refine gz_sub (lw := [(0, .ref (gz_ad G c0)), (1, .int x1), (2, .int x2), (4, .int x4), (5, .int y1)]) [1, 2, 3, 4, 0] rfl ?_
  obtain rfl := Option.some.inj h
  exact hk
noncomputable def mb_X5_along_16 (c0 : Nat) (x1 : Int32) (x2 : Int32) (x4 : Int32) (x5 : Int32) (m : gM) : Option ((Int32 × Int32 × Int32 × Int32 × gM) ⊕ ((Int32 × Int32 × Int32 × gM) ⊕ (Int32 × gM))) :=
  ((cf_X0_ties m).bind fun (r1, m2) => (if r1 ≤ x5 then (if x2 = x4 then (Option.map Sum.inr (mj_X5_along_93 c0 x1 x2 (0 : Int32) m2)) else (Option.map Sum.inr (mj_X5_along_93 c0 x1 x2 (1 : Int32) m2))) else ((cf_X0_has (gI m2 c0 3) x5 m2).bind fun (r6, m7) => (if r6 = (0 : Int32) then (mj_X5_along_76 c0 x1 x2 x4 x5 m7) else ((cf_X0_tieOf x5 m7).bind fun (r10, m11) => (if gK m11 r10 = 10 then ((cf_X0_has x2 (gI m11 r10 0) m11).bind fun (r14, m15) => (if r14 = (0 : Int32) then (mj_X5_along_76 c0 x1 x2 x4 x5 m15) else ((cf_X0_tieOf x5 m15).bind fun (r18, m19) => (if gK m19 r18 = 10 then gz_let ((x2 ||| ((1 : Int32) <<< ((gI m19 r18 1) &&& 31)))) fun y22 => (mj_X5_along_76 c0 x1 y22 x4 x5 m19) else none)))) else none))))))
theorem wb_X5_along_16 {X : gz_X} {G : gz_G} (hX : gz_C cS X G cX5_along 6 RX5 4 85) {c0 : Nat} {x1 : Int32} {x2 : Int32} {x4 : Int32} {x5 : Int32} (hs_c0 : cSt c0 = true) {m : gM} {z : ((Int32 × Int32 × Int32 × Int32 × gM) ⊕ ((Int32 × Int32 × Int32 × gM) ⊕ (Int32 × gM)))} (h : mb_X5_along_16 c0 x1 x2 x4 x5 m = some z) (hk : (Sum.elim (mP_X5_along_16 X G c0) (Sum.elim (mP_X5_along_6 X G c0) (fun z : (Int32 × gM) => gz_kI cS X G 6 (0, 0) cX5_along z.2 z.1))) z) : gz_V cS X G 6 (0, 0) m 16 [(0, .ref (gz_ad G c0)), (1, .int x1), (2, .int x2), (4, .int x4), (5, .int x5)] [] := by
  unfold mb_X5_along_16 at h
  refine gz_iload (pc := 16) hX dX5_along_16 4 rfl ?_
  refine gz_aload_n (pc := 18) hX dX5_along_18 rfl 0 rfl ?_
  refine cg_X5_3_5 (pc := 19) hX (c := c0) (v := .ref (gz_ad G 1000)) (fun h => cz_k h (st_k hs_c0)) (fun h => cz_f h (st_0 hs_c0) (st_f9 hs_c0) (by decide) rfl) dX5_along_19 ?_
  obtain ⟨⟨r1, m2⟩, c3, h⟩ := gz_bd h
  refine cc_X5_52 (pc := 22) hX (fun h => cz_k h rfl) c3 ⟨Nat.le_of_ble_eq_true rfl, Nat.le_of_ble_eq_true rfl⟩ (rest := [.int x5]) rfl (Nat.le_of_ble_eq_true rfl) dX5_along_22 ?_
  refine gz_icmp_ge (pc := 25) (tgt := 82) hX dX5_along_25 (by decide) (fun g4 => ?_) (fun g4 => ?_)
  · replace h := gz_it' g4 h
    refine gz_iload_n (pc := 82) hX dX5_along_82 rfl 2 rfl ?_
    refine gz_iload (pc := 83) hX dX5_along_83 3 rfl ?_
    refine gz_icmp_eq (pc := 85) (tgt := 92) hX dX5_along_85 (by decide) (fun g5 => ?_) (fun g5 => ?_)
    · replace h := gz_it' g5 h
      refine gz_iconst (pc := 92) (v := (0 : Int32)) hX dX5_along_92 (by decide) ?_
      refine gz_sub (lw := [(0, .ref (gz_ad G c0)), (1, .int x1), (2, .int x2)]) [0, 1, 2] rfl ?_
      obtain ⟨z0, hm0, rfl⟩ := gz_mp h
      exact wb_X5_along_93 hX hs_c0 hm0 hk
    · replace h := gz_if' g5 h
      refine gz_iconst (pc := 88) (v := (1 : Int32)) hX dX5_along_88 (by decide) ?_
      refine gz_goto (pc := 89) (tgt := 93) hX dX5_along_89 (by decide) ?_
      refine gz_sub (lw := [(0, .ref (gz_ad G c0)), (1, .int x1), (2, .int x2)]) [0, 1, 2] rfl ?_
      obtain ⟨z0, hm0, rfl⟩ := gz_mp h
      exact wb_X5_along_93 hX hs_c0 hm0 hk
  · replace h := gz_if' g4 h
    refine gz_aload_n (pc := 28) hX dX5_along_28 rfl 0 rfl ?_
    refine cg_X5_56_5 (pc := 29) hX (c := c0) (v := .int (gI m2 c0 3)) (fun h => cz_k h (st_k hs_c0)) (fun _ => rfl) dX5_along_29 ?_
    refine gz_iload (pc := 32) hX dX5_along_32 4 rfl ?_
    obtain ⟨⟨r6, m7⟩, c8, h⟩ := gz_bd h
    refine cc_X5_140 (pc := 34) hX c8 ⟨Nat.le_of_ble_eq_true rfl, Nat.le_of_ble_eq_true rfl⟩ (rest := []) rfl (Nat.le_of_ble_eq_true rfl) dX5_along_34 ?_
    refine gz_if_eq (pc := 37) (tgt := 76) hX dX5_along_37 (by decide) (fun g9 => ?_) (fun g9 => ?_)
    · replace h := gz_it' g9 h
      exact wb_X5_along_76 hX hs_c0 h hk
    · replace h := gz_if' g9 h
      refine gz_iload_n (pc := 40) hX dX5_along_40 rfl 2 rfl ?_
      refine gz_aload_n (pc := 41) hX dX5_along_41 rfl 0 rfl ?_
      refine cg_X5_3_5 (pc := 42) hX (c := c0) (v := .ref (gz_ad G 1000)) (fun h => cz_k h (st_k hs_c0)) (fun h => cz_f h (st_0 hs_c0) (st_f9 hs_c0) (by decide) rfl) dX5_along_42 ?_
      refine gz_iload (pc := 45) hX dX5_along_45 4 rfl ?_
      obtain ⟨⟨r10, m11⟩, c12, h⟩ := gz_bd h
      refine cc_X5_144 (pc := 47) hX (fun h => cz_k h rfl) c12 ⟨Nat.le_of_ble_eq_true rfl, Nat.le_of_ble_eq_true rfl⟩ (rest := [.int x2]) rfl (Nat.le_of_ble_eq_true rfl) dX5_along_47 ?_
      obtain ⟨g13, h⟩ := gz_gu h
      refine cg_X5_148_9 (pc := 50) hX (c := r10) (v := .int (gI m11 r10 0)) (fun _ => g13) (fun _ => rfl) dX5_along_50 ?_
      obtain ⟨⟨r14, m15⟩, c16, h⟩ := gz_bd h
      refine cc_X5_140 (pc := 53) hX c16 ⟨Nat.le_of_ble_eq_true rfl, Nat.le_of_ble_eq_true rfl⟩ (rest := []) rfl (Nat.le_of_ble_eq_true rfl) dX5_along_53 ?_
      refine gz_if_eq (pc := 56) (tgt := 76) hX dX5_along_56 (by decide) (fun g17 => ?_) (fun g17 => ?_)
      · replace h := gz_it' g17 h
        exact wb_X5_along_76 hX hs_c0 h hk
      · replace h := gz_if' g17 h
        refine gz_iload_n (pc := 59) hX dX5_along_59 rfl 2 rfl ?_
        refine gz_iconst (pc := 60) (v := (1 : Int32)) hX dX5_along_60 (by decide) ?_
        refine gz_aload_n (pc := 61) hX dX5_along_61 rfl 0 rfl ?_
        refine cg_X5_3_5 (pc := 62) hX (c := c0) (v := .ref (gz_ad G 1000)) (fun h => cz_k h (st_k hs_c0)) (fun h => cz_f h (st_0 hs_c0) (st_f9 hs_c0) (by decide) rfl) dX5_along_62 ?_
        refine gz_iload (pc := 65) hX dX5_along_65 4 rfl ?_
        obtain ⟨⟨r18, m19⟩, c20, h⟩ := gz_bd h
        refine cc_X5_144 (pc := 67) hX (fun h => cz_k h rfl) c20 ⟨Nat.le_of_ble_eq_true rfl, Nat.le_of_ble_eq_true rfl⟩ (rest := [.int (1 : Int32), .int x2]) rfl (Nat.le_of_ble_eq_true rfl) dX5_along_67 ?_
        obtain ⟨g21, h⟩ := gz_gu h
        refine cg_X5_153_9 (pc := 70) hX (c := r18) (v := .int (gI m19 r18 1)) (fun _ => g21) (fun _ => rfl) dX5_along_70 ?_
        refine gz_ishl (pc := 73) hX dX5_along_73 ?_
        refine gz_ior (pc := 74) hX dX5_along_74 ?_
        obtain ⟨y22, ey22, h⟩ := gz_lt h
        refine gz_topi ey22 ?_
        refine gz_istore_n (pc := 75) (lw := [(2, .int y22), (0, .ref (gz_ad G c0)), (1, .int x1), (4, .int x4), (5, .int x5)]) hX dX5_along_75 rfl (by decide) rfl ?_
        refine gz_sub (lw := [(0, .ref (gz_ad G c0)), (1, .int x1), (2, .int y22), (4, .int x4), (5, .int x5)]) [1, 2, 0, 3, 4] rfl ?_
        exact wb_X5_along_76 hX hs_c0 h hk
noncomputable def ml_X5_along_16 (c0 : Nat) (x1 : Int32) (x2 : Int32) (x4 : Int32) (x5 : Int32) (m : gM) : Option ((Int32 × Int32 × Int32 × gM) ⊕ (Int32 × gM)) := gz_loop (fun q : (Int32 × Int32 × Int32 × Int32 × gM) => mb_X5_along_16 c0 q.1 q.2.1 q.2.2.1 q.2.2.2.1 q.2.2.2.2) (x1, x2, x4, x5, m)
theorem wl_X5_along_16 {X : gz_X} {G : gz_G} (hX : gz_C cS X G cX5_along 6 RX5 4 85) {c0 : Nat} {x1 : Int32} {x2 : Int32} {x4 : Int32} {x5 : Int32} (hs_c0 : cSt c0 = true) {m : gM} {z : ((Int32 × Int32 × Int32 × gM) ⊕ (Int32 × gM))} (h : ml_X5_along_16 c0 x1 x2 x4 x5 m = some z) (hk : (Sum.elim (mP_X5_along_6 X G c0) (fun z : (Int32 × gM) => gz_kI cS X G 6 (0, 0) cX5_along z.2 z.1)) z) : gz_V cS X G 6 (0, 0) m 16 [(0, .ref (gz_ad G c0)), (1, .int x1), (2, .int x2), (4, .int x4), (5, .int x5)] [] := by
  have hp : mP_X5_along_16 X G c0 (x1, x2, x4, x5, m) := gz_loop_ind (fun q z hz hkz => wb_X5_along_16 hX hs_c0 hz hkz) h hk
  exact hp
noncomputable def mb_X5_along_6 (c0 : Nat) (x1 : Int32) (x2 : Int32) (x3 : Int32) (m : gM) : Option ((Int32 × Int32 × Int32 × gM) ⊕ (Int32 × gM)) :=
  (if x3 = (0 : Int32) then some (Sum.inr ((x2 &&& (((1 : Int32) <<< (x1 &&& 31)) ^^^ (-1 : Int32))), m)) else (ml_X5_along_16 c0 x1 x2 x2 (0 : Int32) m))
theorem wb_X5_along_6 {X : gz_X} {G : gz_G} (hX : gz_C cS X G cX5_along 6 RX5 4 85) {c0 : Nat} {x1 : Int32} {x2 : Int32} {x3 : Int32} (hs_c0 : cSt c0 = true) {m : gM} {z : ((Int32 × Int32 × Int32 × gM) ⊕ (Int32 × gM))} (h : mb_X5_along_6 c0 x1 x2 x3 m = some z) (hk : (Sum.elim (mP_X5_along_6 X G c0) (fun z : (Int32 × gM) => gz_kI cS X G 6 (0, 0) cX5_along z.2 z.1)) z) : gz_V cS X G 6 (0, 0) m 6 [(0, .ref (gz_ad G c0)), (1, .int x1), (2, .int x2), (3, .int x3)] [] := by
  unfold mb_X5_along_6 at h
  refine gz_iload_n (pc := 6) hX dX5_along_6 rfl 3 rfl ?_
  refine gz_if_eq (pc := 7) (tgt := 97) hX dX5_along_7 (by decide) (fun g1 => ?_) (fun g1 => ?_)
  · replace h := gz_it' g1 h
    refine gz_iload_n (pc := 97) hX dX5_along_97 rfl 2 rfl ?_
    refine gz_iconst (pc := 98) (v := (1 : Int32)) hX dX5_along_98 (by decide) ?_
    refine gz_iload_n (pc := 99) hX dX5_along_99 rfl 1 rfl ?_
    refine gz_ishl (pc := 100) hX dX5_along_100 ?_
    refine gz_iconst (pc := 101) (v := (-1 : Int32)) hX dX5_along_101 (by decide) ?_
    refine gz_ixor (pc := 102) hX dX5_along_102 ?_
    refine gz_iand (pc := 103) hX dX5_along_103 ?_
    obtain rfl := Option.some.inj h
    exact hk _ _ dX5_along_104
  · replace h := gz_if' g1 h
    refine gz_iload_n (pc := 10) hX dX5_along_10 rfl 2 rfl ?_
    refine gz_istore (pc := 11) (lw := [(4, .int x2), (0, .ref (gz_ad G c0)), (1, .int x1), (2, .int x2), (3, .int x3)]) hX dX5_along_11 (by decide) rfl ?_
    refine gz_iconst (pc := 13) (v := (0 : Int32)) hX dX5_along_13 (by decide) ?_
    refine gz_istore (pc := 14) (lw := [(5, .int (0 : Int32)), (4, .int x2), (0, .ref (gz_ad G c0)), (1, .int x1), (2, .int x2), (3, .int x3)]) hX dX5_along_14 (by decide) rfl ?_
    refine gz_sub (lw := [(0, .ref (gz_ad G c0)), (1, .int x1), (2, .int x2), (4, .int x2), (5, .int (0 : Int32))]) [2, 3, 4, 1, 0] rfl ?_
    exact wl_X5_along_16 hX hs_c0 h hk
noncomputable def ml_X5_along_6 (c0 : Nat) (x1 : Int32) (x2 : Int32) (x3 : Int32) (m : gM) : Option (Int32 × gM) := gz_loop (fun q : (Int32 × Int32 × Int32 × gM) => mb_X5_along_6 c0 q.1 q.2.1 q.2.2.1 q.2.2.2) (x1, x2, x3, m)
theorem wl_X5_along_6 {X : gz_X} {G : gz_G} (hX : gz_C cS X G cX5_along 6 RX5 4 85) {c0 : Nat} {x1 : Int32} {x2 : Int32} {x3 : Int32} (hs_c0 : cSt c0 = true) {m : gM} {z : (Int32 × gM)} (h : ml_X5_along_6 c0 x1 x2 x3 m = some z) (hk : (fun z : (Int32 × gM) => gz_kI cS X G 6 (0, 0) cX5_along z.2 z.1) z) : gz_V cS X G 6 (0, 0) m 6 [(0, .ref (gz_ad G c0)), (1, .int x1), (2, .int x2), (3, .int x3)] [] := by
  have hp : mP_X5_along_6 X G c0 (x1, x2, x3, m) := gz_loop_ind (fun q z hz hkz => wb_X5_along_6 hX hs_c0 hz hkz) h hk
  exact hp
noncomputable def cf_X5_along (c0 : Nat) (x1 : Int32) (m : gM) : Option (Int32 × gM) :=
  gz_let (((1 : Int32) <<< (x1 &&& 31))) fun y1 => (ml_X5_along_6 c0 x1 y1 (1 : Int32) m)
theorem wm_X5_along {X : gz_X} {G : gz_G} (hX : gz_C cS X G cX5_along 6 RX5 4 85) {c0 : Nat} {x1 : Int32} (hs_c0 : cSt c0 = true) {m : gM} {z : (Int32 × gM)} (h : cf_X5_along c0 x1 m = some z) (hk : (fun z : (Int32 × gM) => gz_kI cS X G 6 (0, 0) cX5_along z.2 z.1) z) : gz_V cS X G 6 (0, 0) m 0 [(0, .ref (gz_ad G c0)), (1, .int x1)] [] := by
  unfold cf_X5_along at h
  refine gz_iconst (pc := 0) (v := (1 : Int32)) hX dX5_along_0 (by decide) ?_
  refine gz_iload_n (pc := 1) hX dX5_along_1 rfl 1 rfl ?_
  refine gz_ishl (pc := 2) hX dX5_along_2 ?_
  obtain ⟨y1, ey1, h⟩ := gz_lt h
  refine gz_topi ey1 ?_
  refine gz_istore_n (pc := 3) (lw := [(2, .int y1), (0, .ref (gz_ad G c0)), (1, .int x1)]) hX dX5_along_3 rfl (by decide) rfl ?_
  refine gz_iconst (pc := 4) (v := (1 : Int32)) hX dX5_along_4 (by decide) ?_
  refine gz_istore_n (pc := 5) (lw := [(3, .int (1 : Int32)), (2, .int y1), (0, .ref (gz_ad G c0)), (1, .int x1)]) hX dX5_along_5 rfl (by decide) rfl ?_
  refine gz_sub (lw := [(0, .ref (gz_ad G c0)), (1, .int x1), (2, .int y1), (3, .int (1 : Int32))]) [2, 3, 1, 0] rfl ?_
  exact wl_X5_along_6 hX hs_c0 h hk
theorem ct_X5_along {G : gz_G} {l : Launch} {c0 : Nat} {x1 : Int32} (hs_c0 : cSt c0 = true) {m m9 : gM} {r : Int32} (h : cf_X5_along c0 x1 m = some (r, m9)) : gz_Met cS G l yX5_along cX5_along 6 (some .int) (mRm 4 85) [.ref (gz_ad G c0), .int x1] m m9 (some (.int r)) :=
  gz_ofI (by decide +kernel) (Nat.le_of_ble_eq_true rfl) fun X _ hX hk => wm_X5_along hX hs_c0 h hk
theorem cc_X5_156 {X : gz_X} {G : gz_G} {cc : ByteArray} {nL fr lo pc : Nat} {rem : Nat × Nat} {lv : List (Nat × Value)} {rest st0 : List Value} (hX : gz_C cS X G cc nL RX5 fr lo) {c0 : Nat} {x1 : Int32} {m m9 : gM} (hK : clc m.1 m.2.1 m.2.2.2.2.1 → m.1 c0 = 5 + 1) (hs_c0 : cSt c0 = true) {r : Int32} (h : cf_X5_along c0 x1 m = some (r, m9)) (hroom : 4 + 1 ≤ fr ∧ 8 + (6 + 11) + 85 ≤ lo) (hst : st0 = [.int x1, .ref (gz_ad G c0)] ++ rest) (hW : (rest.map fun v => v.category).sum ≤ 8) (hd : decode cc pc = .ok (.invokevirtual 156, 3)) (kk : gz_V cS X G nL rem m9 (pc + 3) lv (.int r :: rest)) : gz_V cS X G nL rem m pc lv st0 :=
  gz_callV2 hX cs_E (As := [.int x1]) (rest := rest) (q := (RX5, TX5, 10)) (ci := 5) (c := c0) (ct_X5_along (l := X.2.1) hs_c0 h) (lw_V q1576 q1444 q1445 q178 q1446) (n := 1) (by decide +kernel) hroom rfl rfl (by decide) hK hst hW hd (rem := rem) kk
/-! FirstSnuffer$State.putsOut(I)I -/
def mP_X5_putsOut_17 (X : gz_X) (G : gz_G) (c0 : Nat) (q : (Int32 × Int32 × Int32 × gM)) : Prop := gz_V cS X G 5 (0, 0) q.2.2.2 17 [(0, .ref (gz_ad G c0)), (2, .int q.1), (3, .int q.2.1), (4, .int q.2.2.1)] []
noncomputable def mj_X5_putsOut_60 (c0 : Nat) (x2 : Int32) (x3 : Int32) (x4 : Int32) (m : gM) : Option ((Int32 × Int32 × Int32 × gM) ⊕ (Int32 × gM)) :=
  gz_let (x4 + (1 : Int32)) fun y1 => some (Sum.inl (x2, x3, y1, m))
theorem wb_X5_putsOut_60 {X : gz_X} {G : gz_G} (hX : gz_C cS X G cX5_putsOut 5 RX5 5 110) {c0 : Nat} {x2 : Int32} {x3 : Int32} {x4 : Int32} (hs_c0 : cSt c0 = true) {m : gM} {z : ((Int32 × Int32 × Int32 × gM) ⊕ (Int32 × gM))} (h : mj_X5_putsOut_60 c0 x2 x3 x4 m = some z) (hk : (Sum.elim (mP_X5_putsOut_17 X G c0) (fun z : (Int32 × gM) => gz_kI cS X G 5 (0, 0) cX5_putsOut z.2 z.1)) z) : gz_V cS X G 5 (0, 0) m 60 [(0, .ref (gz_ad G c0)), (2, .int x2), (3, .int x3), (4, .int x4)] [] := by
  unfold mj_X5_putsOut_60 at h
  obtain ⟨y1, ey1, h⟩ := gz_lt h
  refine gz_iinc (pc := 60) (v := y1) (lw := [(4, .int y1), (0, .ref (gz_ad G c0)), (2, .int x2), (3, .int x3)]) hX dX5_putsOut_60 (k := 3) rfl (by rw [ey1]; rfl) (by decide) rfl ?_
  refine gz_goto (pc := 63) (tgt := 17) hX dX5_putsOut_63 (by decide) ?_
  refine gz_sub (lw := [(0, .ref (gz_ad G c0)), (2, .int x2), (3, .int x3), (4, .int y1)]) [1, 2, 3, 0] rfl ?_
  obtain rfl := Option.some.inj h
  exact hk
noncomputable def mb_X5_putsOut_17 (c0 : Nat) (x2 : Int32) (x3 : Int32) (x4 : Int32) (m : gM) : Option ((Int32 × Int32 × Int32 × gM) ⊕ (Int32 × gM)) :=
  ((cf_X0_things m).bind fun (r1, m2) => (if r1 ≤ x4 then some (Sum.inr (x3, m2)) else ((cf_X0_has x2 x4 m2).bind fun (r5, m6) => (if r5 = (0 : Int32) then (mj_X5_putsOut_60 c0 x2 x3 x4 m6) else ((cf_X5_isLit c0 x4 m6).bind fun (r9, m10) => (if r9 = (0 : Int32) then (mj_X5_putsOut_60 c0 x2 x3 x4 m10) else ((cf_X5_goesOut c0 x4 (2 : Int32) m10).bind fun (_, m14) => gz_let (x3 + (1 : Int32)) fun y16 => (mj_X5_putsOut_60 c0 x2 y16 x4 m14))))))))
theorem wb_X5_putsOut_17 {X : gz_X} {G : gz_G} (hX : gz_C cS X G cX5_putsOut 5 RX5 5 110) {c0 : Nat} {x2 : Int32} {x3 : Int32} {x4 : Int32} (hs_c0 : cSt c0 = true) {m : gM} {z : ((Int32 × Int32 × Int32 × gM) ⊕ (Int32 × gM))} (h : mb_X5_putsOut_17 c0 x2 x3 x4 m = some z) (hk : (Sum.elim (mP_X5_putsOut_17 X G c0) (fun z : (Int32 × gM) => gz_kI cS X G 5 (0, 0) cX5_putsOut z.2 z.1)) z) : gz_V cS X G 5 (0, 0) m 17 [(0, .ref (gz_ad G c0)), (2, .int x2), (3, .int x3), (4, .int x4)] [] := by
  unfold mb_X5_putsOut_17 at h
  refine gz_iload (pc := 17) hX dX5_putsOut_17 3 rfl ?_
  refine gz_aload_n (pc := 19) hX dX5_putsOut_19 rfl 0 rfl ?_
  refine cg_X5_3_5 (pc := 20) hX (c := c0) (v := .ref (gz_ad G 1000)) (fun h => cz_k h (st_k hs_c0)) (fun h => cz_f h (st_0 hs_c0) (st_f9 hs_c0) (by decide) rfl) dX5_putsOut_20 ?_
  obtain ⟨⟨r1, m2⟩, c3, h⟩ := gz_bd h
  refine cc_X5_59 (pc := 23) hX (fun h => cz_k h rfl) c3 ⟨Nat.le_of_ble_eq_true rfl, Nat.le_of_ble_eq_true rfl⟩ (rest := [.int x4]) rfl (Nat.le_of_ble_eq_true rfl) dX5_putsOut_23 ?_
  refine gz_icmp_ge (pc := 26) (tgt := 66) hX dX5_putsOut_26 (by decide) (fun g4 => ?_) (fun g4 => ?_)
  · replace h := gz_it' g4 h
    refine gz_iload_n (pc := 66) hX dX5_putsOut_66 rfl 2 rfl ?_
    obtain rfl := Option.some.inj h
    exact hk _ _ dX5_putsOut_67
  · replace h := gz_if' g4 h
    refine gz_iload_n (pc := 29) hX dX5_putsOut_29 rfl 1 rfl ?_
    refine gz_iload (pc := 30) hX dX5_putsOut_30 3 rfl ?_
    obtain ⟨⟨r5, m6⟩, c7, h⟩ := gz_bd h
    refine cc_X5_140 (pc := 32) hX c7 ⟨Nat.le_of_ble_eq_true rfl, Nat.le_of_ble_eq_true rfl⟩ (rest := []) rfl (Nat.le_of_ble_eq_true rfl) dX5_putsOut_32 ?_
    refine gz_if_eq (pc := 35) (tgt := 60) hX dX5_putsOut_35 (by decide) (fun g8 => ?_) (fun g8 => ?_)
    · replace h := gz_it' g8 h
      exact wb_X5_putsOut_60 hX hs_c0 h hk
    · replace h := gz_if' g8 h
      refine gz_aload_n (pc := 38) hX dX5_putsOut_38 rfl 0 rfl ?_
      refine gz_iload (pc := 39) hX dX5_putsOut_39 3 rfl ?_
      obtain ⟨⟨r9, m10⟩, c11, h⟩ := gz_bd h
      refine cc_X5_73 (pc := 41) hX (fun h => cz_k h (st_k hs_c0)) hs_c0 c11 ⟨Nat.le_of_ble_eq_true rfl, Nat.le_of_ble_eq_true rfl⟩ (rest := []) rfl (Nat.le_of_ble_eq_true rfl) dX5_putsOut_41 ?_
      refine gz_if_ne (pc := 44) (tgt := 50) hX dX5_putsOut_44 (by decide) (fun g12 => ?_) (fun g12 => ?_)
      · replace h := gz_if' g12 h
        refine gz_aload_n (pc := 50) hX dX5_putsOut_50 rfl 0 rfl ?_
        refine gz_iload (pc := 51) hX dX5_putsOut_51 3 rfl ?_
        refine gz_iconst (pc := 53) (v := (2 : Int32)) hX dX5_putsOut_53 (by decide) ?_
        obtain ⟨⟨⟨⟩, m14⟩, c15, h⟩ := gz_bd h
        refine cc_X5_134 (pc := 54) hX (fun h => cz_k h (st_k hs_c0)) hs_c0 c15 ⟨Nat.le_of_ble_eq_true rfl, Nat.le_of_ble_eq_true rfl⟩ (rest := []) rfl (Nat.le_of_ble_eq_true rfl) dX5_putsOut_54 ?_
        obtain ⟨y16, ey16, h⟩ := gz_lt h
        refine gz_iinc (pc := 57) (v := y16) (lw := [(3, .int y16), (0, .ref (gz_ad G c0)), (2, .int x2), (4, .int x4)]) hX dX5_putsOut_57 (k := 2) rfl (by rw [ey16]; rfl) (by decide) rfl ?_
        refine gz_sub (lw := [(0, .ref (gz_ad G c0)), (2, .int x2), (3, .int y16), (4, .int x4)]) [1, 2, 0, 3] rfl ?_
        exact wb_X5_putsOut_60 hX hs_c0 h hk
      · replace h := gz_it' g12 h
        refine gz_goto (pc := 47) (tgt := 60) hX dX5_putsOut_47 (by decide) ?_
        exact wb_X5_putsOut_60 hX hs_c0 h hk
noncomputable def ml_X5_putsOut_17 (c0 : Nat) (x2 : Int32) (x3 : Int32) (x4 : Int32) (m : gM) : Option (Int32 × gM) := gz_loop (fun q : (Int32 × Int32 × Int32 × gM) => mb_X5_putsOut_17 c0 q.1 q.2.1 q.2.2.1 q.2.2.2) (x2, x3, x4, m)
theorem wl_X5_putsOut_17 {X : gz_X} {G : gz_G} (hX : gz_C cS X G cX5_putsOut 5 RX5 5 110) {c0 : Nat} {x2 : Int32} {x3 : Int32} {x4 : Int32} (hs_c0 : cSt c0 = true) {m : gM} {z : (Int32 × gM)} (h : ml_X5_putsOut_17 c0 x2 x3 x4 m = some z) (hk : (fun z : (Int32 × gM) => gz_kI cS X G 5 (0, 0) cX5_putsOut z.2 z.1) z) : gz_V cS X G 5 (0, 0) m 17 [(0, .ref (gz_ad G c0)), (2, .int x2), (3, .int x3), (4, .int x4)] [] := by
  have hp : mP_X5_putsOut_17 X G c0 (x2, x3, x4, m) := gz_loop_ind (fun q z hz hkz => wb_X5_putsOut_17 hX hs_c0 hz hkz) h hk
  exact hp
noncomputable def cf_X5_putsOut (c0 : Nat) (x1 : Int32) (m : gM) : Option (Int32 × gM) :=
  ((cf_X5_along c0 x1 m).bind fun (r1, m2) => ((cf_X5_goesOut c0 x1 (1 : Int32) m2).bind fun (_, m5) => (ml_X5_putsOut_17 c0 r1 (1 : Int32) (0 : Int32) m5)))
theorem wm_X5_putsOut {X : gz_X} {G : gz_G} (hX : gz_C cS X G cX5_putsOut 5 RX5 5 110) {c0 : Nat} {x1 : Int32} (hs_c0 : cSt c0 = true) {m : gM} {z : (Int32 × gM)} (h : cf_X5_putsOut c0 x1 m = some z) (hk : (fun z : (Int32 × gM) => gz_kI cS X G 5 (0, 0) cX5_putsOut z.2 z.1) z) : gz_V cS X G 5 (0, 0) m 0 [(0, .ref (gz_ad G c0)), (1, .int x1)] [] := by
  unfold cf_X5_putsOut at h
  refine gz_aload_n (pc := 0) hX dX5_putsOut_0 rfl 0 rfl ?_
  refine gz_iload_n (pc := 1) hX dX5_putsOut_1 rfl 1 rfl ?_
  obtain ⟨⟨r1, m2⟩, c3, h⟩ := gz_bd h
  refine cc_X5_156 (pc := 2) hX (fun h => cz_k h (st_k hs_c0)) hs_c0 c3 ⟨Nat.le_of_ble_eq_true rfl, Nat.le_of_ble_eq_true rfl⟩ (rest := []) rfl (Nat.le_of_ble_eq_true rfl) dX5_putsOut_2 ?_
  refine gz_istore_n (pc := 5) (lw := [(2, .int r1), (0, .ref (gz_ad G c0)), (1, .int x1)]) hX dX5_putsOut_5 rfl (by decide) rfl ?_
  refine gz_aload_n (pc := 6) hX dX5_putsOut_6 rfl 1 rfl ?_
  refine gz_iload_n (pc := 7) hX dX5_putsOut_7 rfl 2 rfl ?_
  refine gz_iconst (pc := 8) (v := (1 : Int32)) hX dX5_putsOut_8 (by decide) ?_
  obtain ⟨⟨⟨⟩, m5⟩, c6, h⟩ := gz_bd h
  refine cc_X5_134 (pc := 9) hX (fun h => cz_k h (st_k hs_c0)) hs_c0 c6 ⟨Nat.le_of_ble_eq_true rfl, Nat.le_of_ble_eq_true rfl⟩ (rest := []) rfl (Nat.le_of_ble_eq_true rfl) dX5_putsOut_9 ?_
  refine gz_iconst (pc := 12) (v := (1 : Int32)) hX dX5_putsOut_12 (by decide) ?_
  refine gz_istore_n (pc := 13) (lw := [(3, .int (1 : Int32)), (2, .int r1), (0, .ref (gz_ad G c0)), (1, .int x1)]) hX dX5_putsOut_13 rfl (by decide) rfl ?_
  refine gz_iconst (pc := 14) (v := (0 : Int32)) hX dX5_putsOut_14 (by decide) ?_
  refine gz_istore (pc := 15) (lw := [(4, .int (0 : Int32)), (3, .int (1 : Int32)), (2, .int r1), (0, .ref (gz_ad G c0)), (1, .int x1)]) hX dX5_putsOut_15 (by decide) rfl ?_
  refine gz_sub (lw := [(0, .ref (gz_ad G c0)), (2, .int r1), (3, .int (1 : Int32)), (4, .int (0 : Int32))]) [3, 2, 1, 0] rfl ?_
  exact wl_X5_putsOut_17 hX hs_c0 h hk
theorem ct_X5_putsOut {G : gz_G} {l : Launch} {c0 : Nat} {x1 : Int32} (hs_c0 : cSt c0 = true) {m m9 : gM} {r : Int32} (h : cf_X5_putsOut c0 x1 m = some (r, m9)) : gz_Met cS G l yX5_putsOut cX5_putsOut 5 (some .int) (mRm 5 110) [.ref (gz_ad G c0), .int x1] m m9 (some (.int r)) :=
  gz_ofI (by decide +kernel) (Nat.le_of_ble_eq_true rfl) fun X _ hX hk => wm_X5_putsOut hX hs_c0 h hk
