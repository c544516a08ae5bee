set_option maxRecDepth 100000
/-- what the two oracles tell is what calls through Value and Test do -/
def cO (G : gz_G) (l : Launch) (f n : Nat) (oA : Nat → Nat → gM → Option (Int64 × gM)) (oT : Nat → Nat → gM → Option (Int32 × gM)) : Prop :=
  (∀ (v mo : Nat) (m : gM) (r : Int64) (m9 : gM), oA v mo m = some (r, m9) → (m.1 v = 13 ∧ gz_Met cS G l yX14_at cX14_at 2 (some .long) (mRm f n) [.ref (gz_ad G v), .ref (gz_ad G mo)] m m9 (some (.long r))) ∨ (m.1 v = 14 ∧ gz_Met cS G l yX15_at cX15_at 2 (some .long) (mRm f n) [.ref (gz_ad G v), .ref (gz_ad G mo)] m m9 (some (.long r))) ∨ (m.1 v = 12 ∧ gz_Met cS G l yX13_at cX13_at 6 (some .long) (mRm f n) [.ref (gz_ad G v), .ref (gz_ad G mo)] m m9 (some (.long r))) ∨ (m.1 v = 11 ∧ gz_Met cS G l yX12_at cX12_at 5 (some .long) (mRm f n) [.ref (gz_ad G v), .ref (gz_ad G mo)] m m9 (some (.long r))) ∨ (m.1 v = 15 ∧ gz_Met cS G l yX16_at cX16_at 2 (some .long) (mRm f n) [.ref (gz_ad G v), .ref (gz_ad G mo)] m m9 (some (.long r)))) ∧
  ∀ (v mo : Nat) (m : gM) (r : Int32) (m9 : gM), oT v mo m = some (r, m9) → (m.1 v = 18 ∧ gz_Met cS G l yX20_holds cX20_holds 2 (some .boolean) (mRm f n) [.ref (gz_ad G v), .ref (gz_ad G mo)] m m9 (some (.int r))) ∨ (m.1 v = 19 ∧ gz_Met cS G l yX21_holds cX21_holds 6 (some .boolean) (mRm f n) [.ref (gz_ad G v), .ref (gz_ad G mo)] m m9 (some (.int r))) ∨ (m.1 v = 17 ∧ gz_Met cS G l yX19_holds cX19_holds 2 (some .boolean) (mRm f n) [.ref (gz_ad G v), .ref (gz_ad G mo)] m m9 (some (.int r))) ∨ (m.1 v = 16 ∧ gz_Met cS G l yX18_holds cX18_holds 3 (some .boolean) (mRm f n) [.ref (gz_ad G v), .ref (gz_ad G mo)] m m9 (some (.int r)))
theorem gz_C.mono {Z : gz_S} {X : gz_X} {G : gz_G} {cc : ByteArray} {nL : Nat} {own : String} {f n fr lo : Nat} (h : gz_C Z X G cc nL own f n) (h1 : fr ≤ f) (h2 : lo ≤ n) : gz_C Z X G cc nL own fr lo := ⟨h.1, h.2.1, h.2.2.1, h.2.2.2.1, h.2.2.2.2.1, h.2.2.2.2.2.1, Nat.le_trans h1 h.2.2.2.2.2.2.1, Nat.le_trans h2 h.2.2.2.2.2.2.2⟩
theorem gz_rfc (ad : Nat → Nat) (r : Nat) : gz_rf ad r = .null ∨ ∃ a, gz_rf ad r = .ref a := by
  unfold gz_rf
  split
  · exact Or.inl rfl
  · exact Or.inr ⟨_, rfl⟩
/-- what an oracle for the reader's atom tells is what its call does -/
def cOA (G : gz_G) (l : Launch) (f n : Nat) (oR : gM → Option (Option Nat × gM)) : Prop := ∀ (m m9 : gM) (o : Option Nat), oR m = some (o, m9) → gx_Met cS G l yX2_atom cX2_atom 3 (some (.object "FirstSnuffer$Value")) (mRc f n (gZ m9 - gZ m) (gW m9 - gW m)) [.ref (gz_ad G 1011)] m m9 (o.map (fun r => some (.ref (gz_ad G r))))
/-- what an oracle for the reader's fact tells is what its call does -/
def cOF (G : gz_G) (l : Launch) (f n : Nat) (oR : gM → Option (Option Nat × gM)) : Prop := ∀ (m m9 : gM) (o : Option Nat), oR m = some (o, m9) → gx_Met cS G l yX2_fact cX2_fact 3 (some (.object "FirstSnuffer$Test")) (mRc f n (gZ m9 - gZ m) (gW m9 - gW m)) [.ref (gz_ad G 1011)] m m9 (o.map (fun r => some (.ref (gz_ad G r))))
theorem cg_X14_7_12 {X : gz_X} {G : gz_G} {cc : ByteArray} {nL fr lo pc : Nat} {rem : Nat × Nat} {m : gM} {lv : List (Nat × Value)} {st : List Value} (hX : gz_C cS X G cc nL RX14 fr lo) {c : Nat} {v : Value} (hK : clc m.1 m.2.1 m.2.2.2.2.1 → m.1 c = 12 + 1) (hv : clc m.1 m.2.1 m.2.2.2.2.1 → gz_u (gz_ad G) m (ftC 12 0) c 0 = v) (hd : decode cc pc = .ok (.getfield 7, 3)) (kk : gz_V cS X G nL rem m (pc + 3) lv (v :: st)) : gz_V cS X G nL rem m pc lv (.ref (gz_ad G c) :: st) :=
  gz_getf hX (C := RX14) (T := TX14) (N := 1) (ci := 12) (k := 0) rfl (by decide) in_X14 (by decide) (Or.inl (hX.2.2.2.2.1 _ q1117)) hd hK hv kk
/-! FirstSnuffer$Fixed.at(LFirstSnuffer$Moment;)J -/
noncomputable def cf_X14_at (c0 : Nat) (c1 : Nat) (m : gM) : Option (Int64 × gM) :=
  (if gK m c0 = 13 then some ((gL m c0 0), m) else none)
theorem wm_X14_at {X : gz_X} {G : gz_G} (hX : gz_C cS X G cX14_at 2 RX14 0 0) {c0 : Nat} {c1 : Nat}  {m : gM} {z : (Int64 × gM)} (h : cf_X14_at c0 c1 m = some z) (hk : (fun z : (Int64 × gM) => gz_kL cS X G 2 (0, 0) cX14_at z.2 z.1) z) : gz_V cS X G 2 (0, 0) m 0 [(0, .ref (gz_ad G c0)), (1, .ref (gz_ad G c1))] [] := by
  unfold cf_X14_at at h
  refine gz_aload_n (pc := 0) hX dX14_at_0 rfl 0 rfl ?_
  obtain ⟨g1, h⟩ := gz_gu h
  refine cg_X14_7_12 (pc := 1) hX (c := c0) (v := .long (gL m c0 0)) (fun _ => g1) (fun _ => rfl) dX14_at_1 ?_
  obtain rfl := Option.some.inj h
  exact hk _ _ dX14_at_4
theorem ct_X14_at {G : gz_G} {l : Launch} {c0 : Nat} {c1 : Nat}  {m m9 : gM} {r : Int64} (h : cf_X14_at c0 c1 m = some (r, m9)) : gz_Met cS G l yX14_at cX14_at 2 (some .long) (mRm 0 0) [.ref (gz_ad G c0), .ref (gz_ad G c1)] m m9 (some (.long r)) :=
  gz_ofL (by decide +kernel) (Nat.le_of_ble_eq_true rfl) fun X _ hX hk => wm_X14_at hX h hk
theorem cg_X2_29_2 {X : gz_X} {G : gz_G} {cc : ByteArray} {nL fr lo pc : Nat} {rem : Nat × Nat} {m : gM} {lv : List (Nat × Value)} {st : List Value} (hX : gz_C cS X G cc nL RX2 fr lo) {c : Nat} {v : Value} (hK : clc m.1 m.2.1 m.2.2.2.2.1 → m.1 c = 2 + 1) (hv : clc m.1 m.2.1 m.2.2.2.2.1 → gz_u (gz_ad G) m (ftC 2 1) c 1 = v) (hd : decode cc pc = .ok (.getfield 29, 3)) (kk : gz_V cS X G nL rem m (pc + 3) lv (v :: st)) : gz_V cS X G nL rem m pc lv (.ref (gz_ad G c) :: st) :=
  gz_getf hX (C := RX2) (T := TX2) (N := 8) (ci := 2) (k := 1) rfl (by decide) in_X2 (by decide) (Or.inl (hX.2.2.2.2.1 _ q371)) hd hK hv kk
theorem cg_X2_3_2 {X : gz_X} {G : gz_G} {cc : ByteArray} {nL fr lo pc : Nat} {rem : Nat × Nat} {m : gM} {lv : List (Nat × Value)} {st : List Value} (hX : gz_C cS X G cc nL RX2 fr lo) {c : Nat} {v : Value} (hK : clc m.1 m.2.1 m.2.2.2.2.1 → m.1 c = 2 + 1) (hv : clc m.1 m.2.1 m.2.2.2.2.1 → gz_u (gz_ad G) m (ftC 2 7) c 7 = v) (hd : decode cc pc = .ok (.getfield 3, 3)) (kk : gz_V cS X G nL rem m (pc + 3) lv (v :: st)) : gz_V cS X G nL rem m pc lv (.ref (gz_ad G c) :: st) :=
  gz_getf hX (C := RX2) (T := TX2) (N := 8) (ci := 2) (k := 7) rfl (by decide) in_X2 (by decide) (Or.inl (hX.2.2.2.2.1 _ q377)) hd hK hv kk
theorem cg_X2_32_0 {X : gz_X} {G : gz_G} {cc : ByteArray} {nL fr lo pc : Nat} {rem : Nat × Nat} {m : gM} {lv : List (Nat × Value)} {st : List Value} (hX : gz_C cS X G cc nL RX2 fr lo) {c : Nat} {v : Value} (hK : clc m.1 m.2.1 m.2.2.2.2.1 → m.1 c = 0 + 1) (hv : clc m.1 m.2.1 m.2.2.2.2.1 → gz_u (gz_ad G) m (ftC 0 1) c 1 = v) (hd : decode cc pc = .ok (.getfield 32, 3)) (kk : gz_V cS X G nL rem m (pc + 3) lv (v :: st)) : gz_V cS X G nL rem m pc lv (.ref (gz_ad G c) :: st) :=
  gz_getf hX (C := RX0) (T := TX0) (N := 28) (ci := 0) (k := 1) rfl (by decide) in_X0 (by decide) (Or.inr ⟨_, va_Nw.use rfl (cz_n (Z := cS) hX q501 rfl)⟩) hd hK hv kk
/-! FirstSnuffer$Reader.byteAt(I)I -/
noncomputable def mj_X2_byteAt_28  (m : gM) : Option (Int32 × gM) :=
  some ((-1 : Int32), m)
theorem wb_X2_byteAt_28 {X : gz_X} {G : gz_G} (hX : gz_C cS X G cX2_byteAt 2 RX2 0 0)   {m : gM} {z : (Int32 × gM)} (h : mj_X2_byteAt_28  m = some z) (hk : (fun z : (Int32 × gM) => gz_kI cS X G 2 (0, 0) cX2_byteAt z.2 z.1) z) : gz_V cS X G 2 (0, 0) m 28 [(0, .ref (gz_ad G 1011))] [] := by
  unfold mj_X2_byteAt_28 at h
  refine gz_iconst (pc := 28) (v := (-1 : Int32)) hX dX2_byteAt_28 (by decide) ?_
  obtain rfl := Option.some.inj h
  exact hk _ _ dX2_byteAt_29
noncomputable def cf_X2_byteAt (x1 : Int32) (m : gM) : Option (Int32 × gM) :=
  (if x1 < (0 : Int32) then (mj_X2_byteAt_28  m) else (if (gI m 1011 1) ≤ x1 then (mj_X2_byteAt_28  m) else (if gz_in x1 (1600) then some (((gI m 1010 (gz_ix x1)) &&& (255 : Int32)), m) else none)))
theorem wm_X2_byteAt {X : gz_X} {G : gz_G} (hX : gz_C cS X G cX2_byteAt 2 RX2 0 0) {x1 : Int32}  {m : gM} {z : (Int32 × gM)} (h : cf_X2_byteAt x1 m = some z) (hk : (fun z : (Int32 × gM) => gz_kI cS X G 2 (0, 0) cX2_byteAt z.2 z.1) z) : gz_V cS X G 2 (0, 0) m 0 [(0, .ref (gz_ad G 1011)), (1, .int x1)] [] := by
  unfold cf_X2_byteAt at h
  refine gz_iload_n (pc := 0) hX dX2_byteAt_0 rfl 1 rfl ?_
  refine gz_if_lt (pc := 1) (tgt := 28) hX dX2_byteAt_1 (by decide) (fun g1 => ?_) (fun g1 => ?_)
  · replace h := gz_it' g1 h
    refine gz_sub (lw := [(0, .ref (gz_ad G 1011))]) [0] rfl ?_
    exact wb_X2_byteAt_28 hX h hk
  · replace h := gz_if' g1 h
    refine gz_iload_n (pc := 4) hX dX2_byteAt_4 rfl 1 rfl ?_
    refine gz_aload_n (pc := 5) hX dX2_byteAt_5 rfl 0 rfl ?_
    refine cg_X2_29_2 (pc := 6) hX (c := 1011) (v := .int (gI m 1011 1)) (fun h => cz_k h rfl) (fun _ => rfl) dX2_byteAt_6 ?_
    refine gz_icmp_ge (pc := 9) (tgt := 28) hX dX2_byteAt_9 (by decide) (fun g2 => ?_) (fun g2 => ?_)
    · replace h := gz_it' g2 h
      refine gz_sub (lw := [(0, .ref (gz_ad G 1011))]) [0] rfl ?_
      exact wb_X2_byteAt_28 hX h hk
    · replace h := gz_if' g2 h
      refine gz_aload_n (pc := 12) hX dX2_byteAt_12 rfl 0 rfl ?_
      refine cg_X2_3_2 (pc := 13) hX (c := 1011) (v := .ref (gz_ad G 1000)) (fun h => cz_k h rfl) (fun h => cz_f h (by decide) rfl (by decide) rfl) dX2_byteAt_13 ?_
      refine cg_X2_32_0 (pc := 16) hX (c := 1000) (v := .ref (gz_ad G 1010)) (fun h => cz_k h rfl) (fun h => cz_f h (by decide) rfl (by decide) rfl) dX2_byteAt_16 ?_
      refine gz_iload_n (pc := 19) hX dX2_byteAt_19 rfl 1 rfl ?_
      obtain ⟨g3, h⟩ := gz_gu h
      refine gz_bald2 (pc := 20) (c := 1010) (n := 1600) hX rfl (fun h => cz_a h rfl (by decide) rfl) g3 dX2_byteAt_20 ?_
      refine gz_sipush (pc := 21) (v := (255 : Int32)) hX dX2_byteAt_21 (by decide) ?_
      refine gz_iand (pc := 24) hX dX2_byteAt_24 ?_
      refine gz_goto (pc := 25) (tgt := 29) hX dX2_byteAt_25 (by decide) ?_
      obtain rfl := Option.some.inj h
      exact hk _ _ dX2_byteAt_29
theorem ct_X2_byteAt {G : gz_G} {l : Launch} {x1 : Int32}  {m m9 : gM} {r : Int32} (h : cf_X2_byteAt x1 m = some (r, m9)) : gz_Met cS G l yX2_byteAt cX2_byteAt 2 (some .int) (mRm 0 0) [.ref (gz_ad G 1011), .int x1] m m9 (some (.int r)) :=
  gz_ofI (by decide +kernel) (Nat.le_of_ble_eq_true rfl) fun X _ hX hk => wm_X2_byteAt hX h hk
theorem cg_X2_18_2 {X : gz_X} {G : gz_G} {cc : ByteArray} {nL fr lo pc : Nat} {rem : Nat × Nat} {m : gM} {lv : List (Nat × Value)} {st : List Value} (hX : gz_C cS X G cc nL RX2 fr lo) {c : Nat} {v : Value} (hK : clc m.1 m.2.1 m.2.2.2.2.1 → m.1 c = 2 + 1) (hv : clc m.1 m.2.1 m.2.2.2.2.1 → gz_u (gz_ad G) m (ftC 2 0) c 0 = v) (hd : decode cc pc = .ok (.getfield 18, 3)) (kk : gz_V cS X G nL rem m (pc + 3) lv (v :: st)) : gz_V cS X G nL rem m pc lv (.ref (gz_ad G c) :: st) :=
  gz_getf hX (C := RX2) (T := TX2) (N := 8) (ci := 2) (k := 0) rfl (by decide) in_X2 (by decide) (Or.inl (hX.2.2.2.2.1 _ q370)) hd hK hv kk
theorem cp_X2_22_3 {X : gz_X} {G : gz_G} {cc : ByteArray} {nL fr lo pc : Nat} {rem : Nat × Nat} {m m9 : gM} {lv : List (Nat × Value)} {st : List Value} (hX : gz_C cS X G cc nL RX2 fr lo) {c : Nat} {x : Int32} (hK : clc m.1 m.2.1 m.2.2.2.2.1 → m.1 c = 3 + 1) (hw : 1000 ≤ c) (hd : decode cc pc = .ok (.putfield 22, 3)) (hm : m9 = gz_sI m c 6 x) (kk : gz_V cS X G nL rem m9 (pc + 3) lv st) : gz_V cS X G nL rem m pc lv (.int x :: .ref (gz_ad G c) :: st) := by
  subst hm
  exact gz_putf hX (C := RX3) (T := TX3) (N := 8) (ci := 3) (k := 6) (ty := .int) (μ' := gz_sI m c 6 x) rfl (by decide) in_X3 tyX3 tyX3_ok nmX3 (by decide) (Or.inr ⟨_, va_Nw.use rfl (cz_n (Z := cS) hX q348 rfl)⟩) rfl rfl rfl rfl hd hK hw rfl rfl rfl (fun d tc j h => gz_sI_o d tc j h) (gz_sI_v (fun j => ftC 3 j) rfl) (fun h => h) kk
theorem cp_X2_26_3 {X : gz_X} {G : gz_G} {cc : ByteArray} {nL fr lo pc : Nat} {rem : Nat × Nat} {m m9 : gM} {lv : List (Nat × Value)} {st : List Value} (hX : gz_C cS X G cc nL RX2 fr lo) {c : Nat} {x : Int32} (hK : clc m.1 m.2.1 m.2.2.2.2.1 → m.1 c = 3 + 1) (hw : 1000 ≤ c) (hd : decode cc pc = .ok (.putfield 26, 3)) (hm : m9 = gz_sI m c 7 x) (kk : gz_V cS X G nL rem m9 (pc + 3) lv st) : gz_V cS X G nL rem m pc lv (.int x :: .ref (gz_ad G c) :: st) := by
  subst hm
  exact gz_putf hX (C := RX3) (T := TX3) (N := 8) (ci := 3) (k := 7) (ty := .int) (μ' := gz_sI m c 7 x) rfl (by decide) in_X3 tyX3 tyX3_ok nmX3 (by decide) (Or.inr ⟨_, va_Nw.use rfl (cz_n (Z := cS) hX q350 rfl)⟩) rfl rfl rfl rfl hd hK hw rfl rfl rfl (fun d tc j h => gz_sI_o d tc j h) (gz_sI_v (fun j => ftC 3 j) rfl) (fun h => h) kk
/-! FirstSnuffer$Reader.wrong(II)LFirstSnuffer$Fault; -/
noncomputable def cf_X2_wrong (x1 : Int32) (x2 : Int32) (m : gM) : Option (Nat × gM) :=
  gz_let (gz_sI m 1012 6 x1) fun m1 => gz_let (gz_sI m1 1012 7 x2) fun m2 => some (1012, m2)
theorem wm_X2_wrong {X : gz_X} {G : gz_G} (hX : gz_C cS X G cX2_wrong 3 RX2 0 0) {x1 : Int32} {x2 : Int32}  {m : gM} {z : (Nat × gM)} (h : cf_X2_wrong x1 x2 m = some z) (hk : (fun z : (Nat × gM) => gz_kR cS X G 3 (0, 0) cX2_wrong z.2 z.1) z) : gz_V cS X G 3 (0, 0) m 0 [(0, .ref (gz_ad G 1011)), (1, .int x1), (2, .int x2)] [] := by
  unfold cf_X2_wrong at h
  refine gz_aload_n (pc := 0) hX dX2_wrong_0 rfl 0 rfl ?_
  refine cg_X2_18_2 (pc := 1) hX (c := 1011) (v := .ref (gz_ad G 1012)) (fun h => cz_k h rfl) (fun h => cz_f h (by decide) rfl (by decide) rfl) dX2_wrong_1 ?_
  refine gz_iload_n (pc := 4) hX dX2_wrong_4 rfl 1 rfl ?_
  obtain ⟨m1, em1, h⟩ := gz_lt h
  refine cp_X2_22_3 (pc := 5) hX (c := 1012) (fun h => cz_k h rfl) (Nat.le_of_ble_eq_true rfl) dX2_wrong_5 em1 ?_
  refine gz_aload_n (pc := 8) hX dX2_wrong_8 rfl 0 rfl ?_
  refine cg_X2_18_2 (pc := 9) hX (c := 1011) (v := .ref (gz_ad G 1012)) (fun h => cz_k h rfl) (fun h => cz_f h (by decide) rfl (by decide) rfl) dX2_wrong_9 ?_
  refine gz_iload_n (pc := 12) hX dX2_wrong_12 rfl 2 rfl ?_
  obtain ⟨m2, em2, h⟩ := gz_lt h
  refine cp_X2_26_3 (pc := 13) hX (c := 1012) (fun h => cz_k h rfl) (Nat.le_of_ble_eq_true rfl) dX2_wrong_13 em2 ?_
  refine gz_aload_n (pc := 16) hX dX2_wrong_16 rfl 0 rfl ?_
  refine cg_X2_18_2 (pc := 17) hX (c := 1011) (v := .ref (gz_ad G 1012)) (fun h => cz_k h rfl) (fun h => cz_f h (by decide) rfl (by decide) rfl) dX2_wrong_17 ?_
  obtain rfl := Option.some.inj h
  exact hk _ _ dX2_wrong_20
theorem ct_X2_wrong {G : gz_G} {l : Launch} {x1 : Int32} {x2 : Int32}  {m m9 : gM} {r : Nat} (h : cf_X2_wrong x1 x2 m = some (r, m9)) : gz_Met cS G l yX2_wrong cX2_wrong 3 (some (.object "FirstSnuffer$Fault")) (mRm 0 0) [.ref (gz_ad G 1011), .int x1, .int x2] m m9 (some (.ref (gz_ad G r))) :=
  gz_ofR (Or.inl ⟨_, rfl⟩) (by decide +kernel) (Nat.le_of_ble_eq_true rfl) fun X _ hX hk => wm_X2_wrong hX h hk
theorem cg_X2_119_2 {X : gz_X} {G : gz_G} {cc : ByteArray} {nL fr lo pc : Nat} {rem : Nat × Nat} {m : gM} {lv : List (Nat × Value)} {st : List Value} (hX : gz_C cS X G cc nL RX2 fr lo) {c : Nat} {v : Value} (hK : clc m.1 m.2.1 m.2.2.2.2.1 → m.1 c = 2 + 1) (hv : clc m.1 m.2.1 m.2.2.2.2.1 → gz_u (gz_ad G) m (ftC 2 4) c 4 = v) (hd : decode cc pc = .ok (.getfield 119, 3)) (kk : gz_V cS X G nL rem m (pc + 3) lv (v :: st)) : gz_V cS X G nL rem m pc lv (.ref (gz_ad G c) :: st) :=
  gz_getf hX (C := RX2) (T := TX2) (N := 8) (ci := 2) (k := 4) rfl (by decide) in_X2 (by decide) (Or.inl (hX.2.2.2.2.1 _ q374)) hd hK hv kk
theorem cp_X2_119_2 {X : gz_X} {G : gz_G} {cc : ByteArray} {nL fr lo pc : Nat} {rem : Nat × Nat} {m m9 : gM} {lv : List (Nat × Value)} {st : List Value} (hX : gz_C cS X G cc nL RX2 fr lo) {c : Nat} {x : Int32} (hK : clc m.1 m.2.1 m.2.2.2.2.1 → m.1 c = 2 + 1) (hw : 1000 ≤ c) (hd : decode cc pc = .ok (.putfield 119, 3)) (hm : m9 = gz_sI m c 4 x) (kk : gz_V cS X G nL rem m9 (pc + 3) lv st) : gz_V cS X G nL rem m pc lv (.int x :: .ref (gz_ad G c) :: st) := by
  subst hm
  exact gz_putf hX (C := RX2) (T := TX2) (N := 8) (ci := 2) (k := 4) (ty := .int) (μ' := gz_sI m c 4 x) rfl (by decide) in_X2 tyX2 tyX2_ok nmX2 (by decide) (Or.inl (hX.2.2.2.2.1 _ q374)) rfl rfl rfl rfl hd hK hw rfl rfl rfl (fun d tc j h => gz_sI_o d tc j h) (gz_sI_v (fun j => ftC 2 j) rfl) (fun h => h) kk
theorem cc_X2_47 {X : gz_X} {G : gz_G} {cc : ByteArray} {nL fr lo pc : Nat} {rem : Nat × Nat} {lv : List (Nat × Value)} {rest st0 : List Value} (hX : gz_C cS X G cc nL RX2 fr lo) {x1 : Int32} {x2 : Int32} {m m9 : gM} (hK : clc m.1 m.2.1 m.2.2.2.2.1 → m.1 1011 = 2 + 1)  {r : Nat} (h : cf_X2_wrong x1 x2 m = some (r, m9)) (hroom : 0 + 1 ≤ fr ∧ 8 + (3 + 11) + 0 ≤ lo) (hst : st0 = [.int x2, .int x1, .ref (gz_ad G 1011)] ++ rest) (hW : (rest.map fun v => v.category).sum ≤ 8) (hd : decode cc pc = .ok (.invokevirtual 47, 3)) (kk : gz_V cS X G nL rem m9 (pc + 3) lv (.ref (gz_ad G r) :: rest)) : gz_V cS X G nL rem m pc lv st0 :=
  gz_callV2 hX cs_E (As := [.int x1, .int x2]) (rest := rest) (q := (RX2, TX2, 8)) (ci := 2) (c := 1011) (ct_X2_wrong (l := X.2.1) h) (lw_V q631 q633 qs8 q172 q634) (n := 2) (by decide +kernel) hroom rfl rfl (by decide) hK hst hW hd (rem := rem) kk
/-! FirstSnuffer$Reader.opens(I)V -/
noncomputable def cf_X2_opens (x1 : Int32) (m : gM) : Option (Option Unit × gM) :=
  (if (gI m 1011 4) = (6 : Int32) then ((cf_X2_wrong (4 : Int32) x1 m).bind fun (r3, m4) => (if m4.2.2.2.2.2 = m.2.2.2.2.2 then (if r3 = 1012 then some (none, m4) else none) else none)) else gz_let (gz_sI m 1011 4 ((gI m 1011 4) + (1 : Int32))) fun m2 => some (some (), m2))
theorem wm_X2_opens {X : gz_X} {G : gz_G} {zE : Nat × Nat} (hX : gz_C cS X G cX2_opens 2 RX2 1 22) {x1 : Int32}  {m : gM} {z : (Option Unit × gM)} (h : cf_X2_opens x1 m = some z) (hk : (fun z : (Option Unit × gM) => gx_k (fun _ => gz_kVa cS X G 2 zE cX2_opens z.2) (∀ (pc : Nat) (lv : List (Nat × Value)), gz_VXa cS X G 2 zE z.2 pc lv) z.1) z) : gz_Va cS X G 2 zE m 0 [(0, .ref (gz_ad G 1011)), (1, .int x1)] [] := by
  unfold cf_X2_opens at h
  refine gz_Vs (fun _ kk => gz_aload_n (pc := 0) hX dX2_opens_0 rfl 0 rfl kk) rfl ?_
  refine gz_Vs (fun _ kk => cg_X2_119_2 (pc := 1) hX (c := 1011) (v := .int (gI m 1011 4)) (fun h => cz_k h rfl) (fun _ => rfl) dX2_opens_1 kk) rfl ?_
  refine gz_Vs (fun _ kk => gz_bipush (pc := 4) (v := (6 : Int32)) hX dX2_opens_4 (by decide) kk) rfl ?_
  refine gz_Vif (μ1 := m) (μ2 := m) (fun _ k1 k2 => gz_icmp_ne (pc := 6) (tgt := 16) hX dX2_opens_6 (by decide) k1 k2) (by first | exact Classical.em _ | exact (Classical.em _).symm) (fun g1 => ?_) (fun g1 => ?_)
  · replace h := gz_if' g1 h
    refine gz_Vs (fun _ kk => gz_aload_n (pc := 16) hX dX2_opens_16 rfl 0 rfl kk) rfl ?_
    refine gz_Vs (fun _ kk => gz_dup (pc := 17) hX dX2_opens_17 rfl kk) rfl ?_
    refine gz_Vs (fun _ kk => cg_X2_119_2 (pc := 18) hX (c := 1011) (v := .int (gI m 1011 4)) (fun h => cz_k h rfl) (fun _ => rfl) dX2_opens_18 kk) rfl ?_
    refine gz_Vs (fun _ kk => gz_iconst (pc := 21) (v := (1 : Int32)) hX dX2_opens_21 (by decide) kk) rfl ?_
    refine gz_Vs (fun _ kk => gz_iadd (pc := 22) hX dX2_opens_22 kk) rfl ?_
    obtain ⟨m2, em2, h⟩ := gz_lt h
    refine gz_Vs (fun _ kk => cp_X2_119_2 (pc := 23) hX (c := 1011) (fun h => cz_k h rfl) (Nat.le_of_ble_eq_true rfl) dX2_opens_23 em2 kk) (by rw [em2]; rfl) ?_
    obtain rfl := Option.some.inj h
    exact hk _ _ dX2_opens_26
  · replace h := gz_it' g1 h
    refine gz_Vs (fun _ kk => gz_aload_n (pc := 9) hX dX2_opens_9 rfl 0 rfl kk) rfl ?_
    refine gz_Vs (fun _ kk => gz_iconst (pc := 10) (v := (4 : Int32)) hX dX2_opens_10 (by decide) kk) rfl ?_
    refine gz_Vs (fun _ kk => gz_iload_n (pc := 11) hX dX2_opens_11 rfl 1 rfl kk) rfl ?_
    obtain ⟨⟨r3, m4⟩, c5, h⟩ := gz_bd h
    obtain ⟨g6, h⟩ := gz_gu h
    refine gz_Vs (fun _ kk => cc_X2_47 (pc := 12) hX (fun h => cz_k h rfl) c5 ⟨Nat.le_of_ble_eq_true rfl, Nat.le_of_ble_eq_true rfl⟩ (rest := []) rfl (Nat.le_of_ble_eq_true rfl) dX2_opens_12 kk) g6 ?_
    obtain ⟨g7, h⟩ := gz_gu h
    subst g7
    obtain rfl := Option.some.inj h
    exact gz_athrowa hX dX2_opens_15 (hk _ _)
theorem ct_X2_opens {G : gz_G} {l : Launch} {x1 : Int32}  {m m9 : gM} {o : Option Unit} (h : cf_X2_opens x1 m = some (o, m9)) : gx_Met cS G l yX2_opens cX2_opens 2 none (mRc 1 22 (gZ m9 - gZ m) (gW m9 - gW m)) [.ref (gz_ad G 1011), .int x1] m m9 (o.map (fun _ => none)) :=
  gx_ofV (by decide +kernel) (Nat.le_of_ble_eq_true rfl) ⟨_, rfl, rfl⟩ (fun h => cz_k (c := 1012) (k := 3) h rfl) fun X _ hX hk => (wm_X2_opens (zE := m9.2.2.2.2.2) hX h (gx_km (fun _ q pc lv hd => gz_Ve (q pc lv hd)) (fun q pc lv => gz_VXe (q pc lv)) hk)).2
/-! java/lang/Integer.bitCount(I)I -/
noncomputable def cf_J16_bitCount (x0 : Int32) (m : gM) : Option (Int32 × gM) :=
  gz_let ((x0 - (((x0.toUInt32 >>> ((1 : Int32).toUInt32 &&& Int32.toUInt32 31)).toInt32) &&& (1431655765 : Int32)))) fun y1 => gz_let (((y1 &&& (858993459 : Int32)) + (((y1.toUInt32 >>> ((2 : Int32).toUInt32 &&& Int32.toUInt32 31)).toInt32) &&& (858993459 : Int32)))) fun y2 => gz_let (((y2 + ((y2.toUInt32 >>> ((4 : Int32).toUInt32 &&& Int32.toUInt32 31)).toInt32)) &&& (252645135 : Int32))) fun y3 => gz_let ((y3 + ((y3.toUInt32 >>> ((8 : Int32).toUInt32 &&& Int32.toUInt32 31)).toInt32))) fun y4 => gz_let ((y4 + ((y4.toUInt32 >>> ((16 : Int32).toUInt32 &&& Int32.toUInt32 31)).toInt32))) fun y5 => some ((y5 &&& (63 : Int32)), m)
theorem wm_J16_bitCount {X : gz_X} {G : gz_G} (hX : gz_C cS X G cJ16_bitCount 1 RJ16 0 0) {x0 : Int32}  {m : gM} {z : (Int32 × gM)} (h : cf_J16_bitCount x0 m = some z) (hk : (fun z : (Int32 × gM) => gz_kI cS X G 1 (0, 0) cJ16_bitCount z.2 z.1) z) : gz_V cS X G 1 (0, 0) m 0 [(0, .int x0)] [] := by
  unfold cf_J16_bitCount at h
  refine gz_iload_n (pc := 0) hX dJ16_bitCount_0 rfl 0 rfl ?_
  refine gz_iload_n (pc := 1) hX dJ16_bitCount_1 rfl 0 rfl ?_
  refine gz_iconst (pc := 2) (v := (1 : Int32)) hX dJ16_bitCount_2 (by decide) ?_
  refine gz_iushr (pc := 3) hX dJ16_bitCount_3 ?_
  refine gz_ldcw (pc := 4) (v := (1431655765 : Int32)) hX q1339 dJ16_bitCount_4 ?_
  refine gz_iand (pc := 7) hX dJ16_bitCount_7 ?_
  refine gz_isub (pc := 8) hX dJ16_bitCount_8 ?_
  obtain ⟨y1, ey1, h⟩ := gz_lt h
  refine gz_topi ey1 ?_
  refine gz_istore_n (pc := 9) (lw := [(0, .int y1)]) hX dJ16_bitCount_9 rfl (by decide) rfl ?_
  refine gz_iload_n (pc := 10) hX dJ16_bitCount_10 rfl 0 rfl ?_
  refine gz_ldcw (pc := 11) (v := (858993459 : Int32)) hX q1340 dJ16_bitCount_11 ?_
  refine gz_iand (pc := 14) hX dJ16_bitCount_14 ?_
  refine gz_iload_n (pc := 15) hX dJ16_bitCount_15 rfl 0 rfl ?_
  refine gz_iconst (pc := 16) (v := (2 : Int32)) hX dJ16_bitCount_16 (by decide) ?_
  refine gz_iushr (pc := 17) hX dJ16_bitCount_17 ?_
  refine gz_ldcw (pc := 18) (v := (858993459 : Int32)) hX q1340 dJ16_bitCount_18 ?_
  refine gz_iand (pc := 21) hX dJ16_bitCount_21 ?_
  refine gz_iadd (pc := 22) hX dJ16_bitCount_22 ?_
  obtain ⟨y2, ey2, h⟩ := gz_lt h
  refine gz_topi ey2 ?_
  refine gz_istore_n (pc := 23) (lw := [(0, .int y2)]) hX dJ16_bitCount_23 rfl (by decide) rfl ?_
  refine gz_iload_n (pc := 24) hX dJ16_bitCount_24 rfl 0 rfl ?_
  refine gz_iload_n (pc := 25) hX dJ16_bitCount_25 rfl 0 rfl ?_
  refine gz_iconst (pc := 26) (v := (4 : Int32)) hX dJ16_bitCount_26 (by decide) ?_
  refine gz_iushr (pc := 27) hX dJ16_bitCount_27 ?_
  refine gz_iadd (pc := 28) hX dJ16_bitCount_28 ?_
  refine gz_ldcw (pc := 29) (v := (252645135 : Int32)) hX q1341 dJ16_bitCount_29 ?_
  refine gz_iand (pc := 32) hX dJ16_bitCount_32 ?_
  obtain ⟨y3, ey3, h⟩ := gz_lt h
  refine gz_topi ey3 ?_
  refine gz_istore_n (pc := 33) (lw := [(0, .int y3)]) hX dJ16_bitCount_33 rfl (by decide) rfl ?_
  refine gz_iload_n (pc := 34) hX dJ16_bitCount_34 rfl 0 rfl ?_
  refine gz_iload_n (pc := 35) hX dJ16_bitCount_35 rfl 0 rfl ?_
  refine gz_bipush (pc := 36) (v := (8 : Int32)) hX dJ16_bitCount_36 (by decide) ?_
  refine gz_iushr (pc := 38) hX dJ16_bitCount_38 ?_
  refine gz_iadd (pc := 39) hX dJ16_bitCount_39 ?_
  obtain ⟨y4, ey4, h⟩ := gz_lt h
  refine gz_topi ey4 ?_
  refine gz_istore_n (pc := 40) (lw := [(0, .int y4)]) hX dJ16_bitCount_40 rfl (by decide) rfl ?_
  refine gz_iload_n (pc := 41) hX dJ16_bitCount_41 rfl 0 rfl ?_
  refine gz_iload_n (pc := 42) hX dJ16_bitCount_42 rfl 0 rfl ?_
  refine gz_bipush (pc := 43) (v := (16 : Int32)) hX dJ16_bitCount_43 (by decide) ?_
  refine gz_iushr (pc := 45) hX dJ16_bitCount_45 ?_
  refine gz_iadd (pc := 46) hX dJ16_bitCount_46 ?_
  obtain ⟨y5, ey5, h⟩ := gz_lt h
  refine gz_topi ey5 ?_
  refine gz_istore_n (pc := 47) (lw := [(0, .int y5)]) hX dJ16_bitCount_47 rfl (by decide) rfl ?_
  refine gz_iload_n (pc := 48) hX dJ16_bitCount_48 rfl 0 rfl ?_
  refine gz_bipush (pc := 49) (v := (63 : Int32)) hX dJ16_bitCount_49 (by decide) ?_
  refine gz_iand (pc := 51) hX dJ16_bitCount_51 ?_
  obtain rfl := Option.some.inj h
  exact hk _ _ dJ16_bitCount_52
theorem ct_J16_bitCount {G : gz_G} {l : Launch} {x0 : Int32}  {m m9 : gM} {r : Int32} (h : cf_J16_bitCount x0 m = some (r, m9)) : gz_Met cS G l yJ16_bitCount cJ16_bitCount 1 (some .int) (mRm 0 0) [.int x0] m m9 (some (.int r)) :=
  gz_ofI (by decide +kernel) (Nat.le_of_ble_eq_true rfl) fun X _ hX hk => wm_J16_bitCount hX h hk
theorem cp_X22_11_19 {X : gz_X} {G : gz_G} {cc : ByteArray} {nL fr lo pc : Nat} {rem : Nat × Nat} {m m9 : gM} {lv : List (Nat × Value)} {st : List Value} (hX : gz_C cS X G cc nL RX22 fr lo) {c : Nat} {x : Int64} (hK : clc m.1 m.2.1 m.2.2.2.2.1 → m.1 c = 19 + 1) (hw : 1000 ≤ c) (hd : decode cc pc = .ok (.putfield 11, 3)) (hm : m9 = gz_sL m c 3 x) (kk : gz_V cS X G nL rem m9 (pc + 3) lv st) : gz_V cS X G nL rem m pc lv (.long x :: .ref (gz_ad G c) :: st) := by
  subst hm
  exact gz_putf hX (C := RX22) (T := TX22) (N := 5) (ci := 19) (k := 3) (μ' := gz_sL m c 3 x) rfl (by decide) in_X22 tyX22 tyX22_ok nmX22 (by decide) (Or.inl (hX.2.2.2.2.1 _ q1712)) rfl rfl rfl rfl hd hK hw rfl rfl rfl (fun d tc j h => gz_sL_o d tc j h) (gz_sL_v (fun j => ftC 19 j) rfl) (fun h => h) kk
theorem cp_X22_17_19 {X : gz_X} {G : gz_G} {cc : ByteArray} {nL fr lo pc : Nat} {rem : Nat × Nat} {m m9 : gM} {lv : List (Nat × Value)} {st : List Value} (hX : gz_C cS X G cc nL RX22 fr lo) (hn0 : X.2.2.2.2.2.2.2.2.1.name = "<init>") {c : Nat} {x : Int32} (hK : clc m.1 m.2.1 m.2.2.2.2.1 → m.1 c = 19 + 1) (hw : 1000 ≤ c) (hd : decode cc pc = .ok (.putfield 17, 3)) (hm : m9 = gz_sI m c 0 x) (kk : gz_V cS X G nL rem m9 (pc + 3) lv st) : gz_V cS X G nL rem m pc lv (.int x :: .ref (gz_ad G c) :: st) := by
  subst hm
  exact gz_putff hX (C := RX22) (T := TX22) (N := 5) (ci := 19) (k := 0) (ty := .int) (μ' := gz_sI m c 0 x) rfl (by decide) in_X22 tyX22 tyX22_ok nmX22 (by decide) (hX.2.2.2.2.1 _ q1709) (fun _ h => h) rfl hn0 rfl rfl rfl rfl hd hK hw rfl rfl rfl (fun d tc j h => gz_sI_o d tc j h) (gz_sI_v (fun j => ftC 19 j) rfl) (fun h => h) kk
theorem cp_X22_21_19q {X : gz_X} {G : gz_G} {cc : ByteArray} {nL fr lo pc : Nat} {rem : Nat × Nat} {m m9 : gM} {lv : List (Nat × Value)} {st : List Value} (hX : gz_C cS X G cc nL RX22 fr lo) (hn0 : X.2.2.2.2.2.2.2.2.1.name = "<init>") {c : Nat} {r : Nat} (hK : clc m.1 m.2.1 m.2.2.2.2.1 → m.1 c = 19 + 1) (hw : 1000 ≤ c) (hs : sr c 1 = 0) (hd : decode cc pc = .ok (.putfield 21, 3)) (hm : m9 = gz_sP m c 1 r) (kk : gz_V cS X G nL rem m9 (pc + 3) lv st) : gz_V cS X G nL rem m pc lv (gz_rf (gz_ad G) r :: .ref (gz_ad G c) :: st) := by
  subst hm
  exact gz_putff hX (C := RX22) (T := TX22) (N := 5) (ci := 19) (k := 1) (μ' := gz_sP m c 1 r) (v := gz_rf (gz_ad G) r) rfl (by decide) in_X22 tyX22 tyX22_ok nmX22 (by decide) (hX.2.2.2.2.1 _ q1710) (fun _ h => h) rfl hn0 rfl rfl (by unfold gz_rf; split <;> rfl) (by unfold gz_rf; split <;> rfl) hd hK hw rfl rfl rfl (fun d tc j h => gz_sP_o d tc j h) (gz_sP_v (fun j => ftC 19 j) rfl) (clc_sP hs) kk
theorem cp_X22_25_19q {X : gz_X} {G : gz_G} {cc : ByteArray} {nL fr lo pc : Nat} {rem : Nat × Nat} {m m9 : gM} {lv : List (Nat × Value)} {st : List Value} (hX : gz_C cS X G cc nL RX22 fr lo) (hn0 : X.2.2.2.2.2.2.2.2.1.name = "<init>") {c : Nat} {r : Nat} (hK : clc m.1 m.2.1 m.2.2.2.2.1 → m.1 c = 19 + 1) (hw : 1000 ≤ c) (hs : sr c 2 = 0) (hd : decode cc pc = .ok (.putfield 25, 3)) (hm : m9 = gz_sP m c 2 r) (kk : gz_V cS X G nL rem m9 (pc + 3) lv st) : gz_V cS X G nL rem m pc lv (gz_rf (gz_ad G) r :: .ref (gz_ad G c) :: st) := by
  subst hm
  exact gz_putff hX (C := RX22) (T := TX22) (N := 5) (ci := 19) (k := 2) (μ' := gz_sP m c 2 r) (v := gz_rf (gz_ad G) r) rfl (by decide) in_X22 tyX22 tyX22_ok nmX22 (by decide) (hX.2.2.2.2.1 _ q1711) (fun _ h => h) rfl hn0 rfl rfl (by unfold gz_rf; split <;> rfl) (by unfold gz_rf; split <;> rfl) hd hK hw rfl rfl rfl (fun d tc j h => gz_sP_o d tc j h) (gz_sP_v (fun j => ftC 19 j) rfl) (clc_sP hs) kk
/-! FirstSnuffer$Question.<init>(ILFirstSnuffer$Test;LFirstSnuffer$Value;)V -/
noncomputable def cf_X22_init (c0 : Nat) (x1 : Int32) (c2 : Nat) (c3 : Nat) (m : gM) : Option (Unit × gM) :=
  (if gK m c0 = 20 then (if 1000 ≤ c0 then gz_let (gz_sL m c0 3 (-1 : Int64)) fun m3 => (if gK m3 c0 = 20 then (if 1000 ≤ c0 then gz_let (gz_sI m3 c0 0 x1) fun m6 => (if gK m6 c0 = 20 then (if 1000 ≤ c0 then (if sr c0 1 = 0 then gz_let (gz_sP m6 c0 1 c2) fun m10 => (if gK m10 c0 = 20 then (if 1000 ≤ c0 then (if sr c0 2 = 0 then gz_let (gz_sP m10 c0 2 c3) fun m14 => some ((), m14) else none) else none) else none) else none) else none) else none) else none) else none) else none) else none)
theorem wm_X22_init {X : gz_X} {G : gz_G} (hX : gz_C cS X G cX22_init 4 RX22 1 20) (hn0 : X.2.2.2.2.2.2.2.2.1.name = "<init>") {c0 : Nat} {x1 : Int32} {c2 : Nat} {c3 : Nat}  {m : gM} {z : (Unit × gM)} (h : cf_X22_init c0 x1 c2 c3 m = some z) (hk : (fun z : (Unit × gM) => gz_kV cS X G 4 (0, 0) cX22_init z.2) z) : gz_V cS X G 4 (0, 0) m 0 [(0, .ref (gz_ad G c0)), (1, .int x1), (2, gz_rf (gz_ad G) c2), (3, gz_rf (gz_ad G) c3)] [] := by
  unfold cf_X22_init at h
  refine gz_aload_n (pc := 0) hX dX22_init_0 rfl 0 rfl ?_
  refine gz_objI (pc := 1) hX q1707 q214 q215 ⟨Nat.le_of_ble_eq_true rfl, Nat.le_of_ble_eq_true rfl⟩ (Nat.le_of_ble_eq_true rfl) dX22_init_1 ?_
  refine gz_aload_n (pc := 4) hX dX22_init_4 rfl 0 rfl ?_
  refine gz_ldc2 (pc := 5) (v := (-1 : Int64)) hX q1708 dX22_init_5 ?_
  obtain ⟨g1, h⟩ := gz_gu h
  obtain ⟨g2, h⟩ := gz_gu h
  obtain ⟨m3, em3, h⟩ := gz_lt h
  refine cp_X22_11_19 (pc := 8) hX (c := c0) (fun _ => g1) g2 dX22_init_8 em3 ?_
  refine gz_aload_n (pc := 11) hX dX22_init_11 rfl 0 rfl ?_
  refine gz_iload_n (pc := 12) hX dX22_init_12 rfl 1 rfl ?_
  obtain ⟨g4, h⟩ := gz_gu h
  obtain ⟨g5, h⟩ := gz_gu h
  obtain ⟨m6, em6, h⟩ := gz_lt h
  refine cp_X22_17_19 (pc := 13) hX hn0 (c := c0) (fun _ => g4) g5 dX22_init_13 em6 ?_
  refine gz_aload_n (pc := 16) hX dX22_init_16 rfl 0 rfl ?_
  refine gz_aloadP_n (pc := 17) hX dX22_init_17 rfl 2 rfl ?_
  obtain ⟨g7, h⟩ := gz_gu h
  obtain ⟨g8, h⟩ := gz_gu h
  obtain ⟨g9, h⟩ := gz_gu h
  obtain ⟨m10, em10, h⟩ := gz_lt h
  refine cp_X22_21_19q (pc := 18) hX hn0 (c := c0) (fun _ => g7) g8 g9 dX22_init_18 em10 ?_
  refine gz_aload_n (pc := 21) hX dX22_init_21 rfl 0 rfl ?_
  refine gz_aloadP_n (pc := 22) hX dX22_init_22 rfl 3 rfl ?_
  obtain ⟨g11, h⟩ := gz_gu h
  obtain ⟨g12, h⟩ := gz_gu h
  obtain ⟨g13, h⟩ := gz_gu h
  obtain ⟨m14, em14, h⟩ := gz_lt h
  refine cp_X22_25_19q (pc := 23) hX hn0 (c := c0) (fun _ => g11) g12 g13 dX22_init_23 em14 ?_
  obtain rfl := Option.some.inj h
  exact hk _ _ dX22_init_26
theorem ct_X22_init {G : gz_G} {l : Launch} {c0 : Nat} {x1 : Int32} {c2 : Nat} {c3 : Nat}  {m m9 : gM} (h : cf_X22_init c0 x1 c2 c3 m = some ((), m9)) : gz_Met cS G l yX22_init cX22_init 4 none (mRm 1 20) [.ref (gz_ad G c0), .int x1, gz_rf (gz_ad G) c2, gz_rf (gz_ad G) c3] m m9 none := by
  rcases gz_rfc (gz_ad G) c2 with ec2 | ⟨ac2, ec2⟩ <;> rcases gz_rfc (gz_ad G) c3 with ec3 | ⟨ac3, ec3⟩ <;> rw [ec2, ec3] <;> exact gz_ofVc (by decide +kernel) (Nat.le_of_ble_eq_true rfl) fun X _ hn hX hk => (by have h9 := wm_X22_init hX hn h hk; rw [ec2, ec3] at h9; exact h9)
theorem cg_X22_41_19 {X : gz_X} {G : gz_G} {cc : ByteArray} {nL fr lo pc : Nat} {rem : Nat × Nat} {m : gM} {lv : List (Nat × Value)} {st : List Value} (hX : gz_C cS X G cc nL RX22 fr lo) {c : Nat} {v : Value} (hK : clc m.1 m.2.1 m.2.2.2.2.1 → m.1 c = 19 + 1) (hv : clc m.1 m.2.1 m.2.2.2.2.1 → gz_u (gz_ad G) m (ftC 19 4) c 4 = v) (hd : decode cc pc = .ok (.getfield 41, 3)) (kk : gz_V cS X G nL rem m (pc + 3) lv (v :: st)) : gz_V cS X G nL rem m pc lv (.ref (gz_ad G c) :: st) :=
  gz_getf hX (C := RX22) (T := TX22) (N := 5) (ci := 19) (k := 4) rfl (by decide) in_X22 (by decide) (Or.inl (hX.2.2.2.2.1 _ q1713)) hd hK hv kk
theorem cg_X22_11_19 {X : gz_X} {G : gz_G} {cc : ByteArray} {nL fr lo pc : Nat} {rem : Nat × Nat} {m : gM} {lv : List (Nat × Value)} {st : List Value} (hX : gz_C cS X G cc nL RX22 fr lo) {c : Nat} {v : Value} (hK : clc m.1 m.2.1 m.2.2.2.2.1 → m.1 c = 19 + 1) (hv : clc m.1 m.2.1 m.2.2.2.2.1 → gz_u (gz_ad G) m (ftC 19 3) c 3 = v) (hd : decode cc pc = .ok (.getfield 11, 3)) (kk : gz_V cS X G nL rem m (pc + 3) lv (v :: st)) : gz_V cS X G nL rem m pc lv (.ref (gz_ad G c) :: st) :=
  gz_getf hX (C := RX22) (T := TX22) (N := 5) (ci := 19) (k := 3) rfl (by decide) in_X22 (by decide) (Or.inl (hX.2.2.2.2.1 _ q1712)) hd hK hv kk
theorem cg_X22_17_19 {X : gz_X} {G : gz_G} {cc : ByteArray} {nL fr lo pc : Nat} {rem : Nat × Nat} {m : gM} {lv : List (Nat × Value)} {st : List Value} (hX : gz_C cS X G cc nL RX22 fr lo) {c : Nat} {v : Value} (hK : clc m.1 m.2.1 m.2.2.2.2.1 → m.1 c = 19 + 1) (hv : clc m.1 m.2.1 m.2.2.2.2.1 → gz_u (gz_ad G) m (ftC 19 0) c 0 = v) (hd : decode cc pc = .ok (.getfield 17, 3)) (kk : gz_V cS X G nL rem m (pc + 3) lv (v :: st)) : gz_V cS X G nL rem m pc lv (.ref (gz_ad G c) :: st) :=
  gz_getf hX (C := RX22) (T := TX22) (N := 5) (ci := 19) (k := 0) rfl (by decide) in_X22 (by decide) (Or.inl (hX.2.2.2.2.1 _ q1709)) hd hK hv kk
/-! FirstSnuffer$Question.answer()J -/
noncomputable def mj_X22_answer_15 (c0 : Nat) (m : gM) : Option (Int64 × gM) :=
  (if gK m c0 = 20 then some ((gL m c0 3), m) else none)
theorem wb_X22_answer_15 {X : gz_X} {G : gz_G} (hX : gz_C cS X G cX22_answer 1 RX22 0 0) {c0 : Nat}  {m : gM} {z : (Int64 × gM)} (h : mj_X22_answer_15 c0 m = some z) (hk : (fun z : (Int64 × gM) => gz_kL cS X G 1 (0, 0) cX22_answer z.2 z.1) z) : gz_V cS X G 1 (0, 0) m 15 [(0, .ref (gz_ad G c0))] [] := by
  unfold mj_X22_answer_15 at h
  refine gz_aload_n (pc := 15) hX dX22_answer_15 rfl 0 rfl ?_
  obtain ⟨g1, h⟩ := gz_gu h
  refine cg_X22_11_19 (pc := 16) hX (c := c0) (v := .long (gL m c0 3)) (fun _ => g1) (fun _ => rfl) dX22_answer_16 ?_
  refine gz_goto (pc := 19) (tgt := 23) hX dX22_answer_19 (by decide) ?_
  obtain rfl := Option.some.inj h
  exact hk _ _ dX22_answer_23
noncomputable def cf_X22_answer (c0 : Nat) (m : gM) : Option (Int64 × gM) :=
  (if gK m c0 = 20 then (if (gI m c0 4) = (0 : Int32) then (if gK m c0 = 20 then (if (2 : Int32) ≤ (gI m c0 0) then some ((0 : Int64), m) else (mj_X22_answer_15 c0 m)) else none) else (mj_X22_answer_15 c0 m)) else none)
theorem wm_X22_answer {X : gz_X} {G : gz_G} (hX : gz_C cS X G cX22_answer 1 RX22 0 0) {c0 : Nat}  {m : gM} {z : (Int64 × gM)} (h : cf_X22_answer c0 m = some z) (hk : (fun z : (Int64 × gM) => gz_kL cS X G 1 (0, 0) cX22_answer z.2 z.1) z) : gz_V cS X G 1 (0, 0) m 0 [(0, .ref (gz_ad G c0))] [] := by
  unfold cf_X22_answer at h
  refine gz_aload_n (pc := 0) hX dX22_answer_0 rfl 0 rfl ?_
  obtain ⟨g1, h⟩ := gz_gu h
  refine cg_X22_41_19 (pc := 1) hX (c := c0) (v := .int (gI m c0 4)) (fun _ => g1) (fun _ => rfl) dX22_answer_1 ?_
  refine gz_if_ne (pc := 4) (tgt := 15) hX dX22_answer_4 (by decide) (fun g2 => ?_) (fun g2 => ?_)
  · replace h := gz_if' g2 h
    exact wb_X22_answer_15 hX h hk
  · replace h := gz_it' g2 h
    refine gz_aload_n (pc := 7) hX dX22_answer_7 rfl 0 rfl ?_
    obtain ⟨g3, h⟩ := gz_gu h
    refine cg_X22_17_19 (pc := 8) hX (c := c0) (v := .int (gI m c0 0)) (fun _ => g3) (fun _ => rfl) dX22_answer_8 ?_
    refine gz_iconst (pc := 11) (v := (2 : Int32)) hX dX22_answer_11 (by decide) ?_
    refine gz_icmp_ge (pc := 12) (tgt := 22) hX dX22_answer_12 (by decide) (fun g4 => ?_) (fun g4 => ?_)
    · replace h := gz_it' g4 h
      refine gz_lconst (pc := 22) (v := (0 : Int64)) hX dX22_answer_22 (by decide) ?_
      obtain rfl := Option.some.inj h
      exact hk _ _ dX22_answer_23
    · replace h := gz_if' g4 h
      exact wb_X22_answer_15 hX h hk
theorem ct_X22_answer {G : gz_G} {l : Launch} {c0 : Nat}  {m m9 : gM} {r : Int64} (h : cf_X22_answer c0 m = some (r, m9)) : gz_Met cS G l yX22_answer cX22_answer 1 (some .long) (mRm 0 0) [.ref (gz_ad G c0)] m m9 (some (.long r)) :=
  gz_ofL (by decide +kernel) (Nat.le_of_ble_eq_true rfl) fun X _ hX hk => wm_X22_answer hX h hk
theorem cs_J9_38 {X : gz_X} {G : gz_G} {cc : ByteArray} {nL fr lo pc : Nat} {rem : Nat × Nat} {m : gM} {lv : List (Nat × Value)} {st : List Value} (hX : gz_C cS X G cc nL RJ9 fr lo) (hd : decode cc pc = .ok (.getstatic 38, 3)) (kk : gz_V cS X G nL rem m (pc + 3) lv (.int (1 : Int32) :: st)) : gz_V cS X G nL rem m pc lv st := gz_gets hX ((cz_s hX).2.1 _ (List.mem_of_getElem? (show cSi[0]? = some ("java/lang/String", "COMPACT_STRINGS", "Z", 1) from rfl))) (Or.inl (hX.2.2.2.2.1 _ q662)) hd kk
theorem cg_J9_15_21 {X : gz_X} {G : gz_G} {cc : ByteArray} {nL fr lo pc : Nat} {rem : Nat × Nat} {m : gM} {lv : List (Nat × Value)} {st : List Value} (hX : gz_C cS X G cc nL RJ9 fr lo) {c : Nat} {v : Value} (hK : clc m.1 m.2.1 m.2.2.2.2.1 → m.1 c = 21 + 1) (hv : clc m.1 m.2.1 m.2.2.2.2.1 → gz_u (gz_ad G) m (ftC 21 1) c 1 = v) (hd : decode cc pc = .ok (.getfield 15, 3)) (kk : gz_V cS X G nL rem m (pc + 3) lv (v :: st)) : gz_V cS X G nL rem m pc lv (.ref (gz_ad G c) :: st) :=
  gz_getf hX (C := RJ9) (T := TJ9) (N := 4) (ci := 21) (k := 1) rfl (by decide) in_J9 (by decide) (Or.inl (hX.2.2.2.2.1 _ q714)) hd hK hv kk
/-! java/lang/String.isLatin1()Z -/
noncomputable def mj_J9_isLatin1_17 (c0 : Nat) (m : gM) : Option (Int32 × gM) :=
  some ((0 : Int32), m)
theorem wb_J9_isLatin1_17 {X : gz_X} {G : gz_G} (hX : gz_C cS X G cJ9_isLatin1 1 RJ9 0 0) {c0 : Nat}  {m : gM} {z : (Int32 × gM)} (h : mj_J9_isLatin1_17 c0 m = some z) (hk : (fun z : (Int32 × gM) => gz_kZ cS X G 1 (0, 0) cJ9_isLatin1 z.2 z.1) z) : gz_V cS X G 1 (0, 0) m 17 [(0, .ref (gz_ad G c0))] [] := by
  unfold mj_J9_isLatin1_17 at h
  refine gz_iconst (pc := 17) (v := (0 : Int32)) hX dJ9_isLatin1_17 (by decide) ?_
  obtain rfl := Option.some.inj h
  exact hk _ _ dJ9_isLatin1_18 (Or.inl rfl)
noncomputable def cf_J9_isLatin1 (c0 : Nat) (m : gM) : Option (Int32 × gM) :=
  (if (1 : Int32) = (0 : Int32) then (mj_J9_isLatin1_17 c0 m) else (if gK m c0 = 22 then (if (gI m c0 1) = (0 : Int32) then some ((1 : Int32), m) else (mj_J9_isLatin1_17 c0 m)) else none))
theorem wm_J9_isLatin1 {X : gz_X} {G : gz_G} (hX : gz_C cS X G cJ9_isLatin1 1 RJ9 0 0) {c0 : Nat}  {m : gM} {z : (Int32 × gM)} (h : cf_J9_isLatin1 c0 m = some z) (hk : (fun z : (Int32 × gM) => gz_kZ cS X G 1 (0, 0) cJ9_isLatin1 z.2 z.1) z) : gz_V cS X G 1 (0, 0) m 0 [(0, .ref (gz_ad G c0))] [] := by
  unfold cf_J9_isLatin1 at h
  refine cs_J9_38 (pc := 0) hX dJ9_isLatin1_0 ?_
  refine gz_if_eq (pc := 3) (tgt := 17) hX dJ9_isLatin1_3 (by decide) (fun g1 => ?_) (fun g1 => ?_)
  · replace h := gz_it' g1 h
    exact wb_J9_isLatin1_17 hX h hk
  · replace h := gz_if' g1 h
    refine gz_aload_n (pc := 6) hX dJ9_isLatin1_6 rfl 0 rfl ?_
    obtain ⟨g2, h⟩ := gz_gu h
    refine cg_J9_15_21 (pc := 7) hX (c := c0) (v := .int (gI m c0 1)) (fun _ => g2) (fun _ => rfl) dJ9_isLatin1_7 ?_
    refine gz_if_ne (pc := 10) (tgt := 17) hX dJ9_isLatin1_10 (by decide) (fun g3 => ?_) (fun g3 => ?_)
    · replace h := gz_if' g3 h
      exact wb_J9_isLatin1_17 hX h hk
    · replace h := gz_it' g3 h
      refine gz_iconst (pc := 13) (v := (1 : Int32)) hX dJ9_isLatin1_13 (by decide) ?_
      refine gz_goto (pc := 14) (tgt := 18) hX dJ9_isLatin1_14 (by decide) ?_
      obtain rfl := Option.some.inj h
      exact hk _ _ dJ9_isLatin1_18 (Or.inr rfl)
theorem ct_J9_isLatin1 {G : gz_G} {l : Launch} {c0 : Nat}  {m m9 : gM} {r : Int32} (h : cf_J9_isLatin1 c0 m = some (r, m9)) : gz_Met cS G l yJ9_isLatin1 cJ9_isLatin1 1 (some .boolean) (mRm 0 0) [.ref (gz_ad G c0)] m m9 (some (.int r)) :=
  gz_ofZ (by decide +kernel) (Nat.le_of_ble_eq_true rfl) fun X _ hX hk => wm_J9_isLatin1 hX h hk
/-! java/lang/String.coder()B -/
noncomputable def cf_J9_coder (c0 : Nat) (m : gM) : Option (Int32 × gM) :=
  (if (1 : Int32) = (0 : Int32) then (if (1 : Int32).toInt8.toInt32 = (1 : Int32) then some ((1 : Int32), m) else none) else (if gK m c0 = 22 then (if (gI m c0 1).toInt8.toInt32 = (gI m c0 1) then some ((gI m c0 1), m) else none) else none))
theorem wm_J9_coder {X : gz_X} {G : gz_G} (hX : gz_C cS X G cJ9_coder 1 RJ9 0 0) {c0 : Nat}  {m : gM} {z : (Int32 × gM)} (h : cf_J9_coder c0 m = some z) (hk : (fun z : (Int32 × gM) => gz_kN cS X G 1 (0, 0) cJ9_coder .byte z.2 z.1) z) : gz_V cS X G 1 (0, 0) m 0 [(0, .ref (gz_ad G c0))] [] := by
  unfold cf_J9_coder at h
  refine cs_J9_38 (pc := 0) hX dJ9_coder_0 ?_
  refine gz_if_eq (pc := 3) (tgt := 13) hX dJ9_coder_3 (by decide) (fun g1 => ?_) (fun g1 => ?_)
  · replace h := gz_it' g1 h
    refine gz_iconst (pc := 13) (v := (1 : Int32)) hX dJ9_coder_13 (by decide) ?_
    obtain ⟨g2, h⟩ := gz_gu h
    obtain rfl := Option.some.inj h
    exact hk _ _ dJ9_coder_14 (congrArg Value.int g2)
  · replace h := gz_if' g1 h
    refine gz_aload_n (pc := 6) hX dJ9_coder_6 rfl 0 rfl ?_
    obtain ⟨g3, h⟩ := gz_gu h
    refine cg_J9_15_21 (pc := 7) hX (c := c0) (v := .int (gI m c0 1)) (fun _ => g3) (fun _ => rfl) dJ9_coder_7 ?_
    refine gz_goto (pc := 10) (tgt := 14) hX dJ9_coder_10 (by decide) ?_
    obtain ⟨g4, h⟩ := gz_gu h
    obtain rfl := Option.some.inj h
    exact hk _ _ dJ9_coder_14 (congrArg Value.int g4)
theorem ct_J9_coder {G : gz_G} {l : Launch} {c0 : Nat}  {m m9 : gM} {r : Int32} (h : cf_J9_coder c0 m = some (r, m9)) : gz_Met cS G l yJ9_coder cJ9_coder 1 (some .byte) (mRm 0 0) [.ref (gz_ad G c0)] m m9 (some (.int r)) :=
  gz_ofN (by decide +kernel) (Nat.le_of_ble_eq_true rfl) fun X _ hX hk => wm_J9_coder hX h hk
/-! java/lang/RuntimeException.<init>(Ljava/lang/String;Ljava/lang/Throwable;ZZ)V -/
noncomputable def cf_J5_init (c0 : Nat) (x3 : Int32) (x4 : Int32) (m : gM) : Option (Unit × gM) :=
  none
theorem wm_J5_init {X : gz_X} {G : gz_G} (hX : gz_C cS X G cJ5_init 5 RJ5 1 20) (hn0 : X.2.2.2.2.2.2.2.2.1.name = "<init>") {c0 : Nat} {x3 : Int32} {x4 : Int32}  {m : gM} {z : (Unit × gM)} (h : cf_J5_init c0 x3 x4 m = some z) (hk : (fun z : (Unit × gM) => gz_kV cS X G 5 (0, 0) cJ5_init z.2) z) : gz_V cS X G 5 (0, 0) m 0 [(0, .ref (gz_ad G c0)), (1, .null), (2, .null), (3, .int x3), (4, .int x4)] [] := by
  unfold cf_J5_init at h
  refine gz_aload_n (pc := 0) hX dJ5_init_0 rfl 0 rfl ?_
  exact nomatch h
theorem ct_J5_init {G : gz_G} {l : Launch} {c0 : Nat} {x3 : Int32} {x4 : Int32}  {m m9 : gM} (h : cf_J5_init c0 x3 x4 m = some ((), m9)) : gz_Met cS G l yJ5_init cJ5_init 5 none (mRm 1 20) [.ref (gz_ad G c0), .null, .null, .int x3, .int x4] m m9 none :=
  gz_ofVc (by decide +kernel) (Nat.le_of_ble_eq_true rfl) fun X _ hn hX hk => wm_J5_init hX hn h hk
theorem cs_J14_18 {X : gz_X} {G : gz_G} {cc : ByteArray} {nL fr lo pc : Nat} {rem : Nat × Nat} {m : gM} {lv : List (Nat × Value)} {st : List Value} (hX : gz_C cS X G cc nL RJ14 fr lo) (hd : decode cc pc = .ok (.getstatic 18, 3)) (kk : gz_V cS X G nL rem m (pc + 3) lv (.int (1 : Int32) :: st)) : gz_V cS X G nL rem m pc lv st := gz_gets hX ((cz_s hX).2.1 _ (List.mem_of_getElem? (show cSi[0]? = some ("java/lang/String", "COMPACT_STRINGS", "Z", 1) from rfl))) (Or.inl (hX.2.2.2.2.1 _ q1054)) hd kk
theorem cp_J14_15_22 {X : gz_X} {G : gz_G} {cc : ByteArray} {nL fr lo pc : Nat} {rem : Nat × Nat} {m m9 : gM} {lv : List (Nat × Value)} {st : List Value} (hX : gz_C cS X G cc nL RJ14 fr lo) {c : Nat} {r : Nat} (hK : clc m.1 m.2.1 m.2.2.2.2.1 → m.1 c = 22 + 1) (hw : 1000 ≤ c) (hs : sr c 0 = 0 ∧ r ≠ 0) (hd : decode cc pc = .ok (.putfield 15, 3)) (hm : m9 = gz_sP m c 0 r) (kk : gz_V cS X G nL rem m9 (pc + 3) lv st) : gz_V cS X G nL rem m pc lv (.ref (gz_ad G r) :: .ref (gz_ad G c) :: st) := by
  subst hm
  exact gz_putf hX (C := RJ15) (T := TJ15) (N := 4) (ci := 22) (k := 0) (μ' := gz_sP m c 0 r) (v := .ref (gz_ad G r)) rfl (by decide) in_J15 tyJ15 tyJ15_ok nmJ15 (by decide) (Or.inl (hX.2.2.2.2.1 _ q1056)) rfl rfl rfl rfl hd hK hw rfl rfl rfl (fun d tc j h => gz_sP_o d tc j h) (by intro j; rw [← gz_rfp hs.2]; exact gz_sP_v (fun j => ftC 22 j) rfl j) (clc_sP hs.1) kk
theorem cp_J14_22_22 {X : gz_X} {G : gz_G} {cc : ByteArray} {nL fr lo pc : Nat} {rem : Nat × Nat} {m m9 : gM} {lv : List (Nat × Value)} {st : List Value} (hX : gz_C cS X G cc nL RJ14 fr lo) {c : Nat} {x : Int32} (hK : clc m.1 m.2.1 m.2.2.2.2.1 → m.1 c = 22 + 1) (hw : 1000 ≤ c) (hz : x = 0 ∨ x = 1) (hd : decode cc pc = .ok (.putfield 22, 3)) (hm : m9 = gz_sI m c 1 x) (kk : gz_V cS X G nL rem m9 (pc + 3) lv st) : gz_V cS X G nL rem m pc lv (.int x :: .ref (gz_ad G c) :: st) := by
  subst hm
  exact gz_putf hX (C := RJ15) (T := TJ15) (N := 4) (ci := 22) (k := 1) (ty := .byte) (μ' := gz_sI m c 1 x) rfl (by decide) in_J15 tyJ15 tyJ15_ok nmJ15 (by decide) (Or.inl (hX.2.2.2.2.1 _ q1057)) rfl rfl (by rcases hz with h | h <;> rw [h] <;> rfl) (by rcases hz with h | h <;> rw [h] <;> rfl) hd hK hw rfl rfl rfl (fun d tc j h => gz_sI_o d tc j h) (gz_sI_v (fun j => ftC 22 j) rfl) (fun h => h) kk
/-! java/lang/AbstractStringBuilder.<init>(I)V -/
noncomputable def cf_J14_init (c0 : Nat) (x1 : Int32) (m : gM) : Option (Unit × gM) :=
  (if (1 : Int32) = (0 : Int32) then none else (if 0 ≤ x1 ∧ gz_ix x1 * 1 ≤ 536870912 ∧ gZ m ≠ 0 then gz_let (gz_al m (1 + 101) (gz_ix x1) (gz_ix x1)) fun m3 => (if gK m3 c0 = 23 then (if 1000 ≤ c0 then (if sr c0 0 = 0 ∧ (gZ m) ≠ 0 then gz_let (gz_sP m3 c0 0 (gZ m)) fun m7 => (if gK m7 c0 = 23 then (if 1000 ≤ c0 then gz_let (gz_sI m7 c0 1 (0 : Int32)) fun m10 => some ((), m10) else none) else none) else none) else none) else none) else none))
theorem wm_J14_init {X : gz_X} {G : gz_G} {zE : Nat × Nat} (hX : gz_C cS X G cJ14_init 2 RJ14 1 20) (hn0 : X.2.2.2.2.2.2.2.2.1.name = "<init>") {c0 : Nat} {x1 : Int32}  {m : gM} {z : (Unit × gM)} (h : cf_J14_init c0 x1 m = some z) (hk : (fun z : (Unit × gM) => gz_kVa cS X G 2 zE cJ14_init z.2) z) : gz_Va cS X G 2 zE m 0 [(0, .ref (gz_ad G c0)), (1, .int x1)] [] := by
  unfold cf_J14_init at h
  refine gz_Vs (fun _ kk => gz_aload_n (pc := 0) hX dJ14_init_0 rfl 0 rfl kk) rfl ?_
  refine gz_Vs (fun _ kk => gz_objI (pc := 1) hX q1053 q214 q215 ⟨Nat.le_of_ble_eq_true rfl, Nat.le_of_ble_eq_true rfl⟩ (Nat.le_of_ble_eq_true rfl) dJ14_init_1 kk) rfl ?_
  refine gz_Vs (fun _ kk => cs_J14_18 (pc := 4) hX dJ14_init_4 kk) rfl ?_
  refine gz_Vif (μ1 := m) (μ2 := m) (fun _ k1 k2 => gz_if_eq (pc := 7) (tgt := 25) hX dJ14_init_7 (by decide) k1 k2) (by first | exact Classical.em _ | exact (Classical.em _).symm) (fun g1 => ?_) (fun g1 => ?_)
  · replace h := gz_it' g1 h
    refine gz_Vs (fun _ kk => gz_aload_n (pc := 25) hX dJ14_init_25 rfl 0 rfl kk) rfl ?_
    refine gz_Vs (fun _ kk => gz_iload_n (pc := 26) hX dJ14_init_26 rfl 1 rfl kk) rfl ?_
    exact nomatch h
  · replace h := gz_if' g1 h
    refine gz_Vs (fun _ kk => gz_aload_n (pc := 10) hX dJ14_init_10 rfl 0 rfl kk) rfl ?_
    refine gz_Vs (fun _ kk => gz_iload_n (pc := 11) hX dJ14_init_11 rfl 1 rfl kk) rfl ?_
    obtain ⟨g2, h⟩ := gz_gu h
    obtain ⟨m3, em3, h⟩ := gz_lt h
    refine gz_Vn (fun _ kk => gz_newa (pc := 12) (t := 1) (N := gz_ix x1) hX rfl rfl q369 rfl ⟨⟨g2.1, Nat.lt_succ_self _⟩, rfl⟩ g2.2.1 g2.2.2 clc_al dJ14_init_12 em3 kk) em3 ?_
    obtain ⟨g4, h⟩ := gz_gu h
    obtain ⟨g5, h⟩ := gz_gu h
    obtain ⟨g6, h⟩ := gz_gu h
    obtain ⟨m7, em7, h⟩ := gz_lt h
    refine gz_Vs (fun _ kk => cp_J14_15_22 (pc := 14) hX (c := c0) (fun _ => g4) g5 g6 dJ14_init_14 em7 kk) (by rw [em7]; rfl) ?_
    refine gz_Vs (fun _ kk => gz_aload_n (pc := 17) hX dJ14_init_17 rfl 0 rfl kk) rfl ?_
    refine gz_Vs (fun _ kk => gz_iconst (pc := 18) (v := (0 : Int32)) hX dJ14_init_18 (by decide) kk) rfl ?_
    obtain ⟨g8, h⟩ := gz_gu h
    obtain ⟨g9, h⟩ := gz_gu h
    obtain ⟨m10, em10, h⟩ := gz_lt h
    refine gz_Vs (fun _ kk => cp_J14_22_22 (pc := 19) hX (c := c0) (fun _ => g8) g9 (Or.inl rfl) dJ14_init_19 em10 kk) (by rw [em10]; rfl) ?_
    refine gz_Vs (fun _ kk => gz_goto (pc := 22) (tgt := 38) hX dJ14_init_22 (by decide) kk) rfl ?_
    obtain rfl := Option.some.inj h
    exact hk _ _ dJ14_init_38
theorem ct_J14_init {G : gz_G} {l : Launch} {c0 : Nat} {x1 : Int32}  {m m9 : gM} (h : cf_J14_init c0 x1 m = some ((), m9)) : gz_Met cS G l yJ14_init cJ14_init 2 none (mRc 1 20 (gZ m9 - gZ m) (gW m9 - gW m)) [.ref (gz_ad G c0), .int x1] m m9 none :=
  gz_ofVc (by decide +kernel) (Nat.le_of_ble_eq_true rfl) fun X _ hn hX hk => (wm_J14_init (zE := m9.2.2.2.2.2) hX hn h (fun pc lv hd => gz_Ve (hk pc lv hd))).2
theorem cg_J14_22_22 {X : gz_X} {G : gz_G} {cc : ByteArray} {nL fr lo pc : Nat} {rem : Nat × Nat} {m : gM} {lv : List (Nat × Value)} {st : List Value} (hX : gz_C cS X G cc nL RJ14 fr lo) {c : Nat} {v : Value} (hK : clc m.1 m.2.1 m.2.2.2.2.1 → m.1 c = 22 + 1) (hv : clc m.1 m.2.1 m.2.2.2.2.1 → gz_u (gz_ad G) m (ftC 22 1) c 1 = v) (hd : decode cc pc = .ok (.getfield 22, 3)) (kk : gz_V cS X G nL rem m (pc + 3) lv (v :: st)) : gz_V cS X G nL rem m pc lv (.ref (gz_ad G c) :: st) :=
  gz_getf hX (C := RJ15) (T := TJ15) (N := 4) (ci := 22) (k := 1) rfl (by decide) in_J15 (by decide) (Or.inl (hX.2.2.2.2.1 _ q1057)) hd hK hv kk
/-! java/lang/AbstractStringBuilder.isLatin1()Z -/
noncomputable def mj_J14_isLatin1_17 (c0 : Nat) (m : gM) : Option (Int32 × gM) :=
  some ((0 : Int32), m)
theorem wb_J14_isLatin1_17 {X : gz_X} {G : gz_G} (hX : gz_C cS X G cJ14_isLatin1 1 RJ14 0 0) {c0 : Nat}  {m : gM} {z : (Int32 × gM)} (h : mj_J14_isLatin1_17 c0 m = some z) (hk : (fun z : (Int32 × gM) => gz_kZ cS X G 1 (0, 0) cJ14_isLatin1 z.2 z.1) z) : gz_V cS X G 1 (0, 0) m 17 [(0, .ref (gz_ad G c0))] [] := by
  unfold mj_J14_isLatin1_17 at h
  refine gz_iconst (pc := 17) (v := (0 : Int32)) hX dJ14_isLatin1_17 (by decide) ?_
  obtain rfl := Option.some.inj h
  exact hk _ _ dJ14_isLatin1_18 (Or.inl rfl)
noncomputable def cf_J14_isLatin1 (c0 : Nat) (m : gM) : Option (Int32 × gM) :=
  (if (1 : Int32) = (0 : Int32) then (mj_J14_isLatin1_17 c0 m) else (if gK m c0 = 23 then (if (gI m c0 1) = (0 : Int32) then some ((1 : Int32), m) else (mj_J14_isLatin1_17 c0 m)) else none))
theorem wm_J14_isLatin1 {X : gz_X} {G : gz_G} (hX : gz_C cS X G cJ14_isLatin1 1 RJ14 0 0) {c0 : Nat}  {m : gM} {z : (Int32 × gM)} (h : cf_J14_isLatin1 c0 m = some z) (hk : (fun z : (Int32 × gM) => gz_kZ cS X G 1 (0, 0) cJ14_isLatin1 z.2 z.1) z) : gz_V cS X G 1 (0, 0) m 0 [(0, .ref (gz_ad G c0))] [] := by
  unfold cf_J14_isLatin1 at h
  refine cs_J14_18 (pc := 0) hX dJ14_isLatin1_0 ?_
  refine gz_if_eq (pc := 3) (tgt := 17) hX dJ14_isLatin1_3 (by decide) (fun g1 => ?_) (fun g1 => ?_)
  · replace h := gz_it' g1 h
    exact wb_J14_isLatin1_17 hX h hk
  · replace h := gz_if' g1 h
    refine gz_aload_n (pc := 6) hX dJ14_isLatin1_6 rfl 0 rfl ?_
    obtain ⟨g2, h⟩ := gz_gu h
    refine cg_J14_22_22 (pc := 7) hX (c := c0) (v := .int (gI m c0 1)) (fun _ => g2) (fun _ => rfl) dJ14_isLatin1_7 ?_
    refine gz_if_ne (pc := 10) (tgt := 17) hX dJ14_isLatin1_10 (by decide) (fun g3 => ?_) (fun g3 => ?_)
    · replace h := gz_if' g3 h
      exact wb_J14_isLatin1_17 hX h hk
    · replace h := gz_it' g3 h
      refine gz_iconst (pc := 13) (v := (1 : Int32)) hX dJ14_isLatin1_13 (by decide) ?_
      refine gz_goto (pc := 14) (tgt := 18) hX dJ14_isLatin1_14 (by decide) ?_
      obtain rfl := Option.some.inj h
      exact hk _ _ dJ14_isLatin1_18 (Or.inr rfl)
theorem ct_J14_isLatin1 {G : gz_G} {l : Launch} {c0 : Nat}  {m m9 : gM} {r : Int32} (h : cf_J14_isLatin1 c0 m = some (r, m9)) : gz_Met cS G l yJ14_isLatin1 cJ14_isLatin1 1 (some .boolean) (mRm 0 0) [.ref (gz_ad G c0)] m m9 (some (.int r)) :=
  gz_ofZ (by decide +kernel) (Nat.le_of_ble_eq_true rfl) fun X _ hX hk => wm_J14_isLatin1 hX h hk
theorem cc_J14_83 {X : gz_X} {G : gz_G} {cc : ByteArray} {nL fr lo pc : Nat} {rem : Nat × Nat} {lv : List (Nat × Value)} {rest st0 : List Value} (hX : gz_C cS X G cc nL RJ14 fr lo) {c0 : Nat} {m m9 : gM} (hK : clc m.1 m.2.1 m.2.2.2.2.1 → m.1 c0 = 22 + 1)  {r : Int32} (h : cf_J14_isLatin1 c0 m = some (r, m9)) (hroom : 0 + 1 ≤ fr ∧ 8 + (1 + 11) + 0 ≤ lo) (hst : st0 = [.ref (gz_ad G c0)] ++ rest) (hW : (rest.map fun v => v.category).sum ≤ 8) (hd : decode cc pc = .ok (.invokevirtual 83, 3)) (kk : gz_V cS X G nL rem m9 (pc + 3) lv (.int r :: rest)) : gz_V cS X G nL rem m pc lv st0 :=
  gz_callU hX cs_E (x := ⟨"java/lang/AbstractStringBuilder", "isLatin1", "()Z"⟩) (owner := "java/lang/AbstractStringBuilder") (As := []) (rest := rest) (q := (RJ15, TJ15, 4)) (ci := 22) (c := c0) (ct_J14_isLatin1 (l := X.2.1) h) (va_cwU 0 hX.2.2.2.2.1 (lw_app (by intro w hw; simp only [List.mem_cons, List.not_mem_nil, or_false] at hw; rcases hw with e | e | e | e | e <;> rw [e] <;> first | exact q1191 | exact q1193 | exact q1194 | exact q1192 | exact q195) (lw_meth q1195)) rfl rfl rfl rfl (by decide +kernel) ⟨Nat.le_trans hroom.1 hX.2.2.2.2.2.2.1, Nat.le_trans hroom.2 hX.2.2.2.2.2.2.2⟩) rfl rfl (by decide) hK hst hW hd (rem := rem) kk
theorem cg_J14_15_22 {X : gz_X} {G : gz_G} {cc : ByteArray} {nL fr lo pc : Nat} {rem : Nat × Nat} {m : gM} {lv : List (Nat × Value)} {st : List Value} (hX : gz_C cS X G cc nL RJ14 fr lo) {c : Nat} {v : Value} (hK : clc m.1 m.2.1 m.2.2.2.2.1 → m.1 c = 22 + 1) (hv : clc m.1 m.2.1 m.2.2.2.2.1 → gz_u (gz_ad G) m (ftC 22 0) c 0 = v) (hd : decode cc pc = .ok (.getfield 15, 3)) (kk : gz_V cS X G nL rem m (pc + 3) lv (v :: st)) : gz_V cS X G nL rem m pc lv (.ref (gz_ad G c) :: st) :=
  gz_getf hX (C := RJ15) (T := TJ15) (N := 4) (ci := 22) (k := 0) rfl (by decide) in_J15 (by decide) (Or.inl (hX.2.2.2.2.1 _ q1056)) hd hK hv kk
/-! java/lang/AbstractStringBuilder.inflate()V -/
noncomputable def cf_J14_inflate (c0 : Nat) (m : gM) : Option (Unit × gM) :=
  (if gK m c0 = 23 then ((cf_J14_isLatin1 c0 m).bind fun (r2, m3) => (if r2 = (0 : Int32) then some ((), m3) else (if gK m3 c0 = 23 then gz_let (gP m3 c0 0) fun r7 => (if r7 ≠ 0 then (if gK m3 r7 = 102 then none else none) else none) else none))) else none)
theorem wm_J14_inflate {X : gz_X} {G : gz_G} (hX : gz_C cS X G cJ14_inflate 2 RJ14 1 20) {c0 : Nat}  {m : gM} {z : (Unit × gM)} (h : cf_J14_inflate c0 m = some z) (hk : (fun z : (Unit × gM) => gz_kV cS X G 2 (0, 0) cJ14_inflate z.2) z) : gz_V cS X G 2 (0, 0) m 0 [(0, .ref (gz_ad G c0))] [] := by
  unfold cf_J14_inflate at h
  refine gz_aload_n (pc := 0) hX dJ14_inflate_0 rfl 0 rfl ?_
  obtain ⟨g1, h⟩ := gz_gu h
  obtain ⟨⟨r2, m3⟩, c4, h⟩ := gz_bd h
  refine cc_J14_83 (pc := 1) hX (fun _ => g1) c4 ⟨Nat.le_of_ble_eq_true rfl, Nat.le_of_ble_eq_true rfl⟩ (rest := []) rfl (Nat.le_of_ble_eq_true rfl) dJ14_inflate_1 ?_
  refine gz_if_ne (pc := 4) (tgt := 8) hX dJ14_inflate_4 (by decide) (fun g5 => ?_) (fun g5 => ?_)
  · replace h := gz_if' g5 h
    refine gz_aload_n (pc := 8) hX dJ14_inflate_8 rfl 0 rfl ?_
    obtain ⟨g6, h⟩ := gz_gu h
    obtain ⟨r7, er7, h⟩ := gz_lt h
    obtain ⟨g8, h⟩ := gz_gu h
    refine cg_J14_15_22 (pc := 9) hX (c := c0) (v := .ref (gz_ad G r7)) (fun _ => g6) (fun _ => gz_rq er7 g8) dJ14_inflate_9 ?_
    obtain ⟨g9, h⟩ := gz_gu h
    refine gz_alen2 (pc := 12) (c := r7) (t := 1) (n := gN m3 r7) hX rfl (fun _ => ⟨g9, rfl⟩) dJ14_inflate_12 ?_
    exact nomatch h
  · replace h := gz_it' g5 h
    obtain rfl := Option.some.inj h
    exact hk _ _ dJ14_inflate_7
theorem ct_J14_inflate {G : gz_G} {l : Launch} {c0 : Nat}  {m m9 : gM} (h : cf_J14_inflate c0 m = some ((), m9)) : gz_Met cS G l yJ14_inflate cJ14_inflate 2 none (mRm 1 20) [.ref (gz_ad G c0)] m m9 none :=
  gz_ofV (by decide +kernel) (Nat.le_of_ble_eq_true rfl) fun X _ hX hk => wm_J14_inflate hX h hk
theorem cg_X21_7_18 {X : gz_X} {G : gz_G} {cc : ByteArray} {nL fr lo pc : Nat} {rem : Nat × Nat} {m : gM} {lv : List (Nat × Value)} {st : List Value} (hX : gz_C cS X G cc nL RX21 fr lo) {c : Nat} {v : Value} (hK : clc m.1 m.2.1 m.2.2.2.2.1 → m.1 c = 18 + 1) (hv : clc m.1 m.2.1 m.2.2.2.2.1 → gz_u (gz_ad G) m (ftC 18 0) c 0 = v) (hd : decode cc pc = .ok (.getfield 7, 3)) (kk : gz_V cS X G nL rem m (pc + 3) lv (v :: st)) : gz_V cS X G nL rem m pc lv (.ref (gz_ad G c) :: st) :=
  gz_getf hX (C := RX21) (T := TX21) (N := 3) (ci := 18) (k := 0) rfl (by decide) in_X21 (by decide) (Or.inl (hX.2.2.2.2.1 _ q1285)) hd hK hv kk
theorem cd_X21_20 {X : gz_X} {G : gz_G} {cc : ByteArray} {nL fr lo pc f n : Nat} {lv : List (Nat × Value)} {rest st0 : List Value} (hX : gz_C cS X G cc nL RX21 fr lo) {oA : Nat → Nat → gM → Option (Int64 × gM)} {oT : Nat → Nat → gM → Option (Int32 × gM)} {v mo : Nat} {m m9 : gM} {r : Int64} (hO : cO G X.2.1 f n oA oT) (h : oA v mo m = some (r, m9)) (hroom : f + 1 ≤ fr ∧ n + 40 ≤ lo) (hst : st0 = [.ref (gz_ad G mo), .ref (gz_ad G v)] ++ rest) (hW : (rest.map fun v => v.category).sum ≤ 8) (hd : decode cc pc = .ok (.invokevirtual 20, 3)) (kk : gz_V cS X G nL (0, 0) m9 (pc + 3) lv (.long r :: rest)) : gz_V cS X G nL (0, 0) m pc lv st0 := by
  rcases hO.1 v mo m r m9 h with ⟨hk, hM⟩ | ⟨hk, hM⟩ | ⟨hk, hM⟩ | ⟨hk, hM⟩ | ⟨hk, hM⟩
  · exact gz_callU hX cs_E (x := ⟨"FirstSnuffer$Value", "at", "(LFirstSnuffer$Moment;)J"⟩) (owner := "FirstSnuffer$Value") (As := [.ref (gz_ad G mo)]) (rest := rest) (q := (RX14, TX14, 1)) (ci := 12) (c := v) hM (va_cwA 1 hX.2.2.2.2.1 (lw_app (by intro w hw; simp only [List.mem_cons, List.not_mem_nil, or_false] at hw; rcases hw with e | e | e | e | e <;> rw [e] <;> first | exact q1407 | exact q1409 | exact q1479 | exact q1431 | exact q198) (lw_meth q1432)) rfl rfl rfl (cz_n (Z := cS) hX q1408 rfl) (by decide +kernel) ⟨Nat.le_trans hroom.1 hX.2.2.2.2.2.2.1, by have := hX.2.2.2.2.2.2.2; have h1 := hroom.2; show 8 + (2 + 11) + n ≤ _; omega⟩) rfl rfl (by decide) (fun _ => hk) hst hW hd (rem := (0, 0)) kk
  · exact gz_callU hX cs_E (x := ⟨"FirstSnuffer$Value", "at", "(LFirstSnuffer$Moment;)J"⟩) (owner := "FirstSnuffer$Value") (As := [.ref (gz_ad G mo)]) (rest := rest) (q := (RX15, TX15, 1)) (ci := 13) (c := v) hM (va_cwA 1 hX.2.2.2.2.1 (lw_app (by intro w hw; simp only [List.mem_cons, List.not_mem_nil, or_false] at hw; rcases hw with e | e | e | e | e <;> rw [e] <;> first | exact q1407 | exact q1409 | exact q1410 | exact q1411 | exact q199) (lw_meth q1412)) rfl rfl rfl (cz_n (Z := cS) hX q1408 rfl) (by decide +kernel) ⟨Nat.le_trans hroom.1 hX.2.2.2.2.2.2.1, by have := hX.2.2.2.2.2.2.2; have h1 := hroom.2; show 8 + (2 + 11) + n ≤ _; omega⟩) rfl rfl (by decide) (fun _ => hk) hst hW hd (rem := (0, 0)) kk
  · exact gz_callU hX cs_E (x := ⟨"FirstSnuffer$Value", "at", "(LFirstSnuffer$Moment;)J"⟩) (owner := "FirstSnuffer$Value") (As := [.ref (gz_ad G mo)]) (rest := rest) (q := (RX13, TX13, 3)) (ci := 11) (c := v) hM (va_cwA 1 hX.2.2.2.2.1 (lw_app (by intro w hw; simp only [List.mem_cons, List.not_mem_nil, or_false] at hw; rcases hw with e | e | e | e | e <;> rw [e] <;> first | exact q1407 | exact q1409 | exact q1481 | exact q1436 | exact q197) (lw_meth q1437)) rfl rfl rfl (cz_n (Z := cS) hX q1408 rfl) (by decide +kernel) ⟨Nat.le_trans hroom.1 hX.2.2.2.2.2.2.1, by have := hX.2.2.2.2.2.2.2; have h1 := hroom.2; show 8 + (6 + 11) + n ≤ _; omega⟩) rfl rfl (by decide) (fun _ => hk) hst hW hd (rem := (0, 0)) kk
  · exact gz_callU hX cs_E (x := ⟨"FirstSnuffer$Value", "at", "(LFirstSnuffer$Moment;)J"⟩) (owner := "FirstSnuffer$Value") (As := [.ref (gz_ad G mo)]) (rest := rest) (q := (RX12, TX12, 2)) (ci := 10) (c := v) hM (va_cwA 1 hX.2.2.2.2.1 (lw_app (by intro w hw; simp only [List.mem_cons, List.not_mem_nil, or_false] at hw; rcases hw with e | e | e | e | e <;> rw [e] <;> first | exact q1407 | exact q1409 | exact q1424 | exact q1425 | exact q194) (lw_meth q1426)) rfl rfl rfl (cz_n (Z := cS) hX q1408 rfl) (by decide +kernel) ⟨Nat.le_trans hroom.1 hX.2.2.2.2.2.2.1, by have := hX.2.2.2.2.2.2.2; have h1 := hroom.2; show 8 + (5 + 11) + n ≤ _; omega⟩) rfl rfl (by decide) (fun _ => hk) hst hW hd (rem := (0, 0)) kk
  · exact gz_callU hX cs_E (x := ⟨"FirstSnuffer$Value", "at", "(LFirstSnuffer$Moment;)J"⟩) (owner := "FirstSnuffer$Value") (As := [.ref (gz_ad G mo)]) (rest := rest) (q := (RX16, TX16, 3)) (ci := 14) (c := v) hM (va_cwA 1 hX.2.2.2.2.1 (lw_app (by intro w hw; simp only [List.mem_cons, List.not_mem_nil, or_false] at hw; rcases hw with e | e | e | e | e <;> rw [e] <;> first | exact q1407 | exact q1409 | exact q1480 | exact q1433 | exact q200) (lw_meth q1434)) rfl rfl rfl (cz_n (Z := cS) hX q1408 rfl) (by decide +kernel) ⟨Nat.le_trans hroom.1 hX.2.2.2.2.2.2.1, by have := hX.2.2.2.2.2.2.2; have h1 := hroom.2; show 8 + (2 + 11) + n ≤ _; omega⟩) rfl rfl (by decide) (fun _ => hk) hst hW hd (rem := (0, 0)) kk
theorem cg_X21_17_18 {X : gz_X} {G : gz_G} {cc : ByteArray} {nL fr lo pc : Nat} {rem : Nat × Nat} {m : gM} {lv : List (Nat × Value)} {st : List Value} (hX : gz_C cS X G cc nL RX21 fr lo) {c : Nat} {v : Value} (hK : clc m.1 m.2.1 m.2.2.2.2.1 → m.1 c = 18 + 1) (hv : clc m.1 m.2.1 m.2.2.2.2.1 → gz_u (gz_ad G) m (ftC 18 1) c 1 = v) (hd : decode cc pc = .ok (.getfield 17, 3)) (kk : gz_V cS X G nL rem m (pc + 3) lv (v :: st)) : gz_V cS X G nL rem m pc lv (.ref (gz_ad G c) :: st) :=
  gz_getf hX (C := RX21) (T := TX21) (N := 3) (ci := 18) (k := 1) rfl (by decide) in_X21 (by decide) (Or.inl (hX.2.2.2.2.1 _ q1286)) hd hK hv kk
theorem cg_X21_13_18 {X : gz_X} {G : gz_G} {cc : ByteArray} {nL fr lo pc : Nat} {rem : Nat × Nat} {m : gM} {lv : List (Nat × Value)} {st : List Value} (hX : gz_C cS X G cc nL RX21 fr lo) {c : Nat} {v : Value} (hK : clc m.1 m.2.1 m.2.2.2.2.1 → m.1 c = 18 + 1) (hv : clc m.1 m.2.1 m.2.2.2.2.1 → gz_u (gz_ad G) m (ftC 18 2) c 2 = v) (hd : decode cc pc = .ok (.getfield 13, 3)) (kk : gz_V cS X G nL rem m (pc + 3) lv (v :: st)) : gz_V cS X G nL rem m pc lv (.ref (gz_ad G c) :: st) :=
  gz_getf hX (C := RX21) (T := TX21) (N := 3) (ci := 18) (k := 2) rfl (by decide) in_X21 (by decide) (Or.inl (hX.2.2.2.2.1 _ q1287)) hd hK hv kk
/-! FirstSnuffer$Than.holds(LFirstSnuffer$Moment;)Z -/
noncomputable def cf_X21_holds (oA : Nat → Nat → gM → Option (Int64 × gM)) (oT : Nat → Nat → gM → Option (Int32 × gM)) (c0 : Nat) (c1 : Nat) (m : gM) : Option (Int32 × gM) :=
  (if gK m c0 = 19 then gz_let (gP m c0 0) fun r2 => (if r2 ≠ 0 then ((oA r2 c1 m).bind fun (r4, m5) => (if gK m5 c0 = 19 then gz_let (gP m5 c0 1) fun r8 => (if r8 ≠ 0 then ((oA r8 c1 m5).bind fun (r10, m11) => (if gK m11 c0 = 19 then (if (gI m11 c0 2) = (60 : Int32) then (if r10 ≤ r4 then some ((0 : Int32), m11) else some ((1 : Int32), m11)) else (if gK m11 c0 = 19 then (if (gI m11 c0 2) = (62 : Int32) then (if r4 ≤ r10 then some ((0 : Int32), m11) else some ((1 : Int32), m11)) else (if r4 = r10 then some ((1 : Int32), m11) else some ((0 : Int32), m11))) else none)) else none)) else none) else none)) else none) else none)
theorem wm_X21_holds {X : gz_X} {G : gz_G} {oA : Nat → Nat → gM → Option (Int64 × gM)} {oT : Nat → Nat → gM → Option (Int32 × gM)} {f n : Nat} (hX : gz_C cS X G cX21_holds 6 RX21 (f + 1) (n + 40)) (h1 : 20 ≤ f) (h2 : 300 ≤ n) (hO : cO G X.2.1 f n oA oT) {c0 : Nat} {c1 : Nat}  {m : gM} {z : (Int32 × gM)} (h : cf_X21_holds oA oT c0 c1 m = some z) (hk : (fun z : (Int32 × gM) => gz_kZ cS X G 6 (0, 0) cX21_holds z.2 z.1) z) : gz_V cS X G 6 (0, 0) m 0 [(0, .ref (gz_ad G c0)), (1, .ref (gz_ad G c1))] [] := by
  unfold cf_X21_holds at h
  refine gz_aload_n (pc := 0) hX dX21_holds_0 rfl 0 rfl ?_
  obtain ⟨g1, h⟩ := gz_gu h
  obtain ⟨r2, er2, h⟩ := gz_lt h
  obtain ⟨g3, h⟩ := gz_gu h
  refine cg_X21_7_18 (pc := 1) hX (c := c0) (v := .ref (gz_ad G r2)) (fun _ => g1) (fun _ => gz_rq er2 g3) dX21_holds_1 ?_
  refine gz_aload_n (pc := 4) hX dX21_holds_4 rfl 1 rfl ?_
  obtain ⟨⟨r4, m5⟩, c6, h⟩ := gz_bd h
  refine cd_X21_20 (pc := 5) hX hO c6 ⟨by omega, by omega⟩ (rest := []) rfl (Nat.le_of_ble_eq_true rfl) dX21_holds_5 ?_
  refine gz_lstore_n (pc := 8) (lw := [(2, .long r4), (0, .ref (gz_ad G c0)), (1, .ref (gz_ad G c1))]) hX dX21_holds_8 rfl (by decide) rfl ?_
  refine gz_aload_n (pc := 9) hX dX21_holds_9 rfl 1 rfl ?_
  obtain ⟨g7, h⟩ := gz_gu h
  obtain ⟨r8, er8, h⟩ := gz_lt h
  obtain ⟨g9, h⟩ := gz_gu h
  refine cg_X21_17_18 (pc := 10) hX (c := c0) (v := .ref (gz_ad G r8)) (fun _ => g7) (fun _ => gz_rq er8 g9) dX21_holds_10 ?_
  refine gz_aload_n (pc := 13) hX dX21_holds_13 rfl 2 rfl ?_
  obtain ⟨⟨r10, m11⟩, c12, h⟩ := gz_bd h
  refine cd_X21_20 (pc := 14) hX hO c12 ⟨by omega, by omega⟩ (rest := []) rfl (Nat.le_of_ble_eq_true rfl) dX21_holds_14 ?_
  refine gz_lstore (pc := 17) (lw := [(4, .long r10), (2, .long r4), (0, .ref (gz_ad G c0)), (1, .ref (gz_ad G c1))]) hX dX21_holds_17 (by decide) rfl ?_
  refine gz_aload_n (pc := 19) hX dX21_holds_19 rfl 2 rfl ?_
  obtain ⟨g13, h⟩ := gz_gu h
  refine cg_X21_13_18 (pc := 20) hX (c := c0) (v := .int (gI m11 c0 2)) (fun _ => g13) (fun _ => rfl) dX21_holds_20 ?_
  refine gz_bipush (pc := 23) (v := (60 : Int32)) hX dX21_holds_23 (by decide) ?_
  refine gz_icmp_ne (pc := 25) (tgt := 43) hX dX21_holds_25 (by decide) (fun g14 => ?_) (fun g14 => ?_)
  · replace h := gz_if' g14 h
    refine gz_aload_n (pc := 43) hX dX21_holds_43 rfl 2 rfl ?_
    obtain ⟨g15, h⟩ := gz_gu h
    refine cg_X21_13_18 (pc := 44) hX (c := c0) (v := .int (gI m11 c0 2)) (fun _ => g15) (fun _ => rfl) dX21_holds_44 ?_
    refine gz_bipush (pc := 47) (v := (62 : Int32)) hX dX21_holds_47 (by decide) ?_
    refine gz_icmp_ne (pc := 49) (tgt := 67) hX dX21_holds_49 (by decide) (fun g16 => ?_) (fun g16 => ?_)
    · replace h := gz_if' g16 h
      refine gz_lload_n (pc := 67) hX dX21_holds_67 rfl 1 rfl ?_
      refine gz_lload (pc := 68) hX dX21_holds_68 0 rfl ?_
      refine gz_lcmp_ne (pc := 70) (tgt := 78) hX dX21_holds_70 dX21_holds_71 (by decide) (fun g17 => ?_) (fun g17 => ?_)
      · replace h := gz_if' g17 h
        refine gz_iconst (pc := 78) (v := (0 : Int32)) hX dX21_holds_78 (by decide) ?_
        obtain rfl := Option.some.inj h
        exact hk _ _ dX21_holds_79 (Or.inl rfl)
      · replace h := gz_it' g17 h
        refine gz_iconst (pc := 74) (v := (1 : Int32)) hX dX21_holds_74 (by decide) ?_
        refine gz_goto (pc := 75) (tgt := 79) hX dX21_holds_75 (by decide) ?_
        obtain rfl := Option.some.inj h
        exact hk _ _ dX21_holds_79 (Or.inr rfl)
    · replace h := gz_it' g16 h
      refine gz_lload_n (pc := 52) hX dX21_holds_52 rfl 1 rfl ?_
      refine gz_lload (pc := 53) hX dX21_holds_53 0 rfl ?_
      refine gz_lcmp_le (pc := 55) (tgt := 63) hX dX21_holds_55 dX21_holds_56 (by decide) (fun g18 => ?_) (fun g18 => ?_)
      · replace h := gz_it' g18 h
        refine gz_iconst (pc := 63) (v := (0 : Int32)) hX dX21_holds_63 (by decide) ?_
        refine gz_goto (pc := 64) (tgt := 79) hX dX21_holds_64 (by decide) ?_
        obtain rfl := Option.some.inj h
        exact hk _ _ dX21_holds_79 (Or.inl rfl)
      · replace h := gz_if' g18 h
        refine gz_iconst (pc := 59) (v := (1 : Int32)) hX dX21_holds_59 (by decide) ?_
        refine gz_goto (pc := 60) (tgt := 79) hX dX21_holds_60 (by decide) ?_
        obtain rfl := Option.some.inj h
        exact hk _ _ dX21_holds_79 (Or.inr rfl)
  · replace h := gz_it' g14 h
    refine gz_lload_n (pc := 28) hX dX21_holds_28 rfl 1 rfl ?_
    refine gz_lload (pc := 29) hX dX21_holds_29 0 rfl ?_
    refine gz_lcmp_ge (pc := 31) (tgt := 39) hX dX21_holds_31 dX21_holds_32 (by decide) (fun g19 => ?_) (fun g19 => ?_)
    · replace h := gz_it' g19 h
      refine gz_iconst (pc := 39) (v := (0 : Int32)) hX dX21_holds_39 (by decide) ?_
      refine gz_goto (pc := 40) (tgt := 79) hX dX21_holds_40 (by decide) ?_
      obtain rfl := Option.some.inj h
      exact hk _ _ dX21_holds_79 (Or.inl rfl)
    · replace h := gz_if' g19 h
      refine gz_iconst (pc := 35) (v := (1 : Int32)) hX dX21_holds_35 (by decide) ?_
      refine gz_goto (pc := 36) (tgt := 79) hX dX21_holds_36 (by decide) ?_
      obtain rfl := Option.some.inj h
      exact hk _ _ dX21_holds_79 (Or.inr rfl)
theorem cg_X5_15_5 {X : gz_X} {G : gz_G} {cc : ByteArray} {nL fr lo pc : Nat} {rem : Nat × Nat} {m : gM} {lv : List (Nat × Value)} {st : List Value} (hX : gz_C cS X G cc nL RX5 fr lo) {c : Nat} {v : Value} (hK : clc m.1 m.2.1 m.2.2.2.2.1 → m.1 c = 5 + 1) (hv : clc m.1 m.2.1 m.2.2.2.2.1 → gz_u (gz_ad G) m (ftC 5 4) c 4 = v) (hd : decode cc pc = .ok (.getfield 15, 3)) (kk : gz_V cS X G nL rem m (pc + 3) lv (v :: st)) : gz_V cS X G nL rem m pc lv (.ref (gz_ad G c) :: st) :=
  gz_getf hX (C := RX5) (T := TX5) (N := 10) (ci := 5) (k := 4) rfl (by decide) in_X5 (by decide) (Or.inl (hX.2.2.2.2.1 _ q426)) hd hK hv kk
/-! FirstSnuffer$State.isLit(I)Z -/
noncomputable def cf_X5_isLit (c0 : Nat) (x1 : Int32) (m : gM) : Option (Int32 × gM) :=
  (if gz_in x1 (8) then (if (gI m (c0 + 1) (gz_ix x1)) ≤ (0 : Int32) then some ((0 : Int32), m) else some ((1 : Int32), m)) else none)
theorem wm_X5_isLit {X : gz_X} {G : gz_G} (hX : gz_C cS X G cX5_isLit 2 RX5 0 0) {c0 : Nat} {x1 : Int32} (hs_c0 : cSt c0 = true) {m : gM} {z : (Int32 × gM)} (h : cf_X5_isLit c0 x1 m = some z) (hk : (fun z : (Int32 × gM) => gz_kZ cS X G 2 (0, 0) cX5_isLit z.2 z.1) z) : gz_V cS X G 2 (0, 0) m 0 [(0, .ref (gz_ad G c0)), (1, .int x1)] [] := by
  unfold cf_X5_isLit at h
  refine gz_aload_n (pc := 0) hX dX5_isLit_0 rfl 0 rfl ?_
  refine cg_X5_15_5 (pc := 1) hX (c := c0) (v := .ref (gz_ad G (c0 + 1))) (fun h => cz_k h (st_k hs_c0)) (fun h => cz_f h (st_0 hs_c0) (st_f4 hs_c0) (by omega) rfl) dX5_isLit_1 ?_
  refine gz_iload_n (pc := 4) hX dX5_isLit_4 rfl 1 rfl ?_
  obtain ⟨g1, h⟩ := gz_gu h
  refine gz_iald2 (pc := 5) (c := (c0 + 1)) (n := 8) hX rfl (fun h => cz_a h (st_a1 hs_c0).1 (by decide) (st_a1 hs_c0).2) g1 dX5_isLit_5 ?_
  refine gz_if_le (pc := 6) (tgt := 13) hX dX5_isLit_6 (by decide) (fun g2 => ?_) (fun g2 => ?_)
  · replace h := gz_it' g2 h
    refine gz_iconst (pc := 13) (v := (0 : Int32)) hX dX5_isLit_13 (by decide) ?_
    obtain rfl := Option.some.inj h
    exact hk _ _ dX5_isLit_14 (Or.inl rfl)
  · replace h := gz_if' g2 h
    refine gz_iconst (pc := 9) (v := (1 : Int32)) hX dX5_isLit_9 (by decide) ?_
    refine gz_goto (pc := 10) (tgt := 14) hX dX5_isLit_10 (by decide) ?_
    obtain rfl := Option.some.inj h
    exact hk _ _ dX5_isLit_14 (Or.inr rfl)
theorem ct_X5_isLit {G : gz_G} {l : Launch} {c0 : Nat} {x1 : Int32} (hs_c0 : cSt c0 = true) {m m9 : gM} {r : Int32} (h : cf_X5_isLit c0 x1 m = some (r, m9)) : gz_Met cS G l yX5_isLit cX5_isLit 2 (some .boolean) (mRm 0 0) [.ref (gz_ad G c0), .int x1] m m9 (some (.int r)) :=
  gz_ofZ (by decide +kernel) (Nat.le_of_ble_eq_true rfl) fun X _ hX hk => wm_X5_isLit hX hs_c0 h hk
theorem cg_X5_33_5 {X : gz_X} {G : gz_G} {cc : ByteArray} {nL fr lo pc : Nat} {rem : Nat × Nat} {m : gM} {lv : List (Nat × Value)} {st : List Value} (hX : gz_C cS X G cc nL RX5 fr lo) {c : Nat} {v : Value} (hK : clc m.1 m.2.1 m.2.2.2.2.1 → m.1 c = 5 + 1) (hv : clc m.1 m.2.1 m.2.2.2.2.1 → gz_u (gz_ad G) m (ftC 5 0) c 0 = v) (hd : decode cc pc = .ok (.getfield 33, 3)) (kk : gz_V cS X G nL rem m (pc + 3) lv (v :: st)) : gz_V cS X G nL rem m pc lv (.ref (gz_ad G c) :: st) :=
  gz_getf hX (C := RX5) (T := TX5) (N := 10) (ci := 5) (k := 0) rfl (by decide) in_X5 (by decide) (Or.inl (hX.2.2.2.2.1 _ q418)) hd hK hv kk
theorem cp_X5_33_5 {X : gz_X} {G : gz_G} {cc : ByteArray} {nL fr lo pc : Nat} {rem : Nat × Nat} {m m9 : gM} {lv : List (Nat × Value)} {st : List Value} (hX : gz_C cS X G cc nL RX5 fr lo) {c : Nat} {x : Int32} (hK : clc m.1 m.2.1 m.2.2.2.2.1 → m.1 c = 5 + 1) (hw : 1000 ≤ c) (hd : decode cc pc = .ok (.putfield 33, 3)) (hm : m9 = gz_sI m c 0 x) (kk : gz_V cS X G nL rem m9 (pc + 3) lv st) : gz_V cS X G nL rem m pc lv (.int x :: .ref (gz_ad G c) :: st) := by
  subst hm
  exact gz_putf hX (C := RX5) (T := TX5) (N := 10) (ci := 5) (k := 0) (ty := .int) (μ' := gz_sI m c 0 x) rfl (by decide) in_X5 tyX5 tyX5_ok nmX5 (by decide) (Or.inl (hX.2.2.2.2.1 _ q418)) rfl rfl rfl rfl hd hK hw rfl rfl rfl (fun d tc j h => gz_sI_o d tc j h) (gz_sI_v (fun j => ftC 5 j) rfl) (fun h => h) kk
theorem cg_X5_37_5 {X : gz_X} {G : gz_G} {cc : ByteArray} {nL fr lo pc : Nat} {rem : Nat × Nat} {m : gM} {lv : List (Nat × Value)} {st : List Value} (hX : gz_C cS X G cc nL RX5 fr lo) {c : Nat} {v : Value} (hK : clc m.1 m.2.1 m.2.2.2.2.1 → m.1 c = 5 + 1) (hv : clc m.1 m.2.1 m.2.2.2.2.1 → gz_u (gz_ad G) m (ftC 5 1) c 1 = v) (hd : decode cc pc = .ok (.getfield 37, 3)) (kk : gz_V cS X G nL rem m (pc + 3) lv (v :: st)) : gz_V cS X G nL rem m pc lv (.ref (gz_ad G c) :: st) :=
  gz_getf hX (C := RX5) (T := TX5) (N := 10) (ci := 5) (k := 1) rfl (by decide) in_X5 (by decide) (Or.inl (hX.2.2.2.2.1 _ q420)) hd hK hv kk
theorem cp_X5_37_5 {X : gz_X} {G : gz_G} {cc : ByteArray} {nL fr lo pc : Nat} {rem : Nat × Nat} {m m9 : gM} {lv : List (Nat × Value)} {st : List Value} (hX : gz_C cS X G cc nL RX5 fr lo) {c : Nat} {x : Int32} (hK : clc m.1 m.2.1 m.2.2.2.2.1 → m.1 c = 5 + 1) (hw : 1000 ≤ c) (hd : decode cc pc = .ok (.putfield 37, 3)) (hm : m9 = gz_sI m c 1 x) (kk : gz_V cS X G nL rem m9 (pc + 3) lv st) : gz_V cS X G nL rem m pc lv (.int x :: .ref (gz_ad G c) :: st) := by
  subst hm
  exact gz_putf hX (C := RX5) (T := TX5) (N := 10) (ci := 5) (k := 1) (ty := .int) (μ' := gz_sI m c 1 x) rfl (by decide) in_X5 tyX5 tyX5_ok nmX5 (by decide) (Or.inl (hX.2.2.2.2.1 _ q420)) rfl rfl rfl rfl hd hK hw rfl rfl rfl (fun d tc j h => gz_sI_o d tc j h) (gz_sI_v (fun j => ftC 5 j) rfl) (fun h => h) kk
theorem cg_X5_49_5 {X : gz_X} {G : gz_G} {cc : ByteArray} {nL fr lo pc : Nat} {rem : Nat × Nat} {m : gM} {lv : List (Nat × Value)} {st : List Value} (hX : gz_C cS X G cc nL RX5 fr lo) {c : Nat} {v : Value} (hK : clc m.1 m.2.1 m.2.2.2.2.1 → m.1 c = 5 + 1) (hv : clc m.1 m.2.1 m.2.2.2.2.1 → gz_u (gz_ad G) m (ftC 5 2) c 2 = v) (hd : decode cc pc = .ok (.getfield 49, 3)) (kk : gz_V cS X G nL rem m (pc + 3) lv (v :: st)) : gz_V cS X G nL rem m pc lv (.ref (gz_ad G c) :: st) :=
  gz_getf hX (C := RX5) (T := TX5) (N := 10) (ci := 5) (k := 2) rfl (by decide) in_X5 (by decide) (Or.inl (hX.2.2.2.2.1 _ q422)) hd hK hv kk
theorem cp_X5_49_5 {X : gz_X} {G : gz_G} {cc : ByteArray} {nL fr lo pc : Nat} {rem : Nat × Nat} {m m9 : gM} {lv : List (Nat × Value)} {st : List Value} (hX : gz_C cS X G cc nL RX5 fr lo) {c : Nat} {x : Int32} (hK : clc m.1 m.2.1 m.2.2.2.2.1 → m.1 c = 5 + 1) (hw : 1000 ≤ c) (hd : decode cc pc = .ok (.putfield 49, 3)) (hm : m9 = gz_sI m c 2 x) (kk : gz_V cS X G nL rem m9 (pc + 3) lv st) : gz_V cS X G nL rem m pc lv (.int x :: .ref (gz_ad G c) :: st) := by
  subst hm
  exact gz_putf hX (C := RX5) (T := TX5) (N := 10) (ci := 5) (k := 2) (ty := .int) (μ' := gz_sI m c 2 x) rfl (by decide) in_X5 tyX5 tyX5_ok nmX5 (by decide) (Or.inl (hX.2.2.2.2.1 _ q422)) rfl rfl rfl rfl hd hK hw rfl rfl rfl (fun d tc j h => gz_sI_o d tc j h) (gz_sI_v (fun j => ftC 5 j) rfl) (fun h => h) kk
theorem cg_X5_56_5 {X : gz_X} {G : gz_G} {cc : ByteArray} {nL fr lo pc : Nat} {rem : Nat × Nat} {m : gM} {lv : List (Nat × Value)} {st : List Value} (hX : gz_C cS X G cc nL RX5 fr lo) {c : Nat} {v : Value} (hK : clc m.1 m.2.1 m.2.2.2.2.1 → m.1 c = 5 + 1) (hv : clc m.1 m.2.1 m.2.2.2.2.1 → gz_u (gz_ad G) m (ftC 5 3) c 3 = v) (hd : decode cc pc = .ok (.getfield 56, 3)) (kk : gz_V cS X G nL rem m (pc + 3) lv (v :: st)) : gz_V cS X G nL rem m pc lv (.ref (gz_ad G c) :: st) :=
  gz_getf hX (C := RX5) (T := TX5) (N := 10) (ci := 5) (k := 3) rfl (by decide) in_X5 (by decide) (Or.inl (hX.2.2.2.2.1 _ q424)) hd hK hv kk
theorem cp_X5_56_5 {X : gz_X} {G : gz_G} {cc : ByteArray} {nL fr lo pc : Nat} {rem : Nat × Nat} {m m9 : gM} {lv : List (Nat × Value)} {st : List Value} (hX : gz_C cS X G cc nL RX5 fr lo) {c : Nat} {x : Int32} (hK : clc m.1 m.2.1 m.2.2.2.2.1 → m.1 c = 5 + 1) (hw : 1000 ≤ c) (hd : decode cc pc = .ok (.putfield 56, 3)) (hm : m9 = gz_sI m c 3 x) (kk : gz_V cS X G nL rem m9 (pc + 3) lv st) : gz_V cS X G nL rem m pc lv (.int x :: .ref (gz_ad G c) :: st) := by
  subst hm
  exact gz_putf hX (C := RX5) (T := TX5) (N := 10) (ci := 5) (k := 3) (ty := .int) (μ' := gz_sI m c 3 x) rfl (by decide) in_X5 tyX5 tyX5_ok nmX5 (by decide) (Or.inl (hX.2.2.2.2.1 _ q424)) rfl rfl rfl rfl hd hK hw rfl rfl rfl (fun d tc j h => gz_sI_o d tc j h) (gz_sI_v (fun j => ftC 5 j) rfl) (fun h => h) kk
theorem cg_X5_30_5 {X : gz_X} {G : gz_G} {cc : ByteArray} {nL fr lo pc : Nat} {rem : Nat × Nat} {m : gM} {lv : List (Nat × Value)} {st : List Value} (hX : gz_C cS X G cc nL RX5 fr lo) {c : Nat} {v : Value} (hK : clc m.1 m.2.1 m.2.2.2.2.1 → m.1 c = 5 + 1) (hv : clc m.1 m.2.1 m.2.2.2.2.1 → gz_u (gz_ad G) m (ftC 5 8) c 8 = v) (hd : decode cc pc = .ok (.getfield 30, 3)) (kk : gz_V cS X G nL rem m (pc + 3) lv (v :: st)) : gz_V cS X G nL rem m pc lv (.ref (gz_ad G c) :: st) :=
  gz_getf hX (C := RX5) (T := TX5) (N := 10) (ci := 5) (k := 8) rfl (by decide) in_X5 (by decide) (Or.inl (hX.2.2.2.2.1 _ q433)) hd hK hv kk
theorem cg_X5_22_5 {X : gz_X} {G : gz_G} {cc : ByteArray} {nL fr lo pc : Nat} {rem : Nat × Nat} {m : gM} {lv : List (Nat × Value)} {st : List Value} (hX : gz_C cS X G cc nL RX5 fr lo) {c : Nat} {v : Value} (hK : clc m.1 m.2.1 m.2.2.2.2.1 → m.1 c = 5 + 1) (hv : clc m.1 m.2.1 m.2.2.2.2.1 → gz_u (gz_ad G) m (ftC 5 6) c 6 = v) (hd : decode cc pc = .ok (.getfield 22, 3)) (kk : gz_V cS X G nL rem m (pc + 3) lv (v :: st)) : gz_V cS X G nL rem m pc lv (.ref (gz_ad G c) :: st) :=
  gz_getf hX (C := RX5) (T := TX5) (N := 10) (ci := 5) (k := 6) rfl (by decide) in_X5 (by decide) (Or.inl (hX.2.2.2.2.1 _ q429)) hd hK hv kk
theorem cg_X5_25_5 {X : gz_X} {G : gz_G} {cc : ByteArray} {nL fr lo pc : Nat} {rem : Nat × Nat} {m : gM} {lv : List (Nat × Value)} {st : List Value} (hX : gz_C cS X G cc nL RX5 fr lo) {c : Nat} {v : Value} (hK : clc m.1 m.2.1 m.2.2.2.2.1 → m.1 c = 5 + 1) (hv : clc m.1 m.2.1 m.2.2.2.2.1 → gz_u (gz_ad G) m (ftC 5 7) c 7 = v) (hd : decode cc pc = .ok (.getfield 25, 3)) (kk : gz_V cS X G nL rem m (pc + 3) lv (v :: st)) : gz_V cS X G nL rem m pc lv (.ref (gz_ad G c) :: st) :=
  gz_getf hX (C := RX5) (T := TX5) (N := 10) (ci := 5) (k := 7) rfl (by decide) in_X5 (by decide) (Or.inl (hX.2.2.2.2.1 _ q431)) hd hK hv kk
/-! FirstSnuffer$State.copy(LFirstSnuffer$State;)LFirstSnuffer$State; -/
def mP_X5_copy_34 (X : gz_X) (G : gz_G) (c0 : Nat) (c1 : Nat) (q : (Int32 × gM)) : Prop := gz_V cS X G 4 (0, 0) q.2 34 [(0, .ref (gz_ad G c0)), (1, .ref (gz_ad G c1)), (2, .int q.1)] []
def mP_X5_copy_84 (X : gz_X) (G : gz_G) (c0 : Nat) (c1 : Nat) (q : (Int32 × gM)) : Prop := gz_V cS X G 4 (0, 0) q.2 84 [(0, .ref (gz_ad G c0)), (1, .ref (gz_ad G c1)), (2, .int q.1)] []
def mP_X5_copy_94 (X : gz_X) (G : gz_G) (c0 : Nat) (c1 : Nat) (q : (Int32 × Int32 × gM)) : Prop := gz_V cS X G 4 (0, 0) q.2.2 94 [(0, .ref (gz_ad G c0)), (1, .ref (gz_ad G c1)), (2, .int q.1), (3, .int q.2.1)] []
noncomputable def mb_X5_copy_94 (c0 : Nat) (c1 : Nat) (x2 : Int32) (x3 : Int32) (m : gM) : Option ((Int32 × Int32 × gM) ⊕ ((Int32 × gM) ⊕ (Nat × gM))) :=
  (if (3 : Int32) ≤ x3 then gz_let (x2 + (1 : Int32)) fun y2 => some (Sum.inr (Sum.inl (y2, m))) else (if gz_in x2 (40) then gz_let (gP m (c0 + 5) (gz_ix x2)) fun r4 => (if r4 ≠ 0 then (if gz_in x2 (40) then gz_let (gP m (c1 + 5) (gz_ix x2)) fun r7 => (if r7 ≠ 0 then (if (ks r7 = 101 ∧ ns r7 = 3) ∧ 1000 ≤ r7 then (if gz_in x3 (3) then (if (ks r4 = 101 ∧ ns r4 = 3) ∧ 1000 ≤ r4 then (if gz_in x3 (3) then gz_let (gz_sI m r4 (gz_ix x3) (gI m r7 (gz_ix x3))) fun m13 => gz_let (x3 + (1 : Int32)) fun y14 => some (Sum.inl (x2, y14, m13)) else none) else none) else none) else none) else none) else none) else none) else none))
theorem wb_X5_copy_94 {X : gz_X} {G : gz_G} (hX : gz_C cS X G cX5_copy 4 RX5 0 0) {c0 : Nat} {c1 : Nat} {x2 : Int32} {x3 : Int32} (hs_c0 : cSt c0 = true) (hs_c1 : cSt c1 = true) {m : gM} {z : ((Int32 × Int32 × gM) ⊕ ((Int32 × gM) ⊕ (Nat × gM)))} (h : mb_X5_copy_94 c0 c1 x2 x3 m = some z) (hk : (Sum.elim (mP_X5_copy_94 X G c0 c1) (Sum.elim (mP_X5_copy_84 X G c0 c1) (fun z : (Nat × gM) => gz_kR cS X G 4 (0, 0) cX5_copy z.2 z.1))) z) : gz_V cS X G 4 (0, 0) m 94 [(0, .ref (gz_ad G c0)), (1, .ref (gz_ad G c1)), (2, .int x2), (3, .int x3)] [] := by
  unfold mb_X5_copy_94 at h
  refine gz_iload_n (pc := 94) hX dX5_copy_94 rfl 3 rfl ?_
  refine gz_iconst (pc := 95) (v := (3 : Int32)) hX dX5_copy_95 (by decide) ?_
  refine gz_icmp_ge (pc := 96) (tgt := 121) hX dX5_copy_96 (by decide) (fun g1 => ?_) (fun g1 => ?_)
  · replace h := gz_it' g1 h
    obtain ⟨y2, ey2, h⟩ := gz_lt h
    refine gz_iinc (pc := 121) (v := y2) (lw := [(2, .int y2), (0, .ref (gz_ad G c0)), (1, .ref (gz_ad G c1)), (3, .int x3)]) hX dX5_copy_121 (k := 2) rfl (by rw [ey2]; rfl) (by decide) rfl ?_
    refine gz_goto (pc := 124) (tgt := 84) hX dX5_copy_124 (by decide) ?_
    refine gz_sub (lw := [(0, .ref (gz_ad G c0)), (1, .ref (gz_ad G c1)), (2, .int y2)]) [1, 2, 0] rfl ?_
    obtain rfl := Option.some.inj h
    exact hk
  · replace h := gz_if' g1 h
    refine gz_aload_n (pc := 99) hX dX5_copy_99 rfl 0 rfl ?_
    refine cg_X5_30_5 (pc := 100) hX (c := c0) (v := .ref (gz_ad G (c0 + 5))) (fun h => cz_k h (st_k hs_c0)) (fun h => cz_f h (st_0 hs_c0) (st_f8 hs_c0) (by omega) rfl) dX5_copy_100 ?_
    refine gz_iload_n (pc := 103) hX dX5_copy_103 rfl 2 rfl ?_
    obtain ⟨g3, h⟩ := gz_gu h
    obtain ⟨r4, er4, h⟩ := gz_lt h
    obtain ⟨g5, h⟩ := gz_gu h
    refine gz_aald (pc := 104) (c := (c0 + 5)) (t := 7) (n := 40) hX rfl rfl rfl (v := .ref (gz_ad G r4)) (fun h => cz_a h (st_a5 hs_c0).1 (by decide) (st_a5 hs_c0).2) g3 (fun _ => gz_rq er4 g5) dX5_copy_104 ?_
    refine gz_iload_n (pc := 105) hX dX5_copy_105 rfl 3 rfl ?_
    refine gz_aload_n (pc := 106) hX dX5_copy_106 rfl 1 rfl ?_
    refine cg_X5_30_5 (pc := 107) hX (c := c1) (v := .ref (gz_ad G (c1 + 5))) (fun h => cz_k h (st_k hs_c1)) (fun h => cz_f h (st_0 hs_c1) (st_f8 hs_c1) (by omega) rfl) dX5_copy_107 ?_
    refine gz_iload_n (pc := 110) hX dX5_copy_110 rfl 2 rfl ?_
    obtain ⟨g6, h⟩ := gz_gu h
    obtain ⟨r7, er7, h⟩ := gz_lt h
    obtain ⟨g8, h⟩ := gz_gu h
    refine gz_aald (pc := 111) (c := (c1 + 5)) (t := 7) (n := 40) hX rfl rfl rfl (v := .ref (gz_ad G r7)) (fun h => cz_a h (st_a5 hs_c1).1 (by decide) (st_a5 hs_c1).2) g6 (fun _ => gz_rq er7 g8) dX5_copy_111 ?_
    refine gz_iload_n (pc := 112) hX dX5_copy_112 rfl 3 rfl ?_
    obtain ⟨g9, h⟩ := gz_gu h
    obtain ⟨g10, h⟩ := gz_gu h
    refine gz_iald2 (pc := 113) (c := r7) (n := 3) hX rfl (fun h => cz_a h g9.1.1 (by decide) g9.1.2) g10 dX5_copy_113 ?_
    obtain ⟨g11, h⟩ := gz_gu h
    obtain ⟨g12, h⟩ := gz_gu h
    obtain ⟨m13, em13, h⟩ := gz_lt h
    refine gz_iast2 (pc := 114) (c := r4) (n := 3) hX rfl (fun h => cz_a h g11.1.1 (by decide) g11.1.2) g11.2 g12 dX5_copy_114 em13 ?_
    obtain ⟨y14, ey14, h⟩ := gz_lt h
    refine gz_iinc (pc := 115) (v := y14) (lw := [(3, .int y14), (0, .ref (gz_ad G c0)), (1, .ref (gz_ad G c1)), (2, .int x2)]) hX dX5_copy_115 (k := 3) rfl (by rw [ey14]; rfl) (by decide) rfl ?_
    refine gz_goto (pc := 118) (tgt := 94) hX dX5_copy_118 (by decide) ?_
    refine gz_sub (lw := [(0, .ref (gz_ad G c0)), (1, .ref (gz_ad G c1)), (2, .int x2), (3, .int y14)]) [1, 2, 3, 0] rfl ?_
    obtain rfl := Option.some.inj h
    exact hk
noncomputable def ml_X5_copy_94 (c0 : Nat) (c1 : Nat) (x2 : Int32) (x3 : Int32) (m : gM) : Option ((Int32 × gM) ⊕ (Nat × gM)) := gz_loop (fun q : (Int32 × Int32 × gM) => mb_X5_copy_94 c0 c1 q.1 q.2.1 q.2.2) (x2, x3, m)
theorem wl_X5_copy_94 {X : gz_X} {G : gz_G} (hX : gz_C cS X G cX5_copy 4 RX5 0 0) {c0 : Nat} {c1 : Nat} {x2 : Int32} {x3 : Int32} (hs_c0 : cSt c0 = true) (hs_c1 : cSt c1 = true) {m : gM} {z : ((Int32 × gM) ⊕ (Nat × gM))} (h : ml_X5_copy_94 c0 c1 x2 x3 m = some z) (hk : (Sum.elim (mP_X5_copy_84 X G c0 c1) (fun z : (Nat × gM) => gz_kR cS X G 4 (0, 0) cX5_copy z.2 z.1)) z) : gz_V cS X G 4 (0, 0) m 94 [(0, .ref (gz_ad G c0)), (1, .ref (gz_ad G c1)), (2, .int x2), (3, .int x3)] [] := by
  have hp : mP_X5_copy_94 X G c0 c1 (x2, x3, m) := gz_loop_ind (fun q z hz hkz => wb_X5_copy_94 hX hs_c0 hs_c1 hz hkz) h hk
  exact hp
noncomputable def mb_X5_copy_84 (c0 : Nat) (c1 : Nat) (x2 : Int32) (m : gM) : Option ((Int32 × gM) ⊕ (Nat × gM)) :=
  (if (gI m c0 1) ≤ x2 then some (Sum.inr (c0, m)) else (ml_X5_copy_94 c0 c1 x2 (0 : Int32) m))
theorem wb_X5_copy_84 {X : gz_X} {G : gz_G} (hX : gz_C cS X G cX5_copy 4 RX5 0 0) {c0 : Nat} {c1 : Nat} {x2 : Int32} (hs_c0 : cSt c0 = true) (hs_c1 : cSt c1 = true) {m : gM} {z : ((Int32 × gM) ⊕ (Nat × gM))} (h : mb_X5_copy_84 c0 c1 x2 m = some z) (hk : (Sum.elim (mP_X5_copy_84 X G c0 c1) (fun z : (Nat × gM) => gz_kR cS X G 4 (0, 0) cX5_copy z.2 z.1)) z) : gz_V cS X G 4 (0, 0) m 84 [(0, .ref (gz_ad G c0)), (1, .ref (gz_ad G c1)), (2, .int x2)] [] := by
  unfold mb_X5_copy_84 at h
  refine gz_iload_n (pc := 84) hX dX5_copy_84 rfl 2 rfl ?_
  refine gz_aload_n (pc := 85) hX dX5_copy_85 rfl 0 rfl ?_
  refine cg_X5_37_5 (pc := 86) hX (c := c0) (v := .int (gI m c0 1)) (fun h => cz_k h (st_k hs_c0)) (fun _ => rfl) dX5_copy_86 ?_
  refine gz_icmp_ge (pc := 89) (tgt := 127) hX dX5_copy_89 (by decide) (fun g1 => ?_) (fun g1 => ?_)
  · replace h := gz_it' g1 h
    refine gz_aload_n (pc := 127) hX dX5_copy_127 rfl 0 rfl ?_
    obtain rfl := Option.some.inj h
    exact hk _ _ dX5_copy_128
  · replace h := gz_if' g1 h
    refine gz_iconst (pc := 92) (v := (0 : Int32)) hX dX5_copy_92 (by decide) ?_
    refine gz_istore_n (pc := 93) (lw := [(3, .int (0 : Int32)), (0, .ref (gz_ad G c0)), (1, .ref (gz_ad G c1)), (2, .int x2)]) hX dX5_copy_93 rfl (by decide) rfl ?_
    refine gz_sub (lw := [(0, .ref (gz_ad G c0)), (1, .ref (gz_ad G c1)), (2, .int x2), (3, .int (0 : Int32))]) [1, 2, 3, 0] rfl ?_
    exact wl_X5_copy_94 hX hs_c0 hs_c1 h hk
noncomputable def ml_X5_copy_84 (c0 : Nat) (c1 : Nat) (x2 : Int32) (m : gM) : Option (Nat × gM) := gz_loop (fun q : (Int32 × gM) => mb_X5_copy_84 c0 c1 q.1 q.2) (x2, m)
theorem wl_X5_copy_84 {X : gz_X} {G : gz_G} (hX : gz_C cS X G cX5_copy 4 RX5 0 0) {c0 : Nat} {c1 : Nat} {x2 : Int32} (hs_c0 : cSt c0 = true) (hs_c1 : cSt c1 = true) {m : gM} {z : (Nat × gM)} (h : ml_X5_copy_84 c0 c1 x2 m = some z) (hk : (fun z : (Nat × gM) => gz_kR cS X G 4 (0, 0) cX5_copy z.2 z.1) z) : gz_V cS X G 4 (0, 0) m 84 [(0, .ref (gz_ad G c0)), (1, .ref (gz_ad G c1)), (2, .int x2)] [] := by
  have hp : mP_X5_copy_84 X G c0 c1 (x2, m) := gz_loop_ind (fun q z hz hkz => wb_X5_copy_84 hX hs_c0 hs_c1 hz hkz) h hk
  exact hp
noncomputable def mb_X5_copy_34 (c0 : Nat) (c1 : Nat) (x2 : Int32) (m : gM) : Option ((Int32 × gM) ⊕ (Nat × gM)) :=
  (if (8 : Int32) ≤ x2 then (Option.map Sum.inr (ml_X5_copy_84 c0 c1 (0 : Int32) m)) else (if gz_in x2 (8) then (if gz_in x2 (8) then gz_let (gz_sI m (c0 + 1) (gz_ix x2) (gI m (c1 + 1) (gz_ix x2))) fun m4 => (if gz_in x2 (8) then (if gz_in x2 (8) then gz_let (gz_sI m4 (c0 + 3) (gz_ix x2) (gI m4 (c1 + 3) (gz_ix x2))) fun m7 => (if gz_in x2 (8) then (if gz_in x2 (8) then gz_let (gz_sI m7 (c0 + 4) (gz_ix x2) (gI m7 (c1 + 4) (gz_ix x2))) fun m10 => gz_let (x2 + (1 : Int32)) fun y11 => some (Sum.inl (y11, m10)) else none) else none) else none) else none) else none) else none))
theorem wb_X5_copy_34 {X : gz_X} {G : gz_G} (hX : gz_C cS X G cX5_copy 4 RX5 0 0) {c0 : Nat} {c1 : Nat} {x2 : Int32} (hs_c0 : cSt c0 = true) (hs_c1 : cSt c1 = true) {m : gM} {z : ((Int32 × gM) ⊕ (Nat × gM))} (h : mb_X5_copy_34 c0 c1 x2 m = some z) (hk : (Sum.elim (mP_X5_copy_34 X G c0 c1) (fun z : (Nat × gM) => gz_kR cS X G 4 (0, 0) cX5_copy z.2 z.1)) z) : gz_V cS X G 4 (0, 0) m 34 [(0, .ref (gz_ad G c0)), (1, .ref (gz_ad G c1)), (2, .int x2)] [] := by
  unfold mb_X5_copy_34 at h
  refine gz_iload_n (pc := 34) hX dX5_copy_34 rfl 2 rfl ?_
  refine gz_bipush (pc := 35) (v := (8 : Int32)) hX dX5_copy_35 (by decide) ?_
  refine gz_icmp_ge (pc := 37) (tgt := 82) hX dX5_copy_37 (by decide) (fun g1 => ?_) (fun g1 => ?_)
  · replace h := gz_it' g1 h
    refine gz_iconst (pc := 82) (v := (0 : Int32)) hX dX5_copy_82 (by decide) ?_
    refine gz_istore_n (pc := 83) (lw := [(2, .int (0 : Int32)), (0, .ref (gz_ad G c0)), (1, .ref (gz_ad G c1))]) hX dX5_copy_83 rfl (by decide) rfl ?_
    refine gz_sub (lw := [(0, .ref (gz_ad G c0)), (1, .ref (gz_ad G c1)), (2, .int (0 : Int32))]) [1, 2, 0] rfl ?_
    obtain ⟨z0, hm0, rfl⟩ := gz_mp h
    exact wl_X5_copy_84 hX hs_c0 hs_c1 hm0 hk
  · replace h := gz_if' g1 h
    refine gz_aload_n (pc := 40) hX dX5_copy_40 rfl 0 rfl ?_
    refine cg_X5_15_5 (pc := 41) hX (c := c0) (v := .ref (gz_ad G (c0 + 1))) (fun h => cz_k h (st_k hs_c0)) (fun h => cz_f h (st_0 hs_c0) (st_f4 hs_c0) (by omega) rfl) dX5_copy_41 ?_
    refine gz_iload_n (pc := 44) hX dX5_copy_44 rfl 2 rfl ?_
    refine gz_aload_n (pc := 45) hX dX5_copy_45 rfl 1 rfl ?_
    refine cg_X5_15_5 (pc := 46) hX (c := c1) (v := .ref (gz_ad G (c1 + 1))) (fun h => cz_k h (st_k hs_c1)) (fun h => cz_f h (st_0 hs_c1) (st_f4 hs_c1) (by omega) rfl) dX5_copy_46 ?_
    refine gz_iload_n (pc := 49) hX dX5_copy_49 rfl 2 rfl ?_
    obtain ⟨g2, h⟩ := gz_gu h
    refine gz_iald2 (pc := 50) (c := (c1 + 1)) (n := 8) hX rfl (fun h => cz_a h (st_a1 hs_c1).1 (by decide) (st_a1 hs_c1).2) g2 dX5_copy_50 ?_
    obtain ⟨g3, h⟩ := gz_gu h
    obtain ⟨m4, em4, h⟩ := gz_lt h
    refine gz_iast2 (pc := 51) (c := (c0 + 1)) (n := 8) hX rfl (fun h => cz_a h (st_a1 hs_c0).1 (by decide) (st_a1 hs_c0).2) (st_w1 hs_c0 1) g3 dX5_copy_51 em4 ?_
    refine gz_aload_n (pc := 52) hX dX5_copy_52 rfl 0 rfl ?_
    refine cg_X5_22_5 (pc := 53) hX (c := c0) (v := .ref (gz_ad G (c0 + 3))) (fun h => cz_k h (st_k hs_c0)) (fun h => cz_f h (st_0 hs_c0) (st_f6 hs_c0) (by omega) rfl) dX5_copy_53 ?_
    refine gz_iload_n (pc := 56) hX dX5_copy_56 rfl 2 rfl ?_
    refine gz_aload_n (pc := 57) hX dX5_copy_57 rfl 1 rfl ?_
    refine cg_X5_22_5 (pc := 58) hX (c := c1) (v := .ref (gz_ad G (c1 + 3))) (fun h => cz_k h (st_k hs_c1)) (fun h => cz_f h (st_0 hs_c1) (st_f6 hs_c1) (by omega) rfl) dX5_copy_58 ?_
    refine gz_iload_n (pc := 61) hX dX5_copy_61 rfl 2 rfl ?_
    obtain ⟨g5, h⟩ := gz_gu h
    refine gz_iald2 (pc := 62) (c := (c1 + 3)) (n := 8) hX rfl (fun h => cz_a h (st_a3 hs_c1).1 (by decide) (st_a3 hs_c1).2) g5 dX5_copy_62 ?_
    obtain ⟨g6, h⟩ := gz_gu h
    obtain ⟨m7, em7, h⟩ := gz_lt h
    refine gz_iast2 (pc := 63) (c := (c0 + 3)) (n := 8) hX rfl (fun h => cz_a h (st_a3 hs_c0).1 (by decide) (st_a3 hs_c0).2) (st_w1 hs_c0 3) g6 dX5_copy_63 em7 ?_
    refine gz_aload_n (pc := 64) hX dX5_copy_64 rfl 0 rfl ?_
    refine cg_X5_25_5 (pc := 65) hX (c := c0) (v := .ref (gz_ad G (c0 + 4))) (fun h => cz_k h (st_k hs_c0)) (fun h => cz_f h (st_0 hs_c0) (st_f7 hs_c0) (by omega) rfl) dX5_copy_65 ?_
    refine gz_iload_n (pc := 68) hX dX5_copy_68 rfl 2 rfl ?_
    refine gz_aload_n (pc := 69) hX dX5_copy_69 rfl 1 rfl ?_
    refine cg_X5_25_5 (pc := 70) hX (c := c1) (v := .ref (gz_ad G (c1 + 4))) (fun h => cz_k h (st_k hs_c1)) (fun h => cz_f h (st_0 hs_c1) (st_f7 hs_c1) (by omega) rfl) dX5_copy_70 ?_
    refine gz_iload_n (pc := 73) hX dX5_copy_73 rfl 2 rfl ?_
    obtain ⟨g8, h⟩ := gz_gu h
    refine gz_iald2 (pc := 74) (c := (c1 + 4)) (n := 8) hX rfl (fun h => cz_a h (st_a4 hs_c1).1 (by decide) (st_a4 hs_c1).2) g8 dX5_copy_74 ?_
    obtain ⟨g9, h⟩ := gz_gu h
    obtain ⟨m10, em10, h⟩ := gz_lt h
    refine gz_iast2 (pc := 75) (c := (c0 + 4)) (n := 8) hX rfl (fun h => cz_a h (st_a4 hs_c0).1 (by decide) (st_a4 hs_c0).2) (st_w1 hs_c0 4) g9 dX5_copy_75 em10 ?_
    obtain ⟨y11, ey11, h⟩ := gz_lt h
    refine gz_iinc (pc := 76) (v := y11) (lw := [(2, .int y11), (0, .ref (gz_ad G c0)), (1, .ref (gz_ad G c1))]) hX dX5_copy_76 (k := 2) rfl (by rw [ey11]; rfl) (by decide) rfl ?_
    refine gz_goto (pc := 79) (tgt := 34) hX dX5_copy_79 (by decide) ?_
    refine gz_sub (lw := [(0, .ref (gz_ad G c0)), (1, .ref (gz_ad G c1)), (2, .int y11)]) [1, 2, 0] rfl ?_
    obtain rfl := Option.some.inj h
    exact hk
noncomputable def ml_X5_copy_34 (c0 : Nat) (c1 : Nat) (x2 : Int32) (m : gM) : Option (Nat × gM) := gz_loop (fun q : (Int32 × gM) => mb_X5_copy_34 c0 c1 q.1 q.2) (x2, m)
theorem wl_X5_copy_34 {X : gz_X} {G : gz_G} (hX : gz_C cS X G cX5_copy 4 RX5 0 0) {c0 : Nat} {c1 : Nat} {x2 : Int32} (hs_c0 : cSt c0 = true) (hs_c1 : cSt c1 = true) {m : gM} {z : (Nat × gM)} (h : ml_X5_copy_34 c0 c1 x2 m = some z) (hk : (fun z : (Nat × gM) => gz_kR cS X G 4 (0, 0) cX5_copy z.2 z.1) z) : gz_V cS X G 4 (0, 0) m 34 [(0, .ref (gz_ad G c0)), (1, .ref (gz_ad G c1)), (2, .int x2)] [] := by
  have hp : mP_X5_copy_34 X G c0 c1 (x2, m) := gz_loop_ind (fun q z hz hkz => wb_X5_copy_34 hX hs_c0 hs_c1 hz hkz) h hk
  exact hp
noncomputable def cf_X5_copy (c0 : Nat) (c1 : Nat) (m : gM) : Option (Nat × gM) :=
  gz_let (gz_sI m c0 0 (gI m c1 0)) fun m1 => gz_let (gz_sI m1 c0 1 (gI m1 c1 1)) fun m2 => gz_let (gz_sI m2 c0 2 (gI m2 c1 2)) fun m3 => gz_let (gz_sI m3 c0 3 (gI m3 c1 3)) fun m4 => (ml_X5_copy_34 c0 c1 (0 : Int32) m4)
theorem wm_X5_copy {X : gz_X} {G : gz_G} (hX : gz_C cS X G cX5_copy 4 RX5 0 0) {c0 : Nat} {c1 : Nat} (hs_c0 : cSt c0 = true) (hs_c1 : cSt c1 = true) {m : gM} {z : (Nat × gM)} (h : cf_X5_copy c0 c1 m = some z) (hk : (fun z : (Nat × gM) => gz_kR cS X G 4 (0, 0) cX5_copy z.2 z.1) z) : gz_V cS X G 4 (0, 0) m 0 [(0, .ref (gz_ad G c0)), (1, .ref (gz_ad G c1))] [] := by
  unfold cf_X5_copy at h
  refine gz_aload_n (pc := 0) hX dX5_copy_0 rfl 0 rfl ?_
  refine gz_aload_n (pc := 1) hX dX5_copy_1 rfl 1 rfl ?_
  refine cg_X5_33_5 (pc := 2) hX (c := c1) (v := .int (gI m c1 0)) (fun h => cz_k h (st_k hs_c1)) (fun _ => rfl) dX5_copy_2 ?_
  obtain ⟨m1, em1, h⟩ := gz_lt h
  refine cp_X5_33_5 (pc := 5) hX (c := c0) (fun h => cz_k h (st_k hs_c0)) (st_w hs_c0) dX5_copy_5 em1 ?_
  refine gz_aload_n (pc := 8) hX dX5_copy_8 rfl 0 rfl ?_
  refine gz_aload_n (pc := 9) hX dX5_copy_9 rfl 1 rfl ?_
  refine cg_X5_37_5 (pc := 10) hX (c := c1) (v := .int (gI m1 c1 1)) (fun h => cz_k h (st_k hs_c1)) (fun _ => rfl) dX5_copy_10 ?_
  obtain ⟨m2, em2, h⟩ := gz_lt h
  refine cp_X5_37_5 (pc := 13) hX (c := c0) (fun h => cz_k h (st_k hs_c0)) (st_w hs_c0) dX5_copy_13 em2 ?_
  refine gz_aload_n (pc := 16) hX dX5_copy_16 rfl 0 rfl ?_
  refine gz_aload_n (pc := 17) hX dX5_copy_17 rfl 1 rfl ?_
  refine cg_X5_49_5 (pc := 18) hX (c := c1) (v := .int (gI m2 c1 2)) (fun h => cz_k h (st_k hs_c1)) (fun _ => rfl) dX5_copy_18 ?_
  obtain ⟨m3, em3, h⟩ := gz_lt h
  refine cp_X5_49_5 (pc := 21) hX (c := c0) (fun h => cz_k h (st_k hs_c0)) (st_w hs_c0) dX5_copy_21 em3 ?_
  refine gz_aload_n (pc := 24) hX dX5_copy_24 rfl 0 rfl ?_
  refine gz_aload_n (pc := 25) hX dX5_copy_25 rfl 1 rfl ?_
  refine cg_X5_56_5 (pc := 26) hX (c := c1) (v := .int (gI m3 c1 3)) (fun h => cz_k h (st_k hs_c1)) (fun _ => rfl) dX5_copy_26 ?_
  obtain ⟨m4, em4, h⟩ := gz_lt h
  refine cp_X5_56_5 (pc := 29) hX (c := c0) (fun h => cz_k h (st_k hs_c0)) (st_w hs_c0) dX5_copy_29 em4 ?_
  refine gz_iconst (pc := 32) (v := (0 : Int32)) hX dX5_copy_32 (by decide) ?_
  refine gz_istore_n (pc := 33) (lw := [(2, .int (0 : Int32)), (0, .ref (gz_ad G c0)), (1, .ref (gz_ad G c1))]) hX dX5_copy_33 rfl (by decide) rfl ?_
  refine gz_sub (lw := [(0, .ref (gz_ad G c0)), (1, .ref (gz_ad G c1)), (2, .int (0 : Int32))]) [1, 2, 0] rfl ?_
  exact wl_X5_copy_34 hX hs_c0 hs_c1 h hk
theorem ct_X5_copy {G : gz_G} {l : Launch} {c0 : Nat} {c1 : Nat} (hs_c0 : cSt c0 = true) (hs_c1 : cSt c1 = true) {m m9 : gM} {r : Nat} (h : cf_X5_copy c0 c1 m = some (r, m9)) : gz_Met cS G l yX5_copy cX5_copy 4 (some (.object "FirstSnuffer$State")) (mRm 0 0) [.ref (gz_ad G c0), .ref (gz_ad G c1)] m m9 (some (.ref (gz_ad G r))) :=
  gz_ofR (Or.inl ⟨_, rfl⟩) (by decide +kernel) (Nat.le_of_ble_eq_true rfl) fun X _ hX hk => wm_X5_copy hX hs_c0 hs_c1 h hk
/-! FirstSnuffer$State.tellsOf(II)V -/
noncomputable def mj_X5_tellsOf_66 (c0 : Nat) (x1 : Int32) (x2 : Int32) (m : gM) : Option (Unit × gM) :=
  (if gz_in (gI m c0 1) (40) then gz_let (gP m (c0 + 5) (gz_ix (gI m c0 1))) fun r2 => (if r2 ≠ 0 then (if (ks r2 = 101 ∧ ns r2 = 3) ∧ 1000 ≤ r2 then (if gz_in (0 : Int32) (3) then gz_let (gz_sI m r2 (gz_ix (0 : Int32)) (gI m c0 0)) fun m6 => (if gz_in (gI m6 c0 1) (40) then gz_let (gP m6 (c0 + 5) (gz_ix (gI m6 c0 1))) fun r8 => (if r8 ≠ 0 then (if (ks r8 = 101 ∧ ns r8 = 3) ∧ 1000 ≤ r8 then (if gz_in (1 : Int32) (3) then gz_let (gz_sI m6 r8 (gz_ix (1 : Int32)) x1) fun m12 => (if gz_in (gI m12 c0 1) (40) then gz_let (gP m12 (c0 + 5) (gz_ix (gI m12 c0 1))) fun r14 => (if r14 ≠ 0 then (if (ks r14 = 101 ∧ ns r14 = 3) ∧ 1000 ≤ r14 then (if gz_in (2 : Int32) (3) then gz_let (gz_sI m12 r14 (gz_ix (2 : Int32)) x2) fun m18 => gz_let (gz_sI m18 c0 1 ((gI m18 c0 1) + (1 : Int32))) fun m19 => some ((), m19) else none) else none) else none) else none) else none) else none) else none) else none) else none) else none) else none) else none)
theorem wb_X5_tellsOf_66 {X : gz_X} {G : gz_G} (hX : gz_C cS X G cX5_tellsOf 5 RX5 0 0) {c0 : Nat} {x1 : Int32} {x2 : Int32} (hs_c0 : cSt c0 = true) {m : gM} {z : (Unit × gM)} (h : mj_X5_tellsOf_66 c0 x1 x2 m = some z) (hk : (fun z : (Unit × gM) => gz_kV cS X G 5 (0, 0) cX5_tellsOf z.2) z) : gz_V cS X G 5 (0, 0) m 66 [(0, .ref (gz_ad G c0)), (1, .int x1), (2, .int x2)] [] := by
  unfold mj_X5_tellsOf_66 at h
  refine gz_aload_n (pc := 66) hX dX5_tellsOf_66 rfl 0 rfl ?_
  refine cg_X5_30_5 (pc := 67) hX (c := c0) (v := .ref (gz_ad G (c0 + 5))) (fun h => cz_k h (st_k hs_c0)) (fun h => cz_f h (st_0 hs_c0) (st_f8 hs_c0) (by omega) rfl) dX5_tellsOf_67 ?_
  refine gz_aload_n (pc := 70) hX dX5_tellsOf_70 rfl 0 rfl ?_
  refine cg_X5_37_5 (pc := 71) hX (c := c0) (v := .int (gI m c0 1)) (fun h => cz_k h (st_k hs_c0)) (fun _ => rfl) dX5_tellsOf_71 ?_
  obtain ⟨g1, h⟩ := gz_gu h
  obtain ⟨r2, er2, h⟩ := gz_lt h
  obtain ⟨g3, h⟩ := gz_gu h
  refine gz_aald (pc := 74) (c := (c0 + 5)) (t := 7) (n := 40) hX rfl rfl rfl (v := .ref (gz_ad G r2)) (fun h => cz_a h (st_a5 hs_c0).1 (by decide) (st_a5 hs_c0).2) g1 (fun _ => gz_rq er2 g3) dX5_tellsOf_74 ?_
  refine gz_iconst (pc := 75) (v := (0 : Int32)) hX dX5_tellsOf_75 (by decide) ?_
  refine gz_aload_n (pc := 76) hX dX5_tellsOf_76 rfl 0 rfl ?_
  refine cg_X5_33_5 (pc := 77) hX (c := c0) (v := .int (gI m c0 0)) (fun h => cz_k h (st_k hs_c0)) (fun _ => rfl) dX5_tellsOf_77 ?_
  obtain ⟨g4, h⟩ := gz_gu h
  obtain ⟨g5, h⟩ := gz_gu h
  obtain ⟨m6, em6, h⟩ := gz_lt h
  refine gz_iast2 (pc := 80) (c := r2) (n := 3) hX rfl (fun h => cz_a h g4.1.1 (by decide) g4.1.2) g4.2 g5 dX5_tellsOf_80 em6 ?_
  refine gz_aload_n (pc := 81) hX dX5_tellsOf_81 rfl 0 rfl ?_
  refine cg_X5_30_5 (pc := 82) hX (c := c0) (v := .ref (gz_ad G (c0 + 5))) (fun h => cz_k h (st_k hs_c0)) (fun h => cz_f h (st_0 hs_c0) (st_f8 hs_c0) (by omega) rfl) dX5_tellsOf_82 ?_
  refine gz_aload_n (pc := 85) hX dX5_tellsOf_85 rfl 0 rfl ?_
  refine cg_X5_37_5 (pc := 86) hX (c := c0) (v := .int (gI m6 c0 1)) (fun h => cz_k h (st_k hs_c0)) (fun _ => rfl) dX5_tellsOf_86 ?_
  obtain ⟨g7, h⟩ := gz_gu h
  obtain ⟨r8, er8, h⟩ := gz_lt h
  obtain ⟨g9, h⟩ := gz_gu h
  refine gz_aald (pc := 89) (c := (c0 + 5)) (t := 7) (n := 40) hX rfl rfl rfl (v := .ref (gz_ad G r8)) (fun h => cz_a h (st_a5 hs_c0).1 (by decide) (st_a5 hs_c0).2) g7 (fun _ => gz_rq er8 g9) dX5_tellsOf_89 ?_
  refine gz_iconst (pc := 90) (v := (1 : Int32)) hX dX5_tellsOf_90 (by decide) ?_
  refine gz_iload_n (pc := 91) hX dX5_tellsOf_91 rfl 1 rfl ?_
  obtain ⟨g10, h⟩ := gz_gu h
  obtain ⟨g11, h⟩ := gz_gu h
  obtain ⟨m12, em12, h⟩ := gz_lt h
  refine gz_iast2 (pc := 92) (c := r8) (n := 3) hX rfl (fun h => cz_a h g10.1.1 (by decide) g10.1.2) g10.2 g11 dX5_tellsOf_92 em12 ?_
  refine gz_aload_n (pc := 93) hX dX5_tellsOf_93 rfl 0 rfl ?_
  refine cg_X5_30_5 (pc := 94) hX (c := c0) (v := .ref (gz_ad G (c0 + 5))) (fun h => cz_k h (st_k hs_c0)) (fun h => cz_f h (st_0 hs_c0) (st_f8 hs_c0) (by omega) rfl) dX5_tellsOf_94 ?_
  refine gz_aload_n (pc := 97) hX dX5_tellsOf_97 rfl 0 rfl ?_
  refine cg_X5_37_5 (pc := 98) hX (c := c0) (v := .int (gI m12 c0 1)) (fun h => cz_k h (st_k hs_c0)) (fun _ => rfl) dX5_tellsOf_98 ?_
  obtain ⟨g13, h⟩ := gz_gu h
  obtain ⟨r14, er14, h⟩ := gz_lt h
  obtain ⟨g15, h⟩ := gz_gu h
  refine gz_aald (pc := 101) (c := (c0 + 5)) (t := 7) (n := 40) hX rfl rfl rfl (v := .ref (gz_ad G r14)) (fun h => cz_a h (st_a5 hs_c0).1 (by decide) (st_a5 hs_c0).2) g13 (fun _ => gz_rq er14 g15) dX5_tellsOf_101 ?_
  refine gz_iconst (pc := 102) (v := (2 : Int32)) hX dX5_tellsOf_102 (by decide) ?_
  refine gz_iload_n (pc := 103) hX dX5_tellsOf_103 rfl 2 rfl ?_
  obtain ⟨g16, h⟩ := gz_gu h
  obtain ⟨g17, h⟩ := gz_gu h
  obtain ⟨m18, em18, h⟩ := gz_lt h
  refine gz_iast2 (pc := 104) (c := r14) (n := 3) hX rfl (fun h => cz_a h g16.1.1 (by decide) g16.1.2) g16.2 g17 dX5_tellsOf_104 em18 ?_
  refine gz_aload_n (pc := 105) hX dX5_tellsOf_105 rfl 0 rfl ?_
  refine gz_dup (pc := 106) hX dX5_tellsOf_106 rfl ?_
  refine cg_X5_37_5 (pc := 107) hX (c := c0) (v := .int (gI m18 c0 1)) (fun h => cz_k h (st_k hs_c0)) (fun _ => rfl) dX5_tellsOf_107 ?_
  refine gz_iconst (pc := 110) (v := (1 : Int32)) hX dX5_tellsOf_110 (by decide) ?_
  refine gz_iadd (pc := 111) hX dX5_tellsOf_111 ?_
  obtain ⟨m19, em19, h⟩ := gz_lt h
  refine cp_X5_37_5 (pc := 112) hX (c := c0) (fun h => cz_k h (st_k hs_c0)) (st_w hs_c0) dX5_tellsOf_112 em19 ?_
  obtain rfl := Option.some.inj h
  exact hk _ _ dX5_tellsOf_115
def mP_X5_tellsOf_19 (X : gz_X) (G : gz_G) (c0 : Nat) (c3 : Nat) (q : (Int32 × Int32 × Int32 × gM)) : Prop := gz_V cS X G 5 (0, 0) q.2.2.2 19 [(0, .ref (gz_ad G c0)), (1, .int q.1), (2, .int q.2.1), (3, .ref (gz_ad G c3)), (4, .int q.2.2.1)] []
noncomputable def mb_X5_tellsOf_19 (c0 : Nat) (x1 : Int32) (x2 : Int32) (c3 : Nat) (x4 : Int32) (m : gM) : Option ((Int32 × Int32 × Int32 × gM) ⊕ (Unit × gM)) :=
  (if (40 : Int32) ≤ x4 then (if gz_in (39 : Int32) (40) then (if c3 ≠ 0 ∧ ks c3 = 101 then gz_let (gz_sP m (c0 + 5) (gz_ix (39 : Int32)) c3) fun m4 => gz_let (gz_sI m4 c0 1 ((gI m4 c0 1) - (1 : Int32))) fun m5 => (Option.map Sum.inr (mj_X5_tellsOf_66 c0 x1 x2 m5)) else none) else none) else (if gz_in x4 (40) then gz_let (gP m (c0 + 5) (gz_ix x4)) fun r7 => (if r7 ≠ 0 then (if gz_in (x4 - (1 : Int32)) (40) then (if r7 ≠ 0 ∧ ks r7 = 101 then gz_let (gz_sP m (c0 + 5) (gz_ix (x4 - (1 : Int32))) r7) fun m11 => gz_let (x4 + (1 : Int32)) fun y12 => some (Sum.inl (x1, x2, y12, m11)) else none) else none) else none) else none))
theorem wb_X5_tellsOf_19 {X : gz_X} {G : gz_G} (hX : gz_C cS X G cX5_tellsOf 5 RX5 0 0) {c0 : Nat} {x1 : Int32} {x2 : Int32} {c3 : Nat} {x4 : Int32} (hs_c0 : cSt c0 = true) {m : gM} {z : ((Int32 × Int32 × Int32 × gM) ⊕ (Unit × gM))} (h : mb_X5_tellsOf_19 c0 x1 x2 c3 x4 m = some z) (hk : (Sum.elim (mP_X5_tellsOf_19 X G c0 c3) (fun z : (Unit × gM) => gz_kV cS X G 5 (0, 0) cX5_tellsOf z.2)) z) : gz_V cS X G 5 (0, 0) m 19 [(0, .ref (gz_ad G c0)), (1, .int x1), (2, .int x2), (3, .ref (gz_ad G c3)), (4, .int x4)] [] := by
  unfold mb_X5_tellsOf_19 at h
  refine gz_iload (pc := 19) hX dX5_tellsOf_19 4 rfl ?_
  refine gz_bipush (pc := 21) (v := (40 : Int32)) hX dX5_tellsOf_21 (by decide) ?_
  refine gz_icmp_ge (pc := 23) (tgt := 48) hX dX5_tellsOf_23 (by decide) (fun g1 => ?_) (fun g1 => ?_)
  · replace h := gz_it' g1 h
    refine gz_aload_n (pc := 48) hX dX5_tellsOf_48 rfl 0 rfl ?_
    refine cg_X5_30_5 (pc := 49) hX (c := c0) (v := .ref (gz_ad G (c0 + 5))) (fun h => cz_k h (st_k hs_c0)) (fun h => cz_f h (st_0 hs_c0) (st_f8 hs_c0) (by omega) rfl) dX5_tellsOf_49 ?_
    refine gz_bipush (pc := 52) (v := (39 : Int32)) hX dX5_tellsOf_52 (by decide) ?_
    refine gz_aload_n (pc := 54) hX dX5_tellsOf_54 rfl 3 rfl ?_
    obtain ⟨g2, h⟩ := gz_gu h
    obtain ⟨g3, h⟩ := gz_gu h
    obtain ⟨m4, em4, h⟩ := gz_lt h
    refine gz_aast (pc := 55) (c := (c0 + 5)) (t := 7) (n := 40) (r := c3) hX rfl rfl rfl (fun h => cz_a h (st_a5 hs_c0).1 (by decide) (st_a5 hs_c0).2) (st_w1 hs_c0 5) g2 g3.1 (cr_row hX g3.2) (fun h => clc_sP (sr_row hs_c0 g2.2) h) dX5_tellsOf_55 em4 ?_
    refine gz_aload_n (pc := 56) hX dX5_tellsOf_56 rfl 0 rfl ?_
    refine gz_dup (pc := 57) hX dX5_tellsOf_57 rfl ?_
    refine cg_X5_37_5 (pc := 58) hX (c := c0) (v := .int (gI m4 c0 1)) (fun h => cz_k h (st_k hs_c0)) (fun _ => rfl) dX5_tellsOf_58 ?_
    refine gz_iconst (pc := 61) (v := (1 : Int32)) hX dX5_tellsOf_61 (by decide) ?_
    refine gz_isub (pc := 62) hX dX5_tellsOf_62 ?_
    obtain ⟨m5, em5, h⟩ := gz_lt h
    refine cp_X5_37_5 (pc := 63) hX (c := c0) (fun h => cz_k h (st_k hs_c0)) (st_w hs_c0) dX5_tellsOf_63 em5 ?_
    refine gz_sub (lw := [(0, .ref (gz_ad G c0)), (1, .int x1), (2, .int x2)]) [0, 1, 2] rfl ?_
    obtain ⟨z0, hm0, rfl⟩ := gz_mp h
    exact wb_X5_tellsOf_66 hX hs_c0 hm0 hk
  · replace h := gz_if' g1 h
    refine gz_aload_n (pc := 26) hX dX5_tellsOf_26 rfl 0 rfl ?_
    refine cg_X5_30_5 (pc := 27) hX (c := c0) (v := .ref (gz_ad G (c0 + 5))) (fun h => cz_k h (st_k hs_c0)) (fun h => cz_f h (st_0 hs_c0) (st_f8 hs_c0) (by omega) rfl) dX5_tellsOf_27 ?_
    refine gz_iload (pc := 30) hX dX5_tellsOf_30 4 rfl ?_
    refine gz_iconst (pc := 32) (v := (1 : Int32)) hX dX5_tellsOf_32 (by decide) ?_
    refine gz_isub (pc := 33) hX dX5_tellsOf_33 ?_
    refine gz_aload_n (pc := 34) hX dX5_tellsOf_34 rfl 0 rfl ?_
    refine cg_X5_30_5 (pc := 35) hX (c := c0) (v := .ref (gz_ad G (c0 + 5))) (fun h => cz_k h (st_k hs_c0)) (fun h => cz_f h (st_0 hs_c0) (st_f8 hs_c0) (by omega) rfl) dX5_tellsOf_35 ?_
    refine gz_iload (pc := 38) hX dX5_tellsOf_38 4 rfl ?_
    obtain ⟨g6, h⟩ := gz_gu h
    obtain ⟨r7, er7, h⟩ := gz_lt h
    obtain ⟨g8, h⟩ := gz_gu h
    refine gz_aald (pc := 40) (c := (c0 + 5)) (t := 7) (n := 40) hX rfl rfl rfl (v := .ref (gz_ad G r7)) (fun h => cz_a h (st_a5 hs_c0).1 (by decide) (st_a5 hs_c0).2) g6 (fun _ => gz_rq er7 g8) dX5_tellsOf_40 ?_
    obtain ⟨g9, h⟩ := gz_gu h
    obtain ⟨g10, h⟩ := gz_gu h
    obtain ⟨m11, em11, h⟩ := gz_lt h
    refine gz_aast (pc := 41) (c := (c0 + 5)) (t := 7) (n := 40) (r := r7) hX rfl rfl rfl (fun h => cz_a h (st_a5 hs_c0).1 (by decide) (st_a5 hs_c0).2) (st_w1 hs_c0 5) g9 g10.1 (cr_row hX g10.2) (fun h => clc_sP (sr_row hs_c0 g9.2) h) dX5_tellsOf_41 em11 ?_
    obtain ⟨y12, ey12, h⟩ := gz_lt h
    refine gz_iinc (pc := 42) (v := y12) (lw := [(4, .int y12), (0, .ref (gz_ad G c0)), (1, .int x1), (2, .int x2), (3, .ref (gz_ad G c3))]) hX dX5_tellsOf_42 (k := 4) rfl (by rw [ey12]; rfl) (by decide) rfl ?_
    refine gz_goto (pc := 45) (tgt := 19) hX dX5_tellsOf_45 (by decide) ?_
    refine gz_sub (lw := [(0, .ref (gz_ad G c0)), (1, .int x1), (2, .int x2), (3, .ref (gz_ad G c3)), (4, .int y12)]) [1, 2, 3, 4, 0] rfl ?_
    obtain rfl := Option.some.inj h
    exact hk
noncomputable def ml_X5_tellsOf_19 (c0 : Nat) (x1 : Int32) (x2 : Int32) (c3 : Nat) (x4 : Int32) (m : gM) : Option (Unit × gM) := gz_loop (fun q : (Int32 × Int32 × Int32 × gM) => mb_X5_tellsOf_19 c0 q.1 q.2.1 c3 q.2.2.1 q.2.2.2) (x1, x2, x4, m)
theorem wl_X5_tellsOf_19 {X : gz_X} {G : gz_G} (hX : gz_C cS X G cX5_tellsOf 5 RX5 0 0) {c0 : Nat} {x1 : Int32} {x2 : Int32} {c3 : Nat} {x4 : Int32} (hs_c0 : cSt c0 = true) {m : gM} {z : (Unit × gM)} (h : ml_X5_tellsOf_19 c0 x1 x2 c3 x4 m = some z) (hk : (fun z : (Unit × gM) => gz_kV cS X G 5 (0, 0) cX5_tellsOf z.2) z) : gz_V cS X G 5 (0, 0) m 19 [(0, .ref (gz_ad G c0)), (1, .int x1), (2, .int x2), (3, .ref (gz_ad G c3)), (4, .int x4)] [] := by
  have hp : mP_X5_tellsOf_19 X G c0 c3 (x1, x2, x4, m) := gz_loop_ind (fun q z hz hkz => wb_X5_tellsOf_19 hX hs_c0 hz hkz) h hk
  exact hp
noncomputable def cf_X5_tellsOf (c0 : Nat) (x1 : Int32) (x2 : Int32) (m : gM) : Option (Unit × gM) :=
  (if (gI m c0 1) = (40 : Int32) then (if gz_in (0 : Int32) (40) then gz_let (gP m (c0 + 5) (gz_ix (0 : Int32))) fun r3 => (if r3 ≠ 0 then (ml_X5_tellsOf_19 c0 x1 x2 r3 (1 : Int32) m) else none) else none) else (mj_X5_tellsOf_66 c0 x1 x2 m))
theorem wm_X5_tellsOf {X : gz_X} {G : gz_G} (hX : gz_C cS X G cX5_tellsOf 5 RX5 0 0) {c0 : Nat} {x1 : Int32} {x2 : Int32} (hs_c0 : cSt c0 = true) {m : gM} {z : (Unit × gM)} (h : cf_X5_tellsOf c0 x1 x2 m = some z) (hk : (fun z : (Unit × gM) => gz_kV cS X G 5 (0, 0) cX5_tellsOf z.2) z) : gz_V cS X G 5 (0, 0) m 0 [(0, .ref (gz_ad G c0)), (1, .int x1), (2, .int x2)] [] := by
  unfold cf_X5_tellsOf at h
  refine gz_aload_n (pc := 0) hX dX5_tellsOf_0 rfl 0 rfl ?_
  refine cg_X5_37_5 (pc := 1) hX (c := c0) (v := .int (gI m c0 1)) (fun h => cz_k h (st_k hs_c0)) (fun _ => rfl) dX5_tellsOf_1 ?_
  refine gz_bipush (pc := 4) (v := (40 : Int32)) hX dX5_tellsOf_4 (by decide) ?_
  refine gz_icmp_ne (pc := 6) (tgt := 66) hX dX5_tellsOf_6 (by decide) (fun g1 => ?_) (fun g1 => ?_)
  · replace h := gz_if' g1 h
    exact wb_X5_tellsOf_66 hX hs_c0 h hk
  · replace h := gz_it' g1 h
    refine gz_aload_n (pc := 9) hX dX5_tellsOf_9 rfl 0 rfl ?_
    refine cg_X5_30_5 (pc := 10) hX (c := c0) (v := .ref (gz_ad G (c0 + 5))) (fun h => cz_k h (st_k hs_c0)) (fun h => cz_f h (st_0 hs_c0) (st_f8 hs_c0) (by omega) rfl) dX5_tellsOf_10 ?_
    refine gz_iconst (pc := 13) (v := (0 : Int32)) hX dX5_tellsOf_13 (by decide) ?_
    obtain ⟨g2, h⟩ := gz_gu h
    obtain ⟨r3, er3, h⟩ := gz_lt h
    obtain ⟨g4, h⟩ := gz_gu h
    refine gz_aald (pc := 14) (c := (c0 + 5)) (t := 7) (n := 40) hX rfl rfl rfl (v := .ref (gz_ad G r3)) (fun h => cz_a h (st_a5 hs_c0).1 (by decide) (st_a5 hs_c0).2) g2 (fun _ => gz_rq er3 g4) dX5_tellsOf_14 ?_
    refine gz_astore_n (pc := 15) (lw := [(3, .ref (gz_ad G r3)), (0, .ref (gz_ad G c0)), (1, .int x1), (2, .int x2)]) hX dX5_tellsOf_15 rfl (by decide) rfl ?_
    refine gz_iconst (pc := 16) (v := (1 : Int32)) hX dX5_tellsOf_16 (by decide) ?_
    refine gz_istore (pc := 17) (lw := [(4, .int (1 : Int32)), (3, .ref (gz_ad G r3)), (0, .ref (gz_ad G c0)), (1, .int x1), (2, .int x2)]) hX dX5_tellsOf_17 (by decide) rfl ?_
    refine gz_sub (lw := [(0, .ref (gz_ad G c0)), (1, .int x1), (2, .int x2), (3, .ref (gz_ad G r3)), (4, .int (1 : Int32))]) [2, 3, 4, 1, 0] rfl ?_
    exact wl_X5_tellsOf_19 hX hs_c0 h hk
theorem ct_X5_tellsOf {G : gz_G} {l : Launch} {c0 : Nat} {x1 : Int32} {x2 : Int32} (hs_c0 : cSt c0 = true) {m m9 : gM} (h : cf_X5_tellsOf c0 x1 x2 m = some ((), m9)) : gz_Met cS G l yX5_tellsOf cX5_tellsOf 5 none (mRm 0 0) [.ref (gz_ad G c0), .int x1, .int x2] m m9 none :=
  gz_ofV (by decide +kernel) (Nat.le_of_ble_eq_true rfl) fun X _ hX hk => wm_X5_tellsOf hX hs_c0 h hk
theorem cp_X7_9_6 {X : gz_X} {G : gz_G} {cc : ByteArray} {nL fr lo pc : Nat} {rem : Nat × Nat} {m m9 : gM} {lv : List (Nat × Value)} {st : List Value} (hX : gz_C cS X G cc nL RX7 fr lo) (hn0 : X.2.2.2.2.2.2.2.2.1.name = "<init>") {c : Nat} {r : Nat} (hK : clc m.1 m.2.1 m.2.2.2.2.1 → m.1 c = 6 + 1) (hw : 1000 ≤ c) (hs : sr c 0 = 0 ∧ r ≠ 0) (hd : decode cc pc = .ok (.putfield 9, 3)) (hm : m9 = gz_sP m c 0 r) (kk : gz_V cS X G nL rem m9 (pc + 3) lv st) : gz_V cS X G nL rem m pc lv (.ref (gz_ad G r) :: .ref (gz_ad G c) :: st) := by
  subst hm
  exact gz_putff hX (C := RX7) (T := TX7) (N := 1) (ci := 6) (k := 0) (μ' := gz_sP m c 0 r) (v := .ref (gz_ad G r)) rfl (by decide) in_X7 tyX7 tyX7_ok nmX7 (by decide) (hX.2.2.2.2.1 _ q839) (fun _ h => h) rfl hn0 rfl rfl rfl rfl hd hK hw rfl rfl rfl (fun d tc j h => gz_sP_o d tc j h) (by intro j; rw [← gz_rfp hs.2]; exact gz_sP_v (fun j => ftC 6 j) rfl j) (clc_sP hs.1) kk
theorem cp_X7_9_8 {X : gz_X} {G : gz_G} {cc : ByteArray} {nL fr lo pc : Nat} {rem : Nat × Nat} {m m9 : gM} {lv : List (Nat × Value)} {st : List Value} (hX : gz_C cS X G cc nL RX7 fr lo) (hn0 : X.2.2.2.2.2.2.2.2.1.name = "<init>") {c : Nat} {r : Nat} (hK : clc m.1 m.2.1 m.2.2.2.2.1 → m.1 c = 8 + 1) (hw : 1000 ≤ c) (hs : sr c 0 = 0 ∧ r ≠ 0) (hd : decode cc pc = .ok (.putfield 9, 3)) (hm : m9 = gz_sP m c 0 r) (kk : gz_V cS X G nL rem m9 (pc + 3) lv st) : gz_V cS X G nL rem m pc lv (.ref (gz_ad G r) :: .ref (gz_ad G c) :: st) := by
  subst hm
  exact gz_putff hX (C := RX9) (T := TX9) (N := 4) (ci := 8) (k := 0) (μ' := gz_sP m c 0 r) (v := .ref (gz_ad G r)) rfl (by decide) in_X9 tyX9 tyX9_ok nmX9 (by decide) (hX.2.2.2.2.1 _ q839) (fun _ h => h) rfl hn0 rfl rfl rfl rfl hd hK hw rfl rfl rfl (fun d tc j h => gz_sP_o d tc j h) (by intro j; rw [← gz_rfp hs.2]; exact gz_sP_v (fun j => ftC 8 j) rfl j) (clc_sP hs.1) kk
/-! FirstSnuffer$Named.<init>(Ljava/lang/String;)V -/
noncomputable def cf_X7_init (c0 : Nat) (c1 : Nat) (m : gM) : Option (Unit × gM) :=
  (if gK m c0 = 7 ∨ gK m c0 = 9 then (if 1000 ≤ c0 then (if sr c0 0 = 0 ∧ c1 ≠ 0 then gz_let (gz_sP m c0 0 c1) fun m4 => some ((), m4) else none) else none) else none)
theorem wm_X7_init {X : gz_X} {G : gz_G} (hX : gz_C cS X G cX7_init 2 RX7 1 20) (hn0 : X.2.2.2.2.2.2.2.2.1.name = "<init>") {c0 : Nat} {c1 : Nat}  {m : gM} {z : (Unit × gM)} (h : cf_X7_init c0 c1 m = some z) (hk : (fun z : (Unit × gM) => gz_kV cS X G 2 (0, 0) cX7_init z.2) z) : gz_V cS X G 2 (0, 0) m 0 [(0, .ref (gz_ad G c0)), (1, .ref (gz_ad G c1))] [] := by
  unfold cf_X7_init at h
  refine gz_aload_n (pc := 0) hX dX7_init_0 rfl 0 rfl ?_
  refine gz_objI (pc := 1) hX q838 q214 q215 ⟨Nat.le_of_ble_eq_true rfl, Nat.le_of_ble_eq_true rfl⟩ (Nat.le_of_ble_eq_true rfl) dX7_init_1 ?_
  refine gz_aload_n (pc := 4) hX dX7_init_4 rfl 0 rfl ?_
  refine gz_aload_n (pc := 5) hX dX7_init_5 rfl 1 rfl ?_
  obtain ⟨g1, h⟩ := gz_gu h
  obtain ⟨g2, h⟩ := gz_gu h
  obtain ⟨g3, h⟩ := gz_gu h
  obtain ⟨m4, em4, h⟩ := gz_lt h
  have km4 : gz_V cS X G 2 (0, 0) m4 (6 + 3) [(0, .ref (gz_ad G c0)), (1, .ref (gz_ad G c1))] [] → gz_V cS X G 2 (0, 0) m 6 [(0, .ref (gz_ad G c0)), (1, .ref (gz_ad G c1))] [.ref (gz_ad G c1), .ref (gz_ad G c0)] := fun kk => g1.elim (fun z => cp_X7_9_6 (pc := 6) hX hn0 (c := c0) (fun _ => z) g2 g3 dX7_init_6 em4 kk) (fun z => cp_X7_9_8 (pc := 6) hX hn0 (c := c0) (fun _ => z) g2 g3 dX7_init_6 em4 kk)
  refine km4 ?_
  obtain rfl := Option.some.inj h
  exact hk _ _ dX7_init_9
theorem ct_X7_init {G : gz_G} {l : Launch} {c0 : Nat} {c1 : Nat}  {m m9 : gM} (h : cf_X7_init c0 c1 m = some ((), m9)) : gz_Met cS G l yX7_init cX7_init 2 none (mRm 1 20) [.ref (gz_ad G c0), .ref (gz_ad G c1)] m m9 none :=
  gz_ofVc (by decide +kernel) (Nat.le_of_ble_eq_true rfl) fun X _ hn hX hk => wm_X7_init hX hn h hk
/-! java/util/AbstractCollection.<init>()V -/
noncomputable def cf_J0_init (c0 : Nat) (m : gM) : Option (Unit × gM) :=
  some ((), m)
theorem wm_J0_init {X : gz_X} {G : gz_G} (hX : gz_C cS X G cJ0_init 1 RJ0 1 20) (hn0 : X.2.2.2.2.2.2.2.2.1.name = "<init>") {c0 : Nat}  {m : gM} {z : (Unit × gM)} (h : cf_J0_init c0 m = some z) (hk : (fun z : (Unit × gM) => gz_kV cS X G 1 (0, 0) cJ0_init z.2) z) : gz_V cS X G 1 (0, 0) m 0 [(0, .ref (gz_ad G c0))] [] := by
  unfold cf_J0_init at h
  refine gz_aload_n (pc := 0) hX dJ0_init_0 rfl 0 rfl ?_
  refine gz_objI (pc := 1) hX q233 q214 q215 ⟨Nat.le_of_ble_eq_true rfl, Nat.le_of_ble_eq_true rfl⟩ (Nat.le_of_ble_eq_true rfl) dJ0_init_1 ?_
  obtain rfl := Option.some.inj h
  exact hk _ _ dJ0_init_4
theorem ct_J0_init {G : gz_G} {l : Launch} {c0 : Nat}  {m m9 : gM} (h : cf_J0_init c0 m = some ((), m9)) : gz_Met cS G l yJ0_init cJ0_init 1 none (mRm 1 20) [.ref (gz_ad G c0)] m m9 none :=
  gz_ofVc (by decide +kernel) (Nat.le_of_ble_eq_true rfl) fun X _ hn hX hk => wm_J0_init hX hn h hk
theorem cc_X3_1 {X : gz_X} {G : gz_G} {cc : ByteArray} {nL fr lo pc : Nat} {rem : Nat × Nat} {lv : List (Nat × Value)} {rest st0 : List Value} (hX : gz_C cS X G cc nL RX3 fr lo) {c0 : Nat} {x3 : Int32} {x4 : Int32} {m m9 : gM}  (h : cf_J5_init c0 x3 x4 m = some ((), m9)) (hroom : 1 + 1 ≤ fr ∧ 8 + (5 + 11) + 20 ≤ lo) (hst : st0 = [.int x4, .int x3, .null, .null, .ref (gz_ad G c0)] ++ rest) (hW : (rest.map fun v => v.category).sum ≤ 8) (hd : decode cc pc = .ok (.invokespecial 1, 3)) (kk : gz_V cS X G nL rem m9 (pc + 3) lv (rest)) : gz_V cS X G nL rem m pc lv st0 :=
  gz_callI hX cs_E (As := [.null, .null, .int x3, .int x4]) (rest := rest) (c := c0) (ct_J5_init (l := X.2.1) h) q341 q175 q339 q340 rfl (n := 4) (by decide +kernel) hroom rfl hst hW hd (rem := rem) kk
/-! FirstSnuffer$Fault.<init>()V -/
noncomputable def cf_X3_init (c0 : Nat) (m : gM) : Option (Unit × gM) :=
  ((cf_J5_init c0 (0 : Int32) (0 : Int32) m).bind fun (_, m2) => some ((), m2))
theorem wm_X3_init {X : gz_X} {G : gz_G} (hX : gz_C cS X G cX3_init 1 RX3 2 44) (hn0 : X.2.2.2.2.2.2.2.2.1.name = "<init>") {c0 : Nat}  {m : gM} {z : (Unit × gM)} (h : cf_X3_init c0 m = some z) (hk : (fun z : (Unit × gM) => gz_kV cS X G 1 (0, 0) cX3_init z.2) z) : gz_V cS X G 1 (0, 0) m 0 [(0, .ref (gz_ad G c0))] [] := by
  unfold cf_X3_init at h
  refine gz_aload_n (pc := 0) hX dX3_init_0 rfl 0 rfl ?_
  refine gz_null (pc := 1) hX dX3_init_1 ?_
  refine gz_null (pc := 2) hX dX3_init_2 ?_
  refine gz_iconst (pc := 3) (v := (0 : Int32)) hX dX3_init_3 (by decide) ?_
  refine gz_iconst (pc := 4) (v := (0 : Int32)) hX dX3_init_4 (by decide) ?_
  obtain ⟨⟨⟨⟩, m2⟩, c3, h⟩ := gz_bd h
  refine cc_X3_1 (pc := 5) hX c3 ⟨Nat.le_of_ble_eq_true rfl, Nat.le_of_ble_eq_true rfl⟩ (rest := []) rfl (Nat.le_of_ble_eq_true rfl) dX3_init_5 ?_
  obtain rfl := Option.some.inj h
  exact hk _ _ dX3_init_8
theorem ct_X3_init {G : gz_G} {l : Launch} {c0 : Nat}  {m m9 : gM} (h : cf_X3_init c0 m = some ((), m9)) : gz_Met cS G l yX3_init cX3_init 1 none (mRm 2 44) [.ref (gz_ad G c0)] m m9 none :=
  gz_ofVc (by decide +kernel) (Nat.le_of_ble_eq_true rfl) fun X _ hn hX hk => wm_X3_init hX hn h hk
/-! java/lang/StringUTF16.compress([CI[BII)I -/
def mP_J10_compress_2_3 (X : gz_X) (G : gz_G) (c0 : Nat) (c2 : Nat) (q : (Int32 × Int32 × Int32 × Int32 × gM)) : Prop := gz_V cS X G 7 (0, 0) q.2.2.2.2 3 [(0, .ref (gz_ad G c0)), (1, .int q.1), (2, .ref (gz_ad G c2)), (3, .int q.2.1), (4, .int q.2.2.1), (5, .int q.2.2.2.1)] []
noncomputable def mb_J10_compress_2_3 (c0 : Nat) (x1 : Int32) (c2 : Nat) (x3 : Int32) (x4 : Int32) (x5 : Int32) (m : gM) : Option ((Int32 × Int32 × Int32 × Int32 × gM) ⊕ (Int32 × gM)) :=
  (if x4 ≤ x5 then some (Sum.inr (x4, m)) else (if gK m c0 = 103 then (if gz_in x1 (gN m c0) then gz_let ((gI m c0 (gz_ix x1))) fun y4 => (if y4 ≤ (255 : Int32) then (if gK m c2 = 102 ∧ 1000 ≤ c2 then (if gz_in x3 (gN m c2) then gz_let (gz_sI m c2 (gz_ix x3) ((y4.toInt8.toInt32).toInt8.toInt32)) fun m8 => gz_let (x1 + (1 : Int32)) fun y9 => gz_let (x3 + (1 : Int32)) fun y10 => gz_let (x5 + (1 : Int32)) fun y11 => some (Sum.inl (y9, y10, x4, y11, m8)) else none) else none) else some (Sum.inr (x5, m))) else none) else none))
theorem wb_J10_compress_2_3 {X : gz_X} {G : gz_G} (hX : gz_C cS X G cJ10_compress_2 7 RJ10 0 0) {c0 : Nat} {x1 : Int32} {c2 : Nat} {x3 : Int32} {x4 : Int32} {x5 : Int32}  {m : gM} {z : ((Int32 × Int32 × Int32 × Int32 × gM) ⊕ (Int32 × gM))} (h : mb_J10_compress_2_3 c0 x1 c2 x3 x4 x5 m = some z) (hk : (Sum.elim (mP_J10_compress_2_3 X G c0 c2) (fun z : (Int32 × gM) => gz_kI cS X G 7 (0, 0) cJ10_compress_2 z.2 z.1)) z) : gz_V cS X G 7 (0, 0) m 3 [(0, .ref (gz_ad G c0)), (1, .int x1), (2, .ref (gz_ad G c2)), (3, .int x3), (4, .int x4), (5, .int x5)] [] := by
  unfold mb_J10_compress_2_3 at h
  refine gz_iload (pc := 3) hX dJ10_compress_2_3 5 rfl ?_
  refine gz_iload (pc := 5) hX dJ10_compress_2_5 4 rfl ?_
  refine gz_icmp_ge (pc := 7) (tgt := 44) hX dJ10_compress_2_7 (by decide) (fun g1 => ?_) (fun g1 => ?_)
  · replace h := gz_it' g1 h
    refine gz_iload (pc := 44) hX dJ10_compress_2_44 4 rfl ?_
    obtain rfl := Option.some.inj h
    exact hk _ _ dJ10_compress_2_46
  · replace h := gz_if' g1 h
    refine gz_aload_n (pc := 10) hX dJ10_compress_2_10 rfl 0 rfl ?_
    refine gz_iload_n (pc := 11) hX dJ10_compress_2_11 rfl 1 rfl ?_
    obtain ⟨g2, h⟩ := gz_gu h
    obtain ⟨g3, h⟩ := gz_gu h
    refine gz_cald2 (pc := 12) (c := c0) (n := gN m c0) hX rfl (fun _ => ⟨g2, rfl⟩) g3 dJ10_compress_2_12 ?_
    obtain ⟨y4, ey4, h⟩ := gz_lt h
    refine gz_topi ey4 ?_
    refine gz_istore (pc := 13) (lw := [(6, .int y4), (0, .ref (gz_ad G c0)), (1, .int x1), (2, .ref (gz_ad G c2)), (3, .int x3), (4, .int x4), (5, .int x5)]) hX dJ10_compress_2_13 (by decide) rfl ?_
    refine gz_iload (pc := 15) hX dJ10_compress_2_15 0 rfl ?_
    refine gz_sipush (pc := 17) (v := (255 : Int32)) hX dJ10_compress_2_17 (by decide) ?_
    refine gz_icmp_le (pc := 20) (tgt := 26) hX dJ10_compress_2_20 (by decide) (fun g5 => ?_) (fun g5 => ?_)
    · replace h := gz_it' g5 h
      refine gz_aload_n (pc := 26) hX dJ10_compress_2_26 rfl 3 rfl ?_
      refine gz_iload_n (pc := 27) hX dJ10_compress_2_27 rfl 4 rfl ?_
      refine gz_iload (pc := 28) hX dJ10_compress_2_28 0 rfl ?_
      refine gz_i2b (pc := 30) hX dJ10_compress_2_30 ?_
      obtain ⟨g6, h⟩ := gz_gu h
      obtain ⟨g7, h⟩ := gz_gu h
      obtain ⟨m8, em8, h⟩ := gz_lt h
      refine gz_bast2 (pc := 31) (c := c2) (n := gN m c2) hX rfl (fun _ => ⟨g6.1, rfl⟩) g6.2 g7 dJ10_compress_2_31 em8 ?_
      obtain ⟨y9, ey9, h⟩ := gz_lt h
      refine gz_iinc (pc := 32) (v := y9) (lw := [(1, .int y9), (6, .int y4), (0, .ref (gz_ad G c0)), (2, .ref (gz_ad G c2)), (3, .int x3), (4, .int x4), (5, .int x5)]) hX dJ10_compress_2_32 (k := 2) rfl (by rw [ey9]; rfl) (by decide) rfl ?_
      obtain ⟨y10, ey10, h⟩ := gz_lt h
      refine gz_iinc (pc := 35) (v := y10) (lw := [(3, .int y10), (1, .int y9), (6, .int y4), (0, .ref (gz_ad G c0)), (2, .ref (gz_ad G c2)), (4, .int x4), (5, .int x5)]) hX dJ10_compress_2_35 (k := 4) rfl (by rw [ey10]; rfl) (by decide) rfl ?_
      obtain ⟨y11, ey11, h⟩ := gz_lt h
      refine gz_iinc (pc := 38) (v := y11) (lw := [(5, .int y11), (3, .int y10), (1, .int y9), (6, .int y4), (0, .ref (gz_ad G c0)), (2, .ref (gz_ad G c2)), (4, .int x4)]) hX dJ10_compress_2_38 (k := 6) rfl (by rw [ey11]; rfl) (by decide) rfl ?_
      refine gz_goto (pc := 41) (tgt := 3) hX dJ10_compress_2_41 (by decide) ?_
      refine gz_sub (lw := [(0, .ref (gz_ad G c0)), (1, .int y9), (2, .ref (gz_ad G c2)), (3, .int y10), (4, .int x4), (5, .int y11)]) [4, 2, 5, 1, 6, 0] rfl ?_
      obtain rfl := Option.some.inj h
      exact hk
    · replace h := gz_if' g5 h
      refine gz_iload (pc := 23) hX dJ10_compress_2_23 6 rfl ?_
      obtain rfl := Option.some.inj h
      exact hk _ _ dJ10_compress_2_25
noncomputable def ml_J10_compress_2_3 (c0 : Nat) (x1 : Int32) (c2 : Nat) (x3 : Int32) (x4 : Int32) (x5 : Int32) (m : gM) : Option (Int32 × gM) := gz_loop (fun q : (Int32 × Int32 × Int32 × Int32 × gM) => mb_J10_compress_2_3 c0 q.1 c2 q.2.1 q.2.2.1 q.2.2.2.1 q.2.2.2.2) (x1, x3, x4, x5, m)
theorem wl_J10_compress_2_3 {X : gz_X} {G : gz_G} (hX : gz_C cS X G cJ10_compress_2 7 RJ10 0 0) {c0 : Nat} {x1 : Int32} {c2 : Nat} {x3 : Int32} {x4 : Int32} {x5 : Int32}  {m : gM} {z : (Int32 × gM)} (h : ml_J10_compress_2_3 c0 x1 c2 x3 x4 x5 m = some z) (hk : (fun z : (Int32 × gM) => gz_kI cS X G 7 (0, 0) cJ10_compress_2 z.2 z.1) z) : gz_V cS X G 7 (0, 0) m 3 [(0, .ref (gz_ad G c0)), (1, .int x1), (2, .ref (gz_ad G c2)), (3, .int x3), (4, .int x4), (5, .int x5)] [] := by
  have hp : mP_J10_compress_2_3 X G c0 c2 (x1, x3, x4, x5, m) := gz_loop_ind (fun q z hz hkz => wb_J10_compress_2_3 hX  hz hkz) h hk
  exact hp
noncomputable def cf_J10_compress_2 (c0 : Nat) (x1 : Int32) (c2 : Nat) (x3 : Int32) (x4 : Int32) (m : gM) : Option (Int32 × gM) :=
  (ml_J10_compress_2_3 c0 x1 c2 x3 x4 (0 : Int32) m)
theorem wm_J10_compress_2 {X : gz_X} {G : gz_G} (hX : gz_C cS X G cJ10_compress_2 7 RJ10 0 0) {c0 : Nat} {x1 : Int32} {c2 : Nat} {x3 : Int32} {x4 : Int32}  {m : gM} {z : (Int32 × gM)} (h : cf_J10_compress_2 c0 x1 c2 x3 x4 m = some z) (hk : (fun z : (Int32 × gM) => gz_kI cS X G 7 (0, 0) cJ10_compress_2 z.2 z.1) z) : gz_V cS X G 7 (0, 0) m 0 [(0, .ref (gz_ad G c0)), (1, .int x1), (2, .ref (gz_ad G c2)), (3, .int x3), (4, .int x4)] [] := by
  unfold cf_J10_compress_2 at h
  refine gz_iconst (pc := 0) (v := (0 : Int32)) hX dJ10_compress_2_0 (by decide) ?_
  refine gz_istore (pc := 1) (lw := [(5, .int (0 : Int32)), (0, .ref (gz_ad G c0)), (1, .int x1), (2, .ref (gz_ad G c2)), (3, .int x3), (4, .int x4)]) hX dJ10_compress_2_1 (by decide) rfl ?_
  refine gz_sub (lw := [(0, .ref (gz_ad G c0)), (1, .int x1), (2, .ref (gz_ad G c2)), (3, .int x3), (4, .int x4), (5, .int (0 : Int32))]) [1, 2, 3, 4, 5, 0] rfl ?_
  exact wl_J10_compress_2_3 hX h hk
theorem ct_J10_compress_2 {G : gz_G} {l : Launch} {c0 : Nat} {x1 : Int32} {c2 : Nat} {x3 : Int32} {x4 : Int32}  {m m9 : gM} {r : Int32} (h : cf_J10_compress_2 c0 x1 c2 x3 x4 m = some (r, m9)) : gz_Met cS G l yJ10_compress_2 cJ10_compress_2 7 (some .int) (mRm 0 0) [.ref (gz_ad G c0), .int x1, .ref (gz_ad G c2), .int x3, .int x4] m m9 (some (.int r)) :=
  gz_ofI (by decide +kernel) (Nat.le_of_ble_eq_true rfl) fun X _ hX hk => wm_J10_compress_2 hX h hk
/-! java/lang/StringUTF16.toBytes([CII)[B -/
noncomputable def cf_J10_toBytes (c0 : Nat) (x1 : Int32) (x2 : Int32) (m : gM) : Option (Nat × gM) :=
  none
theorem wm_J10_toBytes {X : gz_X} {G : gz_G} (hX : gz_C cS X G cJ10_toBytes 5 RJ10 0 0) {c0 : Nat} {x1 : Int32} {x2 : Int32}  {m : gM} {z : (Nat × gM)} (h : cf_J10_toBytes c0 x1 x2 m = some z) (hk : (fun z : (Nat × gM) => gz_kR cS X G 5 (0, 0) cJ10_toBytes z.2 z.1) z) : gz_V cS X G 5 (0, 0) m 0 [(0, .ref (gz_ad G c0)), (1, .int x1), (2, .int x2)] [] := by
  unfold cf_J10_toBytes at h
  refine gz_iload_n (pc := 0) hX dJ10_toBytes_0 rfl 2 rfl ?_
  exact nomatch h
theorem ct_J10_toBytes {G : gz_G} {l : Launch} {c0 : Nat} {x1 : Int32} {x2 : Int32}  {m m9 : gM} {r : Nat} (h : cf_J10_toBytes c0 x1 x2 m = some (r, m9)) : gz_Met cS G l yJ10_toBytes cJ10_toBytes 5 (some (.array .byte)) (mRm 0 0) [.ref (gz_ad G c0), .int x1, .int x2] m m9 (some (.ref (gz_ad G r))) :=
  gz_ofR (Or.inr ⟨_, rfl⟩) (by decide +kernel) (Nat.le_of_ble_eq_true rfl) fun X _ hX hk => wm_J10_toBytes hX h hk
/-! java/lang/StringUTF16.newBytesLength(I)I -/
noncomputable def cf_J10_newBytesLength (x0 : Int32) (m : gM) : Option (Int32 × gM) :=
  (if (0 : Int32) ≤ x0 then (if x0 < (1073741823 : Int32) then some ((x0 <<< ((1 : Int32) &&& 31)), m) else none) else none)
theorem wm_J10_newBytesLength {X : gz_X} {G : gz_G} (hX : gz_C cS X G cJ10_newBytesLength 1 RJ10 0 0) {x0 : Int32}  {m : gM} {z : (Int32 × gM)} (h : cf_J10_newBytesLength x0 m = some z) (hk : (fun z : (Int32 × gM) => gz_kI cS X G 1 (0, 0) cJ10_newBytesLength z.2 z.1) z) : gz_V cS X G 1 (0, 0) m 0 [(0, .int x0)] [] := by
  unfold cf_J10_newBytesLength at h
  refine gz_iload_n (pc := 0) hX dJ10_newBytesLength_0 rfl 0 rfl ?_
  refine gz_if_ge (pc := 1) (tgt := 12) hX dJ10_newBytesLength_1 (by decide) (fun g1 => ?_) (fun g1 => ?_)
  · replace h := gz_it' g1 h
    refine gz_iload_n (pc := 12) hX dJ10_newBytesLength_12 rfl 0 rfl ?_
    refine gz_ldc (pc := 13) (v := (1073741823 : Int32)) hX q679 dJ10_newBytesLength_13 ?_
    refine gz_icmp_lt (pc := 15) (tgt := 55) hX dJ10_newBytesLength_15 (by decide) (fun g2 => ?_) (fun g2 => ?_)
    · replace h := gz_it' g2 h
      refine gz_iload_n (pc := 55) hX dJ10_newBytesLength_55 rfl 0 rfl ?_
      refine gz_iconst (pc := 56) (v := (1 : Int32)) hX dJ10_newBytesLength_56 (by decide) ?_
      refine gz_ishl (pc := 57) hX dJ10_newBytesLength_57 ?_
      obtain rfl := Option.some.inj h
      exact hk _ _ dJ10_newBytesLength_58
    · replace h := gz_if' g2 h
      exact nomatch h
  · replace h := gz_if' g1 h
    exact nomatch h
theorem ct_J10_newBytesLength {G : gz_G} {l : Launch} {x0 : Int32}  {m m9 : gM} {r : Int32} (h : cf_J10_newBytesLength x0 m = some (r, m9)) : gz_Met cS G l yJ10_newBytesLength cJ10_newBytesLength 1 (some .int) (mRm 0 0) [.int x0] m m9 (some (.int r)) :=
  gz_ofI (by decide +kernel) (Nat.le_of_ble_eq_true rfl) fun X _ hX hk => wm_J10_newBytesLength hX h hk
/-! java/lang/StringUTF16.length([B)I -/
noncomputable def cf_J10_length (c0 : Nat) (m : gM) : Option (Int32 × gM) :=
  (if gK m c0 = 102 then some (((nI (gN m c0)) >>> ((1 : Int32) &&& 31)), m) else none)
theorem wm_J10_length {X : gz_X} {G : gz_G} (hX : gz_C cS X G cJ10_length 1 RJ10 0 0) {c0 : Nat}  {m : gM} {z : (Int32 × gM)} (h : cf_J10_length c0 m = some z) (hk : (fun z : (Int32 × gM) => gz_kI cS X G 1 (0, 0) cJ10_length z.2 z.1) z) : gz_V cS X G 1 (0, 0) m 0 [(0, .ref (gz_ad G c0))] [] := by
  unfold cf_J10_length at h
  refine gz_aload_n (pc := 0) hX dJ10_length_0 rfl 0 rfl ?_
  obtain ⟨g1, h⟩ := gz_gu h
  refine gz_alen2 (pc := 1) (c := c0) (t := 1) (n := gN m c0) hX rfl (fun _ => ⟨g1, rfl⟩) dJ10_length_1 ?_
  refine gz_iconst (pc := 2) (v := (1 : Int32)) hX dJ10_length_2 (by decide) ?_
  refine gz_ishr (pc := 3) hX dJ10_length_3 ?_
  obtain rfl := Option.some.inj h
  exact hk _ _ dJ10_length_4
theorem ct_J10_length {G : gz_G} {l : Launch} {c0 : Nat}  {m m9 : gM} {r : Int32} (h : cf_J10_length c0 m = some (r, m9)) : gz_Met cS G l yJ10_length cJ10_length 1 (some .int) (mRm 0 0) [.ref (gz_ad G c0)] m m9 (some (.int r)) :=
  gz_ofI (by decide +kernel) (Nat.le_of_ble_eq_true rfl) fun X _ hX hk => wm_J10_length hX h hk
theorem cs_J10_44 {X : gz_X} {G : gz_G} {cc : ByteArray} {nL fr lo pc : Nat} {rem : Nat × Nat} {m : gM} {lv : List (Nat × Value)} {st : List Value} (hX : gz_C cS X G cc nL RJ10 fr lo) (hd : decode cc pc = .ok (.getstatic 44, 3)) (kk : gz_V cS X G nL rem m (pc + 3) lv (.int (1 : Int32) :: st)) : gz_V cS X G nL rem m pc lv st := gz_gets hX ((cz_s hX).2.1 _ (List.mem_of_getElem? (show cSi[1]? = some ("java/lang/StringUTF16", "$assertionsDisabled", "Z", 1) from rfl))) (Or.inl (hX.2.2.2.2.1 _ q683)) hd kk
theorem cs_J10_59 {X : gz_X} {G : gz_G} {cc : ByteArray} {nL fr lo pc : Nat} {rem : Nat × Nat} {m : gM} {lv : List (Nat × Value)} {st : List Value} (hX : gz_C cS X G cc nL RJ10 fr lo) (hd : decode cc pc = .ok (.getstatic 59, 3)) (kk : gz_V cS X G nL rem m (pc + 3) lv (.int (0 : Int32) :: st)) : gz_V cS X G nL rem m pc lv st := gz_gets hX ((cz_s hX).2.1 _ (List.mem_of_getElem? (show cSi[2]? = some ("java/lang/StringUTF16", "HI_BYTE_SHIFT", "I", 0) from rfl))) (Or.inl (hX.2.2.2.2.1 _ q688)) hd kk
theorem cs_J10_63 {X : gz_X} {G : gz_G} {cc : ByteArray} {nL fr lo pc : Nat} {rem : Nat × Nat} {m : gM} {lv : List (Nat × Value)} {st : List Value} (hX : gz_C cS X G cc nL RJ10 fr lo) (hd : decode cc pc = .ok (.getstatic 63, 3)) (kk : gz_V cS X G nL rem m (pc + 3) lv (.int (8 : Int32) :: st)) : gz_V cS X G nL rem m pc lv st := gz_gets hX ((cz_s hX).2.1 _ (List.mem_of_getElem? (show cSi[3]? = some ("java/lang/StringUTF16", "LO_BYTE_SHIFT", "I", 8) from rfl))) (Or.inl (hX.2.2.2.2.1 _ q690)) hd kk
theorem cc_J10_48 {X : gz_X} {G : gz_G} {cc : ByteArray} {nL fr lo pc : Nat} {rem : Nat × Nat} {lv : List (Nat × Value)} {rest st0 : List Value} (hX : gz_C cS X G cc nL RJ10 fr lo) {c0 : Nat} {m m9 : gM}  {r : Int32} (h : cf_J10_length c0 m = some (r, m9)) (hroom : 0 + 1 ≤ fr ∧ 8 + (1 + 11) + 0 ≤ lo) (hst : st0 = [.ref (gz_ad G c0)] ++ rest) (hW : (rest.map fun v => v.category).sum ≤ 8) (hd : decode cc pc = .ok (.invokestatic 48, 3)) (kk : gz_V cS X G nL rem m9 (pc + 3) lv (.int r :: rest)) : gz_V cS X G nL rem m pc lv st0 :=
  gz_callS hX cs_E (As := [.ref (gz_ad G c0)]) (rest := rest) (ct_J10_length (l := X.2.1) h) (lw_S q685 q686 q184 q687) (n := 1) (by decide +kernel) hroom rfl hst hW hd (rem := rem) kk
/-! java/lang/StringUTF16.getChar([BI)C -/
noncomputable def mj_J10_getChar_28 (c0 : Nat) (x1 : Int32) (m : gM) : Option (Int32 × gM) :=
  gz_let ((x1 <<< ((1 : Int32) &&& 31))) fun y1 => gz_let (y1 + (1 : Int32)) fun y2 => (if gK m c0 = 102 then (if gz_in y1 (gN m c0) then (if gK m c0 = 102 then (if gz_in y2 (gN m c0) then (if ((((((gI m c0 (gz_ix y1)) &&& (255 : Int32)) <<< ((0 : Int32) &&& 31)) ||| (((gI m c0 (gz_ix y2)) &&& (255 : Int32)) <<< ((8 : Int32) &&& 31))).toUInt32 % 65536).toInt32).toUInt32.toUInt16.toUInt32.toInt32 = ((((((gI m c0 (gz_ix y1)) &&& (255 : Int32)) <<< ((0 : Int32) &&& 31)) ||| (((gI m c0 (gz_ix y2)) &&& (255 : Int32)) <<< ((8 : Int32) &&& 31))).toUInt32 % 65536).toInt32) then some (((((((gI m c0 (gz_ix y1)) &&& (255 : Int32)) <<< ((0 : Int32) &&& 31)) ||| (((gI m c0 (gz_ix y2)) &&& (255 : Int32)) <<< ((8 : Int32) &&& 31))).toUInt32 % 65536).toInt32), m) else none) else none) else none) else none) else none)
theorem wb_J10_getChar_28 {X : gz_X} {G : gz_G} (hX : gz_C cS X G cJ10_getChar 2 RJ10 1 20) {c0 : Nat} {x1 : Int32}  {m : gM} {z : (Int32 × gM)} (h : mj_J10_getChar_28 c0 x1 m = some z) (hk : (fun z : (Int32 × gM) => gz_kN cS X G 2 (0, 0) cJ10_getChar .char z.2 z.1) z) : gz_V cS X G 2 (0, 0) m 28 [(0, .ref (gz_ad G c0)), (1, .int x1)] [] := by
  unfold mj_J10_getChar_28 at h
  refine gz_iload_n (pc := 28) hX dJ10_getChar_28 rfl 1 rfl ?_
  refine gz_iconst (pc := 29) (v := (1 : Int32)) hX dJ10_getChar_29 (by decide) ?_
  refine gz_ishl (pc := 30) hX dJ10_getChar_30 ?_
  obtain ⟨y1, ey1, h⟩ := gz_lt h
  refine gz_topi ey1 ?_
  refine gz_istore_n (pc := 31) (lw := [(1, .int y1), (0, .ref (gz_ad G c0))]) hX dJ10_getChar_31 rfl (by decide) rfl ?_
  refine gz_aload_n (pc := 32) hX dJ10_getChar_32 rfl 1 rfl ?_
  refine gz_iload_n (pc := 33) hX dJ10_getChar_33 rfl 0 rfl ?_
  obtain ⟨y2, ey2, h⟩ := gz_lt h
  refine gz_iinc (pc := 34) (v := y2) (lw := [(1, .int y2), (0, .ref (gz_ad G c0))]) hX dJ10_getChar_34 (k := 0) rfl (by rw [ey2]; rfl) (by decide) rfl ?_
  obtain ⟨g3, h⟩ := gz_gu h
  obtain ⟨g4, h⟩ := gz_gu h
  refine gz_bald2 (pc := 37) (c := c0) (n := gN m c0) hX rfl (fun _ => ⟨g3, rfl⟩) g4 dJ10_getChar_37 ?_
  refine gz_sipush (pc := 38) (v := (255 : Int32)) hX dJ10_getChar_38 (by decide) ?_
  refine gz_iand (pc := 41) hX dJ10_getChar_41 ?_
  refine cs_J10_59 (pc := 42) hX dJ10_getChar_42 ?_
  refine gz_ishl (pc := 45) hX dJ10_getChar_45 ?_
  refine gz_aload_n (pc := 46) hX dJ10_getChar_46 rfl 1 rfl ?_
  refine gz_iload_n (pc := 47) hX dJ10_getChar_47 rfl 0 rfl ?_
  obtain ⟨g5, h⟩ := gz_gu h
  obtain ⟨g6, h⟩ := gz_gu h
  refine gz_bald2 (pc := 48) (c := c0) (n := gN m c0) hX rfl (fun _ => ⟨g5, rfl⟩) g6 dJ10_getChar_48 ?_
  refine gz_sipush (pc := 49) (v := (255 : Int32)) hX dJ10_getChar_49 (by decide) ?_
  refine gz_iand (pc := 52) hX dJ10_getChar_52 ?_
  refine cs_J10_63 (pc := 53) hX dJ10_getChar_53 ?_
  refine gz_ishl (pc := 56) hX dJ10_getChar_56 ?_
  refine gz_ior (pc := 57) hX dJ10_getChar_57 ?_
  refine gz_i2c (pc := 58) hX dJ10_getChar_58 ?_
  obtain ⟨g7, h⟩ := gz_gu h
  obtain rfl := Option.some.inj h
  exact hk _ _ dJ10_getChar_59 (congrArg Value.int g7)
noncomputable def cf_J10_getChar (c0 : Nat) (x1 : Int32) (m : gM) : Option (Int32 × gM) :=
  (if (1 : Int32) = (0 : Int32) then (if x1 < (0 : Int32) then none else ((cf_J10_length c0 m).bind fun (r3, m4) => (if x1 < r3 then (mj_J10_getChar_28 c0 x1 m4) else none))) else (mj_J10_getChar_28 c0 x1 m))
theorem wm_J10_getChar {X : gz_X} {G : gz_G} (hX : gz_C cS X G cJ10_getChar 2 RJ10 1 20) {c0 : Nat} {x1 : Int32}  {m : gM} {z : (Int32 × gM)} (h : cf_J10_getChar c0 x1 m = some z) (hk : (fun z : (Int32 × gM) => gz_kN cS X G 2 (0, 0) cJ10_getChar .char z.2 z.1) z) : gz_V cS X G 2 (0, 0) m 0 [(0, .ref (gz_ad G c0)), (1, .int x1)] [] := by
  unfold cf_J10_getChar at h
  refine cs_J10_44 (pc := 0) hX dJ10_getChar_0 ?_
  refine gz_if_ne (pc := 3) (tgt := 28) hX dJ10_getChar_3 (by decide) (fun g1 => ?_) (fun g1 => ?_)
  · replace h := gz_if' g1 h
    exact wb_J10_getChar_28 hX h hk
  · replace h := gz_it' g1 h
    refine gz_iload_n (pc := 6) hX dJ10_getChar_6 rfl 1 rfl ?_
    refine gz_if_lt (pc := 7) (tgt := 18) hX dJ10_getChar_7 (by decide) (fun g2 => ?_) (fun g2 => ?_)
    · replace h := gz_it' g2 h
      exact nomatch h
    · replace h := gz_if' g2 h
      refine gz_iload_n (pc := 10) hX dJ10_getChar_10 rfl 1 rfl ?_
      refine gz_aload_n (pc := 11) hX dJ10_getChar_11 rfl 0 rfl ?_
      obtain ⟨⟨r3, m4⟩, c5, h⟩ := gz_bd h
      refine cc_J10_48 (pc := 12) hX c5 ⟨Nat.le_of_ble_eq_true rfl, Nat.le_of_ble_eq_true rfl⟩ (rest := [.int x1]) rfl (Nat.le_of_ble_eq_true rfl) dJ10_getChar_12 ?_
      refine gz_icmp_lt (pc := 15) (tgt := 28) hX dJ10_getChar_15 (by decide) (fun g6 => ?_) (fun g6 => ?_)
      · replace h := gz_it' g6 h
        exact wb_J10_getChar_28 hX h hk
      · replace h := gz_if' g6 h
        exact nomatch h
theorem ct_J10_getChar {G : gz_G} {l : Launch} {c0 : Nat} {x1 : Int32}  {m m9 : gM} {r : Int32} (h : cf_J10_getChar c0 x1 m = some (r, m9)) : gz_Met cS G l yJ10_getChar cJ10_getChar 2 (some .char) (mRm 1 20) [.ref (gz_ad G c0), .int x1] m m9 (some (.int r)) :=
  gz_ofN (by decide +kernel) (Nat.le_of_ble_eq_true rfl) fun X _ hX hk => wm_J10_getChar hX h hk
/-! java/lang/StringUTF16.coderFromArrayLen([BI)B -/
noncomputable def cf_J10_coderFromArrayLen (c0 : Nat) (x1 : Int32) (m : gM) : Option (Int32 × gM) :=
  (if gK m c0 = 102 then (if ((((x1 - (nI (gN m c0))).toUInt32 >>> ((31 : Int32).toUInt32 &&& Int32.toUInt32 31)).toInt32).toInt8.toInt32).toInt8.toInt32 = ((((x1 - (nI (gN m c0))).toUInt32 >>> ((31 : Int32).toUInt32 &&& Int32.toUInt32 31)).toInt32).toInt8.toInt32) then some (((((x1 - (nI (gN m c0))).toUInt32 >>> ((31 : Int32).toUInt32 &&& Int32.toUInt32 31)).toInt32).toInt8.toInt32), m) else none) else none)
theorem wm_J10_coderFromArrayLen {X : gz_X} {G : gz_G} (hX : gz_C cS X G cJ10_coderFromArrayLen 2 RJ10 0 0) {c0 : Nat} {x1 : Int32}  {m : gM} {z : (Int32 × gM)} (h : cf_J10_coderFromArrayLen c0 x1 m = some z) (hk : (fun z : (Int32 × gM) => gz_kN cS X G 2 (0, 0) cJ10_coderFromArrayLen .byte z.2 z.1) z) : gz_V cS X G 2 (0, 0) m 0 [(0, .ref (gz_ad G c0)), (1, .int x1)] [] := by
  unfold cf_J10_coderFromArrayLen at h
  refine gz_iload_n (pc := 0) hX dJ10_coderFromArrayLen_0 rfl 1 rfl ?_
  refine gz_aload_n (pc := 1) hX dJ10_coderFromArrayLen_1 rfl 0 rfl ?_
  obtain ⟨g1, h⟩ := gz_gu h
  refine gz_alen2 (pc := 2) (c := c0) (t := 1) (n := gN m c0) hX rfl (fun _ => ⟨g1, rfl⟩) dJ10_coderFromArrayLen_2 ?_
  refine gz_isub (pc := 3) hX dJ10_coderFromArrayLen_3 ?_
  refine gz_bipush (pc := 4) (v := (31 : Int32)) hX dJ10_coderFromArrayLen_4 (by decide) ?_
  refine gz_iushr (pc := 6) hX dJ10_coderFromArrayLen_6 ?_
  refine gz_i2b (pc := 7) hX dJ10_coderFromArrayLen_7 ?_
  obtain ⟨g2, h⟩ := gz_gu h
  obtain rfl := Option.some.inj h
  exact hk _ _ dJ10_coderFromArrayLen_8 (congrArg Value.int g2)
theorem ct_J10_coderFromArrayLen {G : gz_G} {l : Launch} {c0 : Nat} {x1 : Int32}  {m m9 : gM} {r : Int32} (h : cf_J10_coderFromArrayLen c0 x1 m = some (r, m9)) : gz_Met cS G l yJ10_coderFromArrayLen cJ10_coderFromArrayLen 2 (some .byte) (mRm 0 0) [.ref (gz_ad G c0), .int x1] m m9 (some (.int r)) :=
  gz_ofN (by decide +kernel) (Nat.le_of_ble_eq_true rfl) fun X _ hX hk => wm_J10_coderFromArrayLen hX h hk
/-! FirstSnuffer$All.holds(LFirstSnuffer$Moment;)Z -/
noncomputable def cf_X20_holds (c0 : Nat) (c1 : Nat) (m : gM) : Option (Int32 × gM) :=
  some ((1 : Int32), m)
theorem wm_X20_holds {X : gz_X} {G : gz_G} (hX : gz_C cS X G cX20_holds 2 RX20 0 0) {c0 : Nat} {c1 : Nat}  {m : gM} {z : (Int32 × gM)} (h : cf_X20_holds c0 c1 m = some z) (hk : (fun z : (Int32 × gM) => gz_kZ cS X G 2 (0, 0) cX20_holds z.2 z.1) z) : gz_V cS X G 2 (0, 0) m 0 [(0, .ref (gz_ad G c0)), (1, .ref (gz_ad G c1))] [] := by
  unfold cf_X20_holds at h
  refine gz_iconst (pc := 0) (v := (1 : Int32)) hX dX20_holds_0 (by decide) ?_
  obtain rfl := Option.some.inj h
  exact hk _ _ dX20_holds_1 (Or.inr rfl)
theorem ct_X20_holds {G : gz_G} {l : Launch} {c0 : Nat} {c1 : Nat}  {m m9 : gM} {r : Int32} (h : cf_X20_holds c0 c1 m = some (r, m9)) : gz_Met cS G l yX20_holds cX20_holds 2 (some .boolean) (mRm 0 0) [.ref (gz_ad G c0), .ref (gz_ad G c1)] m m9 (some (.int r)) :=
  gz_ofZ (by decide +kernel) (Nat.le_of_ble_eq_true rfl) fun X _ hX hk => wm_X20_holds hX h hk
theorem cp_J3_7_3 {X : gz_X} {G : gz_G} {cc : ByteArray} {nL fr lo pc : Nat} {rem : Nat × Nat} {m m9 : gM} {lv : List (Nat × Value)} {st : List Value} (hX : gz_C cS X G cc nL RJ3 fr lo) {c : Nat} {r : Nat} (hK : clc m.1 m.2.1 m.2.2.2.2.1 → m.1 c = 3 + 1) (hw : 1000 ≤ c) (hs : sr c 0 = 0 ∧ r ≠ 0) (hd : decode cc pc = .ok (.putfield 7, 3)) (hm : m9 = gz_sP m c 0 r) (kk : gz_V cS X G nL rem m9 (pc + 3) lv st) : gz_V cS X G nL rem m pc lv (.ref (gz_ad G r) :: .ref (gz_ad G c) :: st) := by
  subst hm
  exact gz_putf hX (C := RX3) (T := TX3) (N := 8) (ci := 3) (k := 0) (μ' := gz_sP m c 0 r) (v := .ref (gz_ad G r)) rfl (by decide) in_X3 tyX3 tyX3_ok nmX3 (by decide) (Or.inl (hX.2.2.2.2.1 _ q354)) rfl rfl rfl rfl hd hK hw rfl rfl rfl (fun d tc j h => gz_sP_o d tc j h) (by intro j; rw [← gz_rfp hs.2]; exact gz_sP_v (fun j => ftC 3 j) rfl j) (clc_sP hs.1) kk
/-! java/lang/Throwable.<init>()V -/
noncomputable def cf_J3_init (c0 : Nat) (m : gM) : Option (Unit × gM) :=
  (if gK m c0 = 4 then (if 1000 ≤ c0 then (if sr c0 0 = 0 ∧ c0 ≠ 0 then gz_let (gz_sP m c0 0 c0) fun m4 => none else none) else none) else none)
theorem wm_J3_init {X : gz_X} {G : gz_G} (hX : gz_C cS X G cJ3_init 1 RJ3 1 20) (hn0 : X.2.2.2.2.2.2.2.2.1.name = "<init>") {c0 : Nat}  {m : gM} {z : (Unit × gM)} (h : cf_J3_init c0 m = some z) (hk : (fun z : (Unit × gM) => gz_kV cS X G 1 (0, 0) cJ3_init z.2) z) : gz_V cS X G 1 (0, 0) m 0 [(0, .ref (gz_ad G c0))] [] := by
  unfold cf_J3_init at h
  refine gz_aload_n (pc := 0) hX dJ3_init_0 rfl 0 rfl ?_
  refine gz_objI (pc := 1) hX q322 q214 q215 ⟨Nat.le_of_ble_eq_true rfl, Nat.le_of_ble_eq_true rfl⟩ (Nat.le_of_ble_eq_true rfl) dJ3_init_1 ?_
  refine gz_aload_n (pc := 4) hX dJ3_init_4 rfl 0 rfl ?_
  refine gz_aload_n (pc := 5) hX dJ3_init_5 rfl 0 rfl ?_
  obtain ⟨g1, h⟩ := gz_gu h
  obtain ⟨g2, h⟩ := gz_gu h
  obtain ⟨g3, h⟩ := gz_gu h
  obtain ⟨m4, em4, h⟩ := gz_lt h
  refine cp_J3_7_3 (pc := 6) hX (c := c0) (fun _ => g1) g2 g3 dJ3_init_6 em4 ?_
  refine gz_aload_n (pc := 9) hX dJ3_init_9 rfl 0 rfl ?_
  exact nomatch h
theorem ct_J3_init {G : gz_G} {l : Launch} {c0 : Nat}  {m m9 : gM} (h : cf_J3_init c0 m = some ((), m9)) : gz_Met cS G l yJ3_init cJ3_init 1 none (mRm 1 20) [.ref (gz_ad G c0)] m m9 none :=
  gz_ofVc (by decide +kernel) (Nat.le_of_ble_eq_true rfl) fun X _ hn hX hk => wm_J3_init hX hn h hk
/-! java/lang/Throwable.<init>(Ljava/lang/String;Ljava/lang/Throwable;ZZ)V -/
noncomputable def cf_J3_init_2 (c0 : Nat) (x3 : Int32) (x4 : Int32) (m : gM) : Option (Unit × gM) :=
  (if gK m c0 = 4 then (if 1000 ≤ c0 then (if sr c0 0 = 0 ∧ c0 ≠ 0 then gz_let (gz_sP m c0 0 c0) fun m4 => none else none) else none) else none)
theorem wm_J3_init_2 {X : gz_X} {G : gz_G} (hX : gz_C cS X G cJ3_init_2 5 RJ3 1 20) (hn0 : X.2.2.2.2.2.2.2.2.1.name = "<init>") {c0 : Nat} {x3 : Int32} {x4 : Int32}  {m : gM} {z : (Unit × gM)} (h : cf_J3_init_2 c0 x3 x4 m = some z) (hk : (fun z : (Unit × gM) => gz_kV cS X G 5 (0, 0) cJ3_init_2 z.2) z) : gz_V cS X G 5 (0, 0) m 0 [(0, .ref (gz_ad G c0)), (1, .null), (2, .null), (3, .int x3), (4, .int x4)] [] := by
  unfold cf_J3_init_2 at h
  refine gz_aload_n (pc := 0) hX dJ3_init_2_0 rfl 0 rfl ?_
  refine gz_objI (pc := 1) hX q322 q214 q215 ⟨Nat.le_of_ble_eq_true rfl, Nat.le_of_ble_eq_true rfl⟩ (Nat.le_of_ble_eq_true rfl) dJ3_init_2_1 ?_
  refine gz_aload_n (pc := 4) hX dJ3_init_2_4 rfl 0 rfl ?_
  refine gz_aload_n (pc := 5) hX dJ3_init_2_5 rfl 0 rfl ?_
  obtain ⟨g1, h⟩ := gz_gu h
  obtain ⟨g2, h⟩ := gz_gu h
  obtain ⟨g3, h⟩ := gz_gu h
  obtain ⟨m4, em4, h⟩ := gz_lt h
  refine cp_J3_7_3 (pc := 6) hX (c := c0) (fun _ => g1) g2 g3 dJ3_init_2_6 em4 ?_
  refine gz_aload_n (pc := 9) hX dJ3_init_2_9 rfl 0 rfl ?_
  exact nomatch h
theorem ct_J3_init_2 {G : gz_G} {l : Launch} {c0 : Nat} {x3 : Int32} {x4 : Int32}  {m m9 : gM} (h : cf_J3_init_2 c0 x3 x4 m = some ((), m9)) : gz_Met cS G l yJ3_init_2 cJ3_init_2 5 none (mRm 1 20) [.ref (gz_ad G c0), .null, .null, .int x3, .int x4] m m9 none :=
  gz_ofVc (by decide +kernel) (Nat.le_of_ble_eq_true rfl) fun X _ hn hX hk => wm_J3_init_2 hX hn h hk
theorem cp_X10_7_9 {X : gz_X} {G : gz_G} {cc : ByteArray} {nL fr lo pc : Nat} {rem : Nat × Nat} {m m9 : gM} {lv : List (Nat × Value)} {st : List Value} (hX : gz_C cS X G cc nL RX10 fr lo) (hn0 : X.2.2.2.2.2.2.2.2.1.name = "<init>") {c : Nat} {x : Int32} (hK : clc m.1 m.2.1 m.2.2.2.2.1 → m.1 c = 9 + 1) (hw : 1000 ≤ c) (hd : decode cc pc = .ok (.putfield 7, 3)) (hm : m9 = gz_sI m c 0 x) (kk : gz_V cS X G nL rem m9 (pc + 3) lv st) : gz_V cS X G nL rem m pc lv (.int x :: .ref (gz_ad G c) :: st) := by
  subst hm
  exact gz_putff hX (C := RX10) (T := TX10) (N := 2) (ci := 9) (k := 0) (ty := .int) (μ' := gz_sI m c 0 x) rfl (by decide) in_X10 tyX10 tyX10_ok nmX10 (by decide) (hX.2.2.2.2.1 _ q1011) (fun _ h => h) rfl hn0 rfl rfl rfl rfl hd hK hw rfl rfl rfl (fun d tc j h => gz_sI_o d tc j h) (gz_sI_v (fun j => ftC 9 j) rfl) (fun h => h) kk
theorem cp_X10_13_9 {X : gz_X} {G : gz_G} {cc : ByteArray} {nL fr lo pc : Nat} {rem : Nat × Nat} {m m9 : gM} {lv : List (Nat × Value)} {st : List Value} (hX : gz_C cS X G cc nL RX10 fr lo) (hn0 : X.2.2.2.2.2.2.2.2.1.name = "<init>") {c : Nat} {x : Int32} (hK : clc m.1 m.2.1 m.2.2.2.2.1 → m.1 c = 9 + 1) (hw : 1000 ≤ c) (hd : decode cc pc = .ok (.putfield 13, 3)) (hm : m9 = gz_sI m c 1 x) (kk : gz_V cS X G nL rem m9 (pc + 3) lv st) : gz_V cS X G nL rem m pc lv (.int x :: .ref (gz_ad G c) :: st) := by
  subst hm
  exact gz_putff hX (C := RX10) (T := TX10) (N := 2) (ci := 9) (k := 1) (ty := .int) (μ' := gz_sI m c 1 x) rfl (by decide) in_X10 tyX10 tyX10_ok nmX10 (by decide) (hX.2.2.2.2.1 _ q1015) (fun _ h => h) rfl hn0 rfl rfl rfl rfl hd hK hw rfl rfl rfl (fun d tc j h => gz_sI_o d tc j h) (gz_sI_v (fun j => ftC 9 j) rfl) (fun h => h) kk
/-! FirstSnuffer$Tie.<init>(II)V -/
noncomputable def cf_X10_init (c0 : Nat) (x1 : Int32) (x2 : Int32) (m : gM) : Option (Unit × gM) :=
  (if gK m c0 = 10 then (if 1000 ≤ c0 then gz_let (gz_sI m c0 0 x1) fun m3 => (if gK m3 c0 = 10 then (if 1000 ≤ c0 then gz_let (gz_sI m3 c0 1 x2) fun m6 => some ((), m6) else none) else none) else none) else none)
theorem wm_X10_init {X : gz_X} {G : gz_G} (hX : gz_C cS X G cX10_init 3 RX10 1 20) (hn0 : X.2.2.2.2.2.2.2.2.1.name = "<init>") {c0 : Nat} {x1 : Int32} {x2 : Int32}  {m : gM} {z : (Unit × gM)} (h : cf_X10_init c0 x1 x2 m = some z) (hk : (fun z : (Unit × gM) => gz_kV cS X G 3 (0, 0) cX10_init z.2) z) : gz_V cS X G 3 (0, 0) m 0 [(0, .ref (gz_ad G c0)), (1, .int x1), (2, .int x2)] [] := by
  unfold cf_X10_init at h
  refine gz_aload_n (pc := 0) hX dX10_init_0 rfl 0 rfl ?_
  refine gz_objI (pc := 1) hX q1010 q214 q215 ⟨Nat.le_of_ble_eq_true rfl, Nat.le_of_ble_eq_true rfl⟩ (Nat.le_of_ble_eq_true rfl) dX10_init_1 ?_
  refine gz_aload_n (pc := 4) hX dX10_init_4 rfl 0 rfl ?_
  refine gz_iload_n (pc := 5) hX dX10_init_5 rfl 1 rfl ?_
  obtain ⟨g1, h⟩ := gz_gu h
  obtain ⟨g2, h⟩ := gz_gu h
  obtain ⟨m3, em3, h⟩ := gz_lt h
  refine cp_X10_7_9 (pc := 6) hX hn0 (c := c0) (fun _ => g1) g2 dX10_init_6 em3 ?_
  refine gz_aload_n (pc := 9) hX dX10_init_9 rfl 0 rfl ?_
  refine gz_iload_n (pc := 10) hX dX10_init_10 rfl 2 rfl ?_
  obtain ⟨g4, h⟩ := gz_gu h
  obtain ⟨g5, h⟩ := gz_gu h
  obtain ⟨m6, em6, h⟩ := gz_lt h
  refine cp_X10_13_9 (pc := 11) hX hn0 (c := c0) (fun _ => g4) g5 dX10_init_11 em6 ?_
  obtain rfl := Option.some.inj h
  exact hk _ _ dX10_init_14
theorem ct_X10_init {G : gz_G} {l : Launch} {c0 : Nat} {x1 : Int32} {x2 : Int32}  {m m9 : gM} (h : cf_X10_init c0 x1 x2 m = some ((), m9)) : gz_Met cS G l yX10_init cX10_init 3 none (mRm 1 20) [.ref (gz_ad G c0), .int x1, .int x2] m m9 none :=
  gz_ofVc (by decide +kernel) (Nat.le_of_ble_eq_true rfl) fun X _ hn hX hk => wm_X10_init hX hn h hk
/-! FirstSnuffer$Test.<init>()V -/
noncomputable def cf_X17_init (c0 : Nat) (m : gM) : Option (Unit × gM) :=
  some ((), m)
theorem wm_X17_init {X : gz_X} {G : gz_G} (hX : gz_C cS X G cX17_init 1 RX17 1 20) (hn0 : X.2.2.2.2.2.2.2.2.1.name = "<init>") {c0 : Nat}  {m : gM} {z : (Unit × gM)} (h : cf_X17_init c0 m = some z) (hk : (fun z : (Unit × gM) => gz_kV cS X G 1 (0, 0) cX17_init z.2) z) : gz_V cS X G 1 (0, 0) m 0 [(0, .ref (gz_ad G c0))] [] := by
  unfold cf_X17_init at h
  refine gz_aload_n (pc := 0) hX dX17_init_0 rfl 0 rfl ?_
  refine gz_objI (pc := 1) hX q1237 q214 q215 ⟨Nat.le_of_ble_eq_true rfl, Nat.le_of_ble_eq_true rfl⟩ (Nat.le_of_ble_eq_true rfl) dX17_init_1 ?_
  obtain rfl := Option.some.inj h
  exact hk _ _ dX17_init_4
theorem ct_X17_init {G : gz_G} {l : Launch} {c0 : Nat}  {m m9 : gM} (h : cf_X17_init c0 m = some ((), m9)) : gz_Met cS G l yX17_init cX17_init 1 none (mRm 1 20) [.ref (gz_ad G c0)] m m9 none :=
  gz_ofVc (by decide +kernel) (Nat.le_of_ble_eq_true rfl) fun X _ hn hX hk => wm_X17_init hX hn h hk
/-! FirstSnuffer$Value.<init>()V -/
noncomputable def cf_X11_init (c0 : Nat) (m : gM) : Option (Unit × gM) :=
  some ((), m)
theorem wm_X11_init {X : gz_X} {G : gz_G} (hX : gz_C cS X G cX11_init 1 RX11 1 20) (hn0 : X.2.2.2.2.2.2.2.2.1.name = "<init>") {c0 : Nat}  {m : gM} {z : (Unit × gM)} (h : cf_X11_init c0 m = some z) (hk : (fun z : (Unit × gM) => gz_kV cS X G 1 (0, 0) cX11_init z.2) z) : gz_V cS X G 1 (0, 0) m 0 [(0, .ref (gz_ad G c0))] [] := by
  unfold cf_X11_init at h
  refine gz_aload_n (pc := 0) hX dX11_init_0 rfl 0 rfl ?_
  refine gz_objI (pc := 1) hX q1042 q214 q215 ⟨Nat.le_of_ble_eq_true rfl, Nat.le_of_ble_eq_true rfl⟩ (Nat.le_of_ble_eq_true rfl) dX11_init_1 ?_
  obtain rfl := Option.some.inj h
  exact hk _ _ dX11_init_4
theorem ct_X11_init {G : gz_G} {l : Launch} {c0 : Nat}  {m m9 : gM} (h : cf_X11_init c0 m = some ((), m9)) : gz_Met cS G l yX11_init cX11_init 1 none (mRm 1 20) [.ref (gz_ad G c0)] m m9 none :=
  gz_ofVc (by decide +kernel) (Nat.le_of_ble_eq_true rfl) fun X _ hn hX hk => wm_X11_init hX hn h hk
