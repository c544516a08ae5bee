set_option maxRecDepth 100000
/-! FirstSnuffer.remembers()V -/
noncomputable def mj_X0_remembers_62  (m : gM) : Option (Unit × gM) :=
  (if gz_in (gI m 1000 23) (20) then gz_let (gP m 1447 (gz_ix (gI m 1000 23))) fun r2 => (if r2 ≠ 0 ∧ cSt r2 = true then ((cf_X5_copy r2 1027 m).bind fun (r4, m5) => (if cSt r4 = true then gz_let (gz_sI m5 1000 23 ((gI m5 1000 23) + (1 : Int32))) fun m8 => some ((), m8) else none)) else none) else none)
theorem wb_X0_remembers_62 {X : gz_X} {G : gz_G} (hX : gz_C cS X G cX0_remembers 3 RX0 1 23)   {m : gM} {z : (Unit × gM)} (h : mj_X0_remembers_62  m = some z) (hk : (fun z : (Unit × gM) => gz_kV cS X G 3 (0, 0) cX0_remembers z.2) z) : gz_V cS X G 3 (0, 0) m 62 [(0, .ref (gz_ad G 1000))] [] := by
  unfold mj_X0_remembers_62 at h
  refine gz_aload_n (pc := 62) hX dX0_remembers_62 rfl 0 rfl ?_
  refine cg_X0_111_0 (pc := 63) hX (c := 1000) (v := .ref (gz_ad G 1447)) (fun h => cz_k h rfl) (fun h => cz_f h (by decide) rfl (by decide) rfl) dX0_remembers_63 ?_
  refine gz_aload_n (pc := 66) hX dX0_remembers_66 rfl 0 rfl ?_
  refine cg_X0_155_0 (pc := 67) hX (c := 1000) (v := .int (gI m 1000 23)) (fun h => cz_k h rfl) (fun _ => rfl) dX0_remembers_67 ?_
  obtain ⟨g1, h⟩ := gz_gu h
  obtain ⟨r2, er2, h⟩ := gz_lt h
  obtain ⟨g3, h⟩ := gz_gu h
  refine gz_aald (pc := 70) (c := 1447) (t := 9) (n := 20) hX rfl rfl rfl (v := .ref (gz_ad G r2)) (fun h => cz_a h rfl (by decide) rfl) g1 (fun _ => gz_rq er2 g3.1) dX0_remembers_70 ?_
  refine gz_aload_n (pc := 71) hX dX0_remembers_71 rfl 0 rfl ?_
  refine cg_X0_74_0 (pc := 72) hX (c := 1000) (v := .ref (gz_ad G 1027)) (fun h => cz_k h rfl) (fun h => cz_f h (by decide) rfl (by decide) rfl) dX0_remembers_72 ?_
  obtain ⟨⟨r4, m5⟩, c6, h⟩ := gz_bd h
  obtain ⟨g7, h⟩ := gz_gu h
  refine cc_X0_294 (pc := 75) hX (fun h => cz_k h (st_k g3.2)) g3.2 (by decide) c6 ⟨Nat.le_of_ble_eq_true rfl, Nat.le_of_ble_eq_true rfl⟩ (rest := []) rfl (Nat.le_of_ble_eq_true rfl) dX0_remembers_75 ?_
  refine gz_pop (pc := 78) hX dX0_remembers_78 rfl ?_
  refine gz_aload_n (pc := 79) hX dX0_remembers_79 rfl 0 rfl ?_
  refine gz_dup (pc := 80) hX dX0_remembers_80 rfl ?_
  refine cg_X0_155_0 (pc := 81) hX (c := 1000) (v := .int (gI m5 1000 23)) (fun h => cz_k h rfl) (fun _ => rfl) dX0_remembers_81 ?_
  refine gz_iconst (pc := 84) (v := (1 : Int32)) hX dX0_remembers_84 (by decide) ?_
  refine gz_iadd (pc := 85) hX dX0_remembers_85 ?_
  obtain ⟨m8, em8, h⟩ := gz_lt h
  refine cp_X0_155_0 (pc := 86) hX (c := 1000) (fun h => cz_k h rfl) (Nat.le_of_ble_eq_true rfl) dX0_remembers_86 em8 ?_
  obtain rfl := Option.some.inj h
  exact hk _ _ dX0_remembers_89
def mP_X0_remembers_18 (X : gz_X) (G : gz_G) (c1 : Nat) (q : (Int32 × gM)) : Prop := gz_V cS X G 3 (0, 0) q.2 18 [(0, .ref (gz_ad G 1000)), (1, .ref (gz_ad G c1)), (2, .int q.1)] []
noncomputable def mb_X0_remembers_18 (c1 : Nat) (x2 : Int32) (m : gM) : Option ((Int32 × gM) ⊕ (Unit × gM)) :=
  (if (20 : Int32) ≤ x2 then (if gz_in (19 : Int32) (20) then (if c1 ≠ 0 then gz_let (gz_sP m 1447 (gz_ix (19 : Int32)) c1) fun m4 => gz_let (gz_sI m4 1000 23 ((gI m4 1000 23) - (1 : Int32))) fun m5 => (Option.map Sum.inr (mj_X0_remembers_62  m5)) else none) else none) else (if gz_in x2 (20) then gz_let (gP m 1447 (gz_ix x2)) fun r7 => (if r7 ≠ 0 ∧ cSt r7 = true then (if gz_in (x2 - (1 : Int32)) (20) then (if r7 ≠ 0 then gz_let (gz_sP m 1447 (gz_ix (x2 - (1 : Int32))) r7) fun m11 => gz_let (x2 + (1 : Int32)) fun y12 => some (Sum.inl (y12, m11)) else none) else none) else none) else none))
theorem wb_X0_remembers_18 {X : gz_X} {G : gz_G} (hX : gz_C cS X G cX0_remembers 3 RX0 1 23) {c1 : Nat} {x2 : Int32} (hs_c1 : cSt c1 = true) {m : gM} {z : ((Int32 × gM) ⊕ (Unit × gM))} (h : mb_X0_remembers_18 c1 x2 m = some z) (hk : (Sum.elim (mP_X0_remembers_18 X G c1) (fun z : (Unit × gM) => gz_kV cS X G 3 (0, 0) cX0_remembers z.2)) z) : gz_V cS X G 3 (0, 0) m 18 [(0, .ref (gz_ad G 1000)), (1, .ref (gz_ad G c1)), (2, .int x2)] [] := by
  unfold mb_X0_remembers_18 at h
  refine gz_iload_n (pc := 18) hX dX0_remembers_18 rfl 2 rfl ?_
  refine gz_bipush (pc := 19) (v := (20 : Int32)) hX dX0_remembers_19 (by decide) ?_
  refine gz_icmp_ge (pc := 21) (tgt := 44) hX dX0_remembers_21 (by decide) (fun g1 => ?_) (fun g1 => ?_)
  · replace h := gz_it' g1 h
    refine gz_aload_n (pc := 44) hX dX0_remembers_44 rfl 0 rfl ?_
    refine cg_X0_111_0 (pc := 45) hX (c := 1000) (v := .ref (gz_ad G 1447)) (fun h => cz_k h rfl) (fun h => cz_f h (by decide) rfl (by decide) rfl) dX0_remembers_45 ?_
    refine gz_bipush (pc := 48) (v := (19 : Int32)) hX dX0_remembers_48 (by decide) ?_
    refine gz_aload_n (pc := 50) hX dX0_remembers_50 rfl 1 rfl ?_
    obtain ⟨g2, h⟩ := gz_gu h
    obtain ⟨g3, h⟩ := gz_gu h
    obtain ⟨m4, em4, h⟩ := gz_lt h
    refine gz_aast (pc := 51) (c := 1447) (t := 9) (n := 20) (r := c1) hX rfl rfl rfl (fun h => cz_a h rfl (by decide) rfl) (Nat.le_of_ble_eq_true rfl) g2 g3 (cr_st hX hs_c1) (fun h => clc_sP (sr_kept _) h) dX0_remembers_51 em4 ?_
    refine gz_aload_n (pc := 52) hX dX0_remembers_52 rfl 0 rfl ?_
    refine gz_dup (pc := 53) hX dX0_remembers_53 rfl ?_
    refine cg_X0_155_0 (pc := 54) hX (c := 1000) (v := .int (gI m4 1000 23)) (fun h => cz_k h rfl) (fun _ => rfl) dX0_remembers_54 ?_
    refine gz_iconst (pc := 57) (v := (1 : Int32)) hX dX0_remembers_57 (by decide) ?_
    refine gz_isub (pc := 58) hX dX0_remembers_58 ?_
    obtain ⟨m5, em5, h⟩ := gz_lt h
    refine cp_X0_155_0 (pc := 59) hX (c := 1000) (fun h => cz_k h rfl) (Nat.le_of_ble_eq_true rfl) dX0_remembers_59 em5 ?_
    refine gz_sub (lw := [(0, .ref (gz_ad G 1000))]) [0] rfl ?_
    obtain ⟨z0, hm0, rfl⟩ := gz_mp h
    exact wb_X0_remembers_62 hX hm0 hk
  · replace h := gz_if' g1 h
    refine gz_aload_n (pc := 24) hX dX0_remembers_24 rfl 0 rfl ?_
    refine cg_X0_111_0 (pc := 25) hX (c := 1000) (v := .ref (gz_ad G 1447)) (fun h => cz_k h rfl) (fun h => cz_f h (by decide) rfl (by decide) rfl) dX0_remembers_25 ?_
    refine gz_iload_n (pc := 28) hX dX0_remembers_28 rfl 2 rfl ?_
    refine gz_iconst (pc := 29) (v := (1 : Int32)) hX dX0_remembers_29 (by decide) ?_
    refine gz_isub (pc := 30) hX dX0_remembers_30 ?_
    refine gz_aload_n (pc := 31) hX dX0_remembers_31 rfl 0 rfl ?_
    refine cg_X0_111_0 (pc := 32) hX (c := 1000) (v := .ref (gz_ad G 1447)) (fun h => cz_k h rfl) (fun h => cz_f h (by decide) rfl (by decide) rfl) dX0_remembers_32 ?_
    refine gz_iload_n (pc := 35) hX dX0_remembers_35 rfl 2 rfl ?_
    obtain ⟨g6, h⟩ := gz_gu h
    obtain ⟨r7, er7, h⟩ := gz_lt h
    obtain ⟨g8, h⟩ := gz_gu h
    refine gz_aald (pc := 36) (c := 1447) (t := 9) (n := 20) hX rfl rfl rfl (v := .ref (gz_ad G r7)) (fun h => cz_a h rfl (by decide) rfl) g6 (fun _ => gz_rq er7 g8.1) dX0_remembers_36 ?_
    obtain ⟨g9, h⟩ := gz_gu h
    obtain ⟨g10, h⟩ := gz_gu h
    obtain ⟨m11, em11, h⟩ := gz_lt h
    refine gz_aast (pc := 37) (c := 1447) (t := 9) (n := 20) (r := r7) hX rfl rfl rfl (fun h => cz_a h rfl (by decide) rfl) (Nat.le_of_ble_eq_true rfl) g9 g10 (cr_st hX g8.2) (fun h => clc_sP (sr_kept _) h) dX0_remembers_37 em11 ?_
    obtain ⟨y12, ey12, h⟩ := gz_lt h
    refine gz_iinc (pc := 38) (v := y12) (lw := [(2, .int y12), (0, .ref (gz_ad G 1000)), (1, .ref (gz_ad G c1))]) hX dX0_remembers_38 (k := 2) rfl (by rw [ey12]; rfl) (by decide) rfl ?_
    refine gz_goto (pc := 41) (tgt := 18) hX dX0_remembers_41 (by decide) ?_
    refine gz_sub (lw := [(0, .ref (gz_ad G 1000)), (1, .ref (gz_ad G c1)), (2, .int y12)]) [1, 2, 0] rfl ?_
    obtain rfl := Option.some.inj h
    exact hk
noncomputable def ml_X0_remembers_18 (c1 : Nat) (x2 : Int32) (m : gM) : Option (Unit × gM) := gz_loop (fun q : (Int32 × gM) => mb_X0_remembers_18 c1 q.1 q.2) (x2, m)
theorem wl_X0_remembers_18 {X : gz_X} {G : gz_G} (hX : gz_C cS X G cX0_remembers 3 RX0 1 23) {c1 : Nat} {x2 : Int32} (hs_c1 : cSt c1 = true) {m : gM} {z : (Unit × gM)} (h : ml_X0_remembers_18 c1 x2 m = some z) (hk : (fun z : (Unit × gM) => gz_kV cS X G 3 (0, 0) cX0_remembers z.2) z) : gz_V cS X G 3 (0, 0) m 18 [(0, .ref (gz_ad G 1000)), (1, .ref (gz_ad G c1)), (2, .int x2)] [] := by
  have hp : mP_X0_remembers_18 X G c1 (x2, m) := gz_loop_ind (fun q z hz hkz => wb_X0_remembers_18 hX hs_c1 hz hkz) h hk
  exact hp
noncomputable def cf_X0_remembers  (m : gM) : Option (Unit × gM) :=
  (if (gI m 1000 23) = (20 : Int32) then (if gz_in (0 : Int32) (20) then gz_let (gP m 1447 (gz_ix (0 : Int32))) fun r3 => (if r3 ≠ 0 ∧ cSt r3 = true then (ml_X0_remembers_18 r3 (1 : Int32) m) else none) else none) else (mj_X0_remembers_62  m))
theorem wm_X0_remembers {X : gz_X} {G : gz_G} (hX : gz_C cS X G cX0_remembers 3 RX0 1 23)   {m : gM} {z : (Unit × gM)} (h : cf_X0_remembers  m = some z) (hk : (fun z : (Unit × gM) => gz_kV cS X G 3 (0, 0) cX0_remembers z.2) z) : gz_V cS X G 3 (0, 0) m 0 [(0, .ref (gz_ad G 1000))] [] := by
  unfold cf_X0_remembers at h
  refine gz_aload_n (pc := 0) hX dX0_remembers_0 rfl 0 rfl ?_
  refine cg_X0_155_0 (pc := 1) hX (c := 1000) (v := .int (gI m 1000 23)) (fun h => cz_k h rfl) (fun _ => rfl) dX0_remembers_1 ?_
  refine gz_bipush (pc := 4) (v := (20 : Int32)) hX dX0_remembers_4 (by decide) ?_
  refine gz_icmp_ne (pc := 6) (tgt := 62) hX dX0_remembers_6 (by decide) (fun g1 => ?_) (fun g1 => ?_)
  · replace h := gz_if' g1 h
    exact wb_X0_remembers_62 hX h hk
  · replace h := gz_it' g1 h
    refine gz_aload_n (pc := 9) hX dX0_remembers_9 rfl 0 rfl ?_
    refine cg_X0_111_0 (pc := 10) hX (c := 1000) (v := .ref (gz_ad G 1447)) (fun h => cz_k h rfl) (fun h => cz_f h (by decide) rfl (by decide) rfl) dX0_remembers_10 ?_
    refine gz_iconst (pc := 13) (v := (0 : Int32)) hX dX0_remembers_13 (by decide) ?_
    obtain ⟨g2, h⟩ := gz_gu h
    obtain ⟨r3, er3, h⟩ := gz_lt h
    obtain ⟨g4, h⟩ := gz_gu h
    refine gz_aald (pc := 14) (c := 1447) (t := 9) (n := 20) hX rfl rfl rfl (v := .ref (gz_ad G r3)) (fun h => cz_a h rfl (by decide) rfl) g2 (fun _ => gz_rq er3 g4.1) dX0_remembers_14 ?_
    refine gz_astore_n (pc := 15) (lw := [(1, .ref (gz_ad G r3)), (0, .ref (gz_ad G 1000))]) hX dX0_remembers_15 rfl (by decide) rfl ?_
    refine gz_iconst (pc := 16) (v := (1 : Int32)) hX dX0_remembers_16 (by decide) ?_
    refine gz_istore_n (pc := 17) (lw := [(2, .int (1 : Int32)), (1, .ref (gz_ad G r3)), (0, .ref (gz_ad G 1000))]) hX dX0_remembers_17 rfl (by decide) rfl ?_
    refine gz_sub (lw := [(0, .ref (gz_ad G 1000)), (1, .ref (gz_ad G r3)), (2, .int (1 : Int32))]) [2, 1, 0] rfl ?_
    exact wl_X0_remembers_18 hX g4.2 h hk
theorem ct_X0_remembers {G : gz_G} {l : Launch}   {m m9 : gM} (h : cf_X0_remembers  m = some ((), m9)) : gz_Met cS G l yX0_remembers cX0_remembers 3 none (mRm 1 23) [.ref (gz_ad G 1000)] m m9 none :=
  gz_ofV (by decide +kernel) (Nat.le_of_ble_eq_true rfl) fun X _ hX hk => wm_X0_remembers hX h hk
theorem cg_X0_115_0 {X : gz_X} {G : gz_G} {cc : ByteArray} {nL fr lo pc : Nat} {rem : Nat × Nat} {m : gM} {lv : List (Nat × Value)} {st : List Value} (hX : gz_C cS X G cc nL RX0 fr lo) {c : Nat} {v : Value} (hK : clc m.1 m.2.1 m.2.2.2.2.1 → m.1 c = 0 + 1) (hv : clc m.1 m.2.1 m.2.2.2.2.1 → gz_u (gz_ad G) m (ftC 0 24) c 24 = v) (hd : decode cc pc = .ok (.getfield 115, 3)) (kk : gz_V cS X G nL rem m (pc + 3) lv (v :: st)) : gz_V cS X G nL rem m pc lv (.ref (gz_ad G c) :: st) :=
  gz_getf hX (C := RX0) (T := TX0) (N := 28) (ci := 0) (k := 24) rfl (by decide) in_X0 (by decide) (Or.inl (hX.2.2.2.2.1 _ q526)) hd hK hv kk
theorem cp_X0_115_0 {X : gz_X} {G : gz_G} {cc : ByteArray} {nL fr lo pc : Nat} {rem : Nat × Nat} {m m9 : gM} {lv : List (Nat × Value)} {st : List Value} (hX : gz_C cS X G cc nL RX0 fr lo) {c : Nat} {x : Int64} (hK : clc m.1 m.2.1 m.2.2.2.2.1 → m.1 c = 0 + 1) (hw : 1000 ≤ c) (hd : decode cc pc = .ok (.putfield 115, 3)) (hm : m9 = gz_sL m c 24 x) (kk : gz_V cS X G nL rem m9 (pc + 3) lv st) : gz_V cS X G nL rem m pc lv (.long x :: .ref (gz_ad G c) :: st) := by
  subst hm
  exact gz_putf hX (C := RX0) (T := TX0) (N := 28) (ci := 0) (k := 24) (μ' := gz_sL m c 24 x) rfl (by decide) in_X0 tyX0 tyX0_ok nmX0 (by decide) (Or.inl (hX.2.2.2.2.1 _ q526)) rfl rfl rfl rfl hd hK hw rfl rfl rfl (fun d tc j h => gz_sL_o d tc j h) (gz_sL_v (fun j => ftC 0 j) rfl) (fun h => h) kk
/-! FirstSnuffer.draw(I)I -/
noncomputable def cf_X0_draw (x1 : Int32) (m : gM) : Option (Int32 × gM) :=
  gz_let (gz_sL m 1000 24 ((((1103515245 : Int64) * (gL m 1000 24)) + (12345 : Int64)) - (((1103515245 : Int64) * (gL m 1000 24)) + (12345 : Int64)) / (2147483648 : Int64) * (2147483648 : Int64))) fun m1 => (if ¬ (x1.toInt64) = 0 then some (((((gL m1 1000 24) / (64 : Int64)) - ((gL m1 1000 24) / (64 : Int64)) / (x1.toInt64) * (x1.toInt64)).toInt32), m1) else none)
theorem wm_X0_draw {X : gz_X} {G : gz_G} (hX : gz_C cS X G cX0_draw 2 RX0 0 0) {x1 : Int32}  {m : gM} {z : (Int32 × gM)} (h : cf_X0_draw x1 m = some z) (hk : (fun z : (Int32 × gM) => gz_kI cS X G 2 (0, 0) cX0_draw z.2 z.1) z) : gz_V cS X G 2 (0, 0) m 0 [(0, .ref (gz_ad G 1000)), (1, .int x1)] [] := by
  unfold cf_X0_draw at h
  refine gz_aload_n (pc := 0) hX dX0_draw_0 rfl 0 rfl ?_
  refine gz_ldc2 (pc := 1) (v := (1103515245 : Int64)) hX q1684 dX0_draw_1 ?_
  refine gz_aload_n (pc := 4) hX dX0_draw_4 rfl 0 rfl ?_
  refine cg_X0_115_0 (pc := 5) hX (c := 1000) (v := .long (gL m 1000 24)) (fun h => cz_k h rfl) (fun _ => rfl) dX0_draw_5 ?_
  refine gz_lmul (pc := 8) hX dX0_draw_8 ?_
  refine gz_ldc2 (pc := 9) (v := (12345 : Int64)) hX q1685 dX0_draw_9 ?_
  refine gz_ladd (pc := 12) hX dX0_draw_12 ?_
  refine gz_ldc2 (pc := 13) (v := (2147483648 : Int64)) hX q1686 dX0_draw_13 ?_
  refine gz_lrem (pc := 16) hX dX0_draw_16 (by decide) ?_
  obtain ⟨m1, em1, h⟩ := gz_lt h
  refine cp_X0_115_0 (pc := 17) hX (c := 1000) (fun h => cz_k h rfl) (Nat.le_of_ble_eq_true rfl) dX0_draw_17 em1 ?_
  refine gz_aload_n (pc := 20) hX dX0_draw_20 rfl 0 rfl ?_
  refine cg_X0_115_0 (pc := 21) hX (c := 1000) (v := .long (gL m1 1000 24)) (fun h => cz_k h rfl) (fun _ => rfl) dX0_draw_21 ?_
  refine gz_ldc2 (pc := 24) (v := (64 : Int64)) hX q1687 dX0_draw_24 ?_
  refine gz_ldiv (pc := 27) hX dX0_draw_27 (by decide) ?_
  refine gz_iload_n (pc := 28) hX dX0_draw_28 rfl 1 rfl ?_
  refine gz_i2l (pc := 29) hX dX0_draw_29 ?_
  obtain ⟨g2, h⟩ := gz_gu h
  refine gz_lrem (pc := 30) hX dX0_draw_30 g2 ?_
  refine gz_l2i (pc := 31) hX dX0_draw_31 ?_
  obtain rfl := Option.some.inj h
  exact hk _ _ dX0_draw_32
theorem ct_X0_draw {G : gz_G} {l : Launch} {x1 : Int32}  {m m9 : gM} {r : Int32} (h : cf_X0_draw x1 m = some (r, m9)) : gz_Met cS G l yX0_draw cX0_draw 2 (some .int) (mRm 0 0) [.ref (gz_ad G 1000), .int x1] m m9 (some (.int r)) :=
  gz_ofI (by decide +kernel) (Nat.le_of_ble_eq_true rfl) fun X _ hX hk => wm_X0_draw hX h hk
/-! FirstSnuffer.seed(I)Z -/
noncomputable def cf_X0_seed (x1 : Int32) (m : gM) : Option (Int32 × gM) :=
  (if (0 : Int32) ≤ x1 then gz_let (gz_sL m 1000 24 (x1.toInt64)) fun m2 => some ((1 : Int32), m2) else ((cf_X0_refuses (5 : Int32) m).bind fun (r3, m4) => (if r3 < (0 : Int32) then some ((0 : Int32), m4) else some ((1 : Int32), m4))))
theorem wm_X0_seed {X : gz_X} {G : gz_G} (hX : gz_C cS X G cX0_seed 2 RX0 1 21) {x1 : Int32}  {m : gM} {z : (Int32 × gM)} (h : cf_X0_seed x1 m = some z) (hk : (fun z : (Int32 × gM) => gz_kZ cS X G 2 (0, 0) cX0_seed z.2 z.1) z) : gz_V cS X G 2 (0, 0) m 0 [(0, .ref (gz_ad G 1000)), (1, .int x1)] [] := by
  unfold cf_X0_seed at h
  refine gz_iload_n (pc := 0) hX dX0_seed_0 rfl 1 rfl ?_
  refine gz_if_ge (pc := 1) (tgt := 18) hX dX0_seed_1 (by decide) (fun g1 => ?_) (fun g1 => ?_)
  · replace h := gz_it' g1 h
    refine gz_aload_n (pc := 18) hX dX0_seed_18 rfl 0 rfl ?_
    refine gz_iload_n (pc := 19) hX dX0_seed_19 rfl 1 rfl ?_
    refine gz_i2l (pc := 20) hX dX0_seed_20 ?_
    obtain ⟨m2, em2, h⟩ := gz_lt h
    refine cp_X0_115_0 (pc := 21) hX (c := 1000) (fun h => cz_k h rfl) (Nat.le_of_ble_eq_true rfl) dX0_seed_21 em2 ?_
    refine gz_iconst (pc := 24) (v := (1 : Int32)) hX dX0_seed_24 (by decide) ?_
    obtain rfl := Option.some.inj h
    exact hk _ _ dX0_seed_25 (Or.inr rfl)
  · replace h := gz_if' g1 h
    refine gz_aload_n (pc := 4) hX dX0_seed_4 rfl 0 rfl ?_
    refine gz_iconst (pc := 5) (v := (5 : Int32)) hX dX0_seed_5 (by decide) ?_
    obtain ⟨⟨r3, m4⟩, c5, h⟩ := gz_bd h
    refine cc_X0_125 (pc := 6) hX (fun h => cz_k h rfl) c5 ⟨Nat.le_of_ble_eq_true rfl, Nat.le_of_ble_eq_true rfl⟩ (rest := []) rfl (Nat.le_of_ble_eq_true rfl) dX0_seed_6 ?_
    refine gz_if_lt (pc := 9) (tgt := 16) hX dX0_seed_9 (by decide) (fun g6 => ?_) (fun g6 => ?_)
    · replace h := gz_it' g6 h
      refine gz_iconst (pc := 16) (v := (0 : Int32)) hX dX0_seed_16 (by decide) ?_
      obtain rfl := Option.some.inj h
      exact hk _ _ dX0_seed_17 (Or.inl rfl)
    · replace h := gz_if' g6 h
      refine gz_iconst (pc := 12) (v := (1 : Int32)) hX dX0_seed_12 (by decide) ?_
      refine gz_goto (pc := 13) (tgt := 17) hX dX0_seed_13 (by decide) ?_
      obtain rfl := Option.some.inj h
      exact hk _ _ dX0_seed_17 (Or.inr rfl)
theorem ct_X0_seed {G : gz_G} {l : Launch} {x1 : Int32}  {m m9 : gM} {r : Int32} (h : cf_X0_seed x1 m = some (r, m9)) : gz_Met cS G l yX0_seed cX0_seed 2 (some .boolean) (mRm 1 21) [.ref (gz_ad G 1000), .int x1] m m9 (some (.int r)) :=
  gz_ofZ (by decide +kernel) (Nat.le_of_ble_eq_true rfl) fun X _ hX hk => wm_X0_seed hX h hk
theorem cg_X0_119_0 {X : gz_X} {G : gz_G} {cc : ByteArray} {nL fr lo pc : Nat} {rem : Nat × Nat} {m : gM} {lv : List (Nat × Value)} {st : List Value} (hX : gz_C cS X G cc nL RX0 fr lo) {c : Nat} {v : Value} (hK : clc m.1 m.2.1 m.2.2.2.2.1 → m.1 c = 0 + 1) (hv : clc m.1 m.2.1 m.2.2.2.2.1 → gz_u (gz_ad G) m (ftC 0 26) c 26 = v) (hd : decode cc pc = .ok (.getfield 119, 3)) (kk : gz_V cS X G nL rem m (pc + 3) lv (v :: st)) : gz_V cS X G nL rem m pc lv (.ref (gz_ad G c) :: st) :=
  gz_getf hX (C := RX0) (T := TX0) (N := 28) (ci := 0) (k := 26) rfl (by decide) in_X0 (by decide) (Or.inl (hX.2.2.2.2.1 _ q528)) hd hK hv kk
theorem cg_X0_402_0 {X : gz_X} {G : gz_G} {cc : ByteArray} {nL fr lo pc : Nat} {rem : Nat × Nat} {m : gM} {lv : List (Nat × Value)} {st : List Value} (hX : gz_C cS X G cc nL RX0 fr lo) {c : Nat} {v : Value} (hK : clc m.1 m.2.1 m.2.2.2.2.1 → m.1 c = 0 + 1) (hv : clc m.1 m.2.1 m.2.2.2.2.1 → gz_u (gz_ad G) m (ftC 0 27) c 27 = v) (hd : decode cc pc = .ok (.getfield 402, 3)) (kk : gz_V cS X G nL rem m (pc + 3) lv (v :: st)) : gz_V cS X G nL rem m pc lv (.ref (gz_ad G c) :: st) :=
  gz_getf hX (C := RX0) (T := TX0) (N := 28) (ci := 0) (k := 27) rfl (by decide) in_X0 (by decide) (Or.inl (hX.2.2.2.2.1 _ q529)) hd hK hv kk
theorem cp_X0_402_0 {X : gz_X} {G : gz_G} {cc : ByteArray} {nL fr lo pc : Nat} {rem : Nat × Nat} {m m9 : gM} {lv : List (Nat × Value)} {st : List Value} (hX : gz_C cS X G cc nL RX0 fr lo) {c : Nat} {x : Int32} (hK : clc m.1 m.2.1 m.2.2.2.2.1 → m.1 c = 0 + 1) (hw : 1000 ≤ c) (hd : decode cc pc = .ok (.putfield 402, 3)) (hm : m9 = gz_sI m c 27 x) (kk : gz_V cS X G nL rem m9 (pc + 3) lv st) : gz_V cS X G nL rem m pc lv (.int x :: .ref (gz_ad G c) :: st) := by
  subst hm
  exact gz_putf hX (C := RX0) (T := TX0) (N := 28) (ci := 0) (k := 27) (ty := .int) (μ' := gz_sI m c 27 x) rfl (by decide) in_X0 tyX0 tyX0_ok nmX0 (by decide) (Or.inl (hX.2.2.2.2.1 _ q529)) rfl rfl rfl rfl hd hK hw rfl rfl rfl (fun d tc j h => gz_sI_o d tc j h) (gz_sI_v (fun j => ftC 0 j) rfl) (fun h => h) kk
/-! FirstSnuffer.writes(I)V -/
noncomputable def cf_X0_writes (x1 : Int32) (m : gM) : Option (Unit × gM) :=
  gz_let (gz_sI m 1000 27 ((gI m 1000 27) + (1 : Int32))) fun m1 => (if gz_in (gI m 1000 27) (32) then gz_let (gz_sI m1 2368 (gz_ix (gI m 1000 27)) ((x1.toInt8.toInt32).toInt8.toInt32)) fun m3 => some ((), m3) else none)
theorem wm_X0_writes {X : gz_X} {G : gz_G} (hX : gz_C cS X G cX0_writes 2 RX0 0 0) {x1 : Int32}  {m : gM} {z : (Unit × gM)} (h : cf_X0_writes x1 m = some z) (hk : (fun z : (Unit × gM) => gz_kV cS X G 2 (0, 0) cX0_writes z.2) z) : gz_V cS X G 2 (0, 0) m 0 [(0, .ref (gz_ad G 1000)), (1, .int x1)] [] := by
  unfold cf_X0_writes at h
  refine gz_aload_n (pc := 0) hX dX0_writes_0 rfl 0 rfl ?_
  refine cg_X0_119_0 (pc := 1) hX (c := 1000) (v := .ref (gz_ad G 2368)) (fun h => cz_k h rfl) (fun h => cz_f h (by decide) rfl (by decide) rfl) dX0_writes_1 ?_
  refine gz_aload_n (pc := 4) hX dX0_writes_4 rfl 0 rfl ?_
  refine gz_dup (pc := 5) hX dX0_writes_5 rfl ?_
  refine cg_X0_402_0 (pc := 6) hX (c := 1000) (v := .int (gI m 1000 27)) (fun h => cz_k h rfl) (fun _ => rfl) dX0_writes_6 ?_
  refine gz_dup_x1 (pc := 9) hX dX0_writes_9 rfl rfl ?_
  refine gz_iconst (pc := 10) (v := (1 : Int32)) hX dX0_writes_10 (by decide) ?_
  refine gz_iadd (pc := 11) hX dX0_writes_11 ?_
  obtain ⟨m1, em1, h⟩ := gz_lt h
  refine cp_X0_402_0 (pc := 12) hX (c := 1000) (fun h => cz_k h rfl) (Nat.le_of_ble_eq_true rfl) dX0_writes_12 em1 ?_
  refine gz_iload_n (pc := 15) hX dX0_writes_15 rfl 1 rfl ?_
  refine gz_i2b (pc := 16) hX dX0_writes_16 ?_
  obtain ⟨g2, h⟩ := gz_gu h
  obtain ⟨m3, em3, h⟩ := gz_lt h
  refine gz_bast2 (pc := 17) (c := 2368) (n := 32) hX rfl (fun h => cz_a h rfl (by decide) rfl) (Nat.le_of_ble_eq_true rfl) g2 dX0_writes_17 em3 ?_
  obtain rfl := Option.some.inj h
  exact hk _ _ dX0_writes_18
theorem ct_X0_writes {G : gz_G} {l : Launch} {x1 : Int32}  {m m9 : gM} (h : cf_X0_writes x1 m = some ((), m9)) : gz_Met cS G l yX0_writes cX0_writes 2 none (mRm 0 0) [.ref (gz_ad G 1000), .int x1] m m9 none :=
  gz_ofV (by decide +kernel) (Nat.le_of_ble_eq_true rfl) fun X _ hX hk => wm_X0_writes hX h hk
/-! FirstSnuffer.check([BI)I -/
def mP_X0_check_6 (X : gz_X) (G : gz_G) (c0 : Nat) (q : (Int32 × Int32 × Int32 × gM)) : Prop := gz_V cS X G 4 (0, 0) q.2.2.2 6 [(0, .ref (gz_ad G c0)), (1, .int q.1), (2, .int q.2.1), (3, .int q.2.2.1)] []
noncomputable def mb_X0_check_6 (c0 : Nat) (x1 : Int32) (x2 : Int32) (x3 : Int32) (m : gM) : Option ((Int32 × Int32 × Int32 × gM) ⊕ (Int32 × gM)) :=
  (if x1 ≤ x3 then some (Sum.inr (x2, m)) else (if gK m c0 = 102 then (if gz_in x3 (gN m c0) then gz_let (((((3 : Int32) * x2) + ((gI m c0 (gz_ix x3)) &&& (255 : Int32))) - (((3 : Int32) * x2) + ((gI m c0 (gz_ix x3)) &&& (255 : Int32))) / (251 : Int32) * (251 : Int32))) fun y4 => gz_let (x3 + (1 : Int32)) fun y5 => some (Sum.inl (x1, y4, y5, m)) else none) else none))
theorem wb_X0_check_6 {X : gz_X} {G : gz_G} (hX : gz_C cS X G cX0_check 4 RX0 0 0) {c0 : Nat} {x1 : Int32} {x2 : Int32} {x3 : Int32}  {m : gM} {z : ((Int32 × Int32 × Int32 × gM) ⊕ (Int32 × gM))} (h : mb_X0_check_6 c0 x1 x2 x3 m = some z) (hk : (Sum.elim (mP_X0_check_6 X G c0) (fun z : (Int32 × gM) => gz_kI cS X G 4 (0, 0) cX0_check z.2 z.1)) z) : gz_V cS X G 4 (0, 0) m 6 [(0, .ref (gz_ad G c0)), (1, .int x1), (2, .int x2), (3, .int x3)] [] := by
  unfold mb_X0_check_6 at h
  refine gz_iload_n (pc := 6) hX dX0_check_6 rfl 3 rfl ?_
  refine gz_iload_n (pc := 7) hX dX0_check_7 rfl 1 rfl ?_
  refine gz_icmp_ge (pc := 8) (tgt := 33) hX dX0_check_8 (by decide) (fun g1 => ?_) (fun g1 => ?_)
  · replace h := gz_it' g1 h
    refine gz_iload_n (pc := 33) hX dX0_check_33 rfl 2 rfl ?_
    obtain rfl := Option.some.inj h
    exact hk _ _ dX0_check_34
  · replace h := gz_if' g1 h
    refine gz_iconst (pc := 11) (v := (3 : Int32)) hX dX0_check_11 (by decide) ?_
    refine gz_iload_n (pc := 12) hX dX0_check_12 rfl 2 rfl ?_
    refine gz_imul (pc := 13) hX dX0_check_13 ?_
    refine gz_aload_n (pc := 14) hX dX0_check_14 rfl 0 rfl ?_
    refine gz_iload_n (pc := 15) hX dX0_check_15 rfl 3 rfl ?_
    obtain ⟨g2, h⟩ := gz_gu h
    obtain ⟨g3, h⟩ := gz_gu h
    refine gz_bald2 (pc := 16) (c := c0) (n := gN m c0) hX rfl (fun _ => ⟨g2, rfl⟩) g3 dX0_check_16 ?_
    refine gz_sipush (pc := 17) (v := (255 : Int32)) hX dX0_check_17 (by decide) ?_
    refine gz_iand (pc := 20) hX dX0_check_20 ?_
    refine gz_iadd (pc := 21) hX dX0_check_21 ?_
    refine gz_sipush (pc := 22) (v := (251 : Int32)) hX dX0_check_22 (by decide) ?_
    refine gz_irem (pc := 25) hX dX0_check_25 (by decide) ?_
    obtain ⟨y4, ey4, h⟩ := gz_lt h
    refine gz_topi ey4 ?_
    refine gz_istore_n (pc := 26) (lw := [(2, .int y4), (0, .ref (gz_ad G c0)), (1, .int x1), (3, .int x3)]) hX dX0_check_26 rfl (by decide) rfl ?_
    obtain ⟨y5, ey5, h⟩ := gz_lt h
    refine gz_iinc (pc := 27) (v := y5) (lw := [(3, .int y5), (2, .int y4), (0, .ref (gz_ad G c0)), (1, .int x1)]) hX dX0_check_27 (k := 3) rfl (by rw [ey5]; rfl) (by decide) rfl ?_
    refine gz_goto (pc := 30) (tgt := 6) hX dX0_check_30 (by decide) ?_
    refine gz_sub (lw := [(0, .ref (gz_ad G c0)), (1, .int x1), (2, .int y4), (3, .int y5)]) [2, 3, 1, 0] rfl ?_
    obtain rfl := Option.some.inj h
    exact hk
noncomputable def ml_X0_check_6 (c0 : Nat) (x1 : Int32) (x2 : Int32) (x3 : Int32) (m : gM) : Option (Int32 × gM) := gz_loop (fun q : (Int32 × Int32 × Int32 × gM) => mb_X0_check_6 c0 q.1 q.2.1 q.2.2.1 q.2.2.2) (x1, x2, x3, m)
theorem wl_X0_check_6 {X : gz_X} {G : gz_G} (hX : gz_C cS X G cX0_check 4 RX0 0 0) {c0 : Nat} {x1 : Int32} {x2 : Int32} {x3 : Int32}  {m : gM} {z : (Int32 × gM)} (h : ml_X0_check_6 c0 x1 x2 x3 m = some z) (hk : (fun z : (Int32 × gM) => gz_kI cS X G 4 (0, 0) cX0_check z.2 z.1) z) : gz_V cS X G 4 (0, 0) m 6 [(0, .ref (gz_ad G c0)), (1, .int x1), (2, .int x2), (3, .int x3)] [] := by
  have hp : mP_X0_check_6 X G c0 (x1, x2, x3, m) := gz_loop_ind (fun q z hz hkz => wb_X0_check_6 hX  hz hkz) h hk
  exact hp
noncomputable def cf_X0_check (c0 : Nat) (x1 : Int32) (m : gM) : Option (Int32 × gM) :=
  (ml_X0_check_6 c0 x1 (211 : Int32) (0 : Int32) m)
theorem wm_X0_check {X : gz_X} {G : gz_G} (hX : gz_C cS X G cX0_check 4 RX0 0 0) {c0 : Nat} {x1 : Int32}  {m : gM} {z : (Int32 × gM)} (h : cf_X0_check c0 x1 m = some z) (hk : (fun z : (Int32 × gM) => gz_kI cS X G 4 (0, 0) cX0_check z.2 z.1) z) : gz_V cS X G 4 (0, 0) m 0 [(0, .ref (gz_ad G c0)), (1, .int x1)] [] := by
  unfold cf_X0_check at h
  refine gz_sipush (pc := 0) (v := (211 : Int32)) hX dX0_check_0 (by decide) ?_
  refine gz_istore_n (pc := 3) (lw := [(2, .int (211 : Int32)), (0, .ref (gz_ad G c0)), (1, .int x1)]) hX dX0_check_3 rfl (by decide) rfl ?_
  refine gz_iconst (pc := 4) (v := (0 : Int32)) hX dX0_check_4 (by decide) ?_
  refine gz_istore_n (pc := 5) (lw := [(3, .int (0 : Int32)), (2, .int (211 : Int32)), (0, .ref (gz_ad G c0)), (1, .int x1)]) hX dX0_check_5 rfl (by decide) rfl ?_
  refine gz_sub (lw := [(0, .ref (gz_ad G c0)), (1, .int x1), (2, .int (211 : Int32)), (3, .int (0 : Int32))]) [2, 3, 1, 0] rfl ?_
  exact wl_X0_check_6 hX h hk
theorem ct_X0_check {G : gz_G} {l : Launch} {c0 : Nat} {x1 : Int32}  {m m9 : gM} {r : Int32} (h : cf_X0_check c0 x1 m = some (r, m9)) : gz_Met cS G l yX0_check cX0_check 4 (some .int) (mRm 0 0) [.ref (gz_ad G c0), .int x1] m m9 (some (.int r)) :=
  gz_ofI (by decide +kernel) (Nat.le_of_ble_eq_true rfl) fun X _ hX hk => wm_X0_check hX h hk
/-! FirstSnuffer.octet(I)I -/
noncomputable def mj_X0_octet_12  (m : gM) : Option (Int32 × gM) :=
  some ((-1 : Int32), m)
theorem wb_X0_octet_12 {X : gz_X} {G : gz_G} (hX : gz_C cS X G cX0_octet 2 RX0 0 0)   {m : gM} {z : (Int32 × gM)} (h : mj_X0_octet_12  m = some z) (hk : (fun z : (Int32 × gM) => gz_kI cS X G 2 (0, 0) cX0_octet z.2 z.1) z) : gz_V cS X G 2 (0, 0) m 12 [(0, .ref (gz_ad G 1000))] [] := by
  unfold mj_X0_octet_12 at h
  refine gz_iconst (pc := 12) (v := (-1 : Int32)) hX dX0_octet_12 (by decide) ?_
  refine gz_goto (pc := 13) (tgt := 26) hX dX0_octet_13 (by decide) ?_
  obtain rfl := Option.some.inj h
  exact hk _ _ dX0_octet_26
noncomputable def cf_X0_octet (x1 : Int32) (m : gM) : Option (Int32 × gM) :=
  (if x1 < (0 : Int32) then (mj_X0_octet_12  m) else (if x1 < (gI m 1000 27) then (if gz_in x1 (32) then some (((gI m 2368 (gz_ix x1)) &&& (255 : Int32)), m) else none) else (mj_X0_octet_12  m)))
theorem wm_X0_octet {X : gz_X} {G : gz_G} (hX : gz_C cS X G cX0_octet 2 RX0 0 0) {x1 : Int32}  {m : gM} {z : (Int32 × gM)} (h : cf_X0_octet x1 m = some z) (hk : (fun z : (Int32 × gM) => gz_kI cS X G 2 (0, 0) cX0_octet z.2 z.1) z) : gz_V cS X G 2 (0, 0) m 0 [(0, .ref (gz_ad G 1000)), (1, .int x1)] [] := by
  unfold cf_X0_octet at h
  refine gz_iload_n (pc := 0) hX dX0_octet_0 rfl 1 rfl ?_
  refine gz_if_lt (pc := 1) (tgt := 12) hX dX0_octet_1 (by decide) (fun g1 => ?_) (fun g1 => ?_)
  · replace h := gz_it' g1 h
    refine gz_sub (lw := [(0, .ref (gz_ad G 1000))]) [0] rfl ?_
    exact wb_X0_octet_12 hX h hk
  · replace h := gz_if' g1 h
    refine gz_iload_n (pc := 4) hX dX0_octet_4 rfl 1 rfl ?_
    refine gz_aload_n (pc := 5) hX dX0_octet_5 rfl 0 rfl ?_
    refine cg_X0_402_0 (pc := 6) hX (c := 1000) (v := .int (gI m 1000 27)) (fun h => cz_k h rfl) (fun _ => rfl) dX0_octet_6 ?_
    refine gz_icmp_lt (pc := 9) (tgt := 16) hX dX0_octet_9 (by decide) (fun g2 => ?_) (fun g2 => ?_)
    · replace h := gz_it' g2 h
      refine gz_aload_n (pc := 16) hX dX0_octet_16 rfl 0 rfl ?_
      refine cg_X0_119_0 (pc := 17) hX (c := 1000) (v := .ref (gz_ad G 2368)) (fun h => cz_k h rfl) (fun h => cz_f h (by decide) rfl (by decide) rfl) dX0_octet_17 ?_
      refine gz_iload_n (pc := 20) hX dX0_octet_20 rfl 1 rfl ?_
      obtain ⟨g3, h⟩ := gz_gu h
      refine gz_bald2 (pc := 21) (c := 2368) (n := 32) hX rfl (fun h => cz_a h rfl (by decide) rfl) g3 dX0_octet_21 ?_
      refine gz_sipush (pc := 22) (v := (255 : Int32)) hX dX0_octet_22 (by decide) ?_
      refine gz_iand (pc := 25) hX dX0_octet_25 ?_
      obtain rfl := Option.some.inj h
      exact hk _ _ dX0_octet_26
    · replace h := gz_if' g2 h
      refine gz_sub (lw := [(0, .ref (gz_ad G 1000))]) [0] rfl ?_
      exact wb_X0_octet_12 hX h hk
theorem ct_X0_octet {G : gz_G} {l : Launch} {x1 : Int32}  {m m9 : gM} {r : Int32} (h : cf_X0_octet x1 m = some (r, m9)) : gz_Met cS G l yX0_octet cX0_octet 2 (some .int) (mRm 0 0) [.ref (gz_ad G 1000), .int x1] m m9 (some (.int r)) :=
  gz_ofI (by decide +kernel) (Nat.le_of_ble_eq_true rfl) fun X _ hX hk => wm_X0_octet hX h hk
/-! FirstSnuffer.status(I)I -/
noncomputable def cf_X0_status (x1 : Int32) (m : gM) : Option (Int32 × gM) :=
  ((cf_X0_is x1 (0 : Int32) (5 : Int32) m).bind fun (r1, m2) => (if r1 = (0 : Int32) then some ((-1 : Int32), m2) else (if gz_in x1 (6) then some ((gI m2 1017 (gz_ix x1)), m2) else none)))
theorem wm_X0_status {X : gz_X} {G : gz_G} (hX : gz_C cS X G cX0_status 2 RX0 1 22) {x1 : Int32}  {m : gM} {z : (Int32 × gM)} (h : cf_X0_status x1 m = some z) (hk : (fun z : (Int32 × gM) => gz_kI cS X G 2 (0, 0) cX0_status z.2 z.1) z) : gz_V cS X G 2 (0, 0) m 0 [(0, .ref (gz_ad G 1000)), (1, .int x1)] [] := by
  unfold cf_X0_status at h
  refine gz_iload_n (pc := 0) hX dX0_status_0 rfl 1 rfl ?_
  refine gz_iconst (pc := 1) (v := (0 : Int32)) hX dX0_status_1 (by decide) ?_
  refine gz_iconst (pc := 2) (v := (5 : Int32)) hX dX0_status_2 (by decide) ?_
  obtain ⟨⟨r1, m2⟩, c3, h⟩ := gz_bd h
  refine cc_X0_231 (pc := 3) hX c3 ⟨Nat.le_of_ble_eq_true rfl, Nat.le_of_ble_eq_true rfl⟩ (rest := []) rfl (Nat.le_of_ble_eq_true rfl) dX0_status_3 ?_
  refine gz_if_eq (pc := 6) (tgt := 18) hX dX0_status_6 (by decide) (fun g4 => ?_) (fun g4 => ?_)
  · replace h := gz_it' g4 h
    refine gz_iconst (pc := 18) (v := (-1 : Int32)) hX dX0_status_18 (by decide) ?_
    obtain rfl := Option.some.inj h
    exact hk _ _ dX0_status_19
  · replace h := gz_if' g4 h
    refine gz_aload_n (pc := 9) hX dX0_status_9 rfl 0 rfl ?_
    refine cg_X0_62_0 (pc := 10) hX (c := 1000) (v := .ref (gz_ad G 1017)) (fun h => cz_k h rfl) (fun h => cz_f h (by decide) rfl (by decide) rfl) dX0_status_10 ?_
    refine gz_iload_n (pc := 13) hX dX0_status_13 rfl 1 rfl ?_
    obtain ⟨g5, h⟩ := gz_gu h
    refine gz_iald2 (pc := 14) (c := 1017) (n := 6) hX rfl (fun h => cz_a h rfl (by decide) rfl) g5 dX0_status_14 ?_
    refine gz_goto (pc := 15) (tgt := 19) hX dX0_status_15 (by decide) ?_
    obtain rfl := Option.some.inj h
    exact hk _ _ dX0_status_19
theorem ct_X0_status {G : gz_G} {l : Launch} {x1 : Int32}  {m m9 : gM} {r : Int32} (h : cf_X0_status x1 m = some (r, m9)) : gz_Met cS G l yX0_status cX0_status 2 (some .int) (mRm 1 22) [.ref (gz_ad G 1000), .int x1] m m9 (some (.int r)) :=
  gz_ofI (by decide +kernel) (Nat.le_of_ble_eq_true rfl) fun X _ hX hk => wm_X0_status hX h hk
/-! java/lang/Exception.<init>(Ljava/lang/String;Ljava/lang/Throwable;ZZ)V -/
noncomputable def cf_J4_init (c0 : Nat) (x3 : Int32) (x4 : Int32) (m : gM) : Option (Unit × gM) :=
  none
theorem wm_J4_init {X : gz_X} {G : gz_G} (hX : gz_C cS X G cJ4_init 5 RJ4 2 44) (hn0 : X.2.2.2.2.2.2.2.2.1.name = "<init>") {c0 : Nat} {x3 : Int32} {x4 : Int32}  {m : gM} {z : (Unit × gM)} (h : cf_J4_init c0 x3 x4 m = some z) (hk : (fun z : (Unit × gM) => gz_kV cS X G 5 (0, 0) cJ4_init z.2) z) : gz_V cS X G 5 (0, 0) m 0 [(0, .ref (gz_ad G c0)), (1, .null), (2, .null), (3, .int x3), (4, .int x4)] [] := by
  unfold cf_J4_init at h
  refine gz_aload_n (pc := 0) hX dJ4_init_0 rfl 0 rfl ?_
  exact nomatch h
theorem ct_J4_init {G : gz_G} {l : Launch} {c0 : Nat} {x3 : Int32} {x4 : Int32}  {m m9 : gM} (h : cf_J4_init c0 x3 x4 m = some ((), m9)) : gz_Met cS G l yJ4_init cJ4_init 5 none (mRm 2 44) [.ref (gz_ad G c0), .null, .null, .int x3, .int x4] m m9 none :=
  gz_ofVc (by decide +kernel) (Nat.le_of_ble_eq_true rfl) fun X _ hn hX hk => wm_J4_init hX hn h hk
theorem cc_J18_185 {X : gz_X} {G : gz_G} {cc : ByteArray} {nL fr lo pc : Nat} {rem : Nat × Nat} {lv : List (Nat × Value)} {rest st0 : List Value} (hX : gz_C cS X G cc nL RJ18 fr lo) {c0 : Nat} {x1 : Int32} {m m9 : gM}  {r : Int32} (h : cf_J10_getChar c0 x1 m = some (r, m9)) (hroom : 1 + 1 ≤ fr ∧ 8 + (2 + 11) + 20 ≤ lo) (hst : st0 = [.int x1, .ref (gz_ad G c0)] ++ rest) (hW : (rest.map fun v => v.category).sum ≤ 8) (hd : decode cc pc = .ok (.invokestatic 185, 3)) (kk : gz_V cS X G nL rem m9 (pc + 3) lv (.int r :: rest)) : gz_V cS X G nL rem m pc lv st0 :=
  gz_callS hX cs_E (As := [.ref (gz_ad G c0), .int x1]) (rest := rest) (ct_J10_getChar (l := X.2.1) h) (lw_S q764 q693 q184 q694) (n := 2) (by decide +kernel) hroom rfl hst hW hd (rem := rem) kk
/-! java/lang/System$2.getUTF16Char([BI)C -/
noncomputable def cf_J18_getUTF16Char (c0 : Nat) (c1 : Nat) (x2 : Int32) (m : gM) : Option (Int32 × gM) :=
  ((cf_J10_getChar c1 x2 m).bind fun (r1, m2) => (if r1.toUInt32.toUInt16.toUInt32.toInt32 = r1 then some (r1, m2) else none))
theorem wm_J18_getUTF16Char {X : gz_X} {G : gz_G} (hX : gz_C cS X G cJ18_getUTF16Char 3 RJ18 2 41) {c0 : Nat} {c1 : Nat} {x2 : Int32}  {m : gM} {z : (Int32 × gM)} (h : cf_J18_getUTF16Char c0 c1 x2 m = some z) (hk : (fun z : (Int32 × gM) => gz_kN cS X G 3 (0, 0) cJ18_getUTF16Char .char z.2 z.1) z) : gz_V cS X G 3 (0, 0) m 0 [(0, .ref (gz_ad G c0)), (1, .ref (gz_ad G c1)), (2, .int x2)] [] := by
  unfold cf_J18_getUTF16Char at h
  refine gz_aload_n (pc := 0) hX dJ18_getUTF16Char_0 rfl 1 rfl ?_
  refine gz_iload_n (pc := 1) hX dJ18_getUTF16Char_1 rfl 2 rfl ?_
  obtain ⟨⟨r1, m2⟩, c3, h⟩ := gz_bd h
  refine cc_J18_185 (pc := 2) hX c3 ⟨Nat.le_of_ble_eq_true rfl, Nat.le_of_ble_eq_true rfl⟩ (rest := []) rfl (Nat.le_of_ble_eq_true rfl) dJ18_getUTF16Char_2 ?_
  obtain ⟨g4, h⟩ := gz_gu h
  obtain rfl := Option.some.inj h
  exact hk _ _ dJ18_getUTF16Char_5 (congrArg Value.int g4)
theorem ct_J18_getUTF16Char {G : gz_G} {l : Launch} {c0 : Nat} {c1 : Nat} {x2 : Int32}  {m m9 : gM} {r : Int32} (h : cf_J18_getUTF16Char c0 c1 x2 m = some (r, m9)) : gz_Met cS G l yJ18_getUTF16Char cJ18_getUTF16Char 3 (some .char) (mRm 2 41) [.ref (gz_ad G c0), .ref (gz_ad G c1), .int x2] m m9 (some (.int r)) :=
  gz_ofN (by decide +kernel) (Nat.le_of_ble_eq_true rfl) fun X _ hX hk => wm_J18_getUTF16Char hX h hk
/-! java/lang/StringLatin1.equals([B[B)Z -/
def mP_J11_equals_9 (X : gz_X) (G : gz_G) (c0 : Nat) (c1 : Nat) (q : (Int32 × gM)) : Prop := gz_V cS X G 3 (0, 0) q.2 9 [(0, .ref (gz_ad G c0)), (1, .ref (gz_ad G c1)), (2, .int q.1)] []
noncomputable def mb_J11_equals_9 (c0 : Nat) (c1 : Nat) (x2 : Int32) (m : gM) : Option ((Int32 × gM) ⊕ (Int32 × gM)) :=
  (if gK m c0 = 102 then (if (nI (gN m c0)) ≤ x2 then some (Sum.inr ((1 : Int32), m)) else (if gK m c0 = 102 then (if gz_in x2 (gN m c0) then (if gK m c1 = 102 then (if gz_in x2 (gN m c1) then (if (gI m c0 (gz_ix x2)) = (gI m c1 (gz_ix x2)) then gz_let (x2 + (1 : Int32)) fun y8 => some (Sum.inl (y8, m)) else some (Sum.inr ((0 : Int32), m))) else none) else none) else none) else none)) else none)
theorem wb_J11_equals_9 {X : gz_X} {G : gz_G} (hX : gz_C cS X G cJ11_equals 3 RJ11 0 0) {c0 : Nat} {c1 : Nat} {x2 : Int32}  {m : gM} {z : ((Int32 × gM) ⊕ (Int32 × gM))} (h : mb_J11_equals_9 c0 c1 x2 m = some z) (hk : (Sum.elim (mP_J11_equals_9 X G c0 c1) (fun z : (Int32 × gM) => gz_kZ cS X G 3 (0, 0) cJ11_equals z.2 z.1)) z) : gz_V cS X G 3 (0, 0) m 9 [(0, .ref (gz_ad G c0)), (1, .ref (gz_ad G c1)), (2, .int x2)] [] := by
  unfold mb_J11_equals_9 at h
  refine gz_iload_n (pc := 9) hX dJ11_equals_9 rfl 2 rfl ?_
  refine gz_aload_n (pc := 10) hX dJ11_equals_10 rfl 0 rfl ?_
  obtain ⟨g1, h⟩ := gz_gu h
  refine gz_alen2 (pc := 11) (c := c0) (t := 1) (n := gN m c0) hX rfl (fun _ => ⟨g1, rfl⟩) dJ11_equals_11 ?_
  refine gz_icmp_ge (pc := 12) (tgt := 32) hX dJ11_equals_12 (by decide) (fun g2 => ?_) (fun g2 => ?_)
  · replace h := gz_it' g2 h
    refine gz_iconst (pc := 32) (v := (1 : Int32)) hX dJ11_equals_32 (by decide) ?_
    obtain rfl := Option.some.inj h
    exact hk _ _ dJ11_equals_33 (Or.inr rfl)
  · replace h := gz_if' g2 h
    refine gz_aload_n (pc := 15) hX dJ11_equals_15 rfl 0 rfl ?_
    refine gz_iload_n (pc := 16) hX dJ11_equals_16 rfl 2 rfl ?_
    obtain ⟨g3, h⟩ := gz_gu h
    obtain ⟨g4, h⟩ := gz_gu h
    refine gz_bald2 (pc := 17) (c := c0) (n := gN m c0) hX rfl (fun _ => ⟨g3, rfl⟩) g4 dJ11_equals_17 ?_
    refine gz_aload_n (pc := 18) hX dJ11_equals_18 rfl 1 rfl ?_
    refine gz_iload_n (pc := 19) hX dJ11_equals_19 rfl 2 rfl ?_
    obtain ⟨g5, h⟩ := gz_gu h
    obtain ⟨g6, h⟩ := gz_gu h
    refine gz_bald2 (pc := 20) (c := c1) (n := gN m c1) hX rfl (fun _ => ⟨g5, rfl⟩) g6 dJ11_equals_20 ?_
    refine gz_icmp_eq (pc := 21) (tgt := 26) hX dJ11_equals_21 (by decide) (fun g7 => ?_) (fun g7 => ?_)
    · replace h := gz_it' g7 h
      obtain ⟨y8, ey8, h⟩ := gz_lt h
      refine gz_iinc (pc := 26) (v := y8) (lw := [(2, .int y8), (0, .ref (gz_ad G c0)), (1, .ref (gz_ad G c1))]) hX dJ11_equals_26 (k := 2) rfl (by rw [ey8]; rfl) (by decide) rfl ?_
      refine gz_goto (pc := 29) (tgt := 9) hX dJ11_equals_29 (by decide) ?_
      refine gz_sub (lw := [(0, .ref (gz_ad G c0)), (1, .ref (gz_ad G c1)), (2, .int y8)]) [1, 2, 0] rfl ?_
      obtain rfl := Option.some.inj h
      exact hk
    · replace h := gz_if' g7 h
      refine gz_iconst (pc := 24) (v := (0 : Int32)) hX dJ11_equals_24 (by decide) ?_
      obtain rfl := Option.some.inj h
      exact hk _ _ dJ11_equals_25 (Or.inl rfl)
noncomputable def ml_J11_equals_9 (c0 : Nat) (c1 : Nat) (x2 : Int32) (m : gM) : Option (Int32 × gM) := gz_loop (fun q : (Int32 × gM) => mb_J11_equals_9 c0 c1 q.1 q.2) (x2, m)
theorem wl_J11_equals_9 {X : gz_X} {G : gz_G} (hX : gz_C cS X G cJ11_equals 3 RJ11 0 0) {c0 : Nat} {c1 : Nat} {x2 : Int32}  {m : gM} {z : (Int32 × gM)} (h : ml_J11_equals_9 c0 c1 x2 m = some z) (hk : (fun z : (Int32 × gM) => gz_kZ cS X G 3 (0, 0) cJ11_equals z.2 z.1) z) : gz_V cS X G 3 (0, 0) m 9 [(0, .ref (gz_ad G c0)), (1, .ref (gz_ad G c1)), (2, .int x2)] [] := by
  have hp : mP_J11_equals_9 X G c0 c1 (x2, m) := gz_loop_ind (fun q z hz hkz => wb_J11_equals_9 hX  hz hkz) h hk
  exact hp
noncomputable def cf_J11_equals (c0 : Nat) (c1 : Nat) (m : gM) : Option (Int32 × gM) :=
  (if gK m c0 = 102 then (if gK m c1 = 102 then (if (nI (gN m c0)) = (nI (gN m c1)) then (ml_J11_equals_9 c0 c1 (0 : Int32) m) else some ((0 : Int32), m)) else none) else none)
theorem wm_J11_equals {X : gz_X} {G : gz_G} (hX : gz_C cS X G cJ11_equals 3 RJ11 0 0) {c0 : Nat} {c1 : Nat}  {m : gM} {z : (Int32 × gM)} (h : cf_J11_equals c0 c1 m = some z) (hk : (fun z : (Int32 × gM) => gz_kZ cS X G 3 (0, 0) cJ11_equals z.2 z.1) z) : gz_V cS X G 3 (0, 0) m 0 [(0, .ref (gz_ad G c0)), (1, .ref (gz_ad G c1))] [] := by
  unfold cf_J11_equals at h
  refine gz_aload_n (pc := 0) hX dJ11_equals_0 rfl 0 rfl ?_
  obtain ⟨g1, h⟩ := gz_gu h
  refine gz_alen2 (pc := 1) (c := c0) (t := 1) (n := gN m c0) hX rfl (fun _ => ⟨g1, rfl⟩) dJ11_equals_1 ?_
  refine gz_aload_n (pc := 2) hX dJ11_equals_2 rfl 1 rfl ?_
  obtain ⟨g2, h⟩ := gz_gu h
  refine gz_alen2 (pc := 3) (c := c1) (t := 1) (n := gN m c1) hX rfl (fun _ => ⟨g2, rfl⟩) dJ11_equals_3 ?_
  refine gz_icmp_ne (pc := 4) (tgt := 34) hX dJ11_equals_4 (by decide) (fun g3 => ?_) (fun g3 => ?_)
  · replace h := gz_if' g3 h
    refine gz_iconst (pc := 34) (v := (0 : Int32)) hX dJ11_equals_34 (by decide) ?_
    obtain rfl := Option.some.inj h
    exact hk _ _ dJ11_equals_35 (Or.inl rfl)
  · replace h := gz_it' g3 h
    refine gz_iconst (pc := 7) (v := (0 : Int32)) hX dJ11_equals_7 (by decide) ?_
    refine gz_istore_n (pc := 8) (lw := [(2, .int (0 : Int32)), (0, .ref (gz_ad G c0)), (1, .ref (gz_ad G c1))]) hX dJ11_equals_8 rfl (by decide) rfl ?_
    refine gz_sub (lw := [(0, .ref (gz_ad G c0)), (1, .ref (gz_ad G c1)), (2, .int (0 : Int32))]) [1, 2, 0] rfl ?_
    exact wl_J11_equals_9 hX h hk
theorem ct_J11_equals {G : gz_G} {l : Launch} {c0 : Nat} {c1 : Nat}  {m m9 : gM} {r : Int32} (h : cf_J11_equals c0 c1 m = some (r, m9)) : gz_Met cS G l yJ11_equals cJ11_equals 3 (some .boolean) (mRm 0 0) [.ref (gz_ad G c0), .ref (gz_ad G c1)] m m9 (some (.int r)) :=
  gz_ofZ (by decide +kernel) (Nat.le_of_ble_eq_true rfl) fun X _ hX hk => wm_J11_equals hX h hk
/-! java/lang/StringLatin1.canEncode(C)Z -/
noncomputable def cf_J11_canEncode (x0 : Int32) (m : gM) : Option (Int32 × gM) :=
  (if (255 : Int32) < x0 then some ((0 : Int32), m) else some ((1 : Int32), m))
theorem wm_J11_canEncode {X : gz_X} {G : gz_G} (hX : gz_C cS X G cJ11_canEncode 1 RJ11 0 0) {x0 : Int32}  {m : gM} {z : (Int32 × gM)} (h : cf_J11_canEncode x0 m = some z) (hk : (fun z : (Int32 × gM) => gz_kZ cS X G 1 (0, 0) cJ11_canEncode z.2 z.1) z) : gz_V cS X G 1 (0, 0) m 0 [(0, .int x0)] [] := by
  unfold cf_J11_canEncode at h
  refine gz_iload_n (pc := 0) hX dJ11_canEncode_0 rfl 0 rfl ?_
  refine gz_sipush (pc := 1) (v := (255 : Int32)) hX dJ11_canEncode_1 (by decide) ?_
  refine gz_icmp_gt (pc := 4) (tgt := 11) hX dJ11_canEncode_4 (by decide) (fun g1 => ?_) (fun g1 => ?_)
  · replace h := gz_it' g1 h
    refine gz_iconst (pc := 11) (v := (0 : Int32)) hX dJ11_canEncode_11 (by decide) ?_
    obtain rfl := Option.some.inj h
    exact hk _ _ dJ11_canEncode_12 (Or.inl rfl)
  · replace h := gz_if' g1 h
    refine gz_iconst (pc := 7) (v := (1 : Int32)) hX dJ11_canEncode_7 (by decide) ?_
    refine gz_goto (pc := 8) (tgt := 12) hX dJ11_canEncode_8 (by decide) ?_
    obtain rfl := Option.some.inj h
    exact hk _ _ dJ11_canEncode_12 (Or.inr rfl)
theorem ct_J11_canEncode {G : gz_G} {l : Launch} {x0 : Int32}  {m m9 : gM} {r : Int32} (h : cf_J11_canEncode x0 m = some (r, m9)) : gz_Met cS G l yJ11_canEncode cJ11_canEncode 1 (some .boolean) (mRm 0 0) [.int x0] m m9 (some (.int r)) :=
  gz_ofZ (by decide +kernel) (Nat.le_of_ble_eq_true rfl) fun X _ hX hk => wm_J11_canEncode hX h hk
theorem cc_X13_1 {X : gz_X} {G : gz_G} {cc : ByteArray} {nL fr lo pc : Nat} {rem : Nat × Nat} {lv : List (Nat × Value)} {rest st0 : List Value} (hX : gz_C cS X G cc nL RX13 fr lo) {c0 : Nat} {m m9 : gM}  (h : cf_X11_init c0 m = some ((), m9)) (hroom : 1 + 1 ≤ fr ∧ 8 + (1 + 11) + 20 ≤ lo) (hst : st0 = [.ref (gz_ad G c0)] ++ rest) (hW : (rest.map fun v => v.category).sum ≤ 8) (hd : decode cc pc = .ok (.invokespecial 1, 3)) (kk : gz_V cS X G nL rem m9 (pc + 3) lv (rest)) : gz_V cS X G nL rem m pc lv st0 :=
  gz_callIN hX cs_E (As := []) (rest := rest) (c := c0) (ct_X11_init (l := X.2.1) h) q1041 (cz_n (Z := cS) hX q1100 rfl) q193 q1040 rfl (n := 0) (by decide +kernel) hroom rfl hst hW hd (rem := rem) kk
theorem cp_X13_7_11 {X : gz_X} {G : gz_G} {cc : ByteArray} {nL fr lo pc : Nat} {rem : Nat × Nat} {m m9 : gM} {lv : List (Nat × Value)} {st : List Value} (hX : gz_C cS X G cc nL RX13 fr lo) (hn0 : X.2.2.2.2.2.2.2.2.1.name = "<init>") {c : Nat} {x : Int32} (hK : clc m.1 m.2.1 m.2.2.2.2.1 → m.1 c = 11 + 1) (hw : 1000 ≤ c) (hz : x = 0 ∨ x = 1) (hd : decode cc pc = .ok (.putfield 7, 3)) (hm : m9 = gz_sI m c 0 x) (kk : gz_V cS X G nL rem m9 (pc + 3) lv st) : gz_V cS X G nL rem m pc lv (.int x :: .ref (gz_ad G c) :: st) := by
  subst hm
  exact gz_putff hX (C := RX13) (T := TX13) (N := 3) (ci := 11) (k := 0) (ty := .boolean) (μ' := gz_sI m c 0 x) rfl (by decide) in_X13 tyX13 tyX13_ok nmX13 (by decide) (hX.2.2.2.2.1 _ q1101) (fun _ h => h) rfl hn0 rfl rfl (by rcases hz with h | h <;> rw [h] <;> rfl) (by rcases hz with h | h <;> rw [h] <;> rfl) hd hK hw rfl rfl rfl (fun d tc j h => gz_sI_o d tc j h) (gz_sI_v (fun j => ftC 11 j) rfl) (fun h => h) kk
theorem cp_X13_13_11 {X : gz_X} {G : gz_G} {cc : ByteArray} {nL fr lo pc : Nat} {rem : Nat × Nat} {m m9 : gM} {lv : List (Nat × Value)} {st : List Value} (hX : gz_C cS X G cc nL RX13 fr lo) (hn0 : X.2.2.2.2.2.2.2.2.1.name = "<init>") {c : Nat} {r : Nat} (hK : clc m.1 m.2.1 m.2.2.2.2.1 → m.1 c = 11 + 1) (hw : 1000 ≤ c) (hs : sr c 1 = 0 ∧ r ≠ 0) (hd : decode cc pc = .ok (.putfield 13, 3)) (hm : m9 = gz_sP m c 1 r) (kk : gz_V cS X G nL rem m9 (pc + 3) lv st) : gz_V cS X G nL rem m pc lv (.ref (gz_ad G r) :: .ref (gz_ad G c) :: st) := by
  subst hm
  exact gz_putff hX (C := RX13) (T := TX13) (N := 3) (ci := 11) (k := 1) (μ' := gz_sP m c 1 r) (v := .ref (gz_ad G r)) rfl (by decide) in_X13 tyX13 tyX13_ok nmX13 (by decide) (hX.2.2.2.2.1 _ q1102) (fun _ h => h) rfl hn0 rfl rfl rfl rfl hd hK hw rfl rfl rfl (fun d tc j h => gz_sP_o d tc j h) (by intro j; rw [← gz_rfp hs.2]; exact gz_sP_v (fun j => ftC 11 j) rfl j) (clc_sP hs.1) kk
theorem cp_X13_17_11 {X : gz_X} {G : gz_G} {cc : ByteArray} {nL fr lo pc : Nat} {rem : Nat × Nat} {m m9 : gM} {lv : List (Nat × Value)} {st : List Value} (hX : gz_C cS X G cc nL RX13 fr lo) (hn0 : X.2.2.2.2.2.2.2.2.1.name = "<init>") {c : Nat} {r : Nat} (hK : clc m.1 m.2.1 m.2.2.2.2.1 → m.1 c = 11 + 1) (hw : 1000 ≤ c) (hs : sr c 2 = 0 ∧ r ≠ 0) (hd : decode cc pc = .ok (.putfield 17, 3)) (hm : m9 = gz_sP m c 2 r) (kk : gz_V cS X G nL rem m9 (pc + 3) lv st) : gz_V cS X G nL rem m pc lv (.ref (gz_ad G r) :: .ref (gz_ad G c) :: st) := by
  subst hm
  exact gz_putff hX (C := RX13) (T := TX13) (N := 3) (ci := 11) (k := 2) (μ' := gz_sP m c 2 r) (v := .ref (gz_ad G r)) rfl (by decide) in_X13 tyX13 tyX13_ok nmX13 (by decide) (hX.2.2.2.2.1 _ q1103) (fun _ h => h) rfl hn0 rfl rfl rfl rfl hd hK hw rfl rfl rfl (fun d tc j h => gz_sP_o d tc j h) (by intro j; rw [← gz_rfp hs.2]; exact gz_sP_v (fun j => ftC 11 j) rfl j) (clc_sP hs.1) kk
/-! FirstSnuffer$Pair.<init>(ZLFirstSnuffer$Value;LFirstSnuffer$Value;)V -/
noncomputable def cf_X13_init (c0 : Nat) (x1 : Int32) (c2 : Nat) (c3 : Nat) (m : gM) : Option (Unit × gM) :=
  ((cf_X11_init c0 m).bind fun (_, m2) => (if gK m2 c0 = 12 then (if x1 = 0 ∨ x1 = 1 then (if 1000 ≤ c0 then gz_let (gz_sI m2 c0 0 x1) fun m7 => (if gK m7 c0 = 12 then (if 1000 ≤ c0 then (if sr c0 1 = 0 ∧ c2 ≠ 0 then gz_let (gz_sP m7 c0 1 c2) fun m11 => (if gK m11 c0 = 12 then (if 1000 ≤ c0 then (if sr c0 2 = 0 ∧ c3 ≠ 0 then gz_let (gz_sP m11 c0 2 c3) fun m15 => some ((), m15) else none) else none) else none) else none) else none) else none) else none) else none) else none))
theorem wm_X13_init {X : gz_X} {G : gz_G} (hX : gz_C cS X G cX13_init 4 RX13 2 40) (hn0 : X.2.2.2.2.2.2.2.2.1.name = "<init>") {c0 : Nat} {x1 : Int32} {c2 : Nat} {c3 : Nat}  {m : gM} {z : (Unit × gM)} (h : cf_X13_init c0 x1 c2 c3 m = some z) (hk : (fun z : (Unit × gM) => gz_kV cS X G 4 (0, 0) cX13_init z.2) z) : gz_V cS X G 4 (0, 0) m 0 [(0, .ref (gz_ad G c0)), (1, .int x1), (2, .ref (gz_ad G c2)), (3, .ref (gz_ad G c3))] [] := by
  unfold cf_X13_init at h
  refine gz_aload_n (pc := 0) hX dX13_init_0 rfl 0 rfl ?_
  obtain ⟨⟨⟨⟩, m2⟩, c3, h⟩ := gz_bd h
  refine cc_X13_1 (pc := 1) hX c3 ⟨Nat.le_of_ble_eq_true rfl, Nat.le_of_ble_eq_true rfl⟩ (rest := []) rfl (Nat.le_of_ble_eq_true rfl) dX13_init_1 ?_
  refine gz_aload_n (pc := 4) hX dX13_init_4 rfl 0 rfl ?_
  refine gz_iload_n (pc := 5) hX dX13_init_5 rfl 1 rfl ?_
  obtain ⟨g4, h⟩ := gz_gu h
  obtain ⟨g5, h⟩ := gz_gu h
  obtain ⟨g6, h⟩ := gz_gu h
  obtain ⟨m7, em7, h⟩ := gz_lt h
  refine cp_X13_7_11 (pc := 6) hX hn0 (c := c0) (fun _ => g4) g6 g5 dX13_init_6 em7 ?_
  refine gz_aload_n (pc := 9) hX dX13_init_9 rfl 0 rfl ?_
  refine gz_aload_n (pc := 10) hX dX13_init_10 rfl 2 rfl ?_
  obtain ⟨g8, h⟩ := gz_gu h
  obtain ⟨g9, h⟩ := gz_gu h
  obtain ⟨g10, h⟩ := gz_gu h
  obtain ⟨m11, em11, h⟩ := gz_lt h
  refine cp_X13_13_11 (pc := 11) hX hn0 (c := c0) (fun _ => g8) g9 g10 dX13_init_11 em11 ?_
  refine gz_aload_n (pc := 14) hX dX13_init_14 rfl 0 rfl ?_
  refine gz_aload_n (pc := 15) hX dX13_init_15 rfl 3 rfl ?_
  obtain ⟨g12, h⟩ := gz_gu h
  obtain ⟨g13, h⟩ := gz_gu h
  obtain ⟨g14, h⟩ := gz_gu h
  obtain ⟨m15, em15, h⟩ := gz_lt h
  refine cp_X13_17_11 (pc := 16) hX hn0 (c := c0) (fun _ => g12) g13 g14 dX13_init_16 em15 ?_
  obtain rfl := Option.some.inj h
  exact hk _ _ dX13_init_19
theorem ct_X13_init {G : gz_G} {l : Launch} {c0 : Nat} {x1 : Int32} {c2 : Nat} {c3 : Nat}  {m m9 : gM} (h : cf_X13_init c0 x1 c2 c3 m = some ((), m9)) : gz_Met cS G l yX13_init cX13_init 4 none (mRm 2 40) [.ref (gz_ad G c0), .int x1, .ref (gz_ad G c2), .ref (gz_ad G c3)] m m9 none :=
  gz_ofVc (by decide +kernel) (Nat.le_of_ble_eq_true rfl) fun X _ hn hX hk => wm_X13_init hX hn h hk
theorem cg_X13_13_11 {X : gz_X} {G : gz_G} {cc : ByteArray} {nL fr lo pc : Nat} {rem : Nat × Nat} {m : gM} {lv : List (Nat × Value)} {st : List Value} (hX : gz_C cS X G cc nL RX13 fr lo) {c : Nat} {v : Value} (hK : clc m.1 m.2.1 m.2.2.2.2.1 → m.1 c = 11 + 1) (hv : clc m.1 m.2.1 m.2.2.2.2.1 → gz_u (gz_ad G) m (ftC 11 1) c 1 = v) (hd : decode cc pc = .ok (.getfield 13, 3)) (kk : gz_V cS X G nL rem m (pc + 3) lv (v :: st)) : gz_V cS X G nL rem m pc lv (.ref (gz_ad G c) :: st) :=
  gz_getf hX (C := RX13) (T := TX13) (N := 3) (ci := 11) (k := 1) rfl (by decide) in_X13 (by decide) (Or.inl (hX.2.2.2.2.1 _ q1102)) hd hK hv kk
theorem cd_X13_20 {X : gz_X} {G : gz_G} {cc : ByteArray} {nL fr lo pc f n : Nat} {lv : List (Nat × Value)} {rest st0 : List Value} (hX : gz_C cS X G cc nL RX13 fr lo) {oA : Nat → Nat → gM → Option (Int64 × gM)} {oT : Nat → Nat → gM → Option (Int32 × gM)} {v mo : Nat} {m m9 : gM} {r : Int64} (hO : cO G X.2.1 f n oA oT) (h : oA v mo m = some (r, m9)) (hroom : f + 1 ≤ fr ∧ n + 40 ≤ lo) (hst : st0 = [.ref (gz_ad G mo), .ref (gz_ad G v)] ++ rest) (hW : (rest.map fun v => v.category).sum ≤ 8) (hd : decode cc pc = .ok (.invokevirtual 20, 3)) (kk : gz_V cS X G nL (0, 0) m9 (pc + 3) lv (.long r :: rest)) : gz_V cS X G nL (0, 0) m pc lv st0 := by
  rcases hO.1 v mo m r m9 h with ⟨hk, hM⟩ | ⟨hk, hM⟩ | ⟨hk, hM⟩ | ⟨hk, hM⟩ | ⟨hk, hM⟩
  · exact gz_callU hX cs_E (x := ⟨"FirstSnuffer$Value", "at", "(LFirstSnuffer$Moment;)J"⟩) (owner := "FirstSnuffer$Value") (As := [.ref (gz_ad G mo)]) (rest := rest) (q := (RX14, TX14, 1)) (ci := 12) (c := v) hM (va_cwA 1 hX.2.2.2.2.1 (lw_app (by intro w hw; simp only [List.mem_cons, List.not_mem_nil, or_false] at hw; rcases hw with e | e | e | e | e <;> rw [e] <;> first | exact q1438 | exact q1409 | exact q1479 | exact q1431 | exact q198) (lw_meth q1432)) rfl rfl rfl (cz_n (Z := cS) hX q1408 rfl) (by decide +kernel) ⟨Nat.le_trans hroom.1 hX.2.2.2.2.2.2.1, by have := hX.2.2.2.2.2.2.2; have h1 := hroom.2; show 8 + (2 + 11) + n ≤ _; omega⟩) rfl rfl (by decide) (fun _ => hk) hst hW hd (rem := (0, 0)) kk
  · exact gz_callU hX cs_E (x := ⟨"FirstSnuffer$Value", "at", "(LFirstSnuffer$Moment;)J"⟩) (owner := "FirstSnuffer$Value") (As := [.ref (gz_ad G mo)]) (rest := rest) (q := (RX15, TX15, 1)) (ci := 13) (c := v) hM (va_cwA 1 hX.2.2.2.2.1 (lw_app (by intro w hw; simp only [List.mem_cons, List.not_mem_nil, or_false] at hw; rcases hw with e | e | e | e | e <;> rw [e] <;> first | exact q1438 | exact q1409 | exact q1410 | exact q1411 | exact q199) (lw_meth q1412)) rfl rfl rfl (cz_n (Z := cS) hX q1408 rfl) (by decide +kernel) ⟨Nat.le_trans hroom.1 hX.2.2.2.2.2.2.1, by have := hX.2.2.2.2.2.2.2; have h1 := hroom.2; show 8 + (2 + 11) + n ≤ _; omega⟩) rfl rfl (by decide) (fun _ => hk) hst hW hd (rem := (0, 0)) kk
  · exact gz_callU hX cs_E (x := ⟨"FirstSnuffer$Value", "at", "(LFirstSnuffer$Moment;)J"⟩) (owner := "FirstSnuffer$Value") (As := [.ref (gz_ad G mo)]) (rest := rest) (q := (RX13, TX13, 3)) (ci := 11) (c := v) hM (va_cwA 1 hX.2.2.2.2.1 (lw_app (by intro w hw; simp only [List.mem_cons, List.not_mem_nil, or_false] at hw; rcases hw with e | e | e | e | e <;> rw [e] <;> first | exact q1438 | exact q1409 | exact q1481 | exact q1436 | exact q197) (lw_meth q1437)) rfl rfl rfl (cz_n (Z := cS) hX q1408 rfl) (by decide +kernel) ⟨Nat.le_trans hroom.1 hX.2.2.2.2.2.2.1, by have := hX.2.2.2.2.2.2.2; have h1 := hroom.2; show 8 + (6 + 11) + n ≤ _; omega⟩) rfl rfl (by decide) (fun _ => hk) hst hW hd (rem := (0, 0)) kk
  · exact gz_callU hX cs_E (x := ⟨"FirstSnuffer$Value", "at", "(LFirstSnuffer$Moment;)J"⟩) (owner := "FirstSnuffer$Value") (As := [.ref (gz_ad G mo)]) (rest := rest) (q := (RX12, TX12, 2)) (ci := 10) (c := v) hM (va_cwA 1 hX.2.2.2.2.1 (lw_app (by intro w hw; simp only [List.mem_cons, List.not_mem_nil, or_false] at hw; rcases hw with e | e | e | e | e <;> rw [e] <;> first | exact q1438 | exact q1409 | exact q1424 | exact q1425 | exact q194) (lw_meth q1426)) rfl rfl rfl (cz_n (Z := cS) hX q1408 rfl) (by decide +kernel) ⟨Nat.le_trans hroom.1 hX.2.2.2.2.2.2.1, by have := hX.2.2.2.2.2.2.2; have h1 := hroom.2; show 8 + (5 + 11) + n ≤ _; omega⟩) rfl rfl (by decide) (fun _ => hk) hst hW hd (rem := (0, 0)) kk
  · exact gz_callU hX cs_E (x := ⟨"FirstSnuffer$Value", "at", "(LFirstSnuffer$Moment;)J"⟩) (owner := "FirstSnuffer$Value") (As := [.ref (gz_ad G mo)]) (rest := rest) (q := (RX16, TX16, 3)) (ci := 14) (c := v) hM (va_cwA 1 hX.2.2.2.2.1 (lw_app (by intro w hw; simp only [List.mem_cons, List.not_mem_nil, or_false] at hw; rcases hw with e | e | e | e | e <;> rw [e] <;> first | exact q1438 | exact q1409 | exact q1480 | exact q1433 | exact q200) (lw_meth q1434)) rfl rfl rfl (cz_n (Z := cS) hX q1408 rfl) (by decide +kernel) ⟨Nat.le_trans hroom.1 hX.2.2.2.2.2.2.1, by have := hX.2.2.2.2.2.2.2; have h1 := hroom.2; show 8 + (2 + 11) + n ≤ _; omega⟩) rfl rfl (by decide) (fun _ => hk) hst hW hd (rem := (0, 0)) kk
theorem cg_X13_17_11 {X : gz_X} {G : gz_G} {cc : ByteArray} {nL fr lo pc : Nat} {rem : Nat × Nat} {m : gM} {lv : List (Nat × Value)} {st : List Value} (hX : gz_C cS X G cc nL RX13 fr lo) {c : Nat} {v : Value} (hK : clc m.1 m.2.1 m.2.2.2.2.1 → m.1 c = 11 + 1) (hv : clc m.1 m.2.1 m.2.2.2.2.1 → gz_u (gz_ad G) m (ftC 11 2) c 2 = v) (hd : decode cc pc = .ok (.getfield 17, 3)) (kk : gz_V cS X G nL rem m (pc + 3) lv (v :: st)) : gz_V cS X G nL rem m pc lv (.ref (gz_ad G c) :: st) :=
  gz_getf hX (C := RX13) (T := TX13) (N := 3) (ci := 11) (k := 2) rfl (by decide) in_X13 (by decide) (Or.inl (hX.2.2.2.2.1 _ q1103)) hd hK hv kk
theorem cg_X13_7_11 {X : gz_X} {G : gz_G} {cc : ByteArray} {nL fr lo pc : Nat} {rem : Nat × Nat} {m : gM} {lv : List (Nat × Value)} {st : List Value} (hX : gz_C cS X G cc nL RX13 fr lo) {c : Nat} {v : Value} (hK : clc m.1 m.2.1 m.2.2.2.2.1 → m.1 c = 11 + 1) (hv : clc m.1 m.2.1 m.2.2.2.2.1 → gz_u (gz_ad G) m (ftC 11 0) c 0 = v) (hd : decode cc pc = .ok (.getfield 7, 3)) (kk : gz_V cS X G nL rem m (pc + 3) lv (v :: st)) : gz_V cS X G nL rem m pc lv (.ref (gz_ad G c) :: st) :=
  gz_getf hX (C := RX13) (T := TX13) (N := 3) (ci := 11) (k := 0) rfl (by decide) in_X13 (by decide) (Or.inl (hX.2.2.2.2.1 _ q1101)) hd hK hv kk
/-! FirstSnuffer$Pair.at(LFirstSnuffer$Moment;)J -/
noncomputable def mj_X13_at_35 (oA : Nat → Nat → gM → Option (Int64 × gM)) (oT : Nat → Nat → gM → Option (Int32 × gM)) (c0 : Nat) (x2 : Int64) (x4 : Int64) (s0 : Int32) (s1 : Int32) (m : gM) : Option (Int64 × gM) :=
  (if s1 = s0 then some (x2, m) else some (x4, m))
theorem wb_X13_at_35 {X : gz_X} {G : gz_G} {oA : Nat → Nat → gM → Option (Int64 × gM)} {oT : Nat → Nat → gM → Option (Int32 × gM)} {f n : Nat} (hX : gz_C cS X G cX13_at 6 RX13 (f + 1) (n + 40)) (h1 : 20 ≤ f) (h2 : 300 ≤ n) (hO : cO G X.2.1 f n oA oT) {c0 : Nat} {x2 : Int64} {x4 : Int64} {s0 : Int32} {s1 : Int32}  {m : gM} {z : (Int64 × gM)} (h : mj_X13_at_35 oA oT c0 x2 x4 s0 s1 m = some z) (hk : (fun z : (Int64 × gM) => gz_kL cS X G 6 (0, 0) cX13_at z.2 z.1) z) : gz_V cS X G 6 (0, 0) m 35 [(0, .ref (gz_ad G c0)), (2, .long x2), (4, .long x4)] [.int s0, .int s1] := by
  unfold mj_X13_at_35 at h
  refine gz_icmp_ne (pc := 35) (tgt := 42) hX dX13_at_35 (by decide) (fun g1 => ?_) (fun g1 => ?_)
  · replace h := gz_if' g1 h
    refine gz_lload (pc := 42) hX dX13_at_42 2 rfl ?_
    obtain rfl := Option.some.inj h
    exact hk _ _ dX13_at_44
  · replace h := gz_it' g1 h
    refine gz_lload_n (pc := 38) hX dX13_at_38 rfl 1 rfl ?_
    refine gz_goto (pc := 39) (tgt := 44) hX dX13_at_39 (by decide) ?_
    obtain rfl := Option.some.inj h
    exact hk _ _ dX13_at_44
noncomputable def cf_X13_at (oA : Nat → Nat → gM → Option (Int64 × gM)) (oT : Nat → Nat → gM → Option (Int32 × gM)) (c0 : Nat) (c1 : Nat) (m : gM) : Option (Int64 × gM) :=
  (if gK m c0 = 12 then gz_let (gP m c0 1) fun r2 => (if r2 ≠ 0 then ((oA r2 c1 m).bind fun (r4, m5) => (if gK m5 c0 = 12 then gz_let (gP m5 c0 2) fun r8 => (if r8 ≠ 0 then ((oA r8 c1 m5).bind fun (r10, m11) => (if gK m11 c0 = 12 then (if r4 ≤ r10 then (mj_X13_at_35 oA oT c0 r4 r10 (0 : Int32) (gI m11 c0 0) m11) else (mj_X13_at_35 oA oT c0 r4 r10 (1 : Int32) (gI m11 c0 0) m11)) else none)) else none) else none)) else none) else none)
theorem wm_X13_at {X : gz_X} {G : gz_G} {oA : Nat → Nat → gM → Option (Int64 × gM)} {oT : Nat → Nat → gM → Option (Int32 × gM)} {f n : Nat} (hX : gz_C cS X G cX13_at 6 RX13 (f + 1) (n + 40)) (h1 : 20 ≤ f) (h2 : 300 ≤ n) (hO : cO G X.2.1 f n oA oT) {c0 : Nat} {c1 : Nat}  {m : gM} {z : (Int64 × gM)} (h : cf_X13_at oA oT c0 c1 m = some z) (hk : (fun z : (Int64 × gM) => gz_kL cS X G 6 (0, 0) cX13_at z.2 z.1) z) : gz_V cS X G 6 (0, 0) m 0 [(0, .ref (gz_ad G c0)), (1, .ref (gz_ad G c1))] [] := by
  unfold cf_X13_at at h
  refine gz_aload_n (pc := 0) hX dX13_at_0 rfl 0 rfl ?_
  obtain ⟨g1, h⟩ := gz_gu h
  obtain ⟨r2, er2, h⟩ := gz_lt h
  obtain ⟨g3, h⟩ := gz_gu h
  refine cg_X13_13_11 (pc := 1) hX (c := c0) (v := .ref (gz_ad G r2)) (fun _ => g1) (fun _ => gz_rq er2 g3) dX13_at_1 ?_
  refine gz_aload_n (pc := 4) hX dX13_at_4 rfl 1 rfl ?_
  obtain ⟨⟨r4, m5⟩, c6, h⟩ := gz_bd h
  refine cd_X13_20 (pc := 5) hX hO c6 ⟨by omega, by omega⟩ (rest := []) rfl (Nat.le_of_ble_eq_true rfl) dX13_at_5 ?_
  refine gz_lstore_n (pc := 8) (lw := [(2, .long r4), (0, .ref (gz_ad G c0)), (1, .ref (gz_ad G c1))]) hX dX13_at_8 rfl (by decide) rfl ?_
  refine gz_aload_n (pc := 9) hX dX13_at_9 rfl 1 rfl ?_
  obtain ⟨g7, h⟩ := gz_gu h
  obtain ⟨r8, er8, h⟩ := gz_lt h
  obtain ⟨g9, h⟩ := gz_gu h
  refine cg_X13_17_11 (pc := 10) hX (c := c0) (v := .ref (gz_ad G r8)) (fun _ => g7) (fun _ => gz_rq er8 g9) dX13_at_10 ?_
  refine gz_aload_n (pc := 13) hX dX13_at_13 rfl 2 rfl ?_
  obtain ⟨⟨r10, m11⟩, c12, h⟩ := gz_bd h
  refine cd_X13_20 (pc := 14) hX hO c12 ⟨by omega, by omega⟩ (rest := []) rfl (Nat.le_of_ble_eq_true rfl) dX13_at_14 ?_
  refine gz_lstore (pc := 17) (lw := [(4, .long r10), (2, .long r4), (0, .ref (gz_ad G c0)), (1, .ref (gz_ad G c1))]) hX dX13_at_17 (by decide) rfl ?_
  refine gz_aload_n (pc := 19) hX dX13_at_19 rfl 2 rfl ?_
  obtain ⟨g13, h⟩ := gz_gu h
  refine cg_X13_7_11 (pc := 20) hX (c := c0) (v := .int (gI m11 c0 0)) (fun _ => g13) (fun _ => rfl) dX13_at_20 ?_
  refine gz_lload_n (pc := 23) hX dX13_at_23 rfl 1 rfl ?_
  refine gz_lload (pc := 24) hX dX13_at_24 0 rfl ?_
  refine gz_lcmp_le (pc := 26) (tgt := 34) hX dX13_at_26 dX13_at_27 (by decide) (fun g14 => ?_) (fun g14 => ?_)
  · replace h := gz_it' g14 h
    refine gz_iconst (pc := 34) (v := (0 : Int32)) hX dX13_at_34 (by decide) ?_
    refine gz_sub (lw := [(0, .ref (gz_ad G c0)), (2, .long r4), (4, .long r10)]) [2, 1, 0] rfl ?_
    exact wb_X13_at_35 hX h1 h2 hO h hk
  · replace h := gz_if' g14 h
    refine gz_iconst (pc := 30) (v := (1 : Int32)) hX dX13_at_30 (by decide) ?_
    refine gz_goto (pc := 31) (tgt := 35) hX dX13_at_31 (by decide) ?_
    refine gz_sub (lw := [(0, .ref (gz_ad G c0)), (2, .long r4), (4, .long r10)]) [2, 1, 0] rfl ?_
    exact wb_X13_at_35 hX h1 h2 hO h hk
theorem cc_X12_61 {X : gz_X} {G : gz_G} {cc : ByteArray} {nL fr lo pc : Nat} {rem : Nat × Nat} {lv : List (Nat × Value)} {rest st0 : List Value} (hX : gz_C cS X G cc nL RX12 fr lo) {x0 : Int64} {x2 : Int64} {m m9 : gM}  {r : Int64} (h : cf_J8_floorDiv x0 x2 m = some (r, m9)) (hroom : 0 + 1 ≤ fr ∧ 8 + (6 + 11) + 0 ≤ lo) (hst : st0 = [.long x2, .long x0] ++ rest) (hW : (rest.map fun v => v.category).sum ≤ 8) (hd : decode cc pc = .ok (.invokestatic 61, 3)) (kk : gz_V cS X G nL rem m9 (pc + 3) lv (.long r :: rest)) : gz_V cS X G nL rem m pc lv st0 :=
  gz_callS hX cs_E (As := [.long x0, .long x2]) (rest := rest) (ct_J8_floorDiv (l := X.2.1) h) (lw_S q1475 q1476 q181 q1477) (n := 2) (by decide +kernel) hroom rfl hst hW hd (rem := rem) kk
/-! FirstSnuffer$Chain.two(CJJ)J -/
noncomputable def mj_X12_two_44 (x1 : Int64) (x3 : Int64) (m : gM) : Option (Int64 × gM) :=
  (if x3 = (0 : Int64) then some ((0 : Int64), m) else ((cf_J8_floorDiv x1 x3 m).bind fun (r2, m3) => some (r2, m3)))
theorem wb_X12_two_44 {X : gz_X} {G : gz_G} (hX : gz_C cS X G cX12_two 5 RX12 1 25) {x1 : Int64} {x3 : Int64}  {m : gM} {z : (Int64 × gM)} (h : mj_X12_two_44 x1 x3 m = some z) (hk : (fun z : (Int64 × gM) => gz_kL cS X G 5 (0, 0) cX12_two z.2 z.1) z) : gz_V cS X G 5 (0, 0) m 44 [(1, .long x1), (3, .long x3)] [] := by
  unfold mj_X12_two_44 at h
  refine gz_lload_n (pc := 44) hX dX12_two_44 rfl 1 rfl ?_
  refine gz_lconst (pc := 45) (v := (0 : Int64)) hX dX12_two_45 (by decide) ?_
  refine gz_lcmp_ne (pc := 46) (tgt := 54) hX dX12_two_46 dX12_two_47 (by decide) (fun g1 => ?_) (fun g1 => ?_)
  · replace h := gz_if' g1 h
    refine gz_lload_n (pc := 54) hX dX12_two_54 rfl 0 rfl ?_
    refine gz_lload_n (pc := 55) hX dX12_two_55 rfl 1 rfl ?_
    obtain ⟨⟨r2, m3⟩, c4, h⟩ := gz_bd h
    refine cc_X12_61 (pc := 56) hX c4 ⟨Nat.le_of_ble_eq_true rfl, Nat.le_of_ble_eq_true rfl⟩ (rest := []) rfl (Nat.le_of_ble_eq_true rfl) dX12_two_56 ?_
    obtain rfl := Option.some.inj h
    exact hk _ _ dX12_two_59
  · replace h := gz_it' g1 h
    refine gz_lconst (pc := 50) (v := (0 : Int64)) hX dX12_two_50 (by decide) ?_
    refine gz_goto (pc := 51) (tgt := 59) hX dX12_two_51 (by decide) ?_
    obtain rfl := Option.some.inj h
    exact hk _ _ dX12_two_59
noncomputable def cf_X12_two (x0 : Int32) (x1 : Int64) (x3 : Int64) (m : gM) : Option (Int64 × gM) :=
  (if x0 = (42 : Int32) then some ((x1 * x3), m) else (if x0 = (43 : Int32) then some ((x1 + x3), m) else (if x0 = (44 : Int32) then (mj_X12_two_44 x1 x3 m) else (if x0 = (45 : Int32) then some ((x1 - x3), m) else (mj_X12_two_44 x1 x3 m)))))
theorem wm_X12_two {X : gz_X} {G : gz_G} (hX : gz_C cS X G cX12_two 5 RX12 1 25) {x0 : Int32} {x1 : Int64} {x3 : Int64}  {m : gM} {z : (Int64 × gM)} (h : cf_X12_two x0 x1 x3 m = some z) (hk : (fun z : (Int64 × gM) => gz_kL cS X G 5 (0, 0) cX12_two z.2 z.1) z) : gz_V cS X G 5 (0, 0) m 0 [(0, .int x0), (1, .long x1), (3, .long x3)] [] := by
  unfold cf_X12_two at h
  refine gz_iload_n (pc := 0) hX dX12_two_0 rfl 0 rfl ?_
  by_cases g1 : x0 = (42 : Int32)
  · replace h := gz_it' g1 h
    refine gz_tsIn (pc := 1) (tgt := 40) (off := 39) (v := (42 : Int32)) hX g1 dX12_two_1 (by decide) (by decide) ?_
    refine gz_lload_n (pc := 40) hX dX12_two_40 rfl 1 rfl ?_
    refine gz_lload_n (pc := 41) hX dX12_two_41 rfl 2 rfl ?_
    refine gz_lmul (pc := 42) hX dX12_two_42 ?_
    obtain rfl := Option.some.inj h
    exact hk _ _ dX12_two_43
  · replace h := gz_if' g1 h
    by_cases g2 : x0 = (43 : Int32)
    · replace h := gz_it' g2 h
      refine gz_tsIn (pc := 1) (tgt := 32) (off := 31) (v := (43 : Int32)) hX g2 dX12_two_1 (by decide) (by decide) ?_
      refine gz_lload_n (pc := 32) hX dX12_two_32 rfl 1 rfl ?_
      refine gz_lload_n (pc := 33) hX dX12_two_33 rfl 2 rfl ?_
      refine gz_ladd (pc := 34) hX dX12_two_34 ?_
      obtain rfl := Option.some.inj h
      exact hk _ _ dX12_two_35
    · replace h := gz_if' g2 h
      by_cases g3 : x0 = (44 : Int32)
      · replace h := gz_it' g3 h
        refine gz_tsIn (pc := 1) (tgt := 44) (off := 43) (v := (44 : Int32)) hX g3 dX12_two_1 (by decide) (by decide) ?_
        refine gz_sub (lw := [(1, .long x1), (3, .long x3)]) [1, 2] rfl ?_
        exact wb_X12_two_44 hX h hk
      · replace h := gz_if' g3 h
        by_cases g4 : x0 = (45 : Int32)
        · replace h := gz_it' g4 h
          refine gz_tsIn (pc := 1) (tgt := 36) (off := 35) (v := (45 : Int32)) hX g4 dX12_two_1 (by decide) (by decide) ?_
          refine gz_lload_n (pc := 36) hX dX12_two_36 rfl 1 rfl ?_
          refine gz_lload_n (pc := 37) hX dX12_two_37 rfl 2 rfl ?_
          refine gz_lsub (pc := 38) hX dX12_two_38 ?_
          obtain rfl := Option.some.inj h
          exact hk _ _ dX12_two_39
        · replace h := gz_if' g4 h
          have ng1 := lv_neT g1 (a := 42) (by decide)
          have ng2 := lv_neT g2 (a := 43) (by decide)
          have ng3 := lv_neT g3 (a := 44) (by decide)
          have ng4 := lv_neT g4 (a := 45) (by decide)
          refine gz_tsOut (pc := 1) (tgt := 44) hX dX12_two_1 (by omega) (by decide) ?_
          refine gz_sub (lw := [(1, .long x1), (3, .long x3)]) [1, 2] rfl ?_
          exact wb_X12_two_44 hX h hk
theorem ct_X12_two {G : gz_G} {l : Launch} {x0 : Int32} {x1 : Int64} {x3 : Int64}  {m m9 : gM} {r : Int64} (h : cf_X12_two x0 x1 x3 m = some (r, m9)) : gz_Met cS G l yX12_two cX12_two 5 (some .long) (mRm 1 25) [.int x0, .long x1, .long x3] m m9 (some (.long r)) :=
  gz_ofL (by decide +kernel) (Nat.le_of_ble_eq_true rfl) fun X _ hX hk => wm_X12_two hX h hk
/-! jdk/internal/util/Preconditions.checkIndex(IILjava/util/function/BiFunction;)I -/
noncomputable def cf_J7_checkIndex (x0 : Int32) (x1 : Int32) (m : gM) : Option (Int32 × gM) :=
  (if x0 < (0 : Int32) then none else (if x0 < x1 then some (x0, m) else none))
theorem wm_J7_checkIndex {X : gz_X} {G : gz_G} (hX : gz_C cS X G cJ7_checkIndex 3 RJ7 0 0) {x0 : Int32} {x1 : Int32} {w2 : Value}  {m : gM} {z : (Int32 × gM)} (h : cf_J7_checkIndex x0 x1 m = some z) (hk : (fun z : (Int32 × gM) => gz_kI cS X G 3 (0, 0) cJ7_checkIndex z.2 z.1) z) : gz_V cS X G 3 (0, 0) m 0 [(0, .int x0), (1, .int x1), (2, w2)] [] := by
  unfold cf_J7_checkIndex at h
  refine gz_iload_n (pc := 0) hX dJ7_checkIndex_0 rfl 0 rfl ?_
  refine gz_if_lt (pc := 1) (tgt := 9) hX dJ7_checkIndex_1 (by decide) (fun g1 => ?_) (fun g1 => ?_)
  · replace h := gz_it' g1 h
    exact nomatch h
  · replace h := gz_if' g1 h
    refine gz_iload_n (pc := 4) hX dJ7_checkIndex_4 rfl 0 rfl ?_
    refine gz_iload_n (pc := 5) hX dJ7_checkIndex_5 rfl 1 rfl ?_
    refine gz_icmp_lt (pc := 6) (tgt := 16) hX dJ7_checkIndex_6 (by decide) (fun g2 => ?_) (fun g2 => ?_)
    · replace h := gz_it' g2 h
      refine gz_iload_n (pc := 16) hX dJ7_checkIndex_16 rfl 0 rfl ?_
      obtain rfl := Option.some.inj h
      exact hk _ _ dJ7_checkIndex_17
    · replace h := gz_if' g2 h
      exact nomatch h
theorem ct_J7_checkIndex {G : gz_G} {l : Launch} {x0 : Int32} {x1 : Int32} {w2 : Value}  (hw2 : w2 = .null ∨ ∃ a, w2 = .ref a) {m m9 : gM} {r : Int32} (h : cf_J7_checkIndex x0 x1 m = some (r, m9)) : gz_Met cS G l yJ7_checkIndex cJ7_checkIndex 3 (some .int) (mRm 0 0) [.int x0, .int x1, w2] m m9 (some (.int r)) := by
  rcases hw2 with rfl | ⟨_, rfl⟩ <;> exact gz_ofI (by decide +kernel) (Nat.le_of_ble_eq_true rfl) fun X _ hX hk => wm_J7_checkIndex hX h hk
/-! jdk/internal/util/Preconditions.checkFromIndexSize(IIILjava/util/function/BiFunction;)I -/
noncomputable def cf_J7_checkFromIndexSize (x0 : Int32) (x1 : Int32) (x2 : Int32) (m : gM) : Option (Int32 × gM) :=
  (if ((x2 ||| x0) ||| x1) < (0 : Int32) then none else (if x1 ≤ (x2 - x0) then some (x0, m) else none))
theorem wm_J7_checkFromIndexSize {X : gz_X} {G : gz_G} (hX : gz_C cS X G cJ7_checkFromIndexSize 4 RJ7 0 0) {x0 : Int32} {x1 : Int32} {x2 : Int32} {w3 : Value}  {m : gM} {z : (Int32 × gM)} (h : cf_J7_checkFromIndexSize x0 x1 x2 m = some z) (hk : (fun z : (Int32 × gM) => gz_kI cS X G 4 (0, 0) cJ7_checkFromIndexSize z.2 z.1) z) : gz_V cS X G 4 (0, 0) m 0 [(0, .int x0), (1, .int x1), (2, .int x2), (3, w3)] [] := by
  unfold cf_J7_checkFromIndexSize at h
  refine gz_iload_n (pc := 0) hX dJ7_checkFromIndexSize_0 rfl 2 rfl ?_
  refine gz_iload_n (pc := 1) hX dJ7_checkFromIndexSize_1 rfl 0 rfl ?_
  refine gz_ior (pc := 2) hX dJ7_checkFromIndexSize_2 ?_
  refine gz_iload_n (pc := 3) hX dJ7_checkFromIndexSize_3 rfl 1 rfl ?_
  refine gz_ior (pc := 4) hX dJ7_checkFromIndexSize_4 ?_
  refine gz_if_lt (pc := 5) (tgt := 15) hX dJ7_checkFromIndexSize_5 (by decide) (fun g1 => ?_) (fun g1 => ?_)
  · replace h := gz_it' g1 h
    exact nomatch h
  · replace h := gz_if' g1 h
    refine gz_iload_n (pc := 8) hX dJ7_checkFromIndexSize_8 rfl 1 rfl ?_
    refine gz_iload_n (pc := 9) hX dJ7_checkFromIndexSize_9 rfl 2 rfl ?_
    refine gz_iload_n (pc := 10) hX dJ7_checkFromIndexSize_10 rfl 0 rfl ?_
    refine gz_isub (pc := 11) hX dJ7_checkFromIndexSize_11 ?_
    refine gz_icmp_le (pc := 12) (tgt := 23) hX dJ7_checkFromIndexSize_12 (by decide) (fun g2 => ?_) (fun g2 => ?_)
    · replace h := gz_it' g2 h
      refine gz_iload_n (pc := 23) hX dJ7_checkFromIndexSize_23 rfl 0 rfl ?_
      obtain rfl := Option.some.inj h
      exact hk _ _ dJ7_checkFromIndexSize_24
    · replace h := gz_if' g2 h
      exact nomatch h
theorem ct_J7_checkFromIndexSize {G : gz_G} {l : Launch} {x0 : Int32} {x1 : Int32} {x2 : Int32} {w3 : Value}  (hw3 : w3 = .null ∨ ∃ a, w3 = .ref a) {m m9 : gM} {r : Int32} (h : cf_J7_checkFromIndexSize x0 x1 x2 m = some (r, m9)) : gz_Met cS G l yJ7_checkFromIndexSize cJ7_checkFromIndexSize 4 (some .int) (mRm 0 0) [.int x0, .int x1, .int x2, w3] m m9 (some (.int r)) := by
  rcases hw3 with rfl | ⟨_, rfl⟩ <;> exact gz_ofI (by decide +kernel) (Nat.le_of_ble_eq_true rfl) fun X _ hX hk => wm_J7_checkFromIndexSize hX h hk
theorem cg_J2_48_20 {X : gz_X} {G : gz_G} {cc : ByteArray} {nL fr lo pc : Nat} {rem : Nat × Nat} {m : gM} {lv : List (Nat × Value)} {st : List Value} (hX : gz_C cS X G cc nL RJ2 fr lo) {c : Nat} {v : Value} (hK : clc m.1 m.2.1 m.2.2.2.2.1 → m.1 c = 20 + 1) (hv : clc m.1 m.2.1 m.2.2.2.2.1 → gz_u (gz_ad G) m (ftC 20 2) c 2 = v) (hd : decode cc pc = .ok (.getfield 48, 3)) (kk : gz_V cS X G nL rem m (pc + 3) lv (v :: st)) : gz_V cS X G nL rem m pc lv (.ref (gz_ad G c) :: st) :=
  gz_getf hX (C := RJ2) (T := TJ2) (N := 3) (ci := 20) (k := 2) rfl (by decide) in_J2 (by decide) (Or.inl (hX.2.2.2.2.1 _ q239)) hd hK hv kk
/-! java/util/ArrayList.size()I -/
noncomputable def cf_J2_size (c0 : Nat) (m : gM) : Option (Int32 × gM) :=
  (if gK m c0 = 21 then some ((gI m c0 2), m) else none)
theorem wm_J2_size {X : gz_X} {G : gz_G} (hX : gz_C cS X G cJ2_size 1 RJ2 0 0) {c0 : Nat}  {m : gM} {z : (Int32 × gM)} (h : cf_J2_size c0 m = some z) (hk : (fun z : (Int32 × gM) => gz_kI cS X G 1 (0, 0) cJ2_size z.2 z.1) z) : gz_V cS X G 1 (0, 0) m 0 [(0, .ref (gz_ad G c0))] [] := by
  unfold cf_J2_size at h
  refine gz_aload_n (pc := 0) hX dJ2_size_0 rfl 0 rfl ?_
  obtain ⟨g1, h⟩ := gz_gu h
  refine cg_J2_48_20 (pc := 1) hX (c := c0) (v := .int (gI m c0 2)) (fun _ => g1) (fun _ => rfl) dJ2_size_1 ?_
  obtain rfl := Option.some.inj h
  exact hk _ _ dJ2_size_4
theorem ct_J2_size {G : gz_G} {l : Launch} {c0 : Nat}  {m m9 : gM} {r : Int32} (h : cf_J2_size c0 m = some (r, m9)) : gz_Met cS G l yJ2_size cJ2_size 1 (some .int) (mRm 0 0) [.ref (gz_ad G c0)] m m9 (some (.int r)) :=
  gz_ofI (by decide +kernel) (Nat.le_of_ble_eq_true rfl) fun X _ hX hk => wm_J2_size hX h hk
theorem cg_J2_9_20 {X : gz_X} {G : gz_G} {cc : ByteArray} {nL fr lo pc : Nat} {rem : Nat × Nat} {m : gM} {lv : List (Nat × Value)} {st : List Value} (hX : gz_C cS X G cc nL RJ2 fr lo) {c : Nat} {v : Value} (hK : clc m.1 m.2.1 m.2.2.2.2.1 → m.1 c = 20 + 1) (hv : clc m.1 m.2.1 m.2.2.2.2.1 → gz_u (gz_ad G) m (ftC 20 1) c 1 = v) (hd : decode cc pc = .ok (.getfield 9, 3)) (kk : gz_V cS X G nL rem m (pc + 3) lv (v :: st)) : gz_V cS X G nL rem m pc lv (.ref (gz_ad G c) :: st) :=
  gz_getf hX (C := RJ2) (T := TJ2) (N := 3) (ci := 20) (k := 1) rfl (by decide) in_J2 (by decide) (Or.inl (hX.2.2.2.2.1 _ q238)) hd hK hv kk
/-! java/util/ArrayList.elementData(I)Ljava/lang/Object; -/
noncomputable def cf_J2_elementData (c0 : Nat) (x1 : Int32) (m : gM) : Option (Nat × gM) :=
  (if gK m c0 = 21 then gz_let (gP m c0 1) fun r2 => (if r2 ≠ 0 then (if gK m r2 = 106 then (if gz_in x1 (gN m r2) then gz_let (gP m r2 (gz_ix x1)) fun r6 => (if r6 ≠ 0 then some (r6, m) else none) else none) else none) else none) else none)
theorem wm_J2_elementData {X : gz_X} {G : gz_G} (hX : gz_C cS X G cJ2_elementData 2 RJ2 0 0) {c0 : Nat} {x1 : Int32}  {m : gM} {z : (Nat × gM)} (h : cf_J2_elementData c0 x1 m = some z) (hk : (fun z : (Nat × gM) => gz_kR cS X G 2 (0, 0) cJ2_elementData z.2 z.1) z) : gz_V cS X G 2 (0, 0) m 0 [(0, .ref (gz_ad G c0)), (1, .int x1)] [] := by
  unfold cf_J2_elementData at h
  refine gz_aload_n (pc := 0) hX dJ2_elementData_0 rfl 0 rfl ?_
  obtain ⟨g1, h⟩ := gz_gu h
  obtain ⟨r2, er2, h⟩ := gz_lt h
  obtain ⟨g3, h⟩ := gz_gu h
  refine cg_J2_9_20 (pc := 1) hX (c := c0) (v := .ref (gz_ad G r2)) (fun _ => g1) (fun _ => gz_rq er2 g3) dJ2_elementData_1 ?_
  refine gz_iload_n (pc := 4) hX dJ2_elementData_4 rfl 1 rfl ?_
  obtain ⟨g4, h⟩ := gz_gu h
  obtain ⟨g5, h⟩ := gz_gu h
  obtain ⟨r6, er6, h⟩ := gz_lt h
  obtain ⟨g7, h⟩ := gz_gu h
  refine gz_aald (pc := 5) (c := r2) (t := 5) (n := gN m r2) hX rfl rfl rfl (v := .ref (gz_ad G r6)) (fun _ => ⟨g4, rfl⟩) g5 (fun _ => gz_rq er6 g7) dJ2_elementData_5 ?_
  obtain rfl := Option.some.inj h
  exact hk _ _ dJ2_elementData_6
theorem ct_J2_elementData {G : gz_G} {l : Launch} {c0 : Nat} {x1 : Int32}  {m m9 : gM} {r : Nat} (h : cf_J2_elementData c0 x1 m = some (r, m9)) : gz_Met cS G l yJ2_elementData cJ2_elementData 2 (some (.object "java/lang/Object")) (mRm 0 0) [.ref (gz_ad G c0), .int x1] m m9 (some (.ref (gz_ad G r))) :=
  gz_ofR (Or.inl ⟨_, rfl⟩) (by decide +kernel) (Nat.le_of_ble_eq_true rfl) fun X _ hX hk => wm_J2_elementData hX h hk
theorem cc_J6_105 {X : gz_X} {G : gz_G} {cc : ByteArray} {nL fr lo pc : Nat} {rem : Nat × Nat} {lv : List (Nat × Value)} {rest st0 : List Value} (hX : gz_C cS X G cc nL RJ6 fr lo) {x0 : Int32} {x1 : Int32} {w2 : Value} {m m9 : gM}  (hw2 : w2 = .null ∨ ∃ a, w2 = .ref a) {r : Int32} (h : cf_J7_checkIndex x0 x1 m = some (r, m9)) (hroom : 0 + 1 ≤ fr ∧ 8 + (3 + 11) + 0 ≤ lo) (hst : st0 = [w2, .int x1, .int x0] ++ rest) (hW : (rest.map fun v => v.category).sum ≤ 8) (hd : decode cc pc = .ok (.invokestatic 105, 3)) (kk : gz_V cS X G nL rem m9 (pc + 3) lv (.int r :: rest)) : gz_V cS X G nL rem m pc lv st0 :=
  gz_callS hX cs_E (As := [.int x0, .int x1, w2]) (rest := rest) (ct_J7_checkIndex (l := X.2.1) hw2 h) (lw_S q485 q486 q180 q487) (n := 3) (by decide +kernel) hroom rfl hst hW hd (rem := rem) kk
/-! java/util/Objects.checkIndex(II)I -/
noncomputable def cf_J6_checkIndex (x0 : Int32) (x1 : Int32) (m : gM) : Option (Int32 × gM) :=
  ((cf_J7_checkIndex x0 x1 m).bind fun (r1, m2) => some (r1, m2))
theorem wm_J6_checkIndex {X : gz_X} {G : gz_G} (hX : gz_C cS X G cJ6_checkIndex 2 RJ6 1 22) {x0 : Int32} {x1 : Int32}  {m : gM} {z : (Int32 × gM)} (h : cf_J6_checkIndex x0 x1 m = some z) (hk : (fun z : (Int32 × gM) => gz_kI cS X G 2 (0, 0) cJ6_checkIndex z.2 z.1) z) : gz_V cS X G 2 (0, 0) m 0 [(0, .int x0), (1, .int x1)] [] := by
  unfold cf_J6_checkIndex at h
  refine gz_iload_n (pc := 0) hX dJ6_checkIndex_0 rfl 0 rfl ?_
  refine gz_iload_n (pc := 1) hX dJ6_checkIndex_1 rfl 1 rfl ?_
  refine gz_null (pc := 2) hX dJ6_checkIndex_2 ?_
  obtain ⟨⟨r1, m2⟩, c3, h⟩ := gz_bd h
  refine cc_J6_105 (pc := 3) hX (Or.inl rfl) c3 ⟨Nat.le_of_ble_eq_true rfl, Nat.le_of_ble_eq_true rfl⟩ (rest := []) rfl (Nat.le_of_ble_eq_true rfl) dJ6_checkIndex_3 ?_
  obtain rfl := Option.some.inj h
  exact hk _ _ dJ6_checkIndex_6
theorem ct_J6_checkIndex {G : gz_G} {l : Launch} {x0 : Int32} {x1 : Int32}  {m m9 : gM} {r : Int32} (h : cf_J6_checkIndex x0 x1 m = some (r, m9)) : gz_Met cS G l yJ6_checkIndex cJ6_checkIndex 2 (some .int) (mRm 1 22) [.int x0, .int x1] m m9 (some (.int r)) :=
  gz_ofI (by decide +kernel) (Nat.le_of_ble_eq_true rfl) fun X _ hX hk => wm_J6_checkIndex hX h hk
theorem cc_X14_1 {X : gz_X} {G : gz_G} {cc : ByteArray} {nL fr lo pc : Nat} {rem : Nat × Nat} {lv : List (Nat × Value)} {rest st0 : List Value} (hX : gz_C cS X G cc nL RX14 fr lo) {c0 : Nat} {m m9 : gM}  (h : cf_X11_init c0 m = some ((), m9)) (hroom : 1 + 1 ≤ fr ∧ 8 + (1 + 11) + 20 ≤ lo) (hst : st0 = [.ref (gz_ad G c0)] ++ rest) (hW : (rest.map fun v => v.category).sum ≤ 8) (hd : decode cc pc = .ok (.invokespecial 1, 3)) (kk : gz_V cS X G nL rem m9 (pc + 3) lv (rest)) : gz_V cS X G nL rem m pc lv st0 :=
  gz_callIN hX cs_E (As := []) (rest := rest) (c := c0) (ct_X11_init (l := X.2.1) h) q1041 (cz_n (Z := cS) hX q1116 rfl) q193 q1040 rfl (n := 0) (by decide +kernel) hroom rfl hst hW hd (rem := rem) kk
theorem cp_X14_7_12 {X : gz_X} {G : gz_G} {cc : ByteArray} {nL fr lo pc : Nat} {rem : Nat × Nat} {m m9 : gM} {lv : List (Nat × Value)} {st : List Value} (hX : gz_C cS X G cc nL RX14 fr lo) (hn0 : X.2.2.2.2.2.2.2.2.1.name = "<init>") {c : Nat} {x : Int64} (hK : clc m.1 m.2.1 m.2.2.2.2.1 → m.1 c = 12 + 1) (hw : 1000 ≤ c) (hd : decode cc pc = .ok (.putfield 7, 3)) (hm : m9 = gz_sL m c 0 x) (kk : gz_V cS X G nL rem m9 (pc + 3) lv st) : gz_V cS X G nL rem m pc lv (.long x :: .ref (gz_ad G c) :: st) := by
  subst hm
  exact gz_putff hX (C := RX14) (T := TX14) (N := 1) (ci := 12) (k := 0) (μ' := gz_sL m c 0 x) rfl (by decide) in_X14 tyX14 tyX14_ok nmX14 (by decide) (hX.2.2.2.2.1 _ q1117) (fun _ h => h) rfl hn0 rfl rfl rfl rfl hd hK hw rfl rfl rfl (fun d tc j h => gz_sL_o d tc j h) (gz_sL_v (fun j => ftC 12 j) rfl) (fun h => h) kk
/-! FirstSnuffer$Fixed.<init>(J)V -/
noncomputable def cf_X14_init (c0 : Nat) (x1 : Int64) (m : gM) : Option (Unit × gM) :=
  ((cf_X11_init c0 m).bind fun (_, m2) => (if gK m2 c0 = 13 then (if 1000 ≤ c0 then gz_let (gz_sL m2 c0 0 x1) fun m6 => some ((), m6) else none) else none))
theorem wm_X14_init {X : gz_X} {G : gz_G} (hX : gz_C cS X G cX14_init 3 RX14 2 40) (hn0 : X.2.2.2.2.2.2.2.2.1.name = "<init>") {c0 : Nat} {x1 : Int64}  {m : gM} {z : (Unit × gM)} (h : cf_X14_init c0 x1 m = some z) (hk : (fun z : (Unit × gM) => gz_kV cS X G 3 (0, 0) cX14_init z.2) z) : gz_V cS X G 3 (0, 0) m 0 [(0, .ref (gz_ad G c0)), (1, .long x1)] [] := by
  unfold cf_X14_init at h
  refine gz_aload_n (pc := 0) hX dX14_init_0 rfl 0 rfl ?_
  obtain ⟨⟨⟨⟩, m2⟩, c3, h⟩ := gz_bd h
  refine cc_X14_1 (pc := 1) hX c3 ⟨Nat.le_of_ble_eq_true rfl, Nat.le_of_ble_eq_true rfl⟩ (rest := []) rfl (Nat.le_of_ble_eq_true rfl) dX14_init_1 ?_
  refine gz_aload_n (pc := 4) hX dX14_init_4 rfl 0 rfl ?_
  refine gz_lload_n (pc := 5) hX dX14_init_5 rfl 1 rfl ?_
  obtain ⟨g4, h⟩ := gz_gu h
  obtain ⟨g5, h⟩ := gz_gu h
  obtain ⟨m6, em6, h⟩ := gz_lt h
  refine cp_X14_7_12 (pc := 6) hX hn0 (c := c0) (fun _ => g4) g5 dX14_init_6 em6 ?_
  obtain rfl := Option.some.inj h
  exact hk _ _ dX14_init_9
theorem ct_X14_init {G : gz_G} {l : Launch} {c0 : Nat} {x1 : Int64}  {m m9 : gM} (h : cf_X14_init c0 x1 m = some ((), m9)) : gz_Met cS G l yX14_init cX14_init 3 none (mRm 2 40) [.ref (gz_ad G c0), .long x1] m m9 none :=
  gz_ofVc (by decide +kernel) (Nat.le_of_ble_eq_true rfl) fun X _ hn hX hk => wm_X14_init hX hn h hk
theorem cc_J15_1 {X : gz_X} {G : gz_G} {cc : ByteArray} {nL fr lo pc : Nat} {rem : Nat × Nat} {lv : List (Nat × Value)} {rest st0 : List Value} (hX : gz_C cS X G cc nL RJ15 fr lo) {c0 : Nat} {x1 : Int32} {m m9 : gM}  (h : cf_J14_init c0 x1 m = some ((), m9)) (hroom : 1 + 1 ≤ fr ∧ 8 + (2 + 11) + 20 ≤ lo) (hst : st0 = [.int x1, .ref (gz_ad G c0)] ++ rest) (hW : (rest.map fun v => v.category).sum ≤ 8) (hd : decode cc pc = .ok (.invokespecial 1, 3)) (kk : gz_V cS X G nL rem m9 (pc + 3) lv (rest)) : gz_V cS X G nL (rem.1 + (gZ m9 - gZ m), rem.2 + (gW m9 - gW m)) m pc lv st0 :=
  gz_callI hX cs_E (As := [.int x1]) (rest := rest) (c := c0) (ct_J14_init (l := X.2.1) h) q1052 q195 q1050 q1051 rfl (n := 1) (by decide +kernel) hroom rfl hst hW hd (rem := rem) kk
/-! java/lang/StringBuilder.<init>()V -/
noncomputable def cf_J15_init (c0 : Nat) (m : gM) : Option (Unit × gM) :=
  ((cf_J14_init c0 (16 : Int32) m).bind fun (_, m2) => (if gZ m ≤ gZ m2 ∧ gW m ≤ gW m2 then some ((), m2) else none))
theorem wm_J15_init {X : gz_X} {G : gz_G} {zE : Nat × Nat} (hX : gz_C cS X G cJ15_init 1 RJ15 2 41) (hn0 : X.2.2.2.2.2.2.2.2.1.name = "<init>") {c0 : Nat}  {m : gM} {z : (Unit × gM)} (h : cf_J15_init c0 m = some z) (hk : (fun z : (Unit × gM) => gz_kVa cS X G 1 zE cJ15_init z.2) z) : gz_Va cS X G 1 zE m 0 [(0, .ref (gz_ad G c0))] [] := by
  unfold cf_J15_init at h
  refine gz_Vs (fun _ kk => gz_aload_n (pc := 0) hX dJ15_init_0 rfl 0 rfl kk) rfl ?_
  refine gz_Vs (fun _ kk => gz_bipush (pc := 1) (v := (16 : Int32)) hX dJ15_init_1 (by decide) kk) rfl ?_
  obtain ⟨⟨⟨⟩, m2⟩, c3, h⟩ := gz_bd h
  obtain ⟨g4, h⟩ := gz_gu h
  refine gz_Vc (k := gZ m2 - gZ m) (n := gW m2 - gW m) (fun _ kk => cc_J15_1 (pc := 3) hX c3 ⟨Nat.le_of_ble_eq_true rfl, Nat.le_of_ble_eq_true rfl⟩ (rest := []) rfl (Nat.le_of_ble_eq_true rfl) dJ15_init_3 kk) ⟨by have := g4.1; dsimp only [gZ] at *; omega, by have := g4.2; dsimp only [gW] at *; omega⟩ ?_
  obtain rfl := Option.some.inj h
  exact hk _ _ dJ15_init_6
theorem ct_J15_init {G : gz_G} {l : Launch} {c0 : Nat}  {m m9 : gM} (h : cf_J15_init c0 m = some ((), m9)) : gz_Met cS G l yJ15_init cJ15_init 1 none (mRc 2 41 (gZ m9 - gZ m) (gW m9 - gW m)) [.ref (gz_ad G c0)] m m9 none :=
  gz_ofVc (by decide +kernel) (Nat.le_of_ble_eq_true rfl) fun X _ hn hX hk => (wm_J15_init (zE := m9.2.2.2.2.2) hX hn h (fun pc lv hd => gz_Ve (hk pc lv hd))).2
theorem cp_X2_3_2 {X : gz_X} {G : gz_G} {cc : ByteArray} {nL fr lo pc : Nat} {rem : Nat × Nat} {m m9 : gM} {lv : List (Nat × Value)} {st : List Value} (hX : gz_C cS X G cc nL RX2 fr lo) (hn0 : X.2.2.2.2.2.2.2.2.1.name = "<init>") {c : Nat} {r : Nat} (hK : clc m.1 m.2.1 m.2.2.2.2.1 → m.1 c = 2 + 1) (hw : 1000 ≤ c) (hs : sr c 7 = 0 ∧ r ≠ 0) (hd : decode cc pc = .ok (.putfield 3, 3)) (hm : m9 = gz_sP m c 7 r) (kk : gz_V cS X G nL rem m9 (pc + 3) lv st) : gz_V cS X G nL rem m pc lv (.ref (gz_ad G r) :: .ref (gz_ad G c) :: st) := by
  subst hm
  exact gz_putff hX (C := RX2) (T := TX2) (N := 8) (ci := 2) (k := 7) (μ' := gz_sP m c 7 r) (v := .ref (gz_ad G r)) rfl (by decide) in_X2 tyX2 tyX2_ok nmX2 (by decide) (hX.2.2.2.2.1 _ q377) (fun _ h => h) rfl hn0 rfl rfl rfl rfl hd hK hw rfl rfl rfl (fun d tc j h => gz_sP_o d tc j h) (by intro j; rw [← gz_rfp hs.2]; exact gz_sP_v (fun j => ftC 2 j) rfl j) (clc_sP hs.1) kk
theorem cn_X2_15 {X : gz_X} {G : gz_G} {cc : ByteArray} {nL fr lo pc : Nat} {rem : Nat × Nat} {m m9 : gM} {lv : List (Nat × Value)} {st : List Value} (hX : gz_C cS X G cc nL RX2 fr lo) (hz : gZ m ≠ 0) (hd : decode cc pc = .ok (.new 15, 3)) (hm : m9 = gz_al m (3 + 1) 0 8) (kk : gz_V cS X G nL rem m9 (pc + 3) lv (.ref (gz_ad G (gZ m)) :: st)) : gz_V cS X G nL (rem.1 + 1, rem.2 + 8) m pc lv st :=
  gz_new hX (C := RX3) (T := TX3) (N := 8) (ci := 3) rfl (by decide) in_X3 tyX3 tyX3_ok (by decide +kernel) q297 q298 q176 hz clc_al hd hm kk
theorem cc_X2_17 {X : gz_X} {G : gz_G} {cc : ByteArray} {nL fr lo pc : Nat} {rem : Nat × Nat} {lv : List (Nat × Value)} {rest st0 : List Value} (hX : gz_C cS X G cc nL RX2 fr lo) {c0 : Nat} {m m9 : gM}  (h : cf_X3_init c0 m = some ((), m9)) (hroom : 2 + 1 ≤ fr ∧ 8 + (1 + 11) + 44 ≤ lo) (hst : st0 = [.ref (gz_ad G c0)] ++ rest) (hW : (rest.map fun v => v.category).sum ≤ 8) (hd : decode cc pc = .ok (.invokespecial 17, 3)) (kk : gz_V cS X G nL rem m9 (pc + 3) lv (rest)) : gz_V cS X G nL rem m pc lv st0 :=
  gz_callI hX cs_E (As := []) (rest := rest) (c := c0) (ct_X3_init (l := X.2.1) h) q338 q176 q336 q337 rfl (n := 0) (by decide +kernel) hroom rfl hst hW hd (rem := rem) kk
theorem cp_X2_18_2 {X : gz_X} {G : gz_G} {cc : ByteArray} {nL fr lo pc : Nat} {rem : Nat × Nat} {m m9 : gM} {lv : List (Nat × Value)} {st : List Value} (hX : gz_C cS X G cc nL RX2 fr lo) (hn0 : X.2.2.2.2.2.2.2.2.1.name = "<init>") {c : Nat} {r : Nat} (hK : clc m.1 m.2.1 m.2.2.2.2.1 → m.1 c = 2 + 1) (hw : 1000 ≤ c) (hs : sr c 0 = 0 ∧ r ≠ 0) (hd : decode cc pc = .ok (.putfield 18, 3)) (hm : m9 = gz_sP m c 0 r) (kk : gz_V cS X G nL rem m9 (pc + 3) lv st) : gz_V cS X G nL rem m pc lv (.ref (gz_ad G r) :: .ref (gz_ad G c) :: st) := by
  subst hm
  exact gz_putff hX (C := RX2) (T := TX2) (N := 8) (ci := 2) (k := 0) (μ' := gz_sP m c 0 r) (v := .ref (gz_ad G r)) rfl (by decide) in_X2 tyX2 tyX2_ok nmX2 (by decide) (hX.2.2.2.2.1 _ q370) (fun _ h => h) rfl hn0 rfl rfl rfl rfl hd hK hw rfl rfl rfl (fun d tc j h => gz_sP_o d tc j h) (by intro j; rw [← gz_rfp hs.2]; exact gz_sP_v (fun j => ftC 2 j) rfl j) (clc_sP hs.1) kk
/-! FirstSnuffer$Reader.<init>(LFirstSnuffer;)V -/
noncomputable def cf_X2_init (c1 : Nat) (m : gM) : Option (Unit × gM) :=
  (if sr 1011 7 = 0 ∧ c1 ≠ 0 then gz_let (gz_sP m 1011 7 c1) fun m2 => (if gZ m2 ≠ 0 then gz_let (gz_al m2 (3 + 1) 0 8) fun m4 => ((cf_X3_init (gZ m2) m4).bind fun (_, m6) => (if m6.2.2.2.2.2 = m4.2.2.2.2.2 then (if sr 1011 0 = 0 ∧ (gZ m2) ≠ 0 then gz_let (gz_sP m6 1011 0 (gZ m2)) fun m10 => some ((), m10) else none) else none)) else none) else none)
theorem wm_X2_init {X : gz_X} {G : gz_G} {zE : Nat × Nat} (hX : gz_C cS X G cX2_init 2 RX2 3 64) (hn0 : X.2.2.2.2.2.2.2.2.1.name = "<init>") {c1 : Nat}  {m : gM} {z : (Unit × gM)} (h : cf_X2_init c1 m = some z) (hk : (fun z : (Unit × gM) => gz_kVa cS X G 2 zE cX2_init z.2) z) : gz_Va cS X G 2 zE m 0 [(0, .ref (gz_ad G 1011)), (1, .ref (gz_ad G c1))] [] := by
  unfold cf_X2_init at h
  refine gz_Vs (fun _ kk => gz_aload_n (pc := 0) hX dX2_init_0 rfl 0 rfl kk) rfl ?_
  refine gz_Vs (fun _ kk => gz_aload_n (pc := 1) hX dX2_init_1 rfl 1 rfl kk) rfl ?_
  obtain ⟨g1, h⟩ := gz_gu h
  obtain ⟨m2, em2, h⟩ := gz_lt h
  refine gz_Vs (fun _ kk => cp_X2_3_2 (pc := 2) hX hn0 (c := 1011) (fun h => cz_k h rfl) (Nat.le_of_ble_eq_true rfl) g1 dX2_init_2 em2 kk) (by rw [em2]; rfl) ?_
  refine gz_Vs (fun _ kk => gz_aload_n (pc := 5) hX dX2_init_5 rfl 0 rfl kk) rfl ?_
  refine gz_Vs (fun _ kk => gz_objI (pc := 6) hX q296 q214 q215 ⟨Nat.le_of_ble_eq_true rfl, Nat.le_of_ble_eq_true rfl⟩ (Nat.le_of_ble_eq_true rfl) dX2_init_6 kk) rfl ?_
  refine gz_Vs (fun _ kk => gz_aload_n (pc := 9) hX dX2_init_9 rfl 0 rfl kk) rfl ?_
  obtain ⟨g3, h⟩ := gz_gu h
  obtain ⟨m4, em4, h⟩ := gz_lt h
  refine gz_Vn (fun _ kk => cn_X2_15 (pc := 10) hX g3 dX2_init_10 em4 kk) em4 ?_
  refine gz_Vs (fun _ kk => gz_dup (pc := 13) hX dX2_init_13 rfl kk) rfl ?_
  obtain ⟨⟨⟨⟩, m6⟩, c7, h⟩ := gz_bd h
  obtain ⟨g8, h⟩ := gz_gu h
  refine gz_Vs (fun _ kk => cc_X2_17 (pc := 14) hX c7 ⟨Nat.le_of_ble_eq_true rfl, Nat.le_of_ble_eq_true rfl⟩ (rest := [.ref (gz_ad G (gZ m2)), .ref (gz_ad G 1011)]) rfl (Nat.le_of_ble_eq_true rfl) dX2_init_14 kk) g8 ?_
  obtain ⟨g9, h⟩ := gz_gu h
  obtain ⟨m10, em10, h⟩ := gz_lt h
  refine gz_Vs (fun _ kk => cp_X2_18_2 (pc := 17) hX hn0 (c := 1011) (fun h => cz_k h rfl) (Nat.le_of_ble_eq_true rfl) g9 dX2_init_17 em10 kk) (by rw [em10]; rfl) ?_
  obtain rfl := Option.some.inj h
  exact hk _ _ dX2_init_20
theorem ct_X2_init {G : gz_G} {l : Launch} {c1 : Nat}  {m m9 : gM} (h : cf_X2_init c1 m = some ((), m9)) : gz_Met cS G l yX2_init cX2_init 2 none (mRc 3 64 (gZ m9 - gZ m) (gW m9 - gW m)) [.ref (gz_ad G 1011), .ref (gz_ad G c1)] m m9 none :=
  gz_ofVc (by decide +kernel) (Nat.le_of_ble_eq_true rfl) fun X _ hn hX hk => (wm_X2_init (zE := m9.2.2.2.2.2) hX hn h (fun pc lv hd => gz_Ve (hk pc lv hd))).2
theorem cg_X2_36_2 {X : gz_X} {G : gz_G} {cc : ByteArray} {nL fr lo pc : Nat} {rem : Nat × Nat} {m : gM} {lv : List (Nat × Value)} {st : List Value} (hX : gz_C cS X G cc nL RX2 fr lo) {c : Nat} {v : Value} (hK : clc m.1 m.2.1 m.2.2.2.2.1 → m.1 c = 2 + 1) (hv : clc m.1 m.2.1 m.2.2.2.2.1 → gz_u (gz_ad G) m (ftC 2 2) c 2 = v) (hd : decode cc pc = .ok (.getfield 36, 3)) (kk : gz_V cS X G nL rem m (pc + 3) lv (v :: st)) : gz_V cS X G nL rem m pc lv (.ref (gz_ad G c) :: st) :=
  gz_getf hX (C := RX2) (T := TX2) (N := 8) (ci := 2) (k := 2) rfl (by decide) in_X2 (by decide) (Or.inl (hX.2.2.2.2.1 _ q372)) hd hK hv kk
theorem cc_X2_39 {X : gz_X} {G : gz_G} {cc : ByteArray} {nL fr lo pc : Nat} {rem : Nat × Nat} {lv : List (Nat × Value)} {rest st0 : List Value} (hX : gz_C cS X G cc nL RX2 fr lo) {x1 : Int32} {m m9 : gM} (hK : clc m.1 m.2.1 m.2.2.2.2.1 → m.1 1011 = 2 + 1)  {r : Int32} (h : cf_X2_byteAt x1 m = some (r, m9)) (hroom : 0 + 1 ≤ fr ∧ 8 + (2 + 11) + 0 ≤ lo) (hst : st0 = [.int x1, .ref (gz_ad G 1011)] ++ rest) (hW : (rest.map fun v => v.category).sum ≤ 8) (hd : decode cc pc = .ok (.invokevirtual 39, 3)) (kk : gz_V cS X G nL rem m9 (pc + 3) lv (.int r :: rest)) : gz_V cS X G nL rem m pc lv st0 :=
  gz_callV2 hX cs_E (As := [.int x1]) (rest := rest) (q := (RX2, TX2, 8)) (ci := 2) (c := 1011) (ct_X2_byteAt (l := X.2.1) h) (lw_V q623 q625 qs6 q172 q626) (n := 1) (by decide +kernel) hroom rfl rfl (by decide) hK hst hW hd (rem := rem) kk
theorem cp_X2_36_2 {X : gz_X} {G : gz_G} {cc : ByteArray} {nL fr lo pc : Nat} {rem : Nat × Nat} {m m9 : gM} {lv : List (Nat × Value)} {st : List Value} (hX : gz_C cS X G cc nL RX2 fr lo) {c : Nat} {x : Int32} (hK : clc m.1 m.2.1 m.2.2.2.2.1 → m.1 c = 2 + 1) (hw : 1000 ≤ c) (hd : decode cc pc = .ok (.putfield 36, 3)) (hm : m9 = gz_sI m c 2 x) (kk : gz_V cS X G nL rem m9 (pc + 3) lv st) : gz_V cS X G nL rem m pc lv (.int x :: .ref (gz_ad G c) :: st) := by
  subst hm
  exact gz_putf hX (C := RX2) (T := TX2) (N := 8) (ci := 2) (k := 2) (ty := .int) (μ' := gz_sI m c 2 x) rfl (by decide) in_X2 tyX2 tyX2_ok nmX2 (by decide) (Or.inl (hX.2.2.2.2.1 _ q372)) rfl rfl rfl rfl hd hK hw rfl rfl rfl (fun d tc j h => gz_sI_o d tc j h) (gz_sI_v (fun j => ftC 2 j) rfl) (fun h => h) kk
/-! FirstSnuffer$Reader.here()I -/
def mP_X2_here_0 (X : gz_X) (G : gz_G) (q : (gM)) : Prop := gz_V cS X G 1 (0, 0) q 0 [(0, .ref (gz_ad G 1011))] []
noncomputable def mj_X2_here_26  (m : gM) : Option ((gM) ⊕ (Int32 × gM)) :=
  gz_let (gz_sI m 1011 2 ((gI m 1011 2) + (1 : Int32))) fun m1 => some (Sum.inl (m1))
theorem wb_X2_here_26 {X : gz_X} {G : gz_G} (hX : gz_C cS X G cX2_here 1 RX2 1 21)   {m : gM} {z : ((gM) ⊕ (Int32 × gM))} (h : mj_X2_here_26  m = some z) (hk : (Sum.elim (mP_X2_here_0 X G) (fun z : (Int32 × gM) => gz_kI cS X G 1 (0, 0) cX2_here z.2 z.1)) z) : gz_V cS X G 1 (0, 0) m 26 [(0, .ref (gz_ad G 1011))] [] := by
  unfold mj_X2_here_26 at h
  refine gz_aload_n (pc := 26) hX dX2_here_26 rfl 0 rfl ?_
  refine gz_dup (pc := 27) hX dX2_here_27 rfl ?_
  refine cg_X2_36_2 (pc := 28) hX (c := 1011) (v := .int (gI m 1011 2)) (fun h => cz_k h rfl) (fun _ => rfl) dX2_here_28 ?_
  refine gz_iconst (pc := 31) (v := (1 : Int32)) hX dX2_here_31 (by decide) ?_
  refine gz_iadd (pc := 32) hX dX2_here_32 ?_
  obtain ⟨m1, em1, h⟩ := gz_lt h
  refine cp_X2_36_2 (pc := 33) hX (c := 1011) (fun h => cz_k h rfl) (Nat.le_of_ble_eq_true rfl) dX2_here_33 em1 ?_
  refine gz_goto (pc := 36) (tgt := 0) hX dX2_here_36 (by decide) ?_
  obtain rfl := Option.some.inj h
  exact hk
noncomputable def mb_X2_here_0  (m : gM) : Option ((gM) ⊕ (Int32 × gM)) :=
  ((cf_X2_byteAt (gI m 1011 2) m).bind fun (r1, m2) => (if r1 = (32 : Int32) then (mj_X2_here_26  m2) else ((cf_X2_byteAt (gI m2 1011 2) m2).bind fun (r5, m6) => (if r5 = (10 : Int32) then (mj_X2_here_26  m6) else ((cf_X2_byteAt (gI m6 1011 2) m6).bind fun (r9, m10) => some (Sum.inr (r9, m10)))))))
theorem wb_X2_here_0 {X : gz_X} {G : gz_G} (hX : gz_C cS X G cX2_here 1 RX2 1 21)   {m : gM} {z : ((gM) ⊕ (Int32 × gM))} (h : mb_X2_here_0  m = some z) (hk : (Sum.elim (mP_X2_here_0 X G) (fun z : (Int32 × gM) => gz_kI cS X G 1 (0, 0) cX2_here z.2 z.1)) z) : gz_V cS X G 1 (0, 0) m 0 [(0, .ref (gz_ad G 1011))] [] := by
  unfold mb_X2_here_0 at h
  refine gz_aload_n (pc := 0) hX dX2_here_0 rfl 0 rfl ?_
  refine gz_aload_n (pc := 1) hX dX2_here_1 rfl 0 rfl ?_
  refine cg_X2_36_2 (pc := 2) hX (c := 1011) (v := .int (gI m 1011 2)) (fun h => cz_k h rfl) (fun _ => rfl) dX2_here_2 ?_
  obtain ⟨⟨r1, m2⟩, c3, h⟩ := gz_bd h
  refine cc_X2_39 (pc := 5) hX (fun h => cz_k h rfl) c3 ⟨Nat.le_of_ble_eq_true rfl, Nat.le_of_ble_eq_true rfl⟩ (rest := []) rfl (Nat.le_of_ble_eq_true rfl) dX2_here_5 ?_
  refine gz_bipush (pc := 8) (v := (32 : Int32)) hX dX2_here_8 (by decide) ?_
  refine gz_icmp_eq (pc := 10) (tgt := 26) hX dX2_here_10 (by decide) (fun g4 => ?_) (fun g4 => ?_)
  · replace h := gz_it' g4 h
    exact wb_X2_here_26 hX h hk
  · replace h := gz_if' g4 h
    refine gz_aload_n (pc := 13) hX dX2_here_13 rfl 0 rfl ?_
    refine gz_aload_n (pc := 14) hX dX2_here_14 rfl 0 rfl ?_
    refine cg_X2_36_2 (pc := 15) hX (c := 1011) (v := .int (gI m2 1011 2)) (fun h => cz_k h rfl) (fun _ => rfl) dX2_here_15 ?_
    obtain ⟨⟨r5, m6⟩, c7, h⟩ := gz_bd h
    refine cc_X2_39 (pc := 18) hX (fun h => cz_k h rfl) c7 ⟨Nat.le_of_ble_eq_true rfl, Nat.le_of_ble_eq_true rfl⟩ (rest := []) rfl (Nat.le_of_ble_eq_true rfl) dX2_here_18 ?_
    refine gz_bipush (pc := 21) (v := (10 : Int32)) hX dX2_here_21 (by decide) ?_
    refine gz_icmp_ne (pc := 23) (tgt := 39) hX dX2_here_23 (by decide) (fun g8 => ?_) (fun g8 => ?_)
    · replace h := gz_if' g8 h
      refine gz_aload_n (pc := 39) hX dX2_here_39 rfl 0 rfl ?_
      refine gz_aload_n (pc := 40) hX dX2_here_40 rfl 0 rfl ?_
      refine cg_X2_36_2 (pc := 41) hX (c := 1011) (v := .int (gI m6 1011 2)) (fun h => cz_k h rfl) (fun _ => rfl) dX2_here_41 ?_
      obtain ⟨⟨r9, m10⟩, c11, h⟩ := gz_bd h
      refine cc_X2_39 (pc := 44) hX (fun h => cz_k h rfl) c11 ⟨Nat.le_of_ble_eq_true rfl, Nat.le_of_ble_eq_true rfl⟩ (rest := []) rfl (Nat.le_of_ble_eq_true rfl) dX2_here_44 ?_
      obtain rfl := Option.some.inj h
      exact hk _ _ dX2_here_47
    · replace h := gz_it' g8 h
      exact wb_X2_here_26 hX h hk
noncomputable def ml_X2_here_0  (m : gM) : Option (Int32 × gM) := gz_loop (fun q : (gM) => mb_X2_here_0  q) (m)
theorem wl_X2_here_0 {X : gz_X} {G : gz_G} (hX : gz_C cS X G cX2_here 1 RX2 1 21)   {m : gM} {z : (Int32 × gM)} (h : ml_X2_here_0  m = some z) (hk : (fun z : (Int32 × gM) => gz_kI cS X G 1 (0, 0) cX2_here z.2 z.1) z) : gz_V cS X G 1 (0, 0) m 0 [(0, .ref (gz_ad G 1011))] [] := by
  have hp : mP_X2_here_0 X G (m) := gz_loop_ind (fun q z hz hkz => wb_X2_here_0 hX  hz hkz) h hk
  exact hp
noncomputable def cf_X2_here  (m : gM) : Option (Int32 × gM) :=
  (ml_X2_here_0  m)
theorem wm_X2_here {X : gz_X} {G : gz_G} (hX : gz_C cS X G cX2_here 1 RX2 1 21)   {m : gM} {z : (Int32 × gM)} (h : cf_X2_here  m = some z) (hk : (fun z : (Int32 × gM) => gz_kI cS X G 1 (0, 0) cX2_here z.2 z.1) z) : gz_V cS X G 1 (0, 0) m 0 [(0, .ref (gz_ad G 1011))] [] := by
  unfold cf_X2_here at h
  exact wl_X2_here_0 hX h hk
theorem ct_X2_here {G : gz_G} {l : Launch}   {m m9 : gM} {r : Int32} (h : cf_X2_here  m = some (r, m9)) : gz_Met cS G l yX2_here cX2_here 1 (some .int) (mRm 1 21) [.ref (gz_ad G 1011)] m m9 (some (.int r)) :=
  gz_ofI (by decide +kernel) (Nat.le_of_ble_eq_true rfl) fun X _ hX hk => wm_X2_here hX h hk
/-! FirstSnuffer$Reader.most(ZI)V -/
noncomputable def cf_X2_most (x1 : Int32) (x2 : Int32) (m : gM) : Option (Option Unit × gM) :=
  (if x1 = (0 : Int32) then some (some (), m) else ((cf_X2_wrong (5 : Int32) x2 m).bind fun (r2, m3) => (if m3.2.2.2.2.2 = m.2.2.2.2.2 then (if r2 = 1012 then some (none, m3) else none) else none)))
theorem wm_X2_most {X : gz_X} {G : gz_G} {zE : Nat × Nat} (hX : gz_C cS X G cX2_most 3 RX2 1 22) {x1 : Int32} {x2 : Int32}  {m : gM} {z : (Option Unit × gM)} (h : cf_X2_most x1 x2 m = some z) (hk : (fun z : (Option Unit × gM) => gx_k (fun _ => gz_kVa cS X G 3 zE cX2_most z.2) (∀ (pc : Nat) (lv : List (Nat × Value)), gz_VXa cS X G 3 zE z.2 pc lv) z.1) z) : gz_Va cS X G 3 zE m 0 [(0, .ref (gz_ad G 1011)), (1, .int x1), (2, .int x2)] [] := by
  unfold cf_X2_most at h
  refine gz_Vs (fun _ kk => gz_iload_n (pc := 0) hX dX2_most_0 rfl 1 rfl kk) rfl ?_
  refine gz_Vif (μ1 := m) (μ2 := m) (fun _ k1 k2 => gz_if_eq (pc := 1) (tgt := 11) hX dX2_most_1 (by decide) k1 k2) (by first | exact Classical.em _ | exact (Classical.em _).symm) (fun g1 => ?_) (fun g1 => ?_)
  · replace h := gz_it' g1 h
    obtain rfl := Option.some.inj h
    exact hk _ _ dX2_most_11
  · replace h := gz_if' g1 h
    refine gz_Vs (fun _ kk => gz_aload_n (pc := 4) hX dX2_most_4 rfl 0 rfl kk) rfl ?_
    refine gz_Vs (fun _ kk => gz_iconst (pc := 5) (v := (5 : Int32)) hX dX2_most_5 (by decide) kk) rfl ?_
    refine gz_Vs (fun _ kk => gz_iload_n (pc := 6) hX dX2_most_6 rfl 2 rfl kk) rfl ?_
    obtain ⟨⟨r2, m3⟩, c4, h⟩ := gz_bd h
    obtain ⟨g5, h⟩ := gz_gu h
    refine gz_Vs (fun _ kk => cc_X2_47 (pc := 7) hX (fun h => cz_k h rfl) c4 ⟨Nat.le_of_ble_eq_true rfl, Nat.le_of_ble_eq_true rfl⟩ (rest := []) rfl (Nat.le_of_ble_eq_true rfl) dX2_most_7 kk) g5 ?_
    obtain ⟨g6, h⟩ := gz_gu h
    subst g6
    obtain rfl := Option.some.inj h
    exact gz_athrowa hX dX2_most_10 (hk _ _)
theorem ct_X2_most {G : gz_G} {l : Launch} {x1 : Int32} {x2 : Int32}  {m m9 : gM} {o : Option Unit} (h : cf_X2_most x1 x2 m = some (o, m9)) : gx_Met cS G l yX2_most cX2_most 3 none (mRc 1 22 (gZ m9 - gZ m) (gW m9 - gW m)) [.ref (gz_ad G 1011), .int x1, .int x2] m m9 (o.map (fun _ => none)) :=
  gx_ofV (by decide +kernel) (Nat.le_of_ble_eq_true rfl) ⟨_, rfl, rfl⟩ (fun h => cz_k (c := 1012) (k := 3) h rfl) fun X _ hX hk => (wm_X2_most (zE := m9.2.2.2.2.2) hX h (gx_km (fun _ q pc lv hd => gz_Ve (q pc lv hd)) (fun q pc lv => gz_VXe (q pc lv)) hk)).2
theorem cc_X2_51 {X : gz_X} {G : gz_G} {cc : ByteArray} {nL fr lo pc : Nat} {rem : Nat × Nat} {lv : List (Nat × Value)} {rest st0 : List Value} (hX : gz_C cS X G cc nL RX2 fr lo) {x0 : Int32} {m m9 : gM}  {r : Int32} (h : cf_X0_isLetter x0 m = some (r, m9)) (hroom : 0 + 1 ≤ fr ∧ 8 + (1 + 11) + 0 ≤ lo) (hst : st0 = [.int x0] ++ rest) (hW : (rest.map fun v => v.category).sum ≤ 8) (hd : decode cc pc = .ok (.invokestatic 51, 3)) (kk : gz_V cS X G nL rem m9 (pc + 3) lv (.int r :: rest)) : gz_V cS X G nL rem m pc lv st0 :=
  gz_callSN hX cs_E (As := [.int x0]) (rest := rest) (ct_X0_isLetter (l := X.2.1) h) q641 (cz_n (Z := cS) hX q639 rfl) q167 q640 (n := 1) (by decide +kernel) hroom rfl hst hW hd (rem := rem) kk
theorem cc_X2_55 {X : gz_X} {G : gz_G} {cc : ByteArray} {nL fr lo pc : Nat} {rem : Nat × Nat} {lv : List (Nat × Value)} {rest st0 : List Value} (hX : gz_C cS X G cc nL RX2 fr lo) {x0 : Int32} {m m9 : gM}  {r : Int32} (h : cf_X0_isDigit x0 m = some (r, m9)) (hroom : 0 + 1 ≤ fr ∧ 8 + (1 + 11) + 0 ≤ lo) (hst : st0 = [.int x0] ++ rest) (hW : (rest.map fun v => v.category).sum ≤ 8) (hd : decode cc pc = .ok (.invokestatic 55, 3)) (kk : gz_V cS X G nL rem m9 (pc + 3) lv (.int r :: rest)) : gz_V cS X G nL rem m pc lv st0 :=
  gz_callSN hX cs_E (As := [.int x0]) (rest := rest) (ct_X0_isDigit (l := X.2.1) h) q648 (cz_n (Z := cS) hX q646 rfl) q167 q647 (n := 1) (by decide +kernel) hroom rfl hst hW hd (rem := rem) kk
/-! FirstSnuffer$Reader.parted()V -/
noncomputable def mj_X2_parted_32  (m : gM) : Option (Option Unit × gM) :=
  ((cf_X2_wrong (1 : Int32) (gI m 1011 2) m).bind fun (r1, m2) => (if m2.2.2.2.2.2 = m.2.2.2.2.2 then (if r1 = 1012 then some (none, m2) else none) else none))
theorem wb_X2_parted_32 {X : gz_X} {G : gz_G} {zE : Nat × Nat} (hX : gz_C cS X G cX2_parted 1 RX2 1 22)   {m : gM} {z : (Option Unit × gM)} (h : mj_X2_parted_32  m = some z) (hk : (fun z : (Option Unit × gM) => gx_k (fun _ => gz_kVa cS X G 1 zE cX2_parted z.2) (∀ (pc : Nat) (lv : List (Nat × Value)), gz_VXa cS X G 1 zE z.2 pc lv) z.1) z) : gz_Va cS X G 1 zE m 32 [(0, .ref (gz_ad G 1011))] [] := by
  unfold mj_X2_parted_32 at h
  refine gz_Vs (fun _ kk => gz_aload_n (pc := 32) hX dX2_parted_32 rfl 0 rfl kk) rfl ?_
  refine gz_Vs (fun _ kk => gz_iconst (pc := 33) (v := (1 : Int32)) hX dX2_parted_33 (by decide) kk) rfl ?_
  refine gz_Vs (fun _ kk => gz_aload_n (pc := 34) hX dX2_parted_34 rfl 0 rfl kk) rfl ?_
  refine gz_Vs (fun _ kk => cg_X2_36_2 (pc := 35) hX (c := 1011) (v := .int (gI m 1011 2)) (fun h => cz_k h rfl) (fun _ => rfl) dX2_parted_35 kk) rfl ?_
  obtain ⟨⟨r1, m2⟩, c3, h⟩ := gz_bd h
  obtain ⟨g4, h⟩ := gz_gu h
  refine gz_Vs (fun _ kk => cc_X2_47 (pc := 38) hX (fun h => cz_k h rfl) c3 ⟨Nat.le_of_ble_eq_true rfl, Nat.le_of_ble_eq_true rfl⟩ (rest := []) rfl (Nat.le_of_ble_eq_true rfl) dX2_parted_38 kk) g4 ?_
  obtain ⟨g5, h⟩ := gz_gu h
  subst g5
  obtain rfl := Option.some.inj h
  exact gz_athrowa hX dX2_parted_41 (hk _ _)
noncomputable def cf_X2_parted  (m : gM) : Option (Option Unit × gM) :=
  ((cf_X2_byteAt ((gI m 1011 2) - (1 : Int32)) m).bind fun (r1, m2) => (if m2.2.2.2.2.2 = m.2.2.2.2.2 then ((cf_X0_isLetter r1 m2).bind fun (r5, m6) => (if m6.2.2.2.2.2 = m2.2.2.2.2.2 then (if r5 = (0 : Int32) then ((cf_X2_byteAt ((gI m6 1011 2) - (1 : Int32)) m6).bind fun (r10, m11) => (if m11.2.2.2.2.2 = m6.2.2.2.2.2 then ((cf_X0_isDigit r10 m11).bind fun (r14, m15) => (if m15.2.2.2.2.2 = m11.2.2.2.2.2 then (if r14 = (0 : Int32) then some (some (), m15) else (mj_X2_parted_32  m15)) else none)) else none)) else (mj_X2_parted_32  m6)) else none)) else none))
theorem wm_X2_parted {X : gz_X} {G : gz_G} {zE : Nat × Nat} (hX : gz_C cS X G cX2_parted 1 RX2 1 22)   {m : gM} {z : (Option Unit × gM)} (h : cf_X2_parted  m = some z) (hk : (fun z : (Option Unit × gM) => gx_k (fun _ => gz_kVa cS X G 1 zE cX2_parted z.2) (∀ (pc : Nat) (lv : List (Nat × Value)), gz_VXa cS X G 1 zE z.2 pc lv) z.1) z) : gz_Va cS X G 1 zE m 0 [(0, .ref (gz_ad G 1011))] [] := by
  unfold cf_X2_parted at h
  refine gz_Vs (fun _ kk => gz_aload_n (pc := 0) hX dX2_parted_0 rfl 0 rfl kk) rfl ?_
  refine gz_Vs (fun _ kk => gz_aload_n (pc := 1) hX dX2_parted_1 rfl 0 rfl kk) rfl ?_
  refine gz_Vs (fun _ kk => cg_X2_36_2 (pc := 2) hX (c := 1011) (v := .int (gI m 1011 2)) (fun h => cz_k h rfl) (fun _ => rfl) dX2_parted_2 kk) rfl ?_
  refine gz_Vs (fun _ kk => gz_iconst (pc := 5) (v := (1 : Int32)) hX dX2_parted_5 (by decide) kk) rfl ?_
  refine gz_Vs (fun _ kk => gz_isub (pc := 6) hX dX2_parted_6 kk) rfl ?_
  obtain ⟨⟨r1, m2⟩, c3, h⟩ := gz_bd h
  obtain ⟨g4, h⟩ := gz_gu h
  refine gz_Vs (fun _ kk => cc_X2_39 (pc := 7) hX (fun h => cz_k h rfl) c3 ⟨Nat.le_of_ble_eq_true rfl, Nat.le_of_ble_eq_true rfl⟩ (rest := []) rfl (Nat.le_of_ble_eq_true rfl) dX2_parted_7 kk) g4 ?_
  obtain ⟨⟨r5, m6⟩, c7, h⟩ := gz_bd h
  obtain ⟨g8, h⟩ := gz_gu h
  refine gz_Vs (fun _ kk => cc_X2_51 (pc := 10) hX c7 ⟨Nat.le_of_ble_eq_true rfl, Nat.le_of_ble_eq_true rfl⟩ (rest := []) rfl (Nat.le_of_ble_eq_true rfl) dX2_parted_10 kk) g8 ?_
  refine gz_Vif (μ1 := m) (μ2 := m) (fun _ k1 k2 => gz_if_ne (pc := 13) (tgt := 32) hX dX2_parted_13 (by decide) k1 k2) (by first | exact Classical.em _ | exact (Classical.em _).symm) (fun g9 => ?_) (fun g9 => ?_)
  · replace h := gz_if' g9 h
    exact wb_X2_parted_32 hX h hk
  · replace h := gz_it' g9 h
    refine gz_Vs (fun _ kk => gz_aload_n (pc := 16) hX dX2_parted_16 rfl 0 rfl kk) rfl ?_
    refine gz_Vs (fun _ kk => gz_aload_n (pc := 17) hX dX2_parted_17 rfl 0 rfl kk) rfl ?_
    refine gz_Vs (fun _ kk => cg_X2_36_2 (pc := 18) hX (c := 1011) (v := .int (gI m6 1011 2)) (fun h => cz_k h rfl) (fun _ => rfl) dX2_parted_18 kk) rfl ?_
    refine gz_Vs (fun _ kk => gz_iconst (pc := 21) (v := (1 : Int32)) hX dX2_parted_21 (by decide) kk) rfl ?_
    refine gz_Vs (fun _ kk => gz_isub (pc := 22) hX dX2_parted_22 kk) rfl ?_
    obtain ⟨⟨r10, m11⟩, c12, h⟩ := gz_bd h
    obtain ⟨g13, h⟩ := gz_gu h
    refine gz_Vs (fun _ kk => cc_X2_39 (pc := 23) hX (fun h => cz_k h rfl) c12 ⟨Nat.le_of_ble_eq_true rfl, Nat.le_of_ble_eq_true rfl⟩ (rest := []) rfl (Nat.le_of_ble_eq_true rfl) dX2_parted_23 kk) g13 ?_
    obtain ⟨⟨r14, m15⟩, c16, h⟩ := gz_bd h
    obtain ⟨g17, h⟩ := gz_gu h
    refine gz_Vs (fun _ kk => cc_X2_55 (pc := 26) hX c16 ⟨Nat.le_of_ble_eq_true rfl, Nat.le_of_ble_eq_true rfl⟩ (rest := []) rfl (Nat.le_of_ble_eq_true rfl) dX2_parted_26 kk) g17 ?_
    refine gz_Vif (μ1 := m) (μ2 := m) (fun _ k1 k2 => gz_if_eq (pc := 29) (tgt := 42) hX dX2_parted_29 (by decide) k1 k2) (by first | exact Classical.em _ | exact (Classical.em _).symm) (fun g18 => ?_) (fun g18 => ?_)
    · replace h := gz_it' g18 h
      obtain rfl := Option.some.inj h
      exact hk _ _ dX2_parted_42
    · replace h := gz_if' g18 h
      exact wb_X2_parted_32 hX h hk
theorem ct_X2_parted {G : gz_G} {l : Launch}   {m m9 : gM} {o : Option Unit} (h : cf_X2_parted  m = some (o, m9)) : gx_Met cS G l yX2_parted cX2_parted 1 none (mRc 1 22 (gZ m9 - gZ m) (gW m9 - gW m)) [.ref (gz_ad G 1011)] m m9 (o.map (fun _ => none)) :=
  gx_ofV (by decide +kernel) (Nat.le_of_ble_eq_true rfl) ⟨_, rfl, rfl⟩ (fun h => cz_k (c := 1012) (k := 3) h rfl) fun X _ hX hk => (wm_X2_parted (zE := m9.2.2.2.2.2) hX h (gx_km (fun _ q pc lv hd => gz_Ve (q pc lv hd)) (fun q pc lv => gz_VXe (q pc lv)) hk)).2
theorem cc_X2_43 {X : gz_X} {G : gz_G} {cc : ByteArray} {nL fr lo pc : Nat} {rem : Nat × Nat} {lv : List (Nat × Value)} {rest st0 : List Value} (hX : gz_C cS X G cc nL RX2 fr lo)  {m m9 : gM} (hK : clc m.1 m.2.1 m.2.2.2.2.1 → m.1 1011 = 2 + 1)  {r : Int32} (h : cf_X2_here  m = some (r, m9)) (hroom : 1 + 1 ≤ fr ∧ 8 + (1 + 11) + 21 ≤ lo) (hst : st0 = [.ref (gz_ad G 1011)] ++ rest) (hW : (rest.map fun v => v.category).sum ≤ 8) (hd : decode cc pc = .ok (.invokevirtual 43, 3)) (kk : gz_V cS X G nL rem m9 (pc + 3) lv (.int r :: rest)) : gz_V cS X G nL rem m pc lv st0 :=
  gz_callV2 hX cs_E (As := []) (rest := rest) (q := (RX2, TX2, 8)) (ci := 2) (c := 1011) (ct_X2_here (l := X.2.1) h) (lw_V q619 q621 qs5 q172 q622) (n := 0) (by decide +kernel) hroom rfl rfl (by decide) hK hst hW hd (rem := rem) kk
theorem cc_X2_58 {X : gz_X} {G : gz_G} {cc : ByteArray} {nL fr lo pc : Nat} {rem : Nat × Nat} {lv : List (Nat × Value)} {rest st0 : List Value} (hX : gz_C cS X G cc nL RX2 fr lo)  {m m9 : gM} (hK : clc m.1 m.2.1 m.2.2.2.2.1 → m.1 1011 = 2 + 1)  (h : cf_X2_parted  m = some (some (), m9)) (hroom : 1 + 1 ≤ fr ∧ 8 + (1 + 11) + 22 ≤ lo) (hst : st0 = [.ref (gz_ad G 1011)] ++ rest) (hW : (rest.map fun v => v.category).sum ≤ 8) (hd : decode cc pc = .ok (.invokevirtual 58, 3)) (kk : gz_V cS X G nL rem m9 (pc + 3) lv (rest)) : gz_V cS X G nL (rem.1 + (gZ m9 - gZ m), rem.2 + (gW m9 - gW m)) m pc lv st0 :=
  gz_callX hX cs_E (As := []) (rest := rest) (q := (RX2, TX2, 8)) (ci := 2) (c := 1011) (ct_X2_parted (l := X.2.1) h) (lw_V q642 q644 qs10 q172 q645) (n := 0) (by decide +kernel) hroom rfl rfl (by decide) hK hst hW hd (rem := rem) (fun rv e => by obtain rfl := Option.some.inj e; exact kk) (fun e => by simp at e)
theorem cc_X2_58x {X : gz_X} {G : gz_G} {cc : ByteArray} {nL fr lo pc : Nat} {rem : Nat × Nat} {lv : List (Nat × Value)} {rest st0 : List Value} (hX : gz_C cS X G cc nL RX2 fr lo)  {m m9 : gM} (hK : clc m.1 m.2.1 m.2.2.2.2.1 → m.1 1011 = 2 + 1)  (h : cf_X2_parted  m = some (none, m9)) (hroom : 1 + 1 ≤ fr ∧ 8 + (1 + 11) + 22 ≤ lo) (hst : st0 = [.ref (gz_ad G 1011)] ++ rest) (hW : (rest.map fun v => v.category).sum ≤ 8) (hd : decode cc pc = .ok (.invokevirtual 58, 3)) (kk : gz_VX cS X G nL rem m9 pc lv) : gz_V cS X G nL (rem.1 + (gZ m9 - gZ m), rem.2 + (gW m9 - gW m)) m pc lv st0 :=
  gz_callX hX cs_E (As := []) (rest := rest) (q := (RX2, TX2, 8)) (ci := 2) (c := 1011) (ct_X2_parted (l := X.2.1) h) (lw_V q642 q644 qs10 q172 q645) (n := 0) (by decide +kernel) hroom rfl rfl (by decide) hK hst hW hd (rem := rem) (fun rv e => by simp at e) (fun _ => kk)
theorem cp_X2_61_2 {X : gz_X} {G : gz_G} {cc : ByteArray} {nL fr lo pc : Nat} {rem : Nat × Nat} {m m9 : gM} {lv : List (Nat × Value)} {st : List Value} (hX : gz_C cS X G cc nL RX2 fr lo) {c : Nat} {x : Int32} (hK : clc m.1 m.2.1 m.2.2.2.2.1 → m.1 c = 2 + 1) (hw : 1000 ≤ c) (hd : decode cc pc = .ok (.putfield 61, 3)) (hm : m9 = gz_sI m c 3 x) (kk : gz_V cS X G nL rem m9 (pc + 3) lv st) : gz_V cS X G nL rem m pc lv (.int x :: .ref (gz_ad G c) :: st) := by
  subst hm
  exact gz_putf hX (C := RX2) (T := TX2) (N := 8) (ci := 2) (k := 3) (ty := .int) (μ' := gz_sI m c 3 x) rfl (by decide) in_X2 tyX2 tyX2_ok nmX2 (by decide) (Or.inl (hX.2.2.2.2.1 _ q373)) rfl rfl rfl rfl hd hK hw rfl rfl rfl (fun d tc j h => gz_sI_o d tc j h) (gz_sI_v (fun j => ftC 2 j) rfl) (fun h => h) kk
theorem cc_X2_89 {X : gz_X} {G : gz_G} {cc : ByteArray} {nL fr lo pc : Nat} {rem : Nat × Nat} {lv : List (Nat × Value)} {rest st0 : List Value} (hX : gz_C cS X G cc nL RX2 fr lo) {x0 : Int32} {x1 : Int32} {x2 : Int32} {m m9 : gM}  {r : Int32} (h : cf_X0_is x0 x1 x2 m = some (r, m9)) (hroom : 0 + 1 ≤ fr ∧ 8 + (3 + 11) + 0 ≤ lo) (hst : st0 = [.int x2, .int x1, .int x0] ++ rest) (hW : (rest.map fun v => v.category).sum ≤ 8) (hd : decode cc pc = .ok (.invokestatic 89, 3)) (kk : gz_V cS X G nL rem m9 (pc + 3) lv (.int r :: rest)) : gz_V cS X G nL rem m pc lv st0 :=
  gz_callSN hX cs_E (As := [.int x0, .int x1, .int x2]) (rest := rest) (ct_X0_is (l := X.2.1) h) q945 (cz_n (Z := cS) hX q943 rfl) q167 q944 (n := 3) (by decide +kernel) hroom rfl hst hW hd (rem := rem) kk
theorem cg_X2_61_2 {X : gz_X} {G : gz_G} {cc : ByteArray} {nL fr lo pc : Nat} {rem : Nat × Nat} {m : gM} {lv : List (Nat × Value)} {st : List Value} (hX : gz_C cS X G cc nL RX2 fr lo) {c : Nat} {v : Value} (hK : clc m.1 m.2.1 m.2.2.2.2.1 → m.1 c = 2 + 1) (hv : clc m.1 m.2.1 m.2.2.2.2.1 → gz_u (gz_ad G) m (ftC 2 3) c 3 = v) (hd : decode cc pc = .ok (.getfield 61, 3)) (kk : gz_V cS X G nL rem m (pc + 3) lv (v :: st)) : gz_V cS X G nL rem m pc lv (.ref (gz_ad G c) :: st) :=
  gz_getf hX (C := RX2) (T := TX2) (N := 8) (ci := 2) (k := 3) rfl (by decide) in_X2 (by decide) (Or.inl (hX.2.2.2.2.1 _ q373)) hd hK hv kk
/-! FirstSnuffer$Reader.number(II)I -/
def mP_X2_number_2_34 (X : gz_X) (G : gz_G) (zE : Nat × Nat) (q : (Int32 × Int32 × Int32 × gM)) : Prop := gz_Va cS X G 4 zE q.2.2.2 34 [(0, .ref (gz_ad G 1011)), (1, .int q.1), (2, .int q.2.1), (3, .int q.2.2.1)] []
noncomputable def mb_X2_number_2_34 (x1 : Int32) (x2 : Int32) (x3 : Int32) (m : gM) : Option ((Int32 × Int32 × Int32 × gM) ⊕ (Option Int32 × gM)) :=
  ((cf_X2_byteAt (gI m 1011 2) m).bind fun (r1, m2) => (if m2.2.2.2.2.2 = m.2.2.2.2.2 then ((cf_X0_isDigit r1 m2).bind fun (r5, m6) => (if m6.2.2.2.2.2 = m2.2.2.2.2.2 then (if r5 = (0 : Int32) then ((cf_X0_is x3 x1 x2 m6).bind fun (r10, m11) => (if m11.2.2.2.2.2 = m6.2.2.2.2.2 then (if r10 = (0 : Int32) then ((cf_X2_wrong (2 : Int32) (gI m11 1011 3) m11).bind fun (r15, m16) => (if m16.2.2.2.2.2 = m11.2.2.2.2.2 then (if r15 = 1012 then some (Sum.inr (none, m16)) else none) else none)) else some (Sum.inr (some x3, m11))) else none)) else (if ((gI m6 1011 2) - (gI m6 1011 3)) = (4 : Int32) then ((cf_X2_wrong (1 : Int32) (gI m6 1011 2) m6).bind fun (r27, m28) => (if m28.2.2.2.2.2 = m6.2.2.2.2.2 then (if r27 = 1012 then some (Sum.inr (none, m28)) else none) else none)) else ((cf_X2_byteAt (gI m6 1011 2) m6).bind fun (r21, m22) => (if m22.2.2.2.2.2 = m6.2.2.2.2.2 then gz_let (((((10 : Int32) * x3) + r21) - (48 : Int32))) fun y25 => gz_let (gz_sI m22 1011 2 ((gI m22 1011 2) + (1 : Int32))) fun m26 => some (Sum.inl (x1, x2, y25, m26)) else none)))) else none)) else none))
theorem wb_X2_number_2_34 {X : gz_X} {G : gz_G} {zE : Nat × Nat} (hX : gz_C cS X G cX2_number_2 4 RX2 2 42) {x1 : Int32} {x2 : Int32} {x3 : Int32}  {m : gM} {z : ((Int32 × Int32 × Int32 × gM) ⊕ (Option Int32 × gM))} (h : mb_X2_number_2_34 x1 x2 x3 m = some z) (hk : (Sum.elim (mP_X2_number_2_34 X G zE) (fun z : (Option Int32 × gM) => gx_k (fun r => gz_kIa cS X G 4 zE cX2_number_2 z.2 r) (∀ (pc : Nat) (lv : List (Nat × Value)), gz_VXa cS X G 4 zE z.2 pc lv) z.1)) z) : gz_Va cS X G 4 zE m 34 [(0, .ref (gz_ad G 1011)), (1, .int x1), (2, .int x2), (3, .int x3)] [] := by
  unfold mb_X2_number_2_34 at h
  refine gz_Vs (fun _ kk => gz_aload_n (pc := 34) hX dX2_number_2_34 rfl 0 rfl kk) rfl ?_
  refine gz_Vs (fun _ kk => gz_aload_n (pc := 35) hX dX2_number_2_35 rfl 0 rfl kk) rfl ?_
  refine gz_Vs (fun _ kk => cg_X2_36_2 (pc := 36) hX (c := 1011) (v := .int (gI m 1011 2)) (fun h => cz_k h rfl) (fun _ => rfl) dX2_number_2_36 kk) rfl ?_
  obtain ⟨⟨r1, m2⟩, c3, h⟩ := gz_bd h
  obtain ⟨g4, h⟩ := gz_gu h
  refine gz_Vs (fun _ kk => cc_X2_39 (pc := 39) hX (fun h => cz_k h rfl) c3 ⟨Nat.le_of_ble_eq_true rfl, Nat.le_of_ble_eq_true rfl⟩ (rest := []) rfl (Nat.le_of_ble_eq_true rfl) dX2_number_2_39 kk) g4 ?_
  obtain ⟨⟨r5, m6⟩, c7, h⟩ := gz_bd h
  obtain ⟨g8, h⟩ := gz_gu h
  refine gz_Vs (fun _ kk => cc_X2_55 (pc := 42) hX c7 ⟨Nat.le_of_ble_eq_true rfl, Nat.le_of_ble_eq_true rfl⟩ (rest := []) rfl (Nat.le_of_ble_eq_true rfl) dX2_number_2_42 kk) g8 ?_
  refine gz_Vif (μ1 := m) (μ2 := m) (fun _ k1 k2 => gz_if_eq (pc := 45) (tgt := 101) hX dX2_number_2_45 (by decide) k1 k2) (by first | exact Classical.em _ | exact (Classical.em _).symm) (fun g9 => ?_) (fun g9 => ?_)
  · replace h := gz_it' g9 h
    refine gz_Vs (fun _ kk => gz_iload_n (pc := 101) hX dX2_number_2_101 rfl 3 rfl kk) rfl ?_
    refine gz_Vs (fun _ kk => gz_iload_n (pc := 102) hX dX2_number_2_102 rfl 1 rfl kk) rfl ?_
    refine gz_Vs (fun _ kk => gz_iload_n (pc := 103) hX dX2_number_2_103 rfl 2 rfl kk) rfl ?_
    obtain ⟨⟨r10, m11⟩, c12, h⟩ := gz_bd h
    obtain ⟨g13, h⟩ := gz_gu h
    refine gz_Vs (fun _ kk => cc_X2_89 (pc := 104) hX c12 ⟨Nat.le_of_ble_eq_true rfl, Nat.le_of_ble_eq_true rfl⟩ (rest := []) rfl (Nat.le_of_ble_eq_true rfl) dX2_number_2_104 kk) g13 ?_
    refine gz_Vif (μ1 := m) (μ2 := m) (fun _ k1 k2 => gz_if_ne (pc := 107) (tgt := 120) hX dX2_number_2_107 (by decide) k1 k2) (by first | exact Classical.em _ | exact (Classical.em _).symm) (fun g14 => ?_) (fun g14 => ?_)
    · replace h := gz_if' g14 h
      refine gz_Vs (fun _ kk => gz_iload_n (pc := 120) hX dX2_number_2_120 rfl 3 rfl kk) rfl ?_
      obtain rfl := Option.some.inj h
      exact hk _ _ dX2_number_2_121
    · replace h := gz_it' g14 h
      refine gz_Vs (fun _ kk => gz_aload_n (pc := 110) hX dX2_number_2_110 rfl 0 rfl kk) rfl ?_
      refine gz_Vs (fun _ kk => gz_iconst (pc := 111) (v := (2 : Int32)) hX dX2_number_2_111 (by decide) kk) rfl ?_
      refine gz_Vs (fun _ kk => gz_aload_n (pc := 112) hX dX2_number_2_112 rfl 0 rfl kk) rfl ?_
      refine gz_Vs (fun _ kk => cg_X2_61_2 (pc := 113) hX (c := 1011) (v := .int (gI m11 1011 3)) (fun h => cz_k h rfl) (fun _ => rfl) dX2_number_2_113 kk) rfl ?_
      obtain ⟨⟨r15, m16⟩, c17, h⟩ := gz_bd h
      obtain ⟨g18, h⟩ := gz_gu h
      refine gz_Vs (fun _ kk => cc_X2_47 (pc := 116) hX (fun h => cz_k h rfl) c17 ⟨Nat.le_of_ble_eq_true rfl, Nat.le_of_ble_eq_true rfl⟩ (rest := []) rfl (Nat.le_of_ble_eq_true rfl) dX2_number_2_116 kk) g18 ?_
      obtain ⟨g19, h⟩ := gz_gu h
      subst g19
      obtain rfl := Option.some.inj h
      exact gz_athrowa hX dX2_number_2_119 (hk _ _)
  · replace h := gz_if' g9 h
    refine gz_Vs (fun _ kk => gz_aload_n (pc := 48) hX dX2_number_2_48 rfl 0 rfl kk) rfl ?_
    refine gz_Vs (fun _ kk => cg_X2_36_2 (pc := 49) hX (c := 1011) (v := .int (gI m6 1011 2)) (fun h => cz_k h rfl) (fun _ => rfl) dX2_number_2_49 kk) rfl ?_
    refine gz_Vs (fun _ kk => gz_aload_n (pc := 52) hX dX2_number_2_52 rfl 0 rfl kk) rfl ?_
    refine gz_Vs (fun _ kk => cg_X2_61_2 (pc := 53) hX (c := 1011) (v := .int (gI m6 1011 3)) (fun h => cz_k h rfl) (fun _ => rfl) dX2_number_2_53 kk) rfl ?_
    refine gz_Vs (fun _ kk => gz_isub (pc := 56) hX dX2_number_2_56 kk) rfl ?_
    refine gz_Vs (fun _ kk => gz_iconst (pc := 57) (v := (4 : Int32)) hX dX2_number_2_57 (by decide) kk) rfl ?_
    refine gz_Vif (μ1 := m) (μ2 := m) (fun _ k1 k2 => gz_icmp_ne (pc := 58) (tgt := 71) hX dX2_number_2_58 (by decide) k1 k2) (by first | exact Classical.em _ | exact (Classical.em _).symm) (fun g20 => ?_) (fun g20 => ?_)
    · replace h := gz_if' g20 h
      refine gz_Vs (fun _ kk => gz_bipush (pc := 71) (v := (10 : Int32)) hX dX2_number_2_71 (by decide) kk) rfl ?_
      refine gz_Vs (fun _ kk => gz_iload_n (pc := 73) hX dX2_number_2_73 rfl 3 rfl kk) rfl ?_
      refine gz_Vs (fun _ kk => gz_imul (pc := 74) hX dX2_number_2_74 kk) rfl ?_
      refine gz_Vs (fun _ kk => gz_aload_n (pc := 75) hX dX2_number_2_75 rfl 0 rfl kk) rfl ?_
      refine gz_Vs (fun _ kk => gz_aload_n (pc := 76) hX dX2_number_2_76 rfl 0 rfl kk) rfl ?_
      refine gz_Vs (fun _ kk => cg_X2_36_2 (pc := 77) hX (c := 1011) (v := .int (gI m6 1011 2)) (fun h => cz_k h rfl) (fun _ => rfl) dX2_number_2_77 kk) rfl ?_
      obtain ⟨⟨r21, m22⟩, c23, h⟩ := gz_bd h
      obtain ⟨g24, h⟩ := gz_gu h
      refine gz_Vs (fun _ kk => cc_X2_39 (pc := 80) hX (fun h => cz_k h rfl) c23 ⟨Nat.le_of_ble_eq_true rfl, Nat.le_of_ble_eq_true rfl⟩ (rest := [.int ((10 : Int32) * x3)]) rfl (Nat.le_of_ble_eq_true rfl) dX2_number_2_80 kk) g24 ?_
      refine gz_Vs (fun _ kk => gz_iadd (pc := 83) hX dX2_number_2_83 kk) rfl ?_
      refine gz_Vs (fun _ kk => gz_bipush (pc := 84) (v := (48 : Int32)) hX dX2_number_2_84 (by decide) kk) rfl ?_
      refine gz_Vs (fun _ kk => gz_isub (pc := 86) hX dX2_number_2_86 kk) rfl ?_
      obtain ⟨y25, ey25, h⟩ := gz_lt h
      refine gz_Vs (fun _ kk => gz_topi ey25 kk) rfl ?_
      refine gz_Vs (fun _ kk => gz_istore_n (pc := 87) (lw := [(3, .int y25), (0, .ref (gz_ad G 1011)), (1, .int x1), (2, .int x2)]) hX dX2_number_2_87 rfl (by decide) rfl kk) rfl ?_
      refine gz_Vs (fun _ kk => gz_aload_n (pc := 88) hX dX2_number_2_88 rfl 1 rfl kk) rfl ?_
      refine gz_Vs (fun _ kk => gz_dup (pc := 89) hX dX2_number_2_89 rfl kk) rfl ?_
      refine gz_Vs (fun _ kk => cg_X2_36_2 (pc := 90) hX (c := 1011) (v := .int (gI m22 1011 2)) (fun h => cz_k h rfl) (fun _ => rfl) dX2_number_2_90 kk) rfl ?_
      refine gz_Vs (fun _ kk => gz_iconst (pc := 93) (v := (1 : Int32)) hX dX2_number_2_93 (by decide) kk) rfl ?_
      refine gz_Vs (fun _ kk => gz_iadd (pc := 94) hX dX2_number_2_94 kk) rfl ?_
      obtain ⟨m26, em26, h⟩ := gz_lt h
      refine gz_Vs (fun _ kk => cp_X2_36_2 (pc := 95) hX (c := 1011) (fun h => cz_k h rfl) (Nat.le_of_ble_eq_true rfl) dX2_number_2_95 em26 kk) (by rw [em26]; rfl) ?_
      refine gz_Vs (fun _ kk => gz_goto (pc := 98) (tgt := 34) hX dX2_number_2_98 (by decide) kk) rfl ?_
      refine gz_Vs (fun _ kk => gz_sub (lw := [(0, .ref (gz_ad G 1011)), (1, .int x1), (2, .int x2), (3, .int y25)]) [1, 2, 3, 0] rfl kk) rfl ?_
      obtain rfl := Option.some.inj h
      exact hk
    · replace h := gz_it' g20 h
      refine gz_Vs (fun _ kk => gz_aload_n (pc := 61) hX dX2_number_2_61 rfl 0 rfl kk) rfl ?_
      refine gz_Vs (fun _ kk => gz_iconst (pc := 62) (v := (1 : Int32)) hX dX2_number_2_62 (by decide) kk) rfl ?_
      refine gz_Vs (fun _ kk => gz_aload_n (pc := 63) hX dX2_number_2_63 rfl 0 rfl kk) rfl ?_
      refine gz_Vs (fun _ kk => cg_X2_36_2 (pc := 64) hX (c := 1011) (v := .int (gI m6 1011 2)) (fun h => cz_k h rfl) (fun _ => rfl) dX2_number_2_64 kk) rfl ?_
      obtain ⟨⟨r27, m28⟩, c29, h⟩ := gz_bd h
      obtain ⟨g30, h⟩ := gz_gu h
      refine gz_Vs (fun _ kk => cc_X2_47 (pc := 67) hX (fun h => cz_k h rfl) c29 ⟨Nat.le_of_ble_eq_true rfl, Nat.le_of_ble_eq_true rfl⟩ (rest := []) rfl (Nat.le_of_ble_eq_true rfl) dX2_number_2_67 kk) g30 ?_
      obtain ⟨g31, h⟩ := gz_gu h
      subst g31
      obtain rfl := Option.some.inj h
      exact gz_athrowa hX dX2_number_2_70 (hk _ _)
noncomputable def ml_X2_number_2_34 (x1 : Int32) (x2 : Int32) (x3 : Int32) (m : gM) : Option (Option Int32 × gM) := gz_loop (fun q : (Int32 × Int32 × Int32 × gM) => mb_X2_number_2_34 q.1 q.2.1 q.2.2.1 q.2.2.2) (x1, x2, x3, m)
theorem wl_X2_number_2_34 {X : gz_X} {G : gz_G} {zE : Nat × Nat} (hX : gz_C cS X G cX2_number_2 4 RX2 2 42) {x1 : Int32} {x2 : Int32} {x3 : Int32}  {m : gM} {z : (Option Int32 × gM)} (h : ml_X2_number_2_34 x1 x2 x3 m = some z) (hk : (fun z : (Option Int32 × gM) => gx_k (fun r => gz_kIa cS X G 4 zE cX2_number_2 z.2 r) (∀ (pc : Nat) (lv : List (Nat × Value)), gz_VXa cS X G 4 zE z.2 pc lv) z.1) z) : gz_Va cS X G 4 zE m 34 [(0, .ref (gz_ad G 1011)), (1, .int x1), (2, .int x2), (3, .int x3)] [] := by
  have hp : mP_X2_number_2_34 X G zE (x1, x2, x3, m) := gz_loop_ind (fun q z hz hkz => wb_X2_number_2_34 hX  hz hkz) h hk
  exact hp
noncomputable def cf_X2_number_2 (x1 : Int32) (x2 : Int32) (m : gM) : Option (Option Int32 × gM) :=
  ((cf_X2_here m).bind fun (r1, m2) => (if m2.2.2.2.2.2 = m.2.2.2.2.2 then ((cf_X0_isDigit r1 m2).bind fun (r5, m6) => (if m6.2.2.2.2.2 = m2.2.2.2.2.2 then (if r5 = (0 : Int32) then ((cf_X2_wrong (1 : Int32) (gI m6 1011 2) m6).bind fun (r16, m17) => (if m17.2.2.2.2.2 = m6.2.2.2.2.2 then (if r16 = 1012 then some (none, m17) else none) else none)) else ((cf_X2_parted  m6).bind fun (o13, m11) => (if gZ m6 ≤ gZ m11 ∧ gW m6 ≤ gW m11 then gx_o o13 (fun r10 => gz_let (gz_sI m11 1011 3 (gI m11 1011 2)) fun m15 => (ml_X2_number_2_34 x1 x2 (0 : Int32) m15)) (some (none, m11)) else none))) else none)) else none))
theorem wm_X2_number_2 {X : gz_X} {G : gz_G} {zE : Nat × Nat} (hX : gz_C cS X G cX2_number_2 4 RX2 2 42) {x1 : Int32} {x2 : Int32}  {m : gM} {z : (Option Int32 × gM)} (h : cf_X2_number_2 x1 x2 m = some z) (hk : (fun z : (Option Int32 × gM) => gx_k (fun r => gz_kIa cS X G 4 zE cX2_number_2 z.2 r) (∀ (pc : Nat) (lv : List (Nat × Value)), gz_VXa cS X G 4 zE z.2 pc lv) z.1) z) : gz_Va cS X G 4 zE m 0 [(0, .ref (gz_ad G 1011)), (1, .int x1), (2, .int x2)] [] := by
  unfold cf_X2_number_2 at h
  refine gz_Vs (fun _ kk => gz_aload_n (pc := 0) hX dX2_number_2_0 rfl 0 rfl kk) rfl ?_
  obtain ⟨⟨r1, m2⟩, c3, h⟩ := gz_bd h
  obtain ⟨g4, h⟩ := gz_gu h
  refine gz_Vs (fun _ kk => cc_X2_43 (pc := 1) hX (fun h => cz_k h rfl) c3 ⟨Nat.le_of_ble_eq_true rfl, Nat.le_of_ble_eq_true rfl⟩ (rest := []) rfl (Nat.le_of_ble_eq_true rfl) dX2_number_2_1 kk) g4 ?_
  obtain ⟨⟨r5, m6⟩, c7, h⟩ := gz_bd h
  obtain ⟨g8, h⟩ := gz_gu h
  refine gz_Vs (fun _ kk => cc_X2_55 (pc := 4) hX c7 ⟨Nat.le_of_ble_eq_true rfl, Nat.le_of_ble_eq_true rfl⟩ (rest := []) rfl (Nat.le_of_ble_eq_true rfl) dX2_number_2_4 kk) g8 ?_
  refine gz_Vif (μ1 := m) (μ2 := m) (fun _ k1 k2 => gz_if_ne (pc := 7) (tgt := 20) hX dX2_number_2_7 (by decide) k1 k2) (by first | exact Classical.em _ | exact (Classical.em _).symm) (fun g9 => ?_) (fun g9 => ?_)
  · replace h := gz_if' g9 h
    refine gz_Vs (fun _ kk => gz_aload_n (pc := 20) hX dX2_number_2_20 rfl 0 rfl kk) rfl ?_
    obtain ⟨⟨o13, m11⟩, c12, h⟩ := gz_bd h
    obtain ⟨g14, h⟩ := gz_gu h
    cases o13 with
    | none =>
      replace h := gx_on h
      obtain rfl := Option.some.inj h
      exact gz_Vcx (k := gZ m11 - gZ m6) (n := gW m11 - gW m6) (fun _ kk => cc_X2_58x (pc := 21) hX (fun h => cz_k h rfl) c12 ⟨Nat.le_of_ble_eq_true rfl, Nat.le_of_ble_eq_true rfl⟩ (rest := []) rfl (Nat.le_of_ble_eq_true rfl) dX2_number_2_21 kk) ⟨by have := g14.1; dsimp only [gZ] at *; omega, by have := g14.2; dsimp only [gW] at *; omega⟩ (hk _ _)
    | some r10 =>
      replace h := gx_os h
      refine gz_Vc (k := gZ m11 - gZ m6) (n := gW m11 - gW m6) (fun _ kk => cc_X2_58 (pc := 21) hX (fun h => cz_k h rfl) c12 ⟨Nat.le_of_ble_eq_true rfl, Nat.le_of_ble_eq_true rfl⟩ (rest := []) rfl (Nat.le_of_ble_eq_true rfl) dX2_number_2_21 kk) ⟨by have := g14.1; dsimp only [gZ] at *; omega, by have := g14.2; dsimp only [gW] at *; omega⟩ ?_
      refine gz_Vs (fun _ kk => gz_aload_n (pc := 24) hX dX2_number_2_24 rfl 0 rfl kk) rfl ?_
      refine gz_Vs (fun _ kk => gz_aload_n (pc := 25) hX dX2_number_2_25 rfl 0 rfl kk) rfl ?_
      refine gz_Vs (fun _ kk => cg_X2_36_2 (pc := 26) hX (c := 1011) (v := .int (gI m11 1011 2)) (fun h => cz_k h rfl) (fun _ => rfl) dX2_number_2_26 kk) rfl ?_
      obtain ⟨m15, em15, h⟩ := gz_lt h
      refine gz_Vs (fun _ kk => cp_X2_61_2 (pc := 29) hX (c := 1011) (fun h => cz_k h rfl) (Nat.le_of_ble_eq_true rfl) dX2_number_2_29 em15 kk) (by rw [em15]; rfl) ?_
      refine gz_Vs (fun _ kk => gz_iconst (pc := 32) (v := (0 : Int32)) hX dX2_number_2_32 (by decide) kk) rfl ?_
      refine gz_Vs (fun _ kk => gz_istore_n (pc := 33) (lw := [(3, .int (0 : Int32)), (0, .ref (gz_ad G 1011)), (1, .int x1), (2, .int x2)]) hX dX2_number_2_33 rfl (by decide) rfl kk) rfl ?_
      refine gz_Vs (fun _ kk => gz_sub (lw := [(0, .ref (gz_ad G 1011)), (1, .int x1), (2, .int x2), (3, .int (0 : Int32))]) [1, 2, 3, 0] rfl kk) rfl ?_
      exact wl_X2_number_2_34 hX h hk
  · replace h := gz_it' g9 h
    refine gz_Vs (fun _ kk => gz_aload_n (pc := 10) hX dX2_number_2_10 rfl 0 rfl kk) rfl ?_
    refine gz_Vs (fun _ kk => gz_iconst (pc := 11) (v := (1 : Int32)) hX dX2_number_2_11 (by decide) kk) rfl ?_
    refine gz_Vs (fun _ kk => gz_aload_n (pc := 12) hX dX2_number_2_12 rfl 0 rfl kk) rfl ?_
    refine gz_Vs (fun _ kk => cg_X2_36_2 (pc := 13) hX (c := 1011) (v := .int (gI m6 1011 2)) (fun h => cz_k h rfl) (fun _ => rfl) dX2_number_2_13 kk) rfl ?_
    obtain ⟨⟨r16, m17⟩, c18, h⟩ := gz_bd h
    obtain ⟨g19, h⟩ := gz_gu h
    refine gz_Vs (fun _ kk => cc_X2_47 (pc := 16) hX (fun h => cz_k h rfl) c18 ⟨Nat.le_of_ble_eq_true rfl, Nat.le_of_ble_eq_true rfl⟩ (rest := []) rfl (Nat.le_of_ble_eq_true rfl) dX2_number_2_16 kk) g19 ?_
    obtain ⟨g20, h⟩ := gz_gu h
    subst g20
    obtain rfl := Option.some.inj h
    exact gz_athrowa hX dX2_number_2_19 (hk _ _)
theorem ct_X2_number_2 {G : gz_G} {l : Launch} {x1 : Int32} {x2 : Int32}  {m m9 : gM} {o : Option Int32} (h : cf_X2_number_2 x1 x2 m = some (o, m9)) : gx_Met cS G l yX2_number_2 cX2_number_2 4 (some .int) (mRc 2 42 (gZ m9 - gZ m) (gW m9 - gW m)) [.ref (gz_ad G 1011), .int x1, .int x2] m m9 (o.map (fun r => some (.int r))) :=
  gx_ofI (by decide +kernel) (Nat.le_of_ble_eq_true rfl) ⟨_, rfl, rfl⟩ (fun h => cz_k (c := 1012) (k := 3) h rfl) fun X _ hX hk => (wm_X2_number_2 (zE := m9.2.2.2.2.2) hX h (gx_km (fun _ q pc lv hd => gz_Ve (q pc lv hd)) (fun q pc lv => gz_VXe (q pc lv)) hk)).2
/-! FirstSnuffer$Reader.must(I)V -/
noncomputable def cf_X2_must (x1 : Int32) (m : gM) : Option (Option Unit × gM) :=
  ((cf_X2_here m).bind fun (r1, m2) => (if m2.2.2.2.2.2 = m.2.2.2.2.2 then (if r1 = x1 then gz_let (gz_sI m2 1011 2 ((gI m2 1011 2) + (1 : Int32))) fun m6 => some (some (), m6) else ((cf_X2_wrong (1 : Int32) (gI m2 1011 2) m2).bind fun (r7, m8) => (if m8.2.2.2.2.2 = m2.2.2.2.2.2 then (if r7 = 1012 then some (none, m8) else none) else none))) else none))
theorem wm_X2_must {X : gz_X} {G : gz_G} {zE : Nat × Nat} (hX : gz_C cS X G cX2_must 2 RX2 2 41) {x1 : Int32}  {m : gM} {z : (Option Unit × gM)} (h : cf_X2_must x1 m = some z) (hk : (fun z : (Option Unit × gM) => gx_k (fun _ => gz_kVa cS X G 2 zE cX2_must z.2) (∀ (pc : Nat) (lv : List (Nat × Value)), gz_VXa cS X G 2 zE z.2 pc lv) z.1) z) : gz_Va cS X G 2 zE m 0 [(0, .ref (gz_ad G 1011)), (1, .int x1)] [] := by
  unfold cf_X2_must at h
  refine gz_Vs (fun _ kk => gz_aload_n (pc := 0) hX dX2_must_0 rfl 0 rfl kk) rfl ?_
  obtain ⟨⟨r1, m2⟩, c3, h⟩ := gz_bd h
  obtain ⟨g4, h⟩ := gz_gu h
  refine gz_Vs (fun _ kk => cc_X2_43 (pc := 1) hX (fun h => cz_k h rfl) c3 ⟨Nat.le_of_ble_eq_true rfl, Nat.le_of_ble_eq_true rfl⟩ (rest := []) rfl (Nat.le_of_ble_eq_true rfl) dX2_must_1 kk) g4 ?_
  refine gz_Vs (fun _ kk => gz_iload_n (pc := 4) hX dX2_must_4 rfl 1 rfl kk) rfl ?_
  refine gz_Vif (μ1 := m) (μ2 := m) (fun _ k1 k2 => gz_icmp_eq (pc := 5) (tgt := 18) hX dX2_must_5 (by decide) k1 k2) (by first | exact Classical.em _ | exact (Classical.em _).symm) (fun g5 => ?_) (fun g5 => ?_)
  · replace h := gz_it' g5 h
    refine gz_Vs (fun _ kk => gz_aload_n (pc := 18) hX dX2_must_18 rfl 0 rfl kk) rfl ?_
    refine gz_Vs (fun _ kk => gz_dup (pc := 19) hX dX2_must_19 rfl kk) rfl ?_
    refine gz_Vs (fun _ kk => cg_X2_36_2 (pc := 20) hX (c := 1011) (v := .int (gI m2 1011 2)) (fun h => cz_k h rfl) (fun _ => rfl) dX2_must_20 kk) rfl ?_
    refine gz_Vs (fun _ kk => gz_iconst (pc := 23) (v := (1 : Int32)) hX dX2_must_23 (by decide) kk) rfl ?_
    refine gz_Vs (fun _ kk => gz_iadd (pc := 24) hX dX2_must_24 kk) rfl ?_
    obtain ⟨m6, em6, h⟩ := gz_lt h
    refine gz_Vs (fun _ kk => cp_X2_36_2 (pc := 25) hX (c := 1011) (fun h => cz_k h rfl) (Nat.le_of_ble_eq_true rfl) dX2_must_25 em6 kk) (by rw [em6]; rfl) ?_
    obtain rfl := Option.some.inj h
    exact hk _ _ dX2_must_28
  · replace h := gz_if' g5 h
    refine gz_Vs (fun _ kk => gz_aload_n (pc := 8) hX dX2_must_8 rfl 0 rfl kk) rfl ?_
    refine gz_Vs (fun _ kk => gz_iconst (pc := 9) (v := (1 : Int32)) hX dX2_must_9 (by decide) kk) rfl ?_
    refine gz_Vs (fun _ kk => gz_aload_n (pc := 10) hX dX2_must_10 rfl 0 rfl kk) rfl ?_
    refine gz_Vs (fun _ kk => cg_X2_36_2 (pc := 11) hX (c := 1011) (v := .int (gI m2 1011 2)) (fun h => cz_k h rfl) (fun _ => rfl) dX2_must_11 kk) rfl ?_
    obtain ⟨⟨r7, m8⟩, c9, h⟩ := gz_bd h
    obtain ⟨g10, h⟩ := gz_gu h
    refine gz_Vs (fun _ kk => cc_X2_47 (pc := 14) hX (fun h => cz_k h rfl) c9 ⟨Nat.le_of_ble_eq_true rfl, Nat.le_of_ble_eq_true rfl⟩ (rest := []) rfl (Nat.le_of_ble_eq_true rfl) dX2_must_14 kk) g10 ?_
    obtain ⟨g11, h⟩ := gz_gu h
    subst g11
    obtain rfl := Option.some.inj h
    exact gz_athrowa hX dX2_must_17 (hk _ _)
theorem ct_X2_must {G : gz_G} {l : Launch} {x1 : Int32}  {m m9 : gM} {o : Option Unit} (h : cf_X2_must x1 m = some (o, m9)) : gx_Met cS G l yX2_must cX2_must 2 none (mRc 2 41 (gZ m9 - gZ m) (gW m9 - gW m)) [.ref (gz_ad G 1011), .int x1] m m9 (o.map (fun _ => none)) :=
  gx_ofV (by decide +kernel) (Nat.le_of_ble_eq_true rfl) ⟨_, rfl, rfl⟩ (fun h => cz_k (c := 1012) (k := 3) h rfl) fun X _ hX hk => (wm_X2_must (zE := m9.2.2.2.2.2) hX h (gx_km (fun _ q pc lv hd => gz_Ve (q pc lv hd)) (fun q pc lv => gz_VXe (q pc lv)) hk)).2
/-! FirstSnuffer$Reader.takes(I)Z -/
noncomputable def mj_X2_takes_28 (x2 : Int32) (s0 : Int32) (s1 : Int32) (m : gM) : Option (Int32 × gM) :=
  gz_let (gz_sI m 1011 2 (s1 + s0)) fun m1 => (if x2 = 0 ∨ x2 = 1 then some (x2, m1) else none)
theorem wb_X2_takes_28 {X : gz_X} {G : gz_G} (hX : gz_C cS X G cX2_takes 3 RX2 2 41) {x2 : Int32} {s0 : Int32} {s1 : Int32}  {m : gM} {z : (Int32 × gM)} (h : mj_X2_takes_28 x2 s0 s1 m = some z) (hk : (fun z : (Int32 × gM) => gz_kZ cS X G 3 (0, 0) cX2_takes z.2 z.1) z) : gz_V cS X G 3 (0, 0) m 28 [(0, .ref (gz_ad G 1011)), (2, .int x2)] [.int s0, .int s1, .ref (gz_ad G 1011)] := by
  unfold mj_X2_takes_28 at h
  refine gz_iadd (pc := 28) hX dX2_takes_28 ?_
  obtain ⟨m1, em1, h⟩ := gz_lt h
  refine cp_X2_36_2 (pc := 29) hX (c := 1011) (fun h => cz_k h rfl) (Nat.le_of_ble_eq_true rfl) dX2_takes_29 em1 ?_
  refine gz_iload_n (pc := 32) hX dX2_takes_32 rfl 1 rfl ?_
  obtain ⟨g2, h⟩ := gz_gu h
  obtain rfl := Option.some.inj h
  exact hk _ _ dX2_takes_33 g2
noncomputable def mj_X2_takes_13 (s0 : Int32) (m : gM) : Option (Int32 × gM) :=
  (if s0 = (0 : Int32) then (mj_X2_takes_28 s0 (0 : Int32) (gI m 1011 2) m) else (mj_X2_takes_28 s0 (1 : Int32) (gI m 1011 2) m))
theorem wb_X2_takes_13 {X : gz_X} {G : gz_G} (hX : gz_C cS X G cX2_takes 3 RX2 2 41) {s0 : Int32}  {m : gM} {z : (Int32 × gM)} (h : mj_X2_takes_13 s0 m = some z) (hk : (fun z : (Int32 × gM) => gz_kZ cS X G 3 (0, 0) cX2_takes z.2 z.1) z) : gz_V cS X G 3 (0, 0) m 13 [(0, .ref (gz_ad G 1011))] [.int s0] := by
  unfold mj_X2_takes_13 at h
  refine gz_istore_n (pc := 13) (lw := [(2, .int s0), (0, .ref (gz_ad G 1011))]) hX dX2_takes_13 rfl (by decide) rfl ?_
  refine gz_aload_n (pc := 14) hX dX2_takes_14 rfl 1 rfl ?_
  refine gz_dup (pc := 15) hX dX2_takes_15 rfl ?_
  refine cg_X2_36_2 (pc := 16) hX (c := 1011) (v := .int (gI m 1011 2)) (fun h => cz_k h rfl) (fun _ => rfl) dX2_takes_16 ?_
  refine gz_iload_n (pc := 19) hX dX2_takes_19 rfl 0 rfl ?_
  refine gz_if_eq (pc := 20) (tgt := 27) hX dX2_takes_20 (by decide) (fun g1 => ?_) (fun g1 => ?_)
  · replace h := gz_it' g1 h
    refine gz_iconst (pc := 27) (v := (0 : Int32)) hX dX2_takes_27 (by decide) ?_
    refine gz_sub (lw := [(0, .ref (gz_ad G 1011)), (2, .int s0)]) [1, 0] rfl ?_
    exact wb_X2_takes_28 hX h hk
  · replace h := gz_if' g1 h
    refine gz_iconst (pc := 23) (v := (1 : Int32)) hX dX2_takes_23 (by decide) ?_
    refine gz_goto (pc := 24) (tgt := 28) hX dX2_takes_24 (by decide) ?_
    refine gz_sub (lw := [(0, .ref (gz_ad G 1011)), (2, .int s0)]) [1, 0] rfl ?_
    exact wb_X2_takes_28 hX h hk
noncomputable def cf_X2_takes (x1 : Int32) (m : gM) : Option (Int32 × gM) :=
  ((cf_X2_here m).bind fun (r1, m2) => (if r1 = x1 then (mj_X2_takes_13 (1 : Int32) m2) else (mj_X2_takes_13 (0 : Int32) m2)))
theorem wm_X2_takes {X : gz_X} {G : gz_G} (hX : gz_C cS X G cX2_takes 3 RX2 2 41) {x1 : Int32}  {m : gM} {z : (Int32 × gM)} (h : cf_X2_takes x1 m = some z) (hk : (fun z : (Int32 × gM) => gz_kZ cS X G 3 (0, 0) cX2_takes z.2 z.1) z) : gz_V cS X G 3 (0, 0) m 0 [(0, .ref (gz_ad G 1011)), (1, .int x1)] [] := by
  unfold cf_X2_takes at h
  refine gz_aload_n (pc := 0) hX dX2_takes_0 rfl 0 rfl ?_
  obtain ⟨⟨r1, m2⟩, c3, h⟩ := gz_bd h
  refine cc_X2_43 (pc := 1) hX (fun h => cz_k h rfl) c3 ⟨Nat.le_of_ble_eq_true rfl, Nat.le_of_ble_eq_true rfl⟩ (rest := []) rfl (Nat.le_of_ble_eq_true rfl) dX2_takes_1 ?_
  refine gz_iload_n (pc := 4) hX dX2_takes_4 rfl 1 rfl ?_
  refine gz_icmp_ne (pc := 5) (tgt := 12) hX dX2_takes_5 (by decide) (fun g4 => ?_) (fun g4 => ?_)
  · replace h := gz_if' g4 h
    refine gz_iconst (pc := 12) (v := (0 : Int32)) hX dX2_takes_12 (by decide) ?_
    refine gz_sub (lw := [(0, .ref (gz_ad G 1011))]) [0] rfl ?_
    exact wb_X2_takes_13 hX h hk
  · replace h := gz_it' g4 h
    refine gz_iconst (pc := 8) (v := (1 : Int32)) hX dX2_takes_8 (by decide) ?_
    refine gz_goto (pc := 9) (tgt := 13) hX dX2_takes_9 (by decide) ?_
    refine gz_sub (lw := [(0, .ref (gz_ad G 1011))]) [0] rfl ?_
    exact wb_X2_takes_13 hX h hk
theorem ct_X2_takes {G : gz_G} {l : Launch} {x1 : Int32}  {m m9 : gM} {r : Int32} (h : cf_X2_takes x1 m = some (r, m9)) : gz_Met cS G l yX2_takes cX2_takes 3 (some .boolean) (mRm 2 41) [.ref (gz_ad G 1011), .int x1] m m9 (some (.int r)) :=
  gz_ofZ (by decide +kernel) (Nat.le_of_ble_eq_true rfl) fun X _ hX hk => wm_X2_takes hX h hk
theorem cp_X16_1_14 {X : gz_X} {G : gz_G} {cc : ByteArray} {nL fr lo pc : Nat} {rem : Nat × Nat} {m m9 : gM} {lv : List (Nat × Value)} {st : List Value} (hX : gz_C cS X G cc nL RX16 fr lo) (hn0 : X.2.2.2.2.2.2.2.2.1.name = "<init>") {c : Nat} {r : Nat} (hK : clc m.1 m.2.1 m.2.2.2.2.1 → m.1 c = 14 + 1) (hw : 1000 ≤ c) (hs : sr c 2 = 0 ∧ r ≠ 0) (hd : decode cc pc = .ok (.putfield 1, 3)) (hm : m9 = gz_sP m c 2 r) (kk : gz_V cS X G nL rem m9 (pc + 3) lv st) : gz_V cS X G nL rem m pc lv (.ref (gz_ad G r) :: .ref (gz_ad G c) :: st) := by
  subst hm
  exact gz_putff hX (C := RX16) (T := TX16) (N := 3) (ci := 14) (k := 2) (μ' := gz_sP m c 2 r) (v := .ref (gz_ad G r)) rfl (by decide) in_X16 tyX16 tyX16_ok nmX16 (by decide) (hX.2.2.2.2.1 _ q1150) (fun _ h => h) rfl hn0 rfl rfl rfl rfl hd hK hw rfl rfl rfl (fun d tc j h => gz_sP_o d tc j h) (by intro j; rw [← gz_rfp hs.2]; exact gz_sP_v (fun j => ftC 14 j) rfl j) (clc_sP hs.1) kk
theorem cc_X16_7 {X : gz_X} {G : gz_G} {cc : ByteArray} {nL fr lo pc : Nat} {rem : Nat × Nat} {lv : List (Nat × Value)} {rest st0 : List Value} (hX : gz_C cS X G cc nL RX16 fr lo) {c0 : Nat} {m m9 : gM}  (h : cf_X11_init c0 m = some ((), m9)) (hroom : 1 + 1 ≤ fr ∧ 8 + (1 + 11) + 20 ≤ lo) (hst : st0 = [.ref (gz_ad G c0)] ++ rest) (hW : (rest.map fun v => v.category).sum ≤ 8) (hd : decode cc pc = .ok (.invokespecial 7, 3)) (kk : gz_V cS X G nL rem m9 (pc + 3) lv (rest)) : gz_V cS X G nL rem m pc lv st0 :=
  gz_callIN hX cs_E (As := []) (rest := rest) (c := c0) (ct_X11_init (l := X.2.1) h) q1041 (cz_n (Z := cS) hX q1147 rfl) q193 q1040 rfl (n := 0) (by decide +kernel) hroom rfl hst hW hd (rem := rem) kk
theorem cp_X16_13_14 {X : gz_X} {G : gz_G} {cc : ByteArray} {nL fr lo pc : Nat} {rem : Nat × Nat} {m m9 : gM} {lv : List (Nat × Value)} {st : List Value} (hX : gz_C cS X G cc nL RX16 fr lo) (hn0 : X.2.2.2.2.2.2.2.2.1.name = "<init>") {c : Nat} {x : Int32} (hK : clc m.1 m.2.1 m.2.2.2.2.1 → m.1 c = 14 + 1) (hw : 1000 ≤ c) (hd : decode cc pc = .ok (.putfield 13, 3)) (hm : m9 = gz_sI m c 0 x) (kk : gz_V cS X G nL rem m9 (pc + 3) lv st) : gz_V cS X G nL rem m pc lv (.int x :: .ref (gz_ad G c) :: st) := by
  subst hm
  exact gz_putff hX (C := RX16) (T := TX16) (N := 3) (ci := 14) (k := 0) (ty := .int) (μ' := gz_sI m c 0 x) rfl (by decide) in_X16 tyX16 tyX16_ok nmX16 (by decide) (hX.2.2.2.2.1 _ q1148) (fun _ h => h) rfl hn0 rfl rfl rfl rfl hd hK hw rfl rfl rfl (fun d tc j h => gz_sI_o d tc j h) (gz_sI_v (fun j => ftC 14 j) rfl) (fun h => h) kk
theorem cp_X16_17_14 {X : gz_X} {G : gz_G} {cc : ByteArray} {nL fr lo pc : Nat} {rem : Nat × Nat} {m m9 : gM} {lv : List (Nat × Value)} {st : List Value} (hX : gz_C cS X G cc nL RX16 fr lo) (hn0 : X.2.2.2.2.2.2.2.2.1.name = "<init>") {c : Nat} {r : Nat} (hK : clc m.1 m.2.1 m.2.2.2.2.1 → m.1 c = 14 + 1) (hw : 1000 ≤ c) (hs : sr c 1 = 0 ∧ r ≠ 0) (hd : decode cc pc = .ok (.putfield 17, 3)) (hm : m9 = gz_sP m c 1 r) (kk : gz_V cS X G nL rem m9 (pc + 3) lv st) : gz_V cS X G nL rem m pc lv (.ref (gz_ad G r) :: .ref (gz_ad G c) :: st) := by
  subst hm
  exact gz_putff hX (C := RX16) (T := TX16) (N := 3) (ci := 14) (k := 1) (μ' := gz_sP m c 1 r) (v := .ref (gz_ad G r)) rfl (by decide) in_X16 tyX16 tyX16_ok nmX16 (by decide) (hX.2.2.2.2.1 _ q1149) (fun _ h => h) rfl hn0 rfl rfl rfl rfl hd hK hw rfl rfl rfl (fun d tc j h => gz_sP_o d tc j h) (by intro j; rw [← gz_rfp hs.2]; exact gz_sP_v (fun j => ftC 14 j) rfl j) (clc_sP hs.1) kk
/-! FirstSnuffer$Looked.<init>(LFirstSnuffer;ILFirstSnuffer$Value;)V -/
noncomputable def cf_X16_init (c0 : Nat) (c1 : Nat) (x2 : Int32) (c3 : Nat) (m : gM) : Option (Unit × gM) :=
  (if gK m c0 = 15 then (if 1000 ≤ c0 then (if sr c0 2 = 0 ∧ c1 ≠ 0 then gz_let (gz_sP m c0 2 c1) fun m4 => ((cf_X11_init c0 m4).bind fun (_, m6) => (if gK m6 c0 = 15 then (if 1000 ≤ c0 then gz_let (gz_sI m6 c0 0 x2) fun m10 => (if gK m10 c0 = 15 then (if 1000 ≤ c0 then (if sr c0 1 = 0 ∧ c3 ≠ 0 then gz_let (gz_sP m10 c0 1 c3) fun m14 => some ((), m14) else none) else none) else none) else none) else none)) else none) else none) else none)
theorem wm_X16_init {X : gz_X} {G : gz_G} (hX : gz_C cS X G cX16_init 4 RX16 2 40) (hn0 : X.2.2.2.2.2.2.2.2.1.name = "<init>") {c0 : Nat} {c1 : Nat} {x2 : Int32} {c3 : Nat}  {m : gM} {z : (Unit × gM)} (h : cf_X16_init c0 c1 x2 c3 m = some z) (hk : (fun z : (Unit × gM) => gz_kV cS X G 4 (0, 0) cX16_init z.2) z) : gz_V cS X G 4 (0, 0) m 0 [(0, .ref (gz_ad G c0)), (1, .ref (gz_ad G c1)), (2, .int x2), (3, .ref (gz_ad G c3))] [] := by
  unfold cf_X16_init at h
  refine gz_aload_n (pc := 0) hX dX16_init_0 rfl 0 rfl ?_
  refine gz_aload_n (pc := 1) hX dX16_init_1 rfl 1 rfl ?_
  obtain ⟨g1, h⟩ := gz_gu h
  obtain ⟨g2, h⟩ := gz_gu h
  obtain ⟨g3, h⟩ := gz_gu h
  obtain ⟨m4, em4, h⟩ := gz_lt h
  refine cp_X16_1_14 (pc := 2) hX hn0 (c := c0) (fun _ => g1) g2 g3 dX16_init_2 em4 ?_
  refine gz_aload_n (pc := 5) hX dX16_init_5 rfl 0 rfl ?_
  obtain ⟨⟨⟨⟩, m6⟩, c7, h⟩ := gz_bd h
  refine cc_X16_7 (pc := 6) hX c7 ⟨Nat.le_of_ble_eq_true rfl, Nat.le_of_ble_eq_true rfl⟩ (rest := []) rfl (Nat.le_of_ble_eq_true rfl) dX16_init_6 ?_
  refine gz_aload_n (pc := 9) hX dX16_init_9 rfl 0 rfl ?_
  refine gz_iload_n (pc := 10) hX dX16_init_10 rfl 2 rfl ?_
  obtain ⟨g8, h⟩ := gz_gu h
  obtain ⟨g9, h⟩ := gz_gu h
  obtain ⟨m10, em10, h⟩ := gz_lt h
  refine cp_X16_13_14 (pc := 11) hX hn0 (c := c0) (fun _ => g8) g9 dX16_init_11 em10 ?_
  refine gz_aload_n (pc := 14) hX dX16_init_14 rfl 0 rfl ?_
  refine gz_aload_n (pc := 15) hX dX16_init_15 rfl 3 rfl ?_
  obtain ⟨g11, h⟩ := gz_gu h
  obtain ⟨g12, h⟩ := gz_gu h
  obtain ⟨g13, h⟩ := gz_gu h
  obtain ⟨m14, em14, h⟩ := gz_lt h
  refine cp_X16_17_14 (pc := 16) hX hn0 (c := c0) (fun _ => g11) g12 g13 dX16_init_16 em14 ?_
  obtain rfl := Option.some.inj h
  exact hk _ _ dX16_init_19
theorem ct_X16_init {G : gz_G} {l : Launch} {c0 : Nat} {c1 : Nat} {x2 : Int32} {c3 : Nat}  {m m9 : gM} (h : cf_X16_init c0 c1 x2 c3 m = some ((), m9)) : gz_Met cS G l yX16_init cX16_init 4 none (mRm 2 40) [.ref (gz_ad G c0), .ref (gz_ad G c1), .int x2, .ref (gz_ad G c3)] m m9 none :=
  gz_ofVc (by decide +kernel) (Nat.le_of_ble_eq_true rfl) fun X _ hn hX hk => wm_X16_init hX hn h hk
theorem cc_J9_1065 {X : gz_X} {G : gz_G} {cc : ByteArray} {nL fr lo pc : Nat} {rem : Nat × Nat} {lv : List (Nat × Value)} {rest st0 : List Value} (hX : gz_C cS X G cc nL RJ9 fr lo) {x0 : Int32} {x1 : Int32} {x2 : Int32} {w3 : Value} {m m9 : gM}  (hw3 : w3 = .null ∨ ∃ a, w3 = .ref a) {r : Int32} (h : cf_J7_checkFromIndexSize x0 x1 x2 m = some (r, m9)) (hroom : 0 + 1 ≤ fr ∧ 8 + (4 + 11) + 0 ≤ lo) (hst : st0 = [w3, .int x2, .int x1, .int x0] ++ rest) (hW : (rest.map fun v => v.category).sum ≤ 8) (hd : decode cc pc = .ok (.invokestatic 1065, 3)) (kk : gz_V cS X G nL rem m9 (pc + 3) lv (.int r :: rest)) : gz_V cS X G nL rem m pc lv st0 :=
  gz_callS hX cs_E (As := [.int x0, .int x1, .int x2, w3]) (rest := rest) (ct_J7_checkFromIndexSize (l := X.2.1) hw3 h) (lw_S q706 q707 q180 q708) (n := 4) (by decide +kernel) hroom rfl hst hW hd (rem := rem) kk
/-! java/lang/String.checkBoundsOffCount(III)I -/
noncomputable def cf_J9_checkBoundsOffCount (x0 : Int32) (x1 : Int32) (x2 : Int32) (m : gM) : Option (Int32 × gM) :=
  ((cf_J7_checkFromIndexSize x0 x1 x2 m).bind fun (r2, m3) => some (r2, m3))
theorem wm_J9_checkBoundsOffCount {X : gz_X} {G : gz_G} (hX : gz_C cS X G cJ9_checkBoundsOffCount 3 RJ9 1 23) {x0 : Int32} {x1 : Int32} {x2 : Int32}  {m : gM} {z : (Int32 × gM)} (h : cf_J9_checkBoundsOffCount x0 x1 x2 m = some z) (hk : (fun z : (Int32 × gM) => gz_kI cS X G 3 (0, 0) cJ9_checkBoundsOffCount z.2 z.1) z) : gz_V cS X G 3 (0, 0) m 0 [(0, .int x0), (1, .int x1), (2, .int x2)] [] := by
  unfold cf_J9_checkBoundsOffCount at h
  refine gz_iload_n (pc := 0) hX dJ9_checkBoundsOffCount_0 rfl 0 rfl ?_
  refine gz_iload_n (pc := 1) hX dJ9_checkBoundsOffCount_1 rfl 1 rfl ?_
  refine gz_iload_n (pc := 2) hX dJ9_checkBoundsOffCount_2 rfl 2 rfl ?_
  obtain ⟨w1, hw1, zw1⟩ := (cz_s hX).2.2.2.2
  refine gz_gets (pc := 3) hX zw1 (Or.inl (hX.2.2.2.2.1 _ q704)) dJ9_checkBoundsOffCount_3 ?_
  obtain ⟨⟨r2, m3⟩, c4, h⟩ := gz_bd h
  refine cc_J9_1065 (pc := 6) hX hw1 c4 ⟨Nat.le_of_ble_eq_true rfl, Nat.le_of_ble_eq_true rfl⟩ (rest := []) rfl (Nat.le_of_ble_eq_true rfl) dJ9_checkBoundsOffCount_6 ?_
  obtain rfl := Option.some.inj h
  exact hk _ _ dJ9_checkBoundsOffCount_9
theorem ct_J9_checkBoundsOffCount {G : gz_G} {l : Launch} {x0 : Int32} {x1 : Int32} {x2 : Int32}  {m m9 : gM} {r : Int32} (h : cf_J9_checkBoundsOffCount x0 x1 x2 m = some (r, m9)) : gz_Met cS G l yJ9_checkBoundsOffCount cJ9_checkBoundsOffCount 3 (some .int) (mRm 1 23) [.int x0, .int x1, .int x2] m m9 (some (.int r)) :=
  gz_ofI (by decide +kernel) (Nat.le_of_ble_eq_true rfl) fun X _ hX hk => wm_J9_checkBoundsOffCount hX h hk
theorem ck_J9_10 {X : gz_X} {G : gz_G} {cc : ByteArray} {nL fr lo pc : Nat} {rem : Nat × Nat} {m : gM} {lv : List (Nat × Value)} {st : List Value} (hX : gz_C cS X G cc nL RJ9 fr lo) {c : Nat} (hK : m.1 c = 22) (hd : decode cc pc = .ok (.checkcast 10, 3)) (kk : gz_V cS X G nL rem m (pc + 3) lv (.ref (gz_ad G c) :: st)) : gz_V cS X G nL rem m pc lv (.ref (gz_ad G c) :: st) := by
  intro H locs ls cs hR hC hA hl
  have z := hK
  exact va_castS hX.1 hX.2.1 hX.2.2.2.1 (hX.2.2.2.2.1 _ q652) (hX.2.2.2.2.2.1.1.1 21 (RJ9, TJ9, 4) rfl).2 (gz_recv (X := X) hX.2.2.2.2.2.1 hR (ci := 21) (c := c) (q := (RJ9, TJ9, 4)) rfl (by decide) z) hd (kk H locs ls cs hR hC hA hl)
theorem cg_J9_9_21 {X : gz_X} {G : gz_G} {cc : ByteArray} {nL fr lo pc : Nat} {rem : Nat × Nat} {m : gM} {lv : List (Nat × Value)} {st : List Value} (hX : gz_C cS X G cc nL RJ9 fr lo) {c : Nat} {v : Value} (hK : clc m.1 m.2.1 m.2.2.2.2.1 → m.1 c = 21 + 1) (hv : clc m.1 m.2.1 m.2.2.2.2.1 → gz_u (gz_ad G) m (ftC 21 0) c 0 = v) (hd : decode cc pc = .ok (.getfield 9, 3)) (kk : gz_V cS X G nL rem m (pc + 3) lv (v :: st)) : gz_V cS X G nL rem m pc lv (.ref (gz_ad G c) :: st) :=
  gz_getf hX (C := RJ9) (T := TJ9) (N := 4) (ci := 21) (k := 0) rfl (by decide) in_J9 (by decide) (Or.inl (hX.2.2.2.2.1 _ q713)) hd hK hv kk
theorem cc_J9_541 {X : gz_X} {G : gz_G} {cc : ByteArray} {nL fr lo pc : Nat} {rem : Nat × Nat} {lv : List (Nat × Value)} {rest st0 : List Value} (hX : gz_C cS X G cc nL RJ9 fr lo) {c0 : Nat} {c1 : Nat} {m m9 : gM}  {r : Int32} (h : cf_J11_equals c0 c1 m = some (r, m9)) (hroom : 0 + 1 ≤ fr ∧ 8 + (3 + 11) + 0 ≤ lo) (hst : st0 = [.ref (gz_ad G c1), .ref (gz_ad G c0)] ++ rest) (hW : (rest.map fun v => v.category).sum ≤ 8) (hd : decode cc pc = .ok (.invokestatic 541, 3)) (kk : gz_V cS X G nL rem m9 (pc + 3) lv (.int r :: rest)) : gz_V cS X G nL rem m pc lv st0 :=
  gz_callS hX cs_E (As := [.ref (gz_ad G c0), .ref (gz_ad G c1)]) (rest := rest) (ct_J11_equals (l := X.2.1) h) (lw_S q789 q790 q185 q791) (n := 2) (by decide +kernel) hroom rfl hst hW hd (rem := rem) kk
/-! java/lang/String.equals(Ljava/lang/Object;)Z -/
noncomputable def mj_J9_equals_54 (c0 : Nat) (m : gM) : Option (Int32 × gM) :=
  some ((0 : Int32), m)
theorem wb_J9_equals_54 {X : gz_X} {G : gz_G} (hX : gz_C cS X G cJ9_equals 3 RJ9 1 22) {c0 : Nat}  {m : gM} {z : (Int32 × gM)} (h : mj_J9_equals_54 c0 m = some z) (hk : (fun z : (Int32 × gM) => gz_kZ cS X G 3 (0, 0) cJ9_equals z.2 z.1) z) : gz_V cS X G 3 (0, 0) m 54 [(0, .ref (gz_ad G c0))] [] := by
  unfold mj_J9_equals_54 at h
  refine gz_iconst (pc := 54) (v := (0 : Int32)) hX dJ9_equals_54 (by decide) ?_
  obtain rfl := Option.some.inj h
  exact hk _ _ dJ9_equals_55 (Or.inl rfl)
noncomputable def mj_J9_equals_36 (c0 : Nat) (c2 : Nat) (m : gM) : Option (Int32 × gM) :=
  (if gK m c0 = 22 then gz_let (gP m c0 0) fun r2 => (if r2 ≠ 0 then (if gK m c2 = 22 then gz_let (gP m c2 0) fun r5 => (if r5 ≠ 0 then ((cf_J11_equals r2 r5 m).bind fun (r7, m8) => (if r7 = (0 : Int32) then (mj_J9_equals_54 c0 m8) else some ((1 : Int32), m8))) else none) else none) else none) else none)
theorem wb_J9_equals_36 {X : gz_X} {G : gz_G} (hX : gz_C cS X G cJ9_equals 3 RJ9 1 22) {c0 : Nat} {c2 : Nat}  {m : gM} {z : (Int32 × gM)} (h : mj_J9_equals_36 c0 c2 m = some z) (hk : (fun z : (Int32 × gM) => gz_kZ cS X G 3 (0, 0) cJ9_equals z.2 z.1) z) : gz_V cS X G 3 (0, 0) m 36 [(0, .ref (gz_ad G c0)), (2, .ref (gz_ad G c2))] [] := by
  unfold mj_J9_equals_36 at h
  refine gz_aload_n (pc := 36) hX dJ9_equals_36 rfl 0 rfl ?_
  obtain ⟨g1, h⟩ := gz_gu h
  obtain ⟨r2, er2, h⟩ := gz_lt h
  obtain ⟨g3, h⟩ := gz_gu h
  refine cg_J9_9_21 (pc := 37) hX (c := c0) (v := .ref (gz_ad G r2)) (fun _ => g1) (fun _ => gz_rq er2 g3) dJ9_equals_37 ?_
  refine gz_aload_n (pc := 40) hX dJ9_equals_40 rfl 1 rfl ?_
  obtain ⟨g4, h⟩ := gz_gu h
  obtain ⟨r5, er5, h⟩ := gz_lt h
  obtain ⟨g6, h⟩ := gz_gu h
  refine cg_J9_9_21 (pc := 41) hX (c := c2) (v := .ref (gz_ad G r5)) (fun _ => g4) (fun _ => gz_rq er5 g6) dJ9_equals_41 ?_
  obtain ⟨⟨r7, m8⟩, c9, h⟩ := gz_bd h
  refine cc_J9_541 (pc := 44) hX c9 ⟨Nat.le_of_ble_eq_true rfl, Nat.le_of_ble_eq_true rfl⟩ (rest := []) rfl (Nat.le_of_ble_eq_true rfl) dJ9_equals_44 ?_
  refine gz_if_eq (pc := 47) (tgt := 54) hX dJ9_equals_47 (by decide) (fun g10 => ?_) (fun g10 => ?_)
  · replace h := gz_it' g10 h
    refine gz_sub (lw := [(0, .ref (gz_ad G c0))]) [0] rfl ?_
    exact wb_J9_equals_54 hX h hk
  · replace h := gz_if' g10 h
    refine gz_iconst (pc := 50) (v := (1 : Int32)) hX dJ9_equals_50 (by decide) ?_
    refine gz_goto (pc := 51) (tgt := 55) hX dJ9_equals_51 (by decide) ?_
    obtain rfl := Option.some.inj h
    exact hk _ _ dJ9_equals_55 (Or.inr rfl)
noncomputable def cf_J9_equals (c0 : Nat) (c1 : Nat) (m : gM) : Option (Int32 × gM) :=
  (if gK m c0 ≠ 0 ∧ gK m c1 ≠ 0 then (if c0 = c1 then some ((1 : Int32), m) else (if gK m c1 = 22 then (if (1 : Int32) = (0 : Int32) then (mj_J9_equals_54 c0 m) else (if gK m c1 = 22 then (if (1 : Int32) = (0 : Int32) then (mj_J9_equals_36 c0 c1 m) else (if gK m c0 = 22 then (if gK m c1 = 22 then (if (gI m c0 1) = (gI m c1 1) then (mj_J9_equals_36 c0 c1 m) else (mj_J9_equals_54 c0 m)) else none) else none)) else none)) else none)) else none)
theorem wm_J9_equals {X : gz_X} {G : gz_G} (hX : gz_C cS X G cJ9_equals 3 RJ9 1 22) {c0 : Nat} {c1 : Nat}  {m : gM} {z : (Int32 × gM)} (h : cf_J9_equals c0 c1 m = some z) (hk : (fun z : (Int32 × gM) => gz_kZ cS X G 3 (0, 0) cJ9_equals z.2 z.1) z) : gz_V cS X G 3 (0, 0) m 0 [(0, .ref (gz_ad G c0)), (1, .ref (gz_ad G c1))] [] := by
  unfold cf_J9_equals at h
  refine gz_aload_n (pc := 0) hX dJ9_equals_0 rfl 0 rfl ?_
  refine gz_aload_n (pc := 1) hX dJ9_equals_1 rfl 1 rfl ?_
  obtain ⟨g1, h⟩ := gz_gu h
  refine gz_acmp_ne (pc := 2) (x := c0) (y := c1) (tgt := 7) hX g1 dJ9_equals_2 (by decide) (fun g2 => ?_) (fun g2 => ?_)
  · replace h := gz_if' g2 h
    refine gz_aload_n (pc := 7) hX dJ9_equals_7 rfl 1 rfl ?_
    obtain ⟨g3, h⟩ := gz_gu h
    refine gz_inst (pc := 8) (c := c1) (ci := 21) (q := (RJ9, TJ9, 4)) hX rfl (by decide) g3 q652 dJ9_equals_8 ?_
    refine gz_if_eq (pc := 11) (tgt := 54) hX dJ9_equals_11 (by decide) (fun g4 => ?_) (fun g4 => ?_)
    · replace h := gz_it' g4 h
      refine gz_sub (lw := [(0, .ref (gz_ad G c0))]) [0] rfl ?_
      exact wb_J9_equals_54 hX h hk
    · replace h := gz_if' g4 h
      refine gz_aload_n (pc := 14) hX dJ9_equals_14 rfl 1 rfl ?_
      obtain ⟨g5, h⟩ := gz_gu h
      refine ck_J9_10 (pc := 15) hX (c := c1) g5 dJ9_equals_15 ?_
      refine gz_astore_n (pc := 18) (lw := [(2, .ref (gz_ad G c1)), (0, .ref (gz_ad G c0)), (1, .ref (gz_ad G c1))]) hX dJ9_equals_18 rfl (by decide) rfl ?_
      refine cs_J9_38 (pc := 19) hX dJ9_equals_19 ?_
      refine gz_if_eq (pc := 22) (tgt := 36) hX dJ9_equals_22 (by decide) (fun g6 => ?_) (fun g6 => ?_)
      · replace h := gz_it' g6 h
        refine gz_sub (lw := [(0, .ref (gz_ad G c0)), (2, .ref (gz_ad G c1))]) [1, 0] rfl ?_
        exact wb_J9_equals_36 hX h hk
      · replace h := gz_if' g6 h
        refine gz_aload_n (pc := 25) hX dJ9_equals_25 rfl 1 rfl ?_
        obtain ⟨g7, h⟩ := gz_gu h
        refine cg_J9_15_21 (pc := 26) hX (c := c0) (v := .int (gI m c0 1)) (fun _ => g7) (fun _ => rfl) dJ9_equals_26 ?_
        refine gz_aload_n (pc := 29) hX dJ9_equals_29 rfl 0 rfl ?_
        obtain ⟨g8, h⟩ := gz_gu h
        refine cg_J9_15_21 (pc := 30) hX (c := c1) (v := .int (gI m c1 1)) (fun _ => g8) (fun _ => rfl) dJ9_equals_30 ?_
        refine gz_icmp_ne (pc := 33) (tgt := 54) hX dJ9_equals_33 (by decide) (fun g9 => ?_) (fun g9 => ?_)
        · replace h := gz_if' g9 h
          refine gz_sub (lw := [(0, .ref (gz_ad G c0))]) [1] rfl ?_
          exact wb_J9_equals_54 hX h hk
        · replace h := gz_it' g9 h
          refine gz_sub (lw := [(0, .ref (gz_ad G c0)), (2, .ref (gz_ad G c1))]) [1, 0] rfl ?_
          exact wb_J9_equals_36 hX h hk
  · replace h := gz_it' g2 h
    refine gz_iconst (pc := 5) (v := (1 : Int32)) hX dJ9_equals_5 (by decide) ?_
    obtain rfl := Option.some.inj h
    exact hk _ _ dJ9_equals_6 (Or.inr rfl)
theorem ct_J9_equals {G : gz_G} {l : Launch} {c0 : Nat} {c1 : Nat}  {m m9 : gM} {r : Int32} (h : cf_J9_equals c0 c1 m = some (r, m9)) : gz_Met cS G l yJ9_equals cJ9_equals 3 (some .boolean) (mRm 1 22) [.ref (gz_ad G c0), .ref (gz_ad G c1)] m m9 (some (.int r)) :=
  gz_ofZ (by decide +kernel) (Nat.le_of_ble_eq_true rfl) fun X _ hX hk => wm_J9_equals hX h hk
