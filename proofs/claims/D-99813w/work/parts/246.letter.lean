theorem cc_X0_237B {X : gz_X} {G : gz_G} {cc : ByteArray} {nL fr lo pc : Nat} {rem : Nat × Nat} {lv : List (Nat × Value)} {rest st0 : List Value} (hX : gz_C cS X G cc nL RX0 fr lo) {c0 : Nat} {x1 : Int32} {m m9 : gM} (hK : m.1 c0 = 6 + 1 ∨ m.1 c0 = 8 + 1)  {r : Int32} (h : cf_X7_signAt c0 x1 m = some (r, m9)) (hroom : 5 + 1 ≤ fr ∧ 8 + (2 + 11) + 106 ≤ lo) (hst : st0 = [.int x1, .ref (gz_ad G c0)] ++ rest) (hW : (rest.map fun v => v.category).sum ≤ 8) (hd : decode cc pc = .ok (.invokevirtual 237, 3)) (kk : gz_V cS X G nL rem m9 (pc + 3) lv (.int r :: rest)) : gz_V cS X G nL rem m pc lv st0 := by
  rcases hK with z | z
  · exact gz_callV2 hX cs_E (As := [.int x1]) (rest := rest) (q := (RX7, TX7, 1)) (ci := 6) (c := c0) (ct_X7_signAt (l := X.2.1) h) (lw_V q1348 q1349 q1350 q187 q1353) (n := 1) (by decide +kernel) hroom rfl rfl (by decide) (fun _ => z) hst hW hd (rem := rem) kk
  · exact gz_callU hX cs_E (x := ⟨"FirstSnuffer$Named", "signAt", "(I)I"⟩) (owner := "FirstSnuffer$Named") (As := [.int x1]) (rest := rest) (q := (RX9, TX9, 4)) (ci := 8) (c := c0) (ct_X7_signAt (l := X.2.1) h) (va_cwU 1 hX.2.2.2.2.1 (lw_app (by intro w hw; simp only [List.mem_cons, List.not_mem_nil, or_false] at hw; rcases hw with e | e | e | e | e <;> rw [e] <;> first | exact q1348 | exact q1351 | exact q1352 | exact q1349 | exact q187) (lw_meth q1353)) rfl rfl rfl rfl (by decide +kernel) ⟨Nat.le_trans hroom.1 hX.2.2.2.2.2.2.1, Nat.le_trans hroom.2 hX.2.2.2.2.2.2.2⟩) rfl rfl (by decide) (fun _ => z) hst hW hd (rem := rem) kk
/-! FirstSnuffer.letter(III)I -/
noncomputable def mj_X0_letterB_22  (m : gM) : Option (Int32 × gM) :=
  some ((-1 : Int32), m)
theorem wb_X0_letterB_22 {X : gz_X} {G : gz_G} (hX : gz_C cS X G cX0_letter 5 RX0 6 127)   {m : gM} {z : (Int32 × gM)} (h : mj_X0_letterB_22  m = some z) (hk : (fun z : (Int32 × gM) => gz_kI cS X G 5 (0, 0) cX0_letter z.2 z.1) z) : gz_V cS X G 5 (0, 0) m 22 [(0, .ref (gz_ad G 1000))] [] := by
  unfold mj_X0_letterB_22 at h
  refine gz_iconst (pc := 22) (v := (-1 : Int32)) hX dX0_letter_22 (by decide) ?_
  obtain rfl := Option.some.inj h
  exact hk _ _ dX0_letter_23
noncomputable def mj_X0_letterB_45 (x2 : Int32) (x3 : Int32) (s0 : Nat) (m : gM) : Option (Int32 × gM) :=
  (if gK m s0 = 21 then ((cf_J2_size s0 m).bind fun (r2, m3) => (if r2 ≤ x2 then some ((-1 : Int32), m3) else (if gK m3 s0 = 21 then ((cf_J2_get s0 x2 m3).bind fun (r7, m8) => (if gK m8 r7 = 7 ∨ gK m8 r7 = 9 then (if gK m8 r7 = 7 ∨ gK m8 r7 = 9 then ((cf_X7_signAt r7 x3 m8).bind fun (r12, m13) => some (r12, m13)) else none) else none)) else none))) else none)
theorem wb_X0_letterB_45 {X : gz_X} {G : gz_G} (hX : gz_C cS X G cX0_letter 5 RX0 6 127) {x2 : Int32} {x3 : Int32} {s0 : Nat}  {m : gM} {z : (Int32 × gM)} (h : mj_X0_letterB_45 x2 x3 s0 m = some z) (hk : (fun z : (Int32 × gM) => gz_kI cS X G 5 (0, 0) cX0_letter z.2 z.1) z) : gz_V cS X G 5 (0, 0) m 45 [(0, .ref (gz_ad G 1000)), (2, .int x2), (3, .int x3)] [.ref (gz_ad G s0)] := by
  unfold mj_X0_letterB_45 at h
  refine gz_astore (pc := 45) (lw := [(4, .ref (gz_ad G s0)), (0, .ref (gz_ad G 1000)), (2, .int x2), (3, .int x3)]) hX dX0_letter_45 (by decide) rfl ?_
  refine gz_iload_n (pc := 47) hX dX0_letter_47 rfl 2 rfl ?_
  refine gz_aload (pc := 48) hX dX0_letter_48 0 rfl ?_
  obtain ⟨g1, h⟩ := gz_gu h
  obtain ⟨⟨r2, m3⟩, c4, h⟩ := gz_bd h
  refine cc_X0_168 (pc := 50) hX (fun _ => g1) c4 ⟨Nat.le_of_ble_eq_true rfl, Nat.le_of_ble_eq_true rfl⟩ (rest := [.int x2]) rfl (Nat.le_of_ble_eq_true rfl) dX0_letter_50 ?_
  refine gz_icmp_ge (pc := 55) (tgt := 76) hX dX0_letter_55 (by decide) (fun g5 => ?_) (fun g5 => ?_)
  · replace h := gz_it' g5 h
    refine gz_iconst (pc := 76) (v := (-1 : Int32)) hX dX0_letter_76 (by decide) ?_
    obtain rfl := Option.some.inj h
    exact hk _ _ dX0_letter_77
  · replace h := gz_if' g5 h
    refine gz_aload (pc := 58) hX dX0_letter_58 0 rfl ?_
    refine gz_iload_n (pc := 60) hX dX0_letter_60 rfl 2 rfl ?_
    obtain ⟨g6, h⟩ := gz_gu h
    obtain ⟨⟨r7, m8⟩, c9, h⟩ := gz_bd h
    refine cc_X0_185 (pc := 61) hX (fun _ => g6) c9 ⟨Nat.le_of_ble_eq_true rfl, Nat.le_of_ble_eq_true rfl⟩ (rest := []) rfl (Nat.le_of_ble_eq_true rfl) dX0_letter_61 ?_
    obtain ⟨g10, h⟩ := gz_gu h
    refine ck_X0_235 (pc := 66) hX (c := r7) g10 dX0_letter_66 ?_
    refine gz_iload_n (pc := 69) hX dX0_letter_69 rfl 3 rfl ?_
    obtain ⟨g11, h⟩ := gz_gu h
    obtain ⟨⟨r12, m13⟩, c14, h⟩ := gz_bd h
    refine cc_X0_237B (pc := 70) hX g11 c14 ⟨Nat.le_of_ble_eq_true rfl, Nat.le_of_ble_eq_true rfl⟩ (rest := []) rfl (Nat.le_of_ble_eq_true rfl) dX0_letter_70 ?_
    refine gz_goto (pc := 73) (tgt := 77) hX dX0_letter_73 (by decide) ?_
    obtain rfl := Option.some.inj h
    exact hk _ _ dX0_letter_77
noncomputable def cf_X0_letterB (x1 : Int32) (x2 : Int32) (x3 : Int32) (m : gM) : Option (Int32 × gM) :=
  ((cf_X0_is x3 (0 : Int32) (5 : Int32) m).bind fun (r1, m2) => (if r1 = (0 : Int32) then (mj_X0_letterB_22  m2) else ((cf_X0_is x1 (0 : Int32) (1 : Int32) m2).bind fun (r5, m6) => (if r5 = (0 : Int32) then (mj_X0_letterB_22  m6) else (if (0 : Int32) ≤ x2 then (if x1 = (0 : Int32) then gz_let (gP m6 1000 0) fun r16 => (if r16 ≠ 0 then (if gK m6 r16 = 2 then gz_let (gP m6 r16 3) fun r19 => (if r19 ≠ 0 then (mj_X0_letterB_45 x2 x3 r19 m6) else none) else none) else none) else gz_let (gP m6 1000 0) fun r11 => (if r11 ≠ 0 then (if gK m6 r11 = 2 then gz_let (gP m6 r11 5) fun r14 => (if r14 ≠ 0 then (mj_X0_letterB_45 x2 x3 r14 m6) else none) else none) else none)) else (mj_X0_letterB_22  m6))))))
theorem wm_X0_letterB {X : gz_X} {G : gz_G} (hX : gz_C cS X G cX0_letter 5 RX0 6 127) {x1 : Int32} {x2 : Int32} {x3 : Int32}  {m : gM} {z : (Int32 × gM)} (h : cf_X0_letterB x1 x2 x3 m = some z) (hk : (fun z : (Int32 × gM) => gz_kI cS X G 5 (0, 0) cX0_letter z.2 z.1) z) : gz_V cS X G 5 (0, 0) m 0 [(0, .ref (gz_ad G 1000)), (1, .int x1), (2, .int x2), (3, .int x3)] [] := by
  unfold cf_X0_letterB at h
  refine gz_iload_n (pc := 0) hX dX0_letter_0 rfl 3 rfl ?_
  refine gz_iconst (pc := 1) (v := (0 : Int32)) hX dX0_letter_1 (by decide) ?_
  refine gz_iconst (pc := 2) (v := (5 : Int32)) hX dX0_letter_2 (by decide) ?_
  obtain ⟨⟨r1, m2⟩, c3, h⟩ := gz_bd h
  refine cc_X0_231 (pc := 3) hX c3 ⟨Nat.le_of_ble_eq_true rfl, Nat.le_of_ble_eq_true rfl⟩ (rest := []) rfl (Nat.le_of_ble_eq_true rfl) dX0_letter_3 ?_
  refine gz_if_eq (pc := 6) (tgt := 22) hX dX0_letter_6 (by decide) (fun g4 => ?_) (fun g4 => ?_)
  · replace h := gz_it' g4 h
    refine gz_sub (lw := [(0, .ref (gz_ad G 1000))]) [0] rfl ?_
    exact wb_X0_letterB_22 hX h hk
  · replace h := gz_if' g4 h
    refine gz_iload_n (pc := 9) hX dX0_letter_9 rfl 1 rfl ?_
    refine gz_iconst (pc := 10) (v := (0 : Int32)) hX dX0_letter_10 (by decide) ?_
    refine gz_iconst (pc := 11) (v := (1 : Int32)) hX dX0_letter_11 (by decide) ?_
    obtain ⟨⟨r5, m6⟩, c7, h⟩ := gz_bd h
    refine cc_X0_231 (pc := 12) hX c7 ⟨Nat.le_of_ble_eq_true rfl, Nat.le_of_ble_eq_true rfl⟩ (rest := []) rfl (Nat.le_of_ble_eq_true rfl) dX0_letter_12 ?_
    refine gz_if_eq (pc := 15) (tgt := 22) hX dX0_letter_15 (by decide) (fun g8 => ?_) (fun g8 => ?_)
    · replace h := gz_it' g8 h
      refine gz_sub (lw := [(0, .ref (gz_ad G 1000))]) [0] rfl ?_
      exact wb_X0_letterB_22 hX h hk
    · replace h := gz_if' g8 h
      refine gz_iload_n (pc := 18) hX dX0_letter_18 rfl 2 rfl ?_
      refine gz_if_ge (pc := 19) (tgt := 24) hX dX0_letter_19 (by decide) (fun g9 => ?_) (fun g9 => ?_)
      · replace h := gz_it' g9 h
        refine gz_iload_n (pc := 24) hX dX0_letter_24 rfl 1 rfl ?_
        refine gz_if_ne (pc := 25) (tgt := 38) hX dX0_letter_25 (by decide) (fun g10 => ?_) (fun g10 => ?_)
        · replace h := gz_if' g10 h
          refine gz_aload_n (pc := 38) hX dX0_letter_38 rfl 0 rfl ?_
          obtain ⟨r11, er11, h⟩ := gz_lt h
          obtain ⟨g12, h⟩ := gz_gu h
          refine cg_X0_31_0 (pc := 39) hX (c := 1000) (v := .ref (gz_ad G r11)) (fun h => cz_k h rfl) (fun _ => gz_rq er11 g12) dX0_letter_39 ?_
          obtain ⟨g13, h⟩ := gz_gu h
          obtain ⟨r14, er14, h⟩ := gz_lt h
          obtain ⟨g15, h⟩ := gz_gu h
          refine cg_X0_173_1 (pc := 42) hX (c := r11) (v := .ref (gz_ad G r14)) (fun _ => g13) (fun _ => gz_rq er14 g15) dX0_letter_42 ?_
          refine gz_sub (lw := [(0, .ref (gz_ad G 1000)), (2, .int x2), (3, .int x3)]) [0, 2, 3] rfl ?_
          exact wb_X0_letterB_45 hX h hk
        · replace h := gz_it' g10 h
          refine gz_aload_n (pc := 28) hX dX0_letter_28 rfl 0 rfl ?_
          obtain ⟨r16, er16, h⟩ := gz_lt h
          obtain ⟨g17, h⟩ := gz_gu h
          refine cg_X0_31_0 (pc := 29) hX (c := 1000) (v := .ref (gz_ad G r16)) (fun h => cz_k h rfl) (fun _ => gz_rq er16 g17) dX0_letter_29 ?_
          obtain ⟨g18, h⟩ := gz_gu h
          obtain ⟨r19, er19, h⟩ := gz_lt h
          obtain ⟨g20, h⟩ := gz_gu h
          refine cg_X0_164_1 (pc := 32) hX (c := r16) (v := .ref (gz_ad G r19)) (fun _ => g18) (fun _ => gz_rq er19 g20) dX0_letter_32 ?_
          refine gz_goto (pc := 35) (tgt := 45) hX dX0_letter_35 (by decide) ?_
          refine gz_sub (lw := [(0, .ref (gz_ad G 1000)), (2, .int x2), (3, .int x3)]) [0, 2, 3] rfl ?_
          exact wb_X0_letterB_45 hX h hk
      · replace h := gz_if' g9 h
        refine gz_sub (lw := [(0, .ref (gz_ad G 1000))]) [0] rfl ?_
        exact wb_X0_letterB_22 hX h hk
theorem ct_X0_letterB {G : gz_G} {l : Launch} {x1 : Int32} {x2 : Int32} {x3 : Int32}  {m m9 : gM} {r : Int32} (h : cf_X0_letterB x1 x2 x3 m = some (r, m9)) : gz_Met cS G l yX0_letter cX0_letter 5 (some .int) (mRm 6 127) [.ref (gz_ad G 1000), .int x1, .int x2, .int x3] m m9 (some (.int r)) :=
  gz_ofI (by decide +kernel) (Nat.le_of_ble_eq_true rfl) fun X _ hX hk => wm_X0_letterB hX h hk
