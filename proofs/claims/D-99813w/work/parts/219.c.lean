set_option maxRecDepth 100000
theorem cc_X2_199 {X : gz_X} {G : gz_G} {cc : ByteArray} {nL fr lo pc : Nat} {rem : Nat × Nat} {lv : List (Nat × Value)} {rest st0 : List Value} (hX : gz_C cS X G cc nL RX2 fr lo) {c0 : Nat} {m m9 : gM} (hK : clc m.1 m.2.1 m.2.2.2.2.1 → m.1 c0 = 21 + 1)  {r : Int32} (h : cf_J9_hashCode c0 m = some (r, m9)) (hroom : 3 + 1 ≤ fr ∧ 8 + (2 + 11) + 69 ≤ lo) (hst : st0 = [.ref (gz_ad G c0)] ++ rest) (hW : (rest.map fun v => v.category).sum ≤ 8) (hd : decode cc pc = .ok (.invokevirtual 199, 3)) (kk : gz_V cS X G nL rem m9 (pc + 3) lv (.int r :: rest)) : gz_V cS X G nL rem m pc lv st0 :=
  gz_callV2 hX cs_E (As := []) (rest := rest) (q := (RJ9, TJ9, 4)) (ci := 21) (c := c0) (ct_J9_hashCode (l := X.2.1) h) (lw_V q731 q732 q733 q183 q734) (n := 0) (by decide +kernel) hroom rfl rfl (by decide) hK hst hW hd (rem := rem) kk
theorem cl_s_X2_210 {X : gz_X} {G : gz_G} {cc : ByteArray} {nL : Nat} {own : String} {fr lo : Nat} (hX : gz_C cS X G cc nL own fr lo) : vk_R RX2 210 "starts" (gz_ad G 144) X.2.2.2.2.1 := (cz_s hX).1 _ (List.mem_of_getElem? (show cKs[40]? = some ("FirstSnuffer$Reader", 210, "starts", 144) from rfl))
theorem cn_X2_114 {X : gz_X} {G : gz_G} {cc : ByteArray} {nL fr lo pc : Nat} {rem : Nat × Nat} {m m9 : gM} {lv : List (Nat × Value)} {st : List Value} (hX : gz_C cS X G cc nL RX2 fr lo) (hz : gZ m ≠ 0) (hd : decode cc pc = .ok (.new 114, 3)) (hm : m9 = gz_al m (6 + 1) 0 1) (kk : gz_V cS X G nL rem m9 (pc + 3) lv (.ref (gz_ad G (gZ m)) :: st)) : gz_V cS X G nL (rem.1 + 1, rem.2 + 1) m pc lv st :=
  gz_new hX (C := RX7) (T := TX7) (N := 1) (ci := 6) rfl (by decide) in_X7 tyX7 tyX7_ok (by decide +kernel) q798 q799 q187 hz clc_al hd hm kk
theorem cc_X2_212 {X : gz_X} {G : gz_G} {cc : ByteArray} {nL fr lo pc : Nat} {rem : Nat × Nat} {lv : List (Nat × Value)} {rest st0 : List Value} (hX : gz_C cS X G cc nL RX2 fr lo) {c0 : Nat} {c1 : Nat} {m m9 : gM}  (h : cf_X7_init c0 c1 m = some ((), m9)) (hroom : 1 + 1 ≤ fr ∧ 8 + (2 + 11) + 20 ≤ lo) (hst : st0 = [.ref (gz_ad G c1), .ref (gz_ad G c0)] ++ rest) (hW : (rest.map fun v => v.category).sum ≤ 8) (hd : decode cc pc = .ok (.invokespecial 212, 3)) (kk : gz_V cS X G nL rem m9 (pc + 3) lv (rest)) : gz_V cS X G nL rem m pc lv st0 :=
  gz_callI hX cs_E (As := [.ref (gz_ad G c1)]) (rest := rest) (c := c0) (ct_X7_init (l := X.2.1) h) q837 q187 q835 q836 rfl (n := 1) (by decide +kernel) hroom rfl hst hW hd (rem := rem) kk
theorem cc_X2_214 {X : gz_X} {G : gz_G} {cc : ByteArray} {nL fr lo pc : Nat} {rem : Nat × Nat} {lv : List (Nat × Value)} {rest st0 : List Value} (hX : gz_C cS X G cc nL RX2 fr lo) {x1 : Int32} {m m9 : gM} (hK : clc m.1 m.2.1 m.2.2.2.2.1 → m.1 1011 = 2 + 1)  (h : cf_X2_readsDoor x1 m = some (some (), m9)) (hroom : 9 + 1 ≤ fr ∧ 8 + (4 + 11) + 198 ≤ lo) (hst : st0 = [.int x1, .ref (gz_ad G 1011)] ++ rest) (hW : (rest.map fun v => v.category).sum ≤ 8) (hd : decode cc pc = .ok (.invokevirtual 214, 3)) (kk : gz_V cS X G nL rem m9 (pc + 3) lv (rest)) : gz_V cS X G nL (rem.1 + (gZ m9 - gZ m), rem.2 + (gW m9 - gW m)) m pc lv st0 :=
  gz_callX hX cs_E (As := [.int x1]) (rest := rest) (q := (RX2, TX2, 8)) (ci := 2) (c := 1011) (ct_X2_readsDoor (l := X.2.1) h) (lw_V q918 q920 qs17 q172 q921) (n := 1) (by decide +kernel) hroom rfl rfl (by decide) hK hst hW hd (rem := rem) (fun rv e => by obtain rfl := Option.some.inj e; exact kk) (fun e => by simp at e)
theorem cc_X2_214x {X : gz_X} {G : gz_G} {cc : ByteArray} {nL fr lo pc : Nat} {rem : Nat × Nat} {lv : List (Nat × Value)} {rest st0 : List Value} (hX : gz_C cS X G cc nL RX2 fr lo) {x1 : Int32} {m m9 : gM} (hK : clc m.1 m.2.1 m.2.2.2.2.1 → m.1 1011 = 2 + 1)  (h : cf_X2_readsDoor x1 m = some (none, m9)) (hroom : 9 + 1 ≤ fr ∧ 8 + (4 + 11) + 198 ≤ lo) (hst : st0 = [.int x1, .ref (gz_ad G 1011)] ++ rest) (hW : (rest.map fun v => v.category).sum ≤ 8) (hd : decode cc pc = .ok (.invokevirtual 214, 3)) (kk : gz_VX cS X G nL rem m9 pc lv) : gz_V cS X G nL (rem.1 + (gZ m9 - gZ m), rem.2 + (gW m9 - gW m)) m pc lv st0 :=
  gz_callX hX cs_E (As := [.int x1]) (rest := rest) (q := (RX2, TX2, 8)) (ci := 2) (c := 1011) (ct_X2_readsDoor (l := X.2.1) h) (lw_V q918 q920 qs17 q172 q921) (n := 1) (by decide +kernel) hroom rfl rfl (by decide) hK hst hW hd (rem := rem) (fun rv e => by simp at e) (fun _ => kk)
theorem cc_X2_217 {X : gz_X} {G : gz_G} {cc : ByteArray} {nL fr lo pc : Nat} {rem : Nat × Nat} {lv : List (Nat × Value)} {rest st0 : List Value} (hX : gz_C cS X G cc nL RX2 fr lo) {x1 : Int32} {m m9 : gM} (hK : clc m.1 m.2.1 m.2.2.2.2.1 → m.1 1011 = 2 + 1)  (h : cf_X2_readsThing x1 m = some (some (), m9)) (hroom : 9 + 1 ≤ fr ∧ 8 + (5 + 11) + 198 ≤ lo) (hst : st0 = [.int x1, .ref (gz_ad G 1011)] ++ rest) (hW : (rest.map fun v => v.category).sum ≤ 8) (hd : decode cc pc = .ok (.invokevirtual 217, 3)) (kk : gz_V cS X G nL rem m9 (pc + 3) lv (rest)) : gz_V cS X G nL (rem.1 + (gZ m9 - gZ m), rem.2 + (gW m9 - gW m)) m pc lv st0 :=
  gz_callX hX cs_E (As := [.int x1]) (rest := rest) (q := (RX2, TX2, 8)) (ci := 2) (c := 1011) (ct_X2_readsThing (l := X.2.1) h) (lw_V q963 q965 qs22 q172 q966) (n := 1) (by decide +kernel) hroom rfl rfl (by decide) hK hst hW hd (rem := rem) (fun rv e => by obtain rfl := Option.some.inj e; exact kk) (fun e => by simp at e)
theorem cc_X2_217x {X : gz_X} {G : gz_G} {cc : ByteArray} {nL fr lo pc : Nat} {rem : Nat × Nat} {lv : List (Nat × Value)} {rest st0 : List Value} (hX : gz_C cS X G cc nL RX2 fr lo) {x1 : Int32} {m m9 : gM} (hK : clc m.1 m.2.1 m.2.2.2.2.1 → m.1 1011 = 2 + 1)  (h : cf_X2_readsThing x1 m = some (none, m9)) (hroom : 9 + 1 ≤ fr ∧ 8 + (5 + 11) + 198 ≤ lo) (hst : st0 = [.int x1, .ref (gz_ad G 1011)] ++ rest) (hW : (rest.map fun v => v.category).sum ≤ 8) (hd : decode cc pc = .ok (.invokevirtual 217, 3)) (kk : gz_VX cS X G nL rem m9 pc lv) : gz_V cS X G nL (rem.1 + (gZ m9 - gZ m), rem.2 + (gW m9 - gW m)) m pc lv st0 :=
  gz_callX hX cs_E (As := [.int x1]) (rest := rest) (q := (RX2, TX2, 8)) (ci := 2) (c := 1011) (ct_X2_readsThing (l := X.2.1) h) (lw_V q963 q965 qs22 q172 q966) (n := 1) (by decide +kernel) hroom rfl rfl (by decide) hK hst hW hd (rem := rem) (fun rv e => by simp at e) (fun _ => kk)
theorem cc_X2_220 {X : gz_X} {G : gz_G} {cc : ByteArray} {nL fr lo pc : Nat} {rem : Nat × Nat} {lv : List (Nat × Value)} {rest st0 : List Value} (hX : gz_C cS X G cc nL RX2 fr lo) {x1 : Int32} {m m9 : gM} (hK : clc m.1 m.2.1 m.2.2.2.2.1 → m.1 1011 = 2 + 1)  (h : cf_X2_readsTie x1 m = some (some (), m9)) (hroom : 9 + 1 ≤ fr ∧ 8 + (4 + 11) + 198 ≤ lo) (hst : st0 = [.int x1, .ref (gz_ad G 1011)] ++ rest) (hW : (rest.map fun v => v.category).sum ≤ 8) (hd : decode cc pc = .ok (.invokevirtual 220, 3)) (kk : gz_V cS X G nL rem m9 (pc + 3) lv (rest)) : gz_V cS X G nL (rem.1 + (gZ m9 - gZ m), rem.2 + (gW m9 - gW m)) m pc lv st0 :=
  gz_callX hX cs_E (As := [.int x1]) (rest := rest) (q := (RX2, TX2, 8)) (ci := 2) (c := 1011) (ct_X2_readsTie (l := X.2.1) h) (lw_V q992 q994 qs23 q172 q995) (n := 1) (by decide +kernel) hroom rfl rfl (by decide) hK hst hW hd (rem := rem) (fun rv e => by obtain rfl := Option.some.inj e; exact kk) (fun e => by simp at e)
theorem cc_X2_220x {X : gz_X} {G : gz_G} {cc : ByteArray} {nL fr lo pc : Nat} {rem : Nat × Nat} {lv : List (Nat × Value)} {rest st0 : List Value} (hX : gz_C cS X G cc nL RX2 fr lo) {x1 : Int32} {m m9 : gM} (hK : clc m.1 m.2.1 m.2.2.2.2.1 → m.1 1011 = 2 + 1)  (h : cf_X2_readsTie x1 m = some (none, m9)) (hroom : 9 + 1 ≤ fr ∧ 8 + (4 + 11) + 198 ≤ lo) (hst : st0 = [.int x1, .ref (gz_ad G 1011)] ++ rest) (hW : (rest.map fun v => v.category).sum ≤ 8) (hd : decode cc pc = .ok (.invokevirtual 220, 3)) (kk : gz_VX cS X G nL rem m9 pc lv) : gz_V cS X G nL (rem.1 + (gZ m9 - gZ m), rem.2 + (gW m9 - gW m)) m pc lv st0 :=
  gz_callX hX cs_E (As := [.int x1]) (rest := rest) (q := (RX2, TX2, 8)) (ci := 2) (c := 1011) (ct_X2_readsTie (l := X.2.1) h) (lw_V q992 q994 qs23 q172 q995) (n := 1) (by decide +kernel) hroom rfl rfl (by decide) hK hst hW hd (rem := rem) (fun rv e => by simp at e) (fun _ => kk)
theorem cp_X2_223_1 {X : gz_X} {G : gz_G} {cc : ByteArray} {nL fr lo pc : Nat} {rem : Nat × Nat} {m m9 : gM} {lv : List (Nat × Value)} {st : List Value} (hX : gz_C cS X G cc nL RX2 fr lo) {c : Nat} {x : Int32} (hK : clc m.1 m.2.1 m.2.2.2.2.1 → m.1 c = 1 + 1) (hw : 1000 ≤ c) (hd : decode cc pc = .ok (.putfield 223, 3)) (hm : m9 = gz_sI m c 1 x) (kk : gz_V cS X G nL rem m9 (pc + 3) lv st) : gz_V cS X G nL rem m pc lv (.int x :: .ref (gz_ad G c) :: st) := by
  subst hm
  exact gz_putf hX (C := RX1) (T := TX1) (N := 9) (ci := 1) (k := 1) (ty := .int) (μ' := gz_sI m c 1 x) rfl (by decide) in_X1 tyX1 tyX1_ok nmX1 (by decide) (Or.inr ⟨_, va_Nw.use rfl (cz_n (Z := cS) hX q253 rfl)⟩) rfl rfl rfl rfl hd hK hw rfl rfl rfl (fun d tc j h => gz_sI_o d tc j h) (gz_sI_v (fun j => ftC 1 j) rfl) (fun h => h) kk
theorem cl_s_X2_208 {X : gz_X} {G : gz_G} {cc : ByteArray} {nL : Nat} {own : String} {fr lo : Nat} (hX : gz_C cS X G cc nL own fr lo) : vk_R RX2 208 "tie" (gz_ad G 142) X.2.2.2.2.1 := (cz_s hX).1 _ (List.mem_of_getElem? (show cKs[39]? = some ("FirstSnuffer$Reader", 208, "tie", 142) from rfl))
theorem cl_s_X2_204 {X : gz_X} {G : gz_G} {cc : ByteArray} {nL : Nat} {own : String} {fr lo : Nat} (hX : gz_C cS X G cc nL own fr lo) : vk_R RX2 204 "door" (gz_ad G 132) X.2.2.2.2.1 := (cz_s hX).1 _ (List.mem_of_getElem? (show cKs[37]? = some ("FirstSnuffer$Reader", 204, "door", 132) from rfl))
theorem cl_s_X2_202 {X : gz_X} {G : gz_G} {cc : ByteArray} {nL : Nat} {own : String} {fr lo : Nat} (hX : gz_C cS X G cc nL own fr lo) : vk_R RX2 202 "hall" (gz_ad G 130) X.2.2.2.2.1 := (cz_s hX).1 _ (List.mem_of_getElem? (show cKs[36]? = some ("FirstSnuffer$Reader", 202, "hall", 130) from rfl))
theorem cl_s_X2_206 {X : gz_X} {G : gz_G} {cc : ByteArray} {nL : Nat} {own : String} {fr lo : Nat} (hX : gz_C cS X G cc nL own fr lo) : vk_R RX2 206 "thing" (gz_ad G 136) X.2.2.2.2.1 := (cz_s hX).1 _ (List.mem_of_getElem? (show cKs[38]? = some ("FirstSnuffer$Reader", 206, "thing", 136) from rfl))
/-! FirstSnuffer$Reader.isTold(Ljava/lang/String;I)Z -/
noncomputable def mj_X2_isTold_191 (x2 : Int32) (s0 : Int32) (m : gM) : Option (Option Int32 × gM) :=
  ((cf_X2_most s0 x2 m).bind fun (o4, m2) => (if gZ m ≤ gZ m2 ∧ gW m ≤ gW m2 then gx_o o4 (fun r1 => gz_let (gP m2 1011 6) fun r6 => (if r6 ≠ 0 then (if gK m2 r6 = 2 then gz_let (gP m2 r6 3) fun r9 => (if r9 ≠ 0 then (if gZ m2 ≠ 0 then gz_let (gz_al m2 (6 + 1) 0 1) fun m12 => ((cf_X2_fresh  m12).bind fun (o16, m14) => (if gZ m12 ≤ gZ m14 ∧ gW m12 ≤ gW m14 then gx_o o16 (fun r13 => ((cf_X7_init (gZ m2) r13 m14).bind fun (_, m19) => (if m19.2.2.2.2.2 = m14.2.2.2.2.2 then (if gK m19 r9 = 21 then ((cf_J2_add r9 (gZ m2) m19).bind fun (r23, m24) => (if gZ m19 ≤ gZ m24 ∧ gW m19 ≤ gW m24 then some (some (1 : Int32), m24) else none)) else none) else none))) (some (none, m14)) else none)) else none) else none) else none) else none)) (some (none, m2)) else none))
theorem wb_X2_isTold_191 {X : gz_X} {G : gz_G} {zE : Nat × Nat} (hX : gz_C cS X G cX2_isTold 5 RX2 10 222) {x2 : Int32} {s0 : Int32}  {m : gM} {z : (Option Int32 × gM)} (h : mj_X2_isTold_191 x2 s0 m = some z) (hk : (fun z : (Option Int32 × gM) => gx_k (fun r => gz_kZa cS X G 5 zE cX2_isTold z.2 r) (∀ (pc : Nat) (lv : List (Nat × Value)), gz_VXa cS X G 5 zE z.2 pc lv) z.1) z) : gz_Va cS X G 5 zE m 191 [(0, .ref (gz_ad G 1011)), (2, .int x2)] [.int s0, .ref (gz_ad G 1011)] := by
  unfold mj_X2_isTold_191 at h
  refine gz_Vs (fun _ kk => gz_iload_n (pc := 191) hX dX2_isTold_191 rfl 1 rfl kk) rfl ?_
  obtain ⟨⟨o4, m2⟩, c3, h⟩ := gz_bd h
  obtain ⟨g5, h⟩ := gz_gu h
  cases o4 with
  | none =>
    replace h := gx_on h
    obtain rfl := Option.some.inj h
    exact gz_Vcx (k := gZ m2 - gZ m) (n := gW m2 - gW m) (fun _ kk => cc_X2_125x (pc := 192) hX (fun h => cz_k h rfl) c3 ⟨Nat.le_of_ble_eq_true rfl, Nat.le_of_ble_eq_true rfl⟩ (rest := []) rfl (Nat.le_of_ble_eq_true rfl) dX2_isTold_192 kk) ⟨by have := g5.1; dsimp only [gZ] at *; omega, by have := g5.2; dsimp only [gW] at *; omega⟩ (hk _ _)
  | some r1 =>
    replace h := gx_os h
    refine gz_Vc (k := gZ m2 - gZ m) (n := gW m2 - gW m) (fun _ kk => cc_X2_125 (pc := 192) hX (fun h => cz_k h rfl) c3 ⟨Nat.le_of_ble_eq_true rfl, Nat.le_of_ble_eq_true rfl⟩ (rest := []) rfl (Nat.le_of_ble_eq_true rfl) dX2_isTold_192 kk) ⟨by have := g5.1; dsimp only [gZ] at *; omega, by have := g5.2; dsimp only [gW] at *; omega⟩ ?_
    refine gz_Vs (fun _ kk => gz_aload_n (pc := 195) hX dX2_isTold_195 rfl 0 rfl kk) rfl ?_
    obtain ⟨r6, er6, h⟩ := gz_lt h
    obtain ⟨g7, h⟩ := gz_gu h
    refine gz_Vs (fun _ kk => cg_X2_103_2 (pc := 196) hX (c := 1011) (v := .ref (gz_ad G r6)) (fun h => cz_k h rfl) (fun _ => gz_rq er6 g7) dX2_isTold_196 kk) rfl ?_
    obtain ⟨g8, h⟩ := gz_gu h
    obtain ⟨r9, er9, h⟩ := gz_lt h
    obtain ⟨g10, h⟩ := gz_gu h
    refine gz_Vs (fun _ kk => cg_X2_149_1 (pc := 199) hX (c := r6) (v := .ref (gz_ad G r9)) (fun _ => g8) (fun _ => gz_rq er9 g10) dX2_isTold_199 kk) rfl ?_
    obtain ⟨g11, h⟩ := gz_gu h
    obtain ⟨m12, em12, h⟩ := gz_lt h
    refine gz_Vn (fun _ kk => cn_X2_114 (pc := 202) hX g11 dX2_isTold_202 em12 kk) em12 ?_
    refine gz_Vs (fun _ kk => gz_dup (pc := 205) hX dX2_isTold_205 rfl kk) rfl ?_
    refine gz_Vs (fun _ kk => gz_aload_n (pc := 206) hX dX2_isTold_206 rfl 0 rfl kk) rfl ?_
    obtain ⟨⟨o16, m14⟩, c15, h⟩ := gz_bd h
    obtain ⟨g17, h⟩ := gz_gu h
    cases o16 with
    | none =>
      replace h := gx_on h
      obtain rfl := Option.some.inj h
      exact gz_Vcx (k := gZ m14 - gZ m12) (n := gW m14 - gW m12) (fun _ kk => cc_X2_173x (pc := 207) hX (fun h => cz_k h rfl) c15 ⟨Nat.le_of_ble_eq_true rfl, Nat.le_of_ble_eq_true rfl⟩ (rest := [.ref (gz_ad G (gZ m2)), .ref (gz_ad G (gZ m2)), .ref (gz_ad G r9)]) rfl (Nat.le_of_ble_eq_true rfl) dX2_isTold_207 kk) ⟨by have := g17.1; dsimp only [gZ] at *; omega, by have := g17.2; dsimp only [gW] at *; omega⟩ (hk _ _)
    | some r13 =>
      replace h := gx_os h
      refine gz_Vc (k := gZ m14 - gZ m12) (n := gW m14 - gW m12) (fun _ kk => cc_X2_173 (pc := 207) hX (fun h => cz_k h rfl) c15 ⟨Nat.le_of_ble_eq_true rfl, Nat.le_of_ble_eq_true rfl⟩ (rest := [.ref (gz_ad G (gZ m2)), .ref (gz_ad G (gZ m2)), .ref (gz_ad G r9)]) rfl (Nat.le_of_ble_eq_true rfl) dX2_isTold_207 kk) ⟨by have := g17.1; dsimp only [gZ] at *; omega, by have := g17.2; dsimp only [gW] at *; omega⟩ ?_
      obtain ⟨⟨⟨⟩, m19⟩, c20, h⟩ := gz_bd h
      obtain ⟨g21, h⟩ := gz_gu h
      refine gz_Vs (fun _ kk => cc_X2_212 (pc := 210) hX c20 ⟨Nat.le_of_ble_eq_true rfl, Nat.le_of_ble_eq_true rfl⟩ (rest := [.ref (gz_ad G (gZ m2)), .ref (gz_ad G r9)]) rfl (Nat.le_of_ble_eq_true rfl) dX2_isTold_210 kk) g21 ?_
      obtain ⟨g22, h⟩ := gz_gu h
      obtain ⟨⟨r23, m24⟩, c25, h⟩ := gz_bd h
      obtain ⟨g26, h⟩ := gz_gu h
      refine gz_Vc (k := gZ m24 - gZ m19) (n := gW m24 - gW m19) (fun _ kk => cc_X2_167 (pc := 213) hX (fun _ => g22) c25 ⟨Nat.le_of_ble_eq_true rfl, Nat.le_of_ble_eq_true rfl⟩ (rest := []) rfl (Nat.le_of_ble_eq_true rfl) dX2_isTold_213 kk) ⟨by have := g26.1; dsimp only [gZ] at *; omega, by have := g26.2; dsimp only [gW] at *; omega⟩ ?_
      refine gz_Vs (fun _ kk => gz_pop (pc := 218) hX dX2_isTold_218 rfl kk) rfl ?_
      refine gz_Vs (fun _ kk => gz_iconst (pc := 219) (v := (1 : Int32)) hX dX2_isTold_219 (by decide) kk) rfl ?_
      obtain rfl := Option.some.inj h
      exact hk _ _ dX2_isTold_220 (Or.inr rfl)
noncomputable def mj_X2_isTold_132 (x2 : Int32) (x4 : Int32) (m : gM) : Option (Option Int32 × gM) :=
  (if x4 = (0 : Int32) then gz_let (gP m 1011 6) fun r2 => (if r2 ≠ 0 then (if gK m r2 = 2 then gz_let (gP m r2 3) fun r5 => (if r5 ≠ 0 then (if gK m r5 = 21 then ((cf_J2_size r5 m).bind fun (r8, m9) => (if m9.2.2.2.2.2 = m.2.2.2.2.2 then (if r8 = (8 : Int32) then (mj_X2_isTold_191 x2 (1 : Int32) m9) else (mj_X2_isTold_191 x2 (0 : Int32) m9)) else none)) else none) else none) else none) else none) else (if x4 = (1 : Int32) then ((cf_X2_readsDoor x2 m).bind fun (o17, m15) => (if gZ m ≤ gZ m15 ∧ gW m ≤ gW m15 then gx_o o17 (fun r14 => some (some (1 : Int32), m15)) (some (none, m15)) else none)) else (if x4 = (2 : Int32) then ((cf_X2_readsThing x2 m).bind fun (o23, m21) => (if gZ m ≤ gZ m21 ∧ gW m ≤ gW m21 then gx_o o23 (fun r20 => some (some (1 : Int32), m21)) (some (none, m21)) else none)) else (if x4 = (3 : Int32) then ((cf_X2_readsTie x2 m).bind fun (o29, m27) => (if gZ m ≤ gZ m27 ∧ gW m ≤ gW m27 then gx_o o29 (fun r26 => some (some (1 : Int32), m27)) (some (none, m27)) else none)) else (if x4 = (4 : Int32) then gz_let (gP m 1011 6) fun r32 => (if r32 ≠ 0 then gz_let (gP m 1011 6) fun r34 => (if r34 ≠ 0 then (if gK m r34 = 2 then gz_let (gP m r34 3) fun r37 => (if r37 ≠ 0 then ((cf_X2_known r37 (-1 : Int32) m).bind fun (o42, m40) => (if gZ m ≤ gZ m40 ∧ gW m ≤ gW m40 then gx_o o42 (fun r39 => (if gK m40 r32 = 2 then (if 1000 ≤ r32 then gz_let (gz_sI m40 r32 1 r39) fun m46 => some (some (1 : Int32), m46) else none) else none)) (some (none, m40)) else none)) else none) else none) else none) else none) else some (some (0 : Int32), m))))))
theorem wb_X2_isTold_132 {X : gz_X} {G : gz_G} {zE : Nat × Nat} (hX : gz_C cS X G cX2_isTold 5 RX2 10 222) {x2 : Int32} {x4 : Int32}  {m : gM} {z : (Option Int32 × gM)} (h : mj_X2_isTold_132 x2 x4 m = some z) (hk : (fun z : (Option Int32 × gM) => gx_k (fun r => gz_kZa cS X G 5 zE cX2_isTold z.2 r) (∀ (pc : Nat) (lv : List (Nat × Value)), gz_VXa cS X G 5 zE z.2 pc lv) z.1) z) : gz_Va cS X G 5 zE m 132 [(0, .ref (gz_ad G 1011)), (2, .int x2), (4, .int x4)] [] := by
  unfold mj_X2_isTold_132 at h
  refine gz_Vs (fun _ kk => gz_iload (pc := 132) hX dX2_isTold_132 2 rfl kk) rfl ?_
  by_cases g1 : x4 = (0 : Int32)
  · replace h := gz_it' g1 h
    refine gz_Vs (fun _ kk => gz_tsIn (pc := 134) (tgt := 168) (off := 34) (v := (0 : Int32)) hX g1 dX2_isTold_134 (by decide) (by decide) kk) rfl ?_
    refine gz_Vs (fun _ kk => gz_aload_n (pc := 168) hX dX2_isTold_168 rfl 0 rfl kk) rfl ?_
    refine gz_Vs (fun _ kk => gz_aload_n (pc := 169) hX dX2_isTold_169 rfl 0 rfl kk) rfl ?_
    obtain ⟨r2, er2, h⟩ := gz_lt h
    obtain ⟨g3, h⟩ := gz_gu h
    refine gz_Vs (fun _ kk => cg_X2_103_2 (pc := 170) hX (c := 1011) (v := .ref (gz_ad G r2)) (fun h => cz_k h rfl) (fun _ => gz_rq er2 g3) dX2_isTold_170 kk) rfl ?_
    obtain ⟨g4, h⟩ := gz_gu h
    obtain ⟨r5, er5, h⟩ := gz_lt h
    obtain ⟨g6, h⟩ := gz_gu h
    refine gz_Vs (fun _ kk => cg_X2_149_1 (pc := 173) hX (c := r2) (v := .ref (gz_ad G r5)) (fun _ => g4) (fun _ => gz_rq er5 g6) dX2_isTold_173 kk) rfl ?_
    obtain ⟨g7, h⟩ := gz_gu h
    obtain ⟨⟨r8, m9⟩, c10, h⟩ := gz_bd h
    obtain ⟨g11, h⟩ := gz_gu h
    refine gz_Vs (fun _ kk => cc_X2_145 (pc := 176) hX (fun _ => g7) c10 ⟨Nat.le_of_ble_eq_true rfl, Nat.le_of_ble_eq_true rfl⟩ (rest := [.ref (gz_ad G 1011)]) rfl (Nat.le_of_ble_eq_true rfl) dX2_isTold_176 kk) g11 ?_
    refine gz_Vs (fun _ kk => gz_bipush (pc := 181) (v := (8 : Int32)) hX dX2_isTold_181 (by decide) kk) rfl ?_
    refine gz_Vif (μ1 := m) (μ2 := m) (fun _ k1 k2 => gz_icmp_ne (pc := 183) (tgt := 190) hX dX2_isTold_183 (by decide) k1 k2) (by first | exact Classical.em _ | exact (Classical.em _).symm) (fun g12 => ?_) (fun g12 => ?_)
    · replace h := gz_if' g12 h
      refine gz_Vs (fun _ kk => gz_iconst (pc := 190) (v := (0 : Int32)) hX dX2_isTold_190 (by decide) kk) rfl ?_
      refine gz_Vs (fun _ kk => gz_sub (lw := [(0, .ref (gz_ad G 1011)), (2, .int x2)]) [0, 1] rfl kk) rfl ?_
      exact wb_X2_isTold_191 hX h hk
    · replace h := gz_it' g12 h
      refine gz_Vs (fun _ kk => gz_iconst (pc := 186) (v := (1 : Int32)) hX dX2_isTold_186 (by decide) kk) rfl ?_
      refine gz_Vs (fun _ kk => gz_goto (pc := 187) (tgt := 191) hX dX2_isTold_187 (by decide) kk) rfl ?_
      refine gz_Vs (fun _ kk => gz_sub (lw := [(0, .ref (gz_ad G 1011)), (2, .int x2)]) [0, 1] rfl kk) rfl ?_
      exact wb_X2_isTold_191 hX h hk
  · replace h := gz_if' g1 h
    by_cases g13 : x4 = (1 : Int32)
    · replace h := gz_it' g13 h
      refine gz_Vs (fun _ kk => gz_tsIn (pc := 134) (tgt := 221) (off := 87) (v := (1 : Int32)) hX g13 dX2_isTold_134 (by decide) (by decide) kk) rfl ?_
      refine gz_Vs (fun _ kk => gz_aload_n (pc := 221) hX dX2_isTold_221 rfl 0 rfl kk) rfl ?_
      refine gz_Vs (fun _ kk => gz_iload_n (pc := 222) hX dX2_isTold_222 rfl 1 rfl kk) rfl ?_
      obtain ⟨⟨o17, m15⟩, c16, h⟩ := gz_bd h
      obtain ⟨g18, h⟩ := gz_gu h
      cases o17 with
      | none =>
        replace h := gx_on h
        obtain rfl := Option.some.inj h
        exact gz_Vcx (k := gZ m15 - gZ m) (n := gW m15 - gW m) (fun _ kk => cc_X2_214x (pc := 223) hX (fun h => cz_k h rfl) c16 ⟨Nat.le_of_ble_eq_true rfl, Nat.le_of_ble_eq_true rfl⟩ (rest := []) rfl (Nat.le_of_ble_eq_true rfl) dX2_isTold_223 kk) ⟨by have := g18.1; dsimp only [gZ] at *; omega, by have := g18.2; dsimp only [gW] at *; omega⟩ (hk _ _)
      | some r14 =>
        replace h := gx_os h
        refine gz_Vc (k := gZ m15 - gZ m) (n := gW m15 - gW m) (fun _ kk => cc_X2_214 (pc := 223) hX (fun h => cz_k h rfl) c16 ⟨Nat.le_of_ble_eq_true rfl, Nat.le_of_ble_eq_true rfl⟩ (rest := []) rfl (Nat.le_of_ble_eq_true rfl) dX2_isTold_223 kk) ⟨by have := g18.1; dsimp only [gZ] at *; omega, by have := g18.2; dsimp only [gW] at *; omega⟩ ?_
        refine gz_Vs (fun _ kk => gz_iconst (pc := 226) (v := (1 : Int32)) hX dX2_isTold_226 (by decide) kk) rfl ?_
        obtain rfl := Option.some.inj h
        exact hk _ _ dX2_isTold_227 (Or.inr rfl)
    · replace h := gz_if' g13 h
      by_cases g19 : x4 = (2 : Int32)
      · replace h := gz_it' g19 h
        refine gz_Vs (fun _ kk => gz_tsIn (pc := 134) (tgt := 228) (off := 94) (v := (2 : Int32)) hX g19 dX2_isTold_134 (by decide) (by decide) kk) rfl ?_
        refine gz_Vs (fun _ kk => gz_aload_n (pc := 228) hX dX2_isTold_228 rfl 0 rfl kk) rfl ?_
        refine gz_Vs (fun _ kk => gz_iload_n (pc := 229) hX dX2_isTold_229 rfl 1 rfl kk) rfl ?_
        obtain ⟨⟨o23, m21⟩, c22, h⟩ := gz_bd h
        obtain ⟨g24, h⟩ := gz_gu h
        cases o23 with
        | none =>
          replace h := gx_on h
          obtain rfl := Option.some.inj h
          exact gz_Vcx (k := gZ m21 - gZ m) (n := gW m21 - gW m) (fun _ kk => cc_X2_217x (pc := 230) hX (fun h => cz_k h rfl) c22 ⟨Nat.le_of_ble_eq_true rfl, Nat.le_of_ble_eq_true rfl⟩ (rest := []) rfl (Nat.le_of_ble_eq_true rfl) dX2_isTold_230 kk) ⟨by have := g24.1; dsimp only [gZ] at *; omega, by have := g24.2; dsimp only [gW] at *; omega⟩ (hk _ _)
        | some r20 =>
          replace h := gx_os h
          refine gz_Vc (k := gZ m21 - gZ m) (n := gW m21 - gW m) (fun _ kk => cc_X2_217 (pc := 230) hX (fun h => cz_k h rfl) c22 ⟨Nat.le_of_ble_eq_true rfl, Nat.le_of_ble_eq_true rfl⟩ (rest := []) rfl (Nat.le_of_ble_eq_true rfl) dX2_isTold_230 kk) ⟨by have := g24.1; dsimp only [gZ] at *; omega, by have := g24.2; dsimp only [gW] at *; omega⟩ ?_
          refine gz_Vs (fun _ kk => gz_iconst (pc := 233) (v := (1 : Int32)) hX dX2_isTold_233 (by decide) kk) rfl ?_
          obtain rfl := Option.some.inj h
          exact hk _ _ dX2_isTold_234 (Or.inr rfl)
      · replace h := gz_if' g19 h
        by_cases g25 : x4 = (3 : Int32)
        · replace h := gz_it' g25 h
          refine gz_Vs (fun _ kk => gz_tsIn (pc := 134) (tgt := 235) (off := 101) (v := (3 : Int32)) hX g25 dX2_isTold_134 (by decide) (by decide) kk) rfl ?_
          refine gz_Vs (fun _ kk => gz_aload_n (pc := 235) hX dX2_isTold_235 rfl 0 rfl kk) rfl ?_
          refine gz_Vs (fun _ kk => gz_iload_n (pc := 236) hX dX2_isTold_236 rfl 1 rfl kk) rfl ?_
          obtain ⟨⟨o29, m27⟩, c28, h⟩ := gz_bd h
          obtain ⟨g30, h⟩ := gz_gu h
          cases o29 with
          | none =>
            replace h := gx_on h
            obtain rfl := Option.some.inj h
            exact gz_Vcx (k := gZ m27 - gZ m) (n := gW m27 - gW m) (fun _ kk => cc_X2_220x (pc := 237) hX (fun h => cz_k h rfl) c28 ⟨Nat.le_of_ble_eq_true rfl, Nat.le_of_ble_eq_true rfl⟩ (rest := []) rfl (Nat.le_of_ble_eq_true rfl) dX2_isTold_237 kk) ⟨by have := g30.1; dsimp only [gZ] at *; omega, by have := g30.2; dsimp only [gW] at *; omega⟩ (hk _ _)
          | some r26 =>
            replace h := gx_os h
            refine gz_Vc (k := gZ m27 - gZ m) (n := gW m27 - gW m) (fun _ kk => cc_X2_220 (pc := 237) hX (fun h => cz_k h rfl) c28 ⟨Nat.le_of_ble_eq_true rfl, Nat.le_of_ble_eq_true rfl⟩ (rest := []) rfl (Nat.le_of_ble_eq_true rfl) dX2_isTold_237 kk) ⟨by have := g30.1; dsimp only [gZ] at *; omega, by have := g30.2; dsimp only [gW] at *; omega⟩ ?_
            refine gz_Vs (fun _ kk => gz_iconst (pc := 240) (v := (1 : Int32)) hX dX2_isTold_240 (by decide) kk) rfl ?_
            obtain rfl := Option.some.inj h
            exact hk _ _ dX2_isTold_241 (Or.inr rfl)
        · replace h := gz_if' g25 h
          by_cases g31 : x4 = (4 : Int32)
          · replace h := gz_it' g31 h
            refine gz_Vs (fun _ kk => gz_tsIn (pc := 134) (tgt := 242) (off := 108) (v := (4 : Int32)) hX g31 dX2_isTold_134 (by decide) (by decide) kk) rfl ?_
            refine gz_Vs (fun _ kk => gz_aload_n (pc := 242) hX dX2_isTold_242 rfl 0 rfl kk) rfl ?_
            obtain ⟨r32, er32, h⟩ := gz_lt h
            obtain ⟨g33, h⟩ := gz_gu h
            refine gz_Vs (fun _ kk => cg_X2_103_2 (pc := 243) hX (c := 1011) (v := .ref (gz_ad G r32)) (fun h => cz_k h rfl) (fun _ => gz_rq er32 g33) dX2_isTold_243 kk) rfl ?_
            refine gz_Vs (fun _ kk => gz_aload_n (pc := 246) hX dX2_isTold_246 rfl 0 rfl kk) rfl ?_
            refine gz_Vs (fun _ kk => gz_aload_n (pc := 247) hX dX2_isTold_247 rfl 0 rfl kk) rfl ?_
            obtain ⟨r34, er34, h⟩ := gz_lt h
            obtain ⟨g35, h⟩ := gz_gu h
            refine gz_Vs (fun _ kk => cg_X2_103_2 (pc := 248) hX (c := 1011) (v := .ref (gz_ad G r34)) (fun h => cz_k h rfl) (fun _ => gz_rq er34 g35) dX2_isTold_248 kk) rfl ?_
            obtain ⟨g36, h⟩ := gz_gu h
            obtain ⟨r37, er37, h⟩ := gz_lt h
            obtain ⟨g38, h⟩ := gz_gu h
            refine gz_Vs (fun _ kk => cg_X2_149_1 (pc := 251) hX (c := r34) (v := .ref (gz_ad G r37)) (fun _ => g36) (fun _ => gz_rq er37 g38) dX2_isTold_251 kk) rfl ?_
            refine gz_Vs (fun _ kk => gz_iconst (pc := 254) (v := (-1 : Int32)) hX dX2_isTold_254 (by decide) kk) rfl ?_
            obtain ⟨⟨o42, m40⟩, c41, h⟩ := gz_bd h
            obtain ⟨g43, h⟩ := gz_gu h
            cases o42 with
            | none =>
              replace h := gx_on h
              obtain rfl := Option.some.inj h
              exact gz_Vcx (k := gZ m40 - gZ m) (n := gW m40 - gW m) (fun _ kk => cc_X2_152x (pc := 255) hX (fun h => cz_k h rfl) c41 ⟨Nat.le_of_ble_eq_true rfl, Nat.le_of_ble_eq_true rfl⟩ (rest := [.ref (gz_ad G r32)]) rfl (Nat.le_of_ble_eq_true rfl) dX2_isTold_255 kk) ⟨by have := g43.1; dsimp only [gZ] at *; omega, by have := g43.2; dsimp only [gW] at *; omega⟩ (hk _ _)
            | some r39 =>
              replace h := gx_os h
              refine gz_Vc (k := gZ m40 - gZ m) (n := gW m40 - gW m) (fun _ kk => cc_X2_152 (pc := 255) hX (fun h => cz_k h rfl) c41 ⟨Nat.le_of_ble_eq_true rfl, Nat.le_of_ble_eq_true rfl⟩ (rest := [.ref (gz_ad G r32)]) rfl (Nat.le_of_ble_eq_true rfl) dX2_isTold_255 kk) ⟨by have := g43.1; dsimp only [gZ] at *; omega, by have := g43.2; dsimp only [gW] at *; omega⟩ ?_
              obtain ⟨g44, h⟩ := gz_gu h
              obtain ⟨g45, h⟩ := gz_gu h
              obtain ⟨m46, em46, h⟩ := gz_lt h
              refine gz_Vs (fun _ kk => cp_X2_223_1 (pc := 258) hX (c := r32) (fun _ => g44) g45 dX2_isTold_258 em46 kk) (by rw [em46]; rfl) ?_
              refine gz_Vs (fun _ kk => gz_iconst (pc := 261) (v := (1 : Int32)) hX dX2_isTold_261 (by decide) kk) rfl ?_
              obtain rfl := Option.some.inj h
              exact hk _ _ dX2_isTold_262 (Or.inr rfl)
          · replace h := gz_if' g31 h
            have ng1 := lv_neT g1 (a := 0) (by decide)
            have ng13 := lv_neT g13 (a := 1) (by decide)
            have ng19 := lv_neT g19 (a := 2) (by decide)
            have ng25 := lv_neT g25 (a := 3) (by decide)
            have ng31 := lv_neT g31 (a := 4) (by decide)
            refine gz_Vs (fun _ kk => gz_tsOut (pc := 134) (tgt := 263) hX dX2_isTold_134 (by omega) (by decide) kk) rfl ?_
            refine gz_Vs (fun _ kk => gz_iconst (pc := 263) (v := (0 : Int32)) hX dX2_isTold_263 (by decide) kk) rfl ?_
            obtain rfl := Option.some.inj h
            exact hk _ _ dX2_isTold_264 (Or.inl rfl)
noncomputable def cf_X2_isTold (c1 : Nat) (x2 : Int32) (m : gM) : Option (Option Int32 × gM) :=
  (if gK m c1 = 22 then ((cf_J9_hashCode c1 m).bind fun (r2, m3) => (if m3.2.2.2.2.2 = m.2.2.2.2.2 then (if r2 = (-892483503 : Int32) then (if gK m3 c1 = 22 then ((cf_J9_equals c1 144 m3).bind fun (r8, m9) => (if m9.2.2.2.2.2 = m3.2.2.2.2.2 then (if r8 = (0 : Int32) then (mj_X2_isTold_132 x2 (-1 : Int32) m9) else (mj_X2_isTold_132 x2 (4 : Int32) m9)) else none)) else none) else (if r2 = (114832 : Int32) then (if gK m3 c1 = 22 then ((cf_J9_equals c1 142 m3).bind fun (r15, m16) => (if m16.2.2.2.2.2 = m3.2.2.2.2.2 then (if r15 = (0 : Int32) then (mj_X2_isTold_132 x2 (-1 : Int32) m16) else (mj_X2_isTold_132 x2 (3 : Int32) m16)) else none)) else none) else (if r2 = (3089326 : Int32) then (if gK m3 c1 = 22 then ((cf_J9_equals c1 132 m3).bind fun (r22, m23) => (if m23.2.2.2.2.2 = m3.2.2.2.2.2 then (if r22 = (0 : Int32) then (mj_X2_isTold_132 x2 (-1 : Int32) m23) else (mj_X2_isTold_132 x2 (1 : Int32) m23)) else none)) else none) else (if r2 = (3194937 : Int32) then (if gK m3 c1 = 22 then ((cf_J9_equals c1 130 m3).bind fun (r29, m30) => (if m30.2.2.2.2.2 = m3.2.2.2.2.2 then (if r29 = (0 : Int32) then (mj_X2_isTold_132 x2 (-1 : Int32) m30) else (mj_X2_isTold_132 x2 (0 : Int32) m30)) else none)) else none) else (if r2 = (110331118 : Int32) then (if gK m3 c1 = 22 then ((cf_J9_equals c1 136 m3).bind fun (r36, m37) => (if m37.2.2.2.2.2 = m3.2.2.2.2.2 then (if r36 = (0 : Int32) then (mj_X2_isTold_132 x2 (-1 : Int32) m37) else (mj_X2_isTold_132 x2 (2 : Int32) m37)) else none)) else none) else (mj_X2_isTold_132 x2 (-1 : Int32) m3)))))) else none)) else none)
theorem wm_X2_isTold {X : gz_X} {G : gz_G} {zE : Nat × Nat} (hX : gz_C cS X G cX2_isTold 5 RX2 10 222) {c1 : Nat} {x2 : Int32}  {m : gM} {z : (Option Int32 × gM)} (h : cf_X2_isTold c1 x2 m = some z) (hk : (fun z : (Option Int32 × gM) => gx_k (fun r => gz_kZa cS X G 5 zE cX2_isTold z.2 r) (∀ (pc : Nat) (lv : List (Nat × Value)), gz_VXa cS X G 5 zE z.2 pc lv) z.1) z) : gz_Va cS X G 5 zE m 0 [(0, .ref (gz_ad G 1011)), (1, .ref (gz_ad G c1)), (2, .int x2)] [] := by
  unfold cf_X2_isTold at h
  refine gz_Vs (fun _ kk => gz_aload_n (pc := 0) hX dX2_isTold_0 rfl 1 rfl kk) rfl ?_
  refine gz_Vs (fun _ kk => gz_astore_n (pc := 1) (lw := [(3, .ref (gz_ad G c1)), (0, .ref (gz_ad G 1011)), (1, .ref (gz_ad G c1)), (2, .int x2)]) hX dX2_isTold_1 rfl (by decide) rfl kk) rfl ?_
  refine gz_Vs (fun _ kk => gz_iconst (pc := 2) (v := (-1 : Int32)) hX dX2_isTold_2 (by decide) kk) rfl ?_
  refine gz_Vs (fun _ kk => gz_istore (pc := 3) (lw := [(4, .int (-1 : Int32)), (3, .ref (gz_ad G c1)), (0, .ref (gz_ad G 1011)), (1, .ref (gz_ad G c1)), (2, .int x2)]) hX dX2_isTold_3 (by decide) rfl kk) rfl ?_
  refine gz_Vs (fun _ kk => gz_aload_n (pc := 5) hX dX2_isTold_5 rfl 1 rfl kk) rfl ?_
  obtain ⟨g1, h⟩ := gz_gu h
  obtain ⟨⟨r2, m3⟩, c4, h⟩ := gz_bd h
  obtain ⟨g5, h⟩ := gz_gu h
  refine gz_Vs (fun _ kk => cc_X2_199 (pc := 6) hX (fun _ => g1) c4 ⟨Nat.le_of_ble_eq_true rfl, Nat.le_of_ble_eq_true rfl⟩ (rest := []) rfl (Nat.le_of_ble_eq_true rfl) dX2_isTold_6 kk) g5 ?_
  by_cases g6 : r2 = (-892483503 : Int32)
  · replace h := gz_it' g6 h
    refine gz_Vs (fun _ kk => gz_lsw (pc := 9) (tgt := 120) (off := 111) hX dX2_isTold_9 (by decide) (by rw [g6]; decide) (by decide) kk) rfl ?_
    refine gz_Vs (fun _ kk => gz_aload_n (pc := 120) hX dX2_isTold_120 rfl 1 rfl kk) rfl ?_
    refine gz_Vs (fun _ kk => gz_ldcS (pc := 121) (tx := "starts") (c := 144) hX (cl_s_X2_210 hX) dX2_isTold_121 kk) rfl ?_
    obtain ⟨g7, h⟩ := gz_gu h
    obtain ⟨⟨r8, m9⟩, c10, h⟩ := gz_bd h
    obtain ⟨g11, h⟩ := gz_gu h
    refine gz_Vs (fun _ kk => cc_X2_74 (pc := 123) hX (fun _ => g7) c10 ⟨Nat.le_of_ble_eq_true rfl, Nat.le_of_ble_eq_true rfl⟩ (rest := []) rfl (Nat.le_of_ble_eq_true rfl) dX2_isTold_123 kk) g11 ?_
    refine gz_Vif (μ1 := m) (μ2 := m) (fun _ k1 k2 => gz_if_eq (pc := 126) (tgt := 132) hX dX2_isTold_126 (by decide) k1 k2) (by first | exact Classical.em _ | exact (Classical.em _).symm) (fun g12 => ?_) (fun g12 => ?_)
    · replace h := gz_it' g12 h
      refine gz_Vs (fun _ kk => gz_sub (lw := [(0, .ref (gz_ad G 1011)), (2, .int x2), (4, .int (-1 : Int32))]) [2, 4, 0] rfl kk) rfl ?_
      exact wb_X2_isTold_132 hX h hk
    · replace h := gz_if' g12 h
      refine gz_Vs (fun _ kk => gz_iconst (pc := 129) (v := (4 : Int32)) hX dX2_isTold_129 (by decide) kk) rfl ?_
      refine gz_Vs (fun _ kk => gz_istore (pc := 130) (lw := [(4, .int (4 : Int32)), (3, .ref (gz_ad G c1)), (0, .ref (gz_ad G 1011)), (1, .ref (gz_ad G c1)), (2, .int x2)]) hX dX2_isTold_130 (by decide) rfl kk) rfl ?_
      refine gz_Vs (fun _ kk => gz_sub (lw := [(0, .ref (gz_ad G 1011)), (2, .int x2), (4, .int (4 : Int32))]) [2, 4, 0] rfl kk) rfl ?_
      exact wb_X2_isTold_132 hX h hk
  · replace h := gz_if' g6 h
    by_cases g13 : r2 = (114832 : Int32)
    · replace h := gz_it' g13 h
      refine gz_Vs (fun _ kk => gz_lsw (pc := 9) (tgt := 105) (off := 96) hX dX2_isTold_9 (by decide) (by rw [g13]; decide) (by decide) kk) rfl ?_
      refine gz_Vs (fun _ kk => gz_aload_n (pc := 105) hX dX2_isTold_105 rfl 1 rfl kk) rfl ?_
      refine gz_Vs (fun _ kk => gz_ldcS (pc := 106) (tx := "tie") (c := 142) hX (cl_s_X2_208 hX) dX2_isTold_106 kk) rfl ?_
      obtain ⟨g14, h⟩ := gz_gu h
      obtain ⟨⟨r15, m16⟩, c17, h⟩ := gz_bd h
      obtain ⟨g18, h⟩ := gz_gu h
      refine gz_Vs (fun _ kk => cc_X2_74 (pc := 108) hX (fun _ => g14) c17 ⟨Nat.le_of_ble_eq_true rfl, Nat.le_of_ble_eq_true rfl⟩ (rest := []) rfl (Nat.le_of_ble_eq_true rfl) dX2_isTold_108 kk) g18 ?_
      refine gz_Vif (μ1 := m) (μ2 := m) (fun _ k1 k2 => gz_if_eq (pc := 111) (tgt := 132) hX dX2_isTold_111 (by decide) k1 k2) (by first | exact Classical.em _ | exact (Classical.em _).symm) (fun g19 => ?_) (fun g19 => ?_)
      · replace h := gz_it' g19 h
        refine gz_Vs (fun _ kk => gz_sub (lw := [(0, .ref (gz_ad G 1011)), (2, .int x2), (4, .int (-1 : Int32))]) [2, 4, 0] rfl kk) rfl ?_
        exact wb_X2_isTold_132 hX h hk
      · replace h := gz_if' g19 h
        refine gz_Vs (fun _ kk => gz_iconst (pc := 114) (v := (3 : Int32)) hX dX2_isTold_114 (by decide) kk) rfl ?_
        refine gz_Vs (fun _ kk => gz_istore (pc := 115) (lw := [(4, .int (3 : Int32)), (3, .ref (gz_ad G c1)), (0, .ref (gz_ad G 1011)), (1, .ref (gz_ad G c1)), (2, .int x2)]) hX dX2_isTold_115 (by decide) rfl kk) rfl ?_
        refine gz_Vs (fun _ kk => gz_goto (pc := 117) (tgt := 132) hX dX2_isTold_117 (by decide) kk) rfl ?_
        refine gz_Vs (fun _ kk => gz_sub (lw := [(0, .ref (gz_ad G 1011)), (2, .int x2), (4, .int (3 : Int32))]) [2, 4, 0] rfl kk) rfl ?_
        exact wb_X2_isTold_132 hX h hk
    · replace h := gz_if' g13 h
      by_cases g20 : r2 = (3089326 : Int32)
      · replace h := gz_it' g20 h
        refine gz_Vs (fun _ kk => gz_lsw (pc := 9) (tgt := 75) (off := 66) hX dX2_isTold_9 (by decide) (by rw [g20]; decide) (by decide) kk) rfl ?_
        refine gz_Vs (fun _ kk => gz_aload_n (pc := 75) hX dX2_isTold_75 rfl 1 rfl kk) rfl ?_
        refine gz_Vs (fun _ kk => gz_ldcS (pc := 76) (tx := "door") (c := 132) hX (cl_s_X2_204 hX) dX2_isTold_76 kk) rfl ?_
        obtain ⟨g21, h⟩ := gz_gu h
        obtain ⟨⟨r22, m23⟩, c24, h⟩ := gz_bd h
        obtain ⟨g25, h⟩ := gz_gu h
        refine gz_Vs (fun _ kk => cc_X2_74 (pc := 78) hX (fun _ => g21) c24 ⟨Nat.le_of_ble_eq_true rfl, Nat.le_of_ble_eq_true rfl⟩ (rest := []) rfl (Nat.le_of_ble_eq_true rfl) dX2_isTold_78 kk) g25 ?_
        refine gz_Vif (μ1 := m) (μ2 := m) (fun _ k1 k2 => gz_if_eq (pc := 81) (tgt := 132) hX dX2_isTold_81 (by decide) k1 k2) (by first | exact Classical.em _ | exact (Classical.em _).symm) (fun g26 => ?_) (fun g26 => ?_)
        · replace h := gz_it' g26 h
          refine gz_Vs (fun _ kk => gz_sub (lw := [(0, .ref (gz_ad G 1011)), (2, .int x2), (4, .int (-1 : Int32))]) [2, 4, 0] rfl kk) rfl ?_
          exact wb_X2_isTold_132 hX h hk
        · replace h := gz_if' g26 h
          refine gz_Vs (fun _ kk => gz_iconst (pc := 84) (v := (1 : Int32)) hX dX2_isTold_84 (by decide) kk) rfl ?_
          refine gz_Vs (fun _ kk => gz_istore (pc := 85) (lw := [(4, .int (1 : Int32)), (3, .ref (gz_ad G c1)), (0, .ref (gz_ad G 1011)), (1, .ref (gz_ad G c1)), (2, .int x2)]) hX dX2_isTold_85 (by decide) rfl kk) rfl ?_
          refine gz_Vs (fun _ kk => gz_goto (pc := 87) (tgt := 132) hX dX2_isTold_87 (by decide) kk) rfl ?_
          refine gz_Vs (fun _ kk => gz_sub (lw := [(0, .ref (gz_ad G 1011)), (2, .int x2), (4, .int (1 : Int32))]) [2, 4, 0] rfl kk) rfl ?_
          exact wb_X2_isTold_132 hX h hk
      · replace h := gz_if' g20 h
        by_cases g27 : r2 = (3194937 : Int32)
        · replace h := gz_it' g27 h
          refine gz_Vs (fun _ kk => gz_lsw (pc := 9) (tgt := 60) (off := 51) hX dX2_isTold_9 (by decide) (by rw [g27]; decide) (by decide) kk) rfl ?_
          refine gz_Vs (fun _ kk => gz_aload_n (pc := 60) hX dX2_isTold_60 rfl 1 rfl kk) rfl ?_
          refine gz_Vs (fun _ kk => gz_ldcS (pc := 61) (tx := "hall") (c := 130) hX (cl_s_X2_202 hX) dX2_isTold_61 kk) rfl ?_
          obtain ⟨g28, h⟩ := gz_gu h
          obtain ⟨⟨r29, m30⟩, c31, h⟩ := gz_bd h
          obtain ⟨g32, h⟩ := gz_gu h
          refine gz_Vs (fun _ kk => cc_X2_74 (pc := 63) hX (fun _ => g28) c31 ⟨Nat.le_of_ble_eq_true rfl, Nat.le_of_ble_eq_true rfl⟩ (rest := []) rfl (Nat.le_of_ble_eq_true rfl) dX2_isTold_63 kk) g32 ?_
          refine gz_Vif (μ1 := m) (μ2 := m) (fun _ k1 k2 => gz_if_eq (pc := 66) (tgt := 132) hX dX2_isTold_66 (by decide) k1 k2) (by first | exact Classical.em _ | exact (Classical.em _).symm) (fun g33 => ?_) (fun g33 => ?_)
          · replace h := gz_it' g33 h
            refine gz_Vs (fun _ kk => gz_sub (lw := [(0, .ref (gz_ad G 1011)), (2, .int x2), (4, .int (-1 : Int32))]) [2, 4, 0] rfl kk) rfl ?_
            exact wb_X2_isTold_132 hX h hk
          · replace h := gz_if' g33 h
            refine gz_Vs (fun _ kk => gz_iconst (pc := 69) (v := (0 : Int32)) hX dX2_isTold_69 (by decide) kk) rfl ?_
            refine gz_Vs (fun _ kk => gz_istore (pc := 70) (lw := [(4, .int (0 : Int32)), (3, .ref (gz_ad G c1)), (0, .ref (gz_ad G 1011)), (1, .ref (gz_ad G c1)), (2, .int x2)]) hX dX2_isTold_70 (by decide) rfl kk) rfl ?_
            refine gz_Vs (fun _ kk => gz_goto (pc := 72) (tgt := 132) hX dX2_isTold_72 (by decide) kk) rfl ?_
            refine gz_Vs (fun _ kk => gz_sub (lw := [(0, .ref (gz_ad G 1011)), (2, .int x2), (4, .int (0 : Int32))]) [2, 4, 0] rfl kk) rfl ?_
            exact wb_X2_isTold_132 hX h hk
        · replace h := gz_if' g27 h
          by_cases g34 : r2 = (110331118 : Int32)
          · replace h := gz_it' g34 h
            refine gz_Vs (fun _ kk => gz_lsw (pc := 9) (tgt := 90) (off := 81) hX dX2_isTold_9 (by decide) (by rw [g34]; decide) (by decide) kk) rfl ?_
            refine gz_Vs (fun _ kk => gz_aload_n (pc := 90) hX dX2_isTold_90 rfl 1 rfl kk) rfl ?_
            refine gz_Vs (fun _ kk => gz_ldcS (pc := 91) (tx := "thing") (c := 136) hX (cl_s_X2_206 hX) dX2_isTold_91 kk) rfl ?_
            obtain ⟨g35, h⟩ := gz_gu h
            obtain ⟨⟨r36, m37⟩, c38, h⟩ := gz_bd h
            obtain ⟨g39, h⟩ := gz_gu h
            refine gz_Vs (fun _ kk => cc_X2_74 (pc := 93) hX (fun _ => g35) c38 ⟨Nat.le_of_ble_eq_true rfl, Nat.le_of_ble_eq_true rfl⟩ (rest := []) rfl (Nat.le_of_ble_eq_true rfl) dX2_isTold_93 kk) g39 ?_
            refine gz_Vif (μ1 := m) (μ2 := m) (fun _ k1 k2 => gz_if_eq (pc := 96) (tgt := 132) hX dX2_isTold_96 (by decide) k1 k2) (by first | exact Classical.em _ | exact (Classical.em _).symm) (fun g40 => ?_) (fun g40 => ?_)
            · replace h := gz_it' g40 h
              refine gz_Vs (fun _ kk => gz_sub (lw := [(0, .ref (gz_ad G 1011)), (2, .int x2), (4, .int (-1 : Int32))]) [2, 4, 0] rfl kk) rfl ?_
              exact wb_X2_isTold_132 hX h hk
            · replace h := gz_if' g40 h
              refine gz_Vs (fun _ kk => gz_iconst (pc := 99) (v := (2 : Int32)) hX dX2_isTold_99 (by decide) kk) rfl ?_
              refine gz_Vs (fun _ kk => gz_istore (pc := 100) (lw := [(4, .int (2 : Int32)), (3, .ref (gz_ad G c1)), (0, .ref (gz_ad G 1011)), (1, .ref (gz_ad G c1)), (2, .int x2)]) hX dX2_isTold_100 (by decide) rfl kk) rfl ?_
              refine gz_Vs (fun _ kk => gz_goto (pc := 102) (tgt := 132) hX dX2_isTold_102 (by decide) kk) rfl ?_
              refine gz_Vs (fun _ kk => gz_sub (lw := [(0, .ref (gz_ad G 1011)), (2, .int x2), (4, .int (2 : Int32))]) [2, 4, 0] rfl kk) rfl ?_
              exact wb_X2_isTold_132 hX h hk
          · replace h := gz_if' g34 h
            refine gz_Vs (fun _ kk => gz_lsw (pc := 9) (tgt := 132) (off := 123) hX dX2_isTold_9 (by decide) ((lv_osw g6 (by decide)).trans ((lv_osw g13 (by decide)).trans ((lv_osw g20 (by decide)).trans ((lv_osw g27 (by decide)).trans ((lv_osw g34 (by decide)).trans rfl))))) (by decide) kk) rfl ?_
            refine gz_Vs (fun _ kk => gz_sub (lw := [(0, .ref (gz_ad G 1011)), (2, .int x2), (4, .int (-1 : Int32))]) [2, 4, 0] rfl kk) rfl ?_
            exact wb_X2_isTold_132 hX h hk
theorem ct_X2_isTold {G : gz_G} {l : Launch} {c1 : Nat} {x2 : Int32}  {m m9 : gM} {o : Option Int32} (h : cf_X2_isTold c1 x2 m = some (o, m9)) : gx_Met cS G l yX2_isTold cX2_isTold 5 (some .boolean) (mRc 10 222 (gZ m9 - gZ m) (gW m9 - gW m)) [.ref (gz_ad G 1011), .ref (gz_ad G c1), .int x2] m m9 (o.map (fun r => some (.int r))) :=
  gx_ofZ (by decide +kernel) (Nat.le_of_ble_eq_true rfl) ⟨_, rfl, rfl⟩ (fun h => cz_k (c := 1012) (k := 3) h rfl) fun X _ hX hk => (wm_X2_isTold (zE := m9.2.2.2.2.2) hX h (gx_km (fun _ q pc lv hd hz => gz_Ve (q pc lv hd hz)) (fun q pc lv => gz_VXe (q pc lv)) hk)).2
theorem cc_X2_252i {X : gz_X} {G : gz_G} {cc : ByteArray} {nL fr lo pc : Nat} {rem : Nat × Nat} {lv : List (Nat × Value)} {rest st0 : List Value} (hX : gz_C cS X G cc nL RX2 fr lo)  {m m9 : gM} (hK : clc m.1 m.2.1 m.2.2.2.2.1 → m.1 1011 = 2 + 1)  {oR : gM → Option (Option Nat × gM)} {f n : Nat} (h1 : 60 ≤ f) (h2 : 1500 ≤ n) (hO : cOA G X.2.1 f n oR) {r : Nat} (h : cf_X2_product oR  m = some (some r, m9)) (hroom : (f + 1) + 1 ≤ fr ∧ 8 + (3 + 11) + (n + 40) ≤ lo) (hst : st0 = [.ref (gz_ad G 1011)] ++ rest) (hW : (rest.map fun v => v.category).sum ≤ 8) (hd : decode cc pc = .ok (.invokevirtual 252, 3)) (kk : gz_V cS X G nL rem m9 (pc + 3) lv (.ref (gz_ad G r) :: rest)) : gz_V cS X G nL (rem.1 + (gZ m9 - gZ m), rem.2 + (gW m9 - gW m)) m pc lv st0 :=
  gz_callX hX cs_E (As := []) (rest := rest) (q := (RX2, TX2, 8)) (ci := 2) (c := 1011) (ct_X2_product (l := X.2.1) h1 h2 hO h) (lw_V q1075 q1077 qs26 q172 q1078) (n := 0) (by decide +kernel) hroom rfl rfl (by decide) hK hst hW hd (rem := rem) (fun rv e => by obtain rfl := Option.some.inj e; exact kk) (fun e => by simp at e)
theorem cc_X2_252ix {X : gz_X} {G : gz_G} {cc : ByteArray} {nL fr lo pc : Nat} {rem : Nat × Nat} {lv : List (Nat × Value)} {rest st0 : List Value} (hX : gz_C cS X G cc nL RX2 fr lo)  {m m9 : gM} (hK : clc m.1 m.2.1 m.2.2.2.2.1 → m.1 1011 = 2 + 1)  {oR : gM → Option (Option Nat × gM)} {f n : Nat} (h1 : 60 ≤ f) (h2 : 1500 ≤ n) (hO : cOA G X.2.1 f n oR) (h : cf_X2_product oR  m = some (none, m9)) (hroom : (f + 1) + 1 ≤ fr ∧ 8 + (3 + 11) + (n + 40) ≤ lo) (hst : st0 = [.ref (gz_ad G 1011)] ++ rest) (hW : (rest.map fun v => v.category).sum ≤ 8) (hd : decode cc pc = .ok (.invokevirtual 252, 3)) (kk : gz_VX cS X G nL rem m9 pc lv) : gz_V cS X G nL (rem.1 + (gZ m9 - gZ m), rem.2 + (gW m9 - gW m)) m pc lv st0 :=
  gz_callX hX cs_E (As := []) (rest := rest) (q := (RX2, TX2, 8)) (ci := 2) (c := 1011) (ct_X2_product (l := X.2.1) h1 h2 hO h) (lw_V q1075 q1077 qs26 q172 q1078) (n := 0) (by decide +kernel) hroom rfl rfl (by decide) hK hst hW hd (rem := rem) (fun rv e => by simp at e) (fun _ => kk)
/-! FirstSnuffer$Reader.sum()LFirstSnuffer$Value; -/
def mP_X2_sum_20 (X : gz_X) (G : gz_G) (zE : Nat × Nat) (c1 : Nat) (q : (Int32 × gM)) : Prop := gz_Va cS X G 3 zE q.2 20 [(0, .ref (gz_ad G 1011)), (1, .ref (gz_ad G c1)), (2, .int q.1)] []
noncomputable def mb_X2_sum_20 (oR : gM → Option (Option Nat × gM)) (c1 : Nat) (x2 : Int32) (m : gM) : Option ((Int32 × gM) ⊕ (Option Nat × gM)) :=
  (if x2 = (0 : Int32) then some (Sum.inr (some c1, m)) else ((cf_X2_takes (43 : Int32) m).bind fun (r2, m3) => (if m3.2.2.2.2.2 = m.2.2.2.2.2 then (if r2 = (0 : Int32) then ((cf_X2_takes (45 : Int32) m3).bind fun (r7, m8) => (if m8.2.2.2.2.2 = m3.2.2.2.2.2 then (if r7 = (0 : Int32) then some (Sum.inl ((0 : Int32), m8)) else ((cf_X2_product oR  m8).bind fun (o15, m13) => (if gZ m8 ≤ gZ m13 ∧ gW m8 ≤ gW m13 then gx_o o15 (fun r12 => (if gK m13 c1 = 11 then ((cf_X12_add c1 (45 : Int32) r12 m13).bind fun (_, m19) => (if gZ m13 ≤ gZ m19 ∧ gW m13 ≤ gW m19 then some (Sum.inl (x2, m19)) else none)) else none)) (some (Sum.inr (none, m13))) else none))) else none)) else ((cf_X2_product oR  m3).bind fun (o25, m23) => (if gZ m3 ≤ gZ m23 ∧ gW m3 ≤ gW m23 then gx_o o25 (fun r22 => (if gK m23 c1 = 11 then ((cf_X12_add c1 (43 : Int32) r22 m23).bind fun (_, m29) => (if gZ m23 ≤ gZ m29 ∧ gW m23 ≤ gW m29 then some (Sum.inl (x2, m29)) else none)) else none)) (some (Sum.inr (none, m23))) else none))) else none)))
theorem wb_X2_sum_20 {X : gz_X} {G : gz_G} {zE : Nat × Nat} {oR : gM → Option (Option Nat × gM)} {f n : Nat} (hX : gz_C cS X G cX2_sum 3 RX2 (f + 2) (n + 80)) (h1 : 60 ≤ f) (h2 : 1500 ≤ n) (hO : cOA G X.2.1 f n oR) {c1 : Nat} {x2 : Int32}  {m : gM} {z : ((Int32 × gM) ⊕ (Option Nat × gM))} (h : mb_X2_sum_20 oR c1 x2 m = some z) (hk : (Sum.elim (mP_X2_sum_20 X G zE c1) (fun z : (Option Nat × gM) => gx_k (fun r => gz_kRa cS X G 3 zE cX2_sum z.2 r) (∀ (pc : Nat) (lv : List (Nat × Value)), gz_VXa cS X G 3 zE z.2 pc lv) z.1)) z) : gz_Va cS X G 3 zE m 20 [(0, .ref (gz_ad G 1011)), (1, .ref (gz_ad G c1)), (2, .int x2)] [] := by
  unfold mb_X2_sum_20 at h
  refine gz_Vs (fun _ kk => gz_iload_n (pc := 20) hX dX2_sum_20 rfl 2 rfl kk) rfl ?_
  refine gz_Vif (μ1 := m) (μ2 := m) (fun _ k1 k2 => gz_if_eq (pc := 21) (tgt := 73) hX dX2_sum_21 (by decide) k1 k2) (by first | exact Classical.em _ | exact (Classical.em _).symm) (fun g1 => ?_) (fun g1 => ?_)
  · replace h := gz_it' g1 h
    refine gz_Vs (fun _ kk => gz_aload_n (pc := 73) hX dX2_sum_73 rfl 1 rfl kk) rfl ?_
    obtain rfl := Option.some.inj h
    exact hk _ _ dX2_sum_74
  · replace h := gz_if' g1 h
    refine gz_Vs (fun _ kk => gz_aload_n (pc := 24) hX dX2_sum_24 rfl 0 rfl kk) rfl ?_
    refine gz_Vs (fun _ kk => gz_bipush (pc := 25) (v := (43 : Int32)) hX dX2_sum_25 (by decide) kk) rfl ?_
    obtain ⟨⟨r2, m3⟩, c4, h⟩ := gz_bd h
    obtain ⟨g5, h⟩ := gz_gu h
    refine gz_Vs (fun _ kk => cc_X2_258 (pc := 27) hX (fun h => cz_k h rfl) c4 ⟨by omega, by omega⟩ (rest := []) rfl (Nat.le_of_ble_eq_true rfl) dX2_sum_27 kk) g5 ?_
    refine gz_Vif (μ1 := m) (μ2 := m) (fun _ k1 k2 => gz_if_eq (pc := 30) (tgt := 46) hX dX2_sum_30 (by decide) k1 k2) (by first | exact Classical.em _ | exact (Classical.em _).symm) (fun g6 => ?_) (fun g6 => ?_)
    · replace h := gz_it' g6 h
      refine gz_Vs (fun _ kk => gz_aload_n (pc := 46) hX dX2_sum_46 rfl 0 rfl kk) rfl ?_
      refine gz_Vs (fun _ kk => gz_bipush (pc := 47) (v := (45 : Int32)) hX dX2_sum_47 (by decide) kk) rfl ?_
      obtain ⟨⟨r7, m8⟩, c9, h⟩ := gz_bd h
      obtain ⟨g10, h⟩ := gz_gu h
      refine gz_Vs (fun _ kk => cc_X2_258 (pc := 49) hX (fun h => cz_k h rfl) c9 ⟨by omega, by omega⟩ (rest := []) rfl (Nat.le_of_ble_eq_true rfl) dX2_sum_49 kk) g10 ?_
      refine gz_Vif (μ1 := m) (μ2 := m) (fun _ k1 k2 => gz_if_eq (pc := 52) (tgt := 68) hX dX2_sum_52 (by decide) k1 k2) (by first | exact Classical.em _ | exact (Classical.em _).symm) (fun g11 => ?_) (fun g11 => ?_)
      · replace h := gz_it' g11 h
        refine gz_Vs (fun _ kk => gz_iconst (pc := 68) (v := (0 : Int32)) hX dX2_sum_68 (by decide) kk) rfl ?_
        refine gz_Vs (fun _ kk => gz_istore_n (pc := 69) (lw := [(2, .int (0 : Int32)), (0, .ref (gz_ad G 1011)), (1, .ref (gz_ad G c1))]) hX dX2_sum_69 rfl (by decide) rfl kk) rfl ?_
        refine gz_Vs (fun _ kk => gz_goto (pc := 70) (tgt := 20) hX dX2_sum_70 (by decide) kk) rfl ?_
        refine gz_Vs (fun _ kk => gz_sub (lw := [(0, .ref (gz_ad G 1011)), (1, .ref (gz_ad G c1)), (2, .int (0 : Int32))]) [1, 2, 0] rfl kk) rfl ?_
        obtain rfl := Option.some.inj h
        exact hk
      · replace h := gz_if' g11 h
        refine gz_Vs (fun _ kk => gz_aload_n (pc := 55) hX dX2_sum_55 rfl 1 rfl kk) rfl ?_
        refine gz_Vs (fun _ kk => gz_bipush (pc := 56) (v := (45 : Int32)) hX dX2_sum_56 (by decide) kk) rfl ?_
        refine gz_Vs (fun _ kk => gz_aload_n (pc := 58) hX dX2_sum_58 rfl 0 rfl kk) rfl ?_
        obtain ⟨⟨o15, m13⟩, c14, h⟩ := gz_bd h
        obtain ⟨g16, h⟩ := gz_gu h
        cases o15 with
        | none =>
          replace h := gx_on h
          obtain rfl := Option.some.inj h
          exact gz_Vcx (k := gZ m13 - gZ m8) (n := gW m13 - gW m8) (fun _ kk => cc_X2_252ix (pc := 59) hX (fun h => cz_k h rfl) h1 h2 hO c14 ⟨by omega, by omega⟩ (rest := [.int (45 : Int32), .ref (gz_ad G c1)]) rfl (Nat.le_of_ble_eq_true rfl) dX2_sum_59 kk) ⟨by have := g16.1; dsimp only [gZ] at *; omega, by have := g16.2; dsimp only [gW] at *; omega⟩ (hk _ _)
        | some r12 =>
          replace h := gx_os h
          refine gz_Vc (k := gZ m13 - gZ m8) (n := gW m13 - gW m8) (fun _ kk => cc_X2_252i (pc := 59) hX (fun h => cz_k h rfl) h1 h2 hO c14 ⟨by omega, by omega⟩ (rest := [.int (45 : Int32), .ref (gz_ad G c1)]) rfl (Nat.le_of_ble_eq_true rfl) dX2_sum_59 kk) ⟨by have := g16.1; dsimp only [gZ] at *; omega, by have := g16.2; dsimp only [gW] at *; omega⟩ ?_
          obtain ⟨g17, h⟩ := gz_gu h
          obtain ⟨⟨⟨⟩, m19⟩, c20, h⟩ := gz_bd h
          obtain ⟨g21, h⟩ := gz_gu h
          refine gz_Vc (k := gZ m19 - gZ m13) (n := gW m19 - gW m13) (fun _ kk => cc_X2_255 (pc := 62) hX (fun _ => g17) c20 ⟨by omega, by omega⟩ (rest := []) rfl (Nat.le_of_ble_eq_true rfl) dX2_sum_62 kk) ⟨by have := g21.1; dsimp only [gZ] at *; omega, by have := g21.2; dsimp only [gW] at *; omega⟩ ?_
          refine gz_Vs (fun _ kk => gz_goto (pc := 65) (tgt := 20) hX dX2_sum_65 (by decide) kk) rfl ?_
          obtain rfl := Option.some.inj h
          exact hk
    · replace h := gz_if' g6 h
      refine gz_Vs (fun _ kk => gz_aload_n (pc := 33) hX dX2_sum_33 rfl 1 rfl kk) rfl ?_
      refine gz_Vs (fun _ kk => gz_bipush (pc := 34) (v := (43 : Int32)) hX dX2_sum_34 (by decide) kk) rfl ?_
      refine gz_Vs (fun _ kk => gz_aload_n (pc := 36) hX dX2_sum_36 rfl 0 rfl kk) rfl ?_
      obtain ⟨⟨o25, m23⟩, c24, h⟩ := gz_bd h
      obtain ⟨g26, h⟩ := gz_gu h
      cases o25 with
      | none =>
        replace h := gx_on h
        obtain rfl := Option.some.inj h
        exact gz_Vcx (k := gZ m23 - gZ m3) (n := gW m23 - gW m3) (fun _ kk => cc_X2_252ix (pc := 37) hX (fun h => cz_k h rfl) h1 h2 hO c24 ⟨by omega, by omega⟩ (rest := [.int (43 : Int32), .ref (gz_ad G c1)]) rfl (Nat.le_of_ble_eq_true rfl) dX2_sum_37 kk) ⟨by have := g26.1; dsimp only [gZ] at *; omega, by have := g26.2; dsimp only [gW] at *; omega⟩ (hk _ _)
      | some r22 =>
        replace h := gx_os h
        refine gz_Vc (k := gZ m23 - gZ m3) (n := gW m23 - gW m3) (fun _ kk => cc_X2_252i (pc := 37) hX (fun h => cz_k h rfl) h1 h2 hO c24 ⟨by omega, by omega⟩ (rest := [.int (43 : Int32), .ref (gz_ad G c1)]) rfl (Nat.le_of_ble_eq_true rfl) dX2_sum_37 kk) ⟨by have := g26.1; dsimp only [gZ] at *; omega, by have := g26.2; dsimp only [gW] at *; omega⟩ ?_
        obtain ⟨g27, h⟩ := gz_gu h
        obtain ⟨⟨⟨⟩, m29⟩, c30, h⟩ := gz_bd h
        obtain ⟨g31, h⟩ := gz_gu h
        refine gz_Vc (k := gZ m29 - gZ m23) (n := gW m29 - gW m23) (fun _ kk => cc_X2_255 (pc := 40) hX (fun _ => g27) c30 ⟨by omega, by omega⟩ (rest := []) rfl (Nat.le_of_ble_eq_true rfl) dX2_sum_40 kk) ⟨by have := g31.1; dsimp only [gZ] at *; omega, by have := g31.2; dsimp only [gW] at *; omega⟩ ?_
        refine gz_Vs (fun _ kk => gz_goto (pc := 43) (tgt := 20) hX dX2_sum_43 (by decide) kk) rfl ?_
        obtain rfl := Option.some.inj h
        exact hk
noncomputable def ml_X2_sum_20 (oR : gM → Option (Option Nat × gM)) (c1 : Nat) (x2 : Int32) (m : gM) : Option (Option Nat × gM) := gz_loop (fun q : (Int32 × gM) => mb_X2_sum_20 oR c1 q.1 q.2) (x2, m)
theorem wl_X2_sum_20 {X : gz_X} {G : gz_G} {zE : Nat × Nat} {oR : gM → Option (Option Nat × gM)} {f n : Nat} (hX : gz_C cS X G cX2_sum 3 RX2 (f + 2) (n + 80)) (h1 : 60 ≤ f) (h2 : 1500 ≤ n) (hO : cOA G X.2.1 f n oR) {c1 : Nat} {x2 : Int32}  {m : gM} {z : (Option Nat × gM)} (h : ml_X2_sum_20 oR c1 x2 m = some z) (hk : (fun z : (Option Nat × gM) => gx_k (fun r => gz_kRa cS X G 3 zE cX2_sum z.2 r) (∀ (pc : Nat) (lv : List (Nat × Value)), gz_VXa cS X G 3 zE z.2 pc lv) z.1) z) : gz_Va cS X G 3 zE m 20 [(0, .ref (gz_ad G 1011)), (1, .ref (gz_ad G c1)), (2, .int x2)] [] := by
  have hp : mP_X2_sum_20 X G zE c1 (x2, m) := gz_loop_ind (fun q z hz hkz => wb_X2_sum_20 hX h1 h2 hO  hz hkz) h hk
  exact hp
noncomputable def cf_X2_sum (oR : gM → Option (Option Nat × gM))  (m : gM) : Option (Option Nat × gM) :=
  (if gZ m ≠ 0 then gz_let (gz_al m (10 + 1) 0 2) fun m2 => ((cf_X12_init (gZ m) m2).bind fun (_, m4) => (if gZ m2 ≤ gZ m4 ∧ gW m2 ≤ gW m4 then ((cf_X2_product oR  m4).bind fun (o10, m8) => (if gZ m4 ≤ gZ m8 ∧ gW m4 ≤ gW m8 then gx_o o10 (fun r7 => (if gK m8 (gZ m) = 11 then ((cf_X12_add (gZ m) (43 : Int32) r7 m8).bind fun (_, m14) => (if gZ m8 ≤ gZ m14 ∧ gW m8 ≤ gW m14 then (ml_X2_sum_20 oR (gZ m) (1 : Int32) m14) else none)) else none)) (some (none, m8)) else none)) else none)) else none)
theorem wm_X2_sum {X : gz_X} {G : gz_G} {zE : Nat × Nat} {oR : gM → Option (Option Nat × gM)} {f n : Nat} (hX : gz_C cS X G cX2_sum 3 RX2 (f + 2) (n + 80)) (h1 : 60 ≤ f) (h2 : 1500 ≤ n) (hO : cOA G X.2.1 f n oR)   {m : gM} {z : (Option Nat × gM)} (h : cf_X2_sum oR  m = some z) (hk : (fun z : (Option Nat × gM) => gx_k (fun r => gz_kRa cS X G 3 zE cX2_sum z.2 r) (∀ (pc : Nat) (lv : List (Nat × Value)), gz_VXa cS X G 3 zE z.2 pc lv) z.1) z) : gz_Va cS X G 3 zE m 0 [(0, .ref (gz_ad G 1011))] [] := by
  unfold cf_X2_sum at h
  obtain ⟨g1, h⟩ := gz_gu h
  obtain ⟨m2, em2, h⟩ := gz_lt h
  refine gz_Vn (fun _ kk => cn_X2_249 (pc := 0) hX g1 dX2_sum_0 em2 kk) em2 ?_
  refine gz_Vs (fun _ kk => gz_dup (pc := 3) hX dX2_sum_3 rfl kk) rfl ?_
  obtain ⟨⟨⟨⟩, m4⟩, c5, h⟩ := gz_bd h
  obtain ⟨g6, h⟩ := gz_gu h
  refine gz_Vc (k := gZ m4 - gZ m2) (n := gW m4 - gW m2) (fun _ kk => cc_X2_251 (pc := 4) hX c5 ⟨by omega, by omega⟩ (rest := [.ref (gz_ad G (gZ m))]) rfl (Nat.le_of_ble_eq_true rfl) dX2_sum_4 kk) ⟨by have := g6.1; dsimp only [gZ] at *; omega, by have := g6.2; dsimp only [gW] at *; omega⟩ ?_
  refine gz_Vs (fun _ kk => gz_astore_n (pc := 7) (lw := [(1, .ref (gz_ad G (gZ m))), (0, .ref (gz_ad G 1011))]) hX dX2_sum_7 rfl (by decide) rfl kk) rfl ?_
  refine gz_Vs (fun _ kk => gz_aload_n (pc := 8) hX dX2_sum_8 rfl 0 rfl kk) rfl ?_
  refine gz_Vs (fun _ kk => gz_bipush (pc := 9) (v := (43 : Int32)) hX dX2_sum_9 (by decide) kk) rfl ?_
  refine gz_Vs (fun _ kk => gz_aload_n (pc := 11) hX dX2_sum_11 rfl 1 rfl kk) rfl ?_
  obtain ⟨⟨o10, m8⟩, c9, h⟩ := gz_bd h
  obtain ⟨g11, h⟩ := gz_gu h
  cases o10 with
  | none =>
    replace h := gx_on h
    obtain rfl := Option.some.inj h
    exact gz_Vcx (k := gZ m8 - gZ m4) (n := gW m8 - gW m4) (fun _ kk => cc_X2_252ix (pc := 12) hX (fun h => cz_k h rfl) h1 h2 hO c9 ⟨by omega, by omega⟩ (rest := [.int (43 : Int32), .ref (gz_ad G (gZ m))]) rfl (Nat.le_of_ble_eq_true rfl) dX2_sum_12 kk) ⟨by have := g11.1; dsimp only [gZ] at *; omega, by have := g11.2; dsimp only [gW] at *; omega⟩ (hk _ _)
  | some r7 =>
    replace h := gx_os h
    refine gz_Vc (k := gZ m8 - gZ m4) (n := gW m8 - gW m4) (fun _ kk => cc_X2_252i (pc := 12) hX (fun h => cz_k h rfl) h1 h2 hO c9 ⟨by omega, by omega⟩ (rest := [.int (43 : Int32), .ref (gz_ad G (gZ m))]) rfl (Nat.le_of_ble_eq_true rfl) dX2_sum_12 kk) ⟨by have := g11.1; dsimp only [gZ] at *; omega, by have := g11.2; dsimp only [gW] at *; omega⟩ ?_
    obtain ⟨g12, h⟩ := gz_gu h
    obtain ⟨⟨⟨⟩, m14⟩, c15, h⟩ := gz_bd h
    obtain ⟨g16, h⟩ := gz_gu h
    refine gz_Vc (k := gZ m14 - gZ m8) (n := gW m14 - gW m8) (fun _ kk => cc_X2_255 (pc := 15) hX (fun _ => g12) c15 ⟨by omega, by omega⟩ (rest := []) rfl (Nat.le_of_ble_eq_true rfl) dX2_sum_15 kk) ⟨by have := g16.1; dsimp only [gZ] at *; omega, by have := g16.2; dsimp only [gW] at *; omega⟩ ?_
    refine gz_Vs (fun _ kk => gz_iconst (pc := 18) (v := (1 : Int32)) hX dX2_sum_18 (by decide) kk) rfl ?_
    refine gz_Vs (fun _ kk => gz_istore_n (pc := 19) (lw := [(2, .int (1 : Int32)), (1, .ref (gz_ad G (gZ m))), (0, .ref (gz_ad G 1011))]) hX dX2_sum_19 rfl (by decide) rfl kk) rfl ?_
    refine gz_Vs (fun _ kk => gz_sub (lw := [(0, .ref (gz_ad G 1011)), (1, .ref (gz_ad G (gZ m))), (2, .int (1 : Int32))]) [2, 1, 0] rfl kk) rfl ?_
    exact wl_X2_sum_20 hX h1 h2 hO h hk
theorem ct_X2_sum {G : gz_G} {l : Launch} {oR : gM → Option (Option Nat × gM)} {f n : Nat} (h1 : 60 ≤ f) (h2 : 1500 ≤ n) (hO : cOA G l f n oR)   {m m9 : gM} {o : Option Nat} (h : cf_X2_sum oR  m = some (o, m9)) : gx_Met cS G l yX2_sum cX2_sum 3 (some (.object "FirstSnuffer$Value")) (mRc (f + 2) (n + 80) (gZ m9 - gZ m) (gW m9 - gW m)) [.ref (gz_ad G 1011)] m m9 (o.map (fun r => some (.ref (gz_ad G r)))) :=
  gx_ofR (Or.inl ⟨_, rfl⟩) (by decide +kernel) (Nat.le_of_ble_eq_true rfl) ⟨_, rfl, rfl⟩ (fun h => cz_k (c := 1012) (k := 3) h rfl) fun X e hX hk => (wm_X2_sum (zE := m9.2.2.2.2.2) hX h1 h2 (e ▸ hO) h (gx_km (fun _ q pc lv hd => gz_Ve (q pc lv hd)) (fun q pc lv => gz_VXe (q pc lv)) hk)).2
theorem cc_X2_236i {X : gz_X} {G : gz_G} {cc : ByteArray} {nL fr lo pc : Nat} {rem : Nat × Nat} {lv : List (Nat × Value)} {rest st0 : List Value} (hX : gz_C cS X G cc nL RX2 fr lo)  {m m9 : gM} (hK : clc m.1 m.2.1 m.2.2.2.2.1 → m.1 1011 = 2 + 1)  {oR : gM → Option (Option Nat × gM)} {f n : Nat} (h1 : 60 ≤ f) (h2 : 1500 ≤ n) (hO : cOA G X.2.1 f n oR) {r : Nat} (h : cf_X2_sum oR  m = some (some r, m9)) (hroom : (f + 2) + 1 ≤ fr ∧ 8 + (3 + 11) + (n + 80) ≤ lo) (hst : st0 = [.ref (gz_ad G 1011)] ++ rest) (hW : (rest.map fun v => v.category).sum ≤ 8) (hd : decode cc pc = .ok (.invokevirtual 236, 3)) (kk : gz_V cS X G nL rem m9 (pc + 3) lv (.ref (gz_ad G r) :: rest)) : gz_V cS X G nL (rem.1 + (gZ m9 - gZ m), rem.2 + (gW m9 - gW m)) m pc lv st0 :=
  gz_callX hX cs_E (As := []) (rest := rest) (q := (RX2, TX2, 8)) (ci := 2) (c := 1011) (ct_X2_sum (l := X.2.1) h1 h2 hO h) (lw_V q1030 q1032 qs25 q172 q1033) (n := 0) (by decide +kernel) hroom rfl rfl (by decide) hK hst hW hd (rem := rem) (fun rv e => by obtain rfl := Option.some.inj e; exact kk) (fun e => by simp at e)
theorem cc_X2_236ix {X : gz_X} {G : gz_G} {cc : ByteArray} {nL fr lo pc : Nat} {rem : Nat × Nat} {lv : List (Nat × Value)} {rest st0 : List Value} (hX : gz_C cS X G cc nL RX2 fr lo)  {m m9 : gM} (hK : clc m.1 m.2.1 m.2.2.2.2.1 → m.1 1011 = 2 + 1)  {oR : gM → Option (Option Nat × gM)} {f n : Nat} (h1 : 60 ≤ f) (h2 : 1500 ≤ n) (hO : cOA G X.2.1 f n oR) (h : cf_X2_sum oR  m = some (none, m9)) (hroom : (f + 2) + 1 ≤ fr ∧ 8 + (3 + 11) + (n + 80) ≤ lo) (hst : st0 = [.ref (gz_ad G 1011)] ++ rest) (hW : (rest.map fun v => v.category).sum ≤ 8) (hd : decode cc pc = .ok (.invokevirtual 236, 3)) (kk : gz_VX cS X G nL rem m9 pc lv) : gz_V cS X G nL (rem.1 + (gZ m9 - gZ m), rem.2 + (gW m9 - gW m)) m pc lv st0 :=
  gz_callX hX cs_E (As := []) (rest := rest) (q := (RX2, TX2, 8)) (ci := 2) (c := 1011) (ct_X2_sum (l := X.2.1) h1 h2 hO h) (lw_V q1030 q1032 qs25 q172 q1033) (n := 0) (by decide +kernel) hroom rfl rfl (by decide) hK hst hW hd (rem := rem) (fun rv e => by simp at e) (fun _ => kk)
theorem cc_X2_137 {X : gz_X} {G : gz_G} {cc : ByteArray} {nL fr lo pc : Nat} {rem : Nat × Nat} {lv : List (Nat × Value)} {rest st0 : List Value} (hX : gz_C cS X G cc nL RX2 fr lo) {x1 : Int32} {m m9 : gM} (hK : clc m.1 m.2.1 m.2.2.2.2.1 → m.1 1011 = 2 + 1)  (h : cf_X2_must x1 m = some (some (), m9)) (hroom : 2 + 1 ≤ fr ∧ 8 + (2 + 11) + 41 ≤ lo) (hst : st0 = [.int x1, .ref (gz_ad G 1011)] ++ rest) (hW : (rest.map fun v => v.category).sum ≤ 8) (hd : decode cc pc = .ok (.invokevirtual 137, 3)) (kk : gz_V cS X G nL rem m9 (pc + 3) lv (rest)) : gz_V cS X G nL (rem.1 + (gZ m9 - gZ m), rem.2 + (gW m9 - gW m)) m pc lv st0 :=
  gz_callX hX cs_E (As := [.int x1]) (rest := rest) (q := (RX2, TX2, 8)) (ci := 2) (c := 1011) (ct_X2_must (l := X.2.1) h) (lw_V q1091 q1093 qs30 q172 q1094) (n := 1) (by decide +kernel) hroom rfl rfl (by decide) hK hst hW hd (rem := rem) (fun rv e => by obtain rfl := Option.some.inj e; exact kk) (fun e => by simp at e)
theorem cc_X2_137x {X : gz_X} {G : gz_G} {cc : ByteArray} {nL fr lo pc : Nat} {rem : Nat × Nat} {lv : List (Nat × Value)} {rest st0 : List Value} (hX : gz_C cS X G cc nL RX2 fr lo) {x1 : Int32} {m m9 : gM} (hK : clc m.1 m.2.1 m.2.2.2.2.1 → m.1 1011 = 2 + 1)  (h : cf_X2_must x1 m = some (none, m9)) (hroom : 2 + 1 ≤ fr ∧ 8 + (2 + 11) + 41 ≤ lo) (hst : st0 = [.int x1, .ref (gz_ad G 1011)] ++ rest) (hW : (rest.map fun v => v.category).sum ≤ 8) (hd : decode cc pc = .ok (.invokevirtual 137, 3)) (kk : gz_VX cS X G nL rem m9 pc lv) : gz_V cS X G nL (rem.1 + (gZ m9 - gZ m), rem.2 + (gW m9 - gW m)) m pc lv st0 :=
  gz_callX hX cs_E (As := [.int x1]) (rest := rest) (q := (RX2, TX2, 8)) (ci := 2) (c := 1011) (ct_X2_must (l := X.2.1) h) (lw_V q1091 q1093 qs30 q172 q1094) (n := 1) (by decide +kernel) hroom rfl rfl (by decide) hK hst hW hd (rem := rem) (fun rv e => by simp at e) (fun _ => kk)
theorem cn_X2_267 {X : gz_X} {G : gz_G} {cc : ByteArray} {nL fr lo pc : Nat} {rem : Nat × Nat} {m m9 : gM} {lv : List (Nat × Value)} {st : List Value} (hX : gz_C cS X G cc nL RX2 fr lo) (hz : gZ m ≠ 0) (hd : decode cc pc = .ok (.new 267, 3)) (hm : m9 = gz_al m (11 + 1) 0 3) (kk : gz_V cS X G nL rem m9 (pc + 3) lv (.ref (gz_ad G (gZ m)) :: st)) : gz_V cS X G nL (rem.1 + 1, rem.2 + 3) m pc lv st :=
  gz_new hX (C := RX13) (T := TX13) (N := 3) (ci := 11) rfl (by decide) in_X13 tyX13 tyX13_ok (by decide +kernel) q1095 q1096 q197 hz clc_al hd hm kk
theorem cc_X2_269 {X : gz_X} {G : gz_G} {cc : ByteArray} {nL fr lo pc : Nat} {rem : Nat × Nat} {lv : List (Nat × Value)} {rest st0 : List Value} (hX : gz_C cS X G cc nL RX2 fr lo) {c0 : Nat} {x1 : Int32} {c2 : Nat} {c3 : Nat} {m m9 : gM}  (h : cf_X13_init c0 x1 c2 c3 m = some ((), m9)) (hroom : 2 + 1 ≤ fr ∧ 8 + (4 + 11) + 40 ≤ lo) (hst : st0 = [.ref (gz_ad G c3), .ref (gz_ad G c2), .int x1, .ref (gz_ad G c0)] ++ rest) (hW : (rest.map fun v => v.category).sum ≤ 8) (hd : decode cc pc = .ok (.invokespecial 269, 3)) (kk : gz_V cS X G nL rem m9 (pc + 3) lv (rest)) : gz_V cS X G nL rem m pc lv st0 :=
  gz_callI hX cs_E (As := [.int x1, .ref (gz_ad G c2), .ref (gz_ad G c3)]) (rest := rest) (c := c0) (ct_X13_init (l := X.2.1) h) q1099 q197 q1097 q1098 rfl (n := 3) (by decide +kernel) hroom rfl hst hW hd (rem := rem) kk
/-! FirstSnuffer$Reader.within(I)LFirstSnuffer$Value; -/
noncomputable def mj_X2_within_77 (oR : gM → Option (Option Nat × gM)) (c3 : Nat) (m : gM) : Option (Option Nat × gM) :=
  ((cf_X2_must (41 : Int32) m).bind fun (o4, m2) => (if gZ m ≤ gZ m2 ∧ gW m ≤ gW m2 then gx_o o4 (fun r1 => gz_let (gz_sI m2 1011 4 ((gI m2 1011 4) - (1 : Int32))) fun m6 => some (some c3, m6)) (some (none, m2)) else none))
theorem wb_X2_within_77 {X : gz_X} {G : gz_G} {zE : Nat × Nat} {oR : gM → Option (Option Nat × gM)} {f n : Nat} (hX : gz_C cS X G cX2_within 4 RX2 (f + 3) (n + 120)) (h1 : 60 ≤ f) (h2 : 1500 ≤ n) (hO : cOA G X.2.1 f n oR) {c3 : Nat}  {m : gM} {z : (Option Nat × gM)} (h : mj_X2_within_77 oR c3 m = some z) (hk : (fun z : (Option Nat × gM) => gx_k (fun r => gz_kRa cS X G 4 zE cX2_within z.2 r) (∀ (pc : Nat) (lv : List (Nat × Value)), gz_VXa cS X G 4 zE z.2 pc lv) z.1) z) : gz_Va cS X G 4 zE m 77 [(0, .ref (gz_ad G 1011)), (3, .ref (gz_ad G c3))] [] := by
  unfold mj_X2_within_77 at h
  refine gz_Vs (fun _ kk => gz_aload_n (pc := 77) hX dX2_within_77 rfl 0 rfl kk) rfl ?_
  refine gz_Vs (fun _ kk => gz_bipush (pc := 78) (v := (41 : Int32)) hX dX2_within_78 (by decide) kk) rfl ?_
  obtain ⟨⟨o4, m2⟩, c3, h⟩ := gz_bd h
  obtain ⟨g5, h⟩ := gz_gu h
  cases o4 with
  | none =>
    replace h := gx_on h
    obtain rfl := Option.some.inj h
    exact gz_Vcx (k := gZ m2 - gZ m) (n := gW m2 - gW m) (fun _ kk => cc_X2_137x (pc := 80) hX (fun h => cz_k h rfl) c3 ⟨by omega, by omega⟩ (rest := []) rfl (Nat.le_of_ble_eq_true rfl) dX2_within_80 kk) ⟨by have := g5.1; dsimp only [gZ] at *; omega, by have := g5.2; dsimp only [gW] at *; omega⟩ (hk _ _)
  | some r1 =>
    replace h := gx_os h
    refine gz_Vc (k := gZ m2 - gZ m) (n := gW m2 - gW m) (fun _ kk => cc_X2_137 (pc := 80) hX (fun h => cz_k h rfl) c3 ⟨by omega, by omega⟩ (rest := []) rfl (Nat.le_of_ble_eq_true rfl) dX2_within_80 kk) ⟨by have := g5.1; dsimp only [gZ] at *; omega, by have := g5.2; dsimp only [gW] at *; omega⟩ ?_
    refine gz_Vs (fun _ kk => gz_aload_n (pc := 83) hX dX2_within_83 rfl 0 rfl kk) rfl ?_
    refine gz_Vs (fun _ kk => gz_dup (pc := 84) hX dX2_within_84 rfl kk) rfl ?_
    refine gz_Vs (fun _ kk => cg_X2_119_2 (pc := 85) hX (c := 1011) (v := .int (gI m2 1011 4)) (fun h => cz_k h rfl) (fun _ => rfl) dX2_within_85 kk) rfl ?_
    refine gz_Vs (fun _ kk => gz_iconst (pc := 88) (v := (1 : Int32)) hX dX2_within_88 (by decide) kk) rfl ?_
    refine gz_Vs (fun _ kk => gz_isub (pc := 89) hX dX2_within_89 kk) rfl ?_
    obtain ⟨m6, em6, h⟩ := gz_lt h
    refine gz_Vs (fun _ kk => cp_X2_119_2 (pc := 90) hX (c := 1011) (fun h => cz_k h rfl) (Nat.le_of_ble_eq_true rfl) dX2_within_90 em6 kk) (by rw [em6]; rfl) ?_
    refine gz_Vs (fun _ kk => gz_aload_n (pc := 93) hX dX2_within_93 rfl 1 rfl kk) rfl ?_
    obtain rfl := Option.some.inj h
    exact hk _ _ dX2_within_94
noncomputable def mj_X2_within_68 (oR : gM → Option (Option Nat × gM)) (c2 : Nat) (s0 : Int32) (s1 : Nat) (s2 : Nat) (m : gM) : Option (Option Nat × gM) :=
  ((cf_X2_sum oR  m).bind fun (o4, m2) => (if gZ m ≤ gZ m2 ∧ gW m ≤ gW m2 then gx_o o4 (fun r1 => ((cf_X13_init s1 s0 c2 r1 m2).bind fun (_, m7) => (if m7.2.2.2.2.2 = m2.2.2.2.2.2 then (mj_X2_within_77 oR s2 m7) else none))) (some (none, m2)) else none))
theorem wb_X2_within_68 {X : gz_X} {G : gz_G} {zE : Nat × Nat} {oR : gM → Option (Option Nat × gM)} {f n : Nat} (hX : gz_C cS X G cX2_within 4 RX2 (f + 3) (n + 120)) (h1 : 60 ≤ f) (h2 : 1500 ≤ n) (hO : cOA G X.2.1 f n oR) {c2 : Nat} {s0 : Int32} {s1 : Nat} {s2 : Nat}  {m : gM} {z : (Option Nat × gM)} (h : mj_X2_within_68 oR c2 s0 s1 s2 m = some z) (hk : (fun z : (Option Nat × gM) => gx_k (fun r => gz_kRa cS X G 4 zE cX2_within z.2 r) (∀ (pc : Nat) (lv : List (Nat × Value)), gz_VXa cS X G 4 zE z.2 pc lv) z.1) z) : gz_Va cS X G 4 zE m 68 [(0, .ref (gz_ad G 1011)), (2, .ref (gz_ad G c2))] [.int s0, .ref (gz_ad G s1), .ref (gz_ad G s2)] := by
  unfold mj_X2_within_68 at h
  refine gz_Vs (fun _ kk => gz_aload_n (pc := 68) hX dX2_within_68 rfl 1 rfl kk) rfl ?_
  refine gz_Vs (fun _ kk => gz_aload_n (pc := 69) hX dX2_within_69 rfl 0 rfl kk) rfl ?_
  obtain ⟨⟨o4, m2⟩, c3, h⟩ := gz_bd h
  obtain ⟨g5, h⟩ := gz_gu h
  cases o4 with
  | none =>
    replace h := gx_on h
    obtain rfl := Option.some.inj h
    exact gz_Vcx (k := gZ m2 - gZ m) (n := gW m2 - gW m) (fun _ kk => cc_X2_236ix (pc := 70) hX (fun h => cz_k h rfl) h1 h2 hO c3 ⟨by omega, by omega⟩ (rest := [.ref (gz_ad G c2), .int s0, .ref (gz_ad G s1), .ref (gz_ad G s2)]) rfl (Nat.le_of_ble_eq_true rfl) dX2_within_70 kk) ⟨by have := g5.1; dsimp only [gZ] at *; omega, by have := g5.2; dsimp only [gW] at *; omega⟩ (hk _ _)
  | some r1 =>
    replace h := gx_os h
    refine gz_Vc (k := gZ m2 - gZ m) (n := gW m2 - gW m) (fun _ kk => cc_X2_236i (pc := 70) hX (fun h => cz_k h rfl) h1 h2 hO c3 ⟨by omega, by omega⟩ (rest := [.ref (gz_ad G c2), .int s0, .ref (gz_ad G s1), .ref (gz_ad G s2)]) rfl (Nat.le_of_ble_eq_true rfl) dX2_within_70 kk) ⟨by have := g5.1; dsimp only [gZ] at *; omega, by have := g5.2; dsimp only [gW] at *; omega⟩ ?_
    obtain ⟨⟨⟨⟩, m7⟩, c8, h⟩ := gz_bd h
    obtain ⟨g9, h⟩ := gz_gu h
    refine gz_Vs (fun _ kk => cc_X2_269 (pc := 73) hX c8 ⟨by omega, by omega⟩ (rest := [.ref (gz_ad G s2)]) rfl (Nat.le_of_ble_eq_true rfl) dX2_within_73 kk) g9 ?_
    refine gz_Vs (fun _ kk => gz_astore_n (pc := 76) (lw := [(3, .ref (gz_ad G s2)), (0, .ref (gz_ad G 1011)), (2, .ref (gz_ad G c2))]) hX dX2_within_76 rfl (by decide) rfl kk) rfl ?_
    refine gz_Vs (fun _ kk => gz_sub (lw := [(0, .ref (gz_ad G 1011)), (3, .ref (gz_ad G s2))]) [1, 0] rfl kk) rfl ?_
    exact wb_X2_within_77 hX h1 h2 hO h hk
noncomputable def cf_X2_within (oR : gM → Option (Option Nat × gM)) (x1 : Int32) (m : gM) : Option (Option Nat × gM) :=
  ((cf_X2_here m).bind fun (r1, m2) => (if m2.2.2.2.2.2 = m.2.2.2.2.2 then (if r1 = (40 : Int32) then ((cf_X2_opens (gI m2 1011 2) m2).bind fun (o9, m7) => (if gZ m2 ≤ gZ m7 ∧ gW m2 ≤ gW m7 then gx_o o9 (fun r6 => gz_let (gz_sI m7 1011 2 ((gI m7 1011 2) + (1 : Int32))) fun m11 => ((cf_X2_sum oR  m11).bind fun (o15, m13) => (if gZ m11 ≤ gZ m13 ∧ gW m11 ≤ gW m13 then gx_o o15 (fun r12 => (if x1 ≤ (0 : Int32) then (mj_X2_within_77 oR r12 m13) else ((cf_X2_must (44 : Int32) m13).bind fun (o21, m19) => (if gZ m13 ≤ gZ m19 ∧ gW m13 ≤ gW m19 then gx_o o21 (fun r18 => (if gZ m19 ≠ 0 then gz_let (gz_al m19 (11 + 1) 0 3) fun m24 => (if x1 = (2 : Int32) then (mj_X2_within_68 oR r12 (1 : Int32) (gZ m19) (gZ m19) m24) else (mj_X2_within_68 oR r12 (0 : Int32) (gZ m19) (gZ m19) m24)) else none)) (some (none, m19)) else none)))) (some (none, m13)) else none))) (some (none, m7)) else none)) else ((cf_X2_wrong (1 : Int32) (gI m2 1011 2) m2).bind fun (r26, m27) => (if m27.2.2.2.2.2 = m2.2.2.2.2.2 then (if r26 = 1012 then some (none, m27) else none) else none))) else none))
theorem wm_X2_within {X : gz_X} {G : gz_G} {zE : Nat × Nat} {oR : gM → Option (Option Nat × gM)} {f n : Nat} (hX : gz_C cS X G cX2_within 4 RX2 (f + 3) (n + 120)) (h1 : 60 ≤ f) (h2 : 1500 ≤ n) (hO : cOA G X.2.1 f n oR) {x1 : Int32}  {m : gM} {z : (Option Nat × gM)} (h : cf_X2_within oR x1 m = some z) (hk : (fun z : (Option Nat × gM) => gx_k (fun r => gz_kRa cS X G 4 zE cX2_within z.2 r) (∀ (pc : Nat) (lv : List (Nat × Value)), gz_VXa cS X G 4 zE z.2 pc lv) z.1) z) : gz_Va cS X G 4 zE m 0 [(0, .ref (gz_ad G 1011)), (1, .int x1)] [] := by
  unfold cf_X2_within at h
  refine gz_Vs (fun _ kk => gz_aload_n (pc := 0) hX dX2_within_0 rfl 0 rfl kk) rfl ?_
  obtain ⟨⟨r1, m2⟩, c3, h⟩ := gz_bd h
  obtain ⟨g4, h⟩ := gz_gu h
  refine gz_Vs (fun _ kk => cc_X2_43 (pc := 1) hX (fun h => cz_k h rfl) c3 ⟨by omega, by omega⟩ (rest := []) rfl (Nat.le_of_ble_eq_true rfl) dX2_within_1 kk) g4 ?_
  refine gz_Vs (fun _ kk => gz_bipush (pc := 4) (v := (40 : Int32)) hX dX2_within_4 (by decide) kk) rfl ?_
  refine gz_Vif (μ1 := m) (μ2 := m) (fun _ k1 k2 => gz_icmp_eq (pc := 6) (tgt := 19) hX dX2_within_6 (by decide) k1 k2) (by first | exact Classical.em _ | exact (Classical.em _).symm) (fun g5 => ?_) (fun g5 => ?_)
  · replace h := gz_it' g5 h
    refine gz_Vs (fun _ kk => gz_aload_n (pc := 19) hX dX2_within_19 rfl 0 rfl kk) rfl ?_
    refine gz_Vs (fun _ kk => gz_aload_n (pc := 20) hX dX2_within_20 rfl 0 rfl kk) rfl ?_
    refine gz_Vs (fun _ kk => cg_X2_36_2 (pc := 21) hX (c := 1011) (v := .int (gI m2 1011 2)) (fun h => cz_k h rfl) (fun _ => rfl) dX2_within_21 kk) rfl ?_
    obtain ⟨⟨o9, m7⟩, c8, h⟩ := gz_bd h
    obtain ⟨g10, h⟩ := gz_gu h
    cases o9 with
    | none =>
      replace h := gx_on h
      obtain rfl := Option.some.inj h
      exact gz_Vcx (k := gZ m7 - gZ m2) (n := gW m7 - gW m2) (fun _ kk => cc_X2_264x (pc := 24) hX (fun h => cz_k h rfl) c8 ⟨by omega, by omega⟩ (rest := []) rfl (Nat.le_of_ble_eq_true rfl) dX2_within_24 kk) ⟨by have := g10.1; dsimp only [gZ] at *; omega, by have := g10.2; dsimp only [gW] at *; omega⟩ (hk _ _)
    | some r6 =>
      replace h := gx_os h
      refine gz_Vc (k := gZ m7 - gZ m2) (n := gW m7 - gW m2) (fun _ kk => cc_X2_264 (pc := 24) hX (fun h => cz_k h rfl) c8 ⟨by omega, by omega⟩ (rest := []) rfl (Nat.le_of_ble_eq_true rfl) dX2_within_24 kk) ⟨by have := g10.1; dsimp only [gZ] at *; omega, by have := g10.2; dsimp only [gW] at *; omega⟩ ?_
      refine gz_Vs (fun _ kk => gz_aload_n (pc := 27) hX dX2_within_27 rfl 0 rfl kk) rfl ?_
      refine gz_Vs (fun _ kk => gz_dup (pc := 28) hX dX2_within_28 rfl kk) rfl ?_
      refine gz_Vs (fun _ kk => cg_X2_36_2 (pc := 29) hX (c := 1011) (v := .int (gI m7 1011 2)) (fun h => cz_k h rfl) (fun _ => rfl) dX2_within_29 kk) rfl ?_
      refine gz_Vs (fun _ kk => gz_iconst (pc := 32) (v := (1 : Int32)) hX dX2_within_32 (by decide) kk) rfl ?_
      refine gz_Vs (fun _ kk => gz_iadd (pc := 33) hX dX2_within_33 kk) rfl ?_
      obtain ⟨m11, em11, h⟩ := gz_lt h
      refine gz_Vs (fun _ kk => cp_X2_36_2 (pc := 34) hX (c := 1011) (fun h => cz_k h rfl) (Nat.le_of_ble_eq_true rfl) dX2_within_34 em11 kk) (by rw [em11]; rfl) ?_
      refine gz_Vs (fun _ kk => gz_aload_n (pc := 37) hX dX2_within_37 rfl 0 rfl kk) rfl ?_
      obtain ⟨⟨o15, m13⟩, c14, h⟩ := gz_bd h
      obtain ⟨g16, h⟩ := gz_gu h
      cases o15 with
      | none =>
        replace h := gx_on h
        obtain rfl := Option.some.inj h
        exact gz_Vcx (k := gZ m13 - gZ m11) (n := gW m13 - gW m11) (fun _ kk => cc_X2_236ix (pc := 38) hX (fun h => cz_k h rfl) h1 h2 hO c14 ⟨by omega, by omega⟩ (rest := []) rfl (Nat.le_of_ble_eq_true rfl) dX2_within_38 kk) ⟨by have := g16.1; dsimp only [gZ] at *; omega, by have := g16.2; dsimp only [gW] at *; omega⟩ (hk _ _)
      | some r12 =>
        replace h := gx_os h
        refine gz_Vc (k := gZ m13 - gZ m11) (n := gW m13 - gW m11) (fun _ kk => cc_X2_236i (pc := 38) hX (fun h => cz_k h rfl) h1 h2 hO c14 ⟨by omega, by omega⟩ (rest := []) rfl (Nat.le_of_ble_eq_true rfl) dX2_within_38 kk) ⟨by have := g16.1; dsimp only [gZ] at *; omega, by have := g16.2; dsimp only [gW] at *; omega⟩ ?_
        refine gz_Vs (fun _ kk => gz_astore_n (pc := 41) (lw := [(2, .ref (gz_ad G r12)), (0, .ref (gz_ad G 1011)), (1, .int x1)]) hX dX2_within_41 rfl (by decide) rfl kk) rfl ?_
        refine gz_Vs (fun _ kk => gz_aload_n (pc := 42) hX dX2_within_42 rfl 0 rfl kk) rfl ?_
        refine gz_Vs (fun _ kk => gz_astore_n (pc := 43) (lw := [(3, .ref (gz_ad G r12)), (2, .ref (gz_ad G r12)), (0, .ref (gz_ad G 1011)), (1, .int x1)]) hX dX2_within_43 rfl (by decide) rfl kk) rfl ?_
        refine gz_Vs (fun _ kk => gz_iload_n (pc := 44) hX dX2_within_44 rfl 3 rfl kk) rfl ?_
        refine gz_Vif (μ1 := m) (μ2 := m) (fun _ k1 k2 => gz_if_le (pc := 45) (tgt := 77) hX dX2_within_45 (by decide) k1 k2) (by first | exact Classical.em _ | exact (Classical.em _).symm) (fun g17 => ?_) (fun g17 => ?_)
        · replace h := gz_it' g17 h
          refine gz_Vs (fun _ kk => gz_sub (lw := [(0, .ref (gz_ad G 1011)), (3, .ref (gz_ad G r12))]) [2, 0] rfl kk) rfl ?_
          exact wb_X2_within_77 hX h1 h2 hO h hk
        · replace h := gz_if' g17 h
          refine gz_Vs (fun _ kk => gz_aload_n (pc := 48) hX dX2_within_48 rfl 2 rfl kk) rfl ?_
          refine gz_Vs (fun _ kk => gz_bipush (pc := 49) (v := (44 : Int32)) hX dX2_within_49 (by decide) kk) rfl ?_
          obtain ⟨⟨o21, m19⟩, c20, h⟩ := gz_bd h
          obtain ⟨g22, h⟩ := gz_gu h
          cases o21 with
          | none =>
            replace h := gx_on h
            obtain rfl := Option.some.inj h
            exact gz_Vcx (k := gZ m19 - gZ m13) (n := gW m19 - gW m13) (fun _ kk => cc_X2_137x (pc := 51) hX (fun h => cz_k h rfl) c20 ⟨by omega, by omega⟩ (rest := []) rfl (Nat.le_of_ble_eq_true rfl) dX2_within_51 kk) ⟨by have := g22.1; dsimp only [gZ] at *; omega, by have := g22.2; dsimp only [gW] at *; omega⟩ (hk _ _)
          | some r18 =>
            replace h := gx_os h
            refine gz_Vc (k := gZ m19 - gZ m13) (n := gW m19 - gW m13) (fun _ kk => cc_X2_137 (pc := 51) hX (fun h => cz_k h rfl) c20 ⟨by omega, by omega⟩ (rest := []) rfl (Nat.le_of_ble_eq_true rfl) dX2_within_51 kk) ⟨by have := g22.1; dsimp only [gZ] at *; omega, by have := g22.2; dsimp only [gW] at *; omega⟩ ?_
            obtain ⟨g23, h⟩ := gz_gu h
            obtain ⟨m24, em24, h⟩ := gz_lt h
            refine gz_Vn (fun _ kk => cn_X2_267 (pc := 54) hX g23 dX2_within_54 em24 kk) em24 ?_
            refine gz_Vs (fun _ kk => gz_dup (pc := 57) hX dX2_within_57 rfl kk) rfl ?_
            refine gz_Vs (fun _ kk => gz_iload_n (pc := 58) hX dX2_within_58 rfl 3 rfl kk) rfl ?_
            refine gz_Vs (fun _ kk => gz_iconst (pc := 59) (v := (2 : Int32)) hX dX2_within_59 (by decide) kk) rfl ?_
            refine gz_Vif (μ1 := m) (μ2 := m) (fun _ k1 k2 => gz_icmp_ne (pc := 60) (tgt := 67) hX dX2_within_60 (by decide) k1 k2) (by first | exact Classical.em _ | exact (Classical.em _).symm) (fun g25 => ?_) (fun g25 => ?_)
            · replace h := gz_if' g25 h
              refine gz_Vs (fun _ kk => gz_iconst (pc := 67) (v := (0 : Int32)) hX dX2_within_67 (by decide) kk) rfl ?_
              refine gz_Vs (fun _ kk => gz_sub (lw := [(0, .ref (gz_ad G 1011)), (2, .ref (gz_ad G r12))]) [2, 1] rfl kk) rfl ?_
              exact wb_X2_within_68 hX h1 h2 hO h hk
            · replace h := gz_it' g25 h
              refine gz_Vs (fun _ kk => gz_iconst (pc := 63) (v := (1 : Int32)) hX dX2_within_63 (by decide) kk) rfl ?_
              refine gz_Vs (fun _ kk => gz_goto (pc := 64) (tgt := 68) hX dX2_within_64 (by decide) kk) rfl ?_
              refine gz_Vs (fun _ kk => gz_sub (lw := [(0, .ref (gz_ad G 1011)), (2, .ref (gz_ad G r12))]) [2, 1] rfl kk) rfl ?_
              exact wb_X2_within_68 hX h1 h2 hO h hk
  · replace h := gz_if' g5 h
    refine gz_Vs (fun _ kk => gz_aload_n (pc := 9) hX dX2_within_9 rfl 0 rfl kk) rfl ?_
    refine gz_Vs (fun _ kk => gz_iconst (pc := 10) (v := (1 : Int32)) hX dX2_within_10 (by decide) kk) rfl ?_
    refine gz_Vs (fun _ kk => gz_aload_n (pc := 11) hX dX2_within_11 rfl 0 rfl kk) rfl ?_
    refine gz_Vs (fun _ kk => cg_X2_36_2 (pc := 12) hX (c := 1011) (v := .int (gI m2 1011 2)) (fun h => cz_k h rfl) (fun _ => rfl) dX2_within_12 kk) rfl ?_
    obtain ⟨⟨r26, m27⟩, c28, h⟩ := gz_bd h
    obtain ⟨g29, h⟩ := gz_gu h
    refine gz_Vs (fun _ kk => cc_X2_47 (pc := 15) hX (fun h => cz_k h rfl) c28 ⟨by omega, by omega⟩ (rest := []) rfl (Nat.le_of_ble_eq_true rfl) dX2_within_15 kk) g29 ?_
    obtain ⟨g30, h⟩ := gz_gu h
    subst g30
    obtain rfl := Option.some.inj h
    exact gz_athrowa hX dX2_within_18 (hk _ _)
theorem ct_X2_within {G : gz_G} {l : Launch} {oR : gM → Option (Option Nat × gM)} {f n : Nat} (h1 : 60 ≤ f) (h2 : 1500 ≤ n) (hO : cOA G l f n oR) {x1 : Int32}  {m m9 : gM} {o : Option Nat} (h : cf_X2_within oR x1 m = some (o, m9)) : gx_Met cS G l yX2_within cX2_within 4 (some (.object "FirstSnuffer$Value")) (mRc (f + 3) (n + 120) (gZ m9 - gZ m) (gW m9 - gW m)) [.ref (gz_ad G 1011), .int x1] m m9 (o.map (fun r => some (.ref (gz_ad G r)))) :=
  gx_ofR (Or.inl ⟨_, rfl⟩) (by decide +kernel) (Nat.le_of_ble_eq_true rfl) ⟨_, rfl, rfl⟩ (fun h => cz_k (c := 1012) (k := 3) h rfl) fun X e hX hk => (wm_X2_within (zE := m9.2.2.2.2.2) hX h1 h2 (e ▸ hO) h (gx_km (fun _ q pc lv hd => gz_Ve (q pc lv hd)) (fun q pc lv => gz_VXe (q pc lv)) hk)).2
theorem cc_X2_309i {X : gz_X} {G : gz_G} {cc : ByteArray} {nL fr lo pc : Nat} {rem : Nat × Nat} {lv : List (Nat × Value)} {rest st0 : List Value} (hX : gz_C cS X G cc nL RX2 fr lo)  {m m9 : gM} (hK : clc m.1 m.2.1 m.2.2.2.2.1 → m.1 1011 = 2 + 1)  {oR : gM → Option (Option Nat × gM)} {f n : Nat} (h1 : 120 ≤ f) (h2 : 4000 ≤ n) (hO : cOF G X.2.1 f n oR) {r : Nat} (h : cf_X2_both oR  m = some (some r, m9)) (hroom : (f + 1) + 1 ≤ fr ∧ 8 + (2 + 11) + (n + 40) ≤ lo) (hst : st0 = [.ref (gz_ad G 1011)] ++ rest) (hW : (rest.map fun v => v.category).sum ≤ 8) (hd : decode cc pc = .ok (.invokevirtual 309, 3)) (kk : gz_V cS X G nL rem m9 (pc + 3) lv (.ref (gz_ad G r) :: rest)) : gz_V cS X G nL (rem.1 + (gZ m9 - gZ m), rem.2 + (gW m9 - gW m)) m pc lv st0 :=
  gz_callX hX cs_E (As := []) (rest := rest) (q := (RX2, TX2, 8)) (ci := 2) (c := 1011) (ct_X2_both (l := X.2.1) h1 h2 hO h) (lw_V q1248 q1250 qs34 q172 q1251) (n := 0) (by decide +kernel) hroom rfl rfl (by decide) hK hst hW hd (rem := rem) (fun rv e => by obtain rfl := Option.some.inj e; exact kk) (fun e => by simp at e)
theorem cc_X2_309ix {X : gz_X} {G : gz_G} {cc : ByteArray} {nL fr lo pc : Nat} {rem : Nat × Nat} {lv : List (Nat × Value)} {rest st0 : List Value} (hX : gz_C cS X G cc nL RX2 fr lo)  {m m9 : gM} (hK : clc m.1 m.2.1 m.2.2.2.2.1 → m.1 1011 = 2 + 1)  {oR : gM → Option (Option Nat × gM)} {f n : Nat} (h1 : 120 ≤ f) (h2 : 4000 ≤ n) (hO : cOF G X.2.1 f n oR) (h : cf_X2_both oR  m = some (none, m9)) (hroom : (f + 1) + 1 ≤ fr ∧ 8 + (2 + 11) + (n + 40) ≤ lo) (hst : st0 = [.ref (gz_ad G 1011)] ++ rest) (hW : (rest.map fun v => v.category).sum ≤ 8) (hd : decode cc pc = .ok (.invokevirtual 309, 3)) (kk : gz_VX cS X G nL rem m9 pc lv) : gz_V cS X G nL (rem.1 + (gZ m9 - gZ m), rem.2 + (gW m9 - gW m)) m pc lv st0 :=
  gz_callX hX cs_E (As := []) (rest := rest) (q := (RX2, TX2, 8)) (ci := 2) (c := 1011) (ct_X2_both (l := X.2.1) h1 h2 hO h) (lw_V q1248 q1250 qs34 q172 q1251) (n := 0) (by decide +kernel) hroom rfl rfl (by decide) hK hst hW hd (rem := rem) (fun rv e => by simp at e) (fun _ => kk)
theorem cl_s_X2_312 {X : gz_X} {G : gz_G} {cc : ByteArray} {nL : Nat} {own : String} {fr lo : Nat} (hX : gz_C cS X G cc nL own fr lo) : vk_R RX2 312 "or" (gz_ad G 150) X.2.2.2.2.1 := (cz_s hX).1 _ (List.mem_of_getElem? (show cKs[45]? = some ("FirstSnuffer$Reader", 312, "or", 150) from rfl))
/-! FirstSnuffer$Reader.test()LFirstSnuffer$Test; -/
def mP_X2_test_23 (X : gz_X) (G : gz_G) (zE : Nat × Nat) (c1 : Nat) (q : (gM)) : Prop := gz_Va cS X G 2 zE q 23 [(0, .ref (gz_ad G 1011)), (1, .ref (gz_ad G c1))] []
noncomputable def mb_X2_test_23 (oR : gM → Option (Option Nat × gM)) (c1 : Nat) (m : gM) : Option ((gM) ⊕ (Option Nat × gM)) :=
  ((cf_X2_passes 150 m).bind fun (o4, m2) => (if gZ m ≤ gZ m2 ∧ gW m ≤ gW m2 then gx_o o4 (fun r1 => (if r1 = (0 : Int32) then some (Sum.inr (some c1, m2)) else (if gK m2 c1 = 16 then gz_let (gP m2 c1 0) fun r8 => (if r8 ≠ 0 then ((cf_X2_both oR  m2).bind fun (o13, m11) => (if gZ m2 ≤ gZ m11 ∧ gW m2 ≤ gW m11 then gx_o o13 (fun r10 => (if gK m11 r8 = 21 then ((cf_J2_add r8 r10 m11).bind fun (r16, m17) => (if gZ m11 ≤ gZ m17 ∧ gW m11 ≤ gW m17 then some (Sum.inl (m17)) else none)) else none)) (some (Sum.inr (none, m11))) else none)) else none) else none))) (some (Sum.inr (none, m2))) else none))
theorem wb_X2_test_23 {X : gz_X} {G : gz_G} {zE : Nat × Nat} {oR : gM → Option (Option Nat × gM)} {f n : Nat} (hX : gz_C cS X G cX2_test 2 RX2 (f + 2) (n + 80)) (h1 : 120 ≤ f) (h2 : 4000 ≤ n) (hO : cOF G X.2.1 f n oR) {c1 : Nat}  {m : gM} {z : ((gM) ⊕ (Option Nat × gM))} (h : mb_X2_test_23 oR c1 m = some z) (hk : (Sum.elim (mP_X2_test_23 X G zE c1) (fun z : (Option Nat × gM) => gx_k (fun r => gz_kRa cS X G 2 zE cX2_test z.2 r) (∀ (pc : Nat) (lv : List (Nat × Value)), gz_VXa cS X G 2 zE z.2 pc lv) z.1)) z) : gz_Va cS X G 2 zE m 23 [(0, .ref (gz_ad G 1011)), (1, .ref (gz_ad G c1))] [] := by
  unfold mb_X2_test_23 at h
  refine gz_Vs (fun _ kk => gz_aload_n (pc := 23) hX dX2_test_23 rfl 0 rfl kk) rfl ?_
  refine gz_Vs (fun _ kk => gz_ldcwS (pc := 24) (tx := "or") (c := 150) hX (cl_s_X2_312 hX) dX2_test_24 kk) rfl ?_
  obtain ⟨⟨o4, m2⟩, c3, h⟩ := gz_bd h
  obtain ⟨g5, h⟩ := gz_gu h
  cases o4 with
  | none =>
    replace h := gx_on h
    obtain rfl := Option.some.inj h
    exact gz_Vcx (k := gZ m2 - gZ m) (n := gW m2 - gW m) (fun _ kk => cc_X2_314x (pc := 27) hX (fun h => cz_k h rfl) c3 ⟨by omega, by omega⟩ (rest := []) rfl (Nat.le_of_ble_eq_true rfl) dX2_test_27 kk) ⟨by have := g5.1; dsimp only [gZ] at *; omega, by have := g5.2; dsimp only [gW] at *; omega⟩ (hk _ _)
  | some r1 =>
    replace h := gx_os h
    refine gz_Vc (k := gZ m2 - gZ m) (n := gW m2 - gW m) (fun _ kk => cc_X2_314 (pc := 27) hX (fun h => cz_k h rfl) c3 ⟨by omega, by omega⟩ (rest := []) rfl (Nat.le_of_ble_eq_true rfl) dX2_test_27 kk) ⟨by have := g5.1; dsimp only [gZ] at *; omega, by have := g5.2; dsimp only [gW] at *; omega⟩ ?_
    refine gz_Vif (μ1 := m) (μ2 := m) (fun _ k1 k2 => gz_if_eq (pc := 30) (tgt := 50) hX dX2_test_30 (by decide) k1 k2) (by first | exact Classical.em _ | exact (Classical.em _).symm) (fun g6 => ?_) (fun g6 => ?_)
    · replace h := gz_it' g6 h
      refine gz_Vs (fun _ kk => gz_aload_n (pc := 50) hX dX2_test_50 rfl 1 rfl kk) rfl ?_
      obtain rfl := Option.some.inj h
      exact hk _ _ dX2_test_51
    · replace h := gz_if' g6 h
      refine gz_Vs (fun _ kk => gz_aload_n (pc := 33) hX dX2_test_33 rfl 1 rfl kk) rfl ?_
      obtain ⟨g7, h⟩ := gz_gu h
      obtain ⟨r8, er8, h⟩ := gz_lt h
      obtain ⟨g9, h⟩ := gz_gu h
      refine gz_Vs (fun _ kk => cg_X2_306_15 (pc := 34) hX (c := c1) (v := .ref (gz_ad G r8)) (fun _ => g7) (fun _ => gz_rq er8 g9) dX2_test_34 kk) rfl ?_
      refine gz_Vs (fun _ kk => gz_aload_n (pc := 37) hX dX2_test_37 rfl 0 rfl kk) rfl ?_
      obtain ⟨⟨o13, m11⟩, c12, h⟩ := gz_bd h
      obtain ⟨g14, h⟩ := gz_gu h
      cases o13 with
      | none =>
        replace h := gx_on h
        obtain rfl := Option.some.inj h
        exact gz_Vcx (k := gZ m11 - gZ m2) (n := gW m11 - gW m2) (fun _ kk => cc_X2_309ix (pc := 38) hX (fun h => cz_k h rfl) h1 h2 hO c12 ⟨by omega, by omega⟩ (rest := [.ref (gz_ad G r8)]) rfl (Nat.le_of_ble_eq_true rfl) dX2_test_38 kk) ⟨by have := g14.1; dsimp only [gZ] at *; omega, by have := g14.2; dsimp only [gW] at *; omega⟩ (hk _ _)
      | some r10 =>
        replace h := gx_os h
        refine gz_Vc (k := gZ m11 - gZ m2) (n := gW m11 - gW m2) (fun _ kk => cc_X2_309i (pc := 38) hX (fun h => cz_k h rfl) h1 h2 hO c12 ⟨by omega, by omega⟩ (rest := [.ref (gz_ad G r8)]) rfl (Nat.le_of_ble_eq_true rfl) dX2_test_38 kk) ⟨by have := g14.1; dsimp only [gZ] at *; omega, by have := g14.2; dsimp only [gW] at *; omega⟩ ?_
        obtain ⟨g15, h⟩ := gz_gu h
        obtain ⟨⟨r16, m17⟩, c18, h⟩ := gz_bd h
        obtain ⟨g19, h⟩ := gz_gu h
        refine gz_Vc (k := gZ m17 - gZ m11) (n := gW m17 - gW m11) (fun _ kk => cc_X2_167 (pc := 41) hX (fun _ => g15) c18 ⟨by omega, by omega⟩ (rest := []) rfl (Nat.le_of_ble_eq_true rfl) dX2_test_41 kk) ⟨by have := g19.1; dsimp only [gZ] at *; omega, by have := g19.2; dsimp only [gW] at *; omega⟩ ?_
        refine gz_Vs (fun _ kk => gz_pop (pc := 46) hX dX2_test_46 rfl kk) rfl ?_
        refine gz_Vs (fun _ kk => gz_goto (pc := 47) (tgt := 23) hX dX2_test_47 (by decide) kk) rfl ?_
        obtain rfl := Option.some.inj h
        exact hk
noncomputable def ml_X2_test_23 (oR : gM → Option (Option Nat × gM)) (c1 : Nat) (m : gM) : Option (Option Nat × gM) := gz_loop (fun q : (gM) => mb_X2_test_23 oR c1 q) (m)
theorem wl_X2_test_23 {X : gz_X} {G : gz_G} {zE : Nat × Nat} {oR : gM → Option (Option Nat × gM)} {f n : Nat} (hX : gz_C cS X G cX2_test 2 RX2 (f + 2) (n + 80)) (h1 : 120 ≤ f) (h2 : 4000 ≤ n) (hO : cOF G X.2.1 f n oR) {c1 : Nat}  {m : gM} {z : (Option Nat × gM)} (h : ml_X2_test_23 oR c1 m = some z) (hk : (fun z : (Option Nat × gM) => gx_k (fun r => gz_kRa cS X G 2 zE cX2_test z.2 r) (∀ (pc : Nat) (lv : List (Nat × Value)), gz_VXa cS X G 2 zE z.2 pc lv) z.1) z) : gz_Va cS X G 2 zE m 23 [(0, .ref (gz_ad G 1011)), (1, .ref (gz_ad G c1))] [] := by
  have hp : mP_X2_test_23 X G zE c1 (m) := gz_loop_ind (fun q z hz hkz => wb_X2_test_23 hX h1 h2 hO  hz hkz) h hk
  exact hp
noncomputable def cf_X2_test (oR : gM → Option (Option Nat × gM))  (m : gM) : Option (Option Nat × gM) :=
  (if gZ m ≠ 0 then gz_let (gz_al m (15 + 1) 0 2) fun m2 => ((cf_X18_init (gZ m) (0 : Int32) m2).bind fun (_, m4) => (if gZ m2 ≤ gZ m4 ∧ gW m2 ≤ gW m4 then (if gK m4 (gZ m) = 16 then gz_let (gP m4 (gZ m) 0) fun r8 => (if r8 ≠ 0 then ((cf_X2_both oR  m4).bind fun (o13, m11) => (if gZ m4 ≤ gZ m11 ∧ gW m4 ≤ gW m11 then gx_o o13 (fun r10 => (if gK m11 r8 = 21 then ((cf_J2_add r8 r10 m11).bind fun (r16, m17) => (if gZ m11 ≤ gZ m17 ∧ gW m11 ≤ gW m17 then (ml_X2_test_23 oR (gZ m) m17) else none)) else none)) (some (none, m11)) else none)) else none) else none) else none)) else none)
theorem wm_X2_test {X : gz_X} {G : gz_G} {zE : Nat × Nat} {oR : gM → Option (Option Nat × gM)} {f n : Nat} (hX : gz_C cS X G cX2_test 2 RX2 (f + 2) (n + 80)) (h1 : 120 ≤ f) (h2 : 4000 ≤ n) (hO : cOF G X.2.1 f n oR)   {m : gM} {z : (Option Nat × gM)} (h : cf_X2_test oR  m = some z) (hk : (fun z : (Option Nat × gM) => gx_k (fun r => gz_kRa cS X G 2 zE cX2_test z.2 r) (∀ (pc : Nat) (lv : List (Nat × Value)), gz_VXa cS X G 2 zE z.2 pc lv) z.1) z) : gz_Va cS X G 2 zE m 0 [(0, .ref (gz_ad G 1011))] [] := by
  unfold cf_X2_test at h
  obtain ⟨g1, h⟩ := gz_gu h
  obtain ⟨m2, em2, h⟩ := gz_lt h
  refine gz_Vn (fun _ kk => cn_X2_301 (pc := 0) hX g1 dX2_test_0 em2 kk) em2 ?_
  refine gz_Vs (fun _ kk => gz_dup (pc := 3) hX dX2_test_3 rfl kk) rfl ?_
  refine gz_Vs (fun _ kk => gz_iconst (pc := 4) (v := (0 : Int32)) hX dX2_test_4 (by decide) kk) rfl ?_
  obtain ⟨⟨⟨⟩, m4⟩, c5, h⟩ := gz_bd h
  obtain ⟨g6, h⟩ := gz_gu h
  refine gz_Vc (k := gZ m4 - gZ m2) (n := gW m4 - gW m2) (fun _ kk => cc_X2_303 (pc := 5) hX c5 ⟨by omega, by omega⟩ (rest := [.ref (gz_ad G (gZ m))]) rfl (Nat.le_of_ble_eq_true rfl) dX2_test_5 kk) ⟨by have := g6.1; dsimp only [gZ] at *; omega, by have := g6.2; dsimp only [gW] at *; omega⟩ ?_
  refine gz_Vs (fun _ kk => gz_astore_n (pc := 8) (lw := [(1, .ref (gz_ad G (gZ m))), (0, .ref (gz_ad G 1011))]) hX dX2_test_8 rfl (by decide) rfl kk) rfl ?_
  refine gz_Vs (fun _ kk => gz_aload_n (pc := 9) hX dX2_test_9 rfl 0 rfl kk) rfl ?_
  obtain ⟨g7, h⟩ := gz_gu h
  obtain ⟨r8, er8, h⟩ := gz_lt h
  obtain ⟨g9, h⟩ := gz_gu h
  refine gz_Vs (fun _ kk => cg_X2_306_15 (pc := 10) hX (c := (gZ m)) (v := .ref (gz_ad G r8)) (fun _ => g7) (fun _ => gz_rq er8 g9) dX2_test_10 kk) rfl ?_
  refine gz_Vs (fun _ kk => gz_aload_n (pc := 13) hX dX2_test_13 rfl 1 rfl kk) rfl ?_
  obtain ⟨⟨o13, m11⟩, c12, h⟩ := gz_bd h
  obtain ⟨g14, h⟩ := gz_gu h
  cases o13 with
  | none =>
    replace h := gx_on h
    obtain rfl := Option.some.inj h
    exact gz_Vcx (k := gZ m11 - gZ m4) (n := gW m11 - gW m4) (fun _ kk => cc_X2_309ix (pc := 14) hX (fun h => cz_k h rfl) h1 h2 hO c12 ⟨by omega, by omega⟩ (rest := [.ref (gz_ad G r8)]) rfl (Nat.le_of_ble_eq_true rfl) dX2_test_14 kk) ⟨by have := g14.1; dsimp only [gZ] at *; omega, by have := g14.2; dsimp only [gW] at *; omega⟩ (hk _ _)
  | some r10 =>
    replace h := gx_os h
    refine gz_Vc (k := gZ m11 - gZ m4) (n := gW m11 - gW m4) (fun _ kk => cc_X2_309i (pc := 14) hX (fun h => cz_k h rfl) h1 h2 hO c12 ⟨by omega, by omega⟩ (rest := [.ref (gz_ad G r8)]) rfl (Nat.le_of_ble_eq_true rfl) dX2_test_14 kk) ⟨by have := g14.1; dsimp only [gZ] at *; omega, by have := g14.2; dsimp only [gW] at *; omega⟩ ?_
    obtain ⟨g15, h⟩ := gz_gu h
    obtain ⟨⟨r16, m17⟩, c18, h⟩ := gz_bd h
    obtain ⟨g19, h⟩ := gz_gu h
    refine gz_Vc (k := gZ m17 - gZ m11) (n := gW m17 - gW m11) (fun _ kk => cc_X2_167 (pc := 17) hX (fun _ => g15) c18 ⟨by omega, by omega⟩ (rest := []) rfl (Nat.le_of_ble_eq_true rfl) dX2_test_17 kk) ⟨by have := g19.1; dsimp only [gZ] at *; omega, by have := g19.2; dsimp only [gW] at *; omega⟩ ?_
    refine gz_Vs (fun _ kk => gz_pop (pc := 22) hX dX2_test_22 rfl kk) rfl ?_
    refine gz_Vs (fun _ kk => gz_sub (lw := [(0, .ref (gz_ad G 1011)), (1, .ref (gz_ad G (gZ m)))]) [1, 0] rfl kk) rfl ?_
    exact wl_X2_test_23 hX h1 h2 hO h hk
theorem ct_X2_test {G : gz_G} {l : Launch} {oR : gM → Option (Option Nat × gM)} {f n : Nat} (h1 : 120 ≤ f) (h2 : 4000 ≤ n) (hO : cOF G l f n oR)   {m m9 : gM} {o : Option Nat} (h : cf_X2_test oR  m = some (o, m9)) : gx_Met cS G l yX2_test cX2_test 2 (some (.object "FirstSnuffer$Test")) (mRc (f + 2) (n + 80) (gZ m9 - gZ m) (gW m9 - gW m)) [.ref (gz_ad G 1011)] m m9 (o.map (fun r => some (.ref (gz_ad G r)))) :=
  gx_ofR (Or.inl ⟨_, rfl⟩) (by decide +kernel) (Nat.le_of_ble_eq_true rfl) ⟨_, rfl, rfl⟩ (fun h => cz_k (c := 1012) (k := 3) h rfl) fun X e hX hk => (wm_X2_test (zE := m9.2.2.2.2.2) hX h1 h2 (e ▸ hO) h (gx_km (fun _ q pc lv hd => gz_Ve (q pc lv hd)) (fun q pc lv => gz_VXe (q pc lv)) hk)).2
theorem cs_X2_281 {X : gz_X} {G : gz_G} {cc : ByteArray} {nL fr lo pc : Nat} {rem : Nat × Nat} {m : gM} {lv : List (Nat × Value)} {st : List Value} (hX : gz_C cS X G cc nL RX2 fr lo) (hd : decode cc pc = .ok (.getstatic 281, 3)) (kk : gz_V cS X G nL rem m (pc + 3) lv (.ref (gz_ad G 11) :: st)) : gz_V cS X G nL rem m pc lv st := gz_gets hX ((cz_s hX).2.2.1 _ (List.mem_of_getElem? (show cSr[1]? = some ("FirstSnuffer", "ASKED", "[Ljava/lang/String;", 11) from rfl))) (Or.inr ⟨_, va_Nw.use rfl (cz_n (Z := cS) hX q1121 rfl)⟩) hd kk
theorem cg_X2_226_2 {X : gz_X} {G : gz_G} {cc : ByteArray} {nL fr lo pc : Nat} {rem : Nat × Nat} {m : gM} {lv : List (Nat × Value)} {st : List Value} (hX : gz_C cS X G cc nL RX2 fr lo) {c : Nat} {v : Value} (hK : clc m.1 m.2.1 m.2.2.2.2.1 → m.1 c = 2 + 1) (hv : clc m.1 m.2.1 m.2.2.2.2.1 → gz_u (gz_ad G) m (ftC 2 5) c 5 = v) (hd : decode cc pc = .ok (.getfield 226, 3)) (kk : gz_V cS X G nL rem m (pc + 3) lv (v :: st)) : gz_V cS X G nL rem m pc lv (.ref (gz_ad G c) :: st) :=
  gz_getf hX (C := RX2) (T := TX2) (N := 8) (ci := 2) (k := 5) rfl (by decide) in_X2 (by decide) (Or.inl (hX.2.2.2.2.1 _ q375)) hd hK hv kk
theorem cl_s_X2_297 {X : gz_X} {G : gz_G} {cc : ByteArray} {nL : Nat} {own : String} {fr lo : Nat} (hX : gz_C cS X G cc nL own fr lo) : vk_R RX2 297 "min" (gz_ad G 158) X.2.2.2.2.1 := (cz_s hX).1 _ (List.mem_of_getElem? (show cKs[43]? = some ("FirstSnuffer$Reader", 297, "min", 158) from rfl))
theorem cc_X2_272i {X : gz_X} {G : gz_G} {cc : ByteArray} {nL fr lo pc : Nat} {rem : Nat × Nat} {lv : List (Nat × Value)} {rest st0 : List Value} (hX : gz_C cS X G cc nL RX2 fr lo) {x1 : Int32} {m m9 : gM} (hK : clc m.1 m.2.1 m.2.2.2.2.1 → m.1 1011 = 2 + 1)  {oR : gM → Option (Option Nat × gM)} {f n : Nat} (h1 : 60 ≤ f) (h2 : 1500 ≤ n) (hO : cOA G X.2.1 f n oR) {r : Nat} (h : cf_X2_within oR x1 m = some (some r, m9)) (hroom : (f + 3) + 1 ≤ fr ∧ 8 + (4 + 11) + (n + 120) ≤ lo) (hst : st0 = [.int x1, .ref (gz_ad G 1011)] ++ rest) (hW : (rest.map fun v => v.category).sum ≤ 8) (hd : decode cc pc = .ok (.invokevirtual 272, 3)) (kk : gz_V cS X G nL rem m9 (pc + 3) lv (.ref (gz_ad G r) :: rest)) : gz_V cS X G nL (rem.1 + (gZ m9 - gZ m), rem.2 + (gW m9 - gW m)) m pc lv st0 :=
  gz_callX hX cs_E (As := [.int x1]) (rest := rest) (q := (RX2, TX2, 8)) (ci := 2) (c := 1011) (ct_X2_within (l := X.2.1) h1 h2 hO h) (lw_V q1083 q1085 qs28 q172 q1086) (n := 1) (by decide +kernel) hroom rfl rfl (by decide) hK hst hW hd (rem := rem) (fun rv e => by obtain rfl := Option.some.inj e; exact kk) (fun e => by simp at e)
theorem cc_X2_272ix {X : gz_X} {G : gz_G} {cc : ByteArray} {nL fr lo pc : Nat} {rem : Nat × Nat} {lv : List (Nat × Value)} {rest st0 : List Value} (hX : gz_C cS X G cc nL RX2 fr lo) {x1 : Int32} {m m9 : gM} (hK : clc m.1 m.2.1 m.2.2.2.2.1 → m.1 1011 = 2 + 1)  {oR : gM → Option (Option Nat × gM)} {f n : Nat} (h1 : 60 ≤ f) (h2 : 1500 ≤ n) (hO : cOA G X.2.1 f n oR) (h : cf_X2_within oR x1 m = some (none, m9)) (hroom : (f + 3) + 1 ≤ fr ∧ 8 + (4 + 11) + (n + 120) ≤ lo) (hst : st0 = [.int x1, .ref (gz_ad G 1011)] ++ rest) (hW : (rest.map fun v => v.category).sum ≤ 8) (hd : decode cc pc = .ok (.invokevirtual 272, 3)) (kk : gz_VX cS X G nL rem m9 pc lv) : gz_V cS X G nL (rem.1 + (gZ m9 - gZ m), rem.2 + (gW m9 - gW m)) m pc lv st0 :=
  gz_callX hX cs_E (As := [.int x1]) (rest := rest) (q := (RX2, TX2, 8)) (ci := 2) (c := 1011) (ct_X2_within (l := X.2.1) h1 h2 hO h) (lw_V q1083 q1085 qs28 q172 q1086) (n := 1) (by decide +kernel) hroom rfl rfl (by decide) hK hst hW hd (rem := rem) (fun rv e => by simp at e) (fun _ => kk)
theorem cl_s_X2_299 {X : gz_X} {G : gz_G} {cc : ByteArray} {nL : Nat} {own : String} {fr lo : Nat} (hX : gz_C cS X G cc nL own fr lo) : vk_R RX2 299 "max" (gz_ad G 160) X.2.2.2.2.1 := (cz_s hX).1 _ (List.mem_of_getElem? (show cKs[44]? = some ("FirstSnuffer$Reader", 299, "max", 160) from rfl))
theorem cc_X2_294i {X : gz_X} {G : gz_G} {cc : ByteArray} {nL fr lo pc : Nat} {rem : Nat × Nat} {lv : List (Nat × Value)} {rest st0 : List Value} (hX : gz_C cS X G cc nL RX2 fr lo) {x1 : Int32} {m m9 : gM} (hK : clc m.1 m.2.1 m.2.2.2.2.1 → m.1 1011 = 2 + 1)  {oR : gM → Option (Option Nat × gM)} {f n : Nat} (h1 : 60 ≤ f) (h2 : 1500 ≤ n) (hO : cOA G X.2.1 f n oR) {r : Nat} (h : cf_X2_looked oR x1 m = some (some r, m9)) (hroom : (f + 1) + 1 ≤ fr ∧ 8 + (3 + 11) + (n + 40) ≤ lo) (hst : st0 = [.int x1, .ref (gz_ad G 1011)] ++ rest) (hW : (rest.map fun v => v.category).sum ≤ 8) (hd : decode cc pc = .ok (.invokevirtual 294, 3)) (kk : gz_V cS X G nL rem m9 (pc + 3) lv (.ref (gz_ad G r) :: rest)) : gz_V cS X G nL (rem.1 + (gZ m9 - gZ m), rem.2 + (gW m9 - gW m)) m pc lv st0 :=
  gz_callX hX cs_E (As := [.int x1]) (rest := rest) (q := (RX2, TX2, 8)) (ci := 2) (c := 1011) (ct_X2_looked (l := X.2.1) h1 h2 hO h) (lw_V q1138 q1140 qs31 q172 q1141) (n := 1) (by decide +kernel) hroom rfl rfl (by decide) hK hst hW hd (rem := rem) (fun rv e => by obtain rfl := Option.some.inj e; exact kk) (fun e => by simp at e)
theorem cc_X2_294ix {X : gz_X} {G : gz_G} {cc : ByteArray} {nL fr lo pc : Nat} {rem : Nat × Nat} {lv : List (Nat × Value)} {rest st0 : List Value} (hX : gz_C cS X G cc nL RX2 fr lo) {x1 : Int32} {m m9 : gM} (hK : clc m.1 m.2.1 m.2.2.2.2.1 → m.1 1011 = 2 + 1)  {oR : gM → Option (Option Nat × gM)} {f n : Nat} (h1 : 60 ≤ f) (h2 : 1500 ≤ n) (hO : cOA G X.2.1 f n oR) (h : cf_X2_looked oR x1 m = some (none, m9)) (hroom : (f + 1) + 1 ≤ fr ∧ 8 + (3 + 11) + (n + 40) ≤ lo) (hst : st0 = [.int x1, .ref (gz_ad G 1011)] ++ rest) (hW : (rest.map fun v => v.category).sum ≤ 8) (hd : decode cc pc = .ok (.invokevirtual 294, 3)) (kk : gz_VX cS X G nL rem m9 pc lv) : gz_V cS X G nL (rem.1 + (gZ m9 - gZ m), rem.2 + (gW m9 - gW m)) m pc lv st0 :=
  gz_callX hX cs_E (As := [.int x1]) (rest := rest) (q := (RX2, TX2, 8)) (ci := 2) (c := 1011) (ct_X2_looked (l := X.2.1) h1 h2 hO h) (lw_V q1138 q1140 qs31 q172 q1141) (n := 1) (by decide +kernel) hroom rfl rfl (by decide) hK hst hW hd (rem := rem) (fun rv e => by simp at e) (fun _ => kk)
theorem cs_X2_291 {X : gz_X} {G : gz_G} {cc : ByteArray} {nL fr lo pc : Nat} {rem : Nat × Nat} {m : gM} {lv : List (Nat × Value)} {st : List Value} (hX : gz_C cS X G cc nL RX2 fr lo) (hd : decode cc pc = .ok (.getstatic 291, 3)) (kk : gz_V cS X G nL rem m (pc + 3) lv (.ref (gz_ad G 12) :: st)) : gz_V cS X G nL rem m pc lv st := gz_gets hX ((cz_s hX).2.2.1 _ (List.mem_of_getElem? (show cSr[2]? = some ("FirstSnuffer", "LOOKED", "[Ljava/lang/String;", 12) from rfl))) (Or.inr ⟨_, va_Nw.use rfl (cz_n (Z := cS) hX q1136 rfl)⟩) hd kk
theorem cc_X2_284 {X : gz_X} {G : gz_G} {cc : ByteArray} {nL fr lo pc : Nat} {rem : Nat × Nat} {lv : List (Nat × Value)} {rest st0 : List Value} (hX : gz_C cS X G cc nL RX2 fr lo) {x0 : Int32} {x1 : Int32} {m m9 : gM}  {r : Int32} (h : cf_X0_has x0 x1 m = some (r, m9)) (hroom : 0 + 1 ≤ fr ∧ 8 + (2 + 11) + 0 ≤ lo) (hst : st0 = [.int x1, .int x0] ++ rest) (hW : (rest.map fun v => v.category).sum ≤ 8) (hd : decode cc pc = .ok (.invokestatic 284, 3)) (kk : gz_V cS X G nL rem m9 (pc + 3) lv (.int r :: rest)) : gz_V cS X G nL rem m pc lv st0 :=
  gz_callSN hX cs_E (As := [.int x0, .int x1]) (rest := rest) (ct_X0_has (l := X.2.1) h) q1125 (cz_n (Z := cS) hX q1123 rfl) q167 q1124 (n := 2) (by decide +kernel) hroom rfl hst hW hd (rem := rem) kk
theorem cn_X2_287 {X : gz_X} {G : gz_G} {cc : ByteArray} {nL fr lo pc : Nat} {rem : Nat × Nat} {m m9 : gM} {lv : List (Nat × Value)} {st : List Value} (hX : gz_C cS X G cc nL RX2 fr lo) (hz : gZ m ≠ 0) (hd : decode cc pc = .ok (.new 287, 3)) (hm : m9 = gz_al m (13 + 1) 0 1) (kk : gz_V cS X G nL rem m9 (pc + 3) lv (.ref (gz_ad G (gZ m)) :: st)) : gz_V cS X G nL (rem.1 + 1, rem.2 + 1) m pc lv st :=
  gz_new hX (C := RX15) (T := TX15) (N := 1) (ci := 13) rfl (by decide) in_X15 tyX15 tyX15_ok (by decide +kernel) q1126 q1127 q199 hz clc_al hd hm kk
theorem cc_X2_289 {X : gz_X} {G : gz_G} {cc : ByteArray} {nL fr lo pc : Nat} {rem : Nat × Nat} {lv : List (Nat × Value)} {rest st0 : List Value} (hX : gz_C cS X G cc nL RX2 fr lo) {c0 : Nat} {x1 : Int32} {m m9 : gM}  (h : cf_X15_init c0 x1 m = some ((), m9)) (hroom : 2 + 1 ≤ fr ∧ 8 + (2 + 11) + 40 ≤ lo) (hst : st0 = [.int x1, .ref (gz_ad G c0)] ++ rest) (hW : (rest.map fun v => v.category).sum ≤ 8) (hd : decode cc pc = .ok (.invokespecial 289, 3)) (kk : gz_V cS X G nL rem m9 (pc + 3) lv (rest)) : gz_V cS X G nL rem m pc lv st0 :=
  gz_callI hX cs_E (As := [.int x1]) (rest := rest) (c := c0) (ct_X15_init (l := X.2.1) h) q1130 q199 q1128 q1129 rfl (n := 1) (by decide +kernel) hroom rfl hst hW hd (rem := rem) kk
theorem cn_X2_276 {X : gz_X} {G : gz_G} {cc : ByteArray} {nL fr lo pc : Nat} {rem : Nat × Nat} {m m9 : gM} {lv : List (Nat × Value)} {st : List Value} (hX : gz_C cS X G cc nL RX2 fr lo) (hz : gZ m ≠ 0) (hd : decode cc pc = .ok (.new 276, 3)) (hm : m9 = gz_al m (12 + 1) 0 1) (kk : gz_V cS X G nL rem m9 (pc + 3) lv (.ref (gz_ad G (gZ m)) :: st)) : gz_V cS X G nL (rem.1 + 1, rem.2 + 1) m pc lv st :=
  gz_new hX (C := RX14) (T := TX14) (N := 1) (ci := 12) rfl (by decide) in_X14 tyX14 tyX14_ok (by decide +kernel) q1111 q1112 q198 hz clc_al hd hm kk
theorem cc_X2_278 {X : gz_X} {G : gz_G} {cc : ByteArray} {nL fr lo pc : Nat} {rem : Nat × Nat} {lv : List (Nat × Value)} {rest st0 : List Value} (hX : gz_C cS X G cc nL RX2 fr lo) {c0 : Nat} {x1 : Int64} {m m9 : gM}  (h : cf_X14_init c0 x1 m = some ((), m9)) (hroom : 2 + 1 ≤ fr ∧ 8 + (3 + 11) + 40 ≤ lo) (hst : st0 = [.long x1, .ref (gz_ad G c0)] ++ rest) (hW : (rest.map fun v => v.category).sum ≤ 8) (hd : decode cc pc = .ok (.invokespecial 278, 3)) (kk : gz_V cS X G nL rem m9 (pc + 3) lv (rest)) : gz_V cS X G nL rem m pc lv st0 :=
  gz_callI hX cs_E (As := [.long x1]) (rest := rest) (c := c0) (ct_X14_init (l := X.2.1) h) q1115 q198 q1113 q1114 rfl (n := 1) (by decide +kernel) hroom rfl hst hW hd (rem := rem) kk
/-! FirstSnuffer$Reader.atom()LFirstSnuffer$Value; -/
noncomputable def mj_X2_atom_158 (oR : gM → Option (Option Nat × gM)) (s0 : Int32) (m : gM) : Option (Option Nat × gM) :=
  ((cf_X2_within oR s0 m).bind fun (o4, m2) => (if gZ m ≤ gZ m2 ∧ gW m ≤ gW m2 then gx_o o4 (fun r1 => some (some r1, m2)) (some (none, m2)) else none))
theorem wb_X2_atom_158 {X : gz_X} {G : gz_G} {zE : Nat × Nat} {oR : gM → Option (Option Nat × gM)} {f n : Nat} (hX : gz_C cS X G cX2_atom 3 RX2 (f + 4) (n + 160)) (h1 : 60 ≤ f) (h2 : 1500 ≤ n) (hO : cOA G X.2.1 f n oR) {s0 : Int32}  {m : gM} {z : (Option Nat × gM)} (h : mj_X2_atom_158 oR s0 m = some z) (hk : (fun z : (Option Nat × gM) => gx_k (fun r => gz_kRa cS X G 3 zE cX2_atom z.2 r) (∀ (pc : Nat) (lv : List (Nat × Value)), gz_VXa cS X G 3 zE z.2 pc lv) z.1) z) : gz_Va cS X G 3 zE m 158 [(0, .ref (gz_ad G 1011))] [.int s0, .ref (gz_ad G 1011)] := by
  unfold mj_X2_atom_158 at h
  obtain ⟨⟨o4, m2⟩, c3, h⟩ := gz_bd h
  obtain ⟨g5, h⟩ := gz_gu h
  cases o4 with
  | none =>
    replace h := gx_on h
    obtain rfl := Option.some.inj h
    exact gz_Vcx (k := gZ m2 - gZ m) (n := gW m2 - gW m) (fun _ kk => cc_X2_272ix (pc := 158) hX (fun h => cz_k h rfl) h1 h2 hO c3 ⟨by omega, by omega⟩ (rest := []) rfl (Nat.le_of_ble_eq_true rfl) dX2_atom_158 kk) ⟨by have := g5.1; dsimp only [gZ] at *; omega, by have := g5.2; dsimp only [gW] at *; omega⟩ (hk _ _)
  | some r1 =>
    replace h := gx_os h
    refine gz_Vc (k := gZ m2 - gZ m) (n := gW m2 - gW m) (fun _ kk => cc_X2_272i (pc := 158) hX (fun h => cz_k h rfl) h1 h2 hO c3 ⟨by omega, by omega⟩ (rest := []) rfl (Nat.le_of_ble_eq_true rfl) dX2_atom_158 kk) ⟨by have := g5.1; dsimp only [gZ] at *; omega, by have := g5.2; dsimp only [gW] at *; omega⟩ ?_
    obtain rfl := Option.some.inj h
    exact hk _ _ dX2_atom_161
noncomputable def mj_X2_atom_142 (oR : gM → Option (Option Nat × gM)) (c1 : Nat) (m : gM) : Option (Option Nat × gM) :=
  (if gK m c1 = 22 then ((cf_J9_equals c1 158 m).bind fun (r2, m3) => (if m3.2.2.2.2.2 = m.2.2.2.2.2 then (if r2 = (0 : Int32) then (mj_X2_atom_158 oR (2 : Int32) m3) else (mj_X2_atom_158 oR (1 : Int32) m3)) else none)) else none)
theorem wb_X2_atom_142 {X : gz_X} {G : gz_G} {zE : Nat × Nat} {oR : gM → Option (Option Nat × gM)} {f n : Nat} (hX : gz_C cS X G cX2_atom 3 RX2 (f + 4) (n + 160)) (h1 : 60 ≤ f) (h2 : 1500 ≤ n) (hO : cOA G X.2.1 f n oR) {c1 : Nat}  {m : gM} {z : (Option Nat × gM)} (h : mj_X2_atom_142 oR c1 m = some z) (hk : (fun z : (Option Nat × gM) => gx_k (fun r => gz_kRa cS X G 3 zE cX2_atom z.2 r) (∀ (pc : Nat) (lv : List (Nat × Value)), gz_VXa cS X G 3 zE z.2 pc lv) z.1) z) : gz_Va cS X G 3 zE m 142 [(0, .ref (gz_ad G 1011)), (1, .ref (gz_ad G c1))] [] := by
  unfold mj_X2_atom_142 at h
  refine gz_Vs (fun _ kk => gz_aload_n (pc := 142) hX dX2_atom_142 rfl 0 rfl kk) rfl ?_
  refine gz_Vs (fun _ kk => gz_aload_n (pc := 143) hX dX2_atom_143 rfl 1 rfl kk) rfl ?_
  refine gz_Vs (fun _ kk => gz_ldcwS (pc := 144) (tx := "min") (c := 158) hX (cl_s_X2_297 hX) dX2_atom_144 kk) rfl ?_
  obtain ⟨g1, h⟩ := gz_gu h
  obtain ⟨⟨r2, m3⟩, c4, h⟩ := gz_bd h
  obtain ⟨g5, h⟩ := gz_gu h
  refine gz_Vs (fun _ kk => cc_X2_74 (pc := 147) hX (fun _ => g1) c4 ⟨by omega, by omega⟩ (rest := [.ref (gz_ad G 1011)]) rfl (Nat.le_of_ble_eq_true rfl) dX2_atom_147 kk) g5 ?_
  refine gz_Vif (μ1 := m) (μ2 := m) (fun _ k1 k2 => gz_if_eq (pc := 150) (tgt := 157) hX dX2_atom_150 (by decide) k1 k2) (by first | exact Classical.em _ | exact (Classical.em _).symm) (fun g6 => ?_) (fun g6 => ?_)
  · replace h := gz_it' g6 h
    refine gz_Vs (fun _ kk => gz_iconst (pc := 157) (v := (2 : Int32)) hX dX2_atom_157 (by decide) kk) rfl ?_
    refine gz_Vs (fun _ kk => gz_sub (lw := [(0, .ref (gz_ad G 1011))]) [0] rfl kk) rfl ?_
    exact wb_X2_atom_158 hX h1 h2 hO h hk
  · replace h := gz_if' g6 h
    refine gz_Vs (fun _ kk => gz_iconst (pc := 153) (v := (1 : Int32)) hX dX2_atom_153 (by decide) kk) rfl ?_
    refine gz_Vs (fun _ kk => gz_goto (pc := 154) (tgt := 158) hX dX2_atom_154 (by decide) kk) rfl ?_
    refine gz_Vs (fun _ kk => gz_sub (lw := [(0, .ref (gz_ad G 1011))]) [0] rfl kk) rfl ?_
    exact wb_X2_atom_158 hX h1 h2 hO h hk
noncomputable def mj_X2_atom_100 (oR : gM → Option (Option Nat × gM)) (c1 : Nat) (s0 : Int32) (m : gM) : Option (Option Nat × gM) :=
  (if s0 = (-1 : Int32) then (if gK m c1 = 22 then ((cf_J9_equals c1 158 m).bind fun (r3, m4) => (if m4.2.2.2.2.2 = m.2.2.2.2.2 then (if r3 = (0 : Int32) then (if gK m4 c1 = 22 then ((cf_J9_equals c1 160 m4).bind fun (r9, m10) => (if m10.2.2.2.2.2 = m4.2.2.2.2.2 then (if r9 = (0 : Int32) then ((cf_X2_wrong (1 : Int32) (gI m10 1011 3) m10).bind fun (r14, m15) => (if m15.2.2.2.2.2 = m10.2.2.2.2.2 then (if r14 = 1012 then some (none, m15) else none) else none)) else (mj_X2_atom_142 oR c1 m10)) else none)) else none) else (mj_X2_atom_142 oR c1 m4)) else none)) else none) else ((cf_X2_looked oR s0 m).bind fun (o22, m20) => (if gZ m ≤ gZ m20 ∧ gW m ≤ gW m20 then gx_o o22 (fun r19 => some (some r19, m20)) (some (none, m20)) else none)))
theorem wb_X2_atom_100 {X : gz_X} {G : gz_G} {zE : Nat × Nat} {oR : gM → Option (Option Nat × gM)} {f n : Nat} (hX : gz_C cS X G cX2_atom 3 RX2 (f + 4) (n + 160)) (h1 : 60 ≤ f) (h2 : 1500 ≤ n) (hO : cOA G X.2.1 f n oR) {c1 : Nat} {s0 : Int32}  {m : gM} {z : (Option Nat × gM)} (h : mj_X2_atom_100 oR c1 s0 m = some z) (hk : (fun z : (Option Nat × gM) => gx_k (fun r => gz_kRa cS X G 3 zE cX2_atom z.2 r) (∀ (pc : Nat) (lv : List (Nat × Value)), gz_VXa cS X G 3 zE z.2 pc lv) z.1) z) : gz_Va cS X G 3 zE m 100 [(0, .ref (gz_ad G 1011)), (1, .ref (gz_ad G c1))] [.int s0] := by
  unfold mj_X2_atom_100 at h
  refine gz_Vs (fun _ kk => gz_istore_n (pc := 100) (lw := [(2, .int s0), (0, .ref (gz_ad G 1011)), (1, .ref (gz_ad G c1))]) hX dX2_atom_100 rfl (by decide) rfl kk) rfl ?_
  refine gz_Vs (fun _ kk => gz_iload_n (pc := 101) hX dX2_atom_101 rfl 0 rfl kk) rfl ?_
  refine gz_Vs (fun _ kk => gz_iconst (pc := 102) (v := (-1 : Int32)) hX dX2_atom_102 (by decide) kk) rfl ?_
  refine gz_Vif (μ1 := m) (μ2 := m) (fun _ k1 k2 => gz_icmp_eq (pc := 103) (tgt := 112) hX dX2_atom_103 (by decide) k1 k2) (by first | exact Classical.em _ | exact (Classical.em _).symm) (fun g1 => ?_) (fun g1 => ?_)
  · replace h := gz_it' g1 h
    refine gz_Vs (fun _ kk => gz_aload_n (pc := 112) hX dX2_atom_112 rfl 2 rfl kk) rfl ?_
    refine gz_Vs (fun _ kk => gz_ldcwS (pc := 113) (tx := "min") (c := 158) hX (cl_s_X2_297 hX) dX2_atom_113 kk) rfl ?_
    obtain ⟨g2, h⟩ := gz_gu h
    obtain ⟨⟨r3, m4⟩, c5, h⟩ := gz_bd h
    obtain ⟨g6, h⟩ := gz_gu h
    refine gz_Vs (fun _ kk => cc_X2_74 (pc := 116) hX (fun _ => g2) c5 ⟨by omega, by omega⟩ (rest := []) rfl (Nat.le_of_ble_eq_true rfl) dX2_atom_116 kk) g6 ?_
    refine gz_Vif (μ1 := m) (μ2 := m) (fun _ k1 k2 => gz_if_ne (pc := 119) (tgt := 142) hX dX2_atom_119 (by decide) k1 k2) (by first | exact Classical.em _ | exact (Classical.em _).symm) (fun g7 => ?_) (fun g7 => ?_)
    · replace h := gz_if' g7 h
      refine gz_Vs (fun _ kk => gz_sub (lw := [(0, .ref (gz_ad G 1011)), (1, .ref (gz_ad G c1))]) [1, 2] rfl kk) rfl ?_
      exact wb_X2_atom_142 hX h1 h2 hO h hk
    · replace h := gz_it' g7 h
      refine gz_Vs (fun _ kk => gz_aload_n (pc := 122) hX dX2_atom_122 rfl 2 rfl kk) rfl ?_
      refine gz_Vs (fun _ kk => gz_ldcwS (pc := 123) (tx := "max") (c := 160) hX (cl_s_X2_299 hX) dX2_atom_123 kk) rfl ?_
      obtain ⟨g8, h⟩ := gz_gu h
      obtain ⟨⟨r9, m10⟩, c11, h⟩ := gz_bd h
      obtain ⟨g12, h⟩ := gz_gu h
      refine gz_Vs (fun _ kk => cc_X2_74 (pc := 126) hX (fun _ => g8) c11 ⟨by omega, by omega⟩ (rest := []) rfl (Nat.le_of_ble_eq_true rfl) dX2_atom_126 kk) g12 ?_
      refine gz_Vif (μ1 := m) (μ2 := m) (fun _ k1 k2 => gz_if_ne (pc := 129) (tgt := 142) hX dX2_atom_129 (by decide) k1 k2) (by first | exact Classical.em _ | exact (Classical.em _).symm) (fun g13 => ?_) (fun g13 => ?_)
      · replace h := gz_if' g13 h
        refine gz_Vs (fun _ kk => gz_sub (lw := [(0, .ref (gz_ad G 1011)), (1, .ref (gz_ad G c1))]) [1, 2] rfl kk) rfl ?_
        exact wb_X2_atom_142 hX h1 h2 hO h hk
      · replace h := gz_it' g13 h
        refine gz_Vs (fun _ kk => gz_aload_n (pc := 132) hX dX2_atom_132 rfl 1 rfl kk) rfl ?_
        refine gz_Vs (fun _ kk => gz_iconst (pc := 133) (v := (1 : Int32)) hX dX2_atom_133 (by decide) kk) rfl ?_
        refine gz_Vs (fun _ kk => gz_aload_n (pc := 134) hX dX2_atom_134 rfl 1 rfl kk) rfl ?_
        refine gz_Vs (fun _ kk => cg_X2_61_2 (pc := 135) hX (c := 1011) (v := .int (gI m10 1011 3)) (fun h => cz_k h rfl) (fun _ => rfl) dX2_atom_135 kk) rfl ?_
        obtain ⟨⟨r14, m15⟩, c16, h⟩ := gz_bd h
        obtain ⟨g17, h⟩ := gz_gu h
        refine gz_Vs (fun _ kk => cc_X2_47 (pc := 138) hX (fun h => cz_k h rfl) c16 ⟨by omega, by omega⟩ (rest := []) rfl (Nat.le_of_ble_eq_true rfl) dX2_atom_138 kk) g17 ?_
        obtain ⟨g18, h⟩ := gz_gu h
        subst g18
        obtain rfl := Option.some.inj h
        exact gz_athrowa hX dX2_atom_141 (hk _ _)
  · replace h := gz_if' g1 h
    refine gz_Vs (fun _ kk => gz_aload_n (pc := 106) hX dX2_atom_106 rfl 1 rfl kk) rfl ?_
    refine gz_Vs (fun _ kk => gz_iload_n (pc := 107) hX dX2_atom_107 rfl 0 rfl kk) rfl ?_
    obtain ⟨⟨o22, m20⟩, c21, h⟩ := gz_bd h
    obtain ⟨g23, h⟩ := gz_gu h
    cases o22 with
    | none =>
      replace h := gx_on h
      obtain rfl := Option.some.inj h
      exact gz_Vcx (k := gZ m20 - gZ m) (n := gW m20 - gW m) (fun _ kk => cc_X2_294ix (pc := 108) hX (fun h => cz_k h rfl) h1 h2 hO c21 ⟨by omega, by omega⟩ (rest := []) rfl (Nat.le_of_ble_eq_true rfl) dX2_atom_108 kk) ⟨by have := g23.1; dsimp only [gZ] at *; omega, by have := g23.2; dsimp only [gW] at *; omega⟩ (hk _ _)
    | some r19 =>
      replace h := gx_os h
      refine gz_Vc (k := gZ m20 - gZ m) (n := gW m20 - gW m) (fun _ kk => cc_X2_294i (pc := 108) hX (fun h => cz_k h rfl) h1 h2 hO c21 ⟨by omega, by omega⟩ (rest := []) rfl (Nat.le_of_ble_eq_true rfl) dX2_atom_108 kk) ⟨by have := g23.1; dsimp only [gZ] at *; omega, by have := g23.2; dsimp only [gW] at *; omega⟩ ?_
      obtain rfl := Option.some.inj h
      exact hk _ _ dX2_atom_111
noncomputable def mj_X2_atom_80 (oR : gM → Option (Option Nat × gM)) (c1 : Nat) (m : gM) : Option (Option Nat × gM) :=
  (if (gI m 1011 5) = (123 : Int32) then ((cf_X0_find c1 12 m).bind fun (r2, m3) => (if m3.2.2.2.2.2 = m.2.2.2.2.2 then (mj_X2_atom_100 oR c1 r2 m3) else none)) else (mj_X2_atom_100 oR c1 (-1 : Int32) m))
theorem wb_X2_atom_80 {X : gz_X} {G : gz_G} {zE : Nat × Nat} {oR : gM → Option (Option Nat × gM)} {f n : Nat} (hX : gz_C cS X G cX2_atom 3 RX2 (f + 4) (n + 160)) (h1 : 60 ≤ f) (h2 : 1500 ≤ n) (hO : cOA G X.2.1 f n oR) {c1 : Nat}  {m : gM} {z : (Option Nat × gM)} (h : mj_X2_atom_80 oR c1 m = some z) (hk : (fun z : (Option Nat × gM) => gx_k (fun r => gz_kRa cS X G 3 zE cX2_atom z.2 r) (∀ (pc : Nat) (lv : List (Nat × Value)), gz_VXa cS X G 3 zE z.2 pc lv) z.1) z) : gz_Va cS X G 3 zE m 80 [(0, .ref (gz_ad G 1011)), (1, .ref (gz_ad G c1))] [] := by
  unfold mj_X2_atom_80 at h
  refine gz_Vs (fun _ kk => gz_aload_n (pc := 80) hX dX2_atom_80 rfl 0 rfl kk) rfl ?_
  refine gz_Vs (fun _ kk => cg_X2_226_2 (pc := 81) hX (c := 1011) (v := .int (gI m 1011 5)) (fun h => cz_k h rfl) (fun _ => rfl) dX2_atom_81 kk) rfl ?_
  refine gz_Vs (fun _ kk => gz_bipush (pc := 84) (v := (123 : Int32)) hX dX2_atom_84 (by decide) kk) rfl ?_
  refine gz_Vif (μ1 := m) (μ2 := m) (fun _ k1 k2 => gz_icmp_ne (pc := 86) (tgt := 99) hX dX2_atom_86 (by decide) k1 k2) (by first | exact Classical.em _ | exact (Classical.em _).symm) (fun g1 => ?_) (fun g1 => ?_)
  · replace h := gz_if' g1 h
    refine gz_Vs (fun _ kk => gz_iconst (pc := 99) (v := (-1 : Int32)) hX dX2_atom_99 (by decide) kk) rfl ?_
    exact wb_X2_atom_100 hX h1 h2 hO h hk
  · replace h := gz_it' g1 h
    refine gz_Vs (fun _ kk => gz_aload_n (pc := 89) hX dX2_atom_89 rfl 1 rfl kk) rfl ?_
    refine gz_Vs (fun _ kk => cs_X2_291 (pc := 90) hX dX2_atom_90 kk) rfl ?_
    obtain ⟨⟨r2, m3⟩, c4, h⟩ := gz_bd h
    obtain ⟨g5, h⟩ := gz_gu h
    refine gz_Vs (fun _ kk => cc_X2_82 (pc := 93) hX c4 ⟨by omega, by omega⟩ (rest := []) rfl (Nat.le_of_ble_eq_true rfl) dX2_atom_93 kk) g5 ?_
    refine gz_Vs (fun _ kk => gz_goto (pc := 96) (tgt := 100) hX dX2_atom_96 (by decide) kk) rfl ?_
    exact wb_X2_atom_100 hX h1 h2 hO h hk
noncomputable def cf_X2_atom (oR : gM → Option (Option Nat × gM))  (m : gM) : Option (Option Nat × gM) :=
  ((cf_X2_here m).bind fun (r1, m2) => (if m2.2.2.2.2.2 = m.2.2.2.2.2 then (if r1 = (40 : Int32) then ((cf_X2_within oR (0 : Int32) m2).bind fun (o50, m48) => (if gZ m2 ≤ gZ m48 ∧ gW m2 ≤ gW m48 then gx_o o50 (fun r47 => some (some r47, m48)) (some (none, m48)) else none)) else ((cf_X2_here m2).bind fun (r6, m7) => (if m7.2.2.2.2.2 = m2.2.2.2.2.2 then ((cf_X0_isDigit r6 m7).bind fun (r10, m11) => (if m11.2.2.2.2.2 = m7.2.2.2.2.2 then (if r10 = (0 : Int32) then ((cf_X2_word  m11).bind fun (o18, m16) => (if gZ m11 ≤ gZ m16 ∧ gW m11 ≤ gW m16 then gx_o o18 (fun r15 => ((cf_X0_find r15 11 m16).bind fun (r20, m21) => (if m21.2.2.2.2.2 = m16.2.2.2.2.2 then (if r20 = (-1 : Int32) then (mj_X2_atom_80 oR r15 m21) else ((cf_X0_has (gI m21 1011 5) r20 m21).bind fun (r25, m26) => (if m26.2.2.2.2.2 = m21.2.2.2.2.2 then (if r25 = (0 : Int32) then (mj_X2_atom_80 oR r15 m26) else (if gZ m26 ≠ 0 then gz_let (gz_al m26 (13 + 1) 0 1) fun m31 => ((cf_X15_init (gZ m26) r20 m31).bind fun (_, m33) => (if m33.2.2.2.2.2 = m31.2.2.2.2.2 then some (some (gZ m26), m33) else none)) else none)) else none))) else none))) (some (none, m16)) else none)) else (if gZ m11 ≠ 0 then gz_let (gz_al m11 (12 + 1) 0 1) fun m37 => ((cf_X2_number_2 (0 : Int32) (9999 : Int32) m37).bind fun (o41, m39) => (if gZ m37 ≤ gZ m39 ∧ gW m37 ≤ gW m39 then gx_o o41 (fun r38 => ((cf_X14_init (gZ m11) (r38.toInt64) m39).bind fun (_, m44) => (if m44.2.2.2.2.2 = m39.2.2.2.2.2 then some (some (gZ m11), m44) else none))) (some (none, m39)) else none)) else none)) else none)) else none))) else none))
theorem wm_X2_atom {X : gz_X} {G : gz_G} {zE : Nat × Nat} {oR : gM → Option (Option Nat × gM)} {f n : Nat} (hX : gz_C cS X G cX2_atom 3 RX2 (f + 4) (n + 160)) (h1 : 60 ≤ f) (h2 : 1500 ≤ n) (hO : cOA G X.2.1 f n oR)   {m : gM} {z : (Option Nat × gM)} (h : cf_X2_atom oR  m = some z) (hk : (fun z : (Option Nat × gM) => gx_k (fun r => gz_kRa cS X G 3 zE cX2_atom z.2 r) (∀ (pc : Nat) (lv : List (Nat × Value)), gz_VXa cS X G 3 zE z.2 pc lv) z.1) z) : gz_Va cS X G 3 zE m 0 [(0, .ref (gz_ad G 1011))] [] := by
  unfold cf_X2_atom at h
  refine gz_Vs (fun _ kk => gz_aload_n (pc := 0) hX dX2_atom_0 rfl 0 rfl kk) rfl ?_
  obtain ⟨⟨r1, m2⟩, c3, h⟩ := gz_bd h
  obtain ⟨g4, h⟩ := gz_gu h
  refine gz_Vs (fun _ kk => cc_X2_43 (pc := 1) hX (fun h => cz_k h rfl) c3 ⟨by omega, by omega⟩ (rest := []) rfl (Nat.le_of_ble_eq_true rfl) dX2_atom_1 kk) g4 ?_
  refine gz_Vs (fun _ kk => gz_bipush (pc := 4) (v := (40 : Int32)) hX dX2_atom_4 (by decide) kk) rfl ?_
  refine gz_Vif (μ1 := m) (μ2 := m) (fun _ k1 k2 => gz_icmp_ne (pc := 6) (tgt := 15) hX dX2_atom_6 (by decide) k1 k2) (by first | exact Classical.em _ | exact (Classical.em _).symm) (fun g5 => ?_) (fun g5 => ?_)
  · replace h := gz_if' g5 h
    refine gz_Vs (fun _ kk => gz_aload_n (pc := 15) hX dX2_atom_15 rfl 0 rfl kk) rfl ?_
    obtain ⟨⟨r6, m7⟩, c8, h⟩ := gz_bd h
    obtain ⟨g9, h⟩ := gz_gu h
    refine gz_Vs (fun _ kk => cc_X2_43 (pc := 16) hX (fun h => cz_k h rfl) c8 ⟨by omega, by omega⟩ (rest := []) rfl (Nat.le_of_ble_eq_true rfl) dX2_atom_16 kk) g9 ?_
    obtain ⟨⟨r10, m11⟩, c12, h⟩ := gz_bd h
    obtain ⟨g13, h⟩ := gz_gu h
    refine gz_Vs (fun _ kk => cc_X2_55 (pc := 19) hX c12 ⟨by omega, by omega⟩ (rest := []) rfl (Nat.le_of_ble_eq_true rfl) dX2_atom_19 kk) g13 ?_
    refine gz_Vif (μ1 := m) (μ2 := m) (fun _ k1 k2 => gz_if_eq (pc := 22) (tgt := 42) hX dX2_atom_22 (by decide) k1 k2) (by first | exact Classical.em _ | exact (Classical.em _).symm) (fun g14 => ?_) (fun g14 => ?_)
    · replace h := gz_it' g14 h
      refine gz_Vs (fun _ kk => gz_aload_n (pc := 42) hX dX2_atom_42 rfl 0 rfl kk) rfl ?_
      obtain ⟨⟨o18, m16⟩, c17, h⟩ := gz_bd h
      obtain ⟨g19, h⟩ := gz_gu h
      cases o18 with
      | none =>
        replace h := gx_on h
        obtain rfl := Option.some.inj h
        exact gz_Vcx (k := gZ m16 - gZ m11) (n := gW m16 - gW m11) (fun _ kk => cc_X2_70x (pc := 43) hX (fun h => cz_k h rfl) c17 ⟨by omega, by omega⟩ (rest := []) rfl (Nat.le_of_ble_eq_true rfl) dX2_atom_43 kk) ⟨by have := g19.1; dsimp only [gZ] at *; omega, by have := g19.2; dsimp only [gW] at *; omega⟩ (hk _ _)
      | some r15 =>
        replace h := gx_os h
        refine gz_Vc (k := gZ m16 - gZ m11) (n := gW m16 - gW m11) (fun _ kk => cc_X2_70 (pc := 43) hX (fun h => cz_k h rfl) c17 ⟨by omega, by omega⟩ (rest := []) rfl (Nat.le_of_ble_eq_true rfl) dX2_atom_43 kk) ⟨by have := g19.1; dsimp only [gZ] at *; omega, by have := g19.2; dsimp only [gW] at *; omega⟩ ?_
        refine gz_Vs (fun _ kk => gz_astore_n (pc := 46) (lw := [(1, .ref (gz_ad G r15)), (0, .ref (gz_ad G 1011))]) hX dX2_atom_46 rfl (by decide) rfl kk) rfl ?_
        refine gz_Vs (fun _ kk => gz_aload_n (pc := 47) hX dX2_atom_47 rfl 0 rfl kk) rfl ?_
        refine gz_Vs (fun _ kk => cs_X2_281 (pc := 48) hX dX2_atom_48 kk) rfl ?_
        obtain ⟨⟨r20, m21⟩, c22, h⟩ := gz_bd h
        obtain ⟨g23, h⟩ := gz_gu h
        refine gz_Vs (fun _ kk => cc_X2_82 (pc := 51) hX c22 ⟨by omega, by omega⟩ (rest := []) rfl (Nat.le_of_ble_eq_true rfl) dX2_atom_51 kk) g23 ?_
        refine gz_Vs (fun _ kk => gz_istore_n (pc := 54) (lw := [(2, .int r20), (1, .ref (gz_ad G r15)), (0, .ref (gz_ad G 1011))]) hX dX2_atom_54 rfl (by decide) rfl kk) rfl ?_
        refine gz_Vs (fun _ kk => gz_iload_n (pc := 55) hX dX2_atom_55 rfl 0 rfl kk) rfl ?_
        refine gz_Vs (fun _ kk => gz_iconst (pc := 56) (v := (-1 : Int32)) hX dX2_atom_56 (by decide) kk) rfl ?_
        refine gz_Vif (μ1 := m) (μ2 := m) (fun _ k1 k2 => gz_icmp_eq (pc := 57) (tgt := 80) hX dX2_atom_57 (by decide) k1 k2) (by first | exact Classical.em _ | exact (Classical.em _).symm) (fun g24 => ?_) (fun g24 => ?_)
        · replace h := gz_it' g24 h
          refine gz_Vs (fun _ kk => gz_sub (lw := [(0, .ref (gz_ad G 1011)), (1, .ref (gz_ad G r15))]) [2, 1] rfl kk) rfl ?_
          exact wb_X2_atom_80 hX h1 h2 hO h hk
        · replace h := gz_if' g24 h
          refine gz_Vs (fun _ kk => gz_aload_n (pc := 60) hX dX2_atom_60 rfl 2 rfl kk) rfl ?_
          refine gz_Vs (fun _ kk => cg_X2_226_2 (pc := 61) hX (c := 1011) (v := .int (gI m21 1011 5)) (fun h => cz_k h rfl) (fun _ => rfl) dX2_atom_61 kk) rfl ?_
          refine gz_Vs (fun _ kk => gz_iload_n (pc := 64) hX dX2_atom_64 rfl 0 rfl kk) rfl ?_
          obtain ⟨⟨r25, m26⟩, c27, h⟩ := gz_bd h
          obtain ⟨g28, h⟩ := gz_gu h
          refine gz_Vs (fun _ kk => cc_X2_284 (pc := 65) hX c27 ⟨by omega, by omega⟩ (rest := []) rfl (Nat.le_of_ble_eq_true rfl) dX2_atom_65 kk) g28 ?_
          refine gz_Vif (μ1 := m) (μ2 := m) (fun _ k1 k2 => gz_if_eq (pc := 68) (tgt := 80) hX dX2_atom_68 (by decide) k1 k2) (by first | exact Classical.em _ | exact (Classical.em _).symm) (fun g29 => ?_) (fun g29 => ?_)
          · replace h := gz_it' g29 h
            refine gz_Vs (fun _ kk => gz_sub (lw := [(0, .ref (gz_ad G 1011)), (1, .ref (gz_ad G r15))]) [2, 1] rfl kk) rfl ?_
            exact wb_X2_atom_80 hX h1 h2 hO h hk
          · replace h := gz_if' g29 h
            obtain ⟨g30, h⟩ := gz_gu h
            obtain ⟨m31, em31, h⟩ := gz_lt h
            refine gz_Vn (fun _ kk => cn_X2_287 (pc := 71) hX g30 dX2_atom_71 em31 kk) em31 ?_
            refine gz_Vs (fun _ kk => gz_dup (pc := 74) hX dX2_atom_74 rfl kk) rfl ?_
            refine gz_Vs (fun _ kk => gz_iload_n (pc := 75) hX dX2_atom_75 rfl 0 rfl kk) rfl ?_
            obtain ⟨⟨⟨⟩, m33⟩, c34, h⟩ := gz_bd h
            obtain ⟨g35, h⟩ := gz_gu h
            refine gz_Vs (fun _ kk => cc_X2_289 (pc := 76) hX c34 ⟨by omega, by omega⟩ (rest := [.ref (gz_ad G (gZ m26))]) rfl (Nat.le_of_ble_eq_true rfl) dX2_atom_76 kk) g35 ?_
            obtain rfl := Option.some.inj h
            exact hk _ _ dX2_atom_79
    · replace h := gz_if' g14 h
      obtain ⟨g36, h⟩ := gz_gu h
      obtain ⟨m37, em37, h⟩ := gz_lt h
      refine gz_Vn (fun _ kk => cn_X2_276 (pc := 25) hX g36 dX2_atom_25 em37 kk) em37 ?_
      refine gz_Vs (fun _ kk => gz_dup (pc := 28) hX dX2_atom_28 rfl kk) rfl ?_
      refine gz_Vs (fun _ kk => gz_aload_n (pc := 29) hX dX2_atom_29 rfl 0 rfl kk) rfl ?_
      refine gz_Vs (fun _ kk => gz_iconst (pc := 30) (v := (0 : Int32)) hX dX2_atom_30 (by decide) kk) rfl ?_
      refine gz_Vs (fun _ kk => gz_sipush (pc := 31) (v := (9999 : Int32)) hX dX2_atom_31 (by decide) kk) rfl ?_
      obtain ⟨⟨o41, m39⟩, c40, h⟩ := gz_bd h
      obtain ⟨g42, h⟩ := gz_gu h
      cases o41 with
      | none =>
        replace h := gx_on h
        obtain rfl := Option.some.inj h
        exact gz_Vcx (k := gZ m39 - gZ m37) (n := gW m39 - gW m37) (fun _ kk => cc_X2_96x (pc := 34) hX (fun h => cz_k h rfl) c40 ⟨by omega, by omega⟩ (rest := [.ref (gz_ad G (gZ m11)), .ref (gz_ad G (gZ m11))]) rfl (Nat.le_of_ble_eq_true rfl) dX2_atom_34 kk) ⟨by have := g42.1; dsimp only [gZ] at *; omega, by have := g42.2; dsimp only [gW] at *; omega⟩ (hk _ _)
      | some r38 =>
        replace h := gx_os h
        refine gz_Vc (k := gZ m39 - gZ m37) (n := gW m39 - gW m37) (fun _ kk => cc_X2_96 (pc := 34) hX (fun h => cz_k h rfl) c40 ⟨by omega, by omega⟩ (rest := [.ref (gz_ad G (gZ m11)), .ref (gz_ad G (gZ m11))]) rfl (Nat.le_of_ble_eq_true rfl) dX2_atom_34 kk) ⟨by have := g42.1; dsimp only [gZ] at *; omega, by have := g42.2; dsimp only [gW] at *; omega⟩ ?_
        refine gz_Vs (fun _ kk => gz_i2l (pc := 37) hX dX2_atom_37 kk) rfl ?_
        obtain ⟨⟨⟨⟩, m44⟩, c45, h⟩ := gz_bd h
        obtain ⟨g46, h⟩ := gz_gu h
        refine gz_Vs (fun _ kk => cc_X2_278 (pc := 38) hX c45 ⟨by omega, by omega⟩ (rest := [.ref (gz_ad G (gZ m11))]) rfl (Nat.le_of_ble_eq_true rfl) dX2_atom_38 kk) g46 ?_
        obtain rfl := Option.some.inj h
        exact hk _ _ dX2_atom_41
  · replace h := gz_it' g5 h
    refine gz_Vs (fun _ kk => gz_aload_n (pc := 9) hX dX2_atom_9 rfl 0 rfl kk) rfl ?_
    refine gz_Vs (fun _ kk => gz_iconst (pc := 10) (v := (0 : Int32)) hX dX2_atom_10 (by decide) kk) rfl ?_
    obtain ⟨⟨o50, m48⟩, c49, h⟩ := gz_bd h
    obtain ⟨g51, h⟩ := gz_gu h
    cases o50 with
    | none =>
      replace h := gx_on h
      obtain rfl := Option.some.inj h
      exact gz_Vcx (k := gZ m48 - gZ m2) (n := gW m48 - gW m2) (fun _ kk => cc_X2_272ix (pc := 11) hX (fun h => cz_k h rfl) h1 h2 hO c49 ⟨by omega, by omega⟩ (rest := []) rfl (Nat.le_of_ble_eq_true rfl) dX2_atom_11 kk) ⟨by have := g51.1; dsimp only [gZ] at *; omega, by have := g51.2; dsimp only [gW] at *; omega⟩ (hk _ _)
    | some r47 =>
      replace h := gx_os h
      refine gz_Vc (k := gZ m48 - gZ m2) (n := gW m48 - gW m2) (fun _ kk => cc_X2_272i (pc := 11) hX (fun h => cz_k h rfl) h1 h2 hO c49 ⟨by omega, by omega⟩ (rest := []) rfl (Nat.le_of_ble_eq_true rfl) dX2_atom_11 kk) ⟨by have := g51.1; dsimp only [gZ] at *; omega, by have := g51.2; dsimp only [gW] at *; omega⟩ ?_
      obtain rfl := Option.some.inj h
      exact hk _ _ dX2_atom_14
theorem ct_X2_atom {G : gz_G} {l : Launch} {oR : gM → Option (Option Nat × gM)} {f n : Nat} (h1 : 60 ≤ f) (h2 : 1500 ≤ n) (hO : cOA G l f n oR)   {m m9 : gM} {o : Option Nat} (h : cf_X2_atom oR  m = some (o, m9)) : gx_Met cS G l yX2_atom cX2_atom 3 (some (.object "FirstSnuffer$Value")) (mRc (f + 4) (n + 160) (gZ m9 - gZ m) (gW m9 - gW m)) [.ref (gz_ad G 1011)] m m9 (o.map (fun r => some (.ref (gz_ad G r)))) :=
  gx_ofR (Or.inl ⟨_, rfl⟩) (by decide +kernel) (Nat.le_of_ble_eq_true rfl) ⟨_, rfl, rfl⟩ (fun h => cz_k (c := 1012) (k := 3) h rfl) fun X e hX hk => (wm_X2_atom (zE := m9.2.2.2.2.2) hX h1 h2 (e ▸ hO) h (gx_km (fun _ q pc lv hd => gz_Ve (q pc lv hd)) (fun q pc lv => gz_VXe (q pc lv)) hk)).2
theorem cl_X14 {G : gz_G} {l : Launch} {f n : Nat} (h1 : 0 ≤ f) (h2 : 0 ≤ n) {v mo : Nat} {m m9 : gM} {r : Int64} (h : cf_X14_at v mo m = some (r, m9)) : gz_Met cS G l yX14_at cX14_at 2 (some .long) (mRm f n) [.ref (gz_ad G v), .ref (gz_ad G mo)] m m9 (some (.long r)) :=
  gz_ofL (by decide +kernel) (Nat.le_of_ble_eq_true rfl) fun X _ hX hk => wm_X14_at (hX.mono h1 h2) h hk
theorem cl_X15 {G : gz_G} {l : Launch} {f n : Nat} (h1 : 2 ≤ f) (h2 : 44 ≤ n) {v mo : Nat} {m m9 : gM} {r : Int64} (h : cf_X15_at v mo m = some (r, m9)) : gz_Met cS G l yX15_at cX15_at 2 (some .long) (mRm f n) [.ref (gz_ad G v), .ref (gz_ad G mo)] m m9 (some (.long r)) :=
  gz_ofL (by decide +kernel) (Nat.le_of_ble_eq_true rfl) fun X _ hX hk => wm_X15_at (hX.mono h1 h2) h hk
theorem cl_X13 {G : gz_G} {l : Launch} {f n : Nat} {oA : Nat → Nat → gM → Option (Int64 × gM)} {oT : Nat → Nat → gM → Option (Int32 × gM)} (h1 : 20 ≤ f) (h2 : 300 ≤ n) (hO : cO G l f n oA oT) {v mo : Nat} {m m9 : gM} {r : Int64} (h : cf_X13_at oA oT v mo m = some (r, m9)) : gz_Met cS G l yX13_at cX13_at 6 (some .long) (mRm (f + 1) (n + 40)) [.ref (gz_ad G v), .ref (gz_ad G mo)] m m9 (some (.long r)) :=
  gz_ofL (by decide +kernel) (Nat.le_of_ble_eq_true rfl) fun X e hX hk => wm_X13_at hX h1 h2 (e ▸ hO) h hk
theorem cl_X12 {G : gz_G} {l : Launch} {f n : Nat} {oA : Nat → Nat → gM → Option (Int64 × gM)} {oT : Nat → Nat → gM → Option (Int32 × gM)} (h1 : 20 ≤ f) (h2 : 300 ≤ n) (hO : cO G l f n oA oT) {v mo : Nat} {m m9 : gM} {r : Int64} (h : cf_X12_at oA oT v mo m = some (r, m9)) : gz_Met cS G l yX12_at cX12_at 5 (some .long) (mRm (f + 1) (n + 40)) [.ref (gz_ad G v), .ref (gz_ad G mo)] m m9 (some (.long r)) :=
  gz_ofL (by decide +kernel) (Nat.le_of_ble_eq_true rfl) fun X e hX hk => wm_X12_at hX h1 h2 (e ▸ hO) h hk
theorem cl_X16 {G : gz_G} {l : Launch} {f n : Nat} {oA : Nat → Nat → gM → Option (Int64 × gM)} {oT : Nat → Nat → gM → Option (Int32 × gM)} (h1 : 20 ≤ f) (h2 : 300 ≤ n) (hO : cO G l f n oA oT) {v mo : Nat} {m m9 : gM} {r : Int64} (h : cf_X16_at oA oT v mo m = some (r, m9)) : gz_Met cS G l yX16_at cX16_at 2 (some .long) (mRm (f + 1) (n + 40)) [.ref (gz_ad G v), .ref (gz_ad G mo)] m m9 (some (.long r)) :=
  gz_ofL (by decide +kernel) (Nat.le_of_ble_eq_true rfl) fun X e hX hk => wm_X16_at hX h1 h2 (e ▸ hO) h hk
theorem cl_X20 {G : gz_G} {l : Launch} {f n : Nat} (h1 : 0 ≤ f) (h2 : 0 ≤ n) {v mo : Nat} {m m9 : gM} {r : Int32} (h : cf_X20_holds v mo m = some (r, m9)) : gz_Met cS G l yX20_holds cX20_holds 2 (some .boolean) (mRm f n) [.ref (gz_ad G v), .ref (gz_ad G mo)] m m9 (some (.int r)) :=
  gz_ofZ (by decide +kernel) (Nat.le_of_ble_eq_true rfl) fun X _ hX hk => wm_X20_holds (hX.mono h1 h2) h hk
theorem cl_X21 {G : gz_G} {l : Launch} {f n : Nat} {oA : Nat → Nat → gM → Option (Int64 × gM)} {oT : Nat → Nat → gM → Option (Int32 × gM)} (h1 : 20 ≤ f) (h2 : 300 ≤ n) (hO : cO G l f n oA oT) {v mo : Nat} {m m9 : gM} {r : Int32} (h : cf_X21_holds oA oT v mo m = some (r, m9)) : gz_Met cS G l yX21_holds cX21_holds 6 (some .boolean) (mRm (f + 1) (n + 40)) [.ref (gz_ad G v), .ref (gz_ad G mo)] m m9 (some (.int r)) :=
  gz_ofZ (by decide +kernel) (Nat.le_of_ble_eq_true rfl) fun X e hX hk => wm_X21_holds hX h1 h2 (e ▸ hO) h hk
theorem cl_X19 {G : gz_G} {l : Launch} {f n : Nat} {oA : Nat → Nat → gM → Option (Int64 × gM)} {oT : Nat → Nat → gM → Option (Int32 × gM)} (h1 : 20 ≤ f) (h2 : 300 ≤ n) (hO : cO G l f n oA oT) {v mo : Nat} {m m9 : gM} {r : Int32} (h : cf_X19_holds oA oT v mo m = some (r, m9)) : gz_Met cS G l yX19_holds cX19_holds 2 (some .boolean) (mRm (f + 1) (n + 40)) [.ref (gz_ad G v), .ref (gz_ad G mo)] m m9 (some (.int r)) :=
  gz_ofZ (by decide +kernel) (Nat.le_of_ble_eq_true rfl) fun X e hX hk => wm_X19_holds hX h1 h2 (e ▸ hO) h hk
theorem cl_X18 {G : gz_G} {l : Launch} {f n : Nat} {oA : Nat → Nat → gM → Option (Int64 × gM)} {oT : Nat → Nat → gM → Option (Int32 × gM)} (h1 : 20 ≤ f) (h2 : 300 ≤ n) (hO : cO G l f n oA oT) {v mo : Nat} {m m9 : gM} {r : Int32} (h : cf_X18_holds oA oT v mo m = some (r, m9)) : gz_Met cS G l yX18_holds cX18_holds 3 (some .boolean) (mRm (f + 1) (n + 40)) [.ref (gz_ad G v), .ref (gz_ad G mo)] m m9 (some (.int r)) :=
  gz_ofZ (by decide +kernel) (Nat.le_of_ble_eq_true rfl) fun X e hX hk => wm_X18_holds hX h1 h2 (e ▸ hO) h hk
/-- sums and tests, told at most d deep -/
noncomputable def cev : Nat → (Nat → Nat → gM → Option (Int64 × gM)) × (Nat → Nat → gM → Option (Int32 × gM))
  | 0 => (fun _ _ _ => none, fun _ _ _ => none)
  | d + 1 => (fun v mo m => if m.1 v = 13 then cf_X14_at v mo m else if m.1 v = 14 then cf_X15_at v mo m else if m.1 v = 12 then cf_X13_at (cev d).1 (cev d).2 v mo m else if m.1 v = 11 then cf_X12_at (cev d).1 (cev d).2 v mo m else if m.1 v = 15 then cf_X16_at (cev d).1 (cev d).2 v mo m else none, fun v mo m => if m.1 v = 18 then cf_X20_holds v mo m else if m.1 v = 19 then cf_X21_holds (cev d).1 (cev d).2 v mo m else if m.1 v = 17 then cf_X19_holds (cev d).1 (cev d).2 v mo m else if m.1 v = 16 then cf_X18_holds (cev d).1 (cev d).2 v mo m else none)
theorem cev_ok {G : gz_G} {l : Launch} : ∀ d : Nat, cO G l (20 + d) (300 + 40 * d) (cev d).1 (cev d).2
  | 0 => ⟨fun _ _ _ _ _ h => by simp [cev] at h, fun _ _ _ _ _ h => by simp [cev] at h⟩
  | d + 1 => by
    have ih := cev_ok (G := G) (l := l) d
    constructor
    · intro v mo m r m9 h
      simp only [cev] at h
      by_cases k0 : m.1 v = 13
      · rw [if_pos k0] at h
        exact Or.inl ⟨k0, cl_X14 (f := 20 + d + 1) (n := 300 + 40 * d + 40) (by omega) (by omega) h⟩
      rw [if_neg k0] at h
      by_cases k1 : m.1 v = 14
      · rw [if_pos k1] at h
        exact Or.inr (Or.inl ⟨k1, cl_X15 (f := 20 + d + 1) (n := 300 + 40 * d + 40) (by omega) (by omega) h⟩)
      rw [if_neg k1] at h
      by_cases k2 : m.1 v = 12
      · rw [if_pos k2] at h
        exact Or.inr (Or.inr (Or.inl ⟨k2, cl_X13 (f := 20 + d) (n := 300 + 40 * d) (by omega) (by omega) ih h⟩))
      rw [if_neg k2] at h
      by_cases k3 : m.1 v = 11
      · rw [if_pos k3] at h
        exact Or.inr (Or.inr (Or.inr (Or.inl ⟨k3, cl_X12 (f := 20 + d) (n := 300 + 40 * d) (by omega) (by omega) ih h⟩)))
      rw [if_neg k3] at h
      by_cases k4 : m.1 v = 15
      · rw [if_pos k4] at h
        exact Or.inr (Or.inr (Or.inr (Or.inr (⟨k4, cl_X16 (f := 20 + d) (n := 300 + 40 * d) (by omega) (by omega) ih h⟩))))
      rw [if_neg k4] at h
      cases h
    · intro v mo m r m9 h
      simp only [cev] at h
      by_cases k0 : m.1 v = 18
      · rw [if_pos k0] at h
        exact Or.inl ⟨k0, cl_X20 (f := 20 + d + 1) (n := 300 + 40 * d + 40) (by omega) (by omega) h⟩
      rw [if_neg k0] at h
      by_cases k1 : m.1 v = 19
      · rw [if_pos k1] at h
        exact Or.inr (Or.inl ⟨k1, cl_X21 (f := 20 + d) (n := 300 + 40 * d) (by omega) (by omega) ih h⟩)
      rw [if_neg k1] at h
      by_cases k2 : m.1 v = 17
      · rw [if_pos k2] at h
        exact Or.inr (Or.inr (Or.inl ⟨k2, cl_X19 (f := 20 + d) (n := 300 + 40 * d) (by omega) (by omega) ih h⟩))
      rw [if_neg k2] at h
      by_cases k3 : m.1 v = 16
      · rw [if_pos k3] at h
        exact Or.inr (Or.inr (Or.inr (⟨k3, cl_X18 (f := 20 + d) (n := 300 + 40 * d) (by omega) (by omega) ih h⟩)))
      rw [if_neg k3] at h
      cases h
theorem cg_X22_25_19 {X : gz_X} {G : gz_G} {cc : ByteArray} {nL fr lo pc : Nat} {rem : Nat × Nat} {m : gM} {lv : List (Nat × Value)} {st : List Value} (hX : gz_C cS X G cc nL RX22 fr lo) {c : Nat} {v : Value} (hK : clc m.1 m.2.1 m.2.2.2.2.1 → m.1 c = 19 + 1) (hv : clc m.1 m.2.1 m.2.2.2.2.1 → gz_u (gz_ad G) m (ftC 19 2) c 2 = v) (hd : decode cc pc = .ok (.getfield 25, 3)) (kk : gz_V cS X G nL rem m (pc + 3) lv (v :: st)) : gz_V cS X G nL rem m pc lv (.ref (gz_ad G c) :: st) :=
  gz_getf hX (C := RX22) (T := TX22) (N := 5) (ci := 19) (k := 2) rfl (by decide) in_X22 (by decide) (Or.inl (hX.2.2.2.2.1 _ q1711)) hd hK hv kk
theorem cd_X22_45 {X : gz_X} {G : gz_G} {cc : ByteArray} {nL fr lo pc f n : Nat} {lv : List (Nat × Value)} {rest st0 : List Value} (hX : gz_C cS X G cc nL RX22 fr lo) {oA : Nat → Nat → gM → Option (Int64 × gM)} {oT : Nat → Nat → gM → Option (Int32 × gM)} {v mo : Nat} {m m9 : gM} {r : Int64} (hO : cO G X.2.1 f n oA oT) (h : oA v mo m = some (r, m9)) (hroom : f + 1 ≤ fr ∧ n + 40 ≤ lo) (hst : st0 = [.ref (gz_ad G mo), .ref (gz_ad G v)] ++ rest) (hW : (rest.map fun v => v.category).sum ≤ 8) (hd : decode cc pc = .ok (.invokevirtual 45, 3)) (kk : gz_V cS X G nL (0, 0) m9 (pc + 3) lv (.long r :: rest)) : gz_V cS X G nL (0, 0) m pc lv st0 := by
  rcases hO.1 v mo m r m9 h with ⟨hk, hM⟩ | ⟨hk, hM⟩ | ⟨hk, hM⟩ | ⟨hk, hM⟩ | ⟨hk, hM⟩
  · exact gz_callU hX cs_E (x := ⟨"FirstSnuffer$Value", "at", "(LFirstSnuffer$Moment;)J"⟩) (owner := "FirstSnuffer$Value") (As := [.ref (gz_ad G mo)]) (rest := rest) (q := (RX14, TX14, 1)) (ci := 12) (c := v) hM (va_cwA 1 hX.2.2.2.2.1 (lw_app (by intro w hw; simp only [List.mem_cons, List.not_mem_nil, or_false] at hw; rcases hw with e | e | e | e | e <;> rw [e] <;> first | exact q1732 | exact q1409 | exact q1479 | exact q1431 | exact q198) (lw_meth q1432)) rfl rfl rfl (cz_n (Z := cS) hX q1408 rfl) (by decide +kernel) ⟨Nat.le_trans hroom.1 hX.2.2.2.2.2.2.1, by have := hX.2.2.2.2.2.2.2; have h1 := hroom.2; show 8 + (2 + 11) + n ≤ _; omega⟩) rfl rfl (by decide) (fun _ => hk) hst hW hd (rem := (0, 0)) kk
  · exact gz_callU hX cs_E (x := ⟨"FirstSnuffer$Value", "at", "(LFirstSnuffer$Moment;)J"⟩) (owner := "FirstSnuffer$Value") (As := [.ref (gz_ad G mo)]) (rest := rest) (q := (RX15, TX15, 1)) (ci := 13) (c := v) hM (va_cwA 1 hX.2.2.2.2.1 (lw_app (by intro w hw; simp only [List.mem_cons, List.not_mem_nil, or_false] at hw; rcases hw with e | e | e | e | e <;> rw [e] <;> first | exact q1732 | exact q1409 | exact q1410 | exact q1411 | exact q199) (lw_meth q1412)) rfl rfl rfl (cz_n (Z := cS) hX q1408 rfl) (by decide +kernel) ⟨Nat.le_trans hroom.1 hX.2.2.2.2.2.2.1, by have := hX.2.2.2.2.2.2.2; have h1 := hroom.2; show 8 + (2 + 11) + n ≤ _; omega⟩) rfl rfl (by decide) (fun _ => hk) hst hW hd (rem := (0, 0)) kk
  · exact gz_callU hX cs_E (x := ⟨"FirstSnuffer$Value", "at", "(LFirstSnuffer$Moment;)J"⟩) (owner := "FirstSnuffer$Value") (As := [.ref (gz_ad G mo)]) (rest := rest) (q := (RX13, TX13, 3)) (ci := 11) (c := v) hM (va_cwA 1 hX.2.2.2.2.1 (lw_app (by intro w hw; simp only [List.mem_cons, List.not_mem_nil, or_false] at hw; rcases hw with e | e | e | e | e <;> rw [e] <;> first | exact q1732 | exact q1409 | exact q1481 | exact q1436 | exact q197) (lw_meth q1437)) rfl rfl rfl (cz_n (Z := cS) hX q1408 rfl) (by decide +kernel) ⟨Nat.le_trans hroom.1 hX.2.2.2.2.2.2.1, by have := hX.2.2.2.2.2.2.2; have h1 := hroom.2; show 8 + (6 + 11) + n ≤ _; omega⟩) rfl rfl (by decide) (fun _ => hk) hst hW hd (rem := (0, 0)) kk
  · exact gz_callU hX cs_E (x := ⟨"FirstSnuffer$Value", "at", "(LFirstSnuffer$Moment;)J"⟩) (owner := "FirstSnuffer$Value") (As := [.ref (gz_ad G mo)]) (rest := rest) (q := (RX12, TX12, 2)) (ci := 10) (c := v) hM (va_cwA 1 hX.2.2.2.2.1 (lw_app (by intro w hw; simp only [List.mem_cons, List.not_mem_nil, or_false] at hw; rcases hw with e | e | e | e | e <;> rw [e] <;> first | exact q1732 | exact q1409 | exact q1424 | exact q1425 | exact q194) (lw_meth q1426)) rfl rfl rfl (cz_n (Z := cS) hX q1408 rfl) (by decide +kernel) ⟨Nat.le_trans hroom.1 hX.2.2.2.2.2.2.1, by have := hX.2.2.2.2.2.2.2; have h1 := hroom.2; show 8 + (5 + 11) + n ≤ _; omega⟩) rfl rfl (by decide) (fun _ => hk) hst hW hd (rem := (0, 0)) kk
  · exact gz_callU hX cs_E (x := ⟨"FirstSnuffer$Value", "at", "(LFirstSnuffer$Moment;)J"⟩) (owner := "FirstSnuffer$Value") (As := [.ref (gz_ad G mo)]) (rest := rest) (q := (RX16, TX16, 3)) (ci := 14) (c := v) hM (va_cwA 1 hX.2.2.2.2.1 (lw_app (by intro w hw; simp only [List.mem_cons, List.not_mem_nil, or_false] at hw; rcases hw with e | e | e | e | e <;> rw [e] <;> first | exact q1732 | exact q1409 | exact q1480 | exact q1433 | exact q200) (lw_meth q1434)) rfl rfl rfl (cz_n (Z := cS) hX q1408 rfl) (by decide +kernel) ⟨Nat.le_trans hroom.1 hX.2.2.2.2.2.2.1, by have := hX.2.2.2.2.2.2.2; have h1 := hroom.2; show 8 + (2 + 11) + n ≤ _; omega⟩) rfl rfl (by decide) (fun _ => hk) hst hW hd (rem := (0, 0)) kk
theorem cc_X22_51 {X : gz_X} {G : gz_G} {cc : ByteArray} {nL fr lo pc : Nat} {rem : Nat × Nat} {lv : List (Nat × Value)} {rest st0 : List Value} (hX : gz_C cS X G cc nL RX22 fr lo) {x0 : Int64} {x2 : Int64} {m m9 : gM}  {r : Int64} (h : cf_J8_min_2 x0 x2 m = some (r, m9)) (hroom : 0 + 1 ≤ fr ∧ 8 + (4 + 11) + 0 ≤ lo) (hst : st0 = [.long x2, .long x0] ++ rest) (hW : (rest.map fun v => v.category).sum ≤ 8) (hd : decode cc pc = .ok (.invokestatic 51, 3)) (kk : gz_V cS X G nL rem m9 (pc + 3) lv (.long r :: rest)) : gz_V cS X G nL rem m pc lv st0 :=
  gz_callS hX cs_E (As := [.long x0, .long x2]) (rest := rest) (ct_J8_min_2 (l := X.2.1) h) (lw_S q1733 q1419 q181 q1420) (n := 2) (by decide +kernel) hroom rfl hst hW hd (rem := rem) kk
theorem cp_X22_41_19 {X : gz_X} {G : gz_G} {cc : ByteArray} {nL fr lo pc : Nat} {rem : Nat × Nat} {m m9 : gM} {lv : List (Nat × Value)} {st : List Value} (hX : gz_C cS X G cc nL RX22 fr lo) {c : Nat} {x : Int32} (hK : clc m.1 m.2.1 m.2.2.2.2.1 → m.1 c = 19 + 1) (hw : 1000 ≤ c) (hz : x = 0 ∨ x = 1) (hd : decode cc pc = .ok (.putfield 41, 3)) (hm : m9 = gz_sI m c 4 x) (kk : gz_V cS X G nL rem m9 (pc + 3) lv st) : gz_V cS X G nL rem m pc lv (.int x :: .ref (gz_ad G c) :: st) := by
  subst hm
  exact gz_putf hX (C := RX22) (T := TX22) (N := 5) (ci := 19) (k := 4) (ty := .boolean) (μ' := gz_sI m c 4 x) rfl (by decide) in_X22 tyX22 tyX22_ok nmX22 (by decide) (Or.inl (hX.2.2.2.2.1 _ q1713)) rfl rfl (by rcases hz with h | h <;> rw [h] <;> rfl) (by rcases hz with h | h <;> rw [h] <;> rfl) hd hK hw rfl rfl rfl (fun d tc j h => gz_sI_o d tc j h) (gz_sI_v (fun j => ftC 19 j) rfl) (fun h => h) kk
theorem cc_X22_35 {X : gz_X} {G : gz_G} {cc : ByteArray} {nL fr lo pc : Nat} {rem : Nat × Nat} {lv : List (Nat × Value)} {rest st0 : List Value} (hX : gz_C cS X G cc nL RX22 fr lo) {x0 : Int64} {x2 : Int64} {m m9 : gM}  {r : Int64} (h : cf_J8_max_2 x0 x2 m = some (r, m9)) (hroom : 0 + 1 ≤ fr ∧ 8 + (4 + 11) + 0 ≤ lo) (hst : st0 = [.long x2, .long x0] ++ rest) (hW : (rest.map fun v => v.category).sum ≤ 8) (hd : decode cc pc = .ok (.invokestatic 35, 3)) (kk : gz_V cS X G nL rem m9 (pc + 3) lv (.long r :: rest)) : gz_V cS X G nL rem m pc lv st0 :=
  gz_callS hX cs_E (As := [.long x0, .long x2]) (rest := rest) (ct_J8_max_2 (l := X.2.1) h) (lw_S q1731 q1422 q181 q1423) (n := 2) (by decide +kernel) hroom rfl hst hW hd (rem := rem) kk
theorem cg_X22_21_19 {X : gz_X} {G : gz_G} {cc : ByteArray} {nL fr lo pc : Nat} {rem : Nat × Nat} {m : gM} {lv : List (Nat × Value)} {st : List Value} (hX : gz_C cS X G cc nL RX22 fr lo) {c : Nat} {v : Value} (hK : clc m.1 m.2.1 m.2.2.2.2.1 → m.1 c = 19 + 1) (hv : clc m.1 m.2.1 m.2.2.2.2.1 → gz_u (gz_ad G) m (ftC 19 1) c 1 = v) (hd : decode cc pc = .ok (.getfield 21, 3)) (kk : gz_V cS X G nL rem m (pc + 3) lv (v :: st)) : gz_V cS X G nL rem m pc lv (.ref (gz_ad G c) :: st) :=
  gz_getf hX (C := RX22) (T := TX22) (N := 5) (ci := 19) (k := 1) rfl (by decide) in_X22 (by decide) (Or.inl (hX.2.2.2.2.1 _ q1710)) hd hK hv kk
theorem cd_X22_29 {X : gz_X} {G : gz_G} {cc : ByteArray} {nL fr lo pc f n : Nat} {lv : List (Nat × Value)} {rest st0 : List Value} (hX : gz_C cS X G cc nL RX22 fr lo) {oA : Nat → Nat → gM → Option (Int64 × gM)} {oT : Nat → Nat → gM → Option (Int32 × gM)} {v mo : Nat} {m m9 : gM} {r : Int32} (hO : cO G X.2.1 f n oA oT) (h : oT v mo m = some (r, m9)) (hroom : f + 1 ≤ fr ∧ n + 40 ≤ lo) (hst : st0 = [.ref (gz_ad G mo), .ref (gz_ad G v)] ++ rest) (hW : (rest.map fun v => v.category).sum ≤ 8) (hd : decode cc pc = .ok (.invokevirtual 29, 3)) (kk : gz_V cS X G nL (0, 0) m9 (pc + 3) lv (.int r :: rest)) : gz_V cS X G nL (0, 0) m pc lv st0 := by
  rcases hO.2 v mo m r m9 h with ⟨hk, hM⟩ | ⟨hk, hM⟩ | ⟨hk, hM⟩ | ⟨hk, hM⟩
  · exact gz_callU hX cs_E (x := ⟨"FirstSnuffer$Test", "holds", "(LFirstSnuffer$Moment;)Z"⟩) (owner := "FirstSnuffer$Test") (As := [.ref (gz_ad G mo)]) (rest := rest) (q := (RX20, TX20, 0)) (ci := 17) (c := v) hM (va_cwA 1 hX.2.2.2.2.1 (lw_app (by intro w hw; simp only [List.mem_cons, List.not_mem_nil, or_false] at hw; rcases hw with e | e | e | e | e <;> rw [e] <;> first | exact q1730 | exact q1389 | exact q1390 | exact q1391 | exact q204) (lw_meth q1392)) rfl rfl rfl (cz_n (Z := cS) hX q1388 rfl) (by decide +kernel) ⟨Nat.le_trans hroom.1 hX.2.2.2.2.2.2.1, by have := hX.2.2.2.2.2.2.2; have h1 := hroom.2; show 8 + (2 + 11) + n ≤ _; omega⟩) rfl rfl (by decide) (fun _ => hk) hst hW hd (rem := (0, 0)) kk
  · exact gz_callU hX cs_E (x := ⟨"FirstSnuffer$Test", "holds", "(LFirstSnuffer$Moment;)Z"⟩) (owner := "FirstSnuffer$Test") (As := [.ref (gz_ad G mo)]) (rest := rest) (q := (RX21, TX21, 3)) (ci := 18) (c := v) hM (va_cwA 1 hX.2.2.2.2.1 (lw_app (by intro w hw; simp only [List.mem_cons, List.not_mem_nil, or_false] at hw; rcases hw with e | e | e | e | e <;> rw [e] <;> first | exact q1730 | exact q1389 | exact q1483 | exact q1405 | exact q205) (lw_meth q1406)) rfl rfl rfl (cz_n (Z := cS) hX q1388 rfl) (by decide +kernel) ⟨Nat.le_trans hroom.1 hX.2.2.2.2.2.2.1, by have := hX.2.2.2.2.2.2.2; have h1 := hroom.2; show 8 + (6 + 11) + n ≤ _; omega⟩) rfl rfl (by decide) (fun _ => hk) hst hW hd (rem := (0, 0)) kk
  · exact gz_callU hX cs_E (x := ⟨"FirstSnuffer$Test", "holds", "(LFirstSnuffer$Moment;)Z"⟩) (owner := "FirstSnuffer$Test") (As := [.ref (gz_ad G mo)]) (rest := rest) (q := (RX19, TX19, 1)) (ci := 16) (c := v) hM (va_cwA 1 hX.2.2.2.2.1 (lw_app (by intro w hw; simp only [List.mem_cons, List.not_mem_nil, or_false] at hw; rcases hw with e | e | e | e | e <;> rw [e] <;> first | exact q1730 | exact q1389 | exact q1482 | exact q1402 | exact q203) (lw_meth q1403)) rfl rfl rfl (cz_n (Z := cS) hX q1388 rfl) (by decide +kernel) ⟨Nat.le_trans hroom.1 hX.2.2.2.2.2.2.1, by have := hX.2.2.2.2.2.2.2; have h1 := hroom.2; show 8 + (2 + 11) + n ≤ _; omega⟩) rfl rfl (by decide) (fun _ => hk) hst hW hd (rem := (0, 0)) kk
  · exact gz_callU hX cs_E (x := ⟨"FirstSnuffer$Test", "holds", "(LFirstSnuffer$Moment;)Z"⟩) (owner := "FirstSnuffer$Test") (As := [.ref (gz_ad G mo)]) (rest := rest) (q := (RX18, TX18, 2)) (ci := 15) (c := v) hM (va_cwA 1 hX.2.2.2.2.1 (lw_app (by intro w hw; simp only [List.mem_cons, List.not_mem_nil, or_false] at hw; rcases hw with e | e | e | e | e <;> rw [e] <;> first | exact q1730 | exact q1389 | exact q1393 | exact q1394 | exact q202) (lw_meth q1395)) rfl rfl rfl (cz_n (Z := cS) hX q1388 rfl) (by decide +kernel) ⟨Nat.le_trans hroom.1 hX.2.2.2.2.2.2.1, by have := hX.2.2.2.2.2.2.2; have h1 := hroom.2; show 8 + (3 + 11) + n ≤ _; omega⟩) rfl rfl (by decide) (fun _ => hk) hst hW hd (rem := (0, 0)) kk
/-! FirstSnuffer$Question.meets(ILFirstSnuffer$Moment;)V -/
noncomputable def mj_X22_meets_139 (c0 : Nat) (s0 : Int64) (s1 : Nat) (m : gM) : Option (Unit × gM) :=
  (if gK m s1 = 20 then (if 1000 ≤ s1 then gz_let (gz_sL m s1 3 s0) fun m3 => (if gK m3 c0 = 20 then (if 1000 ≤ c0 then gz_let (gz_sI m3 c0 4 (1 : Int32)) fun m6 => some ((), m6) else none) else none) else none) else none)
theorem wb_X22_meets_139 {X : gz_X} {G : gz_G} (hX : gz_C cS X G cX22_meets 5 RX22 81 2740) {c0 : Nat} {s0 : Int64} {s1 : Nat}  {m : gM} {z : (Unit × gM)} (h : mj_X22_meets_139 c0 s0 s1 m = some z) (hk : (fun z : (Unit × gM) => gz_kV cS X G 5 (0, 0) cX22_meets z.2) z) : gz_V cS X G 5 (0, 0) m 139 [(0, .ref (gz_ad G c0))] [.long s0, .ref (gz_ad G s1)] := by
  unfold mj_X22_meets_139 at h
  obtain ⟨g1, h⟩ := gz_gu h
  obtain ⟨g2, h⟩ := gz_gu h
  obtain ⟨m3, em3, h⟩ := gz_lt h
  refine cp_X22_11_19 (pc := 139) hX (c := s1) (fun _ => g1) g2 dX22_meets_139 em3 ?_
  refine gz_aload_n (pc := 142) hX dX22_meets_142 rfl 0 rfl ?_
  refine gz_iconst (pc := 143) (v := (1 : Int32)) hX dX22_meets_143 (by decide) ?_
  obtain ⟨g4, h⟩ := gz_gu h
  obtain ⟨g5, h⟩ := gz_gu h
  obtain ⟨m6, em6, h⟩ := gz_lt h
  refine cp_X22_41_19 (pc := 144) hX (c := c0) (fun _ => g4) g5 (Or.inr rfl) dX22_meets_144 em6 ?_
  obtain rfl := Option.some.inj h
  exact hk _ _ dX22_meets_147
noncomputable def mj_X22_meets_65 (c0 : Nat) (s0 : Int64) (s1 : Nat) (m : gM) : Option (Unit × gM) :=
  (if gK m s1 = 20 then (if 1000 ≤ s1 then gz_let (gz_sL m s1 3 s0) fun m3 => (if gK m3 c0 = 20 then (if 1000 ≤ c0 then gz_let (gz_sI m3 c0 4 (1 : Int32)) fun m6 => some ((), m6) else none) else none) else none) else none)
theorem wb_X22_meets_65 {X : gz_X} {G : gz_G} (hX : gz_C cS X G cX22_meets 5 RX22 81 2740) {c0 : Nat} {s0 : Int64} {s1 : Nat}  {m : gM} {z : (Unit × gM)} (h : mj_X22_meets_65 c0 s0 s1 m = some z) (hk : (fun z : (Unit × gM) => gz_kV cS X G 5 (0, 0) cX22_meets z.2) z) : gz_V cS X G 5 (0, 0) m 65 [(0, .ref (gz_ad G c0))] [.long s0, .ref (gz_ad G s1)] := by
  unfold mj_X22_meets_65 at h
  obtain ⟨g1, h⟩ := gz_gu h
  obtain ⟨g2, h⟩ := gz_gu h
  obtain ⟨m3, em3, h⟩ := gz_lt h
  refine cp_X22_11_19 (pc := 65) hX (c := s1) (fun _ => g1) g2 dX22_meets_65 em3 ?_
  refine gz_aload_n (pc := 68) hX dX22_meets_68 rfl 0 rfl ?_
  refine gz_iconst (pc := 69) (v := (1 : Int32)) hX dX22_meets_69 (by decide) ?_
  obtain ⟨g4, h⟩ := gz_gu h
  obtain ⟨g5, h⟩ := gz_gu h
  obtain ⟨m6, em6, h⟩ := gz_lt h
  refine cp_X22_41_19 (pc := 70) hX (c := c0) (fun _ => g4) g5 (Or.inr rfl) dX22_meets_70 em6 ?_
  obtain rfl := Option.some.inj h
  exact hk _ _ dX22_meets_73
noncomputable def mj_X22_meets_63 (c0 : Nat) (x1 : Int32) (s0 : Nat) (m : gM) : Option (Unit × gM) :=
  (mj_X22_meets_65 c0 (x1.toInt64) s0 m)
theorem wb_X22_meets_63 {X : gz_X} {G : gz_G} (hX : gz_C cS X G cX22_meets 5 RX22 81 2740) {c0 : Nat} {x1 : Int32} {s0 : Nat}  {m : gM} {z : (Unit × gM)} (h : mj_X22_meets_63 c0 x1 s0 m = some z) (hk : (fun z : (Unit × gM) => gz_kV cS X G 5 (0, 0) cX22_meets z.2) z) : gz_V cS X G 5 (0, 0) m 63 [(0, .ref (gz_ad G c0)), (1, .int x1)] [.ref (gz_ad G s0)] := by
  unfold mj_X22_meets_63 at h
  refine gz_iload_n (pc := 63) hX dX22_meets_63 rfl 1 rfl ?_
  refine gz_i2l (pc := 64) hX dX22_meets_64 ?_
  refine gz_sub (lw := [(0, .ref (gz_ad G c0))]) [0] rfl ?_
  exact wb_X22_meets_65 hX h hk
noncomputable def cf_X22_meets (c0 : Nat) (x1 : Int32) (c2 : Nat) (m : gM) : Option (Unit × gM) :=
  (if gK m c0 = 20 then (if (3 : Int32) ≤ (gI m c0 0) then (if gK m c0 = 20 then gz_let (gP m c0 2) fun r4 => (if r4 ≠ 0 then (((cev 60).1 r4 c2 m).bind fun (r6, m7) => (if gK m7 c0 = 20 then (if (gI m7 c0 4) = (0 : Int32) then (mj_X22_meets_139 c0 r6 c0 m7) else (if gK m7 c0 = 20 then (if (gI m7 c0 0) = (3 : Int32) then (if gK m7 c0 = 20 then (mj_X22_meets_139 c0 ((gL m7 c0 3) + r6) c0 m7) else none) else (if gK m7 c0 = 20 then (if (gI m7 c0 0) = (4 : Int32) then (if gK m7 c0 = 20 then ((cf_J8_max_2 (gL m7 c0 3) r6 m7).bind fun (r20, m21) => (mj_X22_meets_139 c0 r20 c0 m21)) else none) else (if gK m7 c0 = 20 then ((cf_J8_min_2 (gL m7 c0 3) r6 m7).bind fun (r16, m17) => (mj_X22_meets_139 c0 r16 c0 m17)) else none)) else none)) else none)) else none)) else none) else none) else (if gK m c0 = 20 then gz_let (gP m c0 1) fun r25 => (if r25 ≠ 0 then (((cev 60).2 r25 c2 m).bind fun (r27, m28) => (if r27 = (0 : Int32) then some ((), m28) else (if gK m28 c0 = 20 then (if (gI m28 c0 0) = (2 : Int32) then (if gK m28 c0 = 20 then ((cf_J8_max_2 (0 : Int64) (gL m28 c0 3) m28).bind fun (r39, m40) => (mj_X22_meets_65 c0 (r39 + (1 : Int64)) c0 m40)) else none) else (if gK m28 c0 = 20 then (if (gI m28 c0 0) = (0 : Int32) then (if gK m28 c0 = 20 then (if (gI m28 c0 4) = (0 : Int32) then (mj_X22_meets_63 c0 x1 c0 m28) else (if gK m28 c0 = 20 then (mj_X22_meets_65 c0 (gL m28 c0 3) c0 m28) else none)) else none) else (mj_X22_meets_63 c0 x1 c0 m28)) else none)) else none))) else none) else none)) else none)
theorem wm_X22_meets {X : gz_X} {G : gz_G} (hX : gz_C cS X G cX22_meets 5 RX22 81 2740) {c0 : Nat} {x1 : Int32} {c2 : Nat}  {m : gM} {z : (Unit × gM)} (h : cf_X22_meets c0 x1 c2 m = some z) (hk : (fun z : (Unit × gM) => gz_kV cS X G 5 (0, 0) cX22_meets z.2) z) : gz_V cS X G 5 (0, 0) m 0 [(0, .ref (gz_ad G c0)), (1, .int x1), (2, .ref (gz_ad G c2))] [] := by
  unfold cf_X22_meets at h
  refine gz_aload_n (pc := 0) hX dX22_meets_0 rfl 0 rfl ?_
  obtain ⟨g1, h⟩ := gz_gu h
  refine cg_X22_17_19 (pc := 1) hX (c := c0) (v := .int (gI m c0 0)) (fun _ => g1) (fun _ => rfl) dX22_meets_1 ?_
  refine gz_iconst (pc := 4) (v := (3 : Int32)) hX dX22_meets_4 (by decide) ?_
  refine gz_icmp_ge (pc := 5) (tgt := 74) hX dX22_meets_5 (by decide) (fun g2 => ?_) (fun g2 => ?_)
  · replace h := gz_it' g2 h
    refine gz_aload_n (pc := 74) hX dX22_meets_74 rfl 0 rfl ?_
    obtain ⟨g3, h⟩ := gz_gu h
    obtain ⟨r4, er4, h⟩ := gz_lt h
    obtain ⟨g5, h⟩ := gz_gu h
    refine cg_X22_25_19 (pc := 75) hX (c := c0) (v := .ref (gz_ad G r4)) (fun _ => g3) (fun _ => gz_rq er4 g5) dX22_meets_75 ?_
    refine gz_aload_n (pc := 78) hX dX22_meets_78 rfl 2 rfl ?_
    obtain ⟨⟨r6, m7⟩, c8, h⟩ := gz_bd h
    refine cd_X22_45 (pc := 79) hX (cev_ok 60) c8 ⟨Nat.le_of_ble_eq_true rfl, Nat.le_of_ble_eq_true rfl⟩ (rest := []) rfl (Nat.le_of_ble_eq_true rfl) dX22_meets_79 ?_
    refine gz_lstore_n (pc := 82) (lw := [(3, .long r6), (0, .ref (gz_ad G c0)), (1, .int x1), (2, .ref (gz_ad G c2))]) hX dX22_meets_82 rfl (by decide) rfl ?_
    refine gz_aload_n (pc := 83) hX dX22_meets_83 rfl 1 rfl ?_
    refine gz_aload_n (pc := 84) hX dX22_meets_84 rfl 1 rfl ?_
    obtain ⟨g9, h⟩ := gz_gu h
    refine cg_X22_41_19 (pc := 85) hX (c := c0) (v := .int (gI m7 c0 4)) (fun _ => g9) (fun _ => rfl) dX22_meets_85 ?_
    refine gz_if_ne (pc := 88) (tgt := 95) hX dX22_meets_88 (by decide) (fun g10 => ?_) (fun g10 => ?_)
    · replace h := gz_if' g10 h
      refine gz_aload_n (pc := 95) hX dX22_meets_95 rfl 1 rfl ?_
      obtain ⟨g11, h⟩ := gz_gu h
      refine cg_X22_17_19 (pc := 96) hX (c := c0) (v := .int (gI m7 c0 0)) (fun _ => g11) (fun _ => rfl) dX22_meets_96 ?_
      refine gz_iconst (pc := 99) (v := (3 : Int32)) hX dX22_meets_99 (by decide) ?_
      refine gz_icmp_ne (pc := 100) (tgt := 112) hX dX22_meets_100 (by decide) (fun g12 => ?_) (fun g12 => ?_)
      · replace h := gz_if' g12 h
        refine gz_aload_n (pc := 112) hX dX22_meets_112 rfl 1 rfl ?_
        obtain ⟨g13, h⟩ := gz_gu h
        refine cg_X22_17_19 (pc := 113) hX (c := c0) (v := .int (gI m7 c0 0)) (fun _ => g13) (fun _ => rfl) dX22_meets_113 ?_
        refine gz_iconst (pc := 116) (v := (4 : Int32)) hX dX22_meets_116 (by decide) ?_
        refine gz_icmp_ne (pc := 117) (tgt := 131) hX dX22_meets_117 (by decide) (fun g14 => ?_) (fun g14 => ?_)
        · replace h := gz_if' g14 h
          refine gz_aload_n (pc := 131) hX dX22_meets_131 rfl 1 rfl ?_
          obtain ⟨g15, h⟩ := gz_gu h
          refine cg_X22_11_19 (pc := 132) hX (c := c0) (v := .long (gL m7 c0 3)) (fun _ => g15) (fun _ => rfl) dX22_meets_132 ?_
          refine gz_lload_n (pc := 135) hX dX22_meets_135 rfl 0 rfl ?_
          obtain ⟨⟨r16, m17⟩, c18, h⟩ := gz_bd h
          refine cc_X22_51 (pc := 136) hX c18 ⟨Nat.le_of_ble_eq_true rfl, Nat.le_of_ble_eq_true rfl⟩ (rest := [.ref (gz_ad G c0)]) rfl (Nat.le_of_ble_eq_true rfl) dX22_meets_136 ?_
          refine gz_sub (lw := [(0, .ref (gz_ad G c0))]) [1] rfl ?_
          exact wb_X22_meets_139 hX h hk
        · replace h := gz_it' g14 h
          refine gz_aload_n (pc := 120) hX dX22_meets_120 rfl 1 rfl ?_
          obtain ⟨g19, h⟩ := gz_gu h
          refine cg_X22_11_19 (pc := 121) hX (c := c0) (v := .long (gL m7 c0 3)) (fun _ => g19) (fun _ => rfl) dX22_meets_121 ?_
          refine gz_lload_n (pc := 124) hX dX22_meets_124 rfl 0 rfl ?_
          obtain ⟨⟨r20, m21⟩, c22, h⟩ := gz_bd h
          refine cc_X22_35 (pc := 125) hX c22 ⟨Nat.le_of_ble_eq_true rfl, Nat.le_of_ble_eq_true rfl⟩ (rest := [.ref (gz_ad G c0)]) rfl (Nat.le_of_ble_eq_true rfl) dX22_meets_125 ?_
          refine gz_goto (pc := 128) (tgt := 139) hX dX22_meets_128 (by decide) ?_
          refine gz_sub (lw := [(0, .ref (gz_ad G c0))]) [1] rfl ?_
          exact wb_X22_meets_139 hX h hk
      · replace h := gz_it' g12 h
        refine gz_aload_n (pc := 103) hX dX22_meets_103 rfl 1 rfl ?_
        obtain ⟨g23, h⟩ := gz_gu h
        refine cg_X22_11_19 (pc := 104) hX (c := c0) (v := .long (gL m7 c0 3)) (fun _ => g23) (fun _ => rfl) dX22_meets_104 ?_
        refine gz_lload_n (pc := 107) hX dX22_meets_107 rfl 0 rfl ?_
        refine gz_ladd (pc := 108) hX dX22_meets_108 ?_
        refine gz_goto (pc := 109) (tgt := 139) hX dX22_meets_109 (by decide) ?_
        refine gz_sub (lw := [(0, .ref (gz_ad G c0))]) [1] rfl ?_
        exact wb_X22_meets_139 hX h hk
    · replace h := gz_it' g10 h
      refine gz_lload_n (pc := 91) hX dX22_meets_91 rfl 0 rfl ?_
      refine gz_goto (pc := 92) (tgt := 139) hX dX22_meets_92 (by decide) ?_
      refine gz_sub (lw := [(0, .ref (gz_ad G c0))]) [1] rfl ?_
      exact wb_X22_meets_139 hX h hk
  · replace h := gz_if' g2 h
    refine gz_aload_n (pc := 8) hX dX22_meets_8 rfl 0 rfl ?_
    obtain ⟨g24, h⟩ := gz_gu h
    obtain ⟨r25, er25, h⟩ := gz_lt h
    obtain ⟨g26, h⟩ := gz_gu h
    refine cg_X22_21_19 (pc := 9) hX (c := c0) (v := .ref (gz_ad G r25)) (fun _ => g24) (fun _ => gz_rq er25 g26) dX22_meets_9 ?_
    refine gz_aload_n (pc := 12) hX dX22_meets_12 rfl 2 rfl ?_
    obtain ⟨⟨r27, m28⟩, c29, h⟩ := gz_bd h
    refine cd_X22_29 (pc := 13) hX (cev_ok 60) c29 ⟨Nat.le_of_ble_eq_true rfl, Nat.le_of_ble_eq_true rfl⟩ (rest := []) rfl (Nat.le_of_ble_eq_true rfl) dX22_meets_13 ?_
    refine gz_if_ne (pc := 16) (tgt := 20) hX dX22_meets_16 (by decide) (fun g30 => ?_) (fun g30 => ?_)
    · replace h := gz_if' g30 h
      refine gz_aload_n (pc := 20) hX dX22_meets_20 rfl 0 rfl ?_
      refine gz_aload_n (pc := 21) hX dX22_meets_21 rfl 0 rfl ?_
      obtain ⟨g31, h⟩ := gz_gu h
      refine cg_X22_17_19 (pc := 22) hX (c := c0) (v := .int (gI m28 c0 0)) (fun _ => g31) (fun _ => rfl) dX22_meets_22 ?_
      refine gz_iconst (pc := 25) (v := (2 : Int32)) hX dX22_meets_25 (by decide) ?_
      refine gz_icmp_ne (pc := 26) (tgt := 42) hX dX22_meets_26 (by decide) (fun g32 => ?_) (fun g32 => ?_)
      · replace h := gz_if' g32 h
        refine gz_aload_n (pc := 42) hX dX22_meets_42 rfl 0 rfl ?_
        obtain ⟨g33, h⟩ := gz_gu h
        refine cg_X22_17_19 (pc := 43) hX (c := c0) (v := .int (gI m28 c0 0)) (fun _ => g33) (fun _ => rfl) dX22_meets_43 ?_
        refine gz_if_ne (pc := 46) (tgt := 63) hX dX22_meets_46 (by decide) (fun g34 => ?_) (fun g34 => ?_)
        · replace h := gz_if' g34 h
          refine gz_sub (lw := [(0, .ref (gz_ad G c0)), (1, .int x1)]) [0, 1] rfl ?_
          exact wb_X22_meets_63 hX h hk
        · replace h := gz_it' g34 h
          refine gz_aload_n (pc := 49) hX dX22_meets_49 rfl 0 rfl ?_
          obtain ⟨g35, h⟩ := gz_gu h
          refine cg_X22_41_19 (pc := 50) hX (c := c0) (v := .int (gI m28 c0 4)) (fun _ => g35) (fun _ => rfl) dX22_meets_50 ?_
          refine gz_if_eq (pc := 53) (tgt := 63) hX dX22_meets_53 (by decide) (fun g36 => ?_) (fun g36 => ?_)
          · replace h := gz_it' g36 h
            refine gz_sub (lw := [(0, .ref (gz_ad G c0)), (1, .int x1)]) [0, 1] rfl ?_
            exact wb_X22_meets_63 hX h hk
          · replace h := gz_if' g36 h
            refine gz_aload_n (pc := 56) hX dX22_meets_56 rfl 0 rfl ?_
            obtain ⟨g37, h⟩ := gz_gu h
            refine cg_X22_11_19 (pc := 57) hX (c := c0) (v := .long (gL m28 c0 3)) (fun _ => g37) (fun _ => rfl) dX22_meets_57 ?_
            refine gz_goto (pc := 60) (tgt := 65) hX dX22_meets_60 (by decide) ?_
            refine gz_sub (lw := [(0, .ref (gz_ad G c0))]) [0] rfl ?_
            exact wb_X22_meets_65 hX h hk
      · replace h := gz_it' g32 h
        refine gz_lconst (pc := 29) (v := (0 : Int64)) hX dX22_meets_29 (by decide) ?_
        refine gz_aload_n (pc := 30) hX dX22_meets_30 rfl 0 rfl ?_
        obtain ⟨g38, h⟩ := gz_gu h
        refine cg_X22_11_19 (pc := 31) hX (c := c0) (v := .long (gL m28 c0 3)) (fun _ => g38) (fun _ => rfl) dX22_meets_31 ?_
        obtain ⟨⟨r39, m40⟩, c41, h⟩ := gz_bd h
        refine cc_X22_35 (pc := 34) hX c41 ⟨Nat.le_of_ble_eq_true rfl, Nat.le_of_ble_eq_true rfl⟩ (rest := [.ref (gz_ad G c0)]) rfl (Nat.le_of_ble_eq_true rfl) dX22_meets_34 ?_
        refine gz_lconst (pc := 37) (v := (1 : Int64)) hX dX22_meets_37 (by decide) ?_
        refine gz_ladd (pc := 38) hX dX22_meets_38 ?_
        refine gz_goto (pc := 39) (tgt := 65) hX dX22_meets_39 (by decide) ?_
        refine gz_sub (lw := [(0, .ref (gz_ad G c0))]) [0] rfl ?_
        exact wb_X22_meets_65 hX h hk
    · replace h := gz_it' g30 h
      obtain rfl := Option.some.inj h
      exact hk _ _ dX22_meets_19
theorem ct_X22_meets {G : gz_G} {l : Launch} {c0 : Nat} {x1 : Int32} {c2 : Nat}  {m m9 : gM} (h : cf_X22_meets c0 x1 c2 m = some ((), m9)) : gz_Met cS G l yX22_meets cX22_meets 5 none (mRm 81 2740) [.ref (gz_ad G c0), .int x1, .ref (gz_ad G c2)] m m9 none :=
  gz_ofV (by decide +kernel) (Nat.le_of_ble_eq_true rfl) fun X _ hX hk => wm_X22_meets hX h hk
theorem cg_X5_111_1 {X : gz_X} {G : gz_G} {cc : ByteArray} {nL fr lo pc : Nat} {rem : Nat × Nat} {m : gM} {lv : List (Nat × Value)} {st : List Value} (hX : gz_C cS X G cc nL RX5 fr lo) {c : Nat} {v : Value} (hK : clc m.1 m.2.1 m.2.2.2.2.1 → m.1 c = 1 + 1) (hv : clc m.1 m.2.1 m.2.2.2.2.1 → gz_u (gz_ad G) m (ftC 1 8) c 8 = v) (hd : decode cc pc = .ok (.getfield 111, 3)) (kk : gz_V cS X G nL rem m (pc + 3) lv (v :: st)) : gz_V cS X G nL rem m pc lv (.ref (gz_ad G c) :: st) :=
  gz_getf hX (C := RX1) (T := TX1) (N := 9) (ci := 1) (k := 8) rfl (by decide) in_X1 (by decide) (Or.inr ⟨_, va_Nw.use rfl (cz_n (Z := cS) hX q270 rfl)⟩) hd hK hv kk
theorem cc_X5_98 {X : gz_X} {G : gz_G} {cc : ByteArray} {nL fr lo pc : Nat} {rem : Nat × Nat} {lv : List (Nat × Value)} {rest st0 : List Value} (hX : gz_C cS X G cc nL RX5 fr lo) {c0 : Nat} {x1 : Int32} {m m9 : gM} (hK : clc m.1 m.2.1 m.2.2.2.2.1 → m.1 c0 = 5 + 1) (hs_c0 : cSt c0 = true) (h : cf_X5_asks c0 x1 m = some ((), m9)) (hroom : 5 + 1 ≤ fr ∧ 8 + (2 + 11) + 108 ≤ lo) (hst : st0 = [.int x1, .ref (gz_ad G c0)] ++ rest) (hW : (rest.map fun v => v.category).sum ≤ 8) (hd : decode cc pc = .ok (.invokevirtual 98, 3)) (kk : gz_V cS X G nL rem m9 (pc + 3) lv (rest)) : gz_V cS X G nL rem m pc lv st0 :=
  gz_callV2 hX cs_E (As := [.int x1]) (rest := rest) (q := (RX5, TX5, 10)) (ci := 5) (c := c0) (ct_X5_asks (l := X.2.1) hs_c0 h) (lw_V q1379 q1381 qs42 q178 q1382) (n := 1) (by decide +kernel) hroom rfl rfl (by decide) hK hst hW hd (rem := rem) kk
theorem cd_X5_115 {X : gz_X} {G : gz_G} {cc : ByteArray} {nL fr lo pc f n : Nat} {lv : List (Nat × Value)} {rest st0 : List Value} (hX : gz_C cS X G cc nL RX5 fr lo) {oA : Nat → Nat → gM → Option (Int64 × gM)} {oT : Nat → Nat → gM → Option (Int32 × gM)} {v mo : Nat} {m m9 : gM} {r : Int32} (hO : cO G X.2.1 f n oA oT) (h : oT v mo m = some (r, m9)) (hroom : f + 1 ≤ fr ∧ n + 40 ≤ lo) (hst : st0 = [.ref (gz_ad G mo), .ref (gz_ad G v)] ++ rest) (hW : (rest.map fun v => v.category).sum ≤ 8) (hd : decode cc pc = .ok (.invokevirtual 115, 3)) (kk : gz_V cS X G nL (0, 0) m9 (pc + 3) lv (.int r :: rest)) : gz_V cS X G nL (0, 0) m pc lv st0 := by
  rcases hO.2 v mo m r m9 h with ⟨hk, hM⟩ | ⟨hk, hM⟩ | ⟨hk, hM⟩ | ⟨hk, hM⟩
  · exact gz_callU hX cs_E (x := ⟨"FirstSnuffer$Test", "holds", "(LFirstSnuffer$Moment;)Z"⟩) (owner := "FirstSnuffer$Test") (As := [.ref (gz_ad G mo)]) (rest := rest) (q := (RX20, TX20, 0)) (ci := 17) (c := v) hM (va_cwA 1 hX.2.2.2.2.1 (lw_app (by intro w hw; simp only [List.mem_cons, List.not_mem_nil, or_false] at hw; rcases hw with e | e | e | e | e <;> rw [e] <;> first | exact q1387 | exact q1389 | exact q1390 | exact q1391 | exact q204) (lw_meth q1392)) rfl rfl rfl (cz_n (Z := cS) hX q1388 rfl) (by decide +kernel) ⟨Nat.le_trans hroom.1 hX.2.2.2.2.2.2.1, by have := hX.2.2.2.2.2.2.2; have h1 := hroom.2; show 8 + (2 + 11) + n ≤ _; omega⟩) rfl rfl (by decide) (fun _ => hk) hst hW hd (rem := (0, 0)) kk
  · exact gz_callU hX cs_E (x := ⟨"FirstSnuffer$Test", "holds", "(LFirstSnuffer$Moment;)Z"⟩) (owner := "FirstSnuffer$Test") (As := [.ref (gz_ad G mo)]) (rest := rest) (q := (RX21, TX21, 3)) (ci := 18) (c := v) hM (va_cwA 1 hX.2.2.2.2.1 (lw_app (by intro w hw; simp only [List.mem_cons, List.not_mem_nil, or_false] at hw; rcases hw with e | e | e | e | e <;> rw [e] <;> first | exact q1387 | exact q1389 | exact q1483 | exact q1405 | exact q205) (lw_meth q1406)) rfl rfl rfl (cz_n (Z := cS) hX q1388 rfl) (by decide +kernel) ⟨Nat.le_trans hroom.1 hX.2.2.2.2.2.2.1, by have := hX.2.2.2.2.2.2.2; have h1 := hroom.2; show 8 + (6 + 11) + n ≤ _; omega⟩) rfl rfl (by decide) (fun _ => hk) hst hW hd (rem := (0, 0)) kk
  · exact gz_callU hX cs_E (x := ⟨"FirstSnuffer$Test", "holds", "(LFirstSnuffer$Moment;)Z"⟩) (owner := "FirstSnuffer$Test") (As := [.ref (gz_ad G mo)]) (rest := rest) (q := (RX19, TX19, 1)) (ci := 16) (c := v) hM (va_cwA 1 hX.2.2.2.2.1 (lw_app (by intro w hw; simp only [List.mem_cons, List.not_mem_nil, or_false] at hw; rcases hw with e | e | e | e | e <;> rw [e] <;> first | exact q1387 | exact q1389 | exact q1482 | exact q1402 | exact q203) (lw_meth q1403)) rfl rfl rfl (cz_n (Z := cS) hX q1388 rfl) (by decide +kernel) ⟨Nat.le_trans hroom.1 hX.2.2.2.2.2.2.1, by have := hX.2.2.2.2.2.2.2; have h1 := hroom.2; show 8 + (2 + 11) + n ≤ _; omega⟩) rfl rfl (by decide) (fun _ => hk) hst hW hd (rem := (0, 0)) kk
  · exact gz_callU hX cs_E (x := ⟨"FirstSnuffer$Test", "holds", "(LFirstSnuffer$Moment;)Z"⟩) (owner := "FirstSnuffer$Test") (As := [.ref (gz_ad G mo)]) (rest := rest) (q := (RX18, TX18, 2)) (ci := 15) (c := v) hM (va_cwA 1 hX.2.2.2.2.1 (lw_app (by intro w hw; simp only [List.mem_cons, List.not_mem_nil, or_false] at hw; rcases hw with e | e | e | e | e <;> rw [e] <;> first | exact q1387 | exact q1389 | exact q1393 | exact q1394 | exact q202) (lw_meth q1395)) rfl rfl rfl (cz_n (Z := cS) hX q1388 rfl) (by decide +kernel) ⟨Nat.le_trans hroom.1 hX.2.2.2.2.2.2.1, by have := hX.2.2.2.2.2.2.2; have h1 := hroom.2; show 8 + (3 + 11) + n ≤ _; omega⟩) rfl rfl (by decide) (fun _ => hk) hst hW hd (rem := (0, 0)) kk
/-! FirstSnuffer$State.isMinding(I)Z -/
noncomputable def mj_X5_isMinding_21 (c0 : Nat) (m : gM) : Option (Int32 × gM) :=
  some ((0 : Int32), m)
theorem wb_X5_isMinding_21 {X : gz_X} {G : gz_G} (hX : gz_C cS X G cX5_isMinding 2 RX5 81 2740) {c0 : Nat} (hs_c0 : cSt c0 = true) {m : gM} {z : (Int32 × gM)} (h : mj_X5_isMinding_21 c0 m = some z) (hk : (fun z : (Int32 × gM) => gz_kZ cS X G 2 (0, 0) cX5_isMinding z.2 z.1) z) : gz_V cS X G 2 (0, 0) m 21 [(0, .ref (gz_ad G c0))] [] := by
  unfold mj_X5_isMinding_21 at h
  refine gz_iconst (pc := 21) (v := (0 : Int32)) hX dX5_isMinding_21 (by decide) ?_
  obtain rfl := Option.some.inj h
  exact hk _ _ dX5_isMinding_22 (Or.inl rfl)
noncomputable def cf_X5_isMinding (c0 : Nat) (x1 : Int32) (m : gM) : Option (Int32 × gM) :=
  ((cf_X5_isLit c0 x1 m).bind fun (r1, m2) => (if r1 = (0 : Int32) then (mj_X5_isMinding_21 c0 m2) else gz_let (gP m2 1000 0) fun r5 => (if r5 ≠ 0 then (if gK m2 r5 = 2 then (if (gP m2 r5 8) = 0 then (mj_X5_isMinding_21 c0 m2) else ((cf_X5_asks c0 x1 m2).bind fun (_, m10) => gz_let (gP m10 1000 0) fun r12 => (if r12 ≠ 0 then (if gK m10 r12 = 2 then gz_let (gP m10 r12 8) fun r15 => (if r15 ≠ 0 then (((cev 60).2 r15 1013 m10).bind fun (r17, m18) => (if r17 = 0 ∨ r17 = 1 then some (r17, m18) else none)) else none) else none) else none))) else none) else none)))
theorem wm_X5_isMinding {X : gz_X} {G : gz_G} (hX : gz_C cS X G cX5_isMinding 2 RX5 81 2740) {c0 : Nat} {x1 : Int32} (hs_c0 : cSt c0 = true) {m : gM} {z : (Int32 × gM)} (h : cf_X5_isMinding c0 x1 m = some z) (hk : (fun z : (Int32 × gM) => gz_kZ cS X G 2 (0, 0) cX5_isMinding z.2 z.1) z) : gz_V cS X G 2 (0, 0) m 0 [(0, .ref (gz_ad G c0)), (1, .int x1)] [] := by
  unfold cf_X5_isMinding at h
  refine gz_aload_n (pc := 0) hX dX5_isMinding_0 rfl 0 rfl ?_
  refine gz_iload_n (pc := 1) hX dX5_isMinding_1 rfl 1 rfl ?_
  obtain ⟨⟨r1, m2⟩, c3, h⟩ := gz_bd h
  refine cc_X5_73 (pc := 2) hX (fun h => cz_k h (st_k hs_c0)) hs_c0 c3 ⟨Nat.le_of_ble_eq_true rfl, Nat.le_of_ble_eq_true rfl⟩ (rest := []) rfl (Nat.le_of_ble_eq_true rfl) dX5_isMinding_2 ?_
  refine gz_if_eq (pc := 5) (tgt := 21) hX dX5_isMinding_5 (by decide) (fun g4 => ?_) (fun g4 => ?_)
  · replace h := gz_it' g4 h
    refine gz_sub (lw := [(0, .ref (gz_ad G c0))]) [0] rfl ?_
    exact wb_X5_isMinding_21 hX hs_c0 h hk
  · replace h := gz_if' g4 h
    refine gz_aload_n (pc := 8) hX dX5_isMinding_8 rfl 0 rfl ?_
    refine cg_X5_3_5 (pc := 9) hX (c := c0) (v := .ref (gz_ad G 1000)) (fun h => cz_k h (st_k hs_c0)) (fun h => cz_f h (st_0 hs_c0) (st_f9 hs_c0) (by decide) rfl) dX5_isMinding_9 ?_
    obtain ⟨r5, er5, h⟩ := gz_lt h
    obtain ⟨g6, h⟩ := gz_gu h
    refine cg_X5_40_0 (pc := 12) hX (c := 1000) (v := .ref (gz_ad G r5)) (fun h => cz_k h rfl) (fun _ => gz_rq er5 g6) dX5_isMinding_12 ?_
    obtain ⟨g7, h⟩ := gz_gu h
    refine cg_X5_111_1 (pc := 15) hX (c := r5) (v := gz_rf (gz_ad G) (gP m2 r5 8)) (fun _ => g7) (fun _ => rfl) dX5_isMinding_15 ?_
    refine gz_ifnonnull (pc := 18) (tgt := 23) hX dX5_isMinding_18 (by decide) (fun g8 => ?_) (fun g8 => ?_)
    · replace h := gz_if' g8 h
      refine gz_aload_n (pc := 23) hX dX5_isMinding_23 rfl 0 rfl ?_
      refine gz_iload_n (pc := 24) hX dX5_isMinding_24 rfl 1 rfl ?_
      obtain ⟨⟨⟨⟩, m10⟩, c11, h⟩ := gz_bd h
      refine cc_X5_98 (pc := 25) hX (fun h => cz_k h (st_k hs_c0)) hs_c0 c11 ⟨Nat.le_of_ble_eq_true rfl, Nat.le_of_ble_eq_true rfl⟩ (rest := []) rfl (Nat.le_of_ble_eq_true rfl) dX5_isMinding_25 ?_
      refine gz_aload_n (pc := 28) hX dX5_isMinding_28 rfl 0 rfl ?_
      refine cg_X5_3_5 (pc := 29) hX (c := c0) (v := .ref (gz_ad G 1000)) (fun h => cz_k h (st_k hs_c0)) (fun h => cz_f h (st_0 hs_c0) (st_f9 hs_c0) (by decide) rfl) dX5_isMinding_29 ?_
      obtain ⟨r12, er12, h⟩ := gz_lt h
      obtain ⟨g13, h⟩ := gz_gu h
      refine cg_X5_40_0 (pc := 32) hX (c := 1000) (v := .ref (gz_ad G r12)) (fun h => cz_k h rfl) (fun _ => gz_rq er12 g13) dX5_isMinding_32 ?_
      obtain ⟨g14, h⟩ := gz_gu h
      obtain ⟨r15, er15, h⟩ := gz_lt h
      obtain ⟨g16, h⟩ := gz_gu h
      refine cg_X5_111_1 (pc := 35) hX (c := r12) (v := .ref (gz_ad G r15)) (fun _ => g14) (fun _ => gz_rq er15 g16) dX5_isMinding_35 ?_
      refine gz_aload_n (pc := 38) hX dX5_isMinding_38 rfl 0 rfl ?_
      refine cg_X5_3_5 (pc := 39) hX (c := c0) (v := .ref (gz_ad G 1000)) (fun h => cz_k h (st_k hs_c0)) (fun h => cz_f h (st_0 hs_c0) (st_f9 hs_c0) (by decide) rfl) dX5_isMinding_39 ?_
      refine cg_X5_80_0 (pc := 42) hX (c := 1000) (v := .ref (gz_ad G 1013)) (fun h => cz_k h rfl) (fun h => cz_f h (by decide) rfl (by decide) rfl) dX5_isMinding_42 ?_
      obtain ⟨⟨r17, m18⟩, c19, h⟩ := gz_bd h
      refine cd_X5_115 (pc := 45) hX (cev_ok 60) c19 ⟨Nat.le_of_ble_eq_true rfl, Nat.le_of_ble_eq_true rfl⟩ (rest := []) rfl (Nat.le_of_ble_eq_true rfl) dX5_isMinding_45 ?_
      obtain ⟨g20, h⟩ := gz_gu h
      obtain rfl := Option.some.inj h
      exact hk _ _ dX5_isMinding_48 g20
    · replace h := gz_it' g8 h
      refine gz_sub (lw := [(0, .ref (gz_ad G c0))]) [0] rfl ?_
      exact wb_X5_isMinding_21 hX hs_c0 h hk
theorem ct_X5_isMinding {G : gz_G} {l : Launch} {c0 : Nat} {x1 : Int32} (hs_c0 : cSt c0 = true) {m m9 : gM} {r : Int32} (h : cf_X5_isMinding c0 x1 m = some (r, m9)) : gz_Met cS G l yX5_isMinding cX5_isMinding 2 (some .boolean) (mRm 81 2740) [.ref (gz_ad G c0), .int x1] m m9 (some (.int r)) :=
  gz_ofZ (by decide +kernel) (Nat.le_of_ble_eq_true rfl) fun X _ hX hk => wm_X5_isMinding hX hs_c0 h hk
