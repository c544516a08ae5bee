set_option maxRecDepth 100000
/-! asks([C)V -/
noncomputable def mf_asks (c1 : Nat) (m : MM) : Option (Unit × MM) :=
  (if (m.1 2000 5) = (0 : Int32) then ((mf_takes c1 m).bind fun (r2, m3) => (if r2 = (0 : Int32) then ((mf_fail (1 : Int32) (m3.1 2000 2) m3).bind fun (_, m7) => some ((), m7)) else some ((), m3))) else some ((), m))
theorem wm_asks {X : gz_X} {G : gz_G} (hX : gz_C mS X G cX6_asks 2 RX6 3 64) {c1 : Nat} (hc_1 : kM c1 = 103) {m : MM} {z : (Unit × MM)} (h : mf_asks c1 m = some z) (hk : (fun z : (Unit × MM) => gz_kV mS X G 2 (0, 0) cX6_asks (mF z.2)) z) : gz_V mS X G 2 (0, 0) (mF m) 0 [(0, .ref (gz_ad G 2000)), (1, .ref (gz_ad G c1))] [] := by
  unfold mf_asks at h
  refine gz_aload_n (pc := 0) hX dX6_asks_0 rfl 0 rfl ?_
  refine mg_5 (pc := 1) hX dX6_asks_1 ?_
  refine gz_if_ne (pc := 4) (tgt := 24) hX dX6_asks_4 (by decide) (fun g1 => ?_) (fun g1 => ?_)
  · replace h := gz_if' g1 h
    obtain rfl := Option.some.inj h
    exact hk _ _ dX6_asks_24
  · replace h := gz_it' g1 h
    refine gz_aload_n (pc := 7) hX dX6_asks_7 rfl 0 rfl ?_
    refine gz_aload_n (pc := 8) hX dX6_asks_8 rfl 1 rfl ?_
    obtain ⟨⟨r2, m3⟩, c4, h⟩ := gz_bd h
    refine mc_takes (pc := 9) hX hc_1 c4 ⟨Nat.le_of_ble_eq_true rfl, Nat.le_of_ble_eq_true rfl⟩ (rest := []) rfl (Nat.le_of_ble_eq_true rfl) dX6_asks_9 ?_
    refine gz_if_ne (pc := 12) (tgt := 24) hX dX6_asks_12 (by decide) (fun g5 => ?_) (fun g5 => ?_)
    · replace h := gz_if' g5 h
      obtain rfl := Option.some.inj h
      exact hk _ _ dX6_asks_24
    · replace h := gz_it' g5 h
      refine gz_aload_n (pc := 15) hX dX6_asks_15 rfl 0 rfl ?_
      refine gz_iconst (pc := 16) (v := (1 : Int32)) hX dX6_asks_16 (by decide) ?_
      refine gz_aload_n (pc := 17) hX dX6_asks_17 rfl 0 rfl ?_
      refine mg_2 (pc := 18) hX dX6_asks_18 ?_
      obtain ⟨⟨⟨⟩, m7⟩, c8, h⟩ := gz_bd h
      refine mc_fail (pc := 21) hX c8 ⟨Nat.le_of_ble_eq_true rfl, Nat.le_of_ble_eq_true rfl⟩ (rest := []) rfl (Nat.le_of_ble_eq_true rfl) dX6_asks_21 ?_
      obtain rfl := Option.some.inj h
      exact hk _ _ dX6_asks_24
theorem mt_asks {G : gz_G} {l : Launch} {c1 : Nat} (hc_1 : kM c1 = 103) {m m9 : MM} (h : mf_asks c1 m = some ((), m9)) : gz_Met mS G l yX6_asks cX6_asks 2 none (mRm 3 64) [.ref (gz_ad G 2000), .ref (gz_ad G c1)] (mF m) (mF m9) none :=
  gz_ofV (plainFor_of_name mz_plain) (Nat.le_of_ble_eq_true rfl) fun X _ hX hk => wm_asks hX hc_1 h hk
theorem mc_asks {X : gz_X} {G : gz_G} {cc : ByteArray} {nL fr lo pc : Nat} {lv : List (Nat × Value)} {rest st0 : List Value} (hX : gz_C mS X G cc nL RX6 fr lo) {c1 : Nat} (hc_1 : kM c1 = 103) {m m9 : MM} (h : mf_asks c1 m = some ((), m9)) (hroom : 3 + 1 ≤ fr ∧ 8 + (2 + 11) + 64 ≤ lo) (hst : st0 = [.ref (gz_ad G c1), .ref (gz_ad G 2000)] ++ rest) (hW : (rest.map fun v => v.category).sum ≤ 8) (hd : decode cc pc = .ok (.invokevirtual 327, 3)) (kk : gz_V mS X G nL (0, 0) (mF m9) (pc + 3) lv (rest)) : gz_V mS X G nL (0, 0) (mF m) pc lv st0 :=
  gz_callV hX mz_E (As := [.ref (gz_ad G c1)]) (rest := rest) (q := (RX6, TX6, 104)) (ci := 0) (c := 2000) (mt_asks (l := X.2.1) hc_1 h) (lw_V q2149 q2151 qs80 q182 q2152) (n := 1) (by decide +kernel) hroom rfl rfl (by decide) rfl hst hW hd (rem := (0, 0)) kk
/-! isDigit(I)Z -/
noncomputable def mj_X6_isDigit_16  (m : MM) : Option (Int32 × MM) :=
  some ((0 : Int32), m)
theorem wb_X6_isDigit_16 {X : gz_X} {G : gz_G} (hX : gz_C mS X G cX6_isDigit 1 RX6 0 0)   {m : MM} {z : (Int32 × MM)} (h : mj_X6_isDigit_16  m = some z) (hk : (fun z : (Int32 × MM) => gz_kZ mS X G 1 (0, 0) cX6_isDigit (mF z.2) z.1) z) : gz_V mS X G 1 (0, 0) (mF m) 16 [] [] := by
  unfold mj_X6_isDigit_16 at h
  refine gz_iconst (pc := 16) (v := (0 : Int32)) hX dX6_isDigit_16 (by decide) ?_
  obtain rfl := Option.some.inj h
  exact hk _ _ dX6_isDigit_17 (Or.inl rfl)
noncomputable def mf_isDigit (x0 : Int32) (m : MM) : Option (Int32 × MM) :=
  (if x0 < (48 : Int32) then (mj_X6_isDigit_16  m) else (if (57 : Int32) < x0 then (mj_X6_isDigit_16  m) else some ((1 : Int32), m)))
theorem wm_isDigit {X : gz_X} {G : gz_G} (hX : gz_C mS X G cX6_isDigit 1 RX6 0 0) {x0 : Int32}  {m : MM} {z : (Int32 × MM)} (h : mf_isDigit x0 m = some z) (hk : (fun z : (Int32 × MM) => gz_kZ mS X G 1 (0, 0) cX6_isDigit (mF z.2) z.1) z) : gz_V mS X G 1 (0, 0) (mF m) 0 [(0, .int x0)] [] := by
  unfold mf_isDigit at h
  refine gz_iload_n (pc := 0) hX dX6_isDigit_0 rfl 0 rfl ?_
  refine gz_bipush (pc := 1) (v := (48 : Int32)) hX dX6_isDigit_1 (by decide) ?_
  refine gz_icmp_lt (pc := 3) (tgt := 16) hX dX6_isDigit_3 (by decide) (fun g1 => ?_) (fun g1 => ?_)
  · replace h := gz_it' g1 h
    refine gz_sub (lw := []) [] rfl ?_
    exact wb_X6_isDigit_16 hX h hk
  · replace h := gz_if' g1 h
    refine gz_iload_n (pc := 6) hX dX6_isDigit_6 rfl 0 rfl ?_
    refine gz_bipush (pc := 7) (v := (57 : Int32)) hX dX6_isDigit_7 (by decide) ?_
    refine gz_icmp_gt (pc := 9) (tgt := 16) hX dX6_isDigit_9 (by decide) (fun g2 => ?_) (fun g2 => ?_)
    · replace h := gz_it' g2 h
      refine gz_sub (lw := []) [] rfl ?_
      exact wb_X6_isDigit_16 hX h hk
    · replace h := gz_if' g2 h
      refine gz_iconst (pc := 12) (v := (1 : Int32)) hX dX6_isDigit_12 (by decide) ?_
      refine gz_goto (pc := 13) (tgt := 17) hX dX6_isDigit_13 (by decide) ?_
      obtain rfl := Option.some.inj h
      exact hk _ _ dX6_isDigit_17 (Or.inr rfl)
theorem mt_isDigit {G : gz_G} {l : Launch} {x0 : Int32}  {m m9 : MM} {r : Int32} (h : mf_isDigit x0 m = some (r, m9)) : gz_Met mS G l yX6_isDigit cX6_isDigit 1 (some .boolean) (mRm 0 0) [.int x0] (mF m) (mF m9) (some (.int r)) :=
  gz_ofZ (plainFor_of_name mz_plain) (Nat.le_of_ble_eq_true rfl) fun X _ hX hk => wm_isDigit hX h hk
theorem mc_isDigit {X : gz_X} {G : gz_G} {cc : ByteArray} {nL fr lo pc : Nat} {lv : List (Nat × Value)} {rest st0 : List Value} (hX : gz_C mS X G cc nL RX6 fr lo) {x0 : Int32}  {m m9 : MM} {r : Int32} (h : mf_isDigit x0 m = some (r, m9)) (hroom : 0 + 1 ≤ fr ∧ 8 + (1 + 11) + 0 ≤ lo) (hst : st0 = [.int x0] ++ rest) (hW : (rest.map fun v => v.category).sum ≤ 8) (hd : decode cc pc = .ok (.invokestatic 288, 3)) (kk : gz_V mS X G nL (0, 0) (mF m9) (pc + 3) lv (.int r :: rest)) : gz_V mS X G nL (0, 0) (mF m) pc lv st0 :=
  gz_callS hX mz_E (As := [.int x0]) (rest := rest) (mt_isDigit (l := X.2.1) h) (lw_S q2157 q2158 q182 q2159) (n := 1) (by decide +kernel) hroom rfl hst hW hd (rem := (0, 0)) kk
/-! isIn(JJJ)Z -/
noncomputable def mj_X6_isIn_17  (m : MM) : Option (Int32 × MM) :=
  some ((0 : Int32), m)
theorem wb_X6_isIn_17 {X : gz_X} {G : gz_G} (hX : gz_C mS X G cX6_isIn 6 RX6 0 0)   {m : MM} {z : (Int32 × MM)} (h : mj_X6_isIn_17  m = some z) (hk : (fun z : (Int32 × MM) => gz_kZ mS X G 6 (0, 0) cX6_isIn (mF z.2) z.1) z) : gz_V mS X G 6 (0, 0) (mF m) 17 [] [] := by
  unfold mj_X6_isIn_17 at h
  refine gz_iconst (pc := 17) (v := (0 : Int32)) hX dX6_isIn_17 (by decide) ?_
  obtain rfl := Option.some.inj h
  exact hk _ _ dX6_isIn_18 (Or.inl rfl)
noncomputable def mf_isIn (x0 : Int64) (x2 : Int64) (x4 : Int64) (m : MM) : Option (Int32 × MM) :=
  (if x0 < x2 then (mj_X6_isIn_17  m) else (if x4 < x0 then (mj_X6_isIn_17  m) else some ((1 : Int32), m)))
theorem wm_isIn {X : gz_X} {G : gz_G} (hX : gz_C mS X G cX6_isIn 6 RX6 0 0) {x0 : Int64} {x2 : Int64} {x4 : Int64}  {m : MM} {z : (Int32 × MM)} (h : mf_isIn x0 x2 x4 m = some z) (hk : (fun z : (Int32 × MM) => gz_kZ mS X G 6 (0, 0) cX6_isIn (mF z.2) z.1) z) : gz_V mS X G 6 (0, 0) (mF m) 0 [(0, .long x0), (2, .long x2), (4, .long x4)] [] := by
  unfold mf_isIn at h
  refine gz_lload_n (pc := 0) hX dX6_isIn_0 rfl 0 rfl ?_
  refine gz_lload_n (pc := 1) hX dX6_isIn_1 rfl 1 rfl ?_
  refine gz_lcmp_lt (pc := 2) (tgt := 17) hX dX6_isIn_2 dX6_isIn_3 (by decide) (fun g1 => ?_) (fun g1 => ?_)
  · replace h := gz_it' g1 h
    refine gz_sub (lw := []) [] rfl ?_
    exact wb_X6_isIn_17 hX h hk
  · replace h := gz_if' g1 h
    refine gz_lload_n (pc := 6) hX dX6_isIn_6 rfl 0 rfl ?_
    refine gz_lload (pc := 7) hX dX6_isIn_7 2 rfl ?_
    refine gz_lcmp_gt (pc := 9) (tgt := 17) hX dX6_isIn_9 dX6_isIn_10 (by decide) (fun g2 => ?_) (fun g2 => ?_)
    · replace h := gz_it' g2 h
      refine gz_sub (lw := []) [] rfl ?_
      exact wb_X6_isIn_17 hX h hk
    · replace h := gz_if' g2 h
      refine gz_iconst (pc := 13) (v := (1 : Int32)) hX dX6_isIn_13 (by decide) ?_
      refine gz_goto (pc := 14) (tgt := 18) hX dX6_isIn_14 (by decide) ?_
      obtain rfl := Option.some.inj h
      exact hk _ _ dX6_isIn_18 (Or.inr rfl)
theorem mt_isIn {G : gz_G} {l : Launch} {x0 : Int64} {x2 : Int64} {x4 : Int64}  {m m9 : MM} {r : Int32} (h : mf_isIn x0 x2 x4 m = some (r, m9)) : gz_Met mS G l yX6_isIn cX6_isIn 6 (some .boolean) (mRm 0 0) [.long x0, .long x2, .long x4] (mF m) (mF m9) (some (.int r)) :=
  gz_ofZ (plainFor_of_name mz_plain) (Nat.le_of_ble_eq_true rfl) fun X _ hX hk => wm_isIn hX h hk
theorem mc_isIn {X : gz_X} {G : gz_G} {cc : ByteArray} {nL fr lo pc : Nat} {lv : List (Nat × Value)} {rest st0 : List Value} (hX : gz_C mS X G cc nL RX6 fr lo) {x0 : Int64} {x2 : Int64} {x4 : Int64}  {m m9 : MM} {r : Int32} (h : mf_isIn x0 x2 x4 m = some (r, m9)) (hroom : 0 + 1 ≤ fr ∧ 8 + (6 + 11) + 0 ≤ lo) (hst : st0 = [.long x4, .long x2, .long x0] ++ rest) (hW : (rest.map fun v => v.category).sum ≤ 8) (hd : decode cc pc = .ok (.invokestatic 294, 3)) (kk : gz_V mS X G nL (0, 0) (mF m9) (pc + 3) lv (.int r :: rest)) : gz_V mS X G nL (0, 0) (mF m) pc lv st0 :=
  gz_callS hX mz_E (As := [.long x0, .long x2, .long x4]) (rest := rest) (mt_isIn (l := X.2.1) h) (lw_S q2160 q2161 q182 q2162) (n := 3) (by decide +kernel) hroom rfl hst hW hd (rem := (0, 0)) kk
/-! number(II)I -/
noncomputable def mj_X6_number_30  (m : MM) : Option (Int32 × MM) :=
  ((mf_fail (1 : Int32) (m.1 2000 2) m).bind fun (_, m2) => some ((0 : Int32), m2))
theorem wb_X6_number_30 {X : gz_X} {G : gz_G} (hX : gz_C mS X G cX6_number 5 RX6 1 25)   {m : MM} {z : (Int32 × MM)} (h : mj_X6_number_30  m = some z) (hk : (fun z : (Int32 × MM) => gz_kI mS X G 5 (0, 0) cX6_number (mF z.2) z.1) z) : gz_V mS X G 5 (0, 0) (mF m) 30 [(0, .ref (gz_ad G 2000))] [] := by
  unfold mj_X6_number_30 at h
  refine gz_aload_n (pc := 30) hX dX6_number_30 rfl 0 rfl ?_
  refine gz_iconst (pc := 31) (v := (1 : Int32)) hX dX6_number_31 (by decide) ?_
  refine gz_aload_n (pc := 32) hX dX6_number_32 rfl 0 rfl ?_
  refine mg_2 (pc := 33) hX dX6_number_33 ?_
  obtain ⟨⟨⟨⟩, m2⟩, c3, h⟩ := gz_bd h
  refine mc_fail (pc := 36) hX c3 ⟨Nat.le_of_ble_eq_true rfl, Nat.le_of_ble_eq_true rfl⟩ (rest := []) rfl (Nat.le_of_ble_eq_true rfl) dX6_number_36 ?_
  refine gz_iconst (pc := 39) (v := (0 : Int32)) hX dX6_number_39 (by decide) ?_
  obtain rfl := Option.some.inj h
  exact hk _ _ dX6_number_40
def mP_X6_number_49 (X : gz_X) (G : gz_G) (q : (Int32 × Int32 × Int32 × Int32 × MM)) : Prop := gz_V mS X G 5 (0, 0) (mF q.2.2.2.2) 49 [(0, .ref (gz_ad G 2000)), (1, .int q.1), (2, .int q.2.1), (3, .int q.2.2.1), (4, .int q.2.2.2.1)] []
noncomputable def mj_X6_number_164 (x4 : Int32) (m : MM) : Option (Int32 × MM) :=
  some (x4, m)
theorem wb_X6_number_164 {X : gz_X} {G : gz_G} (hX : gz_C mS X G cX6_number 5 RX6 1 25) {x4 : Int32}  {m : MM} {z : (Int32 × MM)} (h : mj_X6_number_164 x4 m = some z) (hk : (fun z : (Int32 × MM) => gz_kI mS X G 5 (0, 0) cX6_number (mF z.2) z.1) z) : gz_V mS X G 5 (0, 0) (mF m) 164 [(0, .ref (gz_ad G 2000)), (4, .int x4)] [] := by
  unfold mj_X6_number_164 at h
  refine gz_iload (pc := 164) hX dX6_number_164 1 rfl ?_
  obtain rfl := Option.some.inj h
  exact hk _ _ dX6_number_166
noncomputable def mj_X6_number_129 (x1 : Int32) (x2 : Int32) (x3 : Int32) (x4 : Int32) (m : MM) : Option (Int32 × MM) :=
  gz_let (msI m 2000 4 (m.1 2000 2)) fun m1 => gz_let (msI m1 2000 10 x3) fun m2 => ((mf_isIn (x4.toInt64) (x1.toInt64) (x2.toInt64) m2).bind fun (r3, m4) => (if r3 = (0 : Int32) then ((mf_fail (2 : Int32) (m4.1 2000 10) m4).bind fun (_, m8) => (mj_X6_number_164 x4 m8)) else (mj_X6_number_164 x4 m4)))
theorem wb_X6_number_129 {X : gz_X} {G : gz_G} (hX : gz_C mS X G cX6_number 5 RX6 1 25) {x1 : Int32} {x2 : Int32} {x3 : Int32} {x4 : Int32}  {m : MM} {z : (Int32 × MM)} (h : mj_X6_number_129 x1 x2 x3 x4 m = some z) (hk : (fun z : (Int32 × MM) => gz_kI mS X G 5 (0, 0) cX6_number (mF z.2) z.1) z) : gz_V mS X G 5 (0, 0) (mF m) 129 [(0, .ref (gz_ad G 2000)), (1, .int x1), (2, .int x2), (3, .int x3), (4, .int x4)] [] := by
  unfold mj_X6_number_129 at h
  refine gz_aload_n (pc := 129) hX dX6_number_129 rfl 0 rfl ?_
  refine gz_aload_n (pc := 130) hX dX6_number_130 rfl 0 rfl ?_
  refine mg_2 (pc := 131) hX dX6_number_131 ?_
  obtain ⟨m1, em1, h⟩ := gz_lt h
  refine mp_4 (pc := 134) hX dX6_number_134 em1 ?_
  refine gz_aload_n (pc := 137) hX dX6_number_137 rfl 0 rfl ?_
  refine gz_iload_n (pc := 138) hX dX6_number_138 rfl 3 rfl ?_
  obtain ⟨m2, em2, h⟩ := gz_lt h
  refine mp_10 (pc := 139) hX dX6_number_139 em2 ?_
  refine gz_iload (pc := 142) hX dX6_number_142 4 rfl ?_
  refine gz_i2l (pc := 144) hX dX6_number_144 ?_
  refine gz_iload_n (pc := 145) hX dX6_number_145 rfl 1 rfl ?_
  refine gz_i2l (pc := 146) hX dX6_number_146 ?_
  refine gz_iload_n (pc := 147) hX dX6_number_147 rfl 2 rfl ?_
  refine gz_i2l (pc := 148) hX dX6_number_148 ?_
  obtain ⟨⟨r3, m4⟩, c5, h⟩ := gz_bd h
  refine mc_isIn (pc := 149) hX c5 ⟨Nat.le_of_ble_eq_true rfl, Nat.le_of_ble_eq_true rfl⟩ (rest := []) rfl (Nat.le_of_ble_eq_true rfl) dX6_number_149 ?_
  refine gz_if_ne (pc := 152) (tgt := 164) hX dX6_number_152 (by decide) (fun g6 => ?_) (fun g6 => ?_)
  · replace h := gz_if' g6 h
    refine gz_sub (lw := [(0, .ref (gz_ad G 2000)), (4, .int x4)]) [0, 4] rfl ?_
    exact wb_X6_number_164 hX h hk
  · replace h := gz_it' g6 h
    refine gz_aload_n (pc := 155) hX dX6_number_155 rfl 0 rfl ?_
    refine gz_iconst (pc := 156) (v := (2 : Int32)) hX dX6_number_156 (by decide) ?_
    refine gz_aload_n (pc := 157) hX dX6_number_157 rfl 0 rfl ?_
    refine mg_10 (pc := 158) hX dX6_number_158 ?_
    obtain ⟨⟨⟨⟩, m8⟩, c9, h⟩ := gz_bd h
    refine mc_fail (pc := 161) hX c9 ⟨Nat.le_of_ble_eq_true rfl, Nat.le_of_ble_eq_true rfl⟩ (rest := []) rfl (Nat.le_of_ble_eq_true rfl) dX6_number_161 ?_
    refine gz_sub (lw := [(0, .ref (gz_ad G 2000)), (4, .int x4)]) [0, 4] rfl ?_
    exact wb_X6_number_164 hX h hk
noncomputable def mb_X6_number_49 (x1 : Int32) (x2 : Int32) (x3 : Int32) (x4 : Int32) (m : MM) : Option ((Int32 × Int32 × Int32 × Int32 × MM) ⊕ (Int32 × MM)) :=
  (if (m.1 2000 3) ≤ (m.1 2000 2) then (Option.map Sum.inr (mj_X6_number_129 x1 x2 x3 x4 m)) else (if gz_in (m.1 2000 2) (1600) then ((mf_isDigit (m.1 1001 (gz_ix (m.1 2000 2))) m).bind fun (r3, m4) => (if r3 = (0 : Int32) then (Option.map Sum.inr (mj_X6_number_129 x1 x2 x3 x4 m4)) else (if ((m4.1 2000 2) - x3) = (4 : Int32) then ((mf_fail (1 : Int32) (m4.1 2000 2) m4).bind fun (_, m12) => some (Sum.inr ((0 : Int32), m12))) else (if gz_in (m4.1 2000 2) (1600) then gz_let (((((10 : Int32) * x4) + (m4.1 1001 (gz_ix (m4.1 2000 2)))) - (48 : Int32))) fun y9 => gz_let (msI m4 2000 2 ((m4.1 2000 2) + (1 : Int32))) fun m10 => some (Sum.inl (x1, x2, x3, y9, m10)) else none)))) else none))
theorem wb_X6_number_49 {X : gz_X} {G : gz_G} (hX : gz_C mS X G cX6_number 5 RX6 1 25) {x1 : Int32} {x2 : Int32} {x3 : Int32} {x4 : Int32}  {m : MM} {z : ((Int32 × Int32 × Int32 × Int32 × MM) ⊕ (Int32 × MM))} (h : mb_X6_number_49 x1 x2 x3 x4 m = some z) (hk : (Sum.elim (mP_X6_number_49 X G) (fun z : (Int32 × MM) => gz_kI mS X G 5 (0, 0) cX6_number (mF z.2) z.1)) z) : gz_V mS X G 5 (0, 0) (mF m) 49 [(0, .ref (gz_ad G 2000)), (1, .int x1), (2, .int x2), (3, .int x3), (4, .int x4)] [] := by
  unfold mb_X6_number_49 at h
  refine gz_aload_n (pc := 49) hX dX6_number_49 rfl 0 rfl ?_
  refine mg_2 (pc := 50) hX dX6_number_50 ?_
  refine gz_aload_n (pc := 53) hX dX6_number_53 rfl 0 rfl ?_
  refine mg_3 (pc := 54) hX dX6_number_54 ?_
  refine gz_icmp_ge (pc := 57) (tgt := 129) hX dX6_number_57 (by decide) (fun g1 => ?_) (fun g1 => ?_)
  · replace h := gz_it' g1 h
    obtain ⟨z0, hm0, rfl⟩ := gz_mp h
    exact wb_X6_number_129 hX hm0 hk
  · replace h := gz_if' g1 h
    refine gz_aload_n (pc := 60) hX dX6_number_60 rfl 0 rfl ?_
    refine mg_0 (pc := 61) hX dX6_number_61 ?_
    refine gz_aload_n (pc := 64) hX dX6_number_64 rfl 0 rfl ?_
    refine mg_2 (pc := 65) hX dX6_number_65 ?_
    obtain ⟨g2, h⟩ := gz_gu h
    refine mz_iald (pc := 68) (c := 1001) (n := 1600) hX rfl rfl g2 dX6_number_68 ?_
    obtain ⟨⟨r3, m4⟩, c5, h⟩ := gz_bd h
    refine mc_isDigit (pc := 69) hX c5 ⟨Nat.le_of_ble_eq_true rfl, Nat.le_of_ble_eq_true rfl⟩ (rest := []) rfl (Nat.le_of_ble_eq_true rfl) dX6_number_69 ?_
    refine gz_if_eq (pc := 72) (tgt := 129) hX dX6_number_72 (by decide) (fun g6 => ?_) (fun g6 => ?_)
    · replace h := gz_it' g6 h
      obtain ⟨z0, hm0, rfl⟩ := gz_mp h
      exact wb_X6_number_129 hX hm0 hk
    · replace h := gz_if' g6 h
      refine gz_aload_n (pc := 75) hX dX6_number_75 rfl 0 rfl ?_
      refine mg_2 (pc := 76) hX dX6_number_76 ?_
      refine gz_iload_n (pc := 79) hX dX6_number_79 rfl 3 rfl ?_
      refine gz_isub (pc := 80) hX dX6_number_80 ?_
      refine gz_iconst (pc := 81) (v := (4 : Int32)) hX dX6_number_81 (by decide) ?_
      refine gz_icmp_ne (pc := 82) (tgt := 96) hX dX6_number_82 (by decide) (fun g7 => ?_) (fun g7 => ?_)
      · replace h := gz_if' g7 h
        refine gz_bipush (pc := 96) (v := (10 : Int32)) hX dX6_number_96 (by decide) ?_
        refine gz_iload (pc := 98) hX dX6_number_98 4 rfl ?_
        refine gz_imul (pc := 100) hX dX6_number_100 ?_
        refine gz_aload_n (pc := 101) hX dX6_number_101 rfl 0 rfl ?_
        refine mg_0 (pc := 102) hX dX6_number_102 ?_
        refine gz_aload_n (pc := 105) hX dX6_number_105 rfl 0 rfl ?_
        refine mg_2 (pc := 106) hX dX6_number_106 ?_
        obtain ⟨g8, h⟩ := gz_gu h
        refine mz_iald (pc := 109) (c := 1001) (n := 1600) hX rfl rfl g8 dX6_number_109 ?_
        refine gz_iadd (pc := 110) hX dX6_number_110 ?_
        refine gz_bipush (pc := 111) (v := (48 : Int32)) hX dX6_number_111 (by decide) ?_
        refine gz_isub (pc := 113) hX dX6_number_113 ?_
        obtain ⟨y9, ey9, h⟩ := gz_lt h
        refine gz_topi ey9 ?_
        refine gz_istore (pc := 114) (lw := [(4, .int y9), (0, .ref (gz_ad G 2000)), (1, .int x1), (2, .int x2), (3, .int x3)]) hX dX6_number_114 (by decide) rfl ?_
        refine gz_aload_n (pc := 116) hX dX6_number_116 rfl 1 rfl ?_
        refine gz_dup (pc := 117) hX dX6_number_117 rfl ?_
        refine mg_2 (pc := 118) hX dX6_number_118 ?_
        refine gz_iconst (pc := 121) (v := (1 : Int32)) hX dX6_number_121 (by decide) ?_
        refine gz_iadd (pc := 122) hX dX6_number_122 ?_
        obtain ⟨m10, em10, h⟩ := gz_lt h
        refine mp_2 (pc := 123) hX dX6_number_123 em10 ?_
        refine gz_goto (pc := 126) (tgt := 49) hX dX6_number_126 (by decide) ?_
        refine gz_sub (lw := [(0, .ref (gz_ad G 2000)), (1, .int x1), (2, .int x2), (3, .int x3), (4, .int y9)]) [1, 2, 3, 4, 0] rfl ?_
        obtain rfl := Option.some.inj h
        exact hk
      · replace h := gz_it' g7 h
        refine gz_aload_n (pc := 85) hX dX6_number_85 rfl 0 rfl ?_
        refine gz_iconst (pc := 86) (v := (1 : Int32)) hX dX6_number_86 (by decide) ?_
        refine gz_aload_n (pc := 87) hX dX6_number_87 rfl 0 rfl ?_
        refine mg_2 (pc := 88) hX dX6_number_88 ?_
        obtain ⟨⟨⟨⟩, m12⟩, c13, h⟩ := gz_bd h
        refine mc_fail (pc := 91) hX c13 ⟨Nat.le_of_ble_eq_true rfl, Nat.le_of_ble_eq_true rfl⟩ (rest := []) rfl (Nat.le_of_ble_eq_true rfl) dX6_number_91 ?_
        refine gz_iconst (pc := 94) (v := (0 : Int32)) hX dX6_number_94 (by decide) ?_
        obtain rfl := Option.some.inj h
        exact hk _ _ dX6_number_95
noncomputable def ml_X6_number_49 (x1 : Int32) (x2 : Int32) (x3 : Int32) (x4 : Int32) (m : MM) : Option (Int32 × MM) := gz_loop (fun q : (Int32 × Int32 × Int32 × Int32 × MM) => mb_X6_number_49 q.1 q.2.1 q.2.2.1 q.2.2.2.1 q.2.2.2.2) (x1, x2, x3, x4, m)
theorem wl_X6_number_49 {X : gz_X} {G : gz_G} (hX : gz_C mS X G cX6_number 5 RX6 1 25) {x1 : Int32} {x2 : Int32} {x3 : Int32} {x4 : Int32}  {m : MM} {z : (Int32 × MM)} (h : ml_X6_number_49 x1 x2 x3 x4 m = some z) (hk : (fun z : (Int32 × MM) => gz_kI mS X G 5 (0, 0) cX6_number (mF z.2) z.1) z) : gz_V mS X G 5 (0, 0) (mF m) 49 [(0, .ref (gz_ad G 2000)), (1, .int x1), (2, .int x2), (3, .int x3), (4, .int x4)] [] := by
  have hp : mP_X6_number_49 X G (x1, x2, x3, x4, m) := gz_loop_ind (fun q z hz hkz => wb_X6_number_49 hX  hz hkz) h hk
  exact hp
noncomputable def mf_number (x1 : Int32) (x2 : Int32) (m : MM) : Option (Int32 × MM) :=
  (if (m.1 2000 5) = (0 : Int32) then ((mf_look m).bind fun (r2, m3) => ((mf_isDigit r2 m3).bind fun (r5, m6) => (if r5 = (0 : Int32) then (mj_X6_number_30  m6) else (if (m6.1 2000 2) = (m6.1 2000 4) then (mj_X6_number_30  m6) else (ml_X6_number_49 x1 x2 (m6.1 2000 2) (0 : Int32) m6))))) else some ((0 : Int32), m))
theorem wm_number {X : gz_X} {G : gz_G} (hX : gz_C mS X G cX6_number 5 RX6 1 25) {x1 : Int32} {x2 : Int32}  {m : MM} {z : (Int32 × MM)} (h : mf_number x1 x2 m = some z) (hk : (fun z : (Int32 × MM) => gz_kI mS X G 5 (0, 0) cX6_number (mF z.2) z.1) z) : gz_V mS X G 5 (0, 0) (mF m) 0 [(0, .ref (gz_ad G 2000)), (1, .int x1), (2, .int x2)] [] := by
  unfold mf_number at h
  refine gz_aload_n (pc := 0) hX dX6_number_0 rfl 0 rfl ?_
  refine mg_5 (pc := 1) hX dX6_number_1 ?_
  refine gz_if_eq (pc := 4) (tgt := 9) hX dX6_number_4 (by decide) (fun g1 => ?_) (fun g1 => ?_)
  · replace h := gz_it' g1 h
    refine gz_aload_n (pc := 9) hX dX6_number_9 rfl 0 rfl ?_
    obtain ⟨⟨r2, m3⟩, c4, h⟩ := gz_bd h
    refine mc_look (pc := 10) hX c4 ⟨Nat.le_of_ble_eq_true rfl, Nat.le_of_ble_eq_true rfl⟩ (rest := []) rfl (Nat.le_of_ble_eq_true rfl) dX6_number_10 ?_
    obtain ⟨⟨r5, m6⟩, c7, h⟩ := gz_bd h
    refine mc_isDigit (pc := 13) hX c7 ⟨Nat.le_of_ble_eq_true rfl, Nat.le_of_ble_eq_true rfl⟩ (rest := []) rfl (Nat.le_of_ble_eq_true rfl) dX6_number_13 ?_
    refine gz_if_eq (pc := 16) (tgt := 30) hX dX6_number_16 (by decide) (fun g8 => ?_) (fun g8 => ?_)
    · replace h := gz_it' g8 h
      refine gz_sub (lw := [(0, .ref (gz_ad G 2000))]) [0] rfl ?_
      exact wb_X6_number_30 hX h hk
    · replace h := gz_if' g8 h
      refine gz_aload_n (pc := 19) hX dX6_number_19 rfl 0 rfl ?_
      refine mg_2 (pc := 20) hX dX6_number_20 ?_
      refine gz_aload_n (pc := 23) hX dX6_number_23 rfl 0 rfl ?_
      refine mg_4 (pc := 24) hX dX6_number_24 ?_
      refine gz_icmp_ne (pc := 27) (tgt := 41) hX dX6_number_27 (by decide) (fun g9 => ?_) (fun g9 => ?_)
      · replace h := gz_if' g9 h
        refine gz_aload_n (pc := 41) hX dX6_number_41 rfl 0 rfl ?_
        refine mg_2 (pc := 42) hX dX6_number_42 ?_
        refine gz_istore_n (pc := 45) (lw := [(3, .int (m6.1 2000 2)), (0, .ref (gz_ad G 2000)), (1, .int x1), (2, .int x2)]) hX dX6_number_45 rfl (by decide) rfl ?_
        refine gz_iconst (pc := 46) (v := (0 : Int32)) hX dX6_number_46 (by decide) ?_
        refine gz_istore (pc := 47) (lw := [(4, .int (0 : Int32)), (3, .int (m6.1 2000 2)), (0, .ref (gz_ad G 2000)), (1, .int x1), (2, .int x2)]) hX dX6_number_47 (by decide) rfl ?_
        refine gz_sub (lw := [(0, .ref (gz_ad G 2000)), (1, .int x1), (2, .int x2), (3, .int (m6.1 2000 2)), (4, .int (0 : Int32))]) [2, 3, 4, 1, 0] rfl ?_
        exact wl_X6_number_49 hX h hk
      · replace h := gz_it' g9 h
        refine gz_sub (lw := [(0, .ref (gz_ad G 2000))]) [0] rfl ?_
        exact wb_X6_number_30 hX h hk
  · replace h := gz_if' g1 h
    refine gz_iconst (pc := 7) (v := (0 : Int32)) hX dX6_number_7 (by decide) ?_
    obtain rfl := Option.some.inj h
    exact hk _ _ dX6_number_8
theorem mt_number {G : gz_G} {l : Launch} {x1 : Int32} {x2 : Int32}  {m m9 : MM} {r : Int32} (h : mf_number x1 x2 m = some (r, m9)) : gz_Met mS G l yX6_number cX6_number 5 (some .int) (mRm 1 25) [.ref (gz_ad G 2000), .int x1, .int x2] (mF m) (mF m9) (some (.int r)) :=
  gz_ofI (plainFor_of_name mz_plain) (Nat.le_of_ble_eq_true rfl) fun X _ hX hk => wm_number hX h hk
theorem mc_number {X : gz_X} {G : gz_G} {cc : ByteArray} {nL fr lo pc : Nat} {lv : List (Nat × Value)} {rest st0 : List Value} (hX : gz_C mS X G cc nL RX6 fr lo) {x1 : Int32} {x2 : Int32}  {m m9 : MM} {r : Int32} (h : mf_number x1 x2 m = some (r, m9)) (hroom : 1 + 1 ≤ fr ∧ 8 + (5 + 11) + 25 ≤ lo) (hst : st0 = [.int x2, .int x1, .ref (gz_ad G 2000)] ++ rest) (hW : (rest.map fun v => v.category).sum ≤ 8) (hd : decode cc pc = .ok (.invokevirtual 331, 3)) (kk : gz_V mS X G nL (0, 0) (mF m9) (pc + 3) lv (.int r :: rest)) : gz_V mS X G nL (0, 0) (mF m) pc lv st0 :=
  gz_callV hX mz_E (As := [.int x1, .int x2]) (rest := rest) (q := (RX6, TX6, 104)) (ci := 0) (c := 2000) (mt_number (l := X.2.1) h) (lw_V q2153 q2155 qs81 q182 q2156) (n := 2) (by decide +kernel) hroom rfl rfl (by decide) rfl hst hW hd (rem := (0, 0)) kk
/-! doorTold(I)V -/
noncomputable def mf_doorTold (x1 : Int32) (m : MM) : Option (Unit × MM) :=
  ((mf_isFull (2 : Int32) (12 : Int32) x1 m).bind fun (r1, m2) => (if r1 = (0 : Int32) then ((mf_named (0 : Int32) (-1 : Int32) m2).bind fun (r5, m6) => ((mf_asks 1014 m6).bind fun (_, m9) => ((mf_named (0 : Int32) r5 m9).bind fun (r11, m12) => ((mf_asks 1015 m12).bind fun (_, m15) => ((mf_number (1 : Int32) (9 : Int32) m15).bind fun (r17, m18) => (if (m18.1 2000 5) = (0 : Int32) then (if gz_in (2 : Int32) (12) then gz_let (((3 : Int32) * (m18.1 1038 (gz_ix (2 : Int32))))) fun y22 => (if gz_in y22 (36) then gz_let (msI m18 1040 (gz_ix y22) r5) fun m24 => (if gz_in (y22 + (1 : Int32)) (36) then gz_let (msI m24 1040 (gz_ix (y22 + (1 : Int32))) r11) fun m26 => (if gz_in (y22 + (2 : Int32)) (36) then gz_let (msI m26 1040 (gz_ix (y22 + (2 : Int32))) r17) fun m28 => (if gz_in (2 : Int32) (12) then (if gz_in (2 : Int32) (12) then gz_let (msI m28 1038 (gz_ix (2 : Int32)) ((m28.1 1038 (gz_ix (2 : Int32))) + (1 : Int32))) fun m31 => some ((), m31) else none) else none) else none) else none) else none) else none) else some ((), m18))))))) else some ((), m2)))
theorem wm_doorTold {X : gz_X} {G : gz_G} (hX : gz_C mS X G cX6_doorTold 6 RX6 5 111) {x1 : Int32}  {m : MM} {z : (Unit × MM)} (h : mf_doorTold x1 m = some z) (hk : (fun z : (Unit × MM) => gz_kV mS X G 6 (0, 0) cX6_doorTold (mF z.2)) z) : gz_V mS X G 6 (0, 0) (mF m) 0 [(0, .ref (gz_ad G 2000)), (1, .int x1)] [] := by
  unfold mf_doorTold at h
  refine gz_aload_n (pc := 0) hX dX6_doorTold_0 rfl 0 rfl ?_
  refine gz_iconst (pc := 1) (v := (2 : Int32)) hX dX6_doorTold_1 (by decide) ?_
  refine gz_bipush (pc := 2) (v := (12 : Int32)) hX dX6_doorTold_2 (by decide) ?_
  refine gz_iload_n (pc := 4) hX dX6_doorTold_4 rfl 1 rfl ?_
  obtain ⟨⟨r1, m2⟩, c3, h⟩ := gz_bd h
  refine mc_isFull (pc := 5) hX c3 ⟨Nat.le_of_ble_eq_true rfl, Nat.le_of_ble_eq_true rfl⟩ (rest := []) rfl (Nat.le_of_ble_eq_true rfl) dX6_doorTold_5 ?_
  refine gz_if_eq (pc := 8) (tgt := 12) hX dX6_doorTold_8 (by decide) (fun g4 => ?_) (fun g4 => ?_)
  · replace h := gz_it' g4 h
    refine gz_aload_n (pc := 12) hX dX6_doorTold_12 rfl 0 rfl ?_
    refine gz_iconst (pc := 13) (v := (0 : Int32)) hX dX6_doorTold_13 (by decide) ?_
    refine gz_iconst (pc := 14) (v := (-1 : Int32)) hX dX6_doorTold_14 (by decide) ?_
    obtain ⟨⟨r5, m6⟩, c7, h⟩ := gz_bd h
    refine mc_named (pc := 15) hX c7 ⟨Nat.le_of_ble_eq_true rfl, Nat.le_of_ble_eq_true rfl⟩ (rest := []) rfl (Nat.le_of_ble_eq_true rfl) dX6_doorTold_15 ?_
    refine gz_istore_n (pc := 18) (lw := [(2, .int r5), (0, .ref (gz_ad G 2000)), (1, .int x1)]) hX dX6_doorTold_18 rfl (by decide) rfl ?_
    refine gz_aload_n (pc := 19) hX dX6_doorTold_19 rfl 1 rfl ?_
    refine gz_aload_n (pc := 20) hX dX6_doorTold_20 rfl 1 rfl ?_
    refine mg_13 (pc := 21) hX dX6_doorTold_21 ?_
    obtain ⟨⟨⟨⟩, m9⟩, c10, h⟩ := gz_bd h
    refine mc_asks (pc := 24) hX rfl c10 ⟨Nat.le_of_ble_eq_true rfl, Nat.le_of_ble_eq_true rfl⟩ (rest := []) rfl (Nat.le_of_ble_eq_true rfl) dX6_doorTold_24 ?_
    refine gz_aload_n (pc := 27) hX dX6_doorTold_27 rfl 1 rfl ?_
    refine gz_iconst (pc := 28) (v := (0 : Int32)) hX dX6_doorTold_28 (by decide) ?_
    refine gz_iload_n (pc := 29) hX dX6_doorTold_29 rfl 0 rfl ?_
    obtain ⟨⟨r11, m12⟩, c13, h⟩ := gz_bd h
    refine mc_named (pc := 30) hX c13 ⟨Nat.le_of_ble_eq_true rfl, Nat.le_of_ble_eq_true rfl⟩ (rest := []) rfl (Nat.le_of_ble_eq_true rfl) dX6_doorTold_30 ?_
    refine gz_istore_n (pc := 33) (lw := [(3, .int r11), (2, .int r5), (0, .ref (gz_ad G 2000)), (1, .int x1)]) hX dX6_doorTold_33 rfl (by decide) rfl ?_
    refine gz_aload_n (pc := 34) hX dX6_doorTold_34 rfl 2 rfl ?_
    refine gz_aload_n (pc := 35) hX dX6_doorTold_35 rfl 2 rfl ?_
    refine mg_14 (pc := 36) hX dX6_doorTold_36 ?_
    obtain ⟨⟨⟨⟩, m15⟩, c16, h⟩ := gz_bd h
    refine mc_asks (pc := 39) hX rfl c16 ⟨Nat.le_of_ble_eq_true rfl, Nat.le_of_ble_eq_true rfl⟩ (rest := []) rfl (Nat.le_of_ble_eq_true rfl) dX6_doorTold_39 ?_
    refine gz_aload_n (pc := 42) hX dX6_doorTold_42 rfl 2 rfl ?_
    refine gz_iconst (pc := 43) (v := (1 : Int32)) hX dX6_doorTold_43 (by decide) ?_
    refine gz_bipush (pc := 44) (v := (9 : Int32)) hX dX6_doorTold_44 (by decide) ?_
    obtain ⟨⟨r17, m18⟩, c19, h⟩ := gz_bd h
    refine mc_number (pc := 46) hX c19 ⟨Nat.le_of_ble_eq_true rfl, Nat.le_of_ble_eq_true rfl⟩ (rest := []) rfl (Nat.le_of_ble_eq_true rfl) dX6_doorTold_46 ?_
    refine gz_istore (pc := 49) (lw := [(4, .int r17), (3, .int r11), (2, .int r5), (0, .ref (gz_ad G 2000)), (1, .int x1)]) hX dX6_doorTold_49 (by decide) rfl ?_
    refine gz_aload_n (pc := 51) hX dX6_doorTold_51 rfl 3 rfl ?_
    refine mg_5 (pc := 52) hX dX6_doorTold_52 ?_
    refine gz_if_eq (pc := 55) (tgt := 59) hX dX6_doorTold_55 (by decide) (fun g20 => ?_) (fun g20 => ?_)
    · replace h := gz_it' g20 h
      refine gz_iconst (pc := 59) (v := (3 : Int32)) hX dX6_doorTold_59 (by decide) ?_
      refine gz_aload_n (pc := 60) hX dX6_doorTold_60 rfl 3 rfl ?_
      refine mg_37 (pc := 61) hX dX6_doorTold_61 ?_
      refine gz_iconst (pc := 64) (v := (2 : Int32)) hX dX6_doorTold_64 (by decide) ?_
      obtain ⟨g21, h⟩ := gz_gu h
      refine mz_iald (pc := 65) (c := 1038) (n := 12) hX rfl rfl g21 dX6_doorTold_65 ?_
      refine gz_imul (pc := 66) hX dX6_doorTold_66 ?_
      obtain ⟨y22, ey22, h⟩ := gz_lt h
      refine gz_topi ey22 ?_
      refine gz_istore (pc := 67) (lw := [(5, .int y22), (4, .int r17), (3, .int r11), (2, .int r5), (0, .ref (gz_ad G 2000)), (1, .int x1)]) hX dX6_doorTold_67 (by decide) rfl ?_
      refine gz_aload_n (pc := 69) hX dX6_doorTold_69 rfl 4 rfl ?_
      refine mg_39 (pc := 70) hX dX6_doorTold_70 ?_
      refine gz_iload (pc := 73) hX dX6_doorTold_73 0 rfl ?_
      refine gz_iload_n (pc := 75) hX dX6_doorTold_75 rfl 3 rfl ?_
      obtain ⟨g23, h⟩ := gz_gu h
      obtain ⟨m24, em24, h⟩ := gz_lt h
      refine mz_iast (pc := 76) (c := 1040) (n := 36) hX rfl rfl g23 (Nat.le_of_ble_eq_true rfl) dX6_doorTold_76 em24 ?_
      refine gz_aload_n (pc := 77) hX dX6_doorTold_77 rfl 4 rfl ?_
      refine mg_39 (pc := 78) hX dX6_doorTold_78 ?_
      refine gz_iload (pc := 81) hX dX6_doorTold_81 0 rfl ?_
      refine gz_iconst (pc := 83) (v := (1 : Int32)) hX dX6_doorTold_83 (by decide) ?_
      refine gz_iadd (pc := 84) hX dX6_doorTold_84 ?_
      refine gz_iload_n (pc := 85) hX dX6_doorTold_85 rfl 2 rfl ?_
      obtain ⟨g25, h⟩ := gz_gu h
      obtain ⟨m26, em26, h⟩ := gz_lt h
      refine mz_iast (pc := 86) (c := 1040) (n := 36) hX rfl rfl g25 (Nat.le_of_ble_eq_true rfl) dX6_doorTold_86 em26 ?_
      refine gz_aload_n (pc := 87) hX dX6_doorTold_87 rfl 4 rfl ?_
      refine mg_39 (pc := 88) hX dX6_doorTold_88 ?_
      refine gz_iload (pc := 91) hX dX6_doorTold_91 0 rfl ?_
      refine gz_iconst (pc := 93) (v := (2 : Int32)) hX dX6_doorTold_93 (by decide) ?_
      refine gz_iadd (pc := 94) hX dX6_doorTold_94 ?_
      refine gz_iload (pc := 95) hX dX6_doorTold_95 1 rfl ?_
      obtain ⟨g27, h⟩ := gz_gu h
      obtain ⟨m28, em28, h⟩ := gz_lt h
      refine mz_iast (pc := 97) (c := 1040) (n := 36) hX rfl rfl g27 (Nat.le_of_ble_eq_true rfl) dX6_doorTold_97 em28 ?_
      refine gz_aload_n (pc := 98) hX dX6_doorTold_98 rfl 4 rfl ?_
      refine mg_37 (pc := 99) hX dX6_doorTold_99 ?_
      refine gz_iconst (pc := 102) (v := (2 : Int32)) hX dX6_doorTold_102 (by decide) ?_
      refine gz_dup2_11 (pc := 103) hX dX6_doorTold_103 rfl rfl ?_
      obtain ⟨g29, h⟩ := gz_gu h
      refine mz_iald (pc := 104) (c := 1038) (n := 12) hX rfl rfl g29 dX6_doorTold_104 ?_
      refine gz_iconst (pc := 105) (v := (1 : Int32)) hX dX6_doorTold_105 (by decide) ?_
      refine gz_iadd (pc := 106) hX dX6_doorTold_106 ?_
      obtain ⟨g30, h⟩ := gz_gu h
      obtain ⟨m31, em31, h⟩ := gz_lt h
      refine mz_iast (pc := 107) (c := 1038) (n := 12) hX rfl rfl g30 (Nat.le_of_ble_eq_true rfl) dX6_doorTold_107 em31 ?_
      obtain rfl := Option.some.inj h
      exact hk _ _ dX6_doorTold_108
    · replace h := gz_if' g20 h
      obtain rfl := Option.some.inj h
      exact hk _ _ dX6_doorTold_58
  · replace h := gz_if' g4 h
    obtain rfl := Option.some.inj h
    exact hk _ _ dX6_doorTold_11
theorem mt_doorTold {G : gz_G} {l : Launch} {x1 : Int32}  {m m9 : MM} (h : mf_doorTold x1 m = some ((), m9)) : gz_Met mS G l yX6_doorTold cX6_doorTold 6 none (mRm 5 111) [.ref (gz_ad G 2000), .int x1] (mF m) (mF m9) none :=
  gz_ofV (plainFor_of_name mz_plain) (Nat.le_of_ble_eq_true rfl) fun X _ hX hk => wm_doorTold hX h hk
theorem mc_doorTold {X : gz_X} {G : gz_G} {cc : ByteArray} {nL fr lo pc : Nat} {lv : List (Nat × Value)} {rest st0 : List Value} (hX : gz_C mS X G cc nL RX6 fr lo) {x1 : Int32}  {m m9 : MM} (h : mf_doorTold x1 m = some ((), m9)) (hroom : 5 + 1 ≤ fr ∧ 8 + (6 + 11) + 111 ≤ lo) (hst : st0 = [.int x1, .ref (gz_ad G 2000)] ++ rest) (hW : (rest.map fun v => v.category).sum ≤ 8) (hd : decode cc pc = .ok (.invokevirtual 366, 3)) (kk : gz_V mS X G nL (0, 0) (mF m9) (pc + 3) lv (rest)) : gz_V mS X G nL (0, 0) (mF m) pc lv st0 :=
  gz_callV hX mz_E (As := [.int x1]) (rest := rest) (q := (RX6, TX6, 104)) (ci := 0) (c := 2000) (mt_doorTold (l := X.2.1) h) (lw_V q2141 q2143 qs78 q182 q2144) (n := 1) (by decide +kernel) hroom rfl rfl (by decide) rfl hst hW hd (rem := (0, 0)) kk
/-! thingTold(I)V -/
noncomputable def mf_thingTold (x1 : Int32) (m : MM) : Option (Unit × MM) :=
  ((mf_isFull (1 : Int32) (8 : Int32) x1 m).bind fun (r1, m2) => (if r1 = (0 : Int32) then ((mf_newName m2).bind fun (r5, m6) => ((mf_asks 1017 m6).bind fun (_, m9) => ((mf_named (0 : Int32) (-1 : Int32) m9).bind fun (r11, m12) => ((mf_asks 1018 m12).bind fun (_, m15) => ((mf_number (1 : Int32) (99 : Int32) m15).bind fun (r17, m18) => ((mf_asks 1019 m18).bind fun (_, m21) => ((mf_number (0 : Int32) (9 : Int32) m21).bind fun (r23, m24) => (if (m24.1 2000 5) = (0 : Int32) then (if gz_in (1 : Int32) (12) then gz_let ((m24.1 1038 (gz_ix (1 : Int32)))) fun y28 => (if gz_in ((8 : Int32) + y28) (32) then gz_let (msL m24 1039 (gz_ix ((8 : Int32) + y28)) r5) fun m30 => (if gz_in ((2 : Int32) * y28) (32) then gz_let (msI m30 1041 (gz_ix ((2 : Int32) * y28)) r11) fun m32 => (if gz_in (((2 : Int32) * y28) + (1 : Int32)) (32) then gz_let (msI m32 1041 (gz_ix (((2 : Int32) * y28) + (1 : Int32))) r23) fun m34 => (if gz_in y28 (8) then gz_let (msI m34 1042 (gz_ix y28) r17) fun m36 => (if gz_in (1 : Int32) (12) then (if gz_in (1 : Int32) (12) then gz_let (msI m36 1038 (gz_ix (1 : Int32)) ((m36.1 1038 (gz_ix (1 : Int32))) + (1 : Int32))) fun m39 => some ((), m39) else none) else none) else none) else none) else none) else none) else none) else some ((), m24))))))))) else some ((), m2)))
theorem wm_thingTold {X : gz_X} {G : gz_G} (hX : gz_C mS X G cX6_thingTold 8 RX6 5 111) {x1 : Int32}  {m : MM} {z : (Unit × MM)} (h : mf_thingTold x1 m = some z) (hk : (fun z : (Unit × MM) => gz_kV mS X G 8 (0, 0) cX6_thingTold (mF z.2)) z) : gz_V mS X G 8 (0, 0) (mF m) 0 [(0, .ref (gz_ad G 2000)), (1, .int x1)] [] := by
  unfold mf_thingTold at h
  refine gz_aload_n (pc := 0) hX dX6_thingTold_0 rfl 0 rfl ?_
  refine gz_iconst (pc := 1) (v := (1 : Int32)) hX dX6_thingTold_1 (by decide) ?_
  refine gz_bipush (pc := 2) (v := (8 : Int32)) hX dX6_thingTold_2 (by decide) ?_
  refine gz_iload_n (pc := 4) hX dX6_thingTold_4 rfl 1 rfl ?_
  obtain ⟨⟨r1, m2⟩, c3, h⟩ := gz_bd h
  refine mc_isFull (pc := 5) hX c3 ⟨Nat.le_of_ble_eq_true rfl, Nat.le_of_ble_eq_true rfl⟩ (rest := []) rfl (Nat.le_of_ble_eq_true rfl) dX6_thingTold_5 ?_
  refine gz_if_eq (pc := 8) (tgt := 12) hX dX6_thingTold_8 (by decide) (fun g4 => ?_) (fun g4 => ?_)
  · replace h := gz_it' g4 h
    refine gz_aload_n (pc := 12) hX dX6_thingTold_12 rfl 0 rfl ?_
    obtain ⟨⟨r5, m6⟩, c7, h⟩ := gz_bd h
    refine mc_newName (pc := 13) hX c7 ⟨Nat.le_of_ble_eq_true rfl, Nat.le_of_ble_eq_true rfl⟩ (rest := []) rfl (Nat.le_of_ble_eq_true rfl) dX6_thingTold_13 ?_
    refine gz_lstore_n (pc := 16) (lw := [(2, .long r5), (0, .ref (gz_ad G 2000)), (1, .int x1)]) hX dX6_thingTold_16 rfl (by decide) rfl ?_
    refine gz_aload_n (pc := 17) hX dX6_thingTold_17 rfl 1 rfl ?_
    refine gz_aload_n (pc := 18) hX dX6_thingTold_18 rfl 1 rfl ?_
    refine mg_16 (pc := 19) hX dX6_thingTold_19 ?_
    obtain ⟨⟨⟨⟩, m9⟩, c10, h⟩ := gz_bd h
    refine mc_asks (pc := 22) hX rfl c10 ⟨Nat.le_of_ble_eq_true rfl, Nat.le_of_ble_eq_true rfl⟩ (rest := []) rfl (Nat.le_of_ble_eq_true rfl) dX6_thingTold_22 ?_
    refine gz_aload_n (pc := 25) hX dX6_thingTold_25 rfl 1 rfl ?_
    refine gz_iconst (pc := 26) (v := (0 : Int32)) hX dX6_thingTold_26 (by decide) ?_
    refine gz_iconst (pc := 27) (v := (-1 : Int32)) hX dX6_thingTold_27 (by decide) ?_
    obtain ⟨⟨r11, m12⟩, c13, h⟩ := gz_bd h
    refine mc_named (pc := 28) hX c13 ⟨Nat.le_of_ble_eq_true rfl, Nat.le_of_ble_eq_true rfl⟩ (rest := []) rfl (Nat.le_of_ble_eq_true rfl) dX6_thingTold_28 ?_
    refine gz_istore (pc := 31) (lw := [(4, .int r11), (2, .long r5), (0, .ref (gz_ad G 2000)), (1, .int x1)]) hX dX6_thingTold_31 (by decide) rfl ?_
    refine gz_aload_n (pc := 33) hX dX6_thingTold_33 rfl 2 rfl ?_
    refine gz_aload_n (pc := 34) hX dX6_thingTold_34 rfl 2 rfl ?_
    refine mg_17 (pc := 35) hX dX6_thingTold_35 ?_
    obtain ⟨⟨⟨⟩, m15⟩, c16, h⟩ := gz_bd h
    refine mc_asks (pc := 38) hX rfl c16 ⟨Nat.le_of_ble_eq_true rfl, Nat.le_of_ble_eq_true rfl⟩ (rest := []) rfl (Nat.le_of_ble_eq_true rfl) dX6_thingTold_38 ?_
    refine gz_aload_n (pc := 41) hX dX6_thingTold_41 rfl 2 rfl ?_
    refine gz_iconst (pc := 42) (v := (1 : Int32)) hX dX6_thingTold_42 (by decide) ?_
    refine gz_bipush (pc := 43) (v := (99 : Int32)) hX dX6_thingTold_43 (by decide) ?_
    obtain ⟨⟨r17, m18⟩, c19, h⟩ := gz_bd h
    refine mc_number (pc := 45) hX c19 ⟨Nat.le_of_ble_eq_true rfl, Nat.le_of_ble_eq_true rfl⟩ (rest := []) rfl (Nat.le_of_ble_eq_true rfl) dX6_thingTold_45 ?_
    refine gz_istore (pc := 48) (lw := [(5, .int r17), (4, .int r11), (2, .long r5), (0, .ref (gz_ad G 2000)), (1, .int x1)]) hX dX6_thingTold_48 (by decide) rfl ?_
    refine gz_aload_n (pc := 50) hX dX6_thingTold_50 rfl 3 rfl ?_
    refine gz_aload_n (pc := 51) hX dX6_thingTold_51 rfl 3 rfl ?_
    refine mg_18 (pc := 52) hX dX6_thingTold_52 ?_
    obtain ⟨⟨⟨⟩, m21⟩, c22, h⟩ := gz_bd h
    refine mc_asks (pc := 55) hX rfl c22 ⟨Nat.le_of_ble_eq_true rfl, Nat.le_of_ble_eq_true rfl⟩ (rest := []) rfl (Nat.le_of_ble_eq_true rfl) dX6_thingTold_55 ?_
    refine gz_aload_n (pc := 58) hX dX6_thingTold_58 rfl 3 rfl ?_
    refine gz_iconst (pc := 59) (v := (0 : Int32)) hX dX6_thingTold_59 (by decide) ?_
    refine gz_bipush (pc := 60) (v := (9 : Int32)) hX dX6_thingTold_60 (by decide) ?_
    obtain ⟨⟨r23, m24⟩, c25, h⟩ := gz_bd h
    refine mc_number (pc := 62) hX c25 ⟨Nat.le_of_ble_eq_true rfl, Nat.le_of_ble_eq_true rfl⟩ (rest := []) rfl (Nat.le_of_ble_eq_true rfl) dX6_thingTold_62 ?_
    refine gz_istore (pc := 65) (lw := [(6, .int r23), (5, .int r17), (4, .int r11), (2, .long r5), (0, .ref (gz_ad G 2000)), (1, .int x1)]) hX dX6_thingTold_65 (by decide) rfl ?_
    refine gz_aload_n (pc := 67) hX dX6_thingTold_67 rfl 4 rfl ?_
    refine mg_5 (pc := 68) hX dX6_thingTold_68 ?_
    refine gz_if_eq (pc := 71) (tgt := 75) hX dX6_thingTold_71 (by decide) (fun g26 => ?_) (fun g26 => ?_)
    · replace h := gz_it' g26 h
      refine gz_aload_n (pc := 75) hX dX6_thingTold_75 rfl 4 rfl ?_
      refine mg_37 (pc := 76) hX dX6_thingTold_76 ?_
      refine gz_iconst (pc := 79) (v := (1 : Int32)) hX dX6_thingTold_79 (by decide) ?_
      obtain ⟨g27, h⟩ := gz_gu h
      refine mz_iald (pc := 80) (c := 1038) (n := 12) hX rfl rfl g27 dX6_thingTold_80 ?_
      obtain ⟨y28, ey28, h⟩ := gz_lt h
      refine gz_topi ey28 ?_
      refine gz_istore (pc := 81) (lw := [(7, .int y28), (6, .int r23), (5, .int r17), (4, .int r11), (2, .long r5), (0, .ref (gz_ad G 2000)), (1, .int x1)]) hX dX6_thingTold_81 (by decide) rfl ?_
      refine gz_aload_n (pc := 83) hX dX6_thingTold_83 rfl 5 rfl ?_
      refine mg_38 (pc := 84) hX dX6_thingTold_84 ?_
      refine gz_bipush (pc := 87) (v := (8 : Int32)) hX dX6_thingTold_87 (by decide) ?_
      refine gz_iload (pc := 89) hX dX6_thingTold_89 0 rfl ?_
      refine gz_iadd (pc := 91) hX dX6_thingTold_91 ?_
      refine gz_lload_n (pc := 92) hX dX6_thingTold_92 rfl 4 rfl ?_
      obtain ⟨g29, h⟩ := gz_gu h
      obtain ⟨m30, em30, h⟩ := gz_lt h
      refine mz_last (pc := 93) (c := 1039) (n := 32) hX rfl rfl g29 (Nat.le_of_ble_eq_true rfl) dX6_thingTold_93 em30 ?_
      refine gz_aload_n (pc := 94) hX dX6_thingTold_94 rfl 5 rfl ?_
      refine mg_40 (pc := 95) hX dX6_thingTold_95 ?_
      refine gz_iconst (pc := 98) (v := (2 : Int32)) hX dX6_thingTold_98 (by decide) ?_
      refine gz_iload (pc := 99) hX dX6_thingTold_99 0 rfl ?_
      refine gz_imul (pc := 101) hX dX6_thingTold_101 ?_
      refine gz_iload (pc := 102) hX dX6_thingTold_102 3 rfl ?_
      obtain ⟨g31, h⟩ := gz_gu h
      obtain ⟨m32, em32, h⟩ := gz_lt h
      refine mz_iast (pc := 104) (c := 1041) (n := 32) hX rfl rfl g31 (Nat.le_of_ble_eq_true rfl) dX6_thingTold_104 em32 ?_
      refine gz_aload_n (pc := 105) hX dX6_thingTold_105 rfl 5 rfl ?_
      refine mg_40 (pc := 106) hX dX6_thingTold_106 ?_
      refine gz_iconst (pc := 109) (v := (2 : Int32)) hX dX6_thingTold_109 (by decide) ?_
      refine gz_iload (pc := 110) hX dX6_thingTold_110 0 rfl ?_
      refine gz_imul (pc := 112) hX dX6_thingTold_112 ?_
      refine gz_iconst (pc := 113) (v := (1 : Int32)) hX dX6_thingTold_113 (by decide) ?_
      refine gz_iadd (pc := 114) hX dX6_thingTold_114 ?_
      refine gz_iload (pc := 115) hX dX6_thingTold_115 1 rfl ?_
      obtain ⟨g33, h⟩ := gz_gu h
      obtain ⟨m34, em34, h⟩ := gz_lt h
      refine mz_iast (pc := 117) (c := 1041) (n := 32) hX rfl rfl g33 (Nat.le_of_ble_eq_true rfl) dX6_thingTold_117 em34 ?_
      refine gz_aload_n (pc := 118) hX dX6_thingTold_118 rfl 5 rfl ?_
      refine mg_41 (pc := 119) hX dX6_thingTold_119 ?_
      refine gz_iload (pc := 122) hX dX6_thingTold_122 0 rfl ?_
      refine gz_iload (pc := 124) hX dX6_thingTold_124 2 rfl ?_
      obtain ⟨g35, h⟩ := gz_gu h
      obtain ⟨m36, em36, h⟩ := gz_lt h
      refine mz_iast (pc := 126) (c := 1042) (n := 8) hX rfl rfl g35 (Nat.le_of_ble_eq_true rfl) dX6_thingTold_126 em36 ?_
      refine gz_aload_n (pc := 127) hX dX6_thingTold_127 rfl 5 rfl ?_
      refine mg_37 (pc := 128) hX dX6_thingTold_128 ?_
      refine gz_iconst (pc := 131) (v := (1 : Int32)) hX dX6_thingTold_131 (by decide) ?_
      refine gz_dup2_11 (pc := 132) hX dX6_thingTold_132 rfl rfl ?_
      obtain ⟨g37, h⟩ := gz_gu h
      refine mz_iald (pc := 133) (c := 1038) (n := 12) hX rfl rfl g37 dX6_thingTold_133 ?_
      refine gz_iconst (pc := 134) (v := (1 : Int32)) hX dX6_thingTold_134 (by decide) ?_
      refine gz_iadd (pc := 135) hX dX6_thingTold_135 ?_
      obtain ⟨g38, h⟩ := gz_gu h
      obtain ⟨m39, em39, h⟩ := gz_lt h
      refine mz_iast (pc := 136) (c := 1038) (n := 12) hX rfl rfl g38 (Nat.le_of_ble_eq_true rfl) dX6_thingTold_136 em39 ?_
      obtain rfl := Option.some.inj h
      exact hk _ _ dX6_thingTold_137
    · replace h := gz_if' g26 h
      obtain rfl := Option.some.inj h
      exact hk _ _ dX6_thingTold_74
  · replace h := gz_if' g4 h
    obtain rfl := Option.some.inj h
    exact hk _ _ dX6_thingTold_11
theorem mt_thingTold {G : gz_G} {l : Launch} {x1 : Int32}  {m m9 : MM} (h : mf_thingTold x1 m = some ((), m9)) : gz_Met mS G l yX6_thingTold cX6_thingTold 8 none (mRm 5 111) [.ref (gz_ad G 2000), .int x1] (mF m) (mF m9) none :=
  gz_ofV (plainFor_of_name mz_plain) (Nat.le_of_ble_eq_true rfl) fun X _ hX hk => wm_thingTold hX h hk
theorem mc_thingTold {X : gz_X} {G : gz_G} {cc : ByteArray} {nL fr lo pc : Nat} {lv : List (Nat × Value)} {rest st0 : List Value} (hX : gz_C mS X G cc nL RX6 fr lo) {x1 : Int32}  {m m9 : MM} (h : mf_thingTold x1 m = some ((), m9)) (hroom : 5 + 1 ≤ fr ∧ 8 + (8 + 11) + 111 ≤ lo) (hst : st0 = [.int x1, .ref (gz_ad G 2000)] ++ rest) (hW : (rest.map fun v => v.category).sum ≤ 8) (hd : decode cc pc = .ok (.invokevirtual 369, 3)) (kk : gz_V mS X G nL (0, 0) (mF m9) (pc + 3) lv (rest)) : gz_V mS X G nL (0, 0) (mF m) pc lv st0 :=
  gz_callV hX mz_E (As := [.int x1]) (rest := rest) (q := (RX6, TX6, 104)) (ci := 0) (c := 2000) (mt_thingTold (l := X.2.1) h) (lw_V q2163 q2165 qs82 q182 q2166) (n := 1) (by decide +kernel) hroom rfl rfl (by decide) rfl hst hW hd (rem := (0, 0)) kk
/-! isTied(II)Z -/
def mP_X6_isTied_2 (X : gz_X) (G : gz_G) (q : (Int32 × Int32 × Int32 × MM)) : Prop := gz_V mS X G 4 (0, 0) (mF q.2.2.2) 2 [(0, .ref (gz_ad G 2000)), (1, .int q.1), (2, .int q.2.1), (3, .int q.2.2.1)] []
noncomputable def mj_X6_isTied_40 (x1 : Int32) (x2 : Int32) (x3 : Int32) (m : MM) : Option ((Int32 × Int32 × Int32 × MM) ⊕ (Int32 × MM)) :=
  gz_let (x3 + (1 : Int32)) fun y1 => some (Sum.inl (x1, x2, y1, m))
theorem wb_X6_isTied_40 {X : gz_X} {G : gz_G} (hX : gz_C mS X G cX6_isTied 4 RX6 0 0) {x1 : Int32} {x2 : Int32} {x3 : Int32}  {m : MM} {z : ((Int32 × Int32 × Int32 × MM) ⊕ (Int32 × MM))} (h : mj_X6_isTied_40 x1 x2 x3 m = some z) (hk : (Sum.elim (mP_X6_isTied_2 X G) (fun z : (Int32 × MM) => gz_kZ mS X G 4 (0, 0) cX6_isTied (mF z.2) z.1)) z) : gz_V mS X G 4 (0, 0) (mF m) 40 [(0, .ref (gz_ad G 2000)), (1, .int x1), (2, .int x2), (3, .int x3)] [] := by
  unfold mj_X6_isTied_40 at h
  obtain ⟨y1, ey1, h⟩ := gz_lt h
  refine gz_iinc (pc := 40) (v := y1) (lw := [(3, .int y1), (0, .ref (gz_ad G 2000)), (1, .int x1), (2, .int x2)]) hX dX6_isTied_40 (k := 3) rfl (by rw [ey1]; rfl) (by decide) rfl ?_
  refine gz_goto (pc := 43) (tgt := 2) hX dX6_isTied_43 (by decide) ?_
  refine gz_sub (lw := [(0, .ref (gz_ad G 2000)), (1, .int x1), (2, .int x2), (3, .int y1)]) [1, 2, 3, 0] rfl ?_
  obtain rfl := Option.some.inj h
  exact hk
noncomputable def mb_X6_isTied_2 (x1 : Int32) (x2 : Int32) (x3 : Int32) (m : MM) : Option ((Int32 × Int32 × Int32 × MM) ⊕ (Int32 × MM)) :=
  (if gz_in (3 : Int32) (12) then (if (m.1 1038 (gz_ix (3 : Int32))) ≤ x3 then some (Sum.inr ((0 : Int32), m)) else (if gz_in ((2 : Int32) * x3) (48) then (if (m.1 1043 (gz_ix ((2 : Int32) * x3))) = x1 then (if gz_in (((2 : Int32) * x3) + (1 : Int32)) (48) then (if (m.1 1043 (gz_ix (((2 : Int32) * x3) + (1 : Int32)))) = x2 then some (Sum.inr ((1 : Int32), m)) else (mj_X6_isTied_40 x1 x2 x3 m)) else none) else (mj_X6_isTied_40 x1 x2 x3 m)) else none)) else none)
theorem wb_X6_isTied_2 {X : gz_X} {G : gz_G} (hX : gz_C mS X G cX6_isTied 4 RX6 0 0) {x1 : Int32} {x2 : Int32} {x3 : Int32}  {m : MM} {z : ((Int32 × Int32 × Int32 × MM) ⊕ (Int32 × MM))} (h : mb_X6_isTied_2 x1 x2 x3 m = some z) (hk : (Sum.elim (mP_X6_isTied_2 X G) (fun z : (Int32 × MM) => gz_kZ mS X G 4 (0, 0) cX6_isTied (mF z.2) z.1)) z) : gz_V mS X G 4 (0, 0) (mF m) 2 [(0, .ref (gz_ad G 2000)), (1, .int x1), (2, .int x2), (3, .int x3)] [] := by
  unfold mb_X6_isTied_2 at h
  refine gz_iload_n (pc := 2) hX dX6_isTied_2 rfl 3 rfl ?_
  refine gz_aload_n (pc := 3) hX dX6_isTied_3 rfl 0 rfl ?_
  refine mg_37 (pc := 4) hX dX6_isTied_4 ?_
  refine gz_iconst (pc := 7) (v := (3 : Int32)) hX dX6_isTied_7 (by decide) ?_
  obtain ⟨g1, h⟩ := gz_gu h
  refine mz_iald (pc := 8) (c := 1038) (n := 12) hX rfl rfl g1 dX6_isTied_8 ?_
  refine gz_icmp_ge (pc := 9) (tgt := 46) hX dX6_isTied_9 (by decide) (fun g2 => ?_) (fun g2 => ?_)
  · replace h := gz_it' g2 h
    refine gz_iconst (pc := 46) (v := (0 : Int32)) hX dX6_isTied_46 (by decide) ?_
    obtain rfl := Option.some.inj h
    exact hk _ _ dX6_isTied_47 (Or.inl rfl)
  · replace h := gz_if' g2 h
    refine gz_aload_n (pc := 12) hX dX6_isTied_12 rfl 0 rfl ?_
    refine mg_42 (pc := 13) hX dX6_isTied_13 ?_
    refine gz_iconst (pc := 16) (v := (2 : Int32)) hX dX6_isTied_16 (by decide) ?_
    refine gz_iload_n (pc := 17) hX dX6_isTied_17 rfl 3 rfl ?_
    refine gz_imul (pc := 18) hX dX6_isTied_18 ?_
    obtain ⟨g3, h⟩ := gz_gu h
    refine mz_iald (pc := 19) (c := 1043) (n := 48) hX rfl rfl g3 dX6_isTied_19 ?_
    refine gz_iload_n (pc := 20) hX dX6_isTied_20 rfl 1 rfl ?_
    refine gz_icmp_ne (pc := 21) (tgt := 40) hX dX6_isTied_21 (by decide) (fun g4 => ?_) (fun g4 => ?_)
    · replace h := gz_if' g4 h
      exact wb_X6_isTied_40 hX h hk
    · replace h := gz_it' g4 h
      refine gz_aload_n (pc := 24) hX dX6_isTied_24 rfl 0 rfl ?_
      refine mg_42 (pc := 25) hX dX6_isTied_25 ?_
      refine gz_iconst (pc := 28) (v := (2 : Int32)) hX dX6_isTied_28 (by decide) ?_
      refine gz_iload_n (pc := 29) hX dX6_isTied_29 rfl 3 rfl ?_
      refine gz_imul (pc := 30) hX dX6_isTied_30 ?_
      refine gz_iconst (pc := 31) (v := (1 : Int32)) hX dX6_isTied_31 (by decide) ?_
      refine gz_iadd (pc := 32) hX dX6_isTied_32 ?_
      obtain ⟨g5, h⟩ := gz_gu h
      refine mz_iald (pc := 33) (c := 1043) (n := 48) hX rfl rfl g5 dX6_isTied_33 ?_
      refine gz_iload_n (pc := 34) hX dX6_isTied_34 rfl 2 rfl ?_
      refine gz_icmp_ne (pc := 35) (tgt := 40) hX dX6_isTied_35 (by decide) (fun g6 => ?_) (fun g6 => ?_)
      · replace h := gz_if' g6 h
        exact wb_X6_isTied_40 hX h hk
      · replace h := gz_it' g6 h
        refine gz_iconst (pc := 38) (v := (1 : Int32)) hX dX6_isTied_38 (by decide) ?_
        obtain rfl := Option.some.inj h
        exact hk _ _ dX6_isTied_39 (Or.inr rfl)
noncomputable def ml_X6_isTied_2 (x1 : Int32) (x2 : Int32) (x3 : Int32) (m : MM) : Option (Int32 × MM) := gz_loop (fun q : (Int32 × Int32 × Int32 × MM) => mb_X6_isTied_2 q.1 q.2.1 q.2.2.1 q.2.2.2) (x1, x2, x3, m)
theorem wl_X6_isTied_2 {X : gz_X} {G : gz_G} (hX : gz_C mS X G cX6_isTied 4 RX6 0 0) {x1 : Int32} {x2 : Int32} {x3 : Int32}  {m : MM} {z : (Int32 × MM)} (h : ml_X6_isTied_2 x1 x2 x3 m = some z) (hk : (fun z : (Int32 × MM) => gz_kZ mS X G 4 (0, 0) cX6_isTied (mF z.2) z.1) z) : gz_V mS X G 4 (0, 0) (mF m) 2 [(0, .ref (gz_ad G 2000)), (1, .int x1), (2, .int x2), (3, .int x3)] [] := by
  have hp : mP_X6_isTied_2 X G (x1, x2, x3, m) := gz_loop_ind (fun q z hz hkz => wb_X6_isTied_2 hX  hz hkz) h hk
  exact hp
noncomputable def mf_isTied (x1 : Int32) (x2 : Int32) (m : MM) : Option (Int32 × MM) :=
  (ml_X6_isTied_2 x1 x2 (0 : Int32) m)
theorem wm_isTied {X : gz_X} {G : gz_G} (hX : gz_C mS X G cX6_isTied 4 RX6 0 0) {x1 : Int32} {x2 : Int32}  {m : MM} {z : (Int32 × MM)} (h : mf_isTied x1 x2 m = some z) (hk : (fun z : (Int32 × MM) => gz_kZ mS X G 4 (0, 0) cX6_isTied (mF z.2) z.1) z) : gz_V mS X G 4 (0, 0) (mF m) 0 [(0, .ref (gz_ad G 2000)), (1, .int x1), (2, .int x2)] [] := by
  unfold mf_isTied at h
  refine gz_iconst (pc := 0) (v := (0 : Int32)) hX dX6_isTied_0 (by decide) ?_
  refine gz_istore_n (pc := 1) (lw := [(3, .int (0 : Int32)), (0, .ref (gz_ad G 2000)), (1, .int x1), (2, .int x2)]) hX dX6_isTied_1 rfl (by decide) rfl ?_
  refine gz_sub (lw := [(0, .ref (gz_ad G 2000)), (1, .int x1), (2, .int x2), (3, .int (0 : Int32))]) [1, 2, 3, 0] rfl ?_
  exact wl_X6_isTied_2 hX h hk
theorem mt_isTied {G : gz_G} {l : Launch} {x1 : Int32} {x2 : Int32}  {m m9 : MM} {r : Int32} (h : mf_isTied x1 x2 m = some (r, m9)) : gz_Met mS G l yX6_isTied cX6_isTied 4 (some .boolean) (mRm 0 0) [.ref (gz_ad G 2000), .int x1, .int x2] (mF m) (mF m9) (some (.int r)) :=
  gz_ofZ (plainFor_of_name mz_plain) (Nat.le_of_ble_eq_true rfl) fun X _ hX hk => wm_isTied hX h hk
theorem mc_isTied {X : gz_X} {G : gz_G} {cc : ByteArray} {nL fr lo pc : Nat} {lv : List (Nat × Value)} {rest st0 : List Value} (hX : gz_C mS X G cc nL RX6 fr lo) {x1 : Int32} {x2 : Int32}  {m m9 : MM} {r : Int32} (h : mf_isTied x1 x2 m = some (r, m9)) (hroom : 0 + 1 ≤ fr ∧ 8 + (4 + 11) + 0 ≤ lo) (hst : st0 = [.int x2, .int x1, .ref (gz_ad G 2000)] ++ rest) (hW : (rest.map fun v => v.category).sum ≤ 8) (hd : decode cc pc = .ok (.invokevirtual 334, 3)) (kk : gz_V mS X G nL (0, 0) (mF m9) (pc + 3) lv (.int r :: rest)) : gz_V mS X G nL (0, 0) (mF m) pc lv st0 :=
  gz_callV hX mz_E (As := [.int x1, .int x2]) (rest := rest) (q := (RX6, TX6, 104)) (ci := 0) (c := 2000) (mt_isTied (l := X.2.1) h) (lw_V q2171 q2173 qs84 q182 q2174) (n := 2) (by decide +kernel) hroom rfl rfl (by decide) rfl hst hW hd (rem := (0, 0)) kk
/-! tieTold(I)V -/
noncomputable def mj_X6_tieTold_59 (x2 : Int32) (x3 : Int32) (m : MM) : Option (Unit × MM) :=
  (if (m.1 2000 5) = (0 : Int32) then (if gz_in (3 : Int32) (12) then gz_let (((2 : Int32) * (m.1 1038 (gz_ix (3 : Int32))))) fun y3 => (if gz_in y3 (48) then gz_let (msI m 1043 (gz_ix y3) x2) fun m5 => (if gz_in (y3 + (1 : Int32)) (48) then gz_let (msI m5 1043 (gz_ix (y3 + (1 : Int32))) x3) fun m7 => (if gz_in (3 : Int32) (12) then (if gz_in (3 : Int32) (12) then gz_let (msI m7 1038 (gz_ix (3 : Int32)) ((m7.1 1038 (gz_ix (3 : Int32))) + (1 : Int32))) fun m10 => some ((), m10) else none) else none) else none) else none) else none) else some ((), m))
theorem wb_X6_tieTold_59 {X : gz_X} {G : gz_G} (hX : gz_C mS X G cX6_tieTold 5 RX6 5 111) {x2 : Int32} {x3 : Int32}  {m : MM} {z : (Unit × MM)} (h : mj_X6_tieTold_59 x2 x3 m = some z) (hk : (fun z : (Unit × MM) => gz_kV mS X G 5 (0, 0) cX6_tieTold (mF z.2)) z) : gz_V mS X G 5 (0, 0) (mF m) 59 [(0, .ref (gz_ad G 2000)), (2, .int x2), (3, .int x3)] [] := by
  unfold mj_X6_tieTold_59 at h
  refine gz_aload_n (pc := 59) hX dX6_tieTold_59 rfl 0 rfl ?_
  refine mg_5 (pc := 60) hX dX6_tieTold_60 ?_
  refine gz_if_eq (pc := 63) (tgt := 67) hX dX6_tieTold_63 (by decide) (fun g1 => ?_) (fun g1 => ?_)
  · replace h := gz_it' g1 h
    refine gz_iconst (pc := 67) (v := (2 : Int32)) hX dX6_tieTold_67 (by decide) ?_
    refine gz_aload_n (pc := 68) hX dX6_tieTold_68 rfl 0 rfl ?_
    refine mg_37 (pc := 69) hX dX6_tieTold_69 ?_
    refine gz_iconst (pc := 72) (v := (3 : Int32)) hX dX6_tieTold_72 (by decide) ?_
    obtain ⟨g2, h⟩ := gz_gu h
    refine mz_iald (pc := 73) (c := 1038) (n := 12) hX rfl rfl g2 dX6_tieTold_73 ?_
    refine gz_imul (pc := 74) hX dX6_tieTold_74 ?_
    obtain ⟨y3, ey3, h⟩ := gz_lt h
    refine gz_topi ey3 ?_
    refine gz_istore (pc := 75) (lw := [(4, .int y3), (0, .ref (gz_ad G 2000)), (2, .int x2), (3, .int x3)]) hX dX6_tieTold_75 (by decide) rfl ?_
    refine gz_aload_n (pc := 77) hX dX6_tieTold_77 rfl 1 rfl ?_
    refine mg_42 (pc := 78) hX dX6_tieTold_78 ?_
    refine gz_iload (pc := 81) hX dX6_tieTold_81 0 rfl ?_
    refine gz_iload_n (pc := 83) hX dX6_tieTold_83 rfl 2 rfl ?_
    obtain ⟨g4, h⟩ := gz_gu h
    obtain ⟨m5, em5, h⟩ := gz_lt h
    refine mz_iast (pc := 84) (c := 1043) (n := 48) hX rfl rfl g4 (Nat.le_of_ble_eq_true rfl) dX6_tieTold_84 em5 ?_
    refine gz_aload_n (pc := 85) hX dX6_tieTold_85 rfl 1 rfl ?_
    refine mg_42 (pc := 86) hX dX6_tieTold_86 ?_
    refine gz_iload (pc := 89) hX dX6_tieTold_89 0 rfl ?_
    refine gz_iconst (pc := 91) (v := (1 : Int32)) hX dX6_tieTold_91 (by decide) ?_
    refine gz_iadd (pc := 92) hX dX6_tieTold_92 ?_
    refine gz_iload_n (pc := 93) hX dX6_tieTold_93 rfl 3 rfl ?_
    obtain ⟨g6, h⟩ := gz_gu h
    obtain ⟨m7, em7, h⟩ := gz_lt h
    refine mz_iast (pc := 94) (c := 1043) (n := 48) hX rfl rfl g6 (Nat.le_of_ble_eq_true rfl) dX6_tieTold_94 em7 ?_
    refine gz_aload_n (pc := 95) hX dX6_tieTold_95 rfl 1 rfl ?_
    refine mg_37 (pc := 96) hX dX6_tieTold_96 ?_
    refine gz_iconst (pc := 99) (v := (3 : Int32)) hX dX6_tieTold_99 (by decide) ?_
    refine gz_dup2_11 (pc := 100) hX dX6_tieTold_100 rfl rfl ?_
    obtain ⟨g8, h⟩ := gz_gu h
    refine mz_iald (pc := 101) (c := 1038) (n := 12) hX rfl rfl g8 dX6_tieTold_101 ?_
    refine gz_iconst (pc := 102) (v := (1 : Int32)) hX dX6_tieTold_102 (by decide) ?_
    refine gz_iadd (pc := 103) hX dX6_tieTold_103 ?_
    obtain ⟨g9, h⟩ := gz_gu h
    obtain ⟨m10, em10, h⟩ := gz_lt h
    refine mz_iast (pc := 104) (c := 1038) (n := 12) hX rfl rfl g9 (Nat.le_of_ble_eq_true rfl) dX6_tieTold_104 em10 ?_
    obtain rfl := Option.some.inj h
    exact hk _ _ dX6_tieTold_105
  · replace h := gz_if' g1 h
    obtain rfl := Option.some.inj h
    exact hk _ _ dX6_tieTold_66
noncomputable def mf_tieTold (x1 : Int32) (m : MM) : Option (Unit × MM) :=
  ((mf_isFull (3 : Int32) (12 : Int32) x1 m).bind fun (r1, m2) => (if r1 = (0 : Int32) then ((mf_named (1 : Int32) (-1 : Int32) m2).bind fun (r5, m6) => ((mf_asks 1014 m6).bind fun (_, m9) => ((mf_named (1 : Int32) r5 m9).bind fun (r11, m12) => (if (m12.1 2000 5) = (0 : Int32) then ((mf_isTied r5 r11 m12).bind fun (r15, m16) => (if r15 = (0 : Int32) then (mj_X6_tieTold_59 r5 r11 m16) else ((mf_fail (3 : Int32) (m16.1 2000 36) m16).bind fun (_, m20) => (mj_X6_tieTold_59 r5 r11 m20)))) else (mj_X6_tieTold_59 r5 r11 m12))))) else some ((), m2)))
theorem wm_tieTold {X : gz_X} {G : gz_G} (hX : gz_C mS X G cX6_tieTold 5 RX6 5 111) {x1 : Int32}  {m : MM} {z : (Unit × MM)} (h : mf_tieTold x1 m = some z) (hk : (fun z : (Unit × MM) => gz_kV mS X G 5 (0, 0) cX6_tieTold (mF z.2)) z) : gz_V mS X G 5 (0, 0) (mF m) 0 [(0, .ref (gz_ad G 2000)), (1, .int x1)] [] := by
  unfold mf_tieTold at h
  refine gz_aload_n (pc := 0) hX dX6_tieTold_0 rfl 0 rfl ?_
  refine gz_iconst (pc := 1) (v := (3 : Int32)) hX dX6_tieTold_1 (by decide) ?_
  refine gz_bipush (pc := 2) (v := (12 : Int32)) hX dX6_tieTold_2 (by decide) ?_
  refine gz_iload_n (pc := 4) hX dX6_tieTold_4 rfl 1 rfl ?_
  obtain ⟨⟨r1, m2⟩, c3, h⟩ := gz_bd h
  refine mc_isFull (pc := 5) hX c3 ⟨Nat.le_of_ble_eq_true rfl, Nat.le_of_ble_eq_true rfl⟩ (rest := []) rfl (Nat.le_of_ble_eq_true rfl) dX6_tieTold_5 ?_
  refine gz_if_eq (pc := 8) (tgt := 12) hX dX6_tieTold_8 (by decide) (fun g4 => ?_) (fun g4 => ?_)
  · replace h := gz_it' g4 h
    refine gz_aload_n (pc := 12) hX dX6_tieTold_12 rfl 0 rfl ?_
    refine gz_iconst (pc := 13) (v := (1 : Int32)) hX dX6_tieTold_13 (by decide) ?_
    refine gz_iconst (pc := 14) (v := (-1 : Int32)) hX dX6_tieTold_14 (by decide) ?_
    obtain ⟨⟨r5, m6⟩, c7, h⟩ := gz_bd h
    refine mc_named (pc := 15) hX c7 ⟨Nat.le_of_ble_eq_true rfl, Nat.le_of_ble_eq_true rfl⟩ (rest := []) rfl (Nat.le_of_ble_eq_true rfl) dX6_tieTold_15 ?_
    refine gz_istore_n (pc := 18) (lw := [(2, .int r5), (0, .ref (gz_ad G 2000)), (1, .int x1)]) hX dX6_tieTold_18 rfl (by decide) rfl ?_
    refine gz_aload_n (pc := 19) hX dX6_tieTold_19 rfl 1 rfl ?_
    refine gz_aload_n (pc := 20) hX dX6_tieTold_20 rfl 1 rfl ?_
    refine mg_13 (pc := 21) hX dX6_tieTold_21 ?_
    obtain ⟨⟨⟨⟩, m9⟩, c10, h⟩ := gz_bd h
    refine mc_asks (pc := 24) hX rfl c10 ⟨Nat.le_of_ble_eq_true rfl, Nat.le_of_ble_eq_true rfl⟩ (rest := []) rfl (Nat.le_of_ble_eq_true rfl) dX6_tieTold_24 ?_
    refine gz_aload_n (pc := 27) hX dX6_tieTold_27 rfl 1 rfl ?_
    refine gz_iconst (pc := 28) (v := (1 : Int32)) hX dX6_tieTold_28 (by decide) ?_
    refine gz_iload_n (pc := 29) hX dX6_tieTold_29 rfl 0 rfl ?_
    obtain ⟨⟨r11, m12⟩, c13, h⟩ := gz_bd h
    refine mc_named (pc := 30) hX c13 ⟨Nat.le_of_ble_eq_true rfl, Nat.le_of_ble_eq_true rfl⟩ (rest := []) rfl (Nat.le_of_ble_eq_true rfl) dX6_tieTold_30 ?_
    refine gz_istore_n (pc := 33) (lw := [(3, .int r11), (2, .int r5), (0, .ref (gz_ad G 2000)), (1, .int x1)]) hX dX6_tieTold_33 rfl (by decide) rfl ?_
    refine gz_aload_n (pc := 34) hX dX6_tieTold_34 rfl 2 rfl ?_
    refine mg_5 (pc := 35) hX dX6_tieTold_35 ?_
    refine gz_if_ne (pc := 38) (tgt := 59) hX dX6_tieTold_38 (by decide) (fun g14 => ?_) (fun g14 => ?_)
    · replace h := gz_if' g14 h
      refine gz_sub (lw := [(0, .ref (gz_ad G 2000)), (2, .int r5), (3, .int r11)]) [2, 1, 0] rfl ?_
      exact wb_X6_tieTold_59 hX h hk
    · replace h := gz_it' g14 h
      refine gz_aload_n (pc := 41) hX dX6_tieTold_41 rfl 2 rfl ?_
      refine gz_iload_n (pc := 42) hX dX6_tieTold_42 rfl 1 rfl ?_
      refine gz_iload_n (pc := 43) hX dX6_tieTold_43 rfl 0 rfl ?_
      obtain ⟨⟨r15, m16⟩, c17, h⟩ := gz_bd h
      refine mc_isTied (pc := 44) hX c17 ⟨Nat.le_of_ble_eq_true rfl, Nat.le_of_ble_eq_true rfl⟩ (rest := []) rfl (Nat.le_of_ble_eq_true rfl) dX6_tieTold_44 ?_
      refine gz_if_eq (pc := 47) (tgt := 59) hX dX6_tieTold_47 (by decide) (fun g18 => ?_) (fun g18 => ?_)
      · replace h := gz_it' g18 h
        refine gz_sub (lw := [(0, .ref (gz_ad G 2000)), (2, .int r5), (3, .int r11)]) [2, 1, 0] rfl ?_
        exact wb_X6_tieTold_59 hX h hk
      · replace h := gz_if' g18 h
        refine gz_aload_n (pc := 50) hX dX6_tieTold_50 rfl 2 rfl ?_
        refine gz_iconst (pc := 51) (v := (3 : Int32)) hX dX6_tieTold_51 (by decide) ?_
        refine gz_aload_n (pc := 52) hX dX6_tieTold_52 rfl 2 rfl ?_
        refine mg_36 (pc := 53) hX dX6_tieTold_53 ?_
        obtain ⟨⟨⟨⟩, m20⟩, c21, h⟩ := gz_bd h
        refine mc_fail (pc := 56) hX c21 ⟨Nat.le_of_ble_eq_true rfl, Nat.le_of_ble_eq_true rfl⟩ (rest := []) rfl (Nat.le_of_ble_eq_true rfl) dX6_tieTold_56 ?_
        refine gz_sub (lw := [(0, .ref (gz_ad G 2000)), (2, .int r5), (3, .int r11)]) [2, 1, 0] rfl ?_
        exact wb_X6_tieTold_59 hX h hk
  · replace h := gz_if' g4 h
    obtain rfl := Option.some.inj h
    exact hk _ _ dX6_tieTold_11
theorem mt_tieTold {G : gz_G} {l : Launch} {x1 : Int32}  {m m9 : MM} (h : mf_tieTold x1 m = some ((), m9)) : gz_Met mS G l yX6_tieTold cX6_tieTold 5 none (mRm 5 111) [.ref (gz_ad G 2000), .int x1] (mF m) (mF m9) none :=
  gz_ofV (plainFor_of_name mz_plain) (Nat.le_of_ble_eq_true rfl) fun X _ hX hk => wm_tieTold hX h hk
theorem mc_tieTold {X : gz_X} {G : gz_G} {cc : ByteArray} {nL fr lo pc : Nat} {lv : List (Nat × Value)} {rest st0 : List Value} (hX : gz_C mS X G cc nL RX6 fr lo) {x1 : Int32}  {m m9 : MM} (h : mf_tieTold x1 m = some ((), m9)) (hroom : 5 + 1 ≤ fr ∧ 8 + (5 + 11) + 111 ≤ lo) (hst : st0 = [.int x1, .ref (gz_ad G 2000)] ++ rest) (hW : (rest.map fun v => v.category).sum ≤ 8) (hd : decode cc pc = .ok (.invokevirtual 372, 3)) (kk : gz_V mS X G nL (0, 0) (mF m9) (pc + 3) lv (rest)) : gz_V mS X G nL (0, 0) (mF m) pc lv st0 :=
  gz_callV hX mz_E (As := [.int x1]) (rest := rest) (q := (RX6, TX6, 104)) (ci := 0) (c := 2000) (mt_tieTold (l := X.2.1) h) (lw_V q2167 q2169 qs83 q182 q2170) (n := 1) (by decide +kernel) hroom rfl rfl (by decide) rfl hst hW hd (rem := (0, 0)) kk
/-! qOpens(II)V -/
noncomputable def mf_qOpens (x1 : Int32) (x2 : Int32) (m : MM) : Option (Unit × MM) :=
  (if (m.1 2000 5) = (0 : Int32) then (if (m.1 2000 96) = (6 : Int32) then ((mf_fail (4 : Int32) x2 m).bind fun (_, m8) => some ((), m8)) else gz_let (msI m 2000 96 ((m.1 2000 96) + (1 : Int32))) fun m3 => (if gz_in (m3.1 2000 95) (1700) then gz_let (msI m3 1095 (gz_ix (m3.1 2000 95)) x1) fun m5 => gz_let (msI m5 2000 95 ((m5.1 2000 95) + (1 : Int32))) fun m6 => some ((), m6) else none)) else some ((), m))
theorem wm_qOpens {X : gz_X} {G : gz_G} (hX : gz_C mS X G cX6_qOpens 3 RX6 1 22) {x1 : Int32} {x2 : Int32}  {m : MM} {z : (Unit × MM)} (h : mf_qOpens x1 x2 m = some z) (hk : (fun z : (Unit × MM) => gz_kV mS X G 3 (0, 0) cX6_qOpens (mF z.2)) z) : gz_V mS X G 3 (0, 0) (mF m) 0 [(0, .ref (gz_ad G 2000)), (1, .int x1), (2, .int x2)] [] := by
  unfold mf_qOpens at h
  refine gz_aload_n (pc := 0) hX dX6_qOpens_0 rfl 0 rfl ?_
  refine mg_5 (pc := 1) hX dX6_qOpens_1 ?_
  refine gz_if_eq (pc := 4) (tgt := 8) hX dX6_qOpens_4 (by decide) (fun g1 => ?_) (fun g1 => ?_)
  · replace h := gz_it' g1 h
    refine gz_aload_n (pc := 8) hX dX6_qOpens_8 rfl 0 rfl ?_
    refine mg_96 (pc := 9) hX dX6_qOpens_9 ?_
    refine gz_bipush (pc := 12) (v := (6 : Int32)) hX dX6_qOpens_12 (by decide) ?_
    refine gz_icmp_ne (pc := 14) (tgt := 24) hX dX6_qOpens_14 (by decide) (fun g2 => ?_) (fun g2 => ?_)
    · replace h := gz_if' g2 h
      refine gz_aload_n (pc := 24) hX dX6_qOpens_24 rfl 0 rfl ?_
      refine gz_dup (pc := 25) hX dX6_qOpens_25 rfl ?_
      refine mg_96 (pc := 26) hX dX6_qOpens_26 ?_
      refine gz_iconst (pc := 29) (v := (1 : Int32)) hX dX6_qOpens_29 (by decide) ?_
      refine gz_iadd (pc := 30) hX dX6_qOpens_30 ?_
      obtain ⟨m3, em3, h⟩ := gz_lt h
      refine mp_96 (pc := 31) hX dX6_qOpens_31 em3 ?_
      refine gz_aload_n (pc := 34) hX dX6_qOpens_34 rfl 0 rfl ?_
      refine mg_94 (pc := 35) hX dX6_qOpens_35 ?_
      refine gz_aload_n (pc := 38) hX dX6_qOpens_38 rfl 0 rfl ?_
      refine mg_95 (pc := 39) hX dX6_qOpens_39 ?_
      refine gz_iload_n (pc := 42) hX dX6_qOpens_42 rfl 1 rfl ?_
      obtain ⟨g4, h⟩ := gz_gu h
      obtain ⟨m5, em5, h⟩ := gz_lt h
      refine mz_iast (pc := 43) (c := 1095) (n := 1700) hX rfl rfl g4 (Nat.le_of_ble_eq_true rfl) dX6_qOpens_43 em5 ?_
      refine gz_aload_n (pc := 44) hX dX6_qOpens_44 rfl 0 rfl ?_
      refine gz_dup (pc := 45) hX dX6_qOpens_45 rfl ?_
      refine mg_95 (pc := 46) hX dX6_qOpens_46 ?_
      refine gz_iconst (pc := 49) (v := (1 : Int32)) hX dX6_qOpens_49 (by decide) ?_
      refine gz_iadd (pc := 50) hX dX6_qOpens_50 ?_
      obtain ⟨m6, em6, h⟩ := gz_lt h
      refine mp_95 (pc := 51) hX dX6_qOpens_51 em6 ?_
      obtain rfl := Option.some.inj h
      exact hk _ _ dX6_qOpens_54
    · replace h := gz_it' g2 h
      refine gz_aload_n (pc := 17) hX dX6_qOpens_17 rfl 0 rfl ?_
      refine gz_iconst (pc := 18) (v := (4 : Int32)) hX dX6_qOpens_18 (by decide) ?_
      refine gz_iload_n (pc := 19) hX dX6_qOpens_19 rfl 2 rfl ?_
      obtain ⟨⟨⟨⟩, m8⟩, c9, h⟩ := gz_bd h
      refine mc_fail (pc := 20) hX c9 ⟨Nat.le_of_ble_eq_true rfl, Nat.le_of_ble_eq_true rfl⟩ (rest := []) rfl (Nat.le_of_ble_eq_true rfl) dX6_qOpens_20 ?_
      obtain rfl := Option.some.inj h
      exact hk _ _ dX6_qOpens_23
  · replace h := gz_if' g1 h
    obtain rfl := Option.some.inj h
    exact hk _ _ dX6_qOpens_7
theorem mt_qOpens {G : gz_G} {l : Launch} {x1 : Int32} {x2 : Int32}  {m m9 : MM} (h : mf_qOpens x1 x2 m = some ((), m9)) : gz_Met mS G l yX6_qOpens cX6_qOpens 3 none (mRm 1 22) [.ref (gz_ad G 2000), .int x1, .int x2] (mF m) (mF m9) none :=
  gz_ofV (plainFor_of_name mz_plain) (Nat.le_of_ble_eq_true rfl) fun X _ hX hk => wm_qOpens hX h hk
theorem mc_qOpens {X : gz_X} {G : gz_G} {cc : ByteArray} {nL fr lo pc : Nat} {lv : List (Nat × Value)} {rest st0 : List Value} (hX : gz_C mS X G cc nL RX6 fr lo) {x1 : Int32} {x2 : Int32}  {m m9 : MM} (h : mf_qOpens x1 x2 m = some ((), m9)) (hroom : 1 + 1 ≤ fr ∧ 8 + (3 + 11) + 22 ≤ lo) (hst : st0 = [.int x2, .int x1, .ref (gz_ad G 2000)] ++ rest) (hW : (rest.map fun v => v.category).sum ≤ 8) (hd : decode cc pc = .ok (.invokevirtual 612, 3)) (kk : gz_V mS X G nL (0, 0) (mF m9) (pc + 3) lv (rest)) : gz_V mS X G nL (0, 0) (mF m) pc lv st0 :=
  gz_callV hX mz_E (As := [.int x1, .int x2]) (rest := rest) (q := (RX6, TX6, 104)) (ci := 0) (c := 2000) (mt_qOpens (l := X.2.1) h) (lw_V q2183 q2185 qs87 q182 q2186) (n := 2) (by decide +kernel) hroom rfl rfl (by decide) rfl hst hW hd (rem := (0, 0)) kk
/-! qCode(I)V -/
noncomputable def mf_qCode (x1 : Int32) (m : MM) : Option (Unit × MM) :=
  (if gz_in (m.1 2000 93) (1700) then gz_let (msI m 1093 (gz_ix (m.1 2000 93)) x1) fun m2 => gz_let (msI m2 2000 93 ((m2.1 2000 93) + (1 : Int32))) fun m3 => some ((), m3) else none)
theorem wm_qCode {X : gz_X} {G : gz_G} (hX : gz_C mS X G cX6_qCode 2 RX6 0 0) {x1 : Int32}  {m : MM} {z : (Unit × MM)} (h : mf_qCode x1 m = some z) (hk : (fun z : (Unit × MM) => gz_kV mS X G 2 (0, 0) cX6_qCode (mF z.2)) z) : gz_V mS X G 2 (0, 0) (mF m) 0 [(0, .ref (gz_ad G 2000)), (1, .int x1)] [] := by
  unfold mf_qCode at h
  refine gz_aload_n (pc := 0) hX dX6_qCode_0 rfl 0 rfl ?_
  refine mg_92 (pc := 1) hX dX6_qCode_1 ?_
  refine gz_aload_n (pc := 4) hX dX6_qCode_4 rfl 0 rfl ?_
  refine mg_93 (pc := 5) hX dX6_qCode_5 ?_
  refine gz_iload_n (pc := 8) hX dX6_qCode_8 rfl 1 rfl ?_
  obtain ⟨g1, h⟩ := gz_gu h
  obtain ⟨m2, em2, h⟩ := gz_lt h
  refine mz_iast (pc := 9) (c := 1093) (n := 1700) hX rfl rfl g1 (Nat.le_of_ble_eq_true rfl) dX6_qCode_9 em2 ?_
  refine gz_aload_n (pc := 10) hX dX6_qCode_10 rfl 0 rfl ?_
  refine gz_dup (pc := 11) hX dX6_qCode_11 rfl ?_
  refine mg_93 (pc := 12) hX dX6_qCode_12 ?_
  refine gz_iconst (pc := 15) (v := (1 : Int32)) hX dX6_qCode_15 (by decide) ?_
  refine gz_iadd (pc := 16) hX dX6_qCode_16 ?_
  obtain ⟨m3, em3, h⟩ := gz_lt h
  refine mp_93 (pc := 17) hX dX6_qCode_17 em3 ?_
  obtain rfl := Option.some.inj h
  exact hk _ _ dX6_qCode_20
theorem mt_qCode {G : gz_G} {l : Launch} {x1 : Int32}  {m m9 : MM} (h : mf_qCode x1 m = some ((), m9)) : gz_Met mS G l yX6_qCode cX6_qCode 2 none (mRm 0 0) [.ref (gz_ad G 2000), .int x1] (mF m) (mF m9) none :=
  gz_ofV (plainFor_of_name mz_plain) (Nat.le_of_ble_eq_true rfl) fun X _ hX hk => wm_qCode hX h hk
theorem mc_qCode {X : gz_X} {G : gz_G} {cc : ByteArray} {nL fr lo pc : Nat} {lv : List (Nat × Value)} {rest st0 : List Value} (hX : gz_C mS X G cc nL RX6 fr lo) {x1 : Int32}  {m m9 : MM} (h : mf_qCode x1 m = some ((), m9)) (hroom : 0 + 1 ≤ fr ∧ 8 + (2 + 11) + 0 ≤ lo) (hst : st0 = [.int x1, .ref (gz_ad G 2000)] ++ rest) (hW : (rest.map fun v => v.category).sum ≤ 8) (hd : decode cc pc = .ok (.invokevirtual 594, 3)) (kk : gz_V mS X G nL (0, 0) (mF m9) (pc + 3) lv (rest)) : gz_V mS X G nL (0, 0) (mF m) pc lv st0 :=
  gz_callV hX mz_E (As := [.int x1]) (rest := rest) (q := (RX6, TX6, 104)) (ci := 0) (c := 2000) (mt_qCode (l := X.2.1) h) (lw_V q2191 q2193 qs89 q182 q2194) (n := 1) (by decide +kernel) hroom rfl rfl (by decide) rfl hst hW hd (rem := (0, 0)) kk
/-! qWordHere()I -/
noncomputable def mf_qWordHere  (m : MM) : Option (Int32 × MM) :=
  ((mf_isHere 1084 m).bind fun (r1, m2) => (if r1 = (0 : Int32) then ((mf_isHere 1085 m2).bind fun (r5, m6) => (if r5 = (0 : Int32) then ((mf_isHere 1086 m6).bind fun (r9, m10) => (if r9 = (0 : Int32) then ((mf_isHere 1087 m10).bind fun (r13, m14) => (if r13 = (0 : Int32) then ((mf_isHere 1088 m14).bind fun (r17, m18) => (if r17 = (0 : Int32) then ((mf_isHere 1089 m18).bind fun (r21, m22) => (if r21 = (0 : Int32) then ((mf_isHere 1090 m22).bind fun (r25, m26) => (if r25 = (0 : Int32) then ((mf_isHere 1091 m26).bind fun (r29, m30) => (if r29 = (0 : Int32) then ((mf_isHere 1092 m30).bind fun (r33, m34) => (if r33 = (0 : Int32) then some ((-1 : Int32), m34) else some ((8 : Int32), m34))) else some ((7 : Int32), m30))) else some ((6 : Int32), m26))) else some ((5 : Int32), m22))) else some ((4 : Int32), m18))) else some ((3 : Int32), m14))) else some ((2 : Int32), m10))) else some ((1 : Int32), m6))) else some ((0 : Int32), m2)))
theorem wm_qWordHere {X : gz_X} {G : gz_G} (hX : gz_C mS X G cX6_qWordHere 1 RX6 2 43)   {m : MM} {z : (Int32 × MM)} (h : mf_qWordHere  m = some z) (hk : (fun z : (Int32 × MM) => gz_kI mS X G 1 (0, 0) cX6_qWordHere (mF z.2) z.1) z) : gz_V mS X G 1 (0, 0) (mF m) 0 [(0, .ref (gz_ad G 2000))] [] := by
  unfold mf_qWordHere at h
  refine gz_aload_n (pc := 0) hX dX6_qWordHere_0 rfl 0 rfl ?_
  refine gz_aload_n (pc := 1) hX dX6_qWordHere_1 rfl 0 rfl ?_
  refine mg_83 (pc := 2) hX dX6_qWordHere_2 ?_
  obtain ⟨⟨r1, m2⟩, c3, h⟩ := gz_bd h
  refine mc_isHere (pc := 5) hX rfl c3 ⟨Nat.le_of_ble_eq_true rfl, Nat.le_of_ble_eq_true rfl⟩ (rest := []) rfl (Nat.le_of_ble_eq_true rfl) dX6_qWordHere_5 ?_
  refine gz_if_eq (pc := 8) (tgt := 13) hX dX6_qWordHere_8 (by decide) (fun g4 => ?_) (fun g4 => ?_)
  · replace h := gz_it' g4 h
    refine gz_aload_n (pc := 13) hX dX6_qWordHere_13 rfl 0 rfl ?_
    refine gz_aload_n (pc := 14) hX dX6_qWordHere_14 rfl 0 rfl ?_
    refine mg_84 (pc := 15) hX dX6_qWordHere_15 ?_
    obtain ⟨⟨r5, m6⟩, c7, h⟩ := gz_bd h
    refine mc_isHere (pc := 18) hX rfl c7 ⟨Nat.le_of_ble_eq_true rfl, Nat.le_of_ble_eq_true rfl⟩ (rest := []) rfl (Nat.le_of_ble_eq_true rfl) dX6_qWordHere_18 ?_
    refine gz_if_eq (pc := 21) (tgt := 26) hX dX6_qWordHere_21 (by decide) (fun g8 => ?_) (fun g8 => ?_)
    · replace h := gz_it' g8 h
      refine gz_aload_n (pc := 26) hX dX6_qWordHere_26 rfl 0 rfl ?_
      refine gz_aload_n (pc := 27) hX dX6_qWordHere_27 rfl 0 rfl ?_
      refine mg_85 (pc := 28) hX dX6_qWordHere_28 ?_
      obtain ⟨⟨r9, m10⟩, c11, h⟩ := gz_bd h
      refine mc_isHere (pc := 31) hX rfl c11 ⟨Nat.le_of_ble_eq_true rfl, Nat.le_of_ble_eq_true rfl⟩ (rest := []) rfl (Nat.le_of_ble_eq_true rfl) dX6_qWordHere_31 ?_
      refine gz_if_eq (pc := 34) (tgt := 39) hX dX6_qWordHere_34 (by decide) (fun g12 => ?_) (fun g12 => ?_)
      · replace h := gz_it' g12 h
        refine gz_aload_n (pc := 39) hX dX6_qWordHere_39 rfl 0 rfl ?_
        refine gz_aload_n (pc := 40) hX dX6_qWordHere_40 rfl 0 rfl ?_
        refine mg_86 (pc := 41) hX dX6_qWordHere_41 ?_
        obtain ⟨⟨r13, m14⟩, c15, h⟩ := gz_bd h
        refine mc_isHere (pc := 44) hX rfl c15 ⟨Nat.le_of_ble_eq_true rfl, Nat.le_of_ble_eq_true rfl⟩ (rest := []) rfl (Nat.le_of_ble_eq_true rfl) dX6_qWordHere_44 ?_
        refine gz_if_eq (pc := 47) (tgt := 52) hX dX6_qWordHere_47 (by decide) (fun g16 => ?_) (fun g16 => ?_)
        · replace h := gz_it' g16 h
          refine gz_aload_n (pc := 52) hX dX6_qWordHere_52 rfl 0 rfl ?_
          refine gz_aload_n (pc := 53) hX dX6_qWordHere_53 rfl 0 rfl ?_
          refine mg_87 (pc := 54) hX dX6_qWordHere_54 ?_
          obtain ⟨⟨r17, m18⟩, c19, h⟩ := gz_bd h
          refine mc_isHere (pc := 57) hX rfl c19 ⟨Nat.le_of_ble_eq_true rfl, Nat.le_of_ble_eq_true rfl⟩ (rest := []) rfl (Nat.le_of_ble_eq_true rfl) dX6_qWordHere_57 ?_
          refine gz_if_eq (pc := 60) (tgt := 65) hX dX6_qWordHere_60 (by decide) (fun g20 => ?_) (fun g20 => ?_)
          · replace h := gz_it' g20 h
            refine gz_aload_n (pc := 65) hX dX6_qWordHere_65 rfl 0 rfl ?_
            refine gz_aload_n (pc := 66) hX dX6_qWordHere_66 rfl 0 rfl ?_
            refine mg_88 (pc := 67) hX dX6_qWordHere_67 ?_
            obtain ⟨⟨r21, m22⟩, c23, h⟩ := gz_bd h
            refine mc_isHere (pc := 70) hX rfl c23 ⟨Nat.le_of_ble_eq_true rfl, Nat.le_of_ble_eq_true rfl⟩ (rest := []) rfl (Nat.le_of_ble_eq_true rfl) dX6_qWordHere_70 ?_
            refine gz_if_eq (pc := 73) (tgt := 78) hX dX6_qWordHere_73 (by decide) (fun g24 => ?_) (fun g24 => ?_)
            · replace h := gz_it' g24 h
              refine gz_aload_n (pc := 78) hX dX6_qWordHere_78 rfl 0 rfl ?_
              refine gz_aload_n (pc := 79) hX dX6_qWordHere_79 rfl 0 rfl ?_
              refine mg_89 (pc := 80) hX dX6_qWordHere_80 ?_
              obtain ⟨⟨r25, m26⟩, c27, h⟩ := gz_bd h
              refine mc_isHere (pc := 83) hX rfl c27 ⟨Nat.le_of_ble_eq_true rfl, Nat.le_of_ble_eq_true rfl⟩ (rest := []) rfl (Nat.le_of_ble_eq_true rfl) dX6_qWordHere_83 ?_
              refine gz_if_eq (pc := 86) (tgt := 92) hX dX6_qWordHere_86 (by decide) (fun g28 => ?_) (fun g28 => ?_)
              · replace h := gz_it' g28 h
                refine gz_aload_n (pc := 92) hX dX6_qWordHere_92 rfl 0 rfl ?_
                refine gz_aload_n (pc := 93) hX dX6_qWordHere_93 rfl 0 rfl ?_
                refine mg_90 (pc := 94) hX dX6_qWordHere_94 ?_
                obtain ⟨⟨r29, m30⟩, c31, h⟩ := gz_bd h
                refine mc_isHere (pc := 97) hX rfl c31 ⟨Nat.le_of_ble_eq_true rfl, Nat.le_of_ble_eq_true rfl⟩ (rest := []) rfl (Nat.le_of_ble_eq_true rfl) dX6_qWordHere_97 ?_
                refine gz_if_eq (pc := 100) (tgt := 106) hX dX6_qWordHere_100 (by decide) (fun g32 => ?_) (fun g32 => ?_)
                · replace h := gz_it' g32 h
                  refine gz_aload_n (pc := 106) hX dX6_qWordHere_106 rfl 0 rfl ?_
                  refine gz_aload_n (pc := 107) hX dX6_qWordHere_107 rfl 0 rfl ?_
                  refine mg_91 (pc := 108) hX dX6_qWordHere_108 ?_
                  obtain ⟨⟨r33, m34⟩, c35, h⟩ := gz_bd h
                  refine mc_isHere (pc := 111) hX rfl c35 ⟨Nat.le_of_ble_eq_true rfl, Nat.le_of_ble_eq_true rfl⟩ (rest := []) rfl (Nat.le_of_ble_eq_true rfl) dX6_qWordHere_111 ?_
                  refine gz_if_eq (pc := 114) (tgt := 120) hX dX6_qWordHere_114 (by decide) (fun g36 => ?_) (fun g36 => ?_)
                  · replace h := gz_it' g36 h
                    refine gz_iconst (pc := 120) (v := (-1 : Int32)) hX dX6_qWordHere_120 (by decide) ?_
                    obtain rfl := Option.some.inj h
                    exact hk _ _ dX6_qWordHere_121
                  · replace h := gz_if' g36 h
                    refine gz_bipush (pc := 117) (v := (8 : Int32)) hX dX6_qWordHere_117 (by decide) ?_
                    obtain rfl := Option.some.inj h
                    exact hk _ _ dX6_qWordHere_119
                · replace h := gz_if' g32 h
                  refine gz_bipush (pc := 103) (v := (7 : Int32)) hX dX6_qWordHere_103 (by decide) ?_
                  obtain rfl := Option.some.inj h
                  exact hk _ _ dX6_qWordHere_105
              · replace h := gz_if' g28 h
                refine gz_bipush (pc := 89) (v := (6 : Int32)) hX dX6_qWordHere_89 (by decide) ?_
                obtain rfl := Option.some.inj h
                exact hk _ _ dX6_qWordHere_91
            · replace h := gz_if' g24 h
              refine gz_iconst (pc := 76) (v := (5 : Int32)) hX dX6_qWordHere_76 (by decide) ?_
              obtain rfl := Option.some.inj h
              exact hk _ _ dX6_qWordHere_77
          · replace h := gz_if' g20 h
            refine gz_iconst (pc := 63) (v := (4 : Int32)) hX dX6_qWordHere_63 (by decide) ?_
            obtain rfl := Option.some.inj h
            exact hk _ _ dX6_qWordHere_64
        · replace h := gz_if' g16 h
          refine gz_iconst (pc := 50) (v := (3 : Int32)) hX dX6_qWordHere_50 (by decide) ?_
          obtain rfl := Option.some.inj h
          exact hk _ _ dX6_qWordHere_51
      · replace h := gz_if' g12 h
        refine gz_iconst (pc := 37) (v := (2 : Int32)) hX dX6_qWordHere_37 (by decide) ?_
        obtain rfl := Option.some.inj h
        exact hk _ _ dX6_qWordHere_38
    · replace h := gz_if' g8 h
      refine gz_iconst (pc := 24) (v := (1 : Int32)) hX dX6_qWordHere_24 (by decide) ?_
      obtain rfl := Option.some.inj h
      exact hk _ _ dX6_qWordHere_25
  · replace h := gz_if' g4 h
    refine gz_iconst (pc := 11) (v := (0 : Int32)) hX dX6_qWordHere_11 (by decide) ?_
    obtain rfl := Option.some.inj h
    exact hk _ _ dX6_qWordHere_12
theorem mt_qWordHere {G : gz_G} {l : Launch}   {m m9 : MM} {r : Int32} (h : mf_qWordHere  m = some (r, m9)) : gz_Met mS G l yX6_qWordHere cX6_qWordHere 1 (some .int) (mRm 2 43) [.ref (gz_ad G 2000)] (mF m) (mF m9) (some (.int r)) :=
  gz_ofI (plainFor_of_name mz_plain) (Nat.le_of_ble_eq_true rfl) fun X _ hX hk => wm_qWordHere hX h hk
theorem mc_qWordHere {X : gz_X} {G : gz_G} {cc : ByteArray} {nL fr lo pc : Nat} {lv : List (Nat × Value)} {rest st0 : List Value} (hX : gz_C mS X G cc nL RX6 fr lo)   {m m9 : MM} {r : Int32} (h : mf_qWordHere  m = some (r, m9)) (hroom : 2 + 1 ≤ fr ∧ 8 + (1 + 11) + 43 ≤ lo) (hst : st0 = [.ref (gz_ad G 2000)] ++ rest) (hW : (rest.map fun v => v.category).sum ≤ 8) (hd : decode cc pc = .ok (.invokevirtual 603, 3)) (kk : gz_V mS X G nL (0, 0) (mF m9) (pc + 3) lv (.int r :: rest)) : gz_V mS X G nL (0, 0) (mF m) pc lv st0 :=
  gz_callV hX mz_E (As := []) (rest := rest) (q := (RX6, TX6, 104)) (ci := 0) (c := 2000) (mt_qWordHere (l := X.2.1) h) (lw_V q2207 q2209 qs93 q182 q2210) (n := 0) (by decide +kernel) hroom rfl rfl (by decide) rfl hst hW hd (rem := (0, 0)) kk
/-! isAllowed(I)Z -/
noncomputable def mf_isAllowed (x1 : Int32) (m : MM) : Option (Int32 × MM) :=
  (if (m.1 2000 48) = (0 : Int32) then (if (4 : Int32) ≤ x1 then some ((0 : Int32), m) else some ((1 : Int32), m)) else (if x1 = (2 : Int32) then some ((0 : Int32), m) else some ((1 : Int32), m)))
theorem wm_isAllowed {X : gz_X} {G : gz_G} (hX : gz_C mS X G cX6_isAllowed 2 RX6 0 0) {x1 : Int32}  {m : MM} {z : (Int32 × MM)} (h : mf_isAllowed x1 m = some z) (hk : (fun z : (Int32 × MM) => gz_kZ mS X G 2 (0, 0) cX6_isAllowed (mF z.2) z.1) z) : gz_V mS X G 2 (0, 0) (mF m) 0 [(0, .ref (gz_ad G 2000)), (1, .int x1)] [] := by
  unfold mf_isAllowed at h
  refine gz_aload_n (pc := 0) hX dX6_isAllowed_0 rfl 0 rfl ?_
  refine mg_48 (pc := 1) hX dX6_isAllowed_1 ?_
  refine gz_if_ne (pc := 4) (tgt := 20) hX dX6_isAllowed_4 (by decide) (fun g1 => ?_) (fun g1 => ?_)
  · replace h := gz_if' g1 h
    refine gz_iload_n (pc := 20) hX dX6_isAllowed_20 rfl 1 rfl ?_
    refine gz_iconst (pc := 21) (v := (2 : Int32)) hX dX6_isAllowed_21 (by decide) ?_
    refine gz_icmp_eq (pc := 22) (tgt := 29) hX dX6_isAllowed_22 (by decide) (fun g2 => ?_) (fun g2 => ?_)
    · replace h := gz_it' g2 h
      refine gz_iconst (pc := 29) (v := (0 : Int32)) hX dX6_isAllowed_29 (by decide) ?_
      obtain rfl := Option.some.inj h
      exact hk _ _ dX6_isAllowed_30 (Or.inl rfl)
    · replace h := gz_if' g2 h
      refine gz_iconst (pc := 25) (v := (1 : Int32)) hX dX6_isAllowed_25 (by decide) ?_
      refine gz_goto (pc := 26) (tgt := 30) hX dX6_isAllowed_26 (by decide) ?_
      obtain rfl := Option.some.inj h
      exact hk _ _ dX6_isAllowed_30 (Or.inr rfl)
  · replace h := gz_it' g1 h
    refine gz_iload_n (pc := 7) hX dX6_isAllowed_7 rfl 1 rfl ?_
    refine gz_iconst (pc := 8) (v := (4 : Int32)) hX dX6_isAllowed_8 (by decide) ?_
    refine gz_icmp_ge (pc := 9) (tgt := 16) hX dX6_isAllowed_9 (by decide) (fun g3 => ?_) (fun g3 => ?_)
    · replace h := gz_it' g3 h
      refine gz_iconst (pc := 16) (v := (0 : Int32)) hX dX6_isAllowed_16 (by decide) ?_
      refine gz_goto (pc := 17) (tgt := 30) hX dX6_isAllowed_17 (by decide) ?_
      obtain rfl := Option.some.inj h
      exact hk _ _ dX6_isAllowed_30 (Or.inl rfl)
    · replace h := gz_if' g3 h
      refine gz_iconst (pc := 12) (v := (1 : Int32)) hX dX6_isAllowed_12 (by decide) ?_
      refine gz_goto (pc := 13) (tgt := 30) hX dX6_isAllowed_13 (by decide) ?_
      obtain rfl := Option.some.inj h
      exact hk _ _ dX6_isAllowed_30 (Or.inr rfl)
theorem mt_isAllowed {G : gz_G} {l : Launch} {x1 : Int32}  {m m9 : MM} {r : Int32} (h : mf_isAllowed x1 m = some (r, m9)) : gz_Met mS G l yX6_isAllowed cX6_isAllowed 2 (some .boolean) (mRm 0 0) [.ref (gz_ad G 2000), .int x1] (mF m) (mF m9) (some (.int r)) :=
  gz_ofZ (plainFor_of_name mz_plain) (Nat.le_of_ble_eq_true rfl) fun X _ hX hk => wm_isAllowed hX h hk
theorem mc_isAllowed {X : gz_X} {G : gz_G} {cc : ByteArray} {nL fr lo pc : Nat} {lv : List (Nat × Value)} {rest st0 : List Value} (hX : gz_C mS X G cc nL RX6 fr lo) {x1 : Int32}  {m m9 : MM} {r : Int32} (h : mf_isAllowed x1 m = some (r, m9)) (hroom : 0 + 1 ≤ fr ∧ 8 + (2 + 11) + 0 ≤ lo) (hst : st0 = [.int x1, .ref (gz_ad G 2000)] ++ rest) (hW : (rest.map fun v => v.category).sum ≤ 8) (hd : decode cc pc = .ok (.invokevirtual 606, 3)) (kk : gz_V mS X G nL (0, 0) (mF m9) (pc + 3) lv (.int r :: rest)) : gz_V mS X G nL (0, 0) (mF m) pc lv st0 :=
  gz_callV hX mz_E (As := [.int x1]) (rest := rest) (q := (RX6, TX6, 104)) (ci := 0) (c := 2000) (mt_isAllowed (l := X.2.1) h) (lw_V q2211 q2213 qs94 q182 q2214) (n := 1) (by decide +kernel) hroom rfl rfl (by decide) rfl hst hW hd (rem := (0, 0)) kk
/-! qWordOf(II)I -/
noncomputable def mj_X6_qWordOf_27  (m : MM) : Option (Int32 × MM) :=
  some ((-1 : Int32), m)
theorem wb_X6_qWordOf_27 {X : gz_X} {G : gz_G} (hX : gz_C mS X G cX6_qWordOf 4 RX6 3 63)   {m : MM} {z : (Int32 × MM)} (h : mj_X6_qWordOf_27  m = some z) (hk : (fun z : (Int32 × MM) => gz_kI mS X G 4 (0, 0) cX6_qWordOf (mF z.2) z.1) z) : gz_V mS X G 4 (0, 0) (mF m) 27 [(0, .ref (gz_ad G 2000))] [] := by
  unfold mj_X6_qWordOf_27 at h
  refine gz_iconst (pc := 27) (v := (-1 : Int32)) hX dX6_qWordOf_27 (by decide) ?_
  obtain rfl := Option.some.inj h
  exact hk _ _ dX6_qWordOf_28
noncomputable def mf_qWordOf (x1 : Int32) (x2 : Int32) (m : MM) : Option (Int32 × MM) :=
  ((mf_qWordHere m).bind fun (r1, m2) => (if r1 < x1 then (mj_X6_qWordOf_27  m2) else (if x2 ≤ r1 then (mj_X6_qWordOf_27  m2) else ((mf_isAllowed r1 m2).bind fun (r6, m7) => (if r6 = (0 : Int32) then (mj_X6_qWordOf_27  m7) else some (r1, m7))))))
theorem wm_qWordOf {X : gz_X} {G : gz_G} (hX : gz_C mS X G cX6_qWordOf 4 RX6 3 63) {x1 : Int32} {x2 : Int32}  {m : MM} {z : (Int32 × MM)} (h : mf_qWordOf x1 x2 m = some z) (hk : (fun z : (Int32 × MM) => gz_kI mS X G 4 (0, 0) cX6_qWordOf (mF z.2) z.1) z) : gz_V mS X G 4 (0, 0) (mF m) 0 [(0, .ref (gz_ad G 2000)), (1, .int x1), (2, .int x2)] [] := by
  unfold mf_qWordOf at h
  refine gz_aload_n (pc := 0) hX dX6_qWordOf_0 rfl 0 rfl ?_
  obtain ⟨⟨r1, m2⟩, c3, h⟩ := gz_bd h
  refine mc_qWordHere (pc := 1) hX c3 ⟨Nat.le_of_ble_eq_true rfl, Nat.le_of_ble_eq_true rfl⟩ (rest := []) rfl (Nat.le_of_ble_eq_true rfl) dX6_qWordOf_1 ?_
  refine gz_istore_n (pc := 4) (lw := [(3, .int r1), (0, .ref (gz_ad G 2000)), (1, .int x1), (2, .int x2)]) hX dX6_qWordOf_4 rfl (by decide) rfl ?_
  refine gz_iload_n (pc := 5) hX dX6_qWordOf_5 rfl 0 rfl ?_
  refine gz_iload_n (pc := 6) hX dX6_qWordOf_6 rfl 2 rfl ?_
  refine gz_icmp_lt (pc := 7) (tgt := 27) hX dX6_qWordOf_7 (by decide) (fun g4 => ?_) (fun g4 => ?_)
  · replace h := gz_it' g4 h
    refine gz_sub (lw := [(0, .ref (gz_ad G 2000))]) [1] rfl ?_
    exact wb_X6_qWordOf_27 hX h hk
  · replace h := gz_if' g4 h
    refine gz_iload_n (pc := 10) hX dX6_qWordOf_10 rfl 0 rfl ?_
    refine gz_iload_n (pc := 11) hX dX6_qWordOf_11 rfl 3 rfl ?_
    refine gz_icmp_ge (pc := 12) (tgt := 27) hX dX6_qWordOf_12 (by decide) (fun g5 => ?_) (fun g5 => ?_)
    · replace h := gz_it' g5 h
      refine gz_sub (lw := [(0, .ref (gz_ad G 2000))]) [1] rfl ?_
      exact wb_X6_qWordOf_27 hX h hk
    · replace h := gz_if' g5 h
      refine gz_aload_n (pc := 15) hX dX6_qWordOf_15 rfl 1 rfl ?_
      refine gz_iload_n (pc := 16) hX dX6_qWordOf_16 rfl 0 rfl ?_
      obtain ⟨⟨r6, m7⟩, c8, h⟩ := gz_bd h
      refine mc_isAllowed (pc := 17) hX c8 ⟨Nat.le_of_ble_eq_true rfl, Nat.le_of_ble_eq_true rfl⟩ (rest := []) rfl (Nat.le_of_ble_eq_true rfl) dX6_qWordOf_17 ?_
      refine gz_if_eq (pc := 20) (tgt := 27) hX dX6_qWordOf_20 (by decide) (fun g9 => ?_) (fun g9 => ?_)
      · replace h := gz_it' g9 h
        refine gz_sub (lw := [(0, .ref (gz_ad G 2000))]) [1] rfl ?_
        exact wb_X6_qWordOf_27 hX h hk
      · replace h := gz_if' g9 h
        refine gz_iload_n (pc := 23) hX dX6_qWordOf_23 rfl 0 rfl ?_
        refine gz_goto (pc := 24) (tgt := 28) hX dX6_qWordOf_24 (by decide) ?_
        obtain rfl := Option.some.inj h
        exact hk _ _ dX6_qWordOf_28
theorem mt_qWordOf {G : gz_G} {l : Launch} {x1 : Int32} {x2 : Int32}  {m m9 : MM} {r : Int32} (h : mf_qWordOf x1 x2 m = some (r, m9)) : gz_Met mS G l yX6_qWordOf cX6_qWordOf 4 (some .int) (mRm 3 63) [.ref (gz_ad G 2000), .int x1, .int x2] (mF m) (mF m9) (some (.int r)) :=
  gz_ofI (plainFor_of_name mz_plain) (Nat.le_of_ble_eq_true rfl) fun X _ hX hk => wm_qWordOf hX h hk
theorem mc_qWordOf {X : gz_X} {G : gz_G} {cc : ByteArray} {nL fr lo pc : Nat} {lv : List (Nat × Value)} {rest st0 : List Value} (hX : gz_C mS X G cc nL RX6 fr lo) {x1 : Int32} {x2 : Int32}  {m m9 : MM} {r : Int32} (h : mf_qWordOf x1 x2 m = some (r, m9)) (hroom : 3 + 1 ≤ fr ∧ 8 + (4 + 11) + 63 ≤ lo) (hst : st0 = [.int x2, .int x1, .ref (gz_ad G 2000)] ++ rest) (hW : (rest.map fun v => v.category).sum ≤ 8) (hd : decode cc pc = .ok (.invokevirtual 609, 3)) (kk : gz_V mS X G nL (0, 0) (mF m9) (pc + 3) lv (.int r :: rest)) : gz_V mS X G nL (0, 0) (mF m) pc lv st0 :=
  gz_callV hX mz_E (As := [.int x1, .int x2]) (rest := rest) (q := (RX6, TX6, 104)) (ci := 0) (c := 2000) (mt_qWordOf (l := X.2.1) h) (lw_V q2203 q2205 qs92 q182 q2206) (n := 2) (by decide +kernel) hroom rfl rfl (by decide) rfl hst hW hd (rem := (0, 0)) kk
/-! takesSign(I)Z -/
noncomputable def mj_X6_takesSign_15  (m : MM) : Option (Int32 × MM) :=
  some ((0 : Int32), m)
theorem wb_X6_takesSign_15 {X : gz_X} {G : gz_G} (hX : gz_C mS X G cX6_takesSign 2 RX6 1 20)   {m : MM} {z : (Int32 × MM)} (h : mj_X6_takesSign_15  m = some z) (hk : (fun z : (Int32 × MM) => gz_kZ mS X G 2 (0, 0) cX6_takesSign (mF z.2) z.1) z) : gz_V mS X G 2 (0, 0) (mF m) 15 [(0, .ref (gz_ad G 2000))] [] := by
  unfold mj_X6_takesSign_15 at h
  refine gz_iconst (pc := 15) (v := (0 : Int32)) hX dX6_takesSign_15 (by decide) ?_
  obtain rfl := Option.some.inj h
  exact hk _ _ dX6_takesSign_16 (Or.inl rfl)
noncomputable def mf_takesSign (x1 : Int32) (m : MM) : Option (Int32 × MM) :=
  (if (m.1 2000 5) = (0 : Int32) then ((mf_look m).bind fun (r2, m3) => (if r2 = x1 then gz_let (msI m3 2000 2 ((m3.1 2000 2) + (1 : Int32))) fun m6 => some ((1 : Int32), m6) else (mj_X6_takesSign_15  m3))) else (mj_X6_takesSign_15  m))
theorem wm_takesSign {X : gz_X} {G : gz_G} (hX : gz_C mS X G cX6_takesSign 2 RX6 1 20) {x1 : Int32}  {m : MM} {z : (Int32 × MM)} (h : mf_takesSign x1 m = some z) (hk : (fun z : (Int32 × MM) => gz_kZ mS X G 2 (0, 0) cX6_takesSign (mF z.2) z.1) z) : gz_V mS X G 2 (0, 0) (mF m) 0 [(0, .ref (gz_ad G 2000)), (1, .int x1)] [] := by
  unfold mf_takesSign at h
  refine gz_aload_n (pc := 0) hX dX6_takesSign_0 rfl 0 rfl ?_
  refine mg_5 (pc := 1) hX dX6_takesSign_1 ?_
  refine gz_if_ne (pc := 4) (tgt := 15) hX dX6_takesSign_4 (by decide) (fun g1 => ?_) (fun g1 => ?_)
  · replace h := gz_if' g1 h
    refine gz_sub (lw := [(0, .ref (gz_ad G 2000))]) [0] rfl ?_
    exact wb_X6_takesSign_15 hX h hk
  · replace h := gz_it' g1 h
    refine gz_aload_n (pc := 7) hX dX6_takesSign_7 rfl 0 rfl ?_
    obtain ⟨⟨r2, m3⟩, c4, h⟩ := gz_bd h
    refine mc_look (pc := 8) hX c4 ⟨Nat.le_of_ble_eq_true rfl, Nat.le_of_ble_eq_true rfl⟩ (rest := []) rfl (Nat.le_of_ble_eq_true rfl) dX6_takesSign_8 ?_
    refine gz_iload_n (pc := 11) hX dX6_takesSign_11 rfl 1 rfl ?_
    refine gz_icmp_eq (pc := 12) (tgt := 17) hX dX6_takesSign_12 (by decide) (fun g5 => ?_) (fun g5 => ?_)
    · replace h := gz_it' g5 h
      refine gz_aload_n (pc := 17) hX dX6_takesSign_17 rfl 0 rfl ?_
      refine gz_dup (pc := 18) hX dX6_takesSign_18 rfl ?_
      refine mg_2 (pc := 19) hX dX6_takesSign_19 ?_
      refine gz_iconst (pc := 22) (v := (1 : Int32)) hX dX6_takesSign_22 (by decide) ?_
      refine gz_iadd (pc := 23) hX dX6_takesSign_23 ?_
      obtain ⟨m6, em6, h⟩ := gz_lt h
      refine mp_2 (pc := 24) hX dX6_takesSign_24 em6 ?_
      refine gz_iconst (pc := 27) (v := (1 : Int32)) hX dX6_takesSign_27 (by decide) ?_
      obtain rfl := Option.some.inj h
      exact hk _ _ dX6_takesSign_28 (Or.inr rfl)
    · replace h := gz_if' g5 h
      refine gz_sub (lw := [(0, .ref (gz_ad G 2000))]) [0] rfl ?_
      exact wb_X6_takesSign_15 hX h hk
theorem mt_takesSign {G : gz_G} {l : Launch} {x1 : Int32}  {m m9 : MM} {r : Int32} (h : mf_takesSign x1 m = some (r, m9)) : gz_Met mS G l yX6_takesSign cX6_takesSign 2 (some .boolean) (mRm 1 20) [.ref (gz_ad G 2000), .int x1] (mF m) (mF m9) (some (.int r)) :=
  gz_ofZ (plainFor_of_name mz_plain) (Nat.le_of_ble_eq_true rfl) fun X _ hX hk => wm_takesSign hX h hk
theorem mc_takesSign {X : gz_X} {G : gz_G} {cc : ByteArray} {nL fr lo pc : Nat} {lv : List (Nat × Value)} {rest st0 : List Value} (hX : gz_C mS X G cc nL RX6 fr lo) {x1 : Int32}  {m m9 : MM} {r : Int32} (h : mf_takesSign x1 m = some (r, m9)) (hroom : 1 + 1 ≤ fr ∧ 8 + (2 + 11) + 20 ≤ lo) (hst : st0 = [.int x1, .ref (gz_ad G 2000)] ++ rest) (hW : (rest.map fun v => v.category).sum ≤ 8) (hd : decode cc pc = .ok (.invokevirtual 285, 3)) (kk : gz_V mS X G nL (0, 0) (mF m9) (pc + 3) lv (.int r :: rest)) : gz_V mS X G nL (0, 0) (mF m) pc lv st0 :=
  gz_callV hX mz_E (As := [.int x1]) (rest := rest) (q := (RX6, TX6, 104)) (ci := 0) (c := 2000) (mt_takesSign (l := X.2.1) h) (lw_V q2219 q2221 qs96 q182 q2222) (n := 1) (by decide +kernel) hroom rfl rfl (by decide) rfl hst hW hd (rem := (0, 0)) kk
/-! asksSign(I)V -/
noncomputable def mf_asksSign (x1 : Int32) (m : MM) : Option (Unit × MM) :=
  (if (m.1 2000 5) = (0 : Int32) then ((mf_takesSign x1 m).bind fun (r2, m3) => (if r2 = (0 : Int32) then ((mf_fail (1 : Int32) (m3.1 2000 2) m3).bind fun (_, m7) => some ((), m7)) else some ((), m3))) else some ((), m))
theorem wm_asksSign {X : gz_X} {G : gz_G} (hX : gz_C mS X G cX6_asksSign 2 RX6 2 41) {x1 : Int32}  {m : MM} {z : (Unit × MM)} (h : mf_asksSign x1 m = some z) (hk : (fun z : (Unit × MM) => gz_kV mS X G 2 (0, 0) cX6_asksSign (mF z.2)) z) : gz_V mS X G 2 (0, 0) (mF m) 0 [(0, .ref (gz_ad G 2000)), (1, .int x1)] [] := by
  unfold mf_asksSign at h
  refine gz_aload_n (pc := 0) hX dX6_asksSign_0 rfl 0 rfl ?_
  refine mg_5 (pc := 1) hX dX6_asksSign_1 ?_
  refine gz_if_ne (pc := 4) (tgt := 24) hX dX6_asksSign_4 (by decide) (fun g1 => ?_) (fun g1 => ?_)
  · replace h := gz_if' g1 h
    obtain rfl := Option.some.inj h
    exact hk _ _ dX6_asksSign_24
  · replace h := gz_it' g1 h
    refine gz_aload_n (pc := 7) hX dX6_asksSign_7 rfl 0 rfl ?_
    refine gz_iload_n (pc := 8) hX dX6_asksSign_8 rfl 1 rfl ?_
    obtain ⟨⟨r2, m3⟩, c4, h⟩ := gz_bd h
    refine mc_takesSign (pc := 9) hX c4 ⟨Nat.le_of_ble_eq_true rfl, Nat.le_of_ble_eq_true rfl⟩ (rest := []) rfl (Nat.le_of_ble_eq_true rfl) dX6_asksSign_9 ?_
    refine gz_if_ne (pc := 12) (tgt := 24) hX dX6_asksSign_12 (by decide) (fun g5 => ?_) (fun g5 => ?_)
    · replace h := gz_if' g5 h
      obtain rfl := Option.some.inj h
      exact hk _ _ dX6_asksSign_24
    · replace h := gz_it' g5 h
      refine gz_aload_n (pc := 15) hX dX6_asksSign_15 rfl 0 rfl ?_
      refine gz_iconst (pc := 16) (v := (1 : Int32)) hX dX6_asksSign_16 (by decide) ?_
      refine gz_aload_n (pc := 17) hX dX6_asksSign_17 rfl 0 rfl ?_
      refine mg_2 (pc := 18) hX dX6_asksSign_18 ?_
      obtain ⟨⟨⟨⟩, m7⟩, c8, h⟩ := gz_bd h
      refine mc_fail (pc := 21) hX c8 ⟨Nat.le_of_ble_eq_true rfl, Nat.le_of_ble_eq_true rfl⟩ (rest := []) rfl (Nat.le_of_ble_eq_true rfl) dX6_asksSign_21 ?_
      obtain rfl := Option.some.inj h
      exact hk _ _ dX6_asksSign_24
theorem mt_asksSign {G : gz_G} {l : Launch} {x1 : Int32}  {m m9 : MM} (h : mf_asksSign x1 m = some ((), m9)) : gz_Met mS G l yX6_asksSign cX6_asksSign 2 none (mRm 2 41) [.ref (gz_ad G 2000), .int x1] (mF m) (mF m9) none :=
  gz_ofV (plainFor_of_name mz_plain) (Nat.le_of_ble_eq_true rfl) fun X _ hX hk => wm_asksSign hX h hk
theorem mc_asksSign {X : gz_X} {G : gz_G} {cc : ByteArray} {nL fr lo pc : Nat} {lv : List (Nat × Value)} {rest st0 : List Value} (hX : gz_C mS X G cc nL RX6 fr lo) {x1 : Int32}  {m m9 : MM} (h : mf_asksSign x1 m = some ((), m9)) (hroom : 2 + 1 ≤ fr ∧ 8 + (2 + 11) + 41 ≤ lo) (hst : st0 = [.int x1, .ref (gz_ad G 2000)] ++ rest) (hW : (rest.map fun v => v.category).sum ≤ 8) (hd : decode cc pc = .ok (.invokevirtual 378, 3)) (kk : gz_V mS X G nL (0, 0) (mF m9) (pc + 3) lv (rest)) : gz_V mS X G nL (0, 0) (mF m) pc lv st0 :=
  gz_callV hX mz_E (As := [.int x1]) (rest := rest) (q := (RX6, TX6, 104)) (ci := 0) (c := 2000) (mt_asksSign (l := X.2.1) h) (lw_V q2215 q2217 qs95 q182 q2218) (n := 1) (by decide +kernel) hroom rfl rfl (by decide) rfl hst hW hd (rem := (0, 0)) kk
/-! qAsksWord(I)V -/
noncomputable def mf_qAsksWord (x1 : Int32) (m : MM) : Option (Unit × MM) :=
  (if x1 = (0 : Int32) then ((mf_asks 1084 m).bind fun (_, m3) => some ((), m3)) else (if x1 = (1 : Int32) then ((mf_asks 1085 m).bind fun (_, m7) => some ((), m7)) else (if x1 = (2 : Int32) then ((mf_asks 1086 m).bind fun (_, m11) => some ((), m11)) else (if x1 = (3 : Int32) then ((mf_asks 1087 m).bind fun (_, m15) => some ((), m15)) else (if x1 = (4 : Int32) then ((mf_asks 1088 m).bind fun (_, m19) => some ((), m19)) else (if x1 = (5 : Int32) then ((mf_asks 1089 m).bind fun (_, m23) => some ((), m23)) else (if x1 = (6 : Int32) then ((mf_asks 1090 m).bind fun (_, m27) => some ((), m27)) else (if x1 = (7 : Int32) then ((mf_asks 1091 m).bind fun (_, m31) => some ((), m31)) else ((mf_asks 1092 m).bind fun (_, m35) => some ((), m35))))))))))
theorem wm_qAsksWord {X : gz_X} {G : gz_G} (hX : gz_C mS X G cX6_qAsksWord 2 RX6 4 85) {x1 : Int32}  {m : MM} {z : (Unit × MM)} (h : mf_qAsksWord x1 m = some z) (hk : (fun z : (Unit × MM) => gz_kV mS X G 2 (0, 0) cX6_qAsksWord (mF z.2)) z) : gz_V mS X G 2 (0, 0) (mF m) 0 [(0, .ref (gz_ad G 2000)), (1, .int x1)] [] := by
  unfold mf_qAsksWord at h
  refine gz_iload_n (pc := 0) hX dX6_qAsksWord_0 rfl 1 rfl ?_
  by_cases g1 : x1 = (0 : Int32)
  · replace h := gz_it' g1 h
    refine gz_tsIn (pc := 1) (tgt := 48) (off := 47) (v := (0 : Int32)) hX g1 dX6_qAsksWord_1 (by decide) (by decide) ?_
    refine gz_aload_n (pc := 48) hX dX6_qAsksWord_48 rfl 0 rfl ?_
    refine gz_aload_n (pc := 49) hX dX6_qAsksWord_49 rfl 0 rfl ?_
    refine mg_83 (pc := 50) hX dX6_qAsksWord_50 ?_
    obtain ⟨⟨⟨⟩, m3⟩, c4, h⟩ := gz_bd h
    refine mc_asks (pc := 53) hX rfl c4 ⟨Nat.le_of_ble_eq_true rfl, Nat.le_of_ble_eq_true rfl⟩ (rest := []) rfl (Nat.le_of_ble_eq_true rfl) dX6_qAsksWord_53 ?_
    refine gz_goto (pc := 56) (tgt := 144) hX dX6_qAsksWord_56 (by decide) ?_
    obtain rfl := Option.some.inj h
    exact hk _ _ dX6_qAsksWord_144
  · replace h := gz_if' g1 h
    by_cases g5 : x1 = (1 : Int32)
    · replace h := gz_it' g5 h
      refine gz_tsIn (pc := 1) (tgt := 59) (off := 58) (v := (1 : Int32)) hX g5 dX6_qAsksWord_1 (by decide) (by decide) ?_
      refine gz_aload_n (pc := 59) hX dX6_qAsksWord_59 rfl 0 rfl ?_
      refine gz_aload_n (pc := 60) hX dX6_qAsksWord_60 rfl 0 rfl ?_
      refine mg_84 (pc := 61) hX dX6_qAsksWord_61 ?_
      obtain ⟨⟨⟨⟩, m7⟩, c8, h⟩ := gz_bd h
      refine mc_asks (pc := 64) hX rfl c8 ⟨Nat.le_of_ble_eq_true rfl, Nat.le_of_ble_eq_true rfl⟩ (rest := []) rfl (Nat.le_of_ble_eq_true rfl) dX6_qAsksWord_64 ?_
      refine gz_goto (pc := 67) (tgt := 144) hX dX6_qAsksWord_67 (by decide) ?_
      obtain rfl := Option.some.inj h
      exact hk _ _ dX6_qAsksWord_144
    · replace h := gz_if' g5 h
      by_cases g9 : x1 = (2 : Int32)
      · replace h := gz_it' g9 h
        refine gz_tsIn (pc := 1) (tgt := 70) (off := 69) (v := (2 : Int32)) hX g9 dX6_qAsksWord_1 (by decide) (by decide) ?_
        refine gz_aload_n (pc := 70) hX dX6_qAsksWord_70 rfl 0 rfl ?_
        refine gz_aload_n (pc := 71) hX dX6_qAsksWord_71 rfl 0 rfl ?_
        refine mg_85 (pc := 72) hX dX6_qAsksWord_72 ?_
        obtain ⟨⟨⟨⟩, m11⟩, c12, h⟩ := gz_bd h
        refine mc_asks (pc := 75) hX rfl c12 ⟨Nat.le_of_ble_eq_true rfl, Nat.le_of_ble_eq_true rfl⟩ (rest := []) rfl (Nat.le_of_ble_eq_true rfl) dX6_qAsksWord_75 ?_
        refine gz_goto (pc := 78) (tgt := 144) hX dX6_qAsksWord_78 (by decide) ?_
        obtain rfl := Option.some.inj h
        exact hk _ _ dX6_qAsksWord_144
      · replace h := gz_if' g9 h
        by_cases g13 : x1 = (3 : Int32)
        · replace h := gz_it' g13 h
          refine gz_tsIn (pc := 1) (tgt := 81) (off := 80) (v := (3 : Int32)) hX g13 dX6_qAsksWord_1 (by decide) (by decide) ?_
          refine gz_aload_n (pc := 81) hX dX6_qAsksWord_81 rfl 0 rfl ?_
          refine gz_aload_n (pc := 82) hX dX6_qAsksWord_82 rfl 0 rfl ?_
          refine mg_86 (pc := 83) hX dX6_qAsksWord_83 ?_
          obtain ⟨⟨⟨⟩, m15⟩, c16, h⟩ := gz_bd h
          refine mc_asks (pc := 86) hX rfl c16 ⟨Nat.le_of_ble_eq_true rfl, Nat.le_of_ble_eq_true rfl⟩ (rest := []) rfl (Nat.le_of_ble_eq_true rfl) dX6_qAsksWord_86 ?_
          refine gz_goto (pc := 89) (tgt := 144) hX dX6_qAsksWord_89 (by decide) ?_
          obtain rfl := Option.some.inj h
          exact hk _ _ dX6_qAsksWord_144
        · replace h := gz_if' g13 h
          by_cases g17 : x1 = (4 : Int32)
          · replace h := gz_it' g17 h
            refine gz_tsIn (pc := 1) (tgt := 92) (off := 91) (v := (4 : Int32)) hX g17 dX6_qAsksWord_1 (by decide) (by decide) ?_
            refine gz_aload_n (pc := 92) hX dX6_qAsksWord_92 rfl 0 rfl ?_
            refine gz_aload_n (pc := 93) hX dX6_qAsksWord_93 rfl 0 rfl ?_
            refine mg_87 (pc := 94) hX dX6_qAsksWord_94 ?_
            obtain ⟨⟨⟨⟩, m19⟩, c20, h⟩ := gz_bd h
            refine mc_asks (pc := 97) hX rfl c20 ⟨Nat.le_of_ble_eq_true rfl, Nat.le_of_ble_eq_true rfl⟩ (rest := []) rfl (Nat.le_of_ble_eq_true rfl) dX6_qAsksWord_97 ?_
            refine gz_goto (pc := 100) (tgt := 144) hX dX6_qAsksWord_100 (by decide) ?_
            obtain rfl := Option.some.inj h
            exact hk _ _ dX6_qAsksWord_144
          · replace h := gz_if' g17 h
            by_cases g21 : x1 = (5 : Int32)
            · replace h := gz_it' g21 h
              refine gz_tsIn (pc := 1) (tgt := 103) (off := 102) (v := (5 : Int32)) hX g21 dX6_qAsksWord_1 (by decide) (by decide) ?_
              refine gz_aload_n (pc := 103) hX dX6_qAsksWord_103 rfl 0 rfl ?_
              refine gz_aload_n (pc := 104) hX dX6_qAsksWord_104 rfl 0 rfl ?_
              refine mg_88 (pc := 105) hX dX6_qAsksWord_105 ?_
              obtain ⟨⟨⟨⟩, m23⟩, c24, h⟩ := gz_bd h
              refine mc_asks (pc := 108) hX rfl c24 ⟨Nat.le_of_ble_eq_true rfl, Nat.le_of_ble_eq_true rfl⟩ (rest := []) rfl (Nat.le_of_ble_eq_true rfl) dX6_qAsksWord_108 ?_
              refine gz_goto (pc := 111) (tgt := 144) hX dX6_qAsksWord_111 (by decide) ?_
              obtain rfl := Option.some.inj h
              exact hk _ _ dX6_qAsksWord_144
            · replace h := gz_if' g21 h
              by_cases g25 : x1 = (6 : Int32)
              · replace h := gz_it' g25 h
                refine gz_tsIn (pc := 1) (tgt := 114) (off := 113) (v := (6 : Int32)) hX g25 dX6_qAsksWord_1 (by decide) (by decide) ?_
                refine gz_aload_n (pc := 114) hX dX6_qAsksWord_114 rfl 0 rfl ?_
                refine gz_aload_n (pc := 115) hX dX6_qAsksWord_115 rfl 0 rfl ?_
                refine mg_89 (pc := 116) hX dX6_qAsksWord_116 ?_
                obtain ⟨⟨⟨⟩, m27⟩, c28, h⟩ := gz_bd h
                refine mc_asks (pc := 119) hX rfl c28 ⟨Nat.le_of_ble_eq_true rfl, Nat.le_of_ble_eq_true rfl⟩ (rest := []) rfl (Nat.le_of_ble_eq_true rfl) dX6_qAsksWord_119 ?_
                refine gz_goto (pc := 122) (tgt := 144) hX dX6_qAsksWord_122 (by decide) ?_
                obtain rfl := Option.some.inj h
                exact hk _ _ dX6_qAsksWord_144
              · replace h := gz_if' g25 h
                by_cases g29 : x1 = (7 : Int32)
                · replace h := gz_it' g29 h
                  refine gz_tsIn (pc := 1) (tgt := 125) (off := 124) (v := (7 : Int32)) hX g29 dX6_qAsksWord_1 (by decide) (by decide) ?_
                  refine gz_aload_n (pc := 125) hX dX6_qAsksWord_125 rfl 0 rfl ?_
                  refine gz_aload_n (pc := 126) hX dX6_qAsksWord_126 rfl 0 rfl ?_
                  refine mg_90 (pc := 127) hX dX6_qAsksWord_127 ?_
                  obtain ⟨⟨⟨⟩, m31⟩, c32, h⟩ := gz_bd h
                  refine mc_asks (pc := 130) hX rfl c32 ⟨Nat.le_of_ble_eq_true rfl, Nat.le_of_ble_eq_true rfl⟩ (rest := []) rfl (Nat.le_of_ble_eq_true rfl) dX6_qAsksWord_130 ?_
                  refine gz_goto (pc := 133) (tgt := 144) hX dX6_qAsksWord_133 (by decide) ?_
                  obtain rfl := Option.some.inj h
                  exact hk _ _ dX6_qAsksWord_144
                · replace h := gz_if' g29 h
                  have ng1 := lv_neT g1 (a := 0) (by decide)
                  have ng5 := lv_neT g5 (a := 1) (by decide)
                  have ng9 := lv_neT g9 (a := 2) (by decide)
                  have ng13 := lv_neT g13 (a := 3) (by decide)
                  have ng17 := lv_neT g17 (a := 4) (by decide)
                  have ng21 := lv_neT g21 (a := 5) (by decide)
                  have ng25 := lv_neT g25 (a := 6) (by decide)
                  have ng29 := lv_neT g29 (a := 7) (by decide)
                  refine gz_tsOut (pc := 1) (tgt := 136) hX dX6_qAsksWord_1 (by omega) (by decide) ?_
                  refine gz_aload_n (pc := 136) hX dX6_qAsksWord_136 rfl 0 rfl ?_
                  refine gz_aload_n (pc := 137) hX dX6_qAsksWord_137 rfl 0 rfl ?_
                  refine mg_91 (pc := 138) hX dX6_qAsksWord_138 ?_
                  obtain ⟨⟨⟨⟩, m35⟩, c36, h⟩ := gz_bd h
                  refine mc_asks (pc := 141) hX rfl c36 ⟨Nat.le_of_ble_eq_true rfl, Nat.le_of_ble_eq_true rfl⟩ (rest := []) rfl (Nat.le_of_ble_eq_true rfl) dX6_qAsksWord_141 ?_
                  obtain rfl := Option.some.inj h
                  exact hk _ _ dX6_qAsksWord_144
theorem mt_qAsksWord {G : gz_G} {l : Launch} {x1 : Int32}  {m m9 : MM} (h : mf_qAsksWord x1 m = some ((), m9)) : gz_Met mS G l yX6_qAsksWord cX6_qAsksWord 2 none (mRm 4 85) [.ref (gz_ad G 2000), .int x1] (mF m) (mF m9) none :=
  gz_ofV (plainFor_of_name mz_plain) (Nat.le_of_ble_eq_true rfl) fun X _ hX hk => wm_qAsksWord hX h hk
theorem mc_qAsksWord {X : gz_X} {G : gz_G} {cc : ByteArray} {nL fr lo pc : Nat} {lv : List (Nat × Value)} {rest st0 : List Value} (hX : gz_C mS X G cc nL RX6 fr lo) {x1 : Int32}  {m m9 : MM} (h : mf_qAsksWord x1 m = some ((), m9)) (hroom : 4 + 1 ≤ fr ∧ 8 + (2 + 11) + 85 ≤ lo) (hst : st0 = [.int x1, .ref (gz_ad G 2000)] ++ rest) (hW : (rest.map fun v => v.category).sum ≤ 8) (hd : decode cc pc = .ok (.invokevirtual 615, 3)) (kk : gz_V mS X G nL (0, 0) (mF m9) (pc + 3) lv (rest)) : gz_V mS X G nL (0, 0) (mF m) pc lv st0 :=
  gz_callV hX mz_E (As := [.int x1]) (rest := rest) (q := (RX6, TX6, 104)) (ci := 0) (c := 2000) (mt_qAsksWord (l := X.2.1) h) (lw_V q2223 q2225 qs97 q182 q2226) (n := 1) (by decide +kernel) hroom rfl rfl (by decide) rfl hst hW hd (rem := (0, 0)) kk
/-! qDrops()V -/
noncomputable def mf_qDrops  (m : MM) : Option (Unit × MM) :=
  gz_let (msI m 2000 95 ((m.1 2000 95) - (1 : Int32))) fun m1 => (if gz_in (m1.1 2000 95) (1700) then ((mf_qCode (m1.1 1095 (gz_ix (m1.1 2000 95))) m1).bind fun (_, m4) => some ((), m4)) else none)
theorem wm_qDrops {X : gz_X} {G : gz_G} (hX : gz_C mS X G cX6_qDrops 1 RX6 1 21)   {m : MM} {z : (Unit × MM)} (h : mf_qDrops  m = some z) (hk : (fun z : (Unit × MM) => gz_kV mS X G 1 (0, 0) cX6_qDrops (mF z.2)) z) : gz_V mS X G 1 (0, 0) (mF m) 0 [(0, .ref (gz_ad G 2000))] [] := by
  unfold mf_qDrops at h
  refine gz_aload_n (pc := 0) hX dX6_qDrops_0 rfl 0 rfl ?_
  refine gz_dup (pc := 1) hX dX6_qDrops_1 rfl ?_
  refine mg_95 (pc := 2) hX dX6_qDrops_2 ?_
  refine gz_iconst (pc := 5) (v := (1 : Int32)) hX dX6_qDrops_5 (by decide) ?_
  refine gz_isub (pc := 6) hX dX6_qDrops_6 ?_
  obtain ⟨m1, em1, h⟩ := gz_lt h
  refine mp_95 (pc := 7) hX dX6_qDrops_7 em1 ?_
  refine gz_aload_n (pc := 10) hX dX6_qDrops_10 rfl 0 rfl ?_
  refine gz_aload_n (pc := 11) hX dX6_qDrops_11 rfl 0 rfl ?_
  refine mg_94 (pc := 12) hX dX6_qDrops_12 ?_
  refine gz_aload_n (pc := 15) hX dX6_qDrops_15 rfl 0 rfl ?_
  refine mg_95 (pc := 16) hX dX6_qDrops_16 ?_
  obtain ⟨g2, h⟩ := gz_gu h
  refine mz_iald (pc := 19) (c := 1095) (n := 1700) hX rfl rfl g2 dX6_qDrops_19 ?_
  obtain ⟨⟨⟨⟩, m4⟩, c5, h⟩ := gz_bd h
  refine mc_qCode (pc := 20) hX c5 ⟨Nat.le_of_ble_eq_true rfl, Nat.le_of_ble_eq_true rfl⟩ (rest := []) rfl (Nat.le_of_ble_eq_true rfl) dX6_qDrops_20 ?_
  obtain rfl := Option.some.inj h
  exact hk _ _ dX6_qDrops_23
theorem mt_qDrops {G : gz_G} {l : Launch}   {m m9 : MM} (h : mf_qDrops  m = some ((), m9)) : gz_Met mS G l yX6_qDrops cX6_qDrops 1 none (mRm 1 21) [.ref (gz_ad G 2000)] (mF m) (mF m9) none :=
  gz_ofV (plainFor_of_name mz_plain) (Nat.le_of_ble_eq_true rfl) fun X _ hX hk => wm_qDrops hX h hk
theorem mc_qDrops {X : gz_X} {G : gz_G} {cc : ByteArray} {nL fr lo pc : Nat} {lv : List (Nat × Value)} {rest st0 : List Value} (hX : gz_C mS X G cc nL RX6 fr lo)   {m m9 : MM} (h : mf_qDrops  m = some ((), m9)) (hroom : 1 + 1 ≤ fr ∧ 8 + (1 + 11) + 21 ≤ lo) (hst : st0 = [.ref (gz_ad G 2000)] ++ rest) (hW : (rest.map fun v => v.category).sum ≤ 8) (hd : decode cc pc = .ok (.invokevirtual 600, 3)) (kk : gz_V mS X G nL (0, 0) (mF m9) (pc + 3) lv (rest)) : gz_V mS X G nL (0, 0) (mF m) pc lv st0 :=
  gz_callV hX mz_E (As := []) (rest := rest) (q := (RX6, TX6, 104)) (ci := 0) (c := 2000) (mt_qDrops (l := X.2.1) h) (lw_V q2231 q2233 qs99 q182 q2234) (n := 0) (by decide +kernel) hroom rfl rfl (by decide) rfl hst hW hd (rem := (0, 0)) kk
/-! qEndsPart()V -/
def mP_X6_qEndsPart_0 (X : gz_X) (G : gz_G) (q : (MM)) : Prop := gz_V mS X G 1 (0, 0) (mF q) 0 [(0, .ref (gz_ad G 2000))] []
noncomputable def mb_X6_qEndsPart_0  (m : MM) : Option ((MM) ⊕ (Unit × MM)) :=
  (if (m.1 2000 5) = (0 : Int32) then (if (m.1 2000 95) ≤ (m.1 2000 97) then some (Sum.inr ((), m)) else (if gz_in ((m.1 2000 95) - (1 : Int32)) (1700) then (if (m.1 1095 (gz_ix ((m.1 2000 95) - (1 : Int32)))) < (60 : Int32) then some (Sum.inr ((), m)) else gz_let (msI m 2000 96 ((m.1 2000 96) - (1 : Int32))) fun m5 => ((mf_qDrops m5).bind fun (_, m7) => some (Sum.inl (m7)))) else none)) else some (Sum.inr ((), m)))
theorem wb_X6_qEndsPart_0 {X : gz_X} {G : gz_G} (hX : gz_C mS X G cX6_qEndsPart 1 RX6 2 41)   {m : MM} {z : ((MM) ⊕ (Unit × MM))} (h : mb_X6_qEndsPart_0  m = some z) (hk : (Sum.elim (mP_X6_qEndsPart_0 X G) (fun z : (Unit × MM) => gz_kV mS X G 1 (0, 0) cX6_qEndsPart (mF z.2))) z) : gz_V mS X G 1 (0, 0) (mF m) 0 [(0, .ref (gz_ad G 2000))] [] := by
  unfold mb_X6_qEndsPart_0 at h
  refine gz_aload_n (pc := 0) hX dX6_qEndsPart_0 rfl 0 rfl ?_
  refine mg_5 (pc := 1) hX dX6_qEndsPart_1 ?_
  refine gz_if_ne (pc := 4) (tgt := 51) hX dX6_qEndsPart_4 (by decide) (fun g1 => ?_) (fun g1 => ?_)
  · replace h := gz_if' g1 h
    obtain rfl := Option.some.inj h
    exact hk _ _ dX6_qEndsPart_51
  · replace h := gz_it' g1 h
    refine gz_aload_n (pc := 7) hX dX6_qEndsPart_7 rfl 0 rfl ?_
    refine mg_95 (pc := 8) hX dX6_qEndsPart_8 ?_
    refine gz_aload_n (pc := 11) hX dX6_qEndsPart_11 rfl 0 rfl ?_
    refine mg_97 (pc := 12) hX dX6_qEndsPart_12 ?_
    refine gz_icmp_le (pc := 15) (tgt := 51) hX dX6_qEndsPart_15 (by decide) (fun g2 => ?_) (fun g2 => ?_)
    · replace h := gz_it' g2 h
      obtain rfl := Option.some.inj h
      exact hk _ _ dX6_qEndsPart_51
    · replace h := gz_if' g2 h
      refine gz_aload_n (pc := 18) hX dX6_qEndsPart_18 rfl 0 rfl ?_
      refine mg_94 (pc := 19) hX dX6_qEndsPart_19 ?_
      refine gz_aload_n (pc := 22) hX dX6_qEndsPart_22 rfl 0 rfl ?_
      refine mg_95 (pc := 23) hX dX6_qEndsPart_23 ?_
      refine gz_iconst (pc := 26) (v := (1 : Int32)) hX dX6_qEndsPart_26 (by decide) ?_
      refine gz_isub (pc := 27) hX dX6_qEndsPart_27 ?_
      obtain ⟨g3, h⟩ := gz_gu h
      refine mz_iald (pc := 28) (c := 1095) (n := 1700) hX rfl rfl g3 dX6_qEndsPart_28 ?_
      refine gz_bipush (pc := 29) (v := (60 : Int32)) hX dX6_qEndsPart_29 (by decide) ?_
      refine gz_icmp_lt (pc := 31) (tgt := 51) hX dX6_qEndsPart_31 (by decide) (fun g4 => ?_) (fun g4 => ?_)
      · replace h := gz_it' g4 h
        obtain rfl := Option.some.inj h
        exact hk _ _ dX6_qEndsPart_51
      · replace h := gz_if' g4 h
        refine gz_aload_n (pc := 34) hX dX6_qEndsPart_34 rfl 0 rfl ?_
        refine gz_dup (pc := 35) hX dX6_qEndsPart_35 rfl ?_
        refine mg_96 (pc := 36) hX dX6_qEndsPart_36 ?_
        refine gz_iconst (pc := 39) (v := (1 : Int32)) hX dX6_qEndsPart_39 (by decide) ?_
        refine gz_isub (pc := 40) hX dX6_qEndsPart_40 ?_
        obtain ⟨m5, em5, h⟩ := gz_lt h
        refine mp_96 (pc := 41) hX dX6_qEndsPart_41 em5 ?_
        refine gz_aload_n (pc := 44) hX dX6_qEndsPart_44 rfl 0 rfl ?_
        obtain ⟨⟨⟨⟩, m7⟩, c8, h⟩ := gz_bd h
        refine mc_qDrops (pc := 45) hX c8 ⟨Nat.le_of_ble_eq_true rfl, Nat.le_of_ble_eq_true rfl⟩ (rest := []) rfl (Nat.le_of_ble_eq_true rfl) dX6_qEndsPart_45 ?_
        refine gz_goto (pc := 48) (tgt := 0) hX dX6_qEndsPart_48 (by decide) ?_
        obtain rfl := Option.some.inj h
        exact hk
noncomputable def ml_X6_qEndsPart_0  (m : MM) : Option (Unit × MM) := gz_loop (fun q : (MM) => mb_X6_qEndsPart_0  q) (m)
theorem wl_X6_qEndsPart_0 {X : gz_X} {G : gz_G} (hX : gz_C mS X G cX6_qEndsPart 1 RX6 2 41)   {m : MM} {z : (Unit × MM)} (h : ml_X6_qEndsPart_0  m = some z) (hk : (fun z : (Unit × MM) => gz_kV mS X G 1 (0, 0) cX6_qEndsPart (mF z.2)) z) : gz_V mS X G 1 (0, 0) (mF m) 0 [(0, .ref (gz_ad G 2000))] [] := by
  have hp : mP_X6_qEndsPart_0 X G (m) := gz_loop_ind (fun q z hz hkz => wb_X6_qEndsPart_0 hX  hz hkz) h hk
  exact hp
noncomputable def mf_qEndsPart  (m : MM) : Option (Unit × MM) :=
  (ml_X6_qEndsPart_0  m)
theorem wm_qEndsPart {X : gz_X} {G : gz_G} (hX : gz_C mS X G cX6_qEndsPart 1 RX6 2 41)   {m : MM} {z : (Unit × MM)} (h : mf_qEndsPart  m = some z) (hk : (fun z : (Unit × MM) => gz_kV mS X G 1 (0, 0) cX6_qEndsPart (mF z.2)) z) : gz_V mS X G 1 (0, 0) (mF m) 0 [(0, .ref (gz_ad G 2000))] [] := by
  unfold mf_qEndsPart at h
  exact wl_X6_qEndsPart_0 hX h hk
theorem mt_qEndsPart {G : gz_G} {l : Launch}   {m m9 : MM} (h : mf_qEndsPart  m = some ((), m9)) : gz_Met mS G l yX6_qEndsPart cX6_qEndsPart 1 none (mRm 2 41) [.ref (gz_ad G 2000)] (mF m) (mF m9) none :=
  gz_ofV (plainFor_of_name mz_plain) (Nat.le_of_ble_eq_true rfl) fun X _ hX hk => wm_qEndsPart hX h hk
theorem mc_qEndsPart {X : gz_X} {G : gz_G} {cc : ByteArray} {nL fr lo pc : Nat} {lv : List (Nat × Value)} {rest st0 : List Value} (hX : gz_C mS X G cc nL RX6 fr lo)   {m m9 : MM} (h : mf_qEndsPart  m = some ((), m9)) (hroom : 2 + 1 ≤ fr ∧ 8 + (1 + 11) + 41 ≤ lo) (hst : st0 = [.ref (gz_ad G 2000)] ++ rest) (hW : (rest.map fun v => v.category).sum ≤ 8) (hd : decode cc pc = .ok (.invokevirtual 618, 3)) (kk : gz_V mS X G nL (0, 0) (mF m9) (pc + 3) lv (rest)) : gz_V mS X G nL (0, 0) (mF m) pc lv st0 :=
  gz_callV hX mz_E (As := []) (rest := rest) (q := (RX6, TX6, 104)) (ci := 0) (c := 2000) (mt_qEndsPart (l := X.2.1) h) (lw_V q2227 q2229 qs98 q182 q2230) (n := 0) (by decide +kernel) hroom rfl rfl (by decide) rfl hst hW hd (rem := (0, 0)) kk
