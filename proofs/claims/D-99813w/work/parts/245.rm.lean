set_option maxRecDepth 100000
/-! ===== the model's constructor, in a raw world (printed by gen/comp.py rawm) ===== -/
abbrev mR : gz_S := (clM, ftM, tlM, fun _ _ => True, clR)
theorem mr_E : gz_Es mR := ⟨fun _ _ _ _ h => h, fun _ _ _ _ h => h⟩
theorem Rcp_X6_7_0 {X : gz_X} {G : gz_G} {cc : ByteArray} {nL fr lo pc : Nat} {rem : Nat × Nat} {m m9 : gM} {lv : List (Nat × Value)} {st : List Value} (hX : gz_C mR X G cc nL RX6 fr lo) (hn0 : X.2.2.2.2.2.2.2.2.1.name = "<init>") {c : Nat} {r : Nat} (hK : clR m.1 m.2.1 m.2.2.2.2.1 → m.1 c = 0 + 1) (hw : 1000 ≤ c) (hs : r ≠ 0) (hd : decode cc pc = .ok (.putfield 7, 3)) (hm : m9 = gz_sP m c 0 r) (kk : gz_V mR X G nL rem m9 (pc + 3) lv st) : gz_V mR X G nL rem m pc lv (.ref (gz_ad G r) :: .ref (gz_ad G c) :: st) := by
  subst hm
  exact gz_putff hX (C := RX6) (T := TX6) (N := 104) (ci := 0) (k := 0) (μ' := gz_sP m c 0 r) (v := .ref (gz_ad G r)) rfl (by decide) in_X6 tyX6 tyX6_ok nmX6 (by decide) (hX.2.2.2.2.1 _ q1771) (fun _ h => h) rfl hn0 rfl rfl rfl rfl hd hK hw rfl rfl rfl (fun d tc j h => gz_sP_o d tc j h) (by intro j; rw [← gz_rfp hs]; exact gz_sP_v (fun j => ftM 0 j) rfl j) (fun h => h) kk
theorem Rcp_X6_13_0 {X : gz_X} {G : gz_G} {cc : ByteArray} {nL fr lo pc : Nat} {rem : Nat × Nat} {m m9 : gM} {lv : List (Nat × Value)} {st : List Value} (hX : gz_C mR X G cc nL RX6 fr lo) {c : Nat} {x : Int32} (hK : clR m.1 m.2.1 m.2.2.2.2.1 → m.1 c = 0 + 1) (hw : 1000 ≤ c) (hd : decode cc pc = .ok (.putfield 13, 3)) (hm : m9 = gz_sI m c 8 x) (kk : gz_V mR X G nL rem m9 (pc + 3) lv st) : gz_V mR X G nL rem m pc lv (.int x :: .ref (gz_ad G c) :: st) := by
  subst hm
  exact gz_putf hX (C := RX6) (T := TX6) (N := 104) (ci := 0) (k := 8) (ty := .int) (μ' := gz_sI m c 8 x) rfl (by decide) in_X6 tyX6 tyX6_ok nmX6 (by decide) (Or.inl (hX.2.2.2.2.1 _ q1779)) rfl rfl rfl rfl hd hK hw rfl rfl rfl (fun d tc j h => gz_sI_o d tc j h) (gz_sI_v (fun j => ftM 0 j) rfl) (fun h => h) kk
theorem Rcp_X6_17_0 {X : gz_X} {G : gz_G} {cc : ByteArray} {nL fr lo pc : Nat} {rem : Nat × Nat} {m m9 : gM} {lv : List (Nat × Value)} {st : List Value} (hX : gz_C mR X G cc nL RX6 fr lo) (hn0 : X.2.2.2.2.2.2.2.2.1.name = "<init>") {c : Nat} {r : Nat} (hK : clR m.1 m.2.1 m.2.2.2.2.1 → m.1 c = 0 + 1) (hw : 1000 ≤ c) (hs : r ≠ 0) (hd : decode cc pc = .ok (.putfield 17, 3)) (hm : m9 = gz_sP m c 9 r) (kk : gz_V mR X G nL rem m9 (pc + 3) lv st) : gz_V mR X G nL rem m pc lv (.ref (gz_ad G r) :: .ref (gz_ad G c) :: st) := by
  subst hm
  exact gz_putff hX (C := RX6) (T := TX6) (N := 104) (ci := 0) (k := 9) (μ' := gz_sP m c 9 r) (v := .ref (gz_ad G r)) rfl (by decide) in_X6 tyX6 tyX6_ok nmX6 (by decide) (hX.2.2.2.2.1 _ q1780) (fun _ h => h) rfl hn0 rfl rfl rfl rfl hd hK hw rfl rfl rfl (fun d tc j h => gz_sP_o d tc j h) (by intro j; rw [← gz_rfp hs]; exact gz_sP_v (fun j => ftM 0 j) rfl j) (fun h => h) kk
theorem Rcp_X6_20_0 {X : gz_X} {G : gz_G} {cc : ByteArray} {nL fr lo pc : Nat} {rem : Nat × Nat} {m m9 : gM} {lv : List (Nat × Value)} {st : List Value} (hX : gz_C mR X G cc nL RX6 fr lo) (hn0 : X.2.2.2.2.2.2.2.2.1.name = "<init>") {c : Nat} {r : Nat} (hK : clR m.1 m.2.1 m.2.2.2.2.1 → m.1 c = 0 + 1) (hw : 1000 ≤ c) (hs : r ≠ 0) (hd : decode cc pc = .ok (.putfield 20, 3)) (hm : m9 = gz_sP m c 11 r) (kk : gz_V mR X G nL rem m9 (pc + 3) lv st) : gz_V mR X G nL rem m pc lv (.ref (gz_ad G r) :: .ref (gz_ad G c) :: st) := by
  subst hm
  exact gz_putff hX (C := RX6) (T := TX6) (N := 104) (ci := 0) (k := 11) (μ' := gz_sP m c 11 r) (v := .ref (gz_ad G r)) rfl (by decide) in_X6 tyX6 tyX6_ok nmX6 (by decide) (hX.2.2.2.2.1 _ q1782) (fun _ h => h) rfl hn0 rfl rfl rfl rfl hd hK hw rfl rfl rfl (fun d tc j h => gz_sP_o d tc j h) (by intro j; rw [← gz_rfp hs]; exact gz_sP_v (fun j => ftM 0 j) rfl j) (fun h => h) kk
theorem Rcp_X6_24_0 {X : gz_X} {G : gz_G} {cc : ByteArray} {nL fr lo pc : Nat} {rem : Nat × Nat} {m m9 : gM} {lv : List (Nat × Value)} {st : List Value} (hX : gz_C mR X G cc nL RX6 fr lo) (hn0 : X.2.2.2.2.2.2.2.2.1.name = "<init>") {c : Nat} {r : Nat} (hK : clR m.1 m.2.1 m.2.2.2.2.1 → m.1 c = 0 + 1) (hw : 1000 ≤ c) (hs : r ≠ 0) (hd : decode cc pc = .ok (.putfield 24, 3)) (hm : m9 = gz_sP m c 12 r) (kk : gz_V mR X G nL rem m9 (pc + 3) lv st) : gz_V mR X G nL rem m pc lv (.ref (gz_ad G r) :: .ref (gz_ad G c) :: st) := by
  subst hm
  exact gz_putff hX (C := RX6) (T := TX6) (N := 104) (ci := 0) (k := 12) (μ' := gz_sP m c 12 r) (v := .ref (gz_ad G r)) rfl (by decide) in_X6 tyX6 tyX6_ok nmX6 (by decide) (hX.2.2.2.2.1 _ q1783) (fun _ h => h) rfl hn0 rfl rfl rfl rfl hd hK hw rfl rfl rfl (fun d tc j h => gz_sP_o d tc j h) (by intro j; rw [← gz_rfp hs]; exact gz_sP_v (fun j => ftM 0 j) rfl j) (fun h => h) kk
theorem Rcp_X6_27_0 {X : gz_X} {G : gz_G} {cc : ByteArray} {nL fr lo pc : Nat} {rem : Nat × Nat} {m m9 : gM} {lv : List (Nat × Value)} {st : List Value} (hX : gz_C mR X G cc nL RX6 fr lo) (hn0 : X.2.2.2.2.2.2.2.2.1.name = "<init>") {c : Nat} {r : Nat} (hK : clR m.1 m.2.1 m.2.2.2.2.1 → m.1 c = 0 + 1) (hw : 1000 ≤ c) (hs : r ≠ 0) (hd : decode cc pc = .ok (.putfield 27, 3)) (hm : m9 = gz_sP m c 13 r) (kk : gz_V mR X G nL rem m9 (pc + 3) lv st) : gz_V mR X G nL rem m pc lv (.ref (gz_ad G r) :: .ref (gz_ad G c) :: st) := by
  subst hm
  exact gz_putff hX (C := RX6) (T := TX6) (N := 104) (ci := 0) (k := 13) (μ' := gz_sP m c 13 r) (v := .ref (gz_ad G r)) rfl (by decide) in_X6 tyX6 tyX6_ok nmX6 (by decide) (hX.2.2.2.2.1 _ q1784) (fun _ h => h) rfl hn0 rfl rfl rfl rfl hd hK hw rfl rfl rfl (fun d tc j h => gz_sP_o d tc j h) (by intro j; rw [← gz_rfp hs]; exact gz_sP_v (fun j => ftM 0 j) rfl j) (fun h => h) kk
theorem Rcp_X6_30_0 {X : gz_X} {G : gz_G} {cc : ByteArray} {nL fr lo pc : Nat} {rem : Nat × Nat} {m m9 : gM} {lv : List (Nat × Value)} {st : List Value} (hX : gz_C mR X G cc nL RX6 fr lo) (hn0 : X.2.2.2.2.2.2.2.2.1.name = "<init>") {c : Nat} {r : Nat} (hK : clR m.1 m.2.1 m.2.2.2.2.1 → m.1 c = 0 + 1) (hw : 1000 ≤ c) (hs : r ≠ 0) (hd : decode cc pc = .ok (.putfield 30, 3)) (hm : m9 = gz_sP m c 14 r) (kk : gz_V mR X G nL rem m9 (pc + 3) lv st) : gz_V mR X G nL rem m pc lv (.ref (gz_ad G r) :: .ref (gz_ad G c) :: st) := by
  subst hm
  exact gz_putff hX (C := RX6) (T := TX6) (N := 104) (ci := 0) (k := 14) (μ' := gz_sP m c 14 r) (v := .ref (gz_ad G r)) rfl (by decide) in_X6 tyX6 tyX6_ok nmX6 (by decide) (hX.2.2.2.2.1 _ q1785) (fun _ h => h) rfl hn0 rfl rfl rfl rfl hd hK hw rfl rfl rfl (fun d tc j h => gz_sP_o d tc j h) (by intro j; rw [← gz_rfp hs]; exact gz_sP_v (fun j => ftM 0 j) rfl j) (fun h => h) kk
theorem Rcp_X6_33_0 {X : gz_X} {G : gz_G} {cc : ByteArray} {nL fr lo pc : Nat} {rem : Nat × Nat} {m m9 : gM} {lv : List (Nat × Value)} {st : List Value} (hX : gz_C mR X G cc nL RX6 fr lo) (hn0 : X.2.2.2.2.2.2.2.2.1.name = "<init>") {c : Nat} {r : Nat} (hK : clR m.1 m.2.1 m.2.2.2.2.1 → m.1 c = 0 + 1) (hw : 1000 ≤ c) (hs : r ≠ 0) (hd : decode cc pc = .ok (.putfield 33, 3)) (hm : m9 = gz_sP m c 15 r) (kk : gz_V mR X G nL rem m9 (pc + 3) lv st) : gz_V mR X G nL rem m pc lv (.ref (gz_ad G r) :: .ref (gz_ad G c) :: st) := by
  subst hm
  exact gz_putff hX (C := RX6) (T := TX6) (N := 104) (ci := 0) (k := 15) (μ' := gz_sP m c 15 r) (v := .ref (gz_ad G r)) rfl (by decide) in_X6 tyX6 tyX6_ok nmX6 (by decide) (hX.2.2.2.2.1 _ q1786) (fun _ h => h) rfl hn0 rfl rfl rfl rfl hd hK hw rfl rfl rfl (fun d tc j h => gz_sP_o d tc j h) (by intro j; rw [← gz_rfp hs]; exact gz_sP_v (fun j => ftM 0 j) rfl j) (fun h => h) kk
theorem Rcp_X6_36_0 {X : gz_X} {G : gz_G} {cc : ByteArray} {nL fr lo pc : Nat} {rem : Nat × Nat} {m m9 : gM} {lv : List (Nat × Value)} {st : List Value} (hX : gz_C mR X G cc nL RX6 fr lo) (hn0 : X.2.2.2.2.2.2.2.2.1.name = "<init>") {c : Nat} {r : Nat} (hK : clR m.1 m.2.1 m.2.2.2.2.1 → m.1 c = 0 + 1) (hw : 1000 ≤ c) (hs : r ≠ 0) (hd : decode cc pc = .ok (.putfield 36, 3)) (hm : m9 = gz_sP m c 16 r) (kk : gz_V mR X G nL rem m9 (pc + 3) lv st) : gz_V mR X G nL rem m pc lv (.ref (gz_ad G r) :: .ref (gz_ad G c) :: st) := by
  subst hm
  exact gz_putff hX (C := RX6) (T := TX6) (N := 104) (ci := 0) (k := 16) (μ' := gz_sP m c 16 r) (v := .ref (gz_ad G r)) rfl (by decide) in_X6 tyX6 tyX6_ok nmX6 (by decide) (hX.2.2.2.2.1 _ q1787) (fun _ h => h) rfl hn0 rfl rfl rfl rfl hd hK hw rfl rfl rfl (fun d tc j h => gz_sP_o d tc j h) (by intro j; rw [← gz_rfp hs]; exact gz_sP_v (fun j => ftM 0 j) rfl j) (fun h => h) kk
theorem Rcp_X6_39_0 {X : gz_X} {G : gz_G} {cc : ByteArray} {nL fr lo pc : Nat} {rem : Nat × Nat} {m m9 : gM} {lv : List (Nat × Value)} {st : List Value} (hX : gz_C mR X G cc nL RX6 fr lo) (hn0 : X.2.2.2.2.2.2.2.2.1.name = "<init>") {c : Nat} {r : Nat} (hK : clR m.1 m.2.1 m.2.2.2.2.1 → m.1 c = 0 + 1) (hw : 1000 ≤ c) (hs : r ≠ 0) (hd : decode cc pc = .ok (.putfield 39, 3)) (hm : m9 = gz_sP m c 17 r) (kk : gz_V mR X G nL rem m9 (pc + 3) lv st) : gz_V mR X G nL rem m pc lv (.ref (gz_ad G r) :: .ref (gz_ad G c) :: st) := by
  subst hm
  exact gz_putff hX (C := RX6) (T := TX6) (N := 104) (ci := 0) (k := 17) (μ' := gz_sP m c 17 r) (v := .ref (gz_ad G r)) rfl (by decide) in_X6 tyX6 tyX6_ok nmX6 (by decide) (hX.2.2.2.2.1 _ q1788) (fun _ h => h) rfl hn0 rfl rfl rfl rfl hd hK hw rfl rfl rfl (fun d tc j h => gz_sP_o d tc j h) (by intro j; rw [← gz_rfp hs]; exact gz_sP_v (fun j => ftM 0 j) rfl j) (fun h => h) kk
theorem Rcp_X6_42_0 {X : gz_X} {G : gz_G} {cc : ByteArray} {nL fr lo pc : Nat} {rem : Nat × Nat} {m m9 : gM} {lv : List (Nat × Value)} {st : List Value} (hX : gz_C mR X G cc nL RX6 fr lo) (hn0 : X.2.2.2.2.2.2.2.2.1.name = "<init>") {c : Nat} {r : Nat} (hK : clR m.1 m.2.1 m.2.2.2.2.1 → m.1 c = 0 + 1) (hw : 1000 ≤ c) (hs : r ≠ 0) (hd : decode cc pc = .ok (.putfield 42, 3)) (hm : m9 = gz_sP m c 18 r) (kk : gz_V mR X G nL rem m9 (pc + 3) lv st) : gz_V mR X G nL rem m pc lv (.ref (gz_ad G r) :: .ref (gz_ad G c) :: st) := by
  subst hm
  exact gz_putff hX (C := RX6) (T := TX6) (N := 104) (ci := 0) (k := 18) (μ' := gz_sP m c 18 r) (v := .ref (gz_ad G r)) rfl (by decide) in_X6 tyX6 tyX6_ok nmX6 (by decide) (hX.2.2.2.2.1 _ q1789) (fun _ h => h) rfl hn0 rfl rfl rfl rfl hd hK hw rfl rfl rfl (fun d tc j h => gz_sP_o d tc j h) (by intro j; rw [← gz_rfp hs]; exact gz_sP_v (fun j => ftM 0 j) rfl j) (fun h => h) kk
theorem Rcp_X6_45_0 {X : gz_X} {G : gz_G} {cc : ByteArray} {nL fr lo pc : Nat} {rem : Nat × Nat} {m m9 : gM} {lv : List (Nat × Value)} {st : List Value} (hX : gz_C mR X G cc nL RX6 fr lo) (hn0 : X.2.2.2.2.2.2.2.2.1.name = "<init>") {c : Nat} {r : Nat} (hK : clR m.1 m.2.1 m.2.2.2.2.1 → m.1 c = 0 + 1) (hw : 1000 ≤ c) (hs : r ≠ 0) (hd : decode cc pc = .ok (.putfield 45, 3)) (hm : m9 = gz_sP m c 19 r) (kk : gz_V mR X G nL rem m9 (pc + 3) lv st) : gz_V mR X G nL rem m pc lv (.ref (gz_ad G r) :: .ref (gz_ad G c) :: st) := by
  subst hm
  exact gz_putff hX (C := RX6) (T := TX6) (N := 104) (ci := 0) (k := 19) (μ' := gz_sP m c 19 r) (v := .ref (gz_ad G r)) rfl (by decide) in_X6 tyX6 tyX6_ok nmX6 (by decide) (hX.2.2.2.2.1 _ q1790) (fun _ h => h) rfl hn0 rfl rfl rfl rfl hd hK hw rfl rfl rfl (fun d tc j h => gz_sP_o d tc j h) (by intro j; rw [← gz_rfp hs]; exact gz_sP_v (fun j => ftM 0 j) rfl j) (fun h => h) kk
theorem Rcp_X6_48_0 {X : gz_X} {G : gz_G} {cc : ByteArray} {nL fr lo pc : Nat} {rem : Nat × Nat} {m m9 : gM} {lv : List (Nat × Value)} {st : List Value} (hX : gz_C mR X G cc nL RX6 fr lo) (hn0 : X.2.2.2.2.2.2.2.2.1.name = "<init>") {c : Nat} {r : Nat} (hK : clR m.1 m.2.1 m.2.2.2.2.1 → m.1 c = 0 + 1) (hw : 1000 ≤ c) (hs : r ≠ 0) (hd : decode cc pc = .ok (.putfield 48, 3)) (hm : m9 = gz_sP m c 20 r) (kk : gz_V mR X G nL rem m9 (pc + 3) lv st) : gz_V mR X G nL rem m pc lv (.ref (gz_ad G r) :: .ref (gz_ad G c) :: st) := by
  subst hm
  exact gz_putff hX (C := RX6) (T := TX6) (N := 104) (ci := 0) (k := 20) (μ' := gz_sP m c 20 r) (v := .ref (gz_ad G r)) rfl (by decide) in_X6 tyX6 tyX6_ok nmX6 (by decide) (hX.2.2.2.2.1 _ q1791) (fun _ h => h) rfl hn0 rfl rfl rfl rfl hd hK hw rfl rfl rfl (fun d tc j h => gz_sP_o d tc j h) (by intro j; rw [← gz_rfp hs]; exact gz_sP_v (fun j => ftM 0 j) rfl j) (fun h => h) kk
theorem Rcp_X6_51_0 {X : gz_X} {G : gz_G} {cc : ByteArray} {nL fr lo pc : Nat} {rem : Nat × Nat} {m m9 : gM} {lv : List (Nat × Value)} {st : List Value} (hX : gz_C mR X G cc nL RX6 fr lo) (hn0 : X.2.2.2.2.2.2.2.2.1.name = "<init>") {c : Nat} {r : Nat} (hK : clR m.1 m.2.1 m.2.2.2.2.1 → m.1 c = 0 + 1) (hw : 1000 ≤ c) (hs : r ≠ 0) (hd : decode cc pc = .ok (.putfield 51, 3)) (hm : m9 = gz_sP m c 21 r) (kk : gz_V mR X G nL rem m9 (pc + 3) lv st) : gz_V mR X G nL rem m pc lv (.ref (gz_ad G r) :: .ref (gz_ad G c) :: st) := by
  subst hm
  exact gz_putff hX (C := RX6) (T := TX6) (N := 104) (ci := 0) (k := 21) (μ' := gz_sP m c 21 r) (v := .ref (gz_ad G r)) rfl (by decide) in_X6 tyX6 tyX6_ok nmX6 (by decide) (hX.2.2.2.2.1 _ q1792) (fun _ h => h) rfl hn0 rfl rfl rfl rfl hd hK hw rfl rfl rfl (fun d tc j h => gz_sP_o d tc j h) (by intro j; rw [← gz_rfp hs]; exact gz_sP_v (fun j => ftM 0 j) rfl j) (fun h => h) kk
theorem Rcp_X6_54_0 {X : gz_X} {G : gz_G} {cc : ByteArray} {nL fr lo pc : Nat} {rem : Nat × Nat} {m m9 : gM} {lv : List (Nat × Value)} {st : List Value} (hX : gz_C mR X G cc nL RX6 fr lo) (hn0 : X.2.2.2.2.2.2.2.2.1.name = "<init>") {c : Nat} {r : Nat} (hK : clR m.1 m.2.1 m.2.2.2.2.1 → m.1 c = 0 + 1) (hw : 1000 ≤ c) (hs : r ≠ 0) (hd : decode cc pc = .ok (.putfield 54, 3)) (hm : m9 = gz_sP m c 22 r) (kk : gz_V mR X G nL rem m9 (pc + 3) lv st) : gz_V mR X G nL rem m pc lv (.ref (gz_ad G r) :: .ref (gz_ad G c) :: st) := by
  subst hm
  exact gz_putff hX (C := RX6) (T := TX6) (N := 104) (ci := 0) (k := 22) (μ' := gz_sP m c 22 r) (v := .ref (gz_ad G r)) rfl (by decide) in_X6 tyX6 tyX6_ok nmX6 (by decide) (hX.2.2.2.2.1 _ q1793) (fun _ h => h) rfl hn0 rfl rfl rfl rfl hd hK hw rfl rfl rfl (fun d tc j h => gz_sP_o d tc j h) (by intro j; rw [← gz_rfp hs]; exact gz_sP_v (fun j => ftM 0 j) rfl j) (fun h => h) kk
theorem Rcp_X6_57_0 {X : gz_X} {G : gz_G} {cc : ByteArray} {nL fr lo pc : Nat} {rem : Nat × Nat} {m m9 : gM} {lv : List (Nat × Value)} {st : List Value} (hX : gz_C mR X G cc nL RX6 fr lo) (hn0 : X.2.2.2.2.2.2.2.2.1.name = "<init>") {c : Nat} {r : Nat} (hK : clR m.1 m.2.1 m.2.2.2.2.1 → m.1 c = 0 + 1) (hw : 1000 ≤ c) (hs : r ≠ 0) (hd : decode cc pc = .ok (.putfield 57, 3)) (hm : m9 = gz_sP m c 23 r) (kk : gz_V mR X G nL rem m9 (pc + 3) lv st) : gz_V mR X G nL rem m pc lv (.ref (gz_ad G r) :: .ref (gz_ad G c) :: st) := by
  subst hm
  exact gz_putff hX (C := RX6) (T := TX6) (N := 104) (ci := 0) (k := 23) (μ' := gz_sP m c 23 r) (v := .ref (gz_ad G r)) rfl (by decide) in_X6 tyX6 tyX6_ok nmX6 (by decide) (hX.2.2.2.2.1 _ q1794) (fun _ h => h) rfl hn0 rfl rfl rfl rfl hd hK hw rfl rfl rfl (fun d tc j h => gz_sP_o d tc j h) (by intro j; rw [← gz_rfp hs]; exact gz_sP_v (fun j => ftM 0 j) rfl j) (fun h => h) kk
theorem Rcp_X6_60_0 {X : gz_X} {G : gz_G} {cc : ByteArray} {nL fr lo pc : Nat} {rem : Nat × Nat} {m m9 : gM} {lv : List (Nat × Value)} {st : List Value} (hX : gz_C mR X G cc nL RX6 fr lo) (hn0 : X.2.2.2.2.2.2.2.2.1.name = "<init>") {c : Nat} {r : Nat} (hK : clR m.1 m.2.1 m.2.2.2.2.1 → m.1 c = 0 + 1) (hw : 1000 ≤ c) (hs : r ≠ 0) (hd : decode cc pc = .ok (.putfield 60, 3)) (hm : m9 = gz_sP m c 24 r) (kk : gz_V mR X G nL rem m9 (pc + 3) lv st) : gz_V mR X G nL rem m pc lv (.ref (gz_ad G r) :: .ref (gz_ad G c) :: st) := by
  subst hm
  exact gz_putff hX (C := RX6) (T := TX6) (N := 104) (ci := 0) (k := 24) (μ' := gz_sP m c 24 r) (v := .ref (gz_ad G r)) rfl (by decide) in_X6 tyX6 tyX6_ok nmX6 (by decide) (hX.2.2.2.2.1 _ q1795) (fun _ h => h) rfl hn0 rfl rfl rfl rfl hd hK hw rfl rfl rfl (fun d tc j h => gz_sP_o d tc j h) (by intro j; rw [← gz_rfp hs]; exact gz_sP_v (fun j => ftM 0 j) rfl j) (fun h => h) kk
theorem Rcp_X6_63_0 {X : gz_X} {G : gz_G} {cc : ByteArray} {nL fr lo pc : Nat} {rem : Nat × Nat} {m m9 : gM} {lv : List (Nat × Value)} {st : List Value} (hX : gz_C mR X G cc nL RX6 fr lo) (hn0 : X.2.2.2.2.2.2.2.2.1.name = "<init>") {c : Nat} {r : Nat} (hK : clR m.1 m.2.1 m.2.2.2.2.1 → m.1 c = 0 + 1) (hw : 1000 ≤ c) (hs : r ≠ 0) (hd : decode cc pc = .ok (.putfield 63, 3)) (hm : m9 = gz_sP m c 25 r) (kk : gz_V mR X G nL rem m9 (pc + 3) lv st) : gz_V mR X G nL rem m pc lv (.ref (gz_ad G r) :: .ref (gz_ad G c) :: st) := by
  subst hm
  exact gz_putff hX (C := RX6) (T := TX6) (N := 104) (ci := 0) (k := 25) (μ' := gz_sP m c 25 r) (v := .ref (gz_ad G r)) rfl (by decide) in_X6 tyX6 tyX6_ok nmX6 (by decide) (hX.2.2.2.2.1 _ q1796) (fun _ h => h) rfl hn0 rfl rfl rfl rfl hd hK hw rfl rfl rfl (fun d tc j h => gz_sP_o d tc j h) (by intro j; rw [← gz_rfp hs]; exact gz_sP_v (fun j => ftM 0 j) rfl j) (fun h => h) kk
theorem Rcp_X6_66_0 {X : gz_X} {G : gz_G} {cc : ByteArray} {nL fr lo pc : Nat} {rem : Nat × Nat} {m m9 : gM} {lv : List (Nat × Value)} {st : List Value} (hX : gz_C mR X G cc nL RX6 fr lo) (hn0 : X.2.2.2.2.2.2.2.2.1.name = "<init>") {c : Nat} {r : Nat} (hK : clR m.1 m.2.1 m.2.2.2.2.1 → m.1 c = 0 + 1) (hw : 1000 ≤ c) (hs : r ≠ 0) (hd : decode cc pc = .ok (.putfield 66, 3)) (hm : m9 = gz_sP m c 26 r) (kk : gz_V mR X G nL rem m9 (pc + 3) lv st) : gz_V mR X G nL rem m pc lv (.ref (gz_ad G r) :: .ref (gz_ad G c) :: st) := by
  subst hm
  exact gz_putff hX (C := RX6) (T := TX6) (N := 104) (ci := 0) (k := 26) (μ' := gz_sP m c 26 r) (v := .ref (gz_ad G r)) rfl (by decide) in_X6 tyX6 tyX6_ok nmX6 (by decide) (hX.2.2.2.2.1 _ q1797) (fun _ h => h) rfl hn0 rfl rfl rfl rfl hd hK hw rfl rfl rfl (fun d tc j h => gz_sP_o d tc j h) (by intro j; rw [← gz_rfp hs]; exact gz_sP_v (fun j => ftM 0 j) rfl j) (fun h => h) kk
theorem Rcp_X6_69_0 {X : gz_X} {G : gz_G} {cc : ByteArray} {nL fr lo pc : Nat} {rem : Nat × Nat} {m m9 : gM} {lv : List (Nat × Value)} {st : List Value} (hX : gz_C mR X G cc nL RX6 fr lo) (hn0 : X.2.2.2.2.2.2.2.2.1.name = "<init>") {c : Nat} {r : Nat} (hK : clR m.1 m.2.1 m.2.2.2.2.1 → m.1 c = 0 + 1) (hw : 1000 ≤ c) (hs : r ≠ 0) (hd : decode cc pc = .ok (.putfield 69, 3)) (hm : m9 = gz_sP m c 27 r) (kk : gz_V mR X G nL rem m9 (pc + 3) lv st) : gz_V mR X G nL rem m pc lv (.ref (gz_ad G r) :: .ref (gz_ad G c) :: st) := by
  subst hm
  exact gz_putff hX (C := RX6) (T := TX6) (N := 104) (ci := 0) (k := 27) (μ' := gz_sP m c 27 r) (v := .ref (gz_ad G r)) rfl (by decide) in_X6 tyX6 tyX6_ok nmX6 (by decide) (hX.2.2.2.2.1 _ q1798) (fun _ h => h) rfl hn0 rfl rfl rfl rfl hd hK hw rfl rfl rfl (fun d tc j h => gz_sP_o d tc j h) (by intro j; rw [← gz_rfp hs]; exact gz_sP_v (fun j => ftM 0 j) rfl j) (fun h => h) kk
theorem Rcp_X6_72_0 {X : gz_X} {G : gz_G} {cc : ByteArray} {nL fr lo pc : Nat} {rem : Nat × Nat} {m m9 : gM} {lv : List (Nat × Value)} {st : List Value} (hX : gz_C mR X G cc nL RX6 fr lo) (hn0 : X.2.2.2.2.2.2.2.2.1.name = "<init>") {c : Nat} {r : Nat} (hK : clR m.1 m.2.1 m.2.2.2.2.1 → m.1 c = 0 + 1) (hw : 1000 ≤ c) (hs : r ≠ 0) (hd : decode cc pc = .ok (.putfield 72, 3)) (hm : m9 = gz_sP m c 28 r) (kk : gz_V mR X G nL rem m9 (pc + 3) lv st) : gz_V mR X G nL rem m pc lv (.ref (gz_ad G r) :: .ref (gz_ad G c) :: st) := by
  subst hm
  exact gz_putff hX (C := RX6) (T := TX6) (N := 104) (ci := 0) (k := 28) (μ' := gz_sP m c 28 r) (v := .ref (gz_ad G r)) rfl (by decide) in_X6 tyX6 tyX6_ok nmX6 (by decide) (hX.2.2.2.2.1 _ q1799) (fun _ h => h) rfl hn0 rfl rfl rfl rfl hd hK hw rfl rfl rfl (fun d tc j h => gz_sP_o d tc j h) (by intro j; rw [← gz_rfp hs]; exact gz_sP_v (fun j => ftM 0 j) rfl j) (fun h => h) kk
theorem Rcp_X6_75_0 {X : gz_X} {G : gz_G} {cc : ByteArray} {nL fr lo pc : Nat} {rem : Nat × Nat} {m m9 : gM} {lv : List (Nat × Value)} {st : List Value} (hX : gz_C mR X G cc nL RX6 fr lo) (hn0 : X.2.2.2.2.2.2.2.2.1.name = "<init>") {c : Nat} {r : Nat} (hK : clR m.1 m.2.1 m.2.2.2.2.1 → m.1 c = 0 + 1) (hw : 1000 ≤ c) (hs : r ≠ 0) (hd : decode cc pc = .ok (.putfield 75, 3)) (hm : m9 = gz_sP m c 29 r) (kk : gz_V mR X G nL rem m9 (pc + 3) lv st) : gz_V mR X G nL rem m pc lv (.ref (gz_ad G r) :: .ref (gz_ad G c) :: st) := by
  subst hm
  exact gz_putff hX (C := RX6) (T := TX6) (N := 104) (ci := 0) (k := 29) (μ' := gz_sP m c 29 r) (v := .ref (gz_ad G r)) rfl (by decide) in_X6 tyX6 tyX6_ok nmX6 (by decide) (hX.2.2.2.2.1 _ q1800) (fun _ h => h) rfl hn0 rfl rfl rfl rfl hd hK hw rfl rfl rfl (fun d tc j h => gz_sP_o d tc j h) (by intro j; rw [← gz_rfp hs]; exact gz_sP_v (fun j => ftM 0 j) rfl j) (fun h => h) kk
theorem Rcp_X6_78_0 {X : gz_X} {G : gz_G} {cc : ByteArray} {nL fr lo pc : Nat} {rem : Nat × Nat} {m m9 : gM} {lv : List (Nat × Value)} {st : List Value} (hX : gz_C mR X G cc nL RX6 fr lo) (hn0 : X.2.2.2.2.2.2.2.2.1.name = "<init>") {c : Nat} {r : Nat} (hK : clR m.1 m.2.1 m.2.2.2.2.1 → m.1 c = 0 + 1) (hw : 1000 ≤ c) (hs : r ≠ 0) (hd : decode cc pc = .ok (.putfield 78, 3)) (hm : m9 = gz_sP m c 30 r) (kk : gz_V mR X G nL rem m9 (pc + 3) lv st) : gz_V mR X G nL rem m pc lv (.ref (gz_ad G r) :: .ref (gz_ad G c) :: st) := by
  subst hm
  exact gz_putff hX (C := RX6) (T := TX6) (N := 104) (ci := 0) (k := 30) (μ' := gz_sP m c 30 r) (v := .ref (gz_ad G r)) rfl (by decide) in_X6 tyX6 tyX6_ok nmX6 (by decide) (hX.2.2.2.2.1 _ q1801) (fun _ h => h) rfl hn0 rfl rfl rfl rfl hd hK hw rfl rfl rfl (fun d tc j h => gz_sP_o d tc j h) (by intro j; rw [← gz_rfp hs]; exact gz_sP_v (fun j => ftM 0 j) rfl j) (fun h => h) kk
theorem Rcp_X6_81_0 {X : gz_X} {G : gz_G} {cc : ByteArray} {nL fr lo pc : Nat} {rem : Nat × Nat} {m m9 : gM} {lv : List (Nat × Value)} {st : List Value} (hX : gz_C mR X G cc nL RX6 fr lo) (hn0 : X.2.2.2.2.2.2.2.2.1.name = "<init>") {c : Nat} {r : Nat} (hK : clR m.1 m.2.1 m.2.2.2.2.1 → m.1 c = 0 + 1) (hw : 1000 ≤ c) (hs : r ≠ 0) (hd : decode cc pc = .ok (.putfield 81, 3)) (hm : m9 = gz_sP m c 31 r) (kk : gz_V mR X G nL rem m9 (pc + 3) lv st) : gz_V mR X G nL rem m pc lv (.ref (gz_ad G r) :: .ref (gz_ad G c) :: st) := by
  subst hm
  exact gz_putff hX (C := RX6) (T := TX6) (N := 104) (ci := 0) (k := 31) (μ' := gz_sP m c 31 r) (v := .ref (gz_ad G r)) rfl (by decide) in_X6 tyX6 tyX6_ok nmX6 (by decide) (hX.2.2.2.2.1 _ q1802) (fun _ h => h) rfl hn0 rfl rfl rfl rfl hd hK hw rfl rfl rfl (fun d tc j h => gz_sP_o d tc j h) (by intro j; rw [← gz_rfp hs]; exact gz_sP_v (fun j => ftM 0 j) rfl j) (fun h => h) kk
theorem Rcp_X6_84_0 {X : gz_X} {G : gz_G} {cc : ByteArray} {nL fr lo pc : Nat} {rem : Nat × Nat} {m m9 : gM} {lv : List (Nat × Value)} {st : List Value} (hX : gz_C mR X G cc nL RX6 fr lo) (hn0 : X.2.2.2.2.2.2.2.2.1.name = "<init>") {c : Nat} {r : Nat} (hK : clR m.1 m.2.1 m.2.2.2.2.1 → m.1 c = 0 + 1) (hw : 1000 ≤ c) (hs : r ≠ 0) (hd : decode cc pc = .ok (.putfield 84, 3)) (hm : m9 = gz_sP m c 32 r) (kk : gz_V mR X G nL rem m9 (pc + 3) lv st) : gz_V mR X G nL rem m pc lv (.ref (gz_ad G r) :: .ref (gz_ad G c) :: st) := by
  subst hm
  exact gz_putff hX (C := RX6) (T := TX6) (N := 104) (ci := 0) (k := 32) (μ' := gz_sP m c 32 r) (v := .ref (gz_ad G r)) rfl (by decide) in_X6 tyX6 tyX6_ok nmX6 (by decide) (hX.2.2.2.2.1 _ q1803) (fun _ h => h) rfl hn0 rfl rfl rfl rfl hd hK hw rfl rfl rfl (fun d tc j h => gz_sP_o d tc j h) (by intro j; rw [← gz_rfp hs]; exact gz_sP_v (fun j => ftM 0 j) rfl j) (fun h => h) kk
theorem Rcp_X6_87_0 {X : gz_X} {G : gz_G} {cc : ByteArray} {nL fr lo pc : Nat} {rem : Nat × Nat} {m m9 : gM} {lv : List (Nat × Value)} {st : List Value} (hX : gz_C mR X G cc nL RX6 fr lo) (hn0 : X.2.2.2.2.2.2.2.2.1.name = "<init>") {c : Nat} {r : Nat} (hK : clR m.1 m.2.1 m.2.2.2.2.1 → m.1 c = 0 + 1) (hw : 1000 ≤ c) (hs : r ≠ 0) (hd : decode cc pc = .ok (.putfield 87, 3)) (hm : m9 = gz_sP m c 33 r) (kk : gz_V mR X G nL rem m9 (pc + 3) lv st) : gz_V mR X G nL rem m pc lv (.ref (gz_ad G r) :: .ref (gz_ad G c) :: st) := by
  subst hm
  exact gz_putff hX (C := RX6) (T := TX6) (N := 104) (ci := 0) (k := 33) (μ' := gz_sP m c 33 r) (v := .ref (gz_ad G r)) rfl (by decide) in_X6 tyX6 tyX6_ok nmX6 (by decide) (hX.2.2.2.2.1 _ q1804) (fun _ h => h) rfl hn0 rfl rfl rfl rfl hd hK hw rfl rfl rfl (fun d tc j h => gz_sP_o d tc j h) (by intro j; rw [← gz_rfp hs]; exact gz_sP_v (fun j => ftM 0 j) rfl j) (fun h => h) kk
theorem Rcp_X6_90_0 {X : gz_X} {G : gz_G} {cc : ByteArray} {nL fr lo pc : Nat} {rem : Nat × Nat} {m m9 : gM} {lv : List (Nat × Value)} {st : List Value} (hX : gz_C mR X G cc nL RX6 fr lo) (hn0 : X.2.2.2.2.2.2.2.2.1.name = "<init>") {c : Nat} {r : Nat} (hK : clR m.1 m.2.1 m.2.2.2.2.1 → m.1 c = 0 + 1) (hw : 1000 ≤ c) (hs : r ≠ 0) (hd : decode cc pc = .ok (.putfield 90, 3)) (hm : m9 = gz_sP m c 34 r) (kk : gz_V mR X G nL rem m9 (pc + 3) lv st) : gz_V mR X G nL rem m pc lv (.ref (gz_ad G r) :: .ref (gz_ad G c) :: st) := by
  subst hm
  exact gz_putff hX (C := RX6) (T := TX6) (N := 104) (ci := 0) (k := 34) (μ' := gz_sP m c 34 r) (v := .ref (gz_ad G r)) rfl (by decide) in_X6 tyX6 tyX6_ok nmX6 (by decide) (hX.2.2.2.2.1 _ q1805) (fun _ h => h) rfl hn0 rfl rfl rfl rfl hd hK hw rfl rfl rfl (fun d tc j h => gz_sP_o d tc j h) (by intro j; rw [← gz_rfp hs]; exact gz_sP_v (fun j => ftM 0 j) rfl j) (fun h => h) kk
theorem Rcp_X6_93_0 {X : gz_X} {G : gz_G} {cc : ByteArray} {nL fr lo pc : Nat} {rem : Nat × Nat} {m m9 : gM} {lv : List (Nat × Value)} {st : List Value} (hX : gz_C mR X G cc nL RX6 fr lo) (hn0 : X.2.2.2.2.2.2.2.2.1.name = "<init>") {c : Nat} {r : Nat} (hK : clR m.1 m.2.1 m.2.2.2.2.1 → m.1 c = 0 + 1) (hw : 1000 ≤ c) (hs : r ≠ 0) (hd : decode cc pc = .ok (.putfield 93, 3)) (hm : m9 = gz_sP m c 35 r) (kk : gz_V mR X G nL rem m9 (pc + 3) lv st) : gz_V mR X G nL rem m pc lv (.ref (gz_ad G r) :: .ref (gz_ad G c) :: st) := by
  subst hm
  exact gz_putff hX (C := RX6) (T := TX6) (N := 104) (ci := 0) (k := 35) (μ' := gz_sP m c 35 r) (v := .ref (gz_ad G r)) rfl (by decide) in_X6 tyX6 tyX6_ok nmX6 (by decide) (hX.2.2.2.2.1 _ q1806) (fun _ h => h) rfl hn0 rfl rfl rfl rfl hd hK hw rfl rfl rfl (fun d tc j h => gz_sP_o d tc j h) (by intro j; rw [← gz_rfp hs]; exact gz_sP_v (fun j => ftM 0 j) rfl j) (fun h => h) kk
theorem Rcp_X6_96_0 {X : gz_X} {G : gz_G} {cc : ByteArray} {nL fr lo pc : Nat} {rem : Nat × Nat} {m m9 : gM} {lv : List (Nat × Value)} {st : List Value} (hX : gz_C mR X G cc nL RX6 fr lo) (hn0 : X.2.2.2.2.2.2.2.2.1.name = "<init>") {c : Nat} {r : Nat} (hK : clR m.1 m.2.1 m.2.2.2.2.1 → m.1 c = 0 + 1) (hw : 1000 ≤ c) (hs : r ≠ 0) (hd : decode cc pc = .ok (.putfield 96, 3)) (hm : m9 = gz_sP m c 37 r) (kk : gz_V mR X G nL rem m9 (pc + 3) lv st) : gz_V mR X G nL rem m pc lv (.ref (gz_ad G r) :: .ref (gz_ad G c) :: st) := by
  subst hm
  exact gz_putff hX (C := RX6) (T := TX6) (N := 104) (ci := 0) (k := 37) (μ' := gz_sP m c 37 r) (v := .ref (gz_ad G r)) rfl (by decide) in_X6 tyX6 tyX6_ok nmX6 (by decide) (hX.2.2.2.2.1 _ q1808) (fun _ h => h) rfl hn0 rfl rfl rfl rfl hd hK hw rfl rfl rfl (fun d tc j h => gz_sP_o d tc j h) (by intro j; rw [← gz_rfp hs]; exact gz_sP_v (fun j => ftM 0 j) rfl j) (fun h => h) kk
theorem Rcp_X6_99_0 {X : gz_X} {G : gz_G} {cc : ByteArray} {nL fr lo pc : Nat} {rem : Nat × Nat} {m m9 : gM} {lv : List (Nat × Value)} {st : List Value} (hX : gz_C mR X G cc nL RX6 fr lo) (hn0 : X.2.2.2.2.2.2.2.2.1.name = "<init>") {c : Nat} {r : Nat} (hK : clR m.1 m.2.1 m.2.2.2.2.1 → m.1 c = 0 + 1) (hw : 1000 ≤ c) (hs : r ≠ 0) (hd : decode cc pc = .ok (.putfield 99, 3)) (hm : m9 = gz_sP m c 38 r) (kk : gz_V mR X G nL rem m9 (pc + 3) lv st) : gz_V mR X G nL rem m pc lv (.ref (gz_ad G r) :: .ref (gz_ad G c) :: st) := by
  subst hm
  exact gz_putff hX (C := RX6) (T := TX6) (N := 104) (ci := 0) (k := 38) (μ' := gz_sP m c 38 r) (v := .ref (gz_ad G r)) rfl (by decide) in_X6 tyX6 tyX6_ok nmX6 (by decide) (hX.2.2.2.2.1 _ q1809) (fun _ h => h) rfl hn0 rfl rfl rfl rfl hd hK hw rfl rfl rfl (fun d tc j h => gz_sP_o d tc j h) (by intro j; rw [← gz_rfp hs]; exact gz_sP_v (fun j => ftM 0 j) rfl j) (fun h => h) kk
theorem Rcp_X6_103_0 {X : gz_X} {G : gz_G} {cc : ByteArray} {nL fr lo pc : Nat} {rem : Nat × Nat} {m m9 : gM} {lv : List (Nat × Value)} {st : List Value} (hX : gz_C mR X G cc nL RX6 fr lo) (hn0 : X.2.2.2.2.2.2.2.2.1.name = "<init>") {c : Nat} {r : Nat} (hK : clR m.1 m.2.1 m.2.2.2.2.1 → m.1 c = 0 + 1) (hw : 1000 ≤ c) (hs : r ≠ 0) (hd : decode cc pc = .ok (.putfield 103, 3)) (hm : m9 = gz_sP m c 39 r) (kk : gz_V mR X G nL rem m9 (pc + 3) lv st) : gz_V mR X G nL rem m pc lv (.ref (gz_ad G r) :: .ref (gz_ad G c) :: st) := by
  subst hm
  exact gz_putff hX (C := RX6) (T := TX6) (N := 104) (ci := 0) (k := 39) (μ' := gz_sP m c 39 r) (v := .ref (gz_ad G r)) rfl (by decide) in_X6 tyX6 tyX6_ok nmX6 (by decide) (hX.2.2.2.2.1 _ q1810) (fun _ h => h) rfl hn0 rfl rfl rfl rfl hd hK hw rfl rfl rfl (fun d tc j h => gz_sP_o d tc j h) (by intro j; rw [← gz_rfp hs]; exact gz_sP_v (fun j => ftM 0 j) rfl j) (fun h => h) kk
theorem Rcp_X6_106_0 {X : gz_X} {G : gz_G} {cc : ByteArray} {nL fr lo pc : Nat} {rem : Nat × Nat} {m m9 : gM} {lv : List (Nat × Value)} {st : List Value} (hX : gz_C mR X G cc nL RX6 fr lo) (hn0 : X.2.2.2.2.2.2.2.2.1.name = "<init>") {c : Nat} {r : Nat} (hK : clR m.1 m.2.1 m.2.2.2.2.1 → m.1 c = 0 + 1) (hw : 1000 ≤ c) (hs : r ≠ 0) (hd : decode cc pc = .ok (.putfield 106, 3)) (hm : m9 = gz_sP m c 40 r) (kk : gz_V mR X G nL rem m9 (pc + 3) lv st) : gz_V mR X G nL rem m pc lv (.ref (gz_ad G r) :: .ref (gz_ad G c) :: st) := by
  subst hm
  exact gz_putff hX (C := RX6) (T := TX6) (N := 104) (ci := 0) (k := 40) (μ' := gz_sP m c 40 r) (v := .ref (gz_ad G r)) rfl (by decide) in_X6 tyX6 tyX6_ok nmX6 (by decide) (hX.2.2.2.2.1 _ q1811) (fun _ h => h) rfl hn0 rfl rfl rfl rfl hd hK hw rfl rfl rfl (fun d tc j h => gz_sP_o d tc j h) (by intro j; rw [← gz_rfp hs]; exact gz_sP_v (fun j => ftM 0 j) rfl j) (fun h => h) kk
theorem Rcp_X6_109_0 {X : gz_X} {G : gz_G} {cc : ByteArray} {nL fr lo pc : Nat} {rem : Nat × Nat} {m m9 : gM} {lv : List (Nat × Value)} {st : List Value} (hX : gz_C mR X G cc nL RX6 fr lo) (hn0 : X.2.2.2.2.2.2.2.2.1.name = "<init>") {c : Nat} {r : Nat} (hK : clR m.1 m.2.1 m.2.2.2.2.1 → m.1 c = 0 + 1) (hw : 1000 ≤ c) (hs : r ≠ 0) (hd : decode cc pc = .ok (.putfield 109, 3)) (hm : m9 = gz_sP m c 41 r) (kk : gz_V mR X G nL rem m9 (pc + 3) lv st) : gz_V mR X G nL rem m pc lv (.ref (gz_ad G r) :: .ref (gz_ad G c) :: st) := by
  subst hm
  exact gz_putff hX (C := RX6) (T := TX6) (N := 104) (ci := 0) (k := 41) (μ' := gz_sP m c 41 r) (v := .ref (gz_ad G r)) rfl (by decide) in_X6 tyX6 tyX6_ok nmX6 (by decide) (hX.2.2.2.2.1 _ q1812) (fun _ h => h) rfl hn0 rfl rfl rfl rfl hd hK hw rfl rfl rfl (fun d tc j h => gz_sP_o d tc j h) (by intro j; rw [← gz_rfp hs]; exact gz_sP_v (fun j => ftM 0 j) rfl j) (fun h => h) kk
theorem Rcp_X6_112_0 {X : gz_X} {G : gz_G} {cc : ByteArray} {nL fr lo pc : Nat} {rem : Nat × Nat} {m m9 : gM} {lv : List (Nat × Value)} {st : List Value} (hX : gz_C mR X G cc nL RX6 fr lo) (hn0 : X.2.2.2.2.2.2.2.2.1.name = "<init>") {c : Nat} {r : Nat} (hK : clR m.1 m.2.1 m.2.2.2.2.1 → m.1 c = 0 + 1) (hw : 1000 ≤ c) (hs : r ≠ 0) (hd : decode cc pc = .ok (.putfield 112, 3)) (hm : m9 = gz_sP m c 42 r) (kk : gz_V mR X G nL rem m9 (pc + 3) lv st) : gz_V mR X G nL rem m pc lv (.ref (gz_ad G r) :: .ref (gz_ad G c) :: st) := by
  subst hm
  exact gz_putff hX (C := RX6) (T := TX6) (N := 104) (ci := 0) (k := 42) (μ' := gz_sP m c 42 r) (v := .ref (gz_ad G r)) rfl (by decide) in_X6 tyX6 tyX6_ok nmX6 (by decide) (hX.2.2.2.2.1 _ q1813) (fun _ h => h) rfl hn0 rfl rfl rfl rfl hd hK hw rfl rfl rfl (fun d tc j h => gz_sP_o d tc j h) (by intro j; rw [← gz_rfp hs]; exact gz_sP_v (fun j => ftM 0 j) rfl j) (fun h => h) kk
theorem Rcp_X6_115_0 {X : gz_X} {G : gz_G} {cc : ByteArray} {nL fr lo pc : Nat} {rem : Nat × Nat} {m m9 : gM} {lv : List (Nat × Value)} {st : List Value} (hX : gz_C mR X G cc nL RX6 fr lo) (hn0 : X.2.2.2.2.2.2.2.2.1.name = "<init>") {c : Nat} {r : Nat} (hK : clR m.1 m.2.1 m.2.2.2.2.1 → m.1 c = 0 + 1) (hw : 1000 ≤ c) (hs : r ≠ 0) (hd : decode cc pc = .ok (.putfield 115, 3)) (hm : m9 = gz_sP m c 43 r) (kk : gz_V mR X G nL rem m9 (pc + 3) lv st) : gz_V mR X G nL rem m pc lv (.ref (gz_ad G r) :: .ref (gz_ad G c) :: st) := by
  subst hm
  exact gz_putff hX (C := RX6) (T := TX6) (N := 104) (ci := 0) (k := 43) (μ' := gz_sP m c 43 r) (v := .ref (gz_ad G r)) rfl (by decide) in_X6 tyX6 tyX6_ok nmX6 (by decide) (hX.2.2.2.2.1 _ q1814) (fun _ h => h) rfl hn0 rfl rfl rfl rfl hd hK hw rfl rfl rfl (fun d tc j h => gz_sP_o d tc j h) (by intro j; rw [← gz_rfp hs]; exact gz_sP_v (fun j => ftM 0 j) rfl j) (fun h => h) kk
theorem Rcp_X6_118_0 {X : gz_X} {G : gz_G} {cc : ByteArray} {nL fr lo pc : Nat} {rem : Nat × Nat} {m m9 : gM} {lv : List (Nat × Value)} {st : List Value} (hX : gz_C mR X G cc nL RX6 fr lo) (hn0 : X.2.2.2.2.2.2.2.2.1.name = "<init>") {c : Nat} {r : Nat} (hK : clR m.1 m.2.1 m.2.2.2.2.1 → m.1 c = 0 + 1) (hw : 1000 ≤ c) (hs : r ≠ 0) (hd : decode cc pc = .ok (.putfield 118, 3)) (hm : m9 = gz_sP m c 44 r) (kk : gz_V mR X G nL rem m9 (pc + 3) lv st) : gz_V mR X G nL rem m pc lv (.ref (gz_ad G r) :: .ref (gz_ad G c) :: st) := by
  subst hm
  exact gz_putff hX (C := RX6) (T := TX6) (N := 104) (ci := 0) (k := 44) (μ' := gz_sP m c 44 r) (v := .ref (gz_ad G r)) rfl (by decide) in_X6 tyX6 tyX6_ok nmX6 (by decide) (hX.2.2.2.2.1 _ q1815) (fun _ h => h) rfl hn0 rfl rfl rfl rfl hd hK hw rfl rfl rfl (fun d tc j h => gz_sP_o d tc j h) (by intro j; rw [← gz_rfp hs]; exact gz_sP_v (fun j => ftM 0 j) rfl j) (fun h => h) kk
theorem Rcp_X6_121_0 {X : gz_X} {G : gz_G} {cc : ByteArray} {nL fr lo pc : Nat} {rem : Nat × Nat} {m m9 : gM} {lv : List (Nat × Value)} {st : List Value} (hX : gz_C mR X G cc nL RX6 fr lo) (hn0 : X.2.2.2.2.2.2.2.2.1.name = "<init>") {c : Nat} {r : Nat} (hK : clR m.1 m.2.1 m.2.2.2.2.1 → m.1 c = 0 + 1) (hw : 1000 ≤ c) (hs : r ≠ 0) (hd : decode cc pc = .ok (.putfield 121, 3)) (hm : m9 = gz_sP m c 45 r) (kk : gz_V mR X G nL rem m9 (pc + 3) lv st) : gz_V mR X G nL rem m pc lv (.ref (gz_ad G r) :: .ref (gz_ad G c) :: st) := by
  subst hm
  exact gz_putff hX (C := RX6) (T := TX6) (N := 104) (ci := 0) (k := 45) (μ' := gz_sP m c 45 r) (v := .ref (gz_ad G r)) rfl (by decide) in_X6 tyX6 tyX6_ok nmX6 (by decide) (hX.2.2.2.2.1 _ q1816) (fun _ h => h) rfl hn0 rfl rfl rfl rfl hd hK hw rfl rfl rfl (fun d tc j h => gz_sP_o d tc j h) (by intro j; rw [← gz_rfp hs]; exact gz_sP_v (fun j => ftM 0 j) rfl j) (fun h => h) kk
theorem Rcp_X6_124_0 {X : gz_X} {G : gz_G} {cc : ByteArray} {nL fr lo pc : Nat} {rem : Nat × Nat} {m m9 : gM} {lv : List (Nat × Value)} {st : List Value} (hX : gz_C mR X G cc nL RX6 fr lo) (hn0 : X.2.2.2.2.2.2.2.2.1.name = "<init>") {c : Nat} {r : Nat} (hK : clR m.1 m.2.1 m.2.2.2.2.1 → m.1 c = 0 + 1) (hw : 1000 ≤ c) (hs : r ≠ 0) (hd : decode cc pc = .ok (.putfield 124, 3)) (hm : m9 = gz_sP m c 49 r) (kk : gz_V mR X G nL rem m9 (pc + 3) lv st) : gz_V mR X G nL rem m pc lv (.ref (gz_ad G r) :: .ref (gz_ad G c) :: st) := by
  subst hm
  exact gz_putff hX (C := RX6) (T := TX6) (N := 104) (ci := 0) (k := 49) (μ' := gz_sP m c 49 r) (v := .ref (gz_ad G r)) rfl (by decide) in_X6 tyX6 tyX6_ok nmX6 (by decide) (hX.2.2.2.2.1 _ q1820) (fun _ h => h) rfl hn0 rfl rfl rfl rfl hd hK hw rfl rfl rfl (fun d tc j h => gz_sP_o d tc j h) (by intro j; rw [← gz_rfp hs]; exact gz_sP_v (fun j => ftM 0 j) rfl j) (fun h => h) kk
theorem Rcp_X6_127_0 {X : gz_X} {G : gz_G} {cc : ByteArray} {nL fr lo pc : Nat} {rem : Nat × Nat} {m m9 : gM} {lv : List (Nat × Value)} {st : List Value} (hX : gz_C mR X G cc nL RX6 fr lo) (hn0 : X.2.2.2.2.2.2.2.2.1.name = "<init>") {c : Nat} {r : Nat} (hK : clR m.1 m.2.1 m.2.2.2.2.1 → m.1 c = 0 + 1) (hw : 1000 ≤ c) (hs : r ≠ 0) (hd : decode cc pc = .ok (.putfield 127, 3)) (hm : m9 = gz_sP m c 50 r) (kk : gz_V mR X G nL rem m9 (pc + 3) lv st) : gz_V mR X G nL rem m pc lv (.ref (gz_ad G r) :: .ref (gz_ad G c) :: st) := by
  subst hm
  exact gz_putff hX (C := RX6) (T := TX6) (N := 104) (ci := 0) (k := 50) (μ' := gz_sP m c 50 r) (v := .ref (gz_ad G r)) rfl (by decide) in_X6 tyX6 tyX6_ok nmX6 (by decide) (hX.2.2.2.2.1 _ q1821) (fun _ h => h) rfl hn0 rfl rfl rfl rfl hd hK hw rfl rfl rfl (fun d tc j h => gz_sP_o d tc j h) (by intro j; rw [← gz_rfp hs]; exact gz_sP_v (fun j => ftM 0 j) rfl j) (fun h => h) kk
theorem Rcp_X6_130_0 {X : gz_X} {G : gz_G} {cc : ByteArray} {nL fr lo pc : Nat} {rem : Nat × Nat} {m m9 : gM} {lv : List (Nat × Value)} {st : List Value} (hX : gz_C mR X G cc nL RX6 fr lo) (hn0 : X.2.2.2.2.2.2.2.2.1.name = "<init>") {c : Nat} {r : Nat} (hK : clR m.1 m.2.1 m.2.2.2.2.1 → m.1 c = 0 + 1) (hw : 1000 ≤ c) (hs : r ≠ 0) (hd : decode cc pc = .ok (.putfield 130, 3)) (hm : m9 = gz_sP m c 51 r) (kk : gz_V mR X G nL rem m9 (pc + 3) lv st) : gz_V mR X G nL rem m pc lv (.ref (gz_ad G r) :: .ref (gz_ad G c) :: st) := by
  subst hm
  exact gz_putff hX (C := RX6) (T := TX6) (N := 104) (ci := 0) (k := 51) (μ' := gz_sP m c 51 r) (v := .ref (gz_ad G r)) rfl (by decide) in_X6 tyX6 tyX6_ok nmX6 (by decide) (hX.2.2.2.2.1 _ q1822) (fun _ h => h) rfl hn0 rfl rfl rfl rfl hd hK hw rfl rfl rfl (fun d tc j h => gz_sP_o d tc j h) (by intro j; rw [← gz_rfp hs]; exact gz_sP_v (fun j => ftM 0 j) rfl j) (fun h => h) kk
theorem Rcp_X6_133_0 {X : gz_X} {G : gz_G} {cc : ByteArray} {nL fr lo pc : Nat} {rem : Nat × Nat} {m m9 : gM} {lv : List (Nat × Value)} {st : List Value} (hX : gz_C mR X G cc nL RX6 fr lo) {c : Nat} {x : Int32} (hK : clR m.1 m.2.1 m.2.2.2.2.1 → m.1 c = 0 + 1) (hw : 1000 ≤ c) (hd : decode cc pc = .ok (.putfield 133, 3)) (hm : m9 = gz_sI m c 52 x) (kk : gz_V mR X G nL rem m9 (pc + 3) lv st) : gz_V mR X G nL rem m pc lv (.int x :: .ref (gz_ad G c) :: st) := by
  subst hm
  exact gz_putf hX (C := RX6) (T := TX6) (N := 104) (ci := 0) (k := 52) (ty := .int) (μ' := gz_sI m c 52 x) rfl (by decide) in_X6 tyX6 tyX6_ok nmX6 (by decide) (Or.inl (hX.2.2.2.2.1 _ q1823)) rfl rfl rfl rfl hd hK hw rfl rfl rfl (fun d tc j h => gz_sI_o d tc j h) (gz_sI_v (fun j => ftM 0 j) rfl) (fun h => h) kk
theorem Rcp_X6_136_0 {X : gz_X} {G : gz_G} {cc : ByteArray} {nL fr lo pc : Nat} {rem : Nat × Nat} {m m9 : gM} {lv : List (Nat × Value)} {st : List Value} (hX : gz_C mR X G cc nL RX6 fr lo) (hn0 : X.2.2.2.2.2.2.2.2.1.name = "<init>") {c : Nat} {r : Nat} (hK : clR m.1 m.2.1 m.2.2.2.2.1 → m.1 c = 0 + 1) (hw : 1000 ≤ c) (hs : r ≠ 0) (hd : decode cc pc = .ok (.putfield 136, 3)) (hm : m9 = gz_sP m c 54 r) (kk : gz_V mR X G nL rem m9 (pc + 3) lv st) : gz_V mR X G nL rem m pc lv (.ref (gz_ad G r) :: .ref (gz_ad G c) :: st) := by
  subst hm
  exact gz_putff hX (C := RX6) (T := TX6) (N := 104) (ci := 0) (k := 54) (μ' := gz_sP m c 54 r) (v := .ref (gz_ad G r)) rfl (by decide) in_X6 tyX6 tyX6_ok nmX6 (by decide) (hX.2.2.2.2.1 _ q1825) (fun _ h => h) rfl hn0 rfl rfl rfl rfl hd hK hw rfl rfl rfl (fun d tc j h => gz_sP_o d tc j h) (by intro j; rw [← gz_rfp hs]; exact gz_sP_v (fun j => ftM 0 j) rfl j) (fun h => h) kk
theorem Rcp_X6_139_0 {X : gz_X} {G : gz_G} {cc : ByteArray} {nL fr lo pc : Nat} {rem : Nat × Nat} {m m9 : gM} {lv : List (Nat × Value)} {st : List Value} (hX : gz_C mR X G cc nL RX6 fr lo) (hn0 : X.2.2.2.2.2.2.2.2.1.name = "<init>") {c : Nat} {r : Nat} (hK : clR m.1 m.2.1 m.2.2.2.2.1 → m.1 c = 0 + 1) (hw : 1000 ≤ c) (hs : r ≠ 0) (hd : decode cc pc = .ok (.putfield 139, 3)) (hm : m9 = gz_sP m c 58 r) (kk : gz_V mR X G nL rem m9 (pc + 3) lv st) : gz_V mR X G nL rem m pc lv (.ref (gz_ad G r) :: .ref (gz_ad G c) :: st) := by
  subst hm
  exact gz_putff hX (C := RX6) (T := TX6) (N := 104) (ci := 0) (k := 58) (μ' := gz_sP m c 58 r) (v := .ref (gz_ad G r)) rfl (by decide) in_X6 tyX6 tyX6_ok nmX6 (by decide) (hX.2.2.2.2.1 _ q1829) (fun _ h => h) rfl hn0 rfl rfl rfl rfl hd hK hw rfl rfl rfl (fun d tc j h => gz_sP_o d tc j h) (by intro j; rw [← gz_rfp hs]; exact gz_sP_v (fun j => ftM 0 j) rfl j) (fun h => h) kk
theorem Rcp_X6_142_0 {X : gz_X} {G : gz_G} {cc : ByteArray} {nL fr lo pc : Nat} {rem : Nat × Nat} {m m9 : gM} {lv : List (Nat × Value)} {st : List Value} (hX : gz_C mR X G cc nL RX6 fr lo) (hn0 : X.2.2.2.2.2.2.2.2.1.name = "<init>") {c : Nat} {r : Nat} (hK : clR m.1 m.2.1 m.2.2.2.2.1 → m.1 c = 0 + 1) (hw : 1000 ≤ c) (hs : r ≠ 0) (hd : decode cc pc = .ok (.putfield 142, 3)) (hm : m9 = gz_sP m c 59 r) (kk : gz_V mR X G nL rem m9 (pc + 3) lv st) : gz_V mR X G nL rem m pc lv (.ref (gz_ad G r) :: .ref (gz_ad G c) :: st) := by
  subst hm
  exact gz_putff hX (C := RX6) (T := TX6) (N := 104) (ci := 0) (k := 59) (μ' := gz_sP m c 59 r) (v := .ref (gz_ad G r)) rfl (by decide) in_X6 tyX6 tyX6_ok nmX6 (by decide) (hX.2.2.2.2.1 _ q1830) (fun _ h => h) rfl hn0 rfl rfl rfl rfl hd hK hw rfl rfl rfl (fun d tc j h => gz_sP_o d tc j h) (by intro j; rw [← gz_rfp hs]; exact gz_sP_v (fun j => ftM 0 j) rfl j) (fun h => h) kk
theorem Rcp_X6_145_0 {X : gz_X} {G : gz_G} {cc : ByteArray} {nL fr lo pc : Nat} {rem : Nat × Nat} {m m9 : gM} {lv : List (Nat × Value)} {st : List Value} (hX : gz_C mR X G cc nL RX6 fr lo) (hn0 : X.2.2.2.2.2.2.2.2.1.name = "<init>") {c : Nat} {r : Nat} (hK : clR m.1 m.2.1 m.2.2.2.2.1 → m.1 c = 0 + 1) (hw : 1000 ≤ c) (hs : r ≠ 0) (hd : decode cc pc = .ok (.putfield 145, 3)) (hm : m9 = gz_sP m c 60 r) (kk : gz_V mR X G nL rem m9 (pc + 3) lv st) : gz_V mR X G nL rem m pc lv (.ref (gz_ad G r) :: .ref (gz_ad G c) :: st) := by
  subst hm
  exact gz_putff hX (C := RX6) (T := TX6) (N := 104) (ci := 0) (k := 60) (μ' := gz_sP m c 60 r) (v := .ref (gz_ad G r)) rfl (by decide) in_X6 tyX6 tyX6_ok nmX6 (by decide) (hX.2.2.2.2.1 _ q1831) (fun _ h => h) rfl hn0 rfl rfl rfl rfl hd hK hw rfl rfl rfl (fun d tc j h => gz_sP_o d tc j h) (by intro j; rw [← gz_rfp hs]; exact gz_sP_v (fun j => ftM 0 j) rfl j) (fun h => h) kk
theorem Rcp_X6_148_0 {X : gz_X} {G : gz_G} {cc : ByteArray} {nL fr lo pc : Nat} {rem : Nat × Nat} {m m9 : gM} {lv : List (Nat × Value)} {st : List Value} (hX : gz_C mR X G cc nL RX6 fr lo) (hn0 : X.2.2.2.2.2.2.2.2.1.name = "<init>") {c : Nat} {r : Nat} (hK : clR m.1 m.2.1 m.2.2.2.2.1 → m.1 c = 0 + 1) (hw : 1000 ≤ c) (hs : r ≠ 0) (hd : decode cc pc = .ok (.putfield 148, 3)) (hm : m9 = gz_sP m c 61 r) (kk : gz_V mR X G nL rem m9 (pc + 3) lv st) : gz_V mR X G nL rem m pc lv (.ref (gz_ad G r) :: .ref (gz_ad G c) :: st) := by
  subst hm
  exact gz_putff hX (C := RX6) (T := TX6) (N := 104) (ci := 0) (k := 61) (μ' := gz_sP m c 61 r) (v := .ref (gz_ad G r)) rfl (by decide) in_X6 tyX6 tyX6_ok nmX6 (by decide) (hX.2.2.2.2.1 _ q1832) (fun _ h => h) rfl hn0 rfl rfl rfl rfl hd hK hw rfl rfl rfl (fun d tc j h => gz_sP_o d tc j h) (by intro j; rw [← gz_rfp hs]; exact gz_sP_v (fun j => ftM 0 j) rfl j) (fun h => h) kk
theorem Rcp_X6_152_0 {X : gz_X} {G : gz_G} {cc : ByteArray} {nL fr lo pc : Nat} {rem : Nat × Nat} {m m9 : gM} {lv : List (Nat × Value)} {st : List Value} (hX : gz_C mR X G cc nL RX6 fr lo) (hn0 : X.2.2.2.2.2.2.2.2.1.name = "<init>") {c : Nat} {r : Nat} (hK : clR m.1 m.2.1 m.2.2.2.2.1 → m.1 c = 0 + 1) (hw : 1000 ≤ c) (hs : r ≠ 0) (hd : decode cc pc = .ok (.putfield 152, 3)) (hm : m9 = gz_sP m c 62 r) (kk : gz_V mR X G nL rem m9 (pc + 3) lv st) : gz_V mR X G nL rem m pc lv (.ref (gz_ad G r) :: .ref (gz_ad G c) :: st) := by
  subst hm
  exact gz_putff hX (C := RX6) (T := TX6) (N := 104) (ci := 0) (k := 62) (μ' := gz_sP m c 62 r) (v := .ref (gz_ad G r)) rfl (by decide) in_X6 tyX6 tyX6_ok nmX6 (by decide) (hX.2.2.2.2.1 _ q1833) (fun _ h => h) rfl hn0 rfl rfl rfl rfl hd hK hw rfl rfl rfl (fun d tc j h => gz_sP_o d tc j h) (by intro j; rw [← gz_rfp hs]; exact gz_sP_v (fun j => ftM 0 j) rfl j) (fun h => h) kk
theorem Rcp_X6_155_0 {X : gz_X} {G : gz_G} {cc : ByteArray} {nL fr lo pc : Nat} {rem : Nat × Nat} {m m9 : gM} {lv : List (Nat × Value)} {st : List Value} (hX : gz_C mR X G cc nL RX6 fr lo) (hn0 : X.2.2.2.2.2.2.2.2.1.name = "<init>") {c : Nat} {r : Nat} (hK : clR m.1 m.2.1 m.2.2.2.2.1 → m.1 c = 0 + 1) (hw : 1000 ≤ c) (hs : r ≠ 0) (hd : decode cc pc = .ok (.putfield 155, 3)) (hm : m9 = gz_sP m c 63 r) (kk : gz_V mR X G nL rem m9 (pc + 3) lv st) : gz_V mR X G nL rem m pc lv (.ref (gz_ad G r) :: .ref (gz_ad G c) :: st) := by
  subst hm
  exact gz_putff hX (C := RX6) (T := TX6) (N := 104) (ci := 0) (k := 63) (μ' := gz_sP m c 63 r) (v := .ref (gz_ad G r)) rfl (by decide) in_X6 tyX6 tyX6_ok nmX6 (by decide) (hX.2.2.2.2.1 _ q1834) (fun _ h => h) rfl hn0 rfl rfl rfl rfl hd hK hw rfl rfl rfl (fun d tc j h => gz_sP_o d tc j h) (by intro j; rw [← gz_rfp hs]; exact gz_sP_v (fun j => ftM 0 j) rfl j) (fun h => h) kk
theorem Rcp_X6_158_0 {X : gz_X} {G : gz_G} {cc : ByteArray} {nL fr lo pc : Nat} {rem : Nat × Nat} {m m9 : gM} {lv : List (Nat × Value)} {st : List Value} (hX : gz_C mR X G cc nL RX6 fr lo) (hn0 : X.2.2.2.2.2.2.2.2.1.name = "<init>") {c : Nat} {r : Nat} (hK : clR m.1 m.2.1 m.2.2.2.2.1 → m.1 c = 0 + 1) (hw : 1000 ≤ c) (hs : r ≠ 0) (hd : decode cc pc = .ok (.putfield 158, 3)) (hm : m9 = gz_sP m c 65 r) (kk : gz_V mR X G nL rem m9 (pc + 3) lv st) : gz_V mR X G nL rem m pc lv (.ref (gz_ad G r) :: .ref (gz_ad G c) :: st) := by
  subst hm
  exact gz_putff hX (C := RX6) (T := TX6) (N := 104) (ci := 0) (k := 65) (μ' := gz_sP m c 65 r) (v := .ref (gz_ad G r)) rfl (by decide) in_X6 tyX6 tyX6_ok nmX6 (by decide) (hX.2.2.2.2.1 _ q1836) (fun _ h => h) rfl hn0 rfl rfl rfl rfl hd hK hw rfl rfl rfl (fun d tc j h => gz_sP_o d tc j h) (by intro j; rw [← gz_rfp hs]; exact gz_sP_v (fun j => ftM 0 j) rfl j) (fun h => h) kk
theorem Rcp_X6_161_0 {X : gz_X} {G : gz_G} {cc : ByteArray} {nL fr lo pc : Nat} {rem : Nat × Nat} {m m9 : gM} {lv : List (Nat × Value)} {st : List Value} (hX : gz_C mR X G cc nL RX6 fr lo) (hn0 : X.2.2.2.2.2.2.2.2.1.name = "<init>") {c : Nat} {r : Nat} (hK : clR m.1 m.2.1 m.2.2.2.2.1 → m.1 c = 0 + 1) (hw : 1000 ≤ c) (hs : r ≠ 0) (hd : decode cc pc = .ok (.putfield 161, 3)) (hm : m9 = gz_sP m c 66 r) (kk : gz_V mR X G nL rem m9 (pc + 3) lv st) : gz_V mR X G nL rem m pc lv (.ref (gz_ad G r) :: .ref (gz_ad G c) :: st) := by
  subst hm
  exact gz_putff hX (C := RX6) (T := TX6) (N := 104) (ci := 0) (k := 66) (μ' := gz_sP m c 66 r) (v := .ref (gz_ad G r)) rfl (by decide) in_X6 tyX6 tyX6_ok nmX6 (by decide) (hX.2.2.2.2.1 _ q1837) (fun _ h => h) rfl hn0 rfl rfl rfl rfl hd hK hw rfl rfl rfl (fun d tc j h => gz_sP_o d tc j h) (by intro j; rw [← gz_rfp hs]; exact gz_sP_v (fun j => ftM 0 j) rfl j) (fun h => h) kk
theorem Rcp_X6_164_0 {X : gz_X} {G : gz_G} {cc : ByteArray} {nL fr lo pc : Nat} {rem : Nat × Nat} {m m9 : gM} {lv : List (Nat × Value)} {st : List Value} (hX : gz_C mR X G cc nL RX6 fr lo) (hn0 : X.2.2.2.2.2.2.2.2.1.name = "<init>") {c : Nat} {r : Nat} (hK : clR m.1 m.2.1 m.2.2.2.2.1 → m.1 c = 0 + 1) (hw : 1000 ≤ c) (hs : r ≠ 0) (hd : decode cc pc = .ok (.putfield 164, 3)) (hm : m9 = gz_sP m c 67 r) (kk : gz_V mR X G nL rem m9 (pc + 3) lv st) : gz_V mR X G nL rem m pc lv (.ref (gz_ad G r) :: .ref (gz_ad G c) :: st) := by
  subst hm
  exact gz_putff hX (C := RX6) (T := TX6) (N := 104) (ci := 0) (k := 67) (μ' := gz_sP m c 67 r) (v := .ref (gz_ad G r)) rfl (by decide) in_X6 tyX6 tyX6_ok nmX6 (by decide) (hX.2.2.2.2.1 _ q1838) (fun _ h => h) rfl hn0 rfl rfl rfl rfl hd hK hw rfl rfl rfl (fun d tc j h => gz_sP_o d tc j h) (by intro j; rw [← gz_rfp hs]; exact gz_sP_v (fun j => ftM 0 j) rfl j) (fun h => h) kk
theorem Rcp_X6_167_0 {X : gz_X} {G : gz_G} {cc : ByteArray} {nL fr lo pc : Nat} {rem : Nat × Nat} {m m9 : gM} {lv : List (Nat × Value)} {st : List Value} (hX : gz_C mR X G cc nL RX6 fr lo) {c : Nat} {x : Int64} (hK : clR m.1 m.2.1 m.2.2.2.2.1 → m.1 c = 0 + 1) (hw : 1000 ≤ c) (hd : decode cc pc = .ok (.putfield 167, 3)) (hm : m9 = gz_sL m c 70 x) (kk : gz_V mR X G nL rem m9 (pc + 3) lv st) : gz_V mR X G nL rem m pc lv (.long x :: .ref (gz_ad G c) :: st) := by
  subst hm
  exact gz_putf hX (C := RX6) (T := TX6) (N := 104) (ci := 0) (k := 70) (μ' := gz_sL m c 70 x) rfl (by decide) in_X6 tyX6 tyX6_ok nmX6 (by decide) (Or.inl (hX.2.2.2.2.1 _ q1841)) rfl rfl rfl rfl hd hK hw rfl rfl rfl (fun d tc j h => gz_sL_o d tc j h) (gz_sL_v (fun j => ftM 0 j) rfl) (fun h => h) kk
theorem Rcp_X6_171_0 {X : gz_X} {G : gz_G} {cc : ByteArray} {nL fr lo pc : Nat} {rem : Nat × Nat} {m m9 : gM} {lv : List (Nat × Value)} {st : List Value} (hX : gz_C mR X G cc nL RX6 fr lo) (hn0 : X.2.2.2.2.2.2.2.2.1.name = "<init>") {c : Nat} {r : Nat} (hK : clR m.1 m.2.1 m.2.2.2.2.1 → m.1 c = 0 + 1) (hw : 1000 ≤ c) (hs : r ≠ 0) (hd : decode cc pc = .ok (.putfield 171, 3)) (hm : m9 = gz_sP m c 71 r) (kk : gz_V mR X G nL rem m9 (pc + 3) lv st) : gz_V mR X G nL rem m pc lv (.ref (gz_ad G r) :: .ref (gz_ad G c) :: st) := by
  subst hm
  exact gz_putff hX (C := RX6) (T := TX6) (N := 104) (ci := 0) (k := 71) (μ' := gz_sP m c 71 r) (v := .ref (gz_ad G r)) rfl (by decide) in_X6 tyX6 tyX6_ok nmX6 (by decide) (hX.2.2.2.2.1 _ q1842) (fun _ h => h) rfl hn0 rfl rfl rfl rfl hd hK hw rfl rfl rfl (fun d tc j h => gz_sP_o d tc j h) (by intro j; rw [← gz_rfp hs]; exact gz_sP_v (fun j => ftM 0 j) rfl j) (fun h => h) kk
theorem Rcp_X6_174_0 {X : gz_X} {G : gz_G} {cc : ByteArray} {nL fr lo pc : Nat} {rem : Nat × Nat} {m m9 : gM} {lv : List (Nat × Value)} {st : List Value} (hX : gz_C mR X G cc nL RX6 fr lo) (hn0 : X.2.2.2.2.2.2.2.2.1.name = "<init>") {c : Nat} {r : Nat} (hK : clR m.1 m.2.1 m.2.2.2.2.1 → m.1 c = 0 + 1) (hw : 1000 ≤ c) (hs : r ≠ 0) (hd : decode cc pc = .ok (.putfield 174, 3)) (hm : m9 = gz_sP m c 72 r) (kk : gz_V mR X G nL rem m9 (pc + 3) lv st) : gz_V mR X G nL rem m pc lv (.ref (gz_ad G r) :: .ref (gz_ad G c) :: st) := by
  subst hm
  exact gz_putff hX (C := RX6) (T := TX6) (N := 104) (ci := 0) (k := 72) (μ' := gz_sP m c 72 r) (v := .ref (gz_ad G r)) rfl (by decide) in_X6 tyX6 tyX6_ok nmX6 (by decide) (hX.2.2.2.2.1 _ q1843) (fun _ h => h) rfl hn0 rfl rfl rfl rfl hd hK hw rfl rfl rfl (fun d tc j h => gz_sP_o d tc j h) (by intro j; rw [← gz_rfp hs]; exact gz_sP_v (fun j => ftM 0 j) rfl j) (fun h => h) kk
theorem Rcp_X6_177_0 {X : gz_X} {G : gz_G} {cc : ByteArray} {nL fr lo pc : Nat} {rem : Nat × Nat} {m m9 : gM} {lv : List (Nat × Value)} {st : List Value} (hX : gz_C mR X G cc nL RX6 fr lo) (hn0 : X.2.2.2.2.2.2.2.2.1.name = "<init>") {c : Nat} {r : Nat} (hK : clR m.1 m.2.1 m.2.2.2.2.1 → m.1 c = 0 + 1) (hw : 1000 ≤ c) (hs : r ≠ 0) (hd : decode cc pc = .ok (.putfield 177, 3)) (hm : m9 = gz_sP m c 73 r) (kk : gz_V mR X G nL rem m9 (pc + 3) lv st) : gz_V mR X G nL rem m pc lv (.ref (gz_ad G r) :: .ref (gz_ad G c) :: st) := by
  subst hm
  exact gz_putff hX (C := RX6) (T := TX6) (N := 104) (ci := 0) (k := 73) (μ' := gz_sP m c 73 r) (v := .ref (gz_ad G r)) rfl (by decide) in_X6 tyX6 tyX6_ok nmX6 (by decide) (hX.2.2.2.2.1 _ q1844) (fun _ h => h) rfl hn0 rfl rfl rfl rfl hd hK hw rfl rfl rfl (fun d tc j h => gz_sP_o d tc j h) (by intro j; rw [← gz_rfp hs]; exact gz_sP_v (fun j => ftM 0 j) rfl j) (fun h => h) kk
theorem Rcp_X6_180_0 {X : gz_X} {G : gz_G} {cc : ByteArray} {nL fr lo pc : Nat} {rem : Nat × Nat} {m m9 : gM} {lv : List (Nat × Value)} {st : List Value} (hX : gz_C mR X G cc nL RX6 fr lo) (hn0 : X.2.2.2.2.2.2.2.2.1.name = "<init>") {c : Nat} {r : Nat} (hK : clR m.1 m.2.1 m.2.2.2.2.1 → m.1 c = 0 + 1) (hw : 1000 ≤ c) (hs : r ≠ 0) (hd : decode cc pc = .ok (.putfield 180, 3)) (hm : m9 = gz_sP m c 74 r) (kk : gz_V mR X G nL rem m9 (pc + 3) lv st) : gz_V mR X G nL rem m pc lv (.ref (gz_ad G r) :: .ref (gz_ad G c) :: st) := by
  subst hm
  exact gz_putff hX (C := RX6) (T := TX6) (N := 104) (ci := 0) (k := 74) (μ' := gz_sP m c 74 r) (v := .ref (gz_ad G r)) rfl (by decide) in_X6 tyX6 tyX6_ok nmX6 (by decide) (hX.2.2.2.2.1 _ q1845) (fun _ h => h) rfl hn0 rfl rfl rfl rfl hd hK hw rfl rfl rfl (fun d tc j h => gz_sP_o d tc j h) (by intro j; rw [← gz_rfp hs]; exact gz_sP_v (fun j => ftM 0 j) rfl j) (fun h => h) kk
theorem Rcp_X6_183_0 {X : gz_X} {G : gz_G} {cc : ByteArray} {nL fr lo pc : Nat} {rem : Nat × Nat} {m m9 : gM} {lv : List (Nat × Value)} {st : List Value} (hX : gz_C mR X G cc nL RX6 fr lo) (hn0 : X.2.2.2.2.2.2.2.2.1.name = "<init>") {c : Nat} {r : Nat} (hK : clR m.1 m.2.1 m.2.2.2.2.1 → m.1 c = 0 + 1) (hw : 1000 ≤ c) (hs : r ≠ 0) (hd : decode cc pc = .ok (.putfield 183, 3)) (hm : m9 = gz_sP m c 75 r) (kk : gz_V mR X G nL rem m9 (pc + 3) lv st) : gz_V mR X G nL rem m pc lv (.ref (gz_ad G r) :: .ref (gz_ad G c) :: st) := by
  subst hm
  exact gz_putff hX (C := RX6) (T := TX6) (N := 104) (ci := 0) (k := 75) (μ' := gz_sP m c 75 r) (v := .ref (gz_ad G r)) rfl (by decide) in_X6 tyX6 tyX6_ok nmX6 (by decide) (hX.2.2.2.2.1 _ q1846) (fun _ h => h) rfl hn0 rfl rfl rfl rfl hd hK hw rfl rfl rfl (fun d tc j h => gz_sP_o d tc j h) (by intro j; rw [← gz_rfp hs]; exact gz_sP_v (fun j => ftM 0 j) rfl j) (fun h => h) kk
theorem Rcp_X6_186_0 {X : gz_X} {G : gz_G} {cc : ByteArray} {nL fr lo pc : Nat} {rem : Nat × Nat} {m m9 : gM} {lv : List (Nat × Value)} {st : List Value} (hX : gz_C mR X G cc nL RX6 fr lo) (hn0 : X.2.2.2.2.2.2.2.2.1.name = "<init>") {c : Nat} {r : Nat} (hK : clR m.1 m.2.1 m.2.2.2.2.1 → m.1 c = 0 + 1) (hw : 1000 ≤ c) (hs : r ≠ 0) (hd : decode cc pc = .ok (.putfield 186, 3)) (hm : m9 = gz_sP m c 76 r) (kk : gz_V mR X G nL rem m9 (pc + 3) lv st) : gz_V mR X G nL rem m pc lv (.ref (gz_ad G r) :: .ref (gz_ad G c) :: st) := by
  subst hm
  exact gz_putff hX (C := RX6) (T := TX6) (N := 104) (ci := 0) (k := 76) (μ' := gz_sP m c 76 r) (v := .ref (gz_ad G r)) rfl (by decide) in_X6 tyX6 tyX6_ok nmX6 (by decide) (hX.2.2.2.2.1 _ q1847) (fun _ h => h) rfl hn0 rfl rfl rfl rfl hd hK hw rfl rfl rfl (fun d tc j h => gz_sP_o d tc j h) (by intro j; rw [← gz_rfp hs]; exact gz_sP_v (fun j => ftM 0 j) rfl j) (fun h => h) kk
theorem Rcp_X6_189_0 {X : gz_X} {G : gz_G} {cc : ByteArray} {nL fr lo pc : Nat} {rem : Nat × Nat} {m m9 : gM} {lv : List (Nat × Value)} {st : List Value} (hX : gz_C mR X G cc nL RX6 fr lo) (hn0 : X.2.2.2.2.2.2.2.2.1.name = "<init>") {c : Nat} {r : Nat} (hK : clR m.1 m.2.1 m.2.2.2.2.1 → m.1 c = 0 + 1) (hw : 1000 ≤ c) (hs : r ≠ 0) (hd : decode cc pc = .ok (.putfield 189, 3)) (hm : m9 = gz_sP m c 77 r) (kk : gz_V mR X G nL rem m9 (pc + 3) lv st) : gz_V mR X G nL rem m pc lv (.ref (gz_ad G r) :: .ref (gz_ad G c) :: st) := by
  subst hm
  exact gz_putff hX (C := RX6) (T := TX6) (N := 104) (ci := 0) (k := 77) (μ' := gz_sP m c 77 r) (v := .ref (gz_ad G r)) rfl (by decide) in_X6 tyX6 tyX6_ok nmX6 (by decide) (hX.2.2.2.2.1 _ q1848) (fun _ h => h) rfl hn0 rfl rfl rfl rfl hd hK hw rfl rfl rfl (fun d tc j h => gz_sP_o d tc j h) (by intro j; rw [← gz_rfp hs]; exact gz_sP_v (fun j => ftM 0 j) rfl j) (fun h => h) kk
theorem Rcp_X6_192_0 {X : gz_X} {G : gz_G} {cc : ByteArray} {nL fr lo pc : Nat} {rem : Nat × Nat} {m m9 : gM} {lv : List (Nat × Value)} {st : List Value} (hX : gz_C mR X G cc nL RX6 fr lo) (hn0 : X.2.2.2.2.2.2.2.2.1.name = "<init>") {c : Nat} {r : Nat} (hK : clR m.1 m.2.1 m.2.2.2.2.1 → m.1 c = 0 + 1) (hw : 1000 ≤ c) (hs : r ≠ 0) (hd : decode cc pc = .ok (.putfield 192, 3)) (hm : m9 = gz_sP m c 78 r) (kk : gz_V mR X G nL rem m9 (pc + 3) lv st) : gz_V mR X G nL rem m pc lv (.ref (gz_ad G r) :: .ref (gz_ad G c) :: st) := by
  subst hm
  exact gz_putff hX (C := RX6) (T := TX6) (N := 104) (ci := 0) (k := 78) (μ' := gz_sP m c 78 r) (v := .ref (gz_ad G r)) rfl (by decide) in_X6 tyX6 tyX6_ok nmX6 (by decide) (hX.2.2.2.2.1 _ q1849) (fun _ h => h) rfl hn0 rfl rfl rfl rfl hd hK hw rfl rfl rfl (fun d tc j h => gz_sP_o d tc j h) (by intro j; rw [← gz_rfp hs]; exact gz_sP_v (fun j => ftM 0 j) rfl j) (fun h => h) kk
theorem Rcp_X6_195_0 {X : gz_X} {G : gz_G} {cc : ByteArray} {nL fr lo pc : Nat} {rem : Nat × Nat} {m m9 : gM} {lv : List (Nat × Value)} {st : List Value} (hX : gz_C mR X G cc nL RX6 fr lo) (hn0 : X.2.2.2.2.2.2.2.2.1.name = "<init>") {c : Nat} {r : Nat} (hK : clR m.1 m.2.1 m.2.2.2.2.1 → m.1 c = 0 + 1) (hw : 1000 ≤ c) (hs : r ≠ 0) (hd : decode cc pc = .ok (.putfield 195, 3)) (hm : m9 = gz_sP m c 79 r) (kk : gz_V mR X G nL rem m9 (pc + 3) lv st) : gz_V mR X G nL rem m pc lv (.ref (gz_ad G r) :: .ref (gz_ad G c) :: st) := by
  subst hm
  exact gz_putff hX (C := RX6) (T := TX6) (N := 104) (ci := 0) (k := 79) (μ' := gz_sP m c 79 r) (v := .ref (gz_ad G r)) rfl (by decide) in_X6 tyX6 tyX6_ok nmX6 (by decide) (hX.2.2.2.2.1 _ q1850) (fun _ h => h) rfl hn0 rfl rfl rfl rfl hd hK hw rfl rfl rfl (fun d tc j h => gz_sP_o d tc j h) (by intro j; rw [← gz_rfp hs]; exact gz_sP_v (fun j => ftM 0 j) rfl j) (fun h => h) kk
theorem Rcp_X6_198_0 {X : gz_X} {G : gz_G} {cc : ByteArray} {nL fr lo pc : Nat} {rem : Nat × Nat} {m m9 : gM} {lv : List (Nat × Value)} {st : List Value} (hX : gz_C mR X G cc nL RX6 fr lo) (hn0 : X.2.2.2.2.2.2.2.2.1.name = "<init>") {c : Nat} {r : Nat} (hK : clR m.1 m.2.1 m.2.2.2.2.1 → m.1 c = 0 + 1) (hw : 1000 ≤ c) (hs : r ≠ 0) (hd : decode cc pc = .ok (.putfield 198, 3)) (hm : m9 = gz_sP m c 80 r) (kk : gz_V mR X G nL rem m9 (pc + 3) lv st) : gz_V mR X G nL rem m pc lv (.ref (gz_ad G r) :: .ref (gz_ad G c) :: st) := by
  subst hm
  exact gz_putff hX (C := RX6) (T := TX6) (N := 104) (ci := 0) (k := 80) (μ' := gz_sP m c 80 r) (v := .ref (gz_ad G r)) rfl (by decide) in_X6 tyX6 tyX6_ok nmX6 (by decide) (hX.2.2.2.2.1 _ q1851) (fun _ h => h) rfl hn0 rfl rfl rfl rfl hd hK hw rfl rfl rfl (fun d tc j h => gz_sP_o d tc j h) (by intro j; rw [← gz_rfp hs]; exact gz_sP_v (fun j => ftM 0 j) rfl j) (fun h => h) kk
theorem Rcp_X6_201_0 {X : gz_X} {G : gz_G} {cc : ByteArray} {nL fr lo pc : Nat} {rem : Nat × Nat} {m m9 : gM} {lv : List (Nat × Value)} {st : List Value} (hX : gz_C mR X G cc nL RX6 fr lo) (hn0 : X.2.2.2.2.2.2.2.2.1.name = "<init>") {c : Nat} {r : Nat} (hK : clR m.1 m.2.1 m.2.2.2.2.1 → m.1 c = 0 + 1) (hw : 1000 ≤ c) (hs : r ≠ 0) (hd : decode cc pc = .ok (.putfield 201, 3)) (hm : m9 = gz_sP m c 81 r) (kk : gz_V mR X G nL rem m9 (pc + 3) lv st) : gz_V mR X G nL rem m pc lv (.ref (gz_ad G r) :: .ref (gz_ad G c) :: st) := by
  subst hm
  exact gz_putff hX (C := RX6) (T := TX6) (N := 104) (ci := 0) (k := 81) (μ' := gz_sP m c 81 r) (v := .ref (gz_ad G r)) rfl (by decide) in_X6 tyX6 tyX6_ok nmX6 (by decide) (hX.2.2.2.2.1 _ q1852) (fun _ h => h) rfl hn0 rfl rfl rfl rfl hd hK hw rfl rfl rfl (fun d tc j h => gz_sP_o d tc j h) (by intro j; rw [← gz_rfp hs]; exact gz_sP_v (fun j => ftM 0 j) rfl j) (fun h => h) kk
theorem Rcp_X6_204_0 {X : gz_X} {G : gz_G} {cc : ByteArray} {nL fr lo pc : Nat} {rem : Nat × Nat} {m m9 : gM} {lv : List (Nat × Value)} {st : List Value} (hX : gz_C mR X G cc nL RX6 fr lo) (hn0 : X.2.2.2.2.2.2.2.2.1.name = "<init>") {c : Nat} {r : Nat} (hK : clR m.1 m.2.1 m.2.2.2.2.1 → m.1 c = 0 + 1) (hw : 1000 ≤ c) (hs : r ≠ 0) (hd : decode cc pc = .ok (.putfield 204, 3)) (hm : m9 = gz_sP m c 82 r) (kk : gz_V mR X G nL rem m9 (pc + 3) lv st) : gz_V mR X G nL rem m pc lv (.ref (gz_ad G r) :: .ref (gz_ad G c) :: st) := by
  subst hm
  exact gz_putff hX (C := RX6) (T := TX6) (N := 104) (ci := 0) (k := 82) (μ' := gz_sP m c 82 r) (v := .ref (gz_ad G r)) rfl (by decide) in_X6 tyX6 tyX6_ok nmX6 (by decide) (hX.2.2.2.2.1 _ q1853) (fun _ h => h) rfl hn0 rfl rfl rfl rfl hd hK hw rfl rfl rfl (fun d tc j h => gz_sP_o d tc j h) (by intro j; rw [← gz_rfp hs]; exact gz_sP_v (fun j => ftM 0 j) rfl j) (fun h => h) kk
theorem Rcp_X6_207_0 {X : gz_X} {G : gz_G} {cc : ByteArray} {nL fr lo pc : Nat} {rem : Nat × Nat} {m m9 : gM} {lv : List (Nat × Value)} {st : List Value} (hX : gz_C mR X G cc nL RX6 fr lo) (hn0 : X.2.2.2.2.2.2.2.2.1.name = "<init>") {c : Nat} {r : Nat} (hK : clR m.1 m.2.1 m.2.2.2.2.1 → m.1 c = 0 + 1) (hw : 1000 ≤ c) (hs : r ≠ 0) (hd : decode cc pc = .ok (.putfield 207, 3)) (hm : m9 = gz_sP m c 83 r) (kk : gz_V mR X G nL rem m9 (pc + 3) lv st) : gz_V mR X G nL rem m pc lv (.ref (gz_ad G r) :: .ref (gz_ad G c) :: st) := by
  subst hm
  exact gz_putff hX (C := RX6) (T := TX6) (N := 104) (ci := 0) (k := 83) (μ' := gz_sP m c 83 r) (v := .ref (gz_ad G r)) rfl (by decide) in_X6 tyX6 tyX6_ok nmX6 (by decide) (hX.2.2.2.2.1 _ q1854) (fun _ h => h) rfl hn0 rfl rfl rfl rfl hd hK hw rfl rfl rfl (fun d tc j h => gz_sP_o d tc j h) (by intro j; rw [← gz_rfp hs]; exact gz_sP_v (fun j => ftM 0 j) rfl j) (fun h => h) kk
theorem Rcp_X6_210_0 {X : gz_X} {G : gz_G} {cc : ByteArray} {nL fr lo pc : Nat} {rem : Nat × Nat} {m m9 : gM} {lv : List (Nat × Value)} {st : List Value} (hX : gz_C mR X G cc nL RX6 fr lo) (hn0 : X.2.2.2.2.2.2.2.2.1.name = "<init>") {c : Nat} {r : Nat} (hK : clR m.1 m.2.1 m.2.2.2.2.1 → m.1 c = 0 + 1) (hw : 1000 ≤ c) (hs : r ≠ 0) (hd : decode cc pc = .ok (.putfield 210, 3)) (hm : m9 = gz_sP m c 84 r) (kk : gz_V mR X G nL rem m9 (pc + 3) lv st) : gz_V mR X G nL rem m pc lv (.ref (gz_ad G r) :: .ref (gz_ad G c) :: st) := by
  subst hm
  exact gz_putff hX (C := RX6) (T := TX6) (N := 104) (ci := 0) (k := 84) (μ' := gz_sP m c 84 r) (v := .ref (gz_ad G r)) rfl (by decide) in_X6 tyX6 tyX6_ok nmX6 (by decide) (hX.2.2.2.2.1 _ q1855) (fun _ h => h) rfl hn0 rfl rfl rfl rfl hd hK hw rfl rfl rfl (fun d tc j h => gz_sP_o d tc j h) (by intro j; rw [← gz_rfp hs]; exact gz_sP_v (fun j => ftM 0 j) rfl j) (fun h => h) kk
theorem Rcp_X6_213_0 {X : gz_X} {G : gz_G} {cc : ByteArray} {nL fr lo pc : Nat} {rem : Nat × Nat} {m m9 : gM} {lv : List (Nat × Value)} {st : List Value} (hX : gz_C mR X G cc nL RX6 fr lo) (hn0 : X.2.2.2.2.2.2.2.2.1.name = "<init>") {c : Nat} {r : Nat} (hK : clR m.1 m.2.1 m.2.2.2.2.1 → m.1 c = 0 + 1) (hw : 1000 ≤ c) (hs : r ≠ 0) (hd : decode cc pc = .ok (.putfield 213, 3)) (hm : m9 = gz_sP m c 85 r) (kk : gz_V mR X G nL rem m9 (pc + 3) lv st) : gz_V mR X G nL rem m pc lv (.ref (gz_ad G r) :: .ref (gz_ad G c) :: st) := by
  subst hm
  exact gz_putff hX (C := RX6) (T := TX6) (N := 104) (ci := 0) (k := 85) (μ' := gz_sP m c 85 r) (v := .ref (gz_ad G r)) rfl (by decide) in_X6 tyX6 tyX6_ok nmX6 (by decide) (hX.2.2.2.2.1 _ q1856) (fun _ h => h) rfl hn0 rfl rfl rfl rfl hd hK hw rfl rfl rfl (fun d tc j h => gz_sP_o d tc j h) (by intro j; rw [← gz_rfp hs]; exact gz_sP_v (fun j => ftM 0 j) rfl j) (fun h => h) kk
theorem Rcp_X6_216_0 {X : gz_X} {G : gz_G} {cc : ByteArray} {nL fr lo pc : Nat} {rem : Nat × Nat} {m m9 : gM} {lv : List (Nat × Value)} {st : List Value} (hX : gz_C mR X G cc nL RX6 fr lo) (hn0 : X.2.2.2.2.2.2.2.2.1.name = "<init>") {c : Nat} {r : Nat} (hK : clR m.1 m.2.1 m.2.2.2.2.1 → m.1 c = 0 + 1) (hw : 1000 ≤ c) (hs : r ≠ 0) (hd : decode cc pc = .ok (.putfield 216, 3)) (hm : m9 = gz_sP m c 86 r) (kk : gz_V mR X G nL rem m9 (pc + 3) lv st) : gz_V mR X G nL rem m pc lv (.ref (gz_ad G r) :: .ref (gz_ad G c) :: st) := by
  subst hm
  exact gz_putff hX (C := RX6) (T := TX6) (N := 104) (ci := 0) (k := 86) (μ' := gz_sP m c 86 r) (v := .ref (gz_ad G r)) rfl (by decide) in_X6 tyX6 tyX6_ok nmX6 (by decide) (hX.2.2.2.2.1 _ q1857) (fun _ h => h) rfl hn0 rfl rfl rfl rfl hd hK hw rfl rfl rfl (fun d tc j h => gz_sP_o d tc j h) (by intro j; rw [← gz_rfp hs]; exact gz_sP_v (fun j => ftM 0 j) rfl j) (fun h => h) kk
theorem Rcp_X6_219_0 {X : gz_X} {G : gz_G} {cc : ByteArray} {nL fr lo pc : Nat} {rem : Nat × Nat} {m m9 : gM} {lv : List (Nat × Value)} {st : List Value} (hX : gz_C mR X G cc nL RX6 fr lo) (hn0 : X.2.2.2.2.2.2.2.2.1.name = "<init>") {c : Nat} {r : Nat} (hK : clR m.1 m.2.1 m.2.2.2.2.1 → m.1 c = 0 + 1) (hw : 1000 ≤ c) (hs : r ≠ 0) (hd : decode cc pc = .ok (.putfield 219, 3)) (hm : m9 = gz_sP m c 87 r) (kk : gz_V mR X G nL rem m9 (pc + 3) lv st) : gz_V mR X G nL rem m pc lv (.ref (gz_ad G r) :: .ref (gz_ad G c) :: st) := by
  subst hm
  exact gz_putff hX (C := RX6) (T := TX6) (N := 104) (ci := 0) (k := 87) (μ' := gz_sP m c 87 r) (v := .ref (gz_ad G r)) rfl (by decide) in_X6 tyX6 tyX6_ok nmX6 (by decide) (hX.2.2.2.2.1 _ q1858) (fun _ h => h) rfl hn0 rfl rfl rfl rfl hd hK hw rfl rfl rfl (fun d tc j h => gz_sP_o d tc j h) (by intro j; rw [← gz_rfp hs]; exact gz_sP_v (fun j => ftM 0 j) rfl j) (fun h => h) kk
theorem Rcp_X6_222_0 {X : gz_X} {G : gz_G} {cc : ByteArray} {nL fr lo pc : Nat} {rem : Nat × Nat} {m m9 : gM} {lv : List (Nat × Value)} {st : List Value} (hX : gz_C mR X G cc nL RX6 fr lo) (hn0 : X.2.2.2.2.2.2.2.2.1.name = "<init>") {c : Nat} {r : Nat} (hK : clR m.1 m.2.1 m.2.2.2.2.1 → m.1 c = 0 + 1) (hw : 1000 ≤ c) (hs : r ≠ 0) (hd : decode cc pc = .ok (.putfield 222, 3)) (hm : m9 = gz_sP m c 88 r) (kk : gz_V mR X G nL rem m9 (pc + 3) lv st) : gz_V mR X G nL rem m pc lv (.ref (gz_ad G r) :: .ref (gz_ad G c) :: st) := by
  subst hm
  exact gz_putff hX (C := RX6) (T := TX6) (N := 104) (ci := 0) (k := 88) (μ' := gz_sP m c 88 r) (v := .ref (gz_ad G r)) rfl (by decide) in_X6 tyX6 tyX6_ok nmX6 (by decide) (hX.2.2.2.2.1 _ q1859) (fun _ h => h) rfl hn0 rfl rfl rfl rfl hd hK hw rfl rfl rfl (fun d tc j h => gz_sP_o d tc j h) (by intro j; rw [← gz_rfp hs]; exact gz_sP_v (fun j => ftM 0 j) rfl j) (fun h => h) kk
theorem Rcp_X6_225_0 {X : gz_X} {G : gz_G} {cc : ByteArray} {nL fr lo pc : Nat} {rem : Nat × Nat} {m m9 : gM} {lv : List (Nat × Value)} {st : List Value} (hX : gz_C mR X G cc nL RX6 fr lo) (hn0 : X.2.2.2.2.2.2.2.2.1.name = "<init>") {c : Nat} {r : Nat} (hK : clR m.1 m.2.1 m.2.2.2.2.1 → m.1 c = 0 + 1) (hw : 1000 ≤ c) (hs : r ≠ 0) (hd : decode cc pc = .ok (.putfield 225, 3)) (hm : m9 = gz_sP m c 89 r) (kk : gz_V mR X G nL rem m9 (pc + 3) lv st) : gz_V mR X G nL rem m pc lv (.ref (gz_ad G r) :: .ref (gz_ad G c) :: st) := by
  subst hm
  exact gz_putff hX (C := RX6) (T := TX6) (N := 104) (ci := 0) (k := 89) (μ' := gz_sP m c 89 r) (v := .ref (gz_ad G r)) rfl (by decide) in_X6 tyX6 tyX6_ok nmX6 (by decide) (hX.2.2.2.2.1 _ q1860) (fun _ h => h) rfl hn0 rfl rfl rfl rfl hd hK hw rfl rfl rfl (fun d tc j h => gz_sP_o d tc j h) (by intro j; rw [← gz_rfp hs]; exact gz_sP_v (fun j => ftM 0 j) rfl j) (fun h => h) kk
theorem Rcp_X6_228_0 {X : gz_X} {G : gz_G} {cc : ByteArray} {nL fr lo pc : Nat} {rem : Nat × Nat} {m m9 : gM} {lv : List (Nat × Value)} {st : List Value} (hX : gz_C mR X G cc nL RX6 fr lo) (hn0 : X.2.2.2.2.2.2.2.2.1.name = "<init>") {c : Nat} {r : Nat} (hK : clR m.1 m.2.1 m.2.2.2.2.1 → m.1 c = 0 + 1) (hw : 1000 ≤ c) (hs : r ≠ 0) (hd : decode cc pc = .ok (.putfield 228, 3)) (hm : m9 = gz_sP m c 90 r) (kk : gz_V mR X G nL rem m9 (pc + 3) lv st) : gz_V mR X G nL rem m pc lv (.ref (gz_ad G r) :: .ref (gz_ad G c) :: st) := by
  subst hm
  exact gz_putff hX (C := RX6) (T := TX6) (N := 104) (ci := 0) (k := 90) (μ' := gz_sP m c 90 r) (v := .ref (gz_ad G r)) rfl (by decide) in_X6 tyX6 tyX6_ok nmX6 (by decide) (hX.2.2.2.2.1 _ q1861) (fun _ h => h) rfl hn0 rfl rfl rfl rfl hd hK hw rfl rfl rfl (fun d tc j h => gz_sP_o d tc j h) (by intro j; rw [← gz_rfp hs]; exact gz_sP_v (fun j => ftM 0 j) rfl j) (fun h => h) kk
theorem Rcp_X6_231_0 {X : gz_X} {G : gz_G} {cc : ByteArray} {nL fr lo pc : Nat} {rem : Nat × Nat} {m m9 : gM} {lv : List (Nat × Value)} {st : List Value} (hX : gz_C mR X G cc nL RX6 fr lo) (hn0 : X.2.2.2.2.2.2.2.2.1.name = "<init>") {c : Nat} {r : Nat} (hK : clR m.1 m.2.1 m.2.2.2.2.1 → m.1 c = 0 + 1) (hw : 1000 ≤ c) (hs : r ≠ 0) (hd : decode cc pc = .ok (.putfield 231, 3)) (hm : m9 = gz_sP m c 91 r) (kk : gz_V mR X G nL rem m9 (pc + 3) lv st) : gz_V mR X G nL rem m pc lv (.ref (gz_ad G r) :: .ref (gz_ad G c) :: st) := by
  subst hm
  exact gz_putff hX (C := RX6) (T := TX6) (N := 104) (ci := 0) (k := 91) (μ' := gz_sP m c 91 r) (v := .ref (gz_ad G r)) rfl (by decide) in_X6 tyX6 tyX6_ok nmX6 (by decide) (hX.2.2.2.2.1 _ q1862) (fun _ h => h) rfl hn0 rfl rfl rfl rfl hd hK hw rfl rfl rfl (fun d tc j h => gz_sP_o d tc j h) (by intro j; rw [← gz_rfp hs]; exact gz_sP_v (fun j => ftM 0 j) rfl j) (fun h => h) kk
theorem Rcp_X6_234_0 {X : gz_X} {G : gz_G} {cc : ByteArray} {nL fr lo pc : Nat} {rem : Nat × Nat} {m m9 : gM} {lv : List (Nat × Value)} {st : List Value} (hX : gz_C mR X G cc nL RX6 fr lo) (hn0 : X.2.2.2.2.2.2.2.2.1.name = "<init>") {c : Nat} {r : Nat} (hK : clR m.1 m.2.1 m.2.2.2.2.1 → m.1 c = 0 + 1) (hw : 1000 ≤ c) (hs : r ≠ 0) (hd : decode cc pc = .ok (.putfield 234, 3)) (hm : m9 = gz_sP m c 92 r) (kk : gz_V mR X G nL rem m9 (pc + 3) lv st) : gz_V mR X G nL rem m pc lv (.ref (gz_ad G r) :: .ref (gz_ad G c) :: st) := by
  subst hm
  exact gz_putff hX (C := RX6) (T := TX6) (N := 104) (ci := 0) (k := 92) (μ' := gz_sP m c 92 r) (v := .ref (gz_ad G r)) rfl (by decide) in_X6 tyX6 tyX6_ok nmX6 (by decide) (hX.2.2.2.2.1 _ q1863) (fun _ h => h) rfl hn0 rfl rfl rfl rfl hd hK hw rfl rfl rfl (fun d tc j h => gz_sP_o d tc j h) (by intro j; rw [← gz_rfp hs]; exact gz_sP_v (fun j => ftM 0 j) rfl j) (fun h => h) kk
theorem Rcp_X6_237_0 {X : gz_X} {G : gz_G} {cc : ByteArray} {nL fr lo pc : Nat} {rem : Nat × Nat} {m m9 : gM} {lv : List (Nat × Value)} {st : List Value} (hX : gz_C mR X G cc nL RX6 fr lo) (hn0 : X.2.2.2.2.2.2.2.2.1.name = "<init>") {c : Nat} {r : Nat} (hK : clR m.1 m.2.1 m.2.2.2.2.1 → m.1 c = 0 + 1) (hw : 1000 ≤ c) (hs : r ≠ 0) (hd : decode cc pc = .ok (.putfield 237, 3)) (hm : m9 = gz_sP m c 94 r) (kk : gz_V mR X G nL rem m9 (pc + 3) lv st) : gz_V mR X G nL rem m pc lv (.ref (gz_ad G r) :: .ref (gz_ad G c) :: st) := by
  subst hm
  exact gz_putff hX (C := RX6) (T := TX6) (N := 104) (ci := 0) (k := 94) (μ' := gz_sP m c 94 r) (v := .ref (gz_ad G r)) rfl (by decide) in_X6 tyX6 tyX6_ok nmX6 (by decide) (hX.2.2.2.2.1 _ q1865) (fun _ h => h) rfl hn0 rfl rfl rfl rfl hd hK hw rfl rfl rfl (fun d tc j h => gz_sP_o d tc j h) (by intro j; rw [← gz_rfp hs]; exact gz_sP_v (fun j => ftM 0 j) rfl j) (fun h => h) kk
theorem Rcp_X6_240_0 {X : gz_X} {G : gz_G} {cc : ByteArray} {nL fr lo pc : Nat} {rem : Nat × Nat} {m m9 : gM} {lv : List (Nat × Value)} {st : List Value} (hX : gz_C mR X G cc nL RX6 fr lo) (hn0 : X.2.2.2.2.2.2.2.2.1.name = "<init>") {c : Nat} {r : Nat} (hK : clR m.1 m.2.1 m.2.2.2.2.1 → m.1 c = 0 + 1) (hw : 1000 ≤ c) (hs : r ≠ 0) (hd : decode cc pc = .ok (.putfield 240, 3)) (hm : m9 = gz_sP m c 98 r) (kk : gz_V mR X G nL rem m9 (pc + 3) lv st) : gz_V mR X G nL rem m pc lv (.ref (gz_ad G r) :: .ref (gz_ad G c) :: st) := by
  subst hm
  exact gz_putff hX (C := RX6) (T := TX6) (N := 104) (ci := 0) (k := 98) (μ' := gz_sP m c 98 r) (v := .ref (gz_ad G r)) rfl (by decide) in_X6 tyX6 tyX6_ok nmX6 (by decide) (hX.2.2.2.2.1 _ q1869) (fun _ h => h) rfl hn0 rfl rfl rfl rfl hd hK hw rfl rfl rfl (fun d tc j h => gz_sP_o d tc j h) (by intro j; rw [← gz_rfp hs]; exact gz_sP_v (fun j => ftM 0 j) rfl j) (fun h => h) kk
theorem Rcp_X6_243_0 {X : gz_X} {G : gz_G} {cc : ByteArray} {nL fr lo pc : Nat} {rem : Nat × Nat} {m m9 : gM} {lv : List (Nat × Value)} {st : List Value} (hX : gz_C mR X G cc nL RX6 fr lo) (hn0 : X.2.2.2.2.2.2.2.2.1.name = "<init>") {c : Nat} {r : Nat} (hK : clR m.1 m.2.1 m.2.2.2.2.1 → m.1 c = 0 + 1) (hw : 1000 ≤ c) (hs : r ≠ 0) (hd : decode cc pc = .ok (.putfield 243, 3)) (hm : m9 = gz_sP m c 102 r) (kk : gz_V mR X G nL rem m9 (pc + 3) lv st) : gz_V mR X G nL rem m pc lv (.ref (gz_ad G r) :: .ref (gz_ad G c) :: st) := by
  subst hm
  exact gz_putff hX (C := RX6) (T := TX6) (N := 104) (ci := 0) (k := 102) (μ' := gz_sP m c 102 r) (v := .ref (gz_ad G r)) rfl (by decide) in_X6 tyX6 tyX6_ok nmX6 (by decide) (hX.2.2.2.2.1 _ q1873) (fun _ h => h) rfl hn0 rfl rfl rfl rfl hd hK hw rfl rfl rfl (fun d tc j h => gz_sP_o d tc j h) (by intro j; rw [← gz_rfp hs]; exact gz_sP_v (fun j => ftM 0 j) rfl j) (fun h => h) kk
/-! FirstSnufferModel.<init>()V -/
noncomputable def Rmj_X6_init_1571 (c0 : Nat) (m : gM) : Option (Unit × gM) :=
  some ((), m)
theorem Rwb_X6_init_1571 {X : gz_X} {G : gz_G} {zE : Nat × Nat} (hX : gz_C mR X G cX6_init 1 RX6 1 20) (hn0 : X.2.2.2.2.2.2.2.2.1.name = "<init>") {c0 : Nat}  {m : gM} {z : (Unit × gM)} (h : Rmj_X6_init_1571 c0 m = some z) (hk : (fun z : (Unit × gM) => gz_kVa mR X G 1 zE cX6_init z.2) z) : gz_Va mR X G 1 zE m 1571 [(0, .ref (gz_ad G c0))] [] := by
  unfold Rmj_X6_init_1571 at h
  obtain rfl := Option.some.inj h
  exact hk _ _ dX6_init_1571
noncomputable def Rmj_X6_init_1504 (c0 : Nat) (m : gM) : Option (Unit × gM) :=
  (if 0 ≤ (5 : Int32) ∧ gz_ix (5 : Int32) * 2 ≤ 536870912 ∧ gZ m ≠ 0 then gz_let (gz_al m (2 + 101) (gz_ix (5 : Int32)) (gz_ix (5 : Int32))) fun m2 => (if gK m2 (gZ m) = 103 ∧ 1000 ≤ (gZ m) then (if gz_in (0 : Int32) (gN m2 (gZ m)) then gz_let (gz_sI m2 (gZ m) (gz_ix (0 : Int32)) ((115 : Int32).toUInt32.toUInt16.toUInt32.toInt32)) fun m5 => (if gK m5 (gZ m) = 103 ∧ 1000 ≤ (gZ m) then (if gz_in (1 : Int32) (gN m5 (gZ m)) then gz_let (gz_sI m5 (gZ m) (gz_ix (1 : Int32)) ((116 : Int32).toUInt32.toUInt16.toUInt32.toInt32)) fun m8 => (if gK m8 (gZ m) = 103 ∧ 1000 ≤ (gZ m) then (if gz_in (2 : Int32) (gN m8 (gZ m)) then gz_let (gz_sI m8 (gZ m) (gz_ix (2 : Int32)) ((101 : Int32).toUInt32.toUInt16.toUInt32.toInt32)) fun m11 => (if gK m11 (gZ m) = 103 ∧ 1000 ≤ (gZ m) then (if gz_in (3 : Int32) (gN m11 (gZ m)) then gz_let (gz_sI m11 (gZ m) (gz_ix (3 : Int32)) ((112 : Int32).toUInt32.toUInt16.toUInt32.toInt32)) fun m14 => (if gK m14 (gZ m) = 103 ∧ 1000 ≤ (gZ m) then (if gz_in (4 : Int32) (gN m14 (gZ m)) then gz_let (gz_sI m14 (gZ m) (gz_ix (4 : Int32)) ((115 : Int32).toUInt32.toUInt16.toUInt32.toInt32)) fun m17 => (if gK m17 c0 = 1 then (if 1000 ≤ c0 then (if (gZ m) ≠ 0 then gz_let (gz_sP m17 c0 91 (gZ m)) fun m21 => (if 0 ≤ (1700 : Int32) ∧ gz_ix (1700 : Int32) * 4 ≤ 536870912 ∧ gZ m21 ≠ 0 then gz_let (gz_al m21 (0 + 101) (gz_ix (1700 : Int32)) (gz_ix (1700 : Int32))) fun m23 => (if gK m23 c0 = 1 then (if 1000 ≤ c0 then (if (gZ m21) ≠ 0 then gz_let (gz_sP m23 c0 92 (gZ m21)) fun m27 => (if 0 ≤ (1700 : Int32) ∧ gz_ix (1700 : Int32) * 4 ≤ 536870912 ∧ gZ m27 ≠ 0 then gz_let (gz_al m27 (0 + 101) (gz_ix (1700 : Int32)) (gz_ix (1700 : Int32))) fun m29 => (if gK m29 c0 = 1 then (if 1000 ≤ c0 then (if (gZ m27) ≠ 0 then gz_let (gz_sP m29 c0 94 (gZ m27)) fun m33 => (if 0 ≤ (1700 : Int32) ∧ gz_ix (1700 : Int32) * 8 ≤ 536870912 ∧ gZ m33 ≠ 0 then gz_let (gz_al m33 (4 + 101) (gz_ix (1700 : Int32)) (gz_ix (1700 : Int32))) fun m35 => (if gK m35 c0 = 1 then (if 1000 ≤ c0 then (if (gZ m33) ≠ 0 then gz_let (gz_sP m35 c0 98 (gZ m33)) fun m39 => (if 0 ≤ (32 : Int32) ∧ gz_ix (32 : Int32) * 4 ≤ 536870912 ∧ gZ m39 ≠ 0 then gz_let (gz_al m39 (0 + 101) (gz_ix (32 : Int32)) (gz_ix (32 : Int32))) fun m41 => (if gK m41 c0 = 1 then (if 1000 ≤ c0 then (if (gZ m39) ≠ 0 then gz_let (gz_sP m41 c0 102 (gZ m39)) fun m45 => (Rmj_X6_init_1571 c0 m45) else none) else none) else none) else none) else none) else none) else none) else none) else none) else none) else none) else none) else none) else none) else none) else none) else none) else none) else none) else none) else none) else none) else none) else none) else none) else none) else none) else none) else none) else none)
theorem Rwb_X6_init_1504 {X : gz_X} {G : gz_G} {zE : Nat × Nat} (hX : gz_C mR X G cX6_init 1 RX6 1 20) (hn0 : X.2.2.2.2.2.2.2.2.1.name = "<init>") {c0 : Nat}  {m : gM} {z : (Unit × gM)} (h : Rmj_X6_init_1504 c0 m = some z) (hk : (fun z : (Unit × gM) => gz_kVa mR X G 1 zE cX6_init z.2) z) : gz_Va mR X G 1 zE m 1504 [(0, .ref (gz_ad G c0))] [] := by
  unfold Rmj_X6_init_1504 at h
  refine gz_Vs (fun _ kk => gz_aload_n (pc := 1504) hX dX6_init_1504 rfl 0 rfl kk) rfl ?_
  refine gz_Vs (fun _ kk => gz_iconst (pc := 1505) (v := (5 : Int32)) hX dX6_init_1505 (by decide) kk) rfl ?_
  obtain ⟨g1, h⟩ := gz_gu h
  obtain ⟨m2, em2, h⟩ := gz_lt h
  refine gz_Vn (fun _ kk => gz_newa (pc := 1506) (t := 2) (N := gz_ix (5 : Int32)) hX rfl rfl q726 rfl ⟨⟨g1.1, Nat.lt_succ_self _⟩, rfl⟩ g1.2.1 g1.2.2 (fun _ _ => trivial) dX6_init_1506 em2 kk) em2 ?_
  refine gz_Vs (fun _ kk => gz_dup (pc := 1508) hX dX6_init_1508 rfl kk) rfl ?_
  refine gz_Vs (fun _ kk => gz_iconst (pc := 1509) (v := (0 : Int32)) hX dX6_init_1509 (by decide) kk) rfl ?_
  refine gz_Vs (fun _ kk => gz_bipush (pc := 1510) (v := (115 : Int32)) hX dX6_init_1510 (by decide) kk) rfl ?_
  obtain ⟨g3, h⟩ := gz_gu h
  obtain ⟨g4, h⟩ := gz_gu h
  obtain ⟨m5, em5, h⟩ := gz_lt h
  refine gz_Vs (fun _ kk => gz_cast2 (pc := 1512) (c := (gZ m)) (n := gN m2 (gZ m)) hX rfl (fun _ => ⟨g3.1, rfl⟩) g3.2 g4 dX6_init_1512 em5 kk) (by rw [em5]; rfl) ?_
  refine gz_Vs (fun _ kk => gz_dup (pc := 1513) hX dX6_init_1513 rfl kk) rfl ?_
  refine gz_Vs (fun _ kk => gz_iconst (pc := 1514) (v := (1 : Int32)) hX dX6_init_1514 (by decide) kk) rfl ?_
  refine gz_Vs (fun _ kk => gz_bipush (pc := 1515) (v := (116 : Int32)) hX dX6_init_1515 (by decide) kk) rfl ?_
  obtain ⟨g6, h⟩ := gz_gu h
  obtain ⟨g7, h⟩ := gz_gu h
  obtain ⟨m8, em8, h⟩ := gz_lt h
  refine gz_Vs (fun _ kk => gz_cast2 (pc := 1517) (c := (gZ m)) (n := gN m5 (gZ m)) hX rfl (fun _ => ⟨g6.1, rfl⟩) g6.2 g7 dX6_init_1517 em8 kk) (by rw [em8]; rfl) ?_
  refine gz_Vs (fun _ kk => gz_dup (pc := 1518) hX dX6_init_1518 rfl kk) rfl ?_
  refine gz_Vs (fun _ kk => gz_iconst (pc := 1519) (v := (2 : Int32)) hX dX6_init_1519 (by decide) kk) rfl ?_
  refine gz_Vs (fun _ kk => gz_bipush (pc := 1520) (v := (101 : Int32)) hX dX6_init_1520 (by decide) kk) rfl ?_
  obtain ⟨g9, h⟩ := gz_gu h
  obtain ⟨g10, h⟩ := gz_gu h
  obtain ⟨m11, em11, h⟩ := gz_lt h
  refine gz_Vs (fun _ kk => gz_cast2 (pc := 1522) (c := (gZ m)) (n := gN m8 (gZ m)) hX rfl (fun _ => ⟨g9.1, rfl⟩) g9.2 g10 dX6_init_1522 em11 kk) (by rw [em11]; rfl) ?_
  refine gz_Vs (fun _ kk => gz_dup (pc := 1523) hX dX6_init_1523 rfl kk) rfl ?_
  refine gz_Vs (fun _ kk => gz_iconst (pc := 1524) (v := (3 : Int32)) hX dX6_init_1524 (by decide) kk) rfl ?_
  refine gz_Vs (fun _ kk => gz_bipush (pc := 1525) (v := (112 : Int32)) hX dX6_init_1525 (by decide) kk) rfl ?_
  obtain ⟨g12, h⟩ := gz_gu h
  obtain ⟨g13, h⟩ := gz_gu h
  obtain ⟨m14, em14, h⟩ := gz_lt h
  refine gz_Vs (fun _ kk => gz_cast2 (pc := 1527) (c := (gZ m)) (n := gN m11 (gZ m)) hX rfl (fun _ => ⟨g12.1, rfl⟩) g12.2 g13 dX6_init_1527 em14 kk) (by rw [em14]; rfl) ?_
  refine gz_Vs (fun _ kk => gz_dup (pc := 1528) hX dX6_init_1528 rfl kk) rfl ?_
  refine gz_Vs (fun _ kk => gz_iconst (pc := 1529) (v := (4 : Int32)) hX dX6_init_1529 (by decide) kk) rfl ?_
  refine gz_Vs (fun _ kk => gz_bipush (pc := 1530) (v := (115 : Int32)) hX dX6_init_1530 (by decide) kk) rfl ?_
  obtain ⟨g15, h⟩ := gz_gu h
  obtain ⟨g16, h⟩ := gz_gu h
  obtain ⟨m17, em17, h⟩ := gz_lt h
  refine gz_Vs (fun _ kk => gz_cast2 (pc := 1532) (c := (gZ m)) (n := gN m14 (gZ m)) hX rfl (fun _ => ⟨g15.1, rfl⟩) g15.2 g16 dX6_init_1532 em17 kk) (by rw [em17]; rfl) ?_
  obtain ⟨g18, h⟩ := gz_gu h
  obtain ⟨g19, h⟩ := gz_gu h
  obtain ⟨g20, h⟩ := gz_gu h
  obtain ⟨m21, em21, h⟩ := gz_lt h
  refine gz_Vs (fun _ kk => Rcp_X6_231_0 (pc := 1533) hX hn0 (c := c0) (fun _ => g18) g19 g20 dX6_init_1533 em21 kk) (by rw [em21]; rfl) ?_
  refine gz_Vs (fun _ kk => gz_aload_n (pc := 1536) hX dX6_init_1536 rfl 0 rfl kk) rfl ?_
  refine gz_Vs (fun _ kk => gz_sipush (pc := 1537) (v := (1700 : Int32)) hX dX6_init_1537 (by decide) kk) rfl ?_
  obtain ⟨g22, h⟩ := gz_gu h
  obtain ⟨m23, em23, h⟩ := gz_lt h
  refine gz_Vn (fun _ kk => gz_newa (pc := 1540) (t := 0) (N := gz_ix (1700 : Int32)) hX rfl rfl q457 rfl ⟨⟨g22.1, Nat.lt_succ_self _⟩, rfl⟩ g22.2.1 g22.2.2 (fun _ _ => trivial) dX6_init_1540 em23 kk) em23 ?_
  obtain ⟨g24, h⟩ := gz_gu h
  obtain ⟨g25, h⟩ := gz_gu h
  obtain ⟨g26, h⟩ := gz_gu h
  obtain ⟨m27, em27, h⟩ := gz_lt h
  refine gz_Vs (fun _ kk => Rcp_X6_234_0 (pc := 1542) hX hn0 (c := c0) (fun _ => g24) g25 g26 dX6_init_1542 em27 kk) (by rw [em27]; rfl) ?_
  refine gz_Vs (fun _ kk => gz_aload_n (pc := 1545) hX dX6_init_1545 rfl 0 rfl kk) rfl ?_
  refine gz_Vs (fun _ kk => gz_sipush (pc := 1546) (v := (1700 : Int32)) hX dX6_init_1546 (by decide) kk) rfl ?_
  obtain ⟨g28, h⟩ := gz_gu h
  obtain ⟨m29, em29, h⟩ := gz_lt h
  refine gz_Vn (fun _ kk => gz_newa (pc := 1549) (t := 0) (N := gz_ix (1700 : Int32)) hX rfl rfl q457 rfl ⟨⟨g28.1, Nat.lt_succ_self _⟩, rfl⟩ g28.2.1 g28.2.2 (fun _ _ => trivial) dX6_init_1549 em29 kk) em29 ?_
  obtain ⟨g30, h⟩ := gz_gu h
  obtain ⟨g31, h⟩ := gz_gu h
  obtain ⟨g32, h⟩ := gz_gu h
  obtain ⟨m33, em33, h⟩ := gz_lt h
  refine gz_Vs (fun _ kk => Rcp_X6_237_0 (pc := 1551) hX hn0 (c := c0) (fun _ => g30) g31 g32 dX6_init_1551 em33 kk) (by rw [em33]; rfl) ?_
  refine gz_Vs (fun _ kk => gz_aload_n (pc := 1554) hX dX6_init_1554 rfl 0 rfl kk) rfl ?_
  refine gz_Vs (fun _ kk => gz_sipush (pc := 1555) (v := (1700 : Int32)) hX dX6_init_1555 (by decide) kk) rfl ?_
  obtain ⟨g34, h⟩ := gz_gu h
  obtain ⟨m35, em35, h⟩ := gz_lt h
  refine gz_Vn (fun _ kk => gz_newa (pc := 1558) (t := 4) (N := gz_ix (1700 : Int32)) hX rfl rfl q408 rfl ⟨⟨g34.1, Nat.lt_succ_self _⟩, rfl⟩ g34.2.1 g34.2.2 (fun _ _ => trivial) dX6_init_1558 em35 kk) em35 ?_
  obtain ⟨g36, h⟩ := gz_gu h
  obtain ⟨g37, h⟩ := gz_gu h
  obtain ⟨g38, h⟩ := gz_gu h
  obtain ⟨m39, em39, h⟩ := gz_lt h
  refine gz_Vs (fun _ kk => Rcp_X6_240_0 (pc := 1560) hX hn0 (c := c0) (fun _ => g36) g37 g38 dX6_init_1560 em39 kk) (by rw [em39]; rfl) ?_
  refine gz_Vs (fun _ kk => gz_aload_n (pc := 1563) hX dX6_init_1563 rfl 0 rfl kk) rfl ?_
  refine gz_Vs (fun _ kk => gz_bipush (pc := 1564) (v := (32 : Int32)) hX dX6_init_1564 (by decide) kk) rfl ?_
  obtain ⟨g40, h⟩ := gz_gu h
  obtain ⟨m41, em41, h⟩ := gz_lt h
  refine gz_Vn (fun _ kk => gz_newa (pc := 1566) (t := 0) (N := gz_ix (32 : Int32)) hX rfl rfl q457 rfl ⟨⟨g40.1, Nat.lt_succ_self _⟩, rfl⟩ g40.2.1 g40.2.2 (fun _ _ => trivial) dX6_init_1566 em41 kk) em41 ?_
  obtain ⟨g42, h⟩ := gz_gu h
  obtain ⟨g43, h⟩ := gz_gu h
  obtain ⟨g44, h⟩ := gz_gu h
  obtain ⟨m45, em45, h⟩ := gz_lt h
  refine gz_Vs (fun _ kk => Rcp_X6_243_0 (pc := 1568) hX hn0 (c := c0) (fun _ => g42) g43 g44 dX6_init_1568 em45 kk) (by rw [em45]; rfl) ?_
  exact Rwb_X6_init_1571 hX hn0 h hk
noncomputable def Rmj_X6_init_1445 (c0 : Nat) (m : gM) : Option (Unit × gM) :=
  (if 0 ≤ (5 : Int32) ∧ gz_ix (5 : Int32) * 2 ≤ 536870912 ∧ gZ m ≠ 0 then gz_let (gz_al m (2 + 101) (gz_ix (5 : Int32)) (gz_ix (5 : Int32))) fun m2 => (if gK m2 (gZ m) = 103 ∧ 1000 ≤ (gZ m) then (if gz_in (0 : Int32) (gN m2 (gZ m)) then gz_let (gz_sI m2 (gZ m) (gz_ix (0 : Int32)) ((115 : Int32).toUInt32.toUInt16.toUInt32.toInt32)) fun m5 => (if gK m5 (gZ m) = 103 ∧ 1000 ≤ (gZ m) then (if gz_in (1 : Int32) (gN m5 (gZ m)) then gz_let (gz_sI m5 (gZ m) (gz_ix (1 : Int32)) ((109 : Int32).toUInt32.toUInt16.toUInt32.toInt32)) fun m8 => (if gK m8 (gZ m) = 103 ∧ 1000 ≤ (gZ m) then (if gz_in (2 : Int32) (gN m8 (gZ m)) then gz_let (gz_sI m8 (gZ m) (gz_ix (2 : Int32)) ((101 : Int32).toUInt32.toUInt16.toUInt32.toInt32)) fun m11 => (if gK m11 (gZ m) = 103 ∧ 1000 ≤ (gZ m) then (if gz_in (3 : Int32) (gN m11 (gZ m)) then gz_let (gz_sI m11 (gZ m) (gz_ix (3 : Int32)) ((108 : Int32).toUInt32.toUInt16.toUInt32.toInt32)) fun m14 => (if gK m14 (gZ m) = 103 ∧ 1000 ≤ (gZ m) then (if gz_in (4 : Int32) (gN m14 (gZ m)) then gz_let (gz_sI m14 (gZ m) (gz_ix (4 : Int32)) ((108 : Int32).toUInt32.toUInt16.toUInt32.toInt32)) fun m17 => (if gK m17 c0 = 1 then (if 1000 ≤ c0 then (if (gZ m) ≠ 0 then gz_let (gz_sP m17 c0 89 (gZ m)) fun m21 => (if 0 ≤ (4 : Int32) ∧ gz_ix (4 : Int32) * 2 ≤ 536870912 ∧ gZ m21 ≠ 0 then gz_let (gz_al m21 (2 + 101) (gz_ix (4 : Int32)) (gz_ix (4 : Int32))) fun m23 => (if gK m23 (gZ m21) = 103 ∧ 1000 ≤ (gZ m21) then (if gz_in (0 : Int32) (gN m23 (gZ m21)) then gz_let (gz_sI m23 (gZ m21) (gz_ix (0 : Int32)) ((101 : Int32).toUInt32.toUInt16.toUInt32.toInt32)) fun m26 => (if gK m26 (gZ m21) = 103 ∧ 1000 ≤ (gZ m21) then (if gz_in (1 : Int32) (gN m26 (gZ m21)) then gz_let (gz_sI m26 (gZ m21) (gz_ix (1 : Int32)) ((110 : Int32).toUInt32.toUInt16.toUInt32.toInt32)) fun m29 => (if gK m29 (gZ m21) = 103 ∧ 1000 ≤ (gZ m21) then (if gz_in (2 : Int32) (gN m29 (gZ m21)) then gz_let (gz_sI m29 (gZ m21) (gz_ix (2 : Int32)) ((100 : Int32).toUInt32.toUInt16.toUInt32.toInt32)) fun m32 => (if gK m32 (gZ m21) = 103 ∧ 1000 ≤ (gZ m21) then (if gz_in (3 : Int32) (gN m32 (gZ m21)) then gz_let (gz_sI m32 (gZ m21) (gz_ix (3 : Int32)) ((115 : Int32).toUInt32.toUInt16.toUInt32.toInt32)) fun m35 => (if gK m35 c0 = 1 then (if 1000 ≤ c0 then (if (gZ m21) ≠ 0 then gz_let (gz_sP m35 c0 90 (gZ m21)) fun m39 => (Rmj_X6_init_1504 c0 m39) else none) else none) else none) else none) else none) else none) else none) else none) else none) else none) else none) else none) else none) else none) else none) else none) else none) else none) else none) else none) else none) else none) else none) else none) else none) else none)
theorem Rwb_X6_init_1445 {X : gz_X} {G : gz_G} {zE : Nat × Nat} (hX : gz_C mR X G cX6_init 1 RX6 1 20) (hn0 : X.2.2.2.2.2.2.2.2.1.name = "<init>") {c0 : Nat}  {m : gM} {z : (Unit × gM)} (h : Rmj_X6_init_1445 c0 m = some z) (hk : (fun z : (Unit × gM) => gz_kVa mR X G 1 zE cX6_init z.2) z) : gz_Va mR X G 1 zE m 1445 [(0, .ref (gz_ad G c0))] [] := by
  unfold Rmj_X6_init_1445 at h
  refine gz_Vs (fun _ kk => gz_aload_n (pc := 1445) hX dX6_init_1445 rfl 0 rfl kk) rfl ?_
  refine gz_Vs (fun _ kk => gz_iconst (pc := 1446) (v := (5 : Int32)) hX dX6_init_1446 (by decide) kk) rfl ?_
  obtain ⟨g1, h⟩ := gz_gu h
  obtain ⟨m2, em2, h⟩ := gz_lt h
  refine gz_Vn (fun _ kk => gz_newa (pc := 1447) (t := 2) (N := gz_ix (5 : Int32)) hX rfl rfl q726 rfl ⟨⟨g1.1, Nat.lt_succ_self _⟩, rfl⟩ g1.2.1 g1.2.2 (fun _ _ => trivial) dX6_init_1447 em2 kk) em2 ?_
  refine gz_Vs (fun _ kk => gz_dup (pc := 1449) hX dX6_init_1449 rfl kk) rfl ?_
  refine gz_Vs (fun _ kk => gz_iconst (pc := 1450) (v := (0 : Int32)) hX dX6_init_1450 (by decide) kk) rfl ?_
  refine gz_Vs (fun _ kk => gz_bipush (pc := 1451) (v := (115 : Int32)) hX dX6_init_1451 (by decide) kk) rfl ?_
  obtain ⟨g3, h⟩ := gz_gu h
  obtain ⟨g4, h⟩ := gz_gu h
  obtain ⟨m5, em5, h⟩ := gz_lt h
  refine gz_Vs (fun _ kk => gz_cast2 (pc := 1453) (c := (gZ m)) (n := gN m2 (gZ m)) hX rfl (fun _ => ⟨g3.1, rfl⟩) g3.2 g4 dX6_init_1453 em5 kk) (by rw [em5]; rfl) ?_
  refine gz_Vs (fun _ kk => gz_dup (pc := 1454) hX dX6_init_1454 rfl kk) rfl ?_
  refine gz_Vs (fun _ kk => gz_iconst (pc := 1455) (v := (1 : Int32)) hX dX6_init_1455 (by decide) kk) rfl ?_
  refine gz_Vs (fun _ kk => gz_bipush (pc := 1456) (v := (109 : Int32)) hX dX6_init_1456 (by decide) kk) rfl ?_
  obtain ⟨g6, h⟩ := gz_gu h
  obtain ⟨g7, h⟩ := gz_gu h
  obtain ⟨m8, em8, h⟩ := gz_lt h
  refine gz_Vs (fun _ kk => gz_cast2 (pc := 1458) (c := (gZ m)) (n := gN m5 (gZ m)) hX rfl (fun _ => ⟨g6.1, rfl⟩) g6.2 g7 dX6_init_1458 em8 kk) (by rw [em8]; rfl) ?_
  refine gz_Vs (fun _ kk => gz_dup (pc := 1459) hX dX6_init_1459 rfl kk) rfl ?_
  refine gz_Vs (fun _ kk => gz_iconst (pc := 1460) (v := (2 : Int32)) hX dX6_init_1460 (by decide) kk) rfl ?_
  refine gz_Vs (fun _ kk => gz_bipush (pc := 1461) (v := (101 : Int32)) hX dX6_init_1461 (by decide) kk) rfl ?_
  obtain ⟨g9, h⟩ := gz_gu h
  obtain ⟨g10, h⟩ := gz_gu h
  obtain ⟨m11, em11, h⟩ := gz_lt h
  refine gz_Vs (fun _ kk => gz_cast2 (pc := 1463) (c := (gZ m)) (n := gN m8 (gZ m)) hX rfl (fun _ => ⟨g9.1, rfl⟩) g9.2 g10 dX6_init_1463 em11 kk) (by rw [em11]; rfl) ?_
  refine gz_Vs (fun _ kk => gz_dup (pc := 1464) hX dX6_init_1464 rfl kk) rfl ?_
  refine gz_Vs (fun _ kk => gz_iconst (pc := 1465) (v := (3 : Int32)) hX dX6_init_1465 (by decide) kk) rfl ?_
  refine gz_Vs (fun _ kk => gz_bipush (pc := 1466) (v := (108 : Int32)) hX dX6_init_1466 (by decide) kk) rfl ?_
  obtain ⟨g12, h⟩ := gz_gu h
  obtain ⟨g13, h⟩ := gz_gu h
  obtain ⟨m14, em14, h⟩ := gz_lt h
  refine gz_Vs (fun _ kk => gz_cast2 (pc := 1468) (c := (gZ m)) (n := gN m11 (gZ m)) hX rfl (fun _ => ⟨g12.1, rfl⟩) g12.2 g13 dX6_init_1468 em14 kk) (by rw [em14]; rfl) ?_
  refine gz_Vs (fun _ kk => gz_dup (pc := 1469) hX dX6_init_1469 rfl kk) rfl ?_
  refine gz_Vs (fun _ kk => gz_iconst (pc := 1470) (v := (4 : Int32)) hX dX6_init_1470 (by decide) kk) rfl ?_
  refine gz_Vs (fun _ kk => gz_bipush (pc := 1471) (v := (108 : Int32)) hX dX6_init_1471 (by decide) kk) rfl ?_
  obtain ⟨g15, h⟩ := gz_gu h
  obtain ⟨g16, h⟩ := gz_gu h
  obtain ⟨m17, em17, h⟩ := gz_lt h
  refine gz_Vs (fun _ kk => gz_cast2 (pc := 1473) (c := (gZ m)) (n := gN m14 (gZ m)) hX rfl (fun _ => ⟨g15.1, rfl⟩) g15.2 g16 dX6_init_1473 em17 kk) (by rw [em17]; rfl) ?_
  obtain ⟨g18, h⟩ := gz_gu h
  obtain ⟨g19, h⟩ := gz_gu h
  obtain ⟨g20, h⟩ := gz_gu h
  obtain ⟨m21, em21, h⟩ := gz_lt h
  refine gz_Vs (fun _ kk => Rcp_X6_225_0 (pc := 1474) hX hn0 (c := c0) (fun _ => g18) g19 g20 dX6_init_1474 em21 kk) (by rw [em21]; rfl) ?_
  refine gz_Vs (fun _ kk => gz_aload_n (pc := 1477) hX dX6_init_1477 rfl 0 rfl kk) rfl ?_
  refine gz_Vs (fun _ kk => gz_iconst (pc := 1478) (v := (4 : Int32)) hX dX6_init_1478 (by decide) kk) rfl ?_
  obtain ⟨g22, h⟩ := gz_gu h
  obtain ⟨m23, em23, h⟩ := gz_lt h
  refine gz_Vn (fun _ kk => gz_newa (pc := 1479) (t := 2) (N := gz_ix (4 : Int32)) hX rfl rfl q726 rfl ⟨⟨g22.1, Nat.lt_succ_self _⟩, rfl⟩ g22.2.1 g22.2.2 (fun _ _ => trivial) dX6_init_1479 em23 kk) em23 ?_
  refine gz_Vs (fun _ kk => gz_dup (pc := 1481) hX dX6_init_1481 rfl kk) rfl ?_
  refine gz_Vs (fun _ kk => gz_iconst (pc := 1482) (v := (0 : Int32)) hX dX6_init_1482 (by decide) kk) rfl ?_
  refine gz_Vs (fun _ kk => gz_bipush (pc := 1483) (v := (101 : Int32)) hX dX6_init_1483 (by decide) kk) rfl ?_
  obtain ⟨g24, h⟩ := gz_gu h
  obtain ⟨g25, h⟩ := gz_gu h
  obtain ⟨m26, em26, h⟩ := gz_lt h
  refine gz_Vs (fun _ kk => gz_cast2 (pc := 1485) (c := (gZ m21)) (n := gN m23 (gZ m21)) hX rfl (fun _ => ⟨g24.1, rfl⟩) g24.2 g25 dX6_init_1485 em26 kk) (by rw [em26]; rfl) ?_
  refine gz_Vs (fun _ kk => gz_dup (pc := 1486) hX dX6_init_1486 rfl kk) rfl ?_
  refine gz_Vs (fun _ kk => gz_iconst (pc := 1487) (v := (1 : Int32)) hX dX6_init_1487 (by decide) kk) rfl ?_
  refine gz_Vs (fun _ kk => gz_bipush (pc := 1488) (v := (110 : Int32)) hX dX6_init_1488 (by decide) kk) rfl ?_
  obtain ⟨g27, h⟩ := gz_gu h
  obtain ⟨g28, h⟩ := gz_gu h
  obtain ⟨m29, em29, h⟩ := gz_lt h
  refine gz_Vs (fun _ kk => gz_cast2 (pc := 1490) (c := (gZ m21)) (n := gN m26 (gZ m21)) hX rfl (fun _ => ⟨g27.1, rfl⟩) g27.2 g28 dX6_init_1490 em29 kk) (by rw [em29]; rfl) ?_
  refine gz_Vs (fun _ kk => gz_dup (pc := 1491) hX dX6_init_1491 rfl kk) rfl ?_
  refine gz_Vs (fun _ kk => gz_iconst (pc := 1492) (v := (2 : Int32)) hX dX6_init_1492 (by decide) kk) rfl ?_
  refine gz_Vs (fun _ kk => gz_bipush (pc := 1493) (v := (100 : Int32)) hX dX6_init_1493 (by decide) kk) rfl ?_
  obtain ⟨g30, h⟩ := gz_gu h
  obtain ⟨g31, h⟩ := gz_gu h
  obtain ⟨m32, em32, h⟩ := gz_lt h
  refine gz_Vs (fun _ kk => gz_cast2 (pc := 1495) (c := (gZ m21)) (n := gN m29 (gZ m21)) hX rfl (fun _ => ⟨g30.1, rfl⟩) g30.2 g31 dX6_init_1495 em32 kk) (by rw [em32]; rfl) ?_
  refine gz_Vs (fun _ kk => gz_dup (pc := 1496) hX dX6_init_1496 rfl kk) rfl ?_
  refine gz_Vs (fun _ kk => gz_iconst (pc := 1497) (v := (3 : Int32)) hX dX6_init_1497 (by decide) kk) rfl ?_
  refine gz_Vs (fun _ kk => gz_bipush (pc := 1498) (v := (115 : Int32)) hX dX6_init_1498 (by decide) kk) rfl ?_
  obtain ⟨g33, h⟩ := gz_gu h
  obtain ⟨g34, h⟩ := gz_gu h
  obtain ⟨m35, em35, h⟩ := gz_lt h
  refine gz_Vs (fun _ kk => gz_cast2 (pc := 1500) (c := (gZ m21)) (n := gN m32 (gZ m21)) hX rfl (fun _ => ⟨g33.1, rfl⟩) g33.2 g34 dX6_init_1500 em35 kk) (by rw [em35]; rfl) ?_
  obtain ⟨g36, h⟩ := gz_gu h
  obtain ⟨g37, h⟩ := gz_gu h
  obtain ⟨g38, h⟩ := gz_gu h
  obtain ⟨m39, em39, h⟩ := gz_lt h
  refine gz_Vs (fun _ kk => Rcp_X6_228_0 (pc := 1501) hX hn0 (c := c0) (fun _ => g36) g37 g38 dX6_init_1501 em39 kk) (by rw [em39]; rfl) ?_
  exact Rwb_X6_init_1504 hX hn0 h hk
noncomputable def Rmj_X6_init_1375 (c0 : Nat) (m : gM) : Option (Unit × gM) :=
  (if 0 ≤ (6 : Int32) ∧ gz_ix (6 : Int32) * 2 ≤ 536870912 ∧ gZ m ≠ 0 then gz_let (gz_al m (2 + 101) (gz_ix (6 : Int32)) (gz_ix (6 : Int32))) fun m2 => (if gK m2 (gZ m) = 103 ∧ 1000 ≤ (gZ m) then (if gz_in (0 : Int32) (gN m2 (gZ m)) then gz_let (gz_sI m2 (gZ m) (gz_ix (0 : Int32)) ((110 : Int32).toUInt32.toUInt16.toUInt32.toInt32)) fun m5 => (if gK m5 (gZ m) = 103 ∧ 1000 ≤ (gZ m) then (if gz_in (1 : Int32) (gN m5 (gZ m)) then gz_let (gz_sI m5 (gZ m) (gz_ix (1 : Int32)) ((117 : Int32).toUInt32.toUInt16.toUInt32.toInt32)) fun m8 => (if gK m8 (gZ m) = 103 ∧ 1000 ≤ (gZ m) then (if gz_in (2 : Int32) (gN m8 (gZ m)) then gz_let (gz_sI m8 (gZ m) (gz_ix (2 : Int32)) ((109 : Int32).toUInt32.toUInt16.toUInt32.toInt32)) fun m11 => (if gK m11 (gZ m) = 103 ∧ 1000 ≤ (gZ m) then (if gz_in (3 : Int32) (gN m11 (gZ m)) then gz_let (gz_sI m11 (gZ m) (gz_ix (3 : Int32)) ((98 : Int32).toUInt32.toUInt16.toUInt32.toInt32)) fun m14 => (if gK m14 (gZ m) = 103 ∧ 1000 ≤ (gZ m) then (if gz_in (4 : Int32) (gN m14 (gZ m)) then gz_let (gz_sI m14 (gZ m) (gz_ix (4 : Int32)) ((101 : Int32).toUInt32.toUInt16.toUInt32.toInt32)) fun m17 => (if gK m17 (gZ m) = 103 ∧ 1000 ≤ (gZ m) then (if gz_in (5 : Int32) (gN m17 (gZ m)) then gz_let (gz_sI m17 (gZ m) (gz_ix (5 : Int32)) ((114 : Int32).toUInt32.toUInt16.toUInt32.toInt32)) fun m20 => (if gK m20 c0 = 1 then (if 1000 ≤ c0 then (if (gZ m) ≠ 0 then gz_let (gz_sP m20 c0 87 (gZ m)) fun m24 => (if 0 ≤ (5 : Int32) ∧ gz_ix (5 : Int32) * 2 ≤ 536870912 ∧ gZ m24 ≠ 0 then gz_let (gz_al m24 (2 + 101) (gz_ix (5 : Int32)) (gz_ix (5 : Int32))) fun m26 => (if gK m26 (gZ m24) = 103 ∧ 1000 ≤ (gZ m24) then (if gz_in (0 : Int32) (gN m26 (gZ m24)) then gz_let (gz_sI m26 (gZ m24) (gz_ix (0 : Int32)) ((112 : Int32).toUInt32.toUInt16.toUInt32.toInt32)) fun m29 => (if gK m29 (gZ m24) = 103 ∧ 1000 ≤ (gZ m24) then (if gz_in (1 : Int32) (gN m29 (gZ m24)) then gz_let (gz_sI m29 (gZ m24) (gz_ix (1 : Int32)) ((108 : Int32).toUInt32.toUInt16.toUInt32.toInt32)) fun m32 => (if gK m32 (gZ m24) = 103 ∧ 1000 ≤ (gZ m24) then (if gz_in (2 : Int32) (gN m32 (gZ m24)) then gz_let (gz_sI m32 (gZ m24) (gz_ix (2 : Int32)) ((97 : Int32).toUInt32.toUInt16.toUInt32.toInt32)) fun m35 => (if gK m35 (gZ m24) = 103 ∧ 1000 ≤ (gZ m24) then (if gz_in (3 : Int32) (gN m35 (gZ m24)) then gz_let (gz_sI m35 (gZ m24) (gz_ix (3 : Int32)) ((99 : Int32).toUInt32.toUInt16.toUInt32.toInt32)) fun m38 => (if gK m38 (gZ m24) = 103 ∧ 1000 ≤ (gZ m24) then (if gz_in (4 : Int32) (gN m38 (gZ m24)) then gz_let (gz_sI m38 (gZ m24) (gz_ix (4 : Int32)) ((101 : Int32).toUInt32.toUInt16.toUInt32.toInt32)) fun m41 => (if gK m41 c0 = 1 then (if 1000 ≤ c0 then (if (gZ m24) ≠ 0 then gz_let (gz_sP m41 c0 88 (gZ m24)) fun m45 => (Rmj_X6_init_1445 c0 m45) else none) else none) else none) else none) else none) else none) else none) else none) else none) else none) else none) else none) else none) else none) else none) else none) else none) else none) else none) else none) else none) else none) else none) else none) else none) else none) else none) else none) else none) else none)
theorem Rwb_X6_init_1375 {X : gz_X} {G : gz_G} {zE : Nat × Nat} (hX : gz_C mR X G cX6_init 1 RX6 1 20) (hn0 : X.2.2.2.2.2.2.2.2.1.name = "<init>") {c0 : Nat}  {m : gM} {z : (Unit × gM)} (h : Rmj_X6_init_1375 c0 m = some z) (hk : (fun z : (Unit × gM) => gz_kVa mR X G 1 zE cX6_init z.2) z) : gz_Va mR X G 1 zE m 1375 [(0, .ref (gz_ad G c0))] [] := by
  unfold Rmj_X6_init_1375 at h
  refine gz_Vs (fun _ kk => gz_aload_n (pc := 1375) hX dX6_init_1375 rfl 0 rfl kk) rfl ?_
  refine gz_Vs (fun _ kk => gz_bipush (pc := 1376) (v := (6 : Int32)) hX dX6_init_1376 (by decide) kk) rfl ?_
  obtain ⟨g1, h⟩ := gz_gu h
  obtain ⟨m2, em2, h⟩ := gz_lt h
  refine gz_Vn (fun _ kk => gz_newa (pc := 1378) (t := 2) (N := gz_ix (6 : Int32)) hX rfl rfl q726 rfl ⟨⟨g1.1, Nat.lt_succ_self _⟩, rfl⟩ g1.2.1 g1.2.2 (fun _ _ => trivial) dX6_init_1378 em2 kk) em2 ?_
  refine gz_Vs (fun _ kk => gz_dup (pc := 1380) hX dX6_init_1380 rfl kk) rfl ?_
  refine gz_Vs (fun _ kk => gz_iconst (pc := 1381) (v := (0 : Int32)) hX dX6_init_1381 (by decide) kk) rfl ?_
  refine gz_Vs (fun _ kk => gz_bipush (pc := 1382) (v := (110 : Int32)) hX dX6_init_1382 (by decide) kk) rfl ?_
  obtain ⟨g3, h⟩ := gz_gu h
  obtain ⟨g4, h⟩ := gz_gu h
  obtain ⟨m5, em5, h⟩ := gz_lt h
  refine gz_Vs (fun _ kk => gz_cast2 (pc := 1384) (c := (gZ m)) (n := gN m2 (gZ m)) hX rfl (fun _ => ⟨g3.1, rfl⟩) g3.2 g4 dX6_init_1384 em5 kk) (by rw [em5]; rfl) ?_
  refine gz_Vs (fun _ kk => gz_dup (pc := 1385) hX dX6_init_1385 rfl kk) rfl ?_
  refine gz_Vs (fun _ kk => gz_iconst (pc := 1386) (v := (1 : Int32)) hX dX6_init_1386 (by decide) kk) rfl ?_
  refine gz_Vs (fun _ kk => gz_bipush (pc := 1387) (v := (117 : Int32)) hX dX6_init_1387 (by decide) kk) rfl ?_
  obtain ⟨g6, h⟩ := gz_gu h
  obtain ⟨g7, h⟩ := gz_gu h
  obtain ⟨m8, em8, h⟩ := gz_lt h
  refine gz_Vs (fun _ kk => gz_cast2 (pc := 1389) (c := (gZ m)) (n := gN m5 (gZ m)) hX rfl (fun _ => ⟨g6.1, rfl⟩) g6.2 g7 dX6_init_1389 em8 kk) (by rw [em8]; rfl) ?_
  refine gz_Vs (fun _ kk => gz_dup (pc := 1390) hX dX6_init_1390 rfl kk) rfl ?_
  refine gz_Vs (fun _ kk => gz_iconst (pc := 1391) (v := (2 : Int32)) hX dX6_init_1391 (by decide) kk) rfl ?_
  refine gz_Vs (fun _ kk => gz_bipush (pc := 1392) (v := (109 : Int32)) hX dX6_init_1392 (by decide) kk) rfl ?_
  obtain ⟨g9, h⟩ := gz_gu h
  obtain ⟨g10, h⟩ := gz_gu h
  obtain ⟨m11, em11, h⟩ := gz_lt h
  refine gz_Vs (fun _ kk => gz_cast2 (pc := 1394) (c := (gZ m)) (n := gN m8 (gZ m)) hX rfl (fun _ => ⟨g9.1, rfl⟩) g9.2 g10 dX6_init_1394 em11 kk) (by rw [em11]; rfl) ?_
  refine gz_Vs (fun _ kk => gz_dup (pc := 1395) hX dX6_init_1395 rfl kk) rfl ?_
  refine gz_Vs (fun _ kk => gz_iconst (pc := 1396) (v := (3 : Int32)) hX dX6_init_1396 (by decide) kk) rfl ?_
  refine gz_Vs (fun _ kk => gz_bipush (pc := 1397) (v := (98 : Int32)) hX dX6_init_1397 (by decide) kk) rfl ?_
  obtain ⟨g12, h⟩ := gz_gu h
  obtain ⟨g13, h⟩ := gz_gu h
  obtain ⟨m14, em14, h⟩ := gz_lt h
  refine gz_Vs (fun _ kk => gz_cast2 (pc := 1399) (c := (gZ m)) (n := gN m11 (gZ m)) hX rfl (fun _ => ⟨g12.1, rfl⟩) g12.2 g13 dX6_init_1399 em14 kk) (by rw [em14]; rfl) ?_
  refine gz_Vs (fun _ kk => gz_dup (pc := 1400) hX dX6_init_1400 rfl kk) rfl ?_
  refine gz_Vs (fun _ kk => gz_iconst (pc := 1401) (v := (4 : Int32)) hX dX6_init_1401 (by decide) kk) rfl ?_
  refine gz_Vs (fun _ kk => gz_bipush (pc := 1402) (v := (101 : Int32)) hX dX6_init_1402 (by decide) kk) rfl ?_
  obtain ⟨g15, h⟩ := gz_gu h
  obtain ⟨g16, h⟩ := gz_gu h
  obtain ⟨m17, em17, h⟩ := gz_lt h
  refine gz_Vs (fun _ kk => gz_cast2 (pc := 1404) (c := (gZ m)) (n := gN m14 (gZ m)) hX rfl (fun _ => ⟨g15.1, rfl⟩) g15.2 g16 dX6_init_1404 em17 kk) (by rw [em17]; rfl) ?_
  refine gz_Vs (fun _ kk => gz_dup (pc := 1405) hX dX6_init_1405 rfl kk) rfl ?_
  refine gz_Vs (fun _ kk => gz_iconst (pc := 1406) (v := (5 : Int32)) hX dX6_init_1406 (by decide) kk) rfl ?_
  refine gz_Vs (fun _ kk => gz_bipush (pc := 1407) (v := (114 : Int32)) hX dX6_init_1407 (by decide) kk) rfl ?_
  obtain ⟨g18, h⟩ := gz_gu h
  obtain ⟨g19, h⟩ := gz_gu h
  obtain ⟨m20, em20, h⟩ := gz_lt h
  refine gz_Vs (fun _ kk => gz_cast2 (pc := 1409) (c := (gZ m)) (n := gN m17 (gZ m)) hX rfl (fun _ => ⟨g18.1, rfl⟩) g18.2 g19 dX6_init_1409 em20 kk) (by rw [em20]; rfl) ?_
  obtain ⟨g21, h⟩ := gz_gu h
  obtain ⟨g22, h⟩ := gz_gu h
  obtain ⟨g23, h⟩ := gz_gu h
  obtain ⟨m24, em24, h⟩ := gz_lt h
  refine gz_Vs (fun _ kk => Rcp_X6_219_0 (pc := 1410) hX hn0 (c := c0) (fun _ => g21) g22 g23 dX6_init_1410 em24 kk) (by rw [em24]; rfl) ?_
  refine gz_Vs (fun _ kk => gz_aload_n (pc := 1413) hX dX6_init_1413 rfl 0 rfl kk) rfl ?_
  refine gz_Vs (fun _ kk => gz_iconst (pc := 1414) (v := (5 : Int32)) hX dX6_init_1414 (by decide) kk) rfl ?_
  obtain ⟨g25, h⟩ := gz_gu h
  obtain ⟨m26, em26, h⟩ := gz_lt h
  refine gz_Vn (fun _ kk => gz_newa (pc := 1415) (t := 2) (N := gz_ix (5 : Int32)) hX rfl rfl q726 rfl ⟨⟨g25.1, Nat.lt_succ_self _⟩, rfl⟩ g25.2.1 g25.2.2 (fun _ _ => trivial) dX6_init_1415 em26 kk) em26 ?_
  refine gz_Vs (fun _ kk => gz_dup (pc := 1417) hX dX6_init_1417 rfl kk) rfl ?_
  refine gz_Vs (fun _ kk => gz_iconst (pc := 1418) (v := (0 : Int32)) hX dX6_init_1418 (by decide) kk) rfl ?_
  refine gz_Vs (fun _ kk => gz_bipush (pc := 1419) (v := (112 : Int32)) hX dX6_init_1419 (by decide) kk) rfl ?_
  obtain ⟨g27, h⟩ := gz_gu h
  obtain ⟨g28, h⟩ := gz_gu h
  obtain ⟨m29, em29, h⟩ := gz_lt h
  refine gz_Vs (fun _ kk => gz_cast2 (pc := 1421) (c := (gZ m24)) (n := gN m26 (gZ m24)) hX rfl (fun _ => ⟨g27.1, rfl⟩) g27.2 g28 dX6_init_1421 em29 kk) (by rw [em29]; rfl) ?_
  refine gz_Vs (fun _ kk => gz_dup (pc := 1422) hX dX6_init_1422 rfl kk) rfl ?_
  refine gz_Vs (fun _ kk => gz_iconst (pc := 1423) (v := (1 : Int32)) hX dX6_init_1423 (by decide) kk) rfl ?_
  refine gz_Vs (fun _ kk => gz_bipush (pc := 1424) (v := (108 : Int32)) hX dX6_init_1424 (by decide) kk) rfl ?_
  obtain ⟨g30, h⟩ := gz_gu h
  obtain ⟨g31, h⟩ := gz_gu h
  obtain ⟨m32, em32, h⟩ := gz_lt h
  refine gz_Vs (fun _ kk => gz_cast2 (pc := 1426) (c := (gZ m24)) (n := gN m29 (gZ m24)) hX rfl (fun _ => ⟨g30.1, rfl⟩) g30.2 g31 dX6_init_1426 em32 kk) (by rw [em32]; rfl) ?_
  refine gz_Vs (fun _ kk => gz_dup (pc := 1427) hX dX6_init_1427 rfl kk) rfl ?_
  refine gz_Vs (fun _ kk => gz_iconst (pc := 1428) (v := (2 : Int32)) hX dX6_init_1428 (by decide) kk) rfl ?_
  refine gz_Vs (fun _ kk => gz_bipush (pc := 1429) (v := (97 : Int32)) hX dX6_init_1429 (by decide) kk) rfl ?_
  obtain ⟨g33, h⟩ := gz_gu h
  obtain ⟨g34, h⟩ := gz_gu h
  obtain ⟨m35, em35, h⟩ := gz_lt h
  refine gz_Vs (fun _ kk => gz_cast2 (pc := 1431) (c := (gZ m24)) (n := gN m32 (gZ m24)) hX rfl (fun _ => ⟨g33.1, rfl⟩) g33.2 g34 dX6_init_1431 em35 kk) (by rw [em35]; rfl) ?_
  refine gz_Vs (fun _ kk => gz_dup (pc := 1432) hX dX6_init_1432 rfl kk) rfl ?_
  refine gz_Vs (fun _ kk => gz_iconst (pc := 1433) (v := (3 : Int32)) hX dX6_init_1433 (by decide) kk) rfl ?_
  refine gz_Vs (fun _ kk => gz_bipush (pc := 1434) (v := (99 : Int32)) hX dX6_init_1434 (by decide) kk) rfl ?_
  obtain ⟨g36, h⟩ := gz_gu h
  obtain ⟨g37, h⟩ := gz_gu h
  obtain ⟨m38, em38, h⟩ := gz_lt h
  refine gz_Vs (fun _ kk => gz_cast2 (pc := 1436) (c := (gZ m24)) (n := gN m35 (gZ m24)) hX rfl (fun _ => ⟨g36.1, rfl⟩) g36.2 g37 dX6_init_1436 em38 kk) (by rw [em38]; rfl) ?_
  refine gz_Vs (fun _ kk => gz_dup (pc := 1437) hX dX6_init_1437 rfl kk) rfl ?_
  refine gz_Vs (fun _ kk => gz_iconst (pc := 1438) (v := (4 : Int32)) hX dX6_init_1438 (by decide) kk) rfl ?_
  refine gz_Vs (fun _ kk => gz_bipush (pc := 1439) (v := (101 : Int32)) hX dX6_init_1439 (by decide) kk) rfl ?_
  obtain ⟨g39, h⟩ := gz_gu h
  obtain ⟨g40, h⟩ := gz_gu h
  obtain ⟨m41, em41, h⟩ := gz_lt h
  refine gz_Vs (fun _ kk => gz_cast2 (pc := 1441) (c := (gZ m24)) (n := gN m38 (gZ m24)) hX rfl (fun _ => ⟨g39.1, rfl⟩) g39.2 g40 dX6_init_1441 em41 kk) (by rw [em41]; rfl) ?_
  obtain ⟨g42, h⟩ := gz_gu h
  obtain ⟨g43, h⟩ := gz_gu h
  obtain ⟨g44, h⟩ := gz_gu h
  obtain ⟨m45, em45, h⟩ := gz_lt h
  refine gz_Vs (fun _ kk => Rcp_X6_222_0 (pc := 1442) hX hn0 (c := c0) (fun _ => g42) g43 g44 dX6_init_1442 em45 kk) (by rw [em45]; rfl) ?_
  exact Rwb_X6_init_1445 hX hn0 h hk
noncomputable def Rmj_X6_init_1321 (c0 : Nat) (m : gM) : Option (Unit × gM) :=
  (if 0 ≤ (4 : Int32) ∧ gz_ix (4 : Int32) * 2 ≤ 536870912 ∧ gZ m ≠ 0 then gz_let (gz_al m (2 + 101) (gz_ix (4 : Int32)) (gz_ix (4 : Int32))) fun m2 => (if gK m2 (gZ m) = 103 ∧ 1000 ≤ (gZ m) then (if gz_in (0 : Int32) (gN m2 (gZ m)) then gz_let (gz_sI m2 (gZ m) (gz_ix (0 : Int32)) ((110 : Int32).toUInt32.toUInt16.toUInt32.toInt32)) fun m5 => (if gK m5 (gZ m) = 103 ∧ 1000 ≤ (gZ m) then (if gz_in (1 : Int32) (gN m5 (gZ m)) then gz_let (gz_sI m5 (gZ m) (gz_ix (1 : Int32)) ((101 : Int32).toUInt32.toUInt16.toUInt32.toInt32)) fun m8 => (if gK m8 (gZ m) = 103 ∧ 1000 ≤ (gZ m) then (if gz_in (2 : Int32) (gN m8 (gZ m)) then gz_let (gz_sI m8 (gZ m) (gz_ix (2 : Int32)) ((97 : Int32).toUInt32.toUInt16.toUInt32.toInt32)) fun m11 => (if gK m11 (gZ m) = 103 ∧ 1000 ≤ (gZ m) then (if gz_in (3 : Int32) (gN m11 (gZ m)) then gz_let (gz_sI m11 (gZ m) (gz_ix (3 : Int32)) ((114 : Int32).toUInt32.toUInt16.toUInt32.toInt32)) fun m14 => (if gK m14 c0 = 1 then (if 1000 ≤ c0 then (if (gZ m) ≠ 0 then gz_let (gz_sP m14 c0 85 (gZ m)) fun m18 => (if 0 ≤ (4 : Int32) ∧ gz_ix (4 : Int32) * 2 ≤ 536870912 ∧ gZ m18 ≠ 0 then gz_let (gz_al m18 (2 + 101) (gz_ix (4 : Int32)) (gz_ix (4 : Int32))) fun m20 => (if gK m20 (gZ m18) = 103 ∧ 1000 ≤ (gZ m18) then (if gz_in (0 : Int32) (gN m20 (gZ m18)) then gz_let (gz_sI m20 (gZ m18) (gz_ix (0 : Int32)) ((104 : Int32).toUInt32.toUInt16.toUInt32.toInt32)) fun m23 => (if gK m23 (gZ m18) = 103 ∧ 1000 ≤ (gZ m18) then (if gz_in (1 : Int32) (gN m23 (gZ m18)) then gz_let (gz_sI m23 (gZ m18) (gz_ix (1 : Int32)) ((111 : Int32).toUInt32.toUInt16.toUInt32.toInt32)) fun m26 => (if gK m26 (gZ m18) = 103 ∧ 1000 ≤ (gZ m18) then (if gz_in (2 : Int32) (gN m26 (gZ m18)) then gz_let (gz_sI m26 (gZ m18) (gz_ix (2 : Int32)) ((117 : Int32).toUInt32.toUInt16.toUInt32.toInt32)) fun m29 => (if gK m29 (gZ m18) = 103 ∧ 1000 ≤ (gZ m18) then (if gz_in (3 : Int32) (gN m29 (gZ m18)) then gz_let (gz_sI m29 (gZ m18) (gz_ix (3 : Int32)) ((114 : Int32).toUInt32.toUInt16.toUInt32.toInt32)) fun m32 => (if gK m32 c0 = 1 then (if 1000 ≤ c0 then (if (gZ m18) ≠ 0 then gz_let (gz_sP m32 c0 86 (gZ m18)) fun m36 => (Rmj_X6_init_1375 c0 m36) else none) else none) else none) else none) else none) else none) else none) else none) else none) else none) else none) else none) else none) else none) else none) else none) else none) else none) else none) else none) else none) else none) else none) else none)
theorem Rwb_X6_init_1321 {X : gz_X} {G : gz_G} {zE : Nat × Nat} (hX : gz_C mR X G cX6_init 1 RX6 1 20) (hn0 : X.2.2.2.2.2.2.2.2.1.name = "<init>") {c0 : Nat}  {m : gM} {z : (Unit × gM)} (h : Rmj_X6_init_1321 c0 m = some z) (hk : (fun z : (Unit × gM) => gz_kVa mR X G 1 zE cX6_init z.2) z) : gz_Va mR X G 1 zE m 1321 [(0, .ref (gz_ad G c0))] [] := by
  unfold Rmj_X6_init_1321 at h
  refine gz_Vs (fun _ kk => gz_aload_n (pc := 1321) hX dX6_init_1321 rfl 0 rfl kk) rfl ?_
  refine gz_Vs (fun _ kk => gz_iconst (pc := 1322) (v := (4 : Int32)) hX dX6_init_1322 (by decide) kk) rfl ?_
  obtain ⟨g1, h⟩ := gz_gu h
  obtain ⟨m2, em2, h⟩ := gz_lt h
  refine gz_Vn (fun _ kk => gz_newa (pc := 1323) (t := 2) (N := gz_ix (4 : Int32)) hX rfl rfl q726 rfl ⟨⟨g1.1, Nat.lt_succ_self _⟩, rfl⟩ g1.2.1 g1.2.2 (fun _ _ => trivial) dX6_init_1323 em2 kk) em2 ?_
  refine gz_Vs (fun _ kk => gz_dup (pc := 1325) hX dX6_init_1325 rfl kk) rfl ?_
  refine gz_Vs (fun _ kk => gz_iconst (pc := 1326) (v := (0 : Int32)) hX dX6_init_1326 (by decide) kk) rfl ?_
  refine gz_Vs (fun _ kk => gz_bipush (pc := 1327) (v := (110 : Int32)) hX dX6_init_1327 (by decide) kk) rfl ?_
  obtain ⟨g3, h⟩ := gz_gu h
  obtain ⟨g4, h⟩ := gz_gu h
  obtain ⟨m5, em5, h⟩ := gz_lt h
  refine gz_Vs (fun _ kk => gz_cast2 (pc := 1329) (c := (gZ m)) (n := gN m2 (gZ m)) hX rfl (fun _ => ⟨g3.1, rfl⟩) g3.2 g4 dX6_init_1329 em5 kk) (by rw [em5]; rfl) ?_
  refine gz_Vs (fun _ kk => gz_dup (pc := 1330) hX dX6_init_1330 rfl kk) rfl ?_
  refine gz_Vs (fun _ kk => gz_iconst (pc := 1331) (v := (1 : Int32)) hX dX6_init_1331 (by decide) kk) rfl ?_
  refine gz_Vs (fun _ kk => gz_bipush (pc := 1332) (v := (101 : Int32)) hX dX6_init_1332 (by decide) kk) rfl ?_
  obtain ⟨g6, h⟩ := gz_gu h
  obtain ⟨g7, h⟩ := gz_gu h
  obtain ⟨m8, em8, h⟩ := gz_lt h
  refine gz_Vs (fun _ kk => gz_cast2 (pc := 1334) (c := (gZ m)) (n := gN m5 (gZ m)) hX rfl (fun _ => ⟨g6.1, rfl⟩) g6.2 g7 dX6_init_1334 em8 kk) (by rw [em8]; rfl) ?_
  refine gz_Vs (fun _ kk => gz_dup (pc := 1335) hX dX6_init_1335 rfl kk) rfl ?_
  refine gz_Vs (fun _ kk => gz_iconst (pc := 1336) (v := (2 : Int32)) hX dX6_init_1336 (by decide) kk) rfl ?_
  refine gz_Vs (fun _ kk => gz_bipush (pc := 1337) (v := (97 : Int32)) hX dX6_init_1337 (by decide) kk) rfl ?_
  obtain ⟨g9, h⟩ := gz_gu h
  obtain ⟨g10, h⟩ := gz_gu h
  obtain ⟨m11, em11, h⟩ := gz_lt h
  refine gz_Vs (fun _ kk => gz_cast2 (pc := 1339) (c := (gZ m)) (n := gN m8 (gZ m)) hX rfl (fun _ => ⟨g9.1, rfl⟩) g9.2 g10 dX6_init_1339 em11 kk) (by rw [em11]; rfl) ?_
  refine gz_Vs (fun _ kk => gz_dup (pc := 1340) hX dX6_init_1340 rfl kk) rfl ?_
  refine gz_Vs (fun _ kk => gz_iconst (pc := 1341) (v := (3 : Int32)) hX dX6_init_1341 (by decide) kk) rfl ?_
  refine gz_Vs (fun _ kk => gz_bipush (pc := 1342) (v := (114 : Int32)) hX dX6_init_1342 (by decide) kk) rfl ?_
  obtain ⟨g12, h⟩ := gz_gu h
  obtain ⟨g13, h⟩ := gz_gu h
  obtain ⟨m14, em14, h⟩ := gz_lt h
  refine gz_Vs (fun _ kk => gz_cast2 (pc := 1344) (c := (gZ m)) (n := gN m11 (gZ m)) hX rfl (fun _ => ⟨g12.1, rfl⟩) g12.2 g13 dX6_init_1344 em14 kk) (by rw [em14]; rfl) ?_
  obtain ⟨g15, h⟩ := gz_gu h
  obtain ⟨g16, h⟩ := gz_gu h
  obtain ⟨g17, h⟩ := gz_gu h
  obtain ⟨m18, em18, h⟩ := gz_lt h
  refine gz_Vs (fun _ kk => Rcp_X6_213_0 (pc := 1345) hX hn0 (c := c0) (fun _ => g15) g16 g17 dX6_init_1345 em18 kk) (by rw [em18]; rfl) ?_
  refine gz_Vs (fun _ kk => gz_aload_n (pc := 1348) hX dX6_init_1348 rfl 0 rfl kk) rfl ?_
  refine gz_Vs (fun _ kk => gz_iconst (pc := 1349) (v := (4 : Int32)) hX dX6_init_1349 (by decide) kk) rfl ?_
  obtain ⟨g19, h⟩ := gz_gu h
  obtain ⟨m20, em20, h⟩ := gz_lt h
  refine gz_Vn (fun _ kk => gz_newa (pc := 1350) (t := 2) (N := gz_ix (4 : Int32)) hX rfl rfl q726 rfl ⟨⟨g19.1, Nat.lt_succ_self _⟩, rfl⟩ g19.2.1 g19.2.2 (fun _ _ => trivial) dX6_init_1350 em20 kk) em20 ?_
  refine gz_Vs (fun _ kk => gz_dup (pc := 1352) hX dX6_init_1352 rfl kk) rfl ?_
  refine gz_Vs (fun _ kk => gz_iconst (pc := 1353) (v := (0 : Int32)) hX dX6_init_1353 (by decide) kk) rfl ?_
  refine gz_Vs (fun _ kk => gz_bipush (pc := 1354) (v := (104 : Int32)) hX dX6_init_1354 (by decide) kk) rfl ?_
  obtain ⟨g21, h⟩ := gz_gu h
  obtain ⟨g22, h⟩ := gz_gu h
  obtain ⟨m23, em23, h⟩ := gz_lt h
  refine gz_Vs (fun _ kk => gz_cast2 (pc := 1356) (c := (gZ m18)) (n := gN m20 (gZ m18)) hX rfl (fun _ => ⟨g21.1, rfl⟩) g21.2 g22 dX6_init_1356 em23 kk) (by rw [em23]; rfl) ?_
  refine gz_Vs (fun _ kk => gz_dup (pc := 1357) hX dX6_init_1357 rfl kk) rfl ?_
  refine gz_Vs (fun _ kk => gz_iconst (pc := 1358) (v := (1 : Int32)) hX dX6_init_1358 (by decide) kk) rfl ?_
  refine gz_Vs (fun _ kk => gz_bipush (pc := 1359) (v := (111 : Int32)) hX dX6_init_1359 (by decide) kk) rfl ?_
  obtain ⟨g24, h⟩ := gz_gu h
  obtain ⟨g25, h⟩ := gz_gu h
  obtain ⟨m26, em26, h⟩ := gz_lt h
  refine gz_Vs (fun _ kk => gz_cast2 (pc := 1361) (c := (gZ m18)) (n := gN m23 (gZ m18)) hX rfl (fun _ => ⟨g24.1, rfl⟩) g24.2 g25 dX6_init_1361 em26 kk) (by rw [em26]; rfl) ?_
  refine gz_Vs (fun _ kk => gz_dup (pc := 1362) hX dX6_init_1362 rfl kk) rfl ?_
  refine gz_Vs (fun _ kk => gz_iconst (pc := 1363) (v := (2 : Int32)) hX dX6_init_1363 (by decide) kk) rfl ?_
  refine gz_Vs (fun _ kk => gz_bipush (pc := 1364) (v := (117 : Int32)) hX dX6_init_1364 (by decide) kk) rfl ?_
  obtain ⟨g27, h⟩ := gz_gu h
  obtain ⟨g28, h⟩ := gz_gu h
  obtain ⟨m29, em29, h⟩ := gz_lt h
  refine gz_Vs (fun _ kk => gz_cast2 (pc := 1366) (c := (gZ m18)) (n := gN m26 (gZ m18)) hX rfl (fun _ => ⟨g27.1, rfl⟩) g27.2 g28 dX6_init_1366 em29 kk) (by rw [em29]; rfl) ?_
  refine gz_Vs (fun _ kk => gz_dup (pc := 1367) hX dX6_init_1367 rfl kk) rfl ?_
  refine gz_Vs (fun _ kk => gz_iconst (pc := 1368) (v := (3 : Int32)) hX dX6_init_1368 (by decide) kk) rfl ?_
  refine gz_Vs (fun _ kk => gz_bipush (pc := 1369) (v := (114 : Int32)) hX dX6_init_1369 (by decide) kk) rfl ?_
  obtain ⟨g30, h⟩ := gz_gu h
  obtain ⟨g31, h⟩ := gz_gu h
  obtain ⟨m32, em32, h⟩ := gz_lt h
  refine gz_Vs (fun _ kk => gz_cast2 (pc := 1371) (c := (gZ m18)) (n := gN m29 (gZ m18)) hX rfl (fun _ => ⟨g30.1, rfl⟩) g30.2 g31 dX6_init_1371 em32 kk) (by rw [em32]; rfl) ?_
  obtain ⟨g33, h⟩ := gz_gu h
  obtain ⟨g34, h⟩ := gz_gu h
  obtain ⟨g35, h⟩ := gz_gu h
  obtain ⟨m36, em36, h⟩ := gz_lt h
  refine gz_Vs (fun _ kk => Rcp_X6_216_0 (pc := 1372) hX hn0 (c := c0) (fun _ => g33) g34 g35 dX6_init_1372 em36 kk) (by rw [em36]; rfl) ?_
  exact Rwb_X6_init_1375 hX hn0 h hk
noncomputable def Rmj_X6_init_1244 (c0 : Nat) (m : gM) : Option (Unit × gM) :=
  (if 0 ≤ (8 : Int32) ∧ gz_ix (8 : Int32) * 2 ≤ 536870912 ∧ gZ m ≠ 0 then gz_let (gz_al m (2 + 101) (gz_ix (8 : Int32)) (gz_ix (8 : Int32))) fun m2 => (if gK m2 (gZ m) = 103 ∧ 1000 ≤ (gZ m) then (if gz_in (0 : Int32) (gN m2 (gZ m)) then gz_let (gz_sI m2 (gZ m) (gz_ix (0 : Int32)) ((115 : Int32).toUInt32.toUInt16.toUInt32.toInt32)) fun m5 => (if gK m5 (gZ m) = 103 ∧ 1000 ≤ (gZ m) then (if gz_in (1 : Int32) (gN m5 (gZ m)) then gz_let (gz_sI m5 (gZ m) (gz_ix (1 : Int32)) ((116 : Int32).toUInt32.toUInt16.toUInt32.toInt32)) fun m8 => (if gK m8 (gZ m) = 103 ∧ 1000 ≤ (gZ m) then (if gz_in (2 : Int32) (gN m8 (gZ m)) then gz_let (gz_sI m8 (gZ m) (gz_ix (2 : Int32)) ((114 : Int32).toUInt32.toUInt16.toUInt32.toInt32)) fun m11 => (if gK m11 (gZ m) = 103 ∧ 1000 ≤ (gZ m) then (if gz_in (3 : Int32) (gN m11 (gZ m)) then gz_let (gz_sI m11 (gZ m) (gz_ix (3 : Int32)) ((101 : Int32).toUInt32.toUInt16.toUInt32.toInt32)) fun m14 => (if gK m14 (gZ m) = 103 ∧ 1000 ≤ (gZ m) then (if gz_in (4 : Int32) (gN m14 (gZ m)) then gz_let (gz_sI m14 (gZ m) (gz_ix (4 : Int32)) ((110 : Int32).toUInt32.toUInt16.toUInt32.toInt32)) fun m17 => (if gK m17 (gZ m) = 103 ∧ 1000 ≤ (gZ m) then (if gz_in (5 : Int32) (gN m17 (gZ m)) then gz_let (gz_sI m17 (gZ m) (gz_ix (5 : Int32)) ((103 : Int32).toUInt32.toUInt16.toUInt32.toInt32)) fun m20 => (if gK m20 (gZ m) = 103 ∧ 1000 ≤ (gZ m) then (if gz_in (6 : Int32) (gN m20 (gZ m)) then gz_let (gz_sI m20 (gZ m) (gz_ix (6 : Int32)) ((116 : Int32).toUInt32.toUInt16.toUInt32.toInt32)) fun m23 => (if gK m23 (gZ m) = 103 ∧ 1000 ≤ (gZ m) then (if gz_in (7 : Int32) (gN m23 (gZ m)) then gz_let (gz_sI m23 (gZ m) (gz_ix (7 : Int32)) ((104 : Int32).toUInt32.toUInt16.toUInt32.toInt32)) fun m26 => (if gK m26 c0 = 1 then (if 1000 ≤ c0 then (if (gZ m) ≠ 0 then gz_let (gz_sP m26 c0 83 (gZ m)) fun m30 => (if 0 ≤ (4 : Int32) ∧ gz_ix (4 : Int32) * 2 ≤ 536870912 ∧ gZ m30 ≠ 0 then gz_let (gz_al m30 (2 + 101) (gz_ix (4 : Int32)) (gz_ix (4 : Int32))) fun m32 => (if gK m32 (gZ m30) = 103 ∧ 1000 ≤ (gZ m30) then (if gz_in (0 : Int32) (gN m32 (gZ m30)) then gz_let (gz_sI m32 (gZ m30) (gz_ix (0 : Int32)) ((104 : Int32).toUInt32.toUInt16.toUInt32.toInt32)) fun m35 => (if gK m35 (gZ m30) = 103 ∧ 1000 ≤ (gZ m30) then (if gz_in (1 : Int32) (gN m35 (gZ m30)) then gz_let (gz_sI m35 (gZ m30) (gz_ix (1 : Int32)) ((101 : Int32).toUInt32.toUInt16.toUInt32.toInt32)) fun m38 => (if gK m38 (gZ m30) = 103 ∧ 1000 ≤ (gZ m30) then (if gz_in (2 : Int32) (gN m38 (gZ m30)) then gz_let (gz_sI m38 (gZ m30) (gz_ix (2 : Int32)) ((97 : Int32).toUInt32.toUInt16.toUInt32.toInt32)) fun m41 => (if gK m41 (gZ m30) = 103 ∧ 1000 ≤ (gZ m30) then (if gz_in (3 : Int32) (gN m41 (gZ m30)) then gz_let (gz_sI m41 (gZ m30) (gz_ix (3 : Int32)) ((116 : Int32).toUInt32.toUInt16.toUInt32.toInt32)) fun m44 => (if gK m44 c0 = 1 then (if 1000 ≤ c0 then (if (gZ m30) ≠ 0 then gz_let (gz_sP m44 c0 84 (gZ m30)) fun m48 => (Rmj_X6_init_1321 c0 m48) else none) else none) else none) else none) else none) else none) else none) else none) else none) else none) else none) else none) else none) else none) else none) else none) else none) else none) else none) else none) else none) else none) else none) else none) else none) else none) else none) else none) else none) else none) else none) else none)
theorem Rwb_X6_init_1244 {X : gz_X} {G : gz_G} {zE : Nat × Nat} (hX : gz_C mR X G cX6_init 1 RX6 1 20) (hn0 : X.2.2.2.2.2.2.2.2.1.name = "<init>") {c0 : Nat}  {m : gM} {z : (Unit × gM)} (h : Rmj_X6_init_1244 c0 m = some z) (hk : (fun z : (Unit × gM) => gz_kVa mR X G 1 zE cX6_init z.2) z) : gz_Va mR X G 1 zE m 1244 [(0, .ref (gz_ad G c0))] [] := by
  unfold Rmj_X6_init_1244 at h
  refine gz_Vs (fun _ kk => gz_aload_n (pc := 1244) hX dX6_init_1244 rfl 0 rfl kk) rfl ?_
  refine gz_Vs (fun _ kk => gz_bipush (pc := 1245) (v := (8 : Int32)) hX dX6_init_1245 (by decide) kk) rfl ?_
  obtain ⟨g1, h⟩ := gz_gu h
  obtain ⟨m2, em2, h⟩ := gz_lt h
  refine gz_Vn (fun _ kk => gz_newa (pc := 1247) (t := 2) (N := gz_ix (8 : Int32)) hX rfl rfl q726 rfl ⟨⟨g1.1, Nat.lt_succ_self _⟩, rfl⟩ g1.2.1 g1.2.2 (fun _ _ => trivial) dX6_init_1247 em2 kk) em2 ?_
  refine gz_Vs (fun _ kk => gz_dup (pc := 1249) hX dX6_init_1249 rfl kk) rfl ?_
  refine gz_Vs (fun _ kk => gz_iconst (pc := 1250) (v := (0 : Int32)) hX dX6_init_1250 (by decide) kk) rfl ?_
  refine gz_Vs (fun _ kk => gz_bipush (pc := 1251) (v := (115 : Int32)) hX dX6_init_1251 (by decide) kk) rfl ?_
  obtain ⟨g3, h⟩ := gz_gu h
  obtain ⟨g4, h⟩ := gz_gu h
  obtain ⟨m5, em5, h⟩ := gz_lt h
  refine gz_Vs (fun _ kk => gz_cast2 (pc := 1253) (c := (gZ m)) (n := gN m2 (gZ m)) hX rfl (fun _ => ⟨g3.1, rfl⟩) g3.2 g4 dX6_init_1253 em5 kk) (by rw [em5]; rfl) ?_
  refine gz_Vs (fun _ kk => gz_dup (pc := 1254) hX dX6_init_1254 rfl kk) rfl ?_
  refine gz_Vs (fun _ kk => gz_iconst (pc := 1255) (v := (1 : Int32)) hX dX6_init_1255 (by decide) kk) rfl ?_
  refine gz_Vs (fun _ kk => gz_bipush (pc := 1256) (v := (116 : Int32)) hX dX6_init_1256 (by decide) kk) rfl ?_
  obtain ⟨g6, h⟩ := gz_gu h
  obtain ⟨g7, h⟩ := gz_gu h
  obtain ⟨m8, em8, h⟩ := gz_lt h
  refine gz_Vs (fun _ kk => gz_cast2 (pc := 1258) (c := (gZ m)) (n := gN m5 (gZ m)) hX rfl (fun _ => ⟨g6.1, rfl⟩) g6.2 g7 dX6_init_1258 em8 kk) (by rw [em8]; rfl) ?_
  refine gz_Vs (fun _ kk => gz_dup (pc := 1259) hX dX6_init_1259 rfl kk) rfl ?_
  refine gz_Vs (fun _ kk => gz_iconst (pc := 1260) (v := (2 : Int32)) hX dX6_init_1260 (by decide) kk) rfl ?_
  refine gz_Vs (fun _ kk => gz_bipush (pc := 1261) (v := (114 : Int32)) hX dX6_init_1261 (by decide) kk) rfl ?_
  obtain ⟨g9, h⟩ := gz_gu h
  obtain ⟨g10, h⟩ := gz_gu h
  obtain ⟨m11, em11, h⟩ := gz_lt h
  refine gz_Vs (fun _ kk => gz_cast2 (pc := 1263) (c := (gZ m)) (n := gN m8 (gZ m)) hX rfl (fun _ => ⟨g9.1, rfl⟩) g9.2 g10 dX6_init_1263 em11 kk) (by rw [em11]; rfl) ?_
  refine gz_Vs (fun _ kk => gz_dup (pc := 1264) hX dX6_init_1264 rfl kk) rfl ?_
  refine gz_Vs (fun _ kk => gz_iconst (pc := 1265) (v := (3 : Int32)) hX dX6_init_1265 (by decide) kk) rfl ?_
  refine gz_Vs (fun _ kk => gz_bipush (pc := 1266) (v := (101 : Int32)) hX dX6_init_1266 (by decide) kk) rfl ?_
  obtain ⟨g12, h⟩ := gz_gu h
  obtain ⟨g13, h⟩ := gz_gu h
  obtain ⟨m14, em14, h⟩ := gz_lt h
  refine gz_Vs (fun _ kk => gz_cast2 (pc := 1268) (c := (gZ m)) (n := gN m11 (gZ m)) hX rfl (fun _ => ⟨g12.1, rfl⟩) g12.2 g13 dX6_init_1268 em14 kk) (by rw [em14]; rfl) ?_
  refine gz_Vs (fun _ kk => gz_dup (pc := 1269) hX dX6_init_1269 rfl kk) rfl ?_
  refine gz_Vs (fun _ kk => gz_iconst (pc := 1270) (v := (4 : Int32)) hX dX6_init_1270 (by decide) kk) rfl ?_
  refine gz_Vs (fun _ kk => gz_bipush (pc := 1271) (v := (110 : Int32)) hX dX6_init_1271 (by decide) kk) rfl ?_
  obtain ⟨g15, h⟩ := gz_gu h
  obtain ⟨g16, h⟩ := gz_gu h
  obtain ⟨m17, em17, h⟩ := gz_lt h
  refine gz_Vs (fun _ kk => gz_cast2 (pc := 1273) (c := (gZ m)) (n := gN m14 (gZ m)) hX rfl (fun _ => ⟨g15.1, rfl⟩) g15.2 g16 dX6_init_1273 em17 kk) (by rw [em17]; rfl) ?_
  refine gz_Vs (fun _ kk => gz_dup (pc := 1274) hX dX6_init_1274 rfl kk) rfl ?_
  refine gz_Vs (fun _ kk => gz_iconst (pc := 1275) (v := (5 : Int32)) hX dX6_init_1275 (by decide) kk) rfl ?_
  refine gz_Vs (fun _ kk => gz_bipush (pc := 1276) (v := (103 : Int32)) hX dX6_init_1276 (by decide) kk) rfl ?_
  obtain ⟨g18, h⟩ := gz_gu h
  obtain ⟨g19, h⟩ := gz_gu h
  obtain ⟨m20, em20, h⟩ := gz_lt h
  refine gz_Vs (fun _ kk => gz_cast2 (pc := 1278) (c := (gZ m)) (n := gN m17 (gZ m)) hX rfl (fun _ => ⟨g18.1, rfl⟩) g18.2 g19 dX6_init_1278 em20 kk) (by rw [em20]; rfl) ?_
  refine gz_Vs (fun _ kk => gz_dup (pc := 1279) hX dX6_init_1279 rfl kk) rfl ?_
  refine gz_Vs (fun _ kk => gz_bipush (pc := 1280) (v := (6 : Int32)) hX dX6_init_1280 (by decide) kk) rfl ?_
  refine gz_Vs (fun _ kk => gz_bipush (pc := 1282) (v := (116 : Int32)) hX dX6_init_1282 (by decide) kk) rfl ?_
  obtain ⟨g21, h⟩ := gz_gu h
  obtain ⟨g22, h⟩ := gz_gu h
  obtain ⟨m23, em23, h⟩ := gz_lt h
  refine gz_Vs (fun _ kk => gz_cast2 (pc := 1284) (c := (gZ m)) (n := gN m20 (gZ m)) hX rfl (fun _ => ⟨g21.1, rfl⟩) g21.2 g22 dX6_init_1284 em23 kk) (by rw [em23]; rfl) ?_
  refine gz_Vs (fun _ kk => gz_dup (pc := 1285) hX dX6_init_1285 rfl kk) rfl ?_
  refine gz_Vs (fun _ kk => gz_bipush (pc := 1286) (v := (7 : Int32)) hX dX6_init_1286 (by decide) kk) rfl ?_
  refine gz_Vs (fun _ kk => gz_bipush (pc := 1288) (v := (104 : Int32)) hX dX6_init_1288 (by decide) kk) rfl ?_
  obtain ⟨g24, h⟩ := gz_gu h
  obtain ⟨g25, h⟩ := gz_gu h
  obtain ⟨m26, em26, h⟩ := gz_lt h
  refine gz_Vs (fun _ kk => gz_cast2 (pc := 1290) (c := (gZ m)) (n := gN m23 (gZ m)) hX rfl (fun _ => ⟨g24.1, rfl⟩) g24.2 g25 dX6_init_1290 em26 kk) (by rw [em26]; rfl) ?_
  obtain ⟨g27, h⟩ := gz_gu h
  obtain ⟨g28, h⟩ := gz_gu h
  obtain ⟨g29, h⟩ := gz_gu h
  obtain ⟨m30, em30, h⟩ := gz_lt h
  refine gz_Vs (fun _ kk => Rcp_X6_207_0 (pc := 1291) hX hn0 (c := c0) (fun _ => g27) g28 g29 dX6_init_1291 em30 kk) (by rw [em30]; rfl) ?_
  refine gz_Vs (fun _ kk => gz_aload_n (pc := 1294) hX dX6_init_1294 rfl 0 rfl kk) rfl ?_
  refine gz_Vs (fun _ kk => gz_iconst (pc := 1295) (v := (4 : Int32)) hX dX6_init_1295 (by decide) kk) rfl ?_
  obtain ⟨g31, h⟩ := gz_gu h
  obtain ⟨m32, em32, h⟩ := gz_lt h
  refine gz_Vn (fun _ kk => gz_newa (pc := 1296) (t := 2) (N := gz_ix (4 : Int32)) hX rfl rfl q726 rfl ⟨⟨g31.1, Nat.lt_succ_self _⟩, rfl⟩ g31.2.1 g31.2.2 (fun _ _ => trivial) dX6_init_1296 em32 kk) em32 ?_
  refine gz_Vs (fun _ kk => gz_dup (pc := 1298) hX dX6_init_1298 rfl kk) rfl ?_
  refine gz_Vs (fun _ kk => gz_iconst (pc := 1299) (v := (0 : Int32)) hX dX6_init_1299 (by decide) kk) rfl ?_
  refine gz_Vs (fun _ kk => gz_bipush (pc := 1300) (v := (104 : Int32)) hX dX6_init_1300 (by decide) kk) rfl ?_
  obtain ⟨g33, h⟩ := gz_gu h
  obtain ⟨g34, h⟩ := gz_gu h
  obtain ⟨m35, em35, h⟩ := gz_lt h
  refine gz_Vs (fun _ kk => gz_cast2 (pc := 1302) (c := (gZ m30)) (n := gN m32 (gZ m30)) hX rfl (fun _ => ⟨g33.1, rfl⟩) g33.2 g34 dX6_init_1302 em35 kk) (by rw [em35]; rfl) ?_
  refine gz_Vs (fun _ kk => gz_dup (pc := 1303) hX dX6_init_1303 rfl kk) rfl ?_
  refine gz_Vs (fun _ kk => gz_iconst (pc := 1304) (v := (1 : Int32)) hX dX6_init_1304 (by decide) kk) rfl ?_
  refine gz_Vs (fun _ kk => gz_bipush (pc := 1305) (v := (101 : Int32)) hX dX6_init_1305 (by decide) kk) rfl ?_
  obtain ⟨g36, h⟩ := gz_gu h
  obtain ⟨g37, h⟩ := gz_gu h
  obtain ⟨m38, em38, h⟩ := gz_lt h
  refine gz_Vs (fun _ kk => gz_cast2 (pc := 1307) (c := (gZ m30)) (n := gN m35 (gZ m30)) hX rfl (fun _ => ⟨g36.1, rfl⟩) g36.2 g37 dX6_init_1307 em38 kk) (by rw [em38]; rfl) ?_
  refine gz_Vs (fun _ kk => gz_dup (pc := 1308) hX dX6_init_1308 rfl kk) rfl ?_
  refine gz_Vs (fun _ kk => gz_iconst (pc := 1309) (v := (2 : Int32)) hX dX6_init_1309 (by decide) kk) rfl ?_
  refine gz_Vs (fun _ kk => gz_bipush (pc := 1310) (v := (97 : Int32)) hX dX6_init_1310 (by decide) kk) rfl ?_
  obtain ⟨g39, h⟩ := gz_gu h
  obtain ⟨g40, h⟩ := gz_gu h
  obtain ⟨m41, em41, h⟩ := gz_lt h
  refine gz_Vs (fun _ kk => gz_cast2 (pc := 1312) (c := (gZ m30)) (n := gN m38 (gZ m30)) hX rfl (fun _ => ⟨g39.1, rfl⟩) g39.2 g40 dX6_init_1312 em41 kk) (by rw [em41]; rfl) ?_
  refine gz_Vs (fun _ kk => gz_dup (pc := 1313) hX dX6_init_1313 rfl kk) rfl ?_
  refine gz_Vs (fun _ kk => gz_iconst (pc := 1314) (v := (3 : Int32)) hX dX6_init_1314 (by decide) kk) rfl ?_
  refine gz_Vs (fun _ kk => gz_bipush (pc := 1315) (v := (116 : Int32)) hX dX6_init_1315 (by decide) kk) rfl ?_
  obtain ⟨g42, h⟩ := gz_gu h
  obtain ⟨g43, h⟩ := gz_gu h
  obtain ⟨m44, em44, h⟩ := gz_lt h
  refine gz_Vs (fun _ kk => gz_cast2 (pc := 1317) (c := (gZ m30)) (n := gN m41 (gZ m30)) hX rfl (fun _ => ⟨g42.1, rfl⟩) g42.2 g43 dX6_init_1317 em44 kk) (by rw [em44]; rfl) ?_
  obtain ⟨g45, h⟩ := gz_gu h
  obtain ⟨g46, h⟩ := gz_gu h
  obtain ⟨g47, h⟩ := gz_gu h
  obtain ⟨m48, em48, h⟩ := gz_lt h
  refine gz_Vs (fun _ kk => Rcp_X6_210_0 (pc := 1318) hX hn0 (c := c0) (fun _ => g45) g46 g47 dX6_init_1318 em48 kk) (by rw [em48]; rfl) ?_
  exact Rwb_X6_init_1321 hX hn0 h hk
noncomputable def Rmj_X6_init_1178 (c0 : Nat) (m : gM) : Option (Unit × gM) :=
  (if 0 ≤ (3 : Int32) ∧ gz_ix (3 : Int32) * 2 ≤ 536870912 ∧ gZ m ≠ 0 then gz_let (gz_al m (2 + 101) (gz_ix (3 : Int32)) (gz_ix (3 : Int32))) fun m2 => (if gK m2 (gZ m) = 103 ∧ 1000 ≤ (gZ m) then (if gz_in (0 : Int32) (gN m2 (gZ m)) then gz_let (gz_sI m2 (gZ m) (gz_ix (0 : Int32)) ((97 : Int32).toUInt32.toUInt16.toUInt32.toInt32)) fun m5 => (if gK m5 (gZ m) = 103 ∧ 1000 ≤ (gZ m) then (if gz_in (1 : Int32) (gN m5 (gZ m)) then gz_let (gz_sI m5 (gZ m) (gz_ix (1 : Int32)) ((108 : Int32).toUInt32.toUInt16.toUInt32.toInt32)) fun m8 => (if gK m8 (gZ m) = 103 ∧ 1000 ≤ (gZ m) then (if gz_in (2 : Int32) (gN m8 (gZ m)) then gz_let (gz_sI m8 (gZ m) (gz_ix (2 : Int32)) ((108 : Int32).toUInt32.toUInt16.toUInt32.toInt32)) fun m11 => (if gK m11 c0 = 1 then (if 1000 ≤ c0 then (if (gZ m) ≠ 0 then gz_let (gz_sP m11 c0 80 (gZ m)) fun m15 => (if 0 ≤ (3 : Int32) ∧ gz_ix (3 : Int32) * 2 ≤ 536870912 ∧ gZ m15 ≠ 0 then gz_let (gz_al m15 (2 + 101) (gz_ix (3 : Int32)) (gz_ix (3 : Int32))) fun m17 => (if gK m17 (gZ m15) = 103 ∧ 1000 ≤ (gZ m15) then (if gz_in (0 : Int32) (gN m17 (gZ m15)) then gz_let (gz_sI m17 (gZ m15) (gz_ix (0 : Int32)) ((109 : Int32).toUInt32.toUInt16.toUInt32.toInt32)) fun m20 => (if gK m20 (gZ m15) = 103 ∧ 1000 ≤ (gZ m15) then (if gz_in (1 : Int32) (gN m20 (gZ m15)) then gz_let (gz_sI m20 (gZ m15) (gz_ix (1 : Int32)) ((105 : Int32).toUInt32.toUInt16.toUInt32.toInt32)) fun m23 => (if gK m23 (gZ m15) = 103 ∧ 1000 ≤ (gZ m15) then (if gz_in (2 : Int32) (gN m23 (gZ m15)) then gz_let (gz_sI m23 (gZ m15) (gz_ix (2 : Int32)) ((110 : Int32).toUInt32.toUInt16.toUInt32.toInt32)) fun m26 => (if gK m26 c0 = 1 then (if 1000 ≤ c0 then (if (gZ m15) ≠ 0 then gz_let (gz_sP m26 c0 81 (gZ m15)) fun m30 => (if 0 ≤ (3 : Int32) ∧ gz_ix (3 : Int32) * 2 ≤ 536870912 ∧ gZ m30 ≠ 0 then gz_let (gz_al m30 (2 + 101) (gz_ix (3 : Int32)) (gz_ix (3 : Int32))) fun m32 => (if gK m32 (gZ m30) = 103 ∧ 1000 ≤ (gZ m30) then (if gz_in (0 : Int32) (gN m32 (gZ m30)) then gz_let (gz_sI m32 (gZ m30) (gz_ix (0 : Int32)) ((109 : Int32).toUInt32.toUInt16.toUInt32.toInt32)) fun m35 => (if gK m35 (gZ m30) = 103 ∧ 1000 ≤ (gZ m30) then (if gz_in (1 : Int32) (gN m35 (gZ m30)) then gz_let (gz_sI m35 (gZ m30) (gz_ix (1 : Int32)) ((97 : Int32).toUInt32.toUInt16.toUInt32.toInt32)) fun m38 => (if gK m38 (gZ m30) = 103 ∧ 1000 ≤ (gZ m30) then (if gz_in (2 : Int32) (gN m38 (gZ m30)) then gz_let (gz_sI m38 (gZ m30) (gz_ix (2 : Int32)) ((120 : Int32).toUInt32.toUInt16.toUInt32.toInt32)) fun m41 => (if gK m41 c0 = 1 then (if 1000 ≤ c0 then (if (gZ m30) ≠ 0 then gz_let (gz_sP m41 c0 82 (gZ m30)) fun m45 => (Rmj_X6_init_1244 c0 m45) else none) else none) else none) else none) else none) else none) else none) else none) else none) else none) else none) else none) else none) else none) else none) else none) else none) else none) else none) else none) else none) else none) else none) else none) else none) else none) else none) else none) else none) else none)
theorem Rwb_X6_init_1178 {X : gz_X} {G : gz_G} {zE : Nat × Nat} (hX : gz_C mR X G cX6_init 1 RX6 1 20) (hn0 : X.2.2.2.2.2.2.2.2.1.name = "<init>") {c0 : Nat}  {m : gM} {z : (Unit × gM)} (h : Rmj_X6_init_1178 c0 m = some z) (hk : (fun z : (Unit × gM) => gz_kVa mR X G 1 zE cX6_init z.2) z) : gz_Va mR X G 1 zE m 1178 [(0, .ref (gz_ad G c0))] [] := by
  unfold Rmj_X6_init_1178 at h
  refine gz_Vs (fun _ kk => gz_aload_n (pc := 1178) hX dX6_init_1178 rfl 0 rfl kk) rfl ?_
  refine gz_Vs (fun _ kk => gz_iconst (pc := 1179) (v := (3 : Int32)) hX dX6_init_1179 (by decide) kk) rfl ?_
  obtain ⟨g1, h⟩ := gz_gu h
  obtain ⟨m2, em2, h⟩ := gz_lt h
  refine gz_Vn (fun _ kk => gz_newa (pc := 1180) (t := 2) (N := gz_ix (3 : Int32)) hX rfl rfl q726 rfl ⟨⟨g1.1, Nat.lt_succ_self _⟩, rfl⟩ g1.2.1 g1.2.2 (fun _ _ => trivial) dX6_init_1180 em2 kk) em2 ?_
  refine gz_Vs (fun _ kk => gz_dup (pc := 1182) hX dX6_init_1182 rfl kk) rfl ?_
  refine gz_Vs (fun _ kk => gz_iconst (pc := 1183) (v := (0 : Int32)) hX dX6_init_1183 (by decide) kk) rfl ?_
  refine gz_Vs (fun _ kk => gz_bipush (pc := 1184) (v := (97 : Int32)) hX dX6_init_1184 (by decide) kk) rfl ?_
  obtain ⟨g3, h⟩ := gz_gu h
  obtain ⟨g4, h⟩ := gz_gu h
  obtain ⟨m5, em5, h⟩ := gz_lt h
  refine gz_Vs (fun _ kk => gz_cast2 (pc := 1186) (c := (gZ m)) (n := gN m2 (gZ m)) hX rfl (fun _ => ⟨g3.1, rfl⟩) g3.2 g4 dX6_init_1186 em5 kk) (by rw [em5]; rfl) ?_
  refine gz_Vs (fun _ kk => gz_dup (pc := 1187) hX dX6_init_1187 rfl kk) rfl ?_
  refine gz_Vs (fun _ kk => gz_iconst (pc := 1188) (v := (1 : Int32)) hX dX6_init_1188 (by decide) kk) rfl ?_
  refine gz_Vs (fun _ kk => gz_bipush (pc := 1189) (v := (108 : Int32)) hX dX6_init_1189 (by decide) kk) rfl ?_
  obtain ⟨g6, h⟩ := gz_gu h
  obtain ⟨g7, h⟩ := gz_gu h
  obtain ⟨m8, em8, h⟩ := gz_lt h
  refine gz_Vs (fun _ kk => gz_cast2 (pc := 1191) (c := (gZ m)) (n := gN m5 (gZ m)) hX rfl (fun _ => ⟨g6.1, rfl⟩) g6.2 g7 dX6_init_1191 em8 kk) (by rw [em8]; rfl) ?_
  refine gz_Vs (fun _ kk => gz_dup (pc := 1192) hX dX6_init_1192 rfl kk) rfl ?_
  refine gz_Vs (fun _ kk => gz_iconst (pc := 1193) (v := (2 : Int32)) hX dX6_init_1193 (by decide) kk) rfl ?_
  refine gz_Vs (fun _ kk => gz_bipush (pc := 1194) (v := (108 : Int32)) hX dX6_init_1194 (by decide) kk) rfl ?_
  obtain ⟨g9, h⟩ := gz_gu h
  obtain ⟨g10, h⟩ := gz_gu h
  obtain ⟨m11, em11, h⟩ := gz_lt h
  refine gz_Vs (fun _ kk => gz_cast2 (pc := 1196) (c := (gZ m)) (n := gN m8 (gZ m)) hX rfl (fun _ => ⟨g9.1, rfl⟩) g9.2 g10 dX6_init_1196 em11 kk) (by rw [em11]; rfl) ?_
  obtain ⟨g12, h⟩ := gz_gu h
  obtain ⟨g13, h⟩ := gz_gu h
  obtain ⟨g14, h⟩ := gz_gu h
  obtain ⟨m15, em15, h⟩ := gz_lt h
  refine gz_Vs (fun _ kk => Rcp_X6_198_0 (pc := 1197) hX hn0 (c := c0) (fun _ => g12) g13 g14 dX6_init_1197 em15 kk) (by rw [em15]; rfl) ?_
  refine gz_Vs (fun _ kk => gz_aload_n (pc := 1200) hX dX6_init_1200 rfl 0 rfl kk) rfl ?_
  refine gz_Vs (fun _ kk => gz_iconst (pc := 1201) (v := (3 : Int32)) hX dX6_init_1201 (by decide) kk) rfl ?_
  obtain ⟨g16, h⟩ := gz_gu h
  obtain ⟨m17, em17, h⟩ := gz_lt h
  refine gz_Vn (fun _ kk => gz_newa (pc := 1202) (t := 2) (N := gz_ix (3 : Int32)) hX rfl rfl q726 rfl ⟨⟨g16.1, Nat.lt_succ_self _⟩, rfl⟩ g16.2.1 g16.2.2 (fun _ _ => trivial) dX6_init_1202 em17 kk) em17 ?_
  refine gz_Vs (fun _ kk => gz_dup (pc := 1204) hX dX6_init_1204 rfl kk) rfl ?_
  refine gz_Vs (fun _ kk => gz_iconst (pc := 1205) (v := (0 : Int32)) hX dX6_init_1205 (by decide) kk) rfl ?_
  refine gz_Vs (fun _ kk => gz_bipush (pc := 1206) (v := (109 : Int32)) hX dX6_init_1206 (by decide) kk) rfl ?_
  obtain ⟨g18, h⟩ := gz_gu h
  obtain ⟨g19, h⟩ := gz_gu h
  obtain ⟨m20, em20, h⟩ := gz_lt h
  refine gz_Vs (fun _ kk => gz_cast2 (pc := 1208) (c := (gZ m15)) (n := gN m17 (gZ m15)) hX rfl (fun _ => ⟨g18.1, rfl⟩) g18.2 g19 dX6_init_1208 em20 kk) (by rw [em20]; rfl) ?_
  refine gz_Vs (fun _ kk => gz_dup (pc := 1209) hX dX6_init_1209 rfl kk) rfl ?_
  refine gz_Vs (fun _ kk => gz_iconst (pc := 1210) (v := (1 : Int32)) hX dX6_init_1210 (by decide) kk) rfl ?_
  refine gz_Vs (fun _ kk => gz_bipush (pc := 1211) (v := (105 : Int32)) hX dX6_init_1211 (by decide) kk) rfl ?_
  obtain ⟨g21, h⟩ := gz_gu h
  obtain ⟨g22, h⟩ := gz_gu h
  obtain ⟨m23, em23, h⟩ := gz_lt h
  refine gz_Vs (fun _ kk => gz_cast2 (pc := 1213) (c := (gZ m15)) (n := gN m20 (gZ m15)) hX rfl (fun _ => ⟨g21.1, rfl⟩) g21.2 g22 dX6_init_1213 em23 kk) (by rw [em23]; rfl) ?_
  refine gz_Vs (fun _ kk => gz_dup (pc := 1214) hX dX6_init_1214 rfl kk) rfl ?_
  refine gz_Vs (fun _ kk => gz_iconst (pc := 1215) (v := (2 : Int32)) hX dX6_init_1215 (by decide) kk) rfl ?_
  refine gz_Vs (fun _ kk => gz_bipush (pc := 1216) (v := (110 : Int32)) hX dX6_init_1216 (by decide) kk) rfl ?_
  obtain ⟨g24, h⟩ := gz_gu h
  obtain ⟨g25, h⟩ := gz_gu h
  obtain ⟨m26, em26, h⟩ := gz_lt h
  refine gz_Vs (fun _ kk => gz_cast2 (pc := 1218) (c := (gZ m15)) (n := gN m23 (gZ m15)) hX rfl (fun _ => ⟨g24.1, rfl⟩) g24.2 g25 dX6_init_1218 em26 kk) (by rw [em26]; rfl) ?_
  obtain ⟨g27, h⟩ := gz_gu h
  obtain ⟨g28, h⟩ := gz_gu h
  obtain ⟨g29, h⟩ := gz_gu h
  obtain ⟨m30, em30, h⟩ := gz_lt h
  refine gz_Vs (fun _ kk => Rcp_X6_201_0 (pc := 1219) hX hn0 (c := c0) (fun _ => g27) g28 g29 dX6_init_1219 em30 kk) (by rw [em30]; rfl) ?_
  refine gz_Vs (fun _ kk => gz_aload_n (pc := 1222) hX dX6_init_1222 rfl 0 rfl kk) rfl ?_
  refine gz_Vs (fun _ kk => gz_iconst (pc := 1223) (v := (3 : Int32)) hX dX6_init_1223 (by decide) kk) rfl ?_
  obtain ⟨g31, h⟩ := gz_gu h
  obtain ⟨m32, em32, h⟩ := gz_lt h
  refine gz_Vn (fun _ kk => gz_newa (pc := 1224) (t := 2) (N := gz_ix (3 : Int32)) hX rfl rfl q726 rfl ⟨⟨g31.1, Nat.lt_succ_self _⟩, rfl⟩ g31.2.1 g31.2.2 (fun _ _ => trivial) dX6_init_1224 em32 kk) em32 ?_
  refine gz_Vs (fun _ kk => gz_dup (pc := 1226) hX dX6_init_1226 rfl kk) rfl ?_
  refine gz_Vs (fun _ kk => gz_iconst (pc := 1227) (v := (0 : Int32)) hX dX6_init_1227 (by decide) kk) rfl ?_
  refine gz_Vs (fun _ kk => gz_bipush (pc := 1228) (v := (109 : Int32)) hX dX6_init_1228 (by decide) kk) rfl ?_
  obtain ⟨g33, h⟩ := gz_gu h
  obtain ⟨g34, h⟩ := gz_gu h
  obtain ⟨m35, em35, h⟩ := gz_lt h
  refine gz_Vs (fun _ kk => gz_cast2 (pc := 1230) (c := (gZ m30)) (n := gN m32 (gZ m30)) hX rfl (fun _ => ⟨g33.1, rfl⟩) g33.2 g34 dX6_init_1230 em35 kk) (by rw [em35]; rfl) ?_
  refine gz_Vs (fun _ kk => gz_dup (pc := 1231) hX dX6_init_1231 rfl kk) rfl ?_
  refine gz_Vs (fun _ kk => gz_iconst (pc := 1232) (v := (1 : Int32)) hX dX6_init_1232 (by decide) kk) rfl ?_
  refine gz_Vs (fun _ kk => gz_bipush (pc := 1233) (v := (97 : Int32)) hX dX6_init_1233 (by decide) kk) rfl ?_
  obtain ⟨g36, h⟩ := gz_gu h
  obtain ⟨g37, h⟩ := gz_gu h
  obtain ⟨m38, em38, h⟩ := gz_lt h
  refine gz_Vs (fun _ kk => gz_cast2 (pc := 1235) (c := (gZ m30)) (n := gN m35 (gZ m30)) hX rfl (fun _ => ⟨g36.1, rfl⟩) g36.2 g37 dX6_init_1235 em38 kk) (by rw [em38]; rfl) ?_
  refine gz_Vs (fun _ kk => gz_dup (pc := 1236) hX dX6_init_1236 rfl kk) rfl ?_
  refine gz_Vs (fun _ kk => gz_iconst (pc := 1237) (v := (2 : Int32)) hX dX6_init_1237 (by decide) kk) rfl ?_
  refine gz_Vs (fun _ kk => gz_bipush (pc := 1238) (v := (120 : Int32)) hX dX6_init_1238 (by decide) kk) rfl ?_
  obtain ⟨g39, h⟩ := gz_gu h
  obtain ⟨g40, h⟩ := gz_gu h
  obtain ⟨m41, em41, h⟩ := gz_lt h
  refine gz_Vs (fun _ kk => gz_cast2 (pc := 1240) (c := (gZ m30)) (n := gN m38 (gZ m30)) hX rfl (fun _ => ⟨g39.1, rfl⟩) g39.2 g40 dX6_init_1240 em41 kk) (by rw [em41]; rfl) ?_
  obtain ⟨g42, h⟩ := gz_gu h
  obtain ⟨g43, h⟩ := gz_gu h
  obtain ⟨g44, h⟩ := gz_gu h
  obtain ⟨m45, em45, h⟩ := gz_lt h
  refine gz_Vs (fun _ kk => Rcp_X6_204_0 (pc := 1241) hX hn0 (c := c0) (fun _ => g42) g43 g44 dX6_init_1241 em45 kk) (by rw [em45]; rfl) ?_
  exact Rwb_X6_init_1244 hX hn0 h hk
noncomputable def Rmj_X6_init_1117 (c0 : Nat) (m : gM) : Option (Unit × gM) :=
  (if 0 ≤ (3 : Int32) ∧ gz_ix (3 : Int32) * 2 ≤ 536870912 ∧ gZ m ≠ 0 then gz_let (gz_al m (2 + 101) (gz_ix (3 : Int32)) (gz_ix (3 : Int32))) fun m2 => (if gK m2 (gZ m) = 103 ∧ 1000 ≤ (gZ m) then (if gz_in (0 : Int32) (gN m2 (gZ m)) then gz_let (gz_sI m2 (gZ m) (gz_ix (0 : Int32)) ((110 : Int32).toUInt32.toUInt16.toUInt32.toInt32)) fun m5 => (if gK m5 (gZ m) = 103 ∧ 1000 ≤ (gZ m) then (if gz_in (1 : Int32) (gN m5 (gZ m)) then gz_let (gz_sI m5 (gZ m) (gz_ix (1 : Int32)) ((111 : Int32).toUInt32.toUInt16.toUInt32.toInt32)) fun m8 => (if gK m8 (gZ m) = 103 ∧ 1000 ≤ (gZ m) then (if gz_in (2 : Int32) (gN m8 (gZ m)) then gz_let (gz_sI m8 (gZ m) (gz_ix (2 : Int32)) ((116 : Int32).toUInt32.toUInt16.toUInt32.toInt32)) fun m11 => (if gK m11 c0 = 1 then (if 1000 ≤ c0 then (if (gZ m) ≠ 0 then gz_let (gz_sP m11 c0 77 (gZ m)) fun m15 => (if 0 ≤ (3 : Int32) ∧ gz_ix (3 : Int32) * 2 ≤ 536870912 ∧ gZ m15 ≠ 0 then gz_let (gz_al m15 (2 + 101) (gz_ix (3 : Int32)) (gz_ix (3 : Int32))) fun m17 => (if gK m17 (gZ m15) = 103 ∧ 1000 ≤ (gZ m15) then (if gz_in (0 : Int32) (gN m17 (gZ m15)) then gz_let (gz_sI m17 (gZ m15) (gz_ix (0 : Int32)) ((97 : Int32).toUInt32.toUInt16.toUInt32.toInt32)) fun m20 => (if gK m20 (gZ m15) = 103 ∧ 1000 ≤ (gZ m15) then (if gz_in (1 : Int32) (gN m20 (gZ m15)) then gz_let (gz_sI m20 (gZ m15) (gz_ix (1 : Int32)) ((110 : Int32).toUInt32.toUInt16.toUInt32.toInt32)) fun m23 => (if gK m23 (gZ m15) = 103 ∧ 1000 ≤ (gZ m15) then (if gz_in (2 : Int32) (gN m23 (gZ m15)) then gz_let (gz_sI m23 (gZ m15) (gz_ix (2 : Int32)) ((100 : Int32).toUInt32.toUInt16.toUInt32.toInt32)) fun m26 => (if gK m26 c0 = 1 then (if 1000 ≤ c0 then (if (gZ m15) ≠ 0 then gz_let (gz_sP m26 c0 78 (gZ m15)) fun m30 => (if 0 ≤ (2 : Int32) ∧ gz_ix (2 : Int32) * 2 ≤ 536870912 ∧ gZ m30 ≠ 0 then gz_let (gz_al m30 (2 + 101) (gz_ix (2 : Int32)) (gz_ix (2 : Int32))) fun m32 => (if gK m32 (gZ m30) = 103 ∧ 1000 ≤ (gZ m30) then (if gz_in (0 : Int32) (gN m32 (gZ m30)) then gz_let (gz_sI m32 (gZ m30) (gz_ix (0 : Int32)) ((111 : Int32).toUInt32.toUInt16.toUInt32.toInt32)) fun m35 => (if gK m35 (gZ m30) = 103 ∧ 1000 ≤ (gZ m30) then (if gz_in (1 : Int32) (gN m35 (gZ m30)) then gz_let (gz_sI m35 (gZ m30) (gz_ix (1 : Int32)) ((114 : Int32).toUInt32.toUInt16.toUInt32.toInt32)) fun m38 => (if gK m38 c0 = 1 then (if 1000 ≤ c0 then (if (gZ m30) ≠ 0 then gz_let (gz_sP m38 c0 79 (gZ m30)) fun m42 => (Rmj_X6_init_1178 c0 m42) else none) else none) else none) else none) else none) else none) else none) else none) else none) else none) else none) else none) else none) else none) else none) else none) else none) else none) else none) else none) else none) else none) else none) else none) else none) else none) else none) else none)
theorem Rwb_X6_init_1117 {X : gz_X} {G : gz_G} {zE : Nat × Nat} (hX : gz_C mR X G cX6_init 1 RX6 1 20) (hn0 : X.2.2.2.2.2.2.2.2.1.name = "<init>") {c0 : Nat}  {m : gM} {z : (Unit × gM)} (h : Rmj_X6_init_1117 c0 m = some z) (hk : (fun z : (Unit × gM) => gz_kVa mR X G 1 zE cX6_init z.2) z) : gz_Va mR X G 1 zE m 1117 [(0, .ref (gz_ad G c0))] [] := by
  unfold Rmj_X6_init_1117 at h
  refine gz_Vs (fun _ kk => gz_aload_n (pc := 1117) hX dX6_init_1117 rfl 0 rfl kk) rfl ?_
  refine gz_Vs (fun _ kk => gz_iconst (pc := 1118) (v := (3 : Int32)) hX dX6_init_1118 (by decide) kk) rfl ?_
  obtain ⟨g1, h⟩ := gz_gu h
  obtain ⟨m2, em2, h⟩ := gz_lt h
  refine gz_Vn (fun _ kk => gz_newa (pc := 1119) (t := 2) (N := gz_ix (3 : Int32)) hX rfl rfl q726 rfl ⟨⟨g1.1, Nat.lt_succ_self _⟩, rfl⟩ g1.2.1 g1.2.2 (fun _ _ => trivial) dX6_init_1119 em2 kk) em2 ?_
  refine gz_Vs (fun _ kk => gz_dup (pc := 1121) hX dX6_init_1121 rfl kk) rfl ?_
  refine gz_Vs (fun _ kk => gz_iconst (pc := 1122) (v := (0 : Int32)) hX dX6_init_1122 (by decide) kk) rfl ?_
  refine gz_Vs (fun _ kk => gz_bipush (pc := 1123) (v := (110 : Int32)) hX dX6_init_1123 (by decide) kk) rfl ?_
  obtain ⟨g3, h⟩ := gz_gu h
  obtain ⟨g4, h⟩ := gz_gu h
  obtain ⟨m5, em5, h⟩ := gz_lt h
  refine gz_Vs (fun _ kk => gz_cast2 (pc := 1125) (c := (gZ m)) (n := gN m2 (gZ m)) hX rfl (fun _ => ⟨g3.1, rfl⟩) g3.2 g4 dX6_init_1125 em5 kk) (by rw [em5]; rfl) ?_
  refine gz_Vs (fun _ kk => gz_dup (pc := 1126) hX dX6_init_1126 rfl kk) rfl ?_
  refine gz_Vs (fun _ kk => gz_iconst (pc := 1127) (v := (1 : Int32)) hX dX6_init_1127 (by decide) kk) rfl ?_
  refine gz_Vs (fun _ kk => gz_bipush (pc := 1128) (v := (111 : Int32)) hX dX6_init_1128 (by decide) kk) rfl ?_
  obtain ⟨g6, h⟩ := gz_gu h
  obtain ⟨g7, h⟩ := gz_gu h
  obtain ⟨m8, em8, h⟩ := gz_lt h
  refine gz_Vs (fun _ kk => gz_cast2 (pc := 1130) (c := (gZ m)) (n := gN m5 (gZ m)) hX rfl (fun _ => ⟨g6.1, rfl⟩) g6.2 g7 dX6_init_1130 em8 kk) (by rw [em8]; rfl) ?_
  refine gz_Vs (fun _ kk => gz_dup (pc := 1131) hX dX6_init_1131 rfl kk) rfl ?_
  refine gz_Vs (fun _ kk => gz_iconst (pc := 1132) (v := (2 : Int32)) hX dX6_init_1132 (by decide) kk) rfl ?_
  refine gz_Vs (fun _ kk => gz_bipush (pc := 1133) (v := (116 : Int32)) hX dX6_init_1133 (by decide) kk) rfl ?_
  obtain ⟨g9, h⟩ := gz_gu h
  obtain ⟨g10, h⟩ := gz_gu h
  obtain ⟨m11, em11, h⟩ := gz_lt h
  refine gz_Vs (fun _ kk => gz_cast2 (pc := 1135) (c := (gZ m)) (n := gN m8 (gZ m)) hX rfl (fun _ => ⟨g9.1, rfl⟩) g9.2 g10 dX6_init_1135 em11 kk) (by rw [em11]; rfl) ?_
  obtain ⟨g12, h⟩ := gz_gu h
  obtain ⟨g13, h⟩ := gz_gu h
  obtain ⟨g14, h⟩ := gz_gu h
  obtain ⟨m15, em15, h⟩ := gz_lt h
  refine gz_Vs (fun _ kk => Rcp_X6_189_0 (pc := 1136) hX hn0 (c := c0) (fun _ => g12) g13 g14 dX6_init_1136 em15 kk) (by rw [em15]; rfl) ?_
  refine gz_Vs (fun _ kk => gz_aload_n (pc := 1139) hX dX6_init_1139 rfl 0 rfl kk) rfl ?_
  refine gz_Vs (fun _ kk => gz_iconst (pc := 1140) (v := (3 : Int32)) hX dX6_init_1140 (by decide) kk) rfl ?_
  obtain ⟨g16, h⟩ := gz_gu h
  obtain ⟨m17, em17, h⟩ := gz_lt h
  refine gz_Vn (fun _ kk => gz_newa (pc := 1141) (t := 2) (N := gz_ix (3 : Int32)) hX rfl rfl q726 rfl ⟨⟨g16.1, Nat.lt_succ_self _⟩, rfl⟩ g16.2.1 g16.2.2 (fun _ _ => trivial) dX6_init_1141 em17 kk) em17 ?_
  refine gz_Vs (fun _ kk => gz_dup (pc := 1143) hX dX6_init_1143 rfl kk) rfl ?_
  refine gz_Vs (fun _ kk => gz_iconst (pc := 1144) (v := (0 : Int32)) hX dX6_init_1144 (by decide) kk) rfl ?_
  refine gz_Vs (fun _ kk => gz_bipush (pc := 1145) (v := (97 : Int32)) hX dX6_init_1145 (by decide) kk) rfl ?_
  obtain ⟨g18, h⟩ := gz_gu h
  obtain ⟨g19, h⟩ := gz_gu h
  obtain ⟨m20, em20, h⟩ := gz_lt h
  refine gz_Vs (fun _ kk => gz_cast2 (pc := 1147) (c := (gZ m15)) (n := gN m17 (gZ m15)) hX rfl (fun _ => ⟨g18.1, rfl⟩) g18.2 g19 dX6_init_1147 em20 kk) (by rw [em20]; rfl) ?_
  refine gz_Vs (fun _ kk => gz_dup (pc := 1148) hX dX6_init_1148 rfl kk) rfl ?_
  refine gz_Vs (fun _ kk => gz_iconst (pc := 1149) (v := (1 : Int32)) hX dX6_init_1149 (by decide) kk) rfl ?_
  refine gz_Vs (fun _ kk => gz_bipush (pc := 1150) (v := (110 : Int32)) hX dX6_init_1150 (by decide) kk) rfl ?_
  obtain ⟨g21, h⟩ := gz_gu h
  obtain ⟨g22, h⟩ := gz_gu h
  obtain ⟨m23, em23, h⟩ := gz_lt h
  refine gz_Vs (fun _ kk => gz_cast2 (pc := 1152) (c := (gZ m15)) (n := gN m20 (gZ m15)) hX rfl (fun _ => ⟨g21.1, rfl⟩) g21.2 g22 dX6_init_1152 em23 kk) (by rw [em23]; rfl) ?_
  refine gz_Vs (fun _ kk => gz_dup (pc := 1153) hX dX6_init_1153 rfl kk) rfl ?_
  refine gz_Vs (fun _ kk => gz_iconst (pc := 1154) (v := (2 : Int32)) hX dX6_init_1154 (by decide) kk) rfl ?_
  refine gz_Vs (fun _ kk => gz_bipush (pc := 1155) (v := (100 : Int32)) hX dX6_init_1155 (by decide) kk) rfl ?_
  obtain ⟨g24, h⟩ := gz_gu h
  obtain ⟨g25, h⟩ := gz_gu h
  obtain ⟨m26, em26, h⟩ := gz_lt h
  refine gz_Vs (fun _ kk => gz_cast2 (pc := 1157) (c := (gZ m15)) (n := gN m23 (gZ m15)) hX rfl (fun _ => ⟨g24.1, rfl⟩) g24.2 g25 dX6_init_1157 em26 kk) (by rw [em26]; rfl) ?_
  obtain ⟨g27, h⟩ := gz_gu h
  obtain ⟨g28, h⟩ := gz_gu h
  obtain ⟨g29, h⟩ := gz_gu h
  obtain ⟨m30, em30, h⟩ := gz_lt h
  refine gz_Vs (fun _ kk => Rcp_X6_192_0 (pc := 1158) hX hn0 (c := c0) (fun _ => g27) g28 g29 dX6_init_1158 em30 kk) (by rw [em30]; rfl) ?_
  refine gz_Vs (fun _ kk => gz_aload_n (pc := 1161) hX dX6_init_1161 rfl 0 rfl kk) rfl ?_
  refine gz_Vs (fun _ kk => gz_iconst (pc := 1162) (v := (2 : Int32)) hX dX6_init_1162 (by decide) kk) rfl ?_
  obtain ⟨g31, h⟩ := gz_gu h
  obtain ⟨m32, em32, h⟩ := gz_lt h
  refine gz_Vn (fun _ kk => gz_newa (pc := 1163) (t := 2) (N := gz_ix (2 : Int32)) hX rfl rfl q726 rfl ⟨⟨g31.1, Nat.lt_succ_self _⟩, rfl⟩ g31.2.1 g31.2.2 (fun _ _ => trivial) dX6_init_1163 em32 kk) em32 ?_
  refine gz_Vs (fun _ kk => gz_dup (pc := 1165) hX dX6_init_1165 rfl kk) rfl ?_
  refine gz_Vs (fun _ kk => gz_iconst (pc := 1166) (v := (0 : Int32)) hX dX6_init_1166 (by decide) kk) rfl ?_
  refine gz_Vs (fun _ kk => gz_bipush (pc := 1167) (v := (111 : Int32)) hX dX6_init_1167 (by decide) kk) rfl ?_
  obtain ⟨g33, h⟩ := gz_gu h
  obtain ⟨g34, h⟩ := gz_gu h
  obtain ⟨m35, em35, h⟩ := gz_lt h
  refine gz_Vs (fun _ kk => gz_cast2 (pc := 1169) (c := (gZ m30)) (n := gN m32 (gZ m30)) hX rfl (fun _ => ⟨g33.1, rfl⟩) g33.2 g34 dX6_init_1169 em35 kk) (by rw [em35]; rfl) ?_
  refine gz_Vs (fun _ kk => gz_dup (pc := 1170) hX dX6_init_1170 rfl kk) rfl ?_
  refine gz_Vs (fun _ kk => gz_iconst (pc := 1171) (v := (1 : Int32)) hX dX6_init_1171 (by decide) kk) rfl ?_
  refine gz_Vs (fun _ kk => gz_bipush (pc := 1172) (v := (114 : Int32)) hX dX6_init_1172 (by decide) kk) rfl ?_
  obtain ⟨g36, h⟩ := gz_gu h
  obtain ⟨g37, h⟩ := gz_gu h
  obtain ⟨m38, em38, h⟩ := gz_lt h
  refine gz_Vs (fun _ kk => gz_cast2 (pc := 1174) (c := (gZ m30)) (n := gN m35 (gZ m30)) hX rfl (fun _ => ⟨g36.1, rfl⟩) g36.2 g37 dX6_init_1174 em38 kk) (by rw [em38]; rfl) ?_
  obtain ⟨g39, h⟩ := gz_gu h
  obtain ⟨g40, h⟩ := gz_gu h
  obtain ⟨g41, h⟩ := gz_gu h
  obtain ⟨m42, em42, h⟩ := gz_lt h
  refine gz_Vs (fun _ kk => Rcp_X6_195_0 (pc := 1175) hX hn0 (c := c0) (fun _ => g39) g40 g41 dX6_init_1175 em42 kk) (by rw [em42]; rfl) ?_
  exact Rwb_X6_init_1178 hX hn0 h hk
noncomputable def Rmj_X6_init_1058 (c0 : Nat) (m : gM) : Option (Unit × gM) :=
  (if 0 ≤ (4 : Int32) ∧ gz_ix (4 : Int32) * 2 ≤ 536870912 ∧ gZ m ≠ 0 then gz_let (gz_al m (2 + 101) (gz_ix (4 : Int32)) (gz_ix (4 : Int32))) fun m2 => (if gK m2 (gZ m) = 103 ∧ 1000 ≤ (gZ m) then (if gz_in (0 : Int32) (gN m2 (gZ m)) then gz_let (gz_sI m2 (gZ m) (gz_ix (0 : Int32)) ((109 : Int32).toUInt32.toUInt16.toUInt32.toInt32)) fun m5 => (if gK m5 (gZ m) = 103 ∧ 1000 ≤ (gZ m) then (if gz_in (1 : Int32) (gN m5 (gZ m)) then gz_let (gz_sI m5 (gZ m) (gz_ix (1 : Int32)) ((111 : Int32).toUInt32.toUInt16.toUInt32.toInt32)) fun m8 => (if gK m8 (gZ m) = 103 ∧ 1000 ≤ (gZ m) then (if gz_in (2 : Int32) (gN m8 (gZ m)) then gz_let (gz_sI m8 (gZ m) (gz_ix (2 : Int32)) ((115 : Int32).toUInt32.toUInt16.toUInt32.toInt32)) fun m11 => (if gK m11 (gZ m) = 103 ∧ 1000 ≤ (gZ m) then (if gz_in (3 : Int32) (gN m11 (gZ m)) then gz_let (gz_sI m11 (gZ m) (gz_ix (3 : Int32)) ((116 : Int32).toUInt32.toUInt16.toUInt32.toInt32)) fun m14 => (if gK m14 c0 = 1 then (if 1000 ≤ c0 then (if (gZ m) ≠ 0 then gz_let (gz_sP m14 c0 75 (gZ m)) fun m18 => (if 0 ≤ (5 : Int32) ∧ gz_ix (5 : Int32) * 2 ≤ 536870912 ∧ gZ m18 ≠ 0 then gz_let (gz_al m18 (2 + 101) (gz_ix (5 : Int32)) (gz_ix (5 : Int32))) fun m20 => (if gK m20 (gZ m18) = 103 ∧ 1000 ≤ (gZ m18) then (if gz_in (0 : Int32) (gN m20 (gZ m18)) then gz_let (gz_sI m20 (gZ m18) (gz_ix (0 : Int32)) ((108 : Int32).toUInt32.toUInt16.toUInt32.toInt32)) fun m23 => (if gK m23 (gZ m18) = 103 ∧ 1000 ≤ (gZ m18) then (if gz_in (1 : Int32) (gN m23 (gZ m18)) then gz_let (gz_sI m23 (gZ m18) (gz_ix (1 : Int32)) ((101 : Int32).toUInt32.toUInt16.toUInt32.toInt32)) fun m26 => (if gK m26 (gZ m18) = 103 ∧ 1000 ≤ (gZ m18) then (if gz_in (2 : Int32) (gN m26 (gZ m18)) then gz_let (gz_sI m26 (gZ m18) (gz_ix (2 : Int32)) ((97 : Int32).toUInt32.toUInt16.toUInt32.toInt32)) fun m29 => (if gK m29 (gZ m18) = 103 ∧ 1000 ≤ (gZ m18) then (if gz_in (3 : Int32) (gN m29 (gZ m18)) then gz_let (gz_sI m29 (gZ m18) (gz_ix (3 : Int32)) ((115 : Int32).toUInt32.toUInt16.toUInt32.toInt32)) fun m32 => (if gK m32 (gZ m18) = 103 ∧ 1000 ≤ (gZ m18) then (if gz_in (4 : Int32) (gN m32 (gZ m18)) then gz_let (gz_sI m32 (gZ m18) (gz_ix (4 : Int32)) ((116 : Int32).toUInt32.toUInt16.toUInt32.toInt32)) fun m35 => (if gK m35 c0 = 1 then (if 1000 ≤ c0 then (if (gZ m18) ≠ 0 then gz_let (gz_sP m35 c0 76 (gZ m18)) fun m39 => (Rmj_X6_init_1117 c0 m39) else none) else none) else none) else none) else none) else none) else none) else none) else none) else none) else none) else none) else none) else none) else none) else none) else none) else none) else none) else none) else none) else none) else none) else none) else none) else none)
theorem Rwb_X6_init_1058 {X : gz_X} {G : gz_G} {zE : Nat × Nat} (hX : gz_C mR X G cX6_init 1 RX6 1 20) (hn0 : X.2.2.2.2.2.2.2.2.1.name = "<init>") {c0 : Nat}  {m : gM} {z : (Unit × gM)} (h : Rmj_X6_init_1058 c0 m = some z) (hk : (fun z : (Unit × gM) => gz_kVa mR X G 1 zE cX6_init z.2) z) : gz_Va mR X G 1 zE m 1058 [(0, .ref (gz_ad G c0))] [] := by
  unfold Rmj_X6_init_1058 at h
  refine gz_Vs (fun _ kk => gz_aload_n (pc := 1058) hX dX6_init_1058 rfl 0 rfl kk) rfl ?_
  refine gz_Vs (fun _ kk => gz_iconst (pc := 1059) (v := (4 : Int32)) hX dX6_init_1059 (by decide) kk) rfl ?_
  obtain ⟨g1, h⟩ := gz_gu h
  obtain ⟨m2, em2, h⟩ := gz_lt h
  refine gz_Vn (fun _ kk => gz_newa (pc := 1060) (t := 2) (N := gz_ix (4 : Int32)) hX rfl rfl q726 rfl ⟨⟨g1.1, Nat.lt_succ_self _⟩, rfl⟩ g1.2.1 g1.2.2 (fun _ _ => trivial) dX6_init_1060 em2 kk) em2 ?_
  refine gz_Vs (fun _ kk => gz_dup (pc := 1062) hX dX6_init_1062 rfl kk) rfl ?_
  refine gz_Vs (fun _ kk => gz_iconst (pc := 1063) (v := (0 : Int32)) hX dX6_init_1063 (by decide) kk) rfl ?_
  refine gz_Vs (fun _ kk => gz_bipush (pc := 1064) (v := (109 : Int32)) hX dX6_init_1064 (by decide) kk) rfl ?_
  obtain ⟨g3, h⟩ := gz_gu h
  obtain ⟨g4, h⟩ := gz_gu h
  obtain ⟨m5, em5, h⟩ := gz_lt h
  refine gz_Vs (fun _ kk => gz_cast2 (pc := 1066) (c := (gZ m)) (n := gN m2 (gZ m)) hX rfl (fun _ => ⟨g3.1, rfl⟩) g3.2 g4 dX6_init_1066 em5 kk) (by rw [em5]; rfl) ?_
  refine gz_Vs (fun _ kk => gz_dup (pc := 1067) hX dX6_init_1067 rfl kk) rfl ?_
  refine gz_Vs (fun _ kk => gz_iconst (pc := 1068) (v := (1 : Int32)) hX dX6_init_1068 (by decide) kk) rfl ?_
  refine gz_Vs (fun _ kk => gz_bipush (pc := 1069) (v := (111 : Int32)) hX dX6_init_1069 (by decide) kk) rfl ?_
  obtain ⟨g6, h⟩ := gz_gu h
  obtain ⟨g7, h⟩ := gz_gu h
  obtain ⟨m8, em8, h⟩ := gz_lt h
  refine gz_Vs (fun _ kk => gz_cast2 (pc := 1071) (c := (gZ m)) (n := gN m5 (gZ m)) hX rfl (fun _ => ⟨g6.1, rfl⟩) g6.2 g7 dX6_init_1071 em8 kk) (by rw [em8]; rfl) ?_
  refine gz_Vs (fun _ kk => gz_dup (pc := 1072) hX dX6_init_1072 rfl kk) rfl ?_
  refine gz_Vs (fun _ kk => gz_iconst (pc := 1073) (v := (2 : Int32)) hX dX6_init_1073 (by decide) kk) rfl ?_
  refine gz_Vs (fun _ kk => gz_bipush (pc := 1074) (v := (115 : Int32)) hX dX6_init_1074 (by decide) kk) rfl ?_
  obtain ⟨g9, h⟩ := gz_gu h
  obtain ⟨g10, h⟩ := gz_gu h
  obtain ⟨m11, em11, h⟩ := gz_lt h
  refine gz_Vs (fun _ kk => gz_cast2 (pc := 1076) (c := (gZ m)) (n := gN m8 (gZ m)) hX rfl (fun _ => ⟨g9.1, rfl⟩) g9.2 g10 dX6_init_1076 em11 kk) (by rw [em11]; rfl) ?_
  refine gz_Vs (fun _ kk => gz_dup (pc := 1077) hX dX6_init_1077 rfl kk) rfl ?_
  refine gz_Vs (fun _ kk => gz_iconst (pc := 1078) (v := (3 : Int32)) hX dX6_init_1078 (by decide) kk) rfl ?_
  refine gz_Vs (fun _ kk => gz_bipush (pc := 1079) (v := (116 : Int32)) hX dX6_init_1079 (by decide) kk) rfl ?_
  obtain ⟨g12, h⟩ := gz_gu h
  obtain ⟨g13, h⟩ := gz_gu h
  obtain ⟨m14, em14, h⟩ := gz_lt h
  refine gz_Vs (fun _ kk => gz_cast2 (pc := 1081) (c := (gZ m)) (n := gN m11 (gZ m)) hX rfl (fun _ => ⟨g12.1, rfl⟩) g12.2 g13 dX6_init_1081 em14 kk) (by rw [em14]; rfl) ?_
  obtain ⟨g15, h⟩ := gz_gu h
  obtain ⟨g16, h⟩ := gz_gu h
  obtain ⟨g17, h⟩ := gz_gu h
  obtain ⟨m18, em18, h⟩ := gz_lt h
  refine gz_Vs (fun _ kk => Rcp_X6_183_0 (pc := 1082) hX hn0 (c := c0) (fun _ => g15) g16 g17 dX6_init_1082 em18 kk) (by rw [em18]; rfl) ?_
  refine gz_Vs (fun _ kk => gz_aload_n (pc := 1085) hX dX6_init_1085 rfl 0 rfl kk) rfl ?_
  refine gz_Vs (fun _ kk => gz_iconst (pc := 1086) (v := (5 : Int32)) hX dX6_init_1086 (by decide) kk) rfl ?_
  obtain ⟨g19, h⟩ := gz_gu h
  obtain ⟨m20, em20, h⟩ := gz_lt h
  refine gz_Vn (fun _ kk => gz_newa (pc := 1087) (t := 2) (N := gz_ix (5 : Int32)) hX rfl rfl q726 rfl ⟨⟨g19.1, Nat.lt_succ_self _⟩, rfl⟩ g19.2.1 g19.2.2 (fun _ _ => trivial) dX6_init_1087 em20 kk) em20 ?_
  refine gz_Vs (fun _ kk => gz_dup (pc := 1089) hX dX6_init_1089 rfl kk) rfl ?_
  refine gz_Vs (fun _ kk => gz_iconst (pc := 1090) (v := (0 : Int32)) hX dX6_init_1090 (by decide) kk) rfl ?_
  refine gz_Vs (fun _ kk => gz_bipush (pc := 1091) (v := (108 : Int32)) hX dX6_init_1091 (by decide) kk) rfl ?_
  obtain ⟨g21, h⟩ := gz_gu h
  obtain ⟨g22, h⟩ := gz_gu h
  obtain ⟨m23, em23, h⟩ := gz_lt h
  refine gz_Vs (fun _ kk => gz_cast2 (pc := 1093) (c := (gZ m18)) (n := gN m20 (gZ m18)) hX rfl (fun _ => ⟨g21.1, rfl⟩) g21.2 g22 dX6_init_1093 em23 kk) (by rw [em23]; rfl) ?_
  refine gz_Vs (fun _ kk => gz_dup (pc := 1094) hX dX6_init_1094 rfl kk) rfl ?_
  refine gz_Vs (fun _ kk => gz_iconst (pc := 1095) (v := (1 : Int32)) hX dX6_init_1095 (by decide) kk) rfl ?_
  refine gz_Vs (fun _ kk => gz_bipush (pc := 1096) (v := (101 : Int32)) hX dX6_init_1096 (by decide) kk) rfl ?_
  obtain ⟨g24, h⟩ := gz_gu h
  obtain ⟨g25, h⟩ := gz_gu h
  obtain ⟨m26, em26, h⟩ := gz_lt h
  refine gz_Vs (fun _ kk => gz_cast2 (pc := 1098) (c := (gZ m18)) (n := gN m23 (gZ m18)) hX rfl (fun _ => ⟨g24.1, rfl⟩) g24.2 g25 dX6_init_1098 em26 kk) (by rw [em26]; rfl) ?_
  refine gz_Vs (fun _ kk => gz_dup (pc := 1099) hX dX6_init_1099 rfl kk) rfl ?_
  refine gz_Vs (fun _ kk => gz_iconst (pc := 1100) (v := (2 : Int32)) hX dX6_init_1100 (by decide) kk) rfl ?_
  refine gz_Vs (fun _ kk => gz_bipush (pc := 1101) (v := (97 : Int32)) hX dX6_init_1101 (by decide) kk) rfl ?_
  obtain ⟨g27, h⟩ := gz_gu h
  obtain ⟨g28, h⟩ := gz_gu h
  obtain ⟨m29, em29, h⟩ := gz_lt h
  refine gz_Vs (fun _ kk => gz_cast2 (pc := 1103) (c := (gZ m18)) (n := gN m26 (gZ m18)) hX rfl (fun _ => ⟨g27.1, rfl⟩) g27.2 g28 dX6_init_1103 em29 kk) (by rw [em29]; rfl) ?_
  refine gz_Vs (fun _ kk => gz_dup (pc := 1104) hX dX6_init_1104 rfl kk) rfl ?_
  refine gz_Vs (fun _ kk => gz_iconst (pc := 1105) (v := (3 : Int32)) hX dX6_init_1105 (by decide) kk) rfl ?_
  refine gz_Vs (fun _ kk => gz_bipush (pc := 1106) (v := (115 : Int32)) hX dX6_init_1106 (by decide) kk) rfl ?_
  obtain ⟨g30, h⟩ := gz_gu h
  obtain ⟨g31, h⟩ := gz_gu h
  obtain ⟨m32, em32, h⟩ := gz_lt h
  refine gz_Vs (fun _ kk => gz_cast2 (pc := 1108) (c := (gZ m18)) (n := gN m29 (gZ m18)) hX rfl (fun _ => ⟨g30.1, rfl⟩) g30.2 g31 dX6_init_1108 em32 kk) (by rw [em32]; rfl) ?_
  refine gz_Vs (fun _ kk => gz_dup (pc := 1109) hX dX6_init_1109 rfl kk) rfl ?_
  refine gz_Vs (fun _ kk => gz_iconst (pc := 1110) (v := (4 : Int32)) hX dX6_init_1110 (by decide) kk) rfl ?_
  refine gz_Vs (fun _ kk => gz_bipush (pc := 1111) (v := (116 : Int32)) hX dX6_init_1111 (by decide) kk) rfl ?_
  obtain ⟨g33, h⟩ := gz_gu h
  obtain ⟨g34, h⟩ := gz_gu h
  obtain ⟨m35, em35, h⟩ := gz_lt h
  refine gz_Vs (fun _ kk => gz_cast2 (pc := 1113) (c := (gZ m18)) (n := gN m32 (gZ m18)) hX rfl (fun _ => ⟨g33.1, rfl⟩) g33.2 g34 dX6_init_1113 em35 kk) (by rw [em35]; rfl) ?_
  obtain ⟨g36, h⟩ := gz_gu h
  obtain ⟨g37, h⟩ := gz_gu h
  obtain ⟨g38, h⟩ := gz_gu h
  obtain ⟨m39, em39, h⟩ := gz_lt h
  refine gz_Vs (fun _ kk => Rcp_X6_186_0 (pc := 1114) hX hn0 (c := c0) (fun _ => g36) g37 g38 dX6_init_1114 em39 kk) (by rw [em39]; rfl) ?_
  exact Rwb_X6_init_1117 hX hn0 h hk
noncomputable def Rmj_X6_init_994 (c0 : Nat) (m : gM) : Option (Unit × gM) :=
  (if 0 ≤ (5 : Int32) ∧ gz_ix (5 : Int32) * 2 ≤ 536870912 ∧ gZ m ≠ 0 then gz_let (gz_al m (2 + 101) (gz_ix (5 : Int32)) (gz_ix (5 : Int32))) fun m2 => (if gK m2 (gZ m) = 103 ∧ 1000 ≤ (gZ m) then (if gz_in (0 : Int32) (gN m2 (gZ m)) then gz_let (gz_sI m2 (gZ m) (gz_ix (0 : Int32)) ((111 : Int32).toUInt32.toUInt16.toUInt32.toInt32)) fun m5 => (if gK m5 (gZ m) = 103 ∧ 1000 ≤ (gZ m) then (if gz_in (1 : Int32) (gN m5 (gZ m)) then gz_let (gz_sI m5 (gZ m) (gz_ix (1 : Int32)) ((102 : Int32).toUInt32.toUInt16.toUInt32.toInt32)) fun m8 => (if gK m8 (gZ m) = 103 ∧ 1000 ≤ (gZ m) then (if gz_in (2 : Int32) (gN m8 (gZ m)) then gz_let (gz_sI m8 (gZ m) (gz_ix (2 : Int32)) ((116 : Int32).toUInt32.toUInt16.toUInt32.toInt32)) fun m11 => (if gK m11 (gZ m) = 103 ∧ 1000 ≤ (gZ m) then (if gz_in (3 : Int32) (gN m11 (gZ m)) then gz_let (gz_sI m11 (gZ m) (gz_ix (3 : Int32)) ((101 : Int32).toUInt32.toUInt16.toUInt32.toInt32)) fun m14 => (if gK m14 (gZ m) = 103 ∧ 1000 ≤ (gZ m) then (if gz_in (4 : Int32) (gN m14 (gZ m)) then gz_let (gz_sI m14 (gZ m) (gz_ix (4 : Int32)) ((110 : Int32).toUInt32.toUInt16.toUInt32.toInt32)) fun m17 => (if gK m17 c0 = 1 then (if 1000 ≤ c0 then (if (gZ m) ≠ 0 then gz_let (gz_sP m17 c0 73 (gZ m)) fun m21 => (if 0 ≤ (5 : Int32) ∧ gz_ix (5 : Int32) * 2 ≤ 536870912 ∧ gZ m21 ≠ 0 then gz_let (gz_al m21 (2 + 101) (gz_ix (5 : Int32)) (gz_ix (5 : Int32))) fun m23 => (if gK m23 (gZ m21) = 103 ∧ 1000 ≤ (gZ m21) then (if gz_in (0 : Int32) (gN m23 (gZ m21)) then gz_let (gz_sI m23 (gZ m21) (gz_ix (0 : Int32)) ((116 : Int32).toUInt32.toUInt16.toUInt32.toInt32)) fun m26 => (if gK m26 (gZ m21) = 103 ∧ 1000 ≤ (gZ m21) then (if gz_in (1 : Int32) (gN m26 (gZ m21)) then gz_let (gz_sI m26 (gZ m21) (gz_ix (1 : Int32)) ((111 : Int32).toUInt32.toUInt16.toUInt32.toInt32)) fun m29 => (if gK m29 (gZ m21) = 103 ∧ 1000 ≤ (gZ m21) then (if gz_in (2 : Int32) (gN m29 (gZ m21)) then gz_let (gz_sI m29 (gZ m21) (gz_ix (2 : Int32)) ((116 : Int32).toUInt32.toUInt16.toUInt32.toInt32)) fun m32 => (if gK m32 (gZ m21) = 103 ∧ 1000 ≤ (gZ m21) then (if gz_in (3 : Int32) (gN m32 (gZ m21)) then gz_let (gz_sI m32 (gZ m21) (gz_ix (3 : Int32)) ((97 : Int32).toUInt32.toUInt16.toUInt32.toInt32)) fun m35 => (if gK m35 (gZ m21) = 103 ∧ 1000 ≤ (gZ m21) then (if gz_in (4 : Int32) (gN m35 (gZ m21)) then gz_let (gz_sI m35 (gZ m21) (gz_ix (4 : Int32)) ((108 : Int32).toUInt32.toUInt16.toUInt32.toInt32)) fun m38 => (if gK m38 c0 = 1 then (if 1000 ≤ c0 then (if (gZ m21) ≠ 0 then gz_let (gz_sP m38 c0 74 (gZ m21)) fun m42 => (Rmj_X6_init_1058 c0 m42) else none) else none) else none) else none) else none) else none) else none) else none) else none) else none) else none) else none) else none) else none) else none) else none) else none) else none) else none) else none) else none) else none) else none) else none) else none) else none) else none) else none)
theorem Rwb_X6_init_994 {X : gz_X} {G : gz_G} {zE : Nat × Nat} (hX : gz_C mR X G cX6_init 1 RX6 1 20) (hn0 : X.2.2.2.2.2.2.2.2.1.name = "<init>") {c0 : Nat}  {m : gM} {z : (Unit × gM)} (h : Rmj_X6_init_994 c0 m = some z) (hk : (fun z : (Unit × gM) => gz_kVa mR X G 1 zE cX6_init z.2) z) : gz_Va mR X G 1 zE m 994 [(0, .ref (gz_ad G c0))] [] := by
  unfold Rmj_X6_init_994 at h
  refine gz_Vs (fun _ kk => gz_aload_n (pc := 994) hX dX6_init_994 rfl 0 rfl kk) rfl ?_
  refine gz_Vs (fun _ kk => gz_iconst (pc := 995) (v := (5 : Int32)) hX dX6_init_995 (by decide) kk) rfl ?_
  obtain ⟨g1, h⟩ := gz_gu h
  obtain ⟨m2, em2, h⟩ := gz_lt h
  refine gz_Vn (fun _ kk => gz_newa (pc := 996) (t := 2) (N := gz_ix (5 : Int32)) hX rfl rfl q726 rfl ⟨⟨g1.1, Nat.lt_succ_self _⟩, rfl⟩ g1.2.1 g1.2.2 (fun _ _ => trivial) dX6_init_996 em2 kk) em2 ?_
  refine gz_Vs (fun _ kk => gz_dup (pc := 998) hX dX6_init_998 rfl kk) rfl ?_
  refine gz_Vs (fun _ kk => gz_iconst (pc := 999) (v := (0 : Int32)) hX dX6_init_999 (by decide) kk) rfl ?_
  refine gz_Vs (fun _ kk => gz_bipush (pc := 1000) (v := (111 : Int32)) hX dX6_init_1000 (by decide) kk) rfl ?_
  obtain ⟨g3, h⟩ := gz_gu h
  obtain ⟨g4, h⟩ := gz_gu h
  obtain ⟨m5, em5, h⟩ := gz_lt h
  refine gz_Vs (fun _ kk => gz_cast2 (pc := 1002) (c := (gZ m)) (n := gN m2 (gZ m)) hX rfl (fun _ => ⟨g3.1, rfl⟩) g3.2 g4 dX6_init_1002 em5 kk) (by rw [em5]; rfl) ?_
  refine gz_Vs (fun _ kk => gz_dup (pc := 1003) hX dX6_init_1003 rfl kk) rfl ?_
  refine gz_Vs (fun _ kk => gz_iconst (pc := 1004) (v := (1 : Int32)) hX dX6_init_1004 (by decide) kk) rfl ?_
  refine gz_Vs (fun _ kk => gz_bipush (pc := 1005) (v := (102 : Int32)) hX dX6_init_1005 (by decide) kk) rfl ?_
  obtain ⟨g6, h⟩ := gz_gu h
  obtain ⟨g7, h⟩ := gz_gu h
  obtain ⟨m8, em8, h⟩ := gz_lt h
  refine gz_Vs (fun _ kk => gz_cast2 (pc := 1007) (c := (gZ m)) (n := gN m5 (gZ m)) hX rfl (fun _ => ⟨g6.1, rfl⟩) g6.2 g7 dX6_init_1007 em8 kk) (by rw [em8]; rfl) ?_
  refine gz_Vs (fun _ kk => gz_dup (pc := 1008) hX dX6_init_1008 rfl kk) rfl ?_
  refine gz_Vs (fun _ kk => gz_iconst (pc := 1009) (v := (2 : Int32)) hX dX6_init_1009 (by decide) kk) rfl ?_
  refine gz_Vs (fun _ kk => gz_bipush (pc := 1010) (v := (116 : Int32)) hX dX6_init_1010 (by decide) kk) rfl ?_
  obtain ⟨g9, h⟩ := gz_gu h
  obtain ⟨g10, h⟩ := gz_gu h
  obtain ⟨m11, em11, h⟩ := gz_lt h
  refine gz_Vs (fun _ kk => gz_cast2 (pc := 1012) (c := (gZ m)) (n := gN m8 (gZ m)) hX rfl (fun _ => ⟨g9.1, rfl⟩) g9.2 g10 dX6_init_1012 em11 kk) (by rw [em11]; rfl) ?_
  refine gz_Vs (fun _ kk => gz_dup (pc := 1013) hX dX6_init_1013 rfl kk) rfl ?_
  refine gz_Vs (fun _ kk => gz_iconst (pc := 1014) (v := (3 : Int32)) hX dX6_init_1014 (by decide) kk) rfl ?_
  refine gz_Vs (fun _ kk => gz_bipush (pc := 1015) (v := (101 : Int32)) hX dX6_init_1015 (by decide) kk) rfl ?_
  obtain ⟨g12, h⟩ := gz_gu h
  obtain ⟨g13, h⟩ := gz_gu h
  obtain ⟨m14, em14, h⟩ := gz_lt h
  refine gz_Vs (fun _ kk => gz_cast2 (pc := 1017) (c := (gZ m)) (n := gN m11 (gZ m)) hX rfl (fun _ => ⟨g12.1, rfl⟩) g12.2 g13 dX6_init_1017 em14 kk) (by rw [em14]; rfl) ?_
  refine gz_Vs (fun _ kk => gz_dup (pc := 1018) hX dX6_init_1018 rfl kk) rfl ?_
  refine gz_Vs (fun _ kk => gz_iconst (pc := 1019) (v := (4 : Int32)) hX dX6_init_1019 (by decide) kk) rfl ?_
  refine gz_Vs (fun _ kk => gz_bipush (pc := 1020) (v := (110 : Int32)) hX dX6_init_1020 (by decide) kk) rfl ?_
  obtain ⟨g15, h⟩ := gz_gu h
  obtain ⟨g16, h⟩ := gz_gu h
  obtain ⟨m17, em17, h⟩ := gz_lt h
  refine gz_Vs (fun _ kk => gz_cast2 (pc := 1022) (c := (gZ m)) (n := gN m14 (gZ m)) hX rfl (fun _ => ⟨g15.1, rfl⟩) g15.2 g16 dX6_init_1022 em17 kk) (by rw [em17]; rfl) ?_
  obtain ⟨g18, h⟩ := gz_gu h
  obtain ⟨g19, h⟩ := gz_gu h
  obtain ⟨g20, h⟩ := gz_gu h
  obtain ⟨m21, em21, h⟩ := gz_lt h
  refine gz_Vs (fun _ kk => Rcp_X6_177_0 (pc := 1023) hX hn0 (c := c0) (fun _ => g18) g19 g20 dX6_init_1023 em21 kk) (by rw [em21]; rfl) ?_
  refine gz_Vs (fun _ kk => gz_aload_n (pc := 1026) hX dX6_init_1026 rfl 0 rfl kk) rfl ?_
  refine gz_Vs (fun _ kk => gz_iconst (pc := 1027) (v := (5 : Int32)) hX dX6_init_1027 (by decide) kk) rfl ?_
  obtain ⟨g22, h⟩ := gz_gu h
  obtain ⟨m23, em23, h⟩ := gz_lt h
  refine gz_Vn (fun _ kk => gz_newa (pc := 1028) (t := 2) (N := gz_ix (5 : Int32)) hX rfl rfl q726 rfl ⟨⟨g22.1, Nat.lt_succ_self _⟩, rfl⟩ g22.2.1 g22.2.2 (fun _ _ => trivial) dX6_init_1028 em23 kk) em23 ?_
  refine gz_Vs (fun _ kk => gz_dup (pc := 1030) hX dX6_init_1030 rfl kk) rfl ?_
  refine gz_Vs (fun _ kk => gz_iconst (pc := 1031) (v := (0 : Int32)) hX dX6_init_1031 (by decide) kk) rfl ?_
  refine gz_Vs (fun _ kk => gz_bipush (pc := 1032) (v := (116 : Int32)) hX dX6_init_1032 (by decide) kk) rfl ?_
  obtain ⟨g24, h⟩ := gz_gu h
  obtain ⟨g25, h⟩ := gz_gu h
  obtain ⟨m26, em26, h⟩ := gz_lt h
  refine gz_Vs (fun _ kk => gz_cast2 (pc := 1034) (c := (gZ m21)) (n := gN m23 (gZ m21)) hX rfl (fun _ => ⟨g24.1, rfl⟩) g24.2 g25 dX6_init_1034 em26 kk) (by rw [em26]; rfl) ?_
  refine gz_Vs (fun _ kk => gz_dup (pc := 1035) hX dX6_init_1035 rfl kk) rfl ?_
  refine gz_Vs (fun _ kk => gz_iconst (pc := 1036) (v := (1 : Int32)) hX dX6_init_1036 (by decide) kk) rfl ?_
  refine gz_Vs (fun _ kk => gz_bipush (pc := 1037) (v := (111 : Int32)) hX dX6_init_1037 (by decide) kk) rfl ?_
  obtain ⟨g27, h⟩ := gz_gu h
  obtain ⟨g28, h⟩ := gz_gu h
  obtain ⟨m29, em29, h⟩ := gz_lt h
  refine gz_Vs (fun _ kk => gz_cast2 (pc := 1039) (c := (gZ m21)) (n := gN m26 (gZ m21)) hX rfl (fun _ => ⟨g27.1, rfl⟩) g27.2 g28 dX6_init_1039 em29 kk) (by rw [em29]; rfl) ?_
  refine gz_Vs (fun _ kk => gz_dup (pc := 1040) hX dX6_init_1040 rfl kk) rfl ?_
  refine gz_Vs (fun _ kk => gz_iconst (pc := 1041) (v := (2 : Int32)) hX dX6_init_1041 (by decide) kk) rfl ?_
  refine gz_Vs (fun _ kk => gz_bipush (pc := 1042) (v := (116 : Int32)) hX dX6_init_1042 (by decide) kk) rfl ?_
  obtain ⟨g30, h⟩ := gz_gu h
  obtain ⟨g31, h⟩ := gz_gu h
  obtain ⟨m32, em32, h⟩ := gz_lt h
  refine gz_Vs (fun _ kk => gz_cast2 (pc := 1044) (c := (gZ m21)) (n := gN m29 (gZ m21)) hX rfl (fun _ => ⟨g30.1, rfl⟩) g30.2 g31 dX6_init_1044 em32 kk) (by rw [em32]; rfl) ?_
  refine gz_Vs (fun _ kk => gz_dup (pc := 1045) hX dX6_init_1045 rfl kk) rfl ?_
  refine gz_Vs (fun _ kk => gz_iconst (pc := 1046) (v := (3 : Int32)) hX dX6_init_1046 (by decide) kk) rfl ?_
  refine gz_Vs (fun _ kk => gz_bipush (pc := 1047) (v := (97 : Int32)) hX dX6_init_1047 (by decide) kk) rfl ?_
  obtain ⟨g33, h⟩ := gz_gu h
  obtain ⟨g34, h⟩ := gz_gu h
  obtain ⟨m35, em35, h⟩ := gz_lt h
  refine gz_Vs (fun _ kk => gz_cast2 (pc := 1049) (c := (gZ m21)) (n := gN m32 (gZ m21)) hX rfl (fun _ => ⟨g33.1, rfl⟩) g33.2 g34 dX6_init_1049 em35 kk) (by rw [em35]; rfl) ?_
  refine gz_Vs (fun _ kk => gz_dup (pc := 1050) hX dX6_init_1050 rfl kk) rfl ?_
  refine gz_Vs (fun _ kk => gz_iconst (pc := 1051) (v := (4 : Int32)) hX dX6_init_1051 (by decide) kk) rfl ?_
  refine gz_Vs (fun _ kk => gz_bipush (pc := 1052) (v := (108 : Int32)) hX dX6_init_1052 (by decide) kk) rfl ?_
  obtain ⟨g36, h⟩ := gz_gu h
  obtain ⟨g37, h⟩ := gz_gu h
  obtain ⟨m38, em38, h⟩ := gz_lt h
  refine gz_Vs (fun _ kk => gz_cast2 (pc := 1054) (c := (gZ m21)) (n := gN m35 (gZ m21)) hX rfl (fun _ => ⟨g36.1, rfl⟩) g36.2 g37 dX6_init_1054 em38 kk) (by rw [em38]; rfl) ?_
  obtain ⟨g39, h⟩ := gz_gu h
  obtain ⟨g40, h⟩ := gz_gu h
  obtain ⟨g41, h⟩ := gz_gu h
  obtain ⟨m42, em42, h⟩ := gz_lt h
  refine gz_Vs (fun _ kk => Rcp_X6_180_0 (pc := 1055) hX hn0 (c := c0) (fun _ => g39) g40 g41 dX6_init_1055 em42 kk) (by rw [em42]; rfl) ?_
  exact Rwb_X6_init_1058 hX hn0 h hk
noncomputable def Rmj_X6_init_930 (c0 : Nat) (m : gM) : Option (Unit × gM) :=
  (if gK m c0 = 1 then (if 1000 ≤ c0 then gz_let (gz_sL m c0 70 (1 : Int64)) fun m3 => (if 0 ≤ (5 : Int32) ∧ gz_ix (5 : Int32) * 2 ≤ 536870912 ∧ gZ m3 ≠ 0 then gz_let (gz_al m3 (2 + 101) (gz_ix (5 : Int32)) (gz_ix (5 : Int32))) fun m5 => (if gK m5 (gZ m3) = 103 ∧ 1000 ≤ (gZ m3) then (if gz_in (0 : Int32) (gN m5 (gZ m3)) then gz_let (gz_sI m5 (gZ m3) (gz_ix (0 : Int32)) ((102 : Int32).toUInt32.toUInt16.toUInt32.toInt32)) fun m8 => (if gK m8 (gZ m3) = 103 ∧ 1000 ≤ (gZ m3) then (if gz_in (1 : Int32) (gN m8 (gZ m3)) then gz_let (gz_sI m8 (gZ m3) (gz_ix (1 : Int32)) ((105 : Int32).toUInt32.toUInt16.toUInt32.toInt32)) fun m11 => (if gK m11 (gZ m3) = 103 ∧ 1000 ≤ (gZ m3) then (if gz_in (2 : Int32) (gN m11 (gZ m3)) then gz_let (gz_sI m11 (gZ m3) (gz_ix (2 : Int32)) ((114 : Int32).toUInt32.toUInt16.toUInt32.toInt32)) fun m14 => (if gK m14 (gZ m3) = 103 ∧ 1000 ≤ (gZ m3) then (if gz_in (3 : Int32) (gN m14 (gZ m3)) then gz_let (gz_sI m14 (gZ m3) (gz_ix (3 : Int32)) ((115 : Int32).toUInt32.toUInt16.toUInt32.toInt32)) fun m17 => (if gK m17 (gZ m3) = 103 ∧ 1000 ≤ (gZ m3) then (if gz_in (4 : Int32) (gN m17 (gZ m3)) then gz_let (gz_sI m17 (gZ m3) (gz_ix (4 : Int32)) ((116 : Int32).toUInt32.toUInt16.toUInt32.toInt32)) fun m20 => (if gK m20 c0 = 1 then (if 1000 ≤ c0 then (if (gZ m3) ≠ 0 then gz_let (gz_sP m20 c0 71 (gZ m3)) fun m24 => (if 0 ≤ (4 : Int32) ∧ gz_ix (4 : Int32) * 2 ≤ 536870912 ∧ gZ m24 ≠ 0 then gz_let (gz_al m24 (2 + 101) (gz_ix (4 : Int32)) (gz_ix (4 : Int32))) fun m26 => (if gK m26 (gZ m24) = 103 ∧ 1000 ≤ (gZ m24) then (if gz_in (0 : Int32) (gN m26 (gZ m24)) then gz_let (gz_sI m26 (gZ m24) (gz_ix (0 : Int32)) ((108 : Int32).toUInt32.toUInt16.toUInt32.toInt32)) fun m29 => (if gK m29 (gZ m24) = 103 ∧ 1000 ≤ (gZ m24) then (if gz_in (1 : Int32) (gN m29 (gZ m24)) then gz_let (gz_sI m29 (gZ m24) (gz_ix (1 : Int32)) ((97 : Int32).toUInt32.toUInt16.toUInt32.toInt32)) fun m32 => (if gK m32 (gZ m24) = 103 ∧ 1000 ≤ (gZ m24) then (if gz_in (2 : Int32) (gN m32 (gZ m24)) then gz_let (gz_sI m32 (gZ m24) (gz_ix (2 : Int32)) ((115 : Int32).toUInt32.toUInt16.toUInt32.toInt32)) fun m35 => (if gK m35 (gZ m24) = 103 ∧ 1000 ≤ (gZ m24) then (if gz_in (3 : Int32) (gN m35 (gZ m24)) then gz_let (gz_sI m35 (gZ m24) (gz_ix (3 : Int32)) ((116 : Int32).toUInt32.toUInt16.toUInt32.toInt32)) fun m38 => (if gK m38 c0 = 1 then (if 1000 ≤ c0 then (if (gZ m24) ≠ 0 then gz_let (gz_sP m38 c0 72 (gZ m24)) fun m42 => (Rmj_X6_init_994 c0 m42) else none) else none) else none) else none) else none) else none) else none) else none) else none) else none) else none) else none) else none) else none) else none) else none) else none) else none) else none) else none) else none) else none) else none) else none) else none) else none) else none) else none)
theorem Rwb_X6_init_930 {X : gz_X} {G : gz_G} {zE : Nat × Nat} (hX : gz_C mR X G cX6_init 1 RX6 1 20) (hn0 : X.2.2.2.2.2.2.2.2.1.name = "<init>") {c0 : Nat}  {m : gM} {z : (Unit × gM)} (h : Rmj_X6_init_930 c0 m = some z) (hk : (fun z : (Unit × gM) => gz_kVa mR X G 1 zE cX6_init z.2) z) : gz_Va mR X G 1 zE m 930 [(0, .ref (gz_ad G c0))] [] := by
  unfold Rmj_X6_init_930 at h
  refine gz_Vs (fun _ kk => gz_aload_n (pc := 930) hX dX6_init_930 rfl 0 rfl kk) rfl ?_
  refine gz_Vs (fun _ kk => gz_lconst (pc := 931) (v := (1 : Int64)) hX dX6_init_931 (by decide) kk) rfl ?_
  obtain ⟨g1, h⟩ := gz_gu h
  obtain ⟨g2, h⟩ := gz_gu h
  obtain ⟨m3, em3, h⟩ := gz_lt h
  refine gz_Vs (fun _ kk => Rcp_X6_167_0 (pc := 932) hX (c := c0) (fun _ => g1) g2 dX6_init_932 em3 kk) (by rw [em3]; rfl) ?_
  refine gz_Vs (fun _ kk => gz_aload_n (pc := 935) hX dX6_init_935 rfl 0 rfl kk) rfl ?_
  refine gz_Vs (fun _ kk => gz_iconst (pc := 936) (v := (5 : Int32)) hX dX6_init_936 (by decide) kk) rfl ?_
  obtain ⟨g4, h⟩ := gz_gu h
  obtain ⟨m5, em5, h⟩ := gz_lt h
  refine gz_Vn (fun _ kk => gz_newa (pc := 937) (t := 2) (N := gz_ix (5 : Int32)) hX rfl rfl q726 rfl ⟨⟨g4.1, Nat.lt_succ_self _⟩, rfl⟩ g4.2.1 g4.2.2 (fun _ _ => trivial) dX6_init_937 em5 kk) em5 ?_
  refine gz_Vs (fun _ kk => gz_dup (pc := 939) hX dX6_init_939 rfl kk) rfl ?_
  refine gz_Vs (fun _ kk => gz_iconst (pc := 940) (v := (0 : Int32)) hX dX6_init_940 (by decide) kk) rfl ?_
  refine gz_Vs (fun _ kk => gz_bipush (pc := 941) (v := (102 : Int32)) hX dX6_init_941 (by decide) kk) rfl ?_
  obtain ⟨g6, h⟩ := gz_gu h
  obtain ⟨g7, h⟩ := gz_gu h
  obtain ⟨m8, em8, h⟩ := gz_lt h
  refine gz_Vs (fun _ kk => gz_cast2 (pc := 943) (c := (gZ m3)) (n := gN m5 (gZ m3)) hX rfl (fun _ => ⟨g6.1, rfl⟩) g6.2 g7 dX6_init_943 em8 kk) (by rw [em8]; rfl) ?_
  refine gz_Vs (fun _ kk => gz_dup (pc := 944) hX dX6_init_944 rfl kk) rfl ?_
  refine gz_Vs (fun _ kk => gz_iconst (pc := 945) (v := (1 : Int32)) hX dX6_init_945 (by decide) kk) rfl ?_
  refine gz_Vs (fun _ kk => gz_bipush (pc := 946) (v := (105 : Int32)) hX dX6_init_946 (by decide) kk) rfl ?_
  obtain ⟨g9, h⟩ := gz_gu h
  obtain ⟨g10, h⟩ := gz_gu h
  obtain ⟨m11, em11, h⟩ := gz_lt h
  refine gz_Vs (fun _ kk => gz_cast2 (pc := 948) (c := (gZ m3)) (n := gN m8 (gZ m3)) hX rfl (fun _ => ⟨g9.1, rfl⟩) g9.2 g10 dX6_init_948 em11 kk) (by rw [em11]; rfl) ?_
  refine gz_Vs (fun _ kk => gz_dup (pc := 949) hX dX6_init_949 rfl kk) rfl ?_
  refine gz_Vs (fun _ kk => gz_iconst (pc := 950) (v := (2 : Int32)) hX dX6_init_950 (by decide) kk) rfl ?_
  refine gz_Vs (fun _ kk => gz_bipush (pc := 951) (v := (114 : Int32)) hX dX6_init_951 (by decide) kk) rfl ?_
  obtain ⟨g12, h⟩ := gz_gu h
  obtain ⟨g13, h⟩ := gz_gu h
  obtain ⟨m14, em14, h⟩ := gz_lt h
  refine gz_Vs (fun _ kk => gz_cast2 (pc := 953) (c := (gZ m3)) (n := gN m11 (gZ m3)) hX rfl (fun _ => ⟨g12.1, rfl⟩) g12.2 g13 dX6_init_953 em14 kk) (by rw [em14]; rfl) ?_
  refine gz_Vs (fun _ kk => gz_dup (pc := 954) hX dX6_init_954 rfl kk) rfl ?_
  refine gz_Vs (fun _ kk => gz_iconst (pc := 955) (v := (3 : Int32)) hX dX6_init_955 (by decide) kk) rfl ?_
  refine gz_Vs (fun _ kk => gz_bipush (pc := 956) (v := (115 : Int32)) hX dX6_init_956 (by decide) kk) rfl ?_
  obtain ⟨g15, h⟩ := gz_gu h
  obtain ⟨g16, h⟩ := gz_gu h
  obtain ⟨m17, em17, h⟩ := gz_lt h
  refine gz_Vs (fun _ kk => gz_cast2 (pc := 958) (c := (gZ m3)) (n := gN m14 (gZ m3)) hX rfl (fun _ => ⟨g15.1, rfl⟩) g15.2 g16 dX6_init_958 em17 kk) (by rw [em17]; rfl) ?_
  refine gz_Vs (fun _ kk => gz_dup (pc := 959) hX dX6_init_959 rfl kk) rfl ?_
  refine gz_Vs (fun _ kk => gz_iconst (pc := 960) (v := (4 : Int32)) hX dX6_init_960 (by decide) kk) rfl ?_
  refine gz_Vs (fun _ kk => gz_bipush (pc := 961) (v := (116 : Int32)) hX dX6_init_961 (by decide) kk) rfl ?_
  obtain ⟨g18, h⟩ := gz_gu h
  obtain ⟨g19, h⟩ := gz_gu h
  obtain ⟨m20, em20, h⟩ := gz_lt h
  refine gz_Vs (fun _ kk => gz_cast2 (pc := 963) (c := (gZ m3)) (n := gN m17 (gZ m3)) hX rfl (fun _ => ⟨g18.1, rfl⟩) g18.2 g19 dX6_init_963 em20 kk) (by rw [em20]; rfl) ?_
  obtain ⟨g21, h⟩ := gz_gu h
  obtain ⟨g22, h⟩ := gz_gu h
  obtain ⟨g23, h⟩ := gz_gu h
  obtain ⟨m24, em24, h⟩ := gz_lt h
  refine gz_Vs (fun _ kk => Rcp_X6_171_0 (pc := 964) hX hn0 (c := c0) (fun _ => g21) g22 g23 dX6_init_964 em24 kk) (by rw [em24]; rfl) ?_
  refine gz_Vs (fun _ kk => gz_aload_n (pc := 967) hX dX6_init_967 rfl 0 rfl kk) rfl ?_
  refine gz_Vs (fun _ kk => gz_iconst (pc := 968) (v := (4 : Int32)) hX dX6_init_968 (by decide) kk) rfl ?_
  obtain ⟨g25, h⟩ := gz_gu h
  obtain ⟨m26, em26, h⟩ := gz_lt h
  refine gz_Vn (fun _ kk => gz_newa (pc := 969) (t := 2) (N := gz_ix (4 : Int32)) hX rfl rfl q726 rfl ⟨⟨g25.1, Nat.lt_succ_self _⟩, rfl⟩ g25.2.1 g25.2.2 (fun _ _ => trivial) dX6_init_969 em26 kk) em26 ?_
  refine gz_Vs (fun _ kk => gz_dup (pc := 971) hX dX6_init_971 rfl kk) rfl ?_
  refine gz_Vs (fun _ kk => gz_iconst (pc := 972) (v := (0 : Int32)) hX dX6_init_972 (by decide) kk) rfl ?_
  refine gz_Vs (fun _ kk => gz_bipush (pc := 973) (v := (108 : Int32)) hX dX6_init_973 (by decide) kk) rfl ?_
  obtain ⟨g27, h⟩ := gz_gu h
  obtain ⟨g28, h⟩ := gz_gu h
  obtain ⟨m29, em29, h⟩ := gz_lt h
  refine gz_Vs (fun _ kk => gz_cast2 (pc := 975) (c := (gZ m24)) (n := gN m26 (gZ m24)) hX rfl (fun _ => ⟨g27.1, rfl⟩) g27.2 g28 dX6_init_975 em29 kk) (by rw [em29]; rfl) ?_
  refine gz_Vs (fun _ kk => gz_dup (pc := 976) hX dX6_init_976 rfl kk) rfl ?_
  refine gz_Vs (fun _ kk => gz_iconst (pc := 977) (v := (1 : Int32)) hX dX6_init_977 (by decide) kk) rfl ?_
  refine gz_Vs (fun _ kk => gz_bipush (pc := 978) (v := (97 : Int32)) hX dX6_init_978 (by decide) kk) rfl ?_
  obtain ⟨g30, h⟩ := gz_gu h
  obtain ⟨g31, h⟩ := gz_gu h
  obtain ⟨m32, em32, h⟩ := gz_lt h
  refine gz_Vs (fun _ kk => gz_cast2 (pc := 980) (c := (gZ m24)) (n := gN m29 (gZ m24)) hX rfl (fun _ => ⟨g30.1, rfl⟩) g30.2 g31 dX6_init_980 em32 kk) (by rw [em32]; rfl) ?_
  refine gz_Vs (fun _ kk => gz_dup (pc := 981) hX dX6_init_981 rfl kk) rfl ?_
  refine gz_Vs (fun _ kk => gz_iconst (pc := 982) (v := (2 : Int32)) hX dX6_init_982 (by decide) kk) rfl ?_
  refine gz_Vs (fun _ kk => gz_bipush (pc := 983) (v := (115 : Int32)) hX dX6_init_983 (by decide) kk) rfl ?_
  obtain ⟨g33, h⟩ := gz_gu h
  obtain ⟨g34, h⟩ := gz_gu h
  obtain ⟨m35, em35, h⟩ := gz_lt h
  refine gz_Vs (fun _ kk => gz_cast2 (pc := 985) (c := (gZ m24)) (n := gN m32 (gZ m24)) hX rfl (fun _ => ⟨g33.1, rfl⟩) g33.2 g34 dX6_init_985 em35 kk) (by rw [em35]; rfl) ?_
  refine gz_Vs (fun _ kk => gz_dup (pc := 986) hX dX6_init_986 rfl kk) rfl ?_
  refine gz_Vs (fun _ kk => gz_iconst (pc := 987) (v := (3 : Int32)) hX dX6_init_987 (by decide) kk) rfl ?_
  refine gz_Vs (fun _ kk => gz_bipush (pc := 988) (v := (116 : Int32)) hX dX6_init_988 (by decide) kk) rfl ?_
  obtain ⟨g36, h⟩ := gz_gu h
  obtain ⟨g37, h⟩ := gz_gu h
  obtain ⟨m38, em38, h⟩ := gz_lt h
  refine gz_Vs (fun _ kk => gz_cast2 (pc := 990) (c := (gZ m24)) (n := gN m35 (gZ m24)) hX rfl (fun _ => ⟨g36.1, rfl⟩) g36.2 g37 dX6_init_990 em38 kk) (by rw [em38]; rfl) ?_
  obtain ⟨g39, h⟩ := gz_gu h
  obtain ⟨g40, h⟩ := gz_gu h
  obtain ⟨g41, h⟩ := gz_gu h
  obtain ⟨m42, em42, h⟩ := gz_lt h
  refine gz_Vs (fun _ kk => Rcp_X6_174_0 (pc := 991) hX hn0 (c := c0) (fun _ => g39) g40 g41 dX6_init_991 em42 kk) (by rw [em42]; rfl) ?_
  exact Rwb_X6_init_994 hX hn0 h hk
noncomputable def Rmj_X6_init_845 (c0 : Nat) (m : gM) : Option (Unit × gM) :=
  (if gK m c0 = 1 then (if 1000 ≤ c0 then gz_let (gz_sI m c0 52 (-1 : Int32)) fun m3 => (if 0 ≤ (8 : Int32) ∧ gz_ix (8 : Int32) * 4 ≤ 536870912 ∧ gZ m3 ≠ 0 then gz_let (gz_al m3 (0 + 101) (gz_ix (8 : Int32)) (gz_ix (8 : Int32))) fun m5 => (if gK m5 c0 = 1 then (if 1000 ≤ c0 then (if (gZ m3) ≠ 0 then gz_let (gz_sP m5 c0 54 (gZ m3)) fun m9 => (if 0 ≤ (8 : Int32) ∧ gz_ix (8 : Int32) * 4 ≤ 536870912 ∧ gZ m9 ≠ 0 then gz_let (gz_al m9 (0 + 101) (gz_ix (8 : Int32)) (gz_ix (8 : Int32))) fun m11 => (if gK m11 c0 = 1 then (if 1000 ≤ c0 then (if (gZ m9) ≠ 0 then gz_let (gz_sP m11 c0 58 (gZ m9)) fun m15 => (if 0 ≤ (4 : Int32) ∧ gz_ix (4 : Int32) * 4 ≤ 536870912 ∧ gZ m15 ≠ 0 then gz_let (gz_al m15 (0 + 101) (gz_ix (4 : Int32)) (gz_ix (4 : Int32))) fun m17 => (if gK m17 c0 = 1 then (if 1000 ≤ c0 then (if (gZ m15) ≠ 0 then gz_let (gz_sP m17 c0 59 (gZ m15)) fun m21 => (if 0 ≤ (4 : Int32) ∧ gz_ix (4 : Int32) * 4 ≤ 536870912 ∧ gZ m21 ≠ 0 then gz_let (gz_al m21 (0 + 101) (gz_ix (4 : Int32)) (gz_ix (4 : Int32))) fun m23 => (if gK m23 c0 = 1 then (if 1000 ≤ c0 then (if (gZ m21) ≠ 0 then gz_let (gz_sP m23 c0 60 (gZ m21)) fun m27 => (if 0 ≤ (12 : Int32) ∧ gz_ix (12 : Int32) * 1 ≤ 536870912 ∧ gZ m27 ≠ 0 then gz_let (gz_al m27 (3 + 101) (gz_ix (12 : Int32)) (gz_ix (12 : Int32))) fun m29 => (if gK m29 c0 = 1 then (if 1000 ≤ c0 then (if (gZ m27) ≠ 0 then gz_let (gz_sP m29 c0 61 (gZ m27)) fun m33 => (if 0 ≤ (8 : Int32) ∧ gz_ix (8 : Int32) * 4 ≤ 536870912 ∧ gZ m33 ≠ 0 then gz_let (gz_al m33 (0 + 101) (gz_ix (8 : Int32)) (gz_ix (8 : Int32))) fun m35 => (if gK m35 c0 = 1 then (if 1000 ≤ c0 then (if (gZ m33) ≠ 0 then gz_let (gz_sP m35 c0 62 (gZ m33)) fun m39 => (if 0 ≤ (8 : Int32) ∧ gz_ix (8 : Int32) * 4 ≤ 536870912 ∧ gZ m39 ≠ 0 then gz_let (gz_al m39 (0 + 101) (gz_ix (8 : Int32)) (gz_ix (8 : Int32))) fun m41 => (if gK m41 c0 = 1 then (if 1000 ≤ c0 then (if (gZ m39) ≠ 0 then gz_let (gz_sP m41 c0 63 (gZ m39)) fun m45 => (if 0 ≤ (48 : Int32) ∧ gz_ix (48 : Int32) * 4 ≤ 536870912 ∧ gZ m45 ≠ 0 then gz_let (gz_al m45 (0 + 101) (gz_ix (48 : Int32)) (gz_ix (48 : Int32))) fun m47 => (if gK m47 c0 = 1 then (if 1000 ≤ c0 then (if (gZ m45) ≠ 0 then gz_let (gz_sP m47 c0 65 (gZ m45)) fun m51 => (if 0 ≤ (2480 : Int32) ∧ gz_ix (2480 : Int32) * 4 ≤ 536870912 ∧ gZ m51 ≠ 0 then gz_let (gz_al m51 (0 + 101) (gz_ix (2480 : Int32)) (gz_ix (2480 : Int32))) fun m53 => (if gK m53 c0 = 1 then (if 1000 ≤ c0 then (if (gZ m51) ≠ 0 then gz_let (gz_sP m53 c0 66 (gZ m51)) fun m57 => (if 0 ≤ (3020 : Int32) ∧ gz_ix (3020 : Int32) * 4 ≤ 536870912 ∧ gZ m57 ≠ 0 then gz_let (gz_al m57 (0 + 101) (gz_ix (3020 : Int32)) (gz_ix (3020 : Int32))) fun m59 => (if gK m59 c0 = 1 then (if 1000 ≤ c0 then (if (gZ m57) ≠ 0 then gz_let (gz_sP m59 c0 67 (gZ m57)) fun m63 => (Rmj_X6_init_930 c0 m63) else none) else none) else none) else none) else none) else none) else none) else none) else none) else none) else none) else none) else none) else none) else none) else none) else none) else none) else none) else none) else none) else none) else none) else none) else none) else none) else none) else none) else none) else none) else none) else none) else none) else none) else none) else none) else none) else none) else none) else none) else none) else none)
theorem Rwb_X6_init_845 {X : gz_X} {G : gz_G} {zE : Nat × Nat} (hX : gz_C mR X G cX6_init 1 RX6 1 20) (hn0 : X.2.2.2.2.2.2.2.2.1.name = "<init>") {c0 : Nat}  {m : gM} {z : (Unit × gM)} (h : Rmj_X6_init_845 c0 m = some z) (hk : (fun z : (Unit × gM) => gz_kVa mR X G 1 zE cX6_init z.2) z) : gz_Va mR X G 1 zE m 845 [(0, .ref (gz_ad G c0))] [] := by
  unfold Rmj_X6_init_845 at h
  refine gz_Vs (fun _ kk => gz_aload_n (pc := 845) hX dX6_init_845 rfl 0 rfl kk) rfl ?_
  refine gz_Vs (fun _ kk => gz_iconst (pc := 846) (v := (-1 : Int32)) hX dX6_init_846 (by decide) kk) rfl ?_
  obtain ⟨g1, h⟩ := gz_gu h
  obtain ⟨g2, h⟩ := gz_gu h
  obtain ⟨m3, em3, h⟩ := gz_lt h
  refine gz_Vs (fun _ kk => Rcp_X6_133_0 (pc := 847) hX (c := c0) (fun _ => g1) g2 dX6_init_847 em3 kk) (by rw [em3]; rfl) ?_
  refine gz_Vs (fun _ kk => gz_aload_n (pc := 850) hX dX6_init_850 rfl 0 rfl kk) rfl ?_
  refine gz_Vs (fun _ kk => gz_bipush (pc := 851) (v := (8 : Int32)) hX dX6_init_851 (by decide) kk) rfl ?_
  obtain ⟨g4, h⟩ := gz_gu h
  obtain ⟨m5, em5, h⟩ := gz_lt h
  refine gz_Vn (fun _ kk => gz_newa (pc := 853) (t := 0) (N := gz_ix (8 : Int32)) hX rfl rfl q457 rfl ⟨⟨g4.1, Nat.lt_succ_self _⟩, rfl⟩ g4.2.1 g4.2.2 (fun _ _ => trivial) dX6_init_853 em5 kk) em5 ?_
  obtain ⟨g6, h⟩ := gz_gu h
  obtain ⟨g7, h⟩ := gz_gu h
  obtain ⟨g8, h⟩ := gz_gu h
  obtain ⟨m9, em9, h⟩ := gz_lt h
  refine gz_Vs (fun _ kk => Rcp_X6_136_0 (pc := 855) hX hn0 (c := c0) (fun _ => g6) g7 g8 dX6_init_855 em9 kk) (by rw [em9]; rfl) ?_
  refine gz_Vs (fun _ kk => gz_aload_n (pc := 858) hX dX6_init_858 rfl 0 rfl kk) rfl ?_
  refine gz_Vs (fun _ kk => gz_bipush (pc := 859) (v := (8 : Int32)) hX dX6_init_859 (by decide) kk) rfl ?_
  obtain ⟨g10, h⟩ := gz_gu h
  obtain ⟨m11, em11, h⟩ := gz_lt h
  refine gz_Vn (fun _ kk => gz_newa (pc := 861) (t := 0) (N := gz_ix (8 : Int32)) hX rfl rfl q457 rfl ⟨⟨g10.1, Nat.lt_succ_self _⟩, rfl⟩ g10.2.1 g10.2.2 (fun _ _ => trivial) dX6_init_861 em11 kk) em11 ?_
  obtain ⟨g12, h⟩ := gz_gu h
  obtain ⟨g13, h⟩ := gz_gu h
  obtain ⟨g14, h⟩ := gz_gu h
  obtain ⟨m15, em15, h⟩ := gz_lt h
  refine gz_Vs (fun _ kk => Rcp_X6_139_0 (pc := 863) hX hn0 (c := c0) (fun _ => g12) g13 g14 dX6_init_863 em15 kk) (by rw [em15]; rfl) ?_
  refine gz_Vs (fun _ kk => gz_aload_n (pc := 866) hX dX6_init_866 rfl 0 rfl kk) rfl ?_
  refine gz_Vs (fun _ kk => gz_iconst (pc := 867) (v := (4 : Int32)) hX dX6_init_867 (by decide) kk) rfl ?_
  obtain ⟨g16, h⟩ := gz_gu h
  obtain ⟨m17, em17, h⟩ := gz_lt h
  refine gz_Vn (fun _ kk => gz_newa (pc := 868) (t := 0) (N := gz_ix (4 : Int32)) hX rfl rfl q457 rfl ⟨⟨g16.1, Nat.lt_succ_self _⟩, rfl⟩ g16.2.1 g16.2.2 (fun _ _ => trivial) dX6_init_868 em17 kk) em17 ?_
  obtain ⟨g18, h⟩ := gz_gu h
  obtain ⟨g19, h⟩ := gz_gu h
  obtain ⟨g20, h⟩ := gz_gu h
  obtain ⟨m21, em21, h⟩ := gz_lt h
  refine gz_Vs (fun _ kk => Rcp_X6_142_0 (pc := 870) hX hn0 (c := c0) (fun _ => g18) g19 g20 dX6_init_870 em21 kk) (by rw [em21]; rfl) ?_
  refine gz_Vs (fun _ kk => gz_aload_n (pc := 873) hX dX6_init_873 rfl 0 rfl kk) rfl ?_
  refine gz_Vs (fun _ kk => gz_iconst (pc := 874) (v := (4 : Int32)) hX dX6_init_874 (by decide) kk) rfl ?_
  obtain ⟨g22, h⟩ := gz_gu h
  obtain ⟨m23, em23, h⟩ := gz_lt h
  refine gz_Vn (fun _ kk => gz_newa (pc := 875) (t := 0) (N := gz_ix (4 : Int32)) hX rfl rfl q457 rfl ⟨⟨g22.1, Nat.lt_succ_self _⟩, rfl⟩ g22.2.1 g22.2.2 (fun _ _ => trivial) dX6_init_875 em23 kk) em23 ?_
  obtain ⟨g24, h⟩ := gz_gu h
  obtain ⟨g25, h⟩ := gz_gu h
  obtain ⟨g26, h⟩ := gz_gu h
  obtain ⟨m27, em27, h⟩ := gz_lt h
  refine gz_Vs (fun _ kk => Rcp_X6_145_0 (pc := 877) hX hn0 (c := c0) (fun _ => g24) g25 g26 dX6_init_877 em27 kk) (by rw [em27]; rfl) ?_
  refine gz_Vs (fun _ kk => gz_aload_n (pc := 880) hX dX6_init_880 rfl 0 rfl kk) rfl ?_
  refine gz_Vs (fun _ kk => gz_bipush (pc := 881) (v := (12 : Int32)) hX dX6_init_881 (by decide) kk) rfl ?_
  obtain ⟨g28, h⟩ := gz_gu h
  obtain ⟨m29, em29, h⟩ := gz_lt h
  refine gz_Vn (fun _ kk => gz_newa (pc := 883) (t := 3) (N := gz_ix (12 : Int32)) hX rfl rfl q587 rfl ⟨⟨g28.1, Nat.lt_succ_self _⟩, rfl⟩ g28.2.1 g28.2.2 (fun _ _ => trivial) dX6_init_883 em29 kk) em29 ?_
  obtain ⟨g30, h⟩ := gz_gu h
  obtain ⟨g31, h⟩ := gz_gu h
  obtain ⟨g32, h⟩ := gz_gu h
  obtain ⟨m33, em33, h⟩ := gz_lt h
  refine gz_Vs (fun _ kk => Rcp_X6_148_0 (pc := 885) hX hn0 (c := c0) (fun _ => g30) g31 g32 dX6_init_885 em33 kk) (by rw [em33]; rfl) ?_
  refine gz_Vs (fun _ kk => gz_aload_n (pc := 888) hX dX6_init_888 rfl 0 rfl kk) rfl ?_
  refine gz_Vs (fun _ kk => gz_bipush (pc := 889) (v := (8 : Int32)) hX dX6_init_889 (by decide) kk) rfl ?_
  obtain ⟨g34, h⟩ := gz_gu h
  obtain ⟨m35, em35, h⟩ := gz_lt h
  refine gz_Vn (fun _ kk => gz_newa (pc := 891) (t := 0) (N := gz_ix (8 : Int32)) hX rfl rfl q457 rfl ⟨⟨g34.1, Nat.lt_succ_self _⟩, rfl⟩ g34.2.1 g34.2.2 (fun _ _ => trivial) dX6_init_891 em35 kk) em35 ?_
  obtain ⟨g36, h⟩ := gz_gu h
  obtain ⟨g37, h⟩ := gz_gu h
  obtain ⟨g38, h⟩ := gz_gu h
  obtain ⟨m39, em39, h⟩ := gz_lt h
  refine gz_Vs (fun _ kk => Rcp_X6_152_0 (pc := 893) hX hn0 (c := c0) (fun _ => g36) g37 g38 dX6_init_893 em39 kk) (by rw [em39]; rfl) ?_
  refine gz_Vs (fun _ kk => gz_aload_n (pc := 896) hX dX6_init_896 rfl 0 rfl kk) rfl ?_
  refine gz_Vs (fun _ kk => gz_bipush (pc := 897) (v := (8 : Int32)) hX dX6_init_897 (by decide) kk) rfl ?_
  obtain ⟨g40, h⟩ := gz_gu h
  obtain ⟨m41, em41, h⟩ := gz_lt h
  refine gz_Vn (fun _ kk => gz_newa (pc := 899) (t := 0) (N := gz_ix (8 : Int32)) hX rfl rfl q457 rfl ⟨⟨g40.1, Nat.lt_succ_self _⟩, rfl⟩ g40.2.1 g40.2.2 (fun _ _ => trivial) dX6_init_899 em41 kk) em41 ?_
  obtain ⟨g42, h⟩ := gz_gu h
  obtain ⟨g43, h⟩ := gz_gu h
  obtain ⟨g44, h⟩ := gz_gu h
  obtain ⟨m45, em45, h⟩ := gz_lt h
  refine gz_Vs (fun _ kk => Rcp_X6_155_0 (pc := 901) hX hn0 (c := c0) (fun _ => g42) g43 g44 dX6_init_901 em45 kk) (by rw [em45]; rfl) ?_
  refine gz_Vs (fun _ kk => gz_aload_n (pc := 904) hX dX6_init_904 rfl 0 rfl kk) rfl ?_
  refine gz_Vs (fun _ kk => gz_bipush (pc := 905) (v := (48 : Int32)) hX dX6_init_905 (by decide) kk) rfl ?_
  obtain ⟨g46, h⟩ := gz_gu h
  obtain ⟨m47, em47, h⟩ := gz_lt h
  refine gz_Vn (fun _ kk => gz_newa (pc := 907) (t := 0) (N := gz_ix (48 : Int32)) hX rfl rfl q457 rfl ⟨⟨g46.1, Nat.lt_succ_self _⟩, rfl⟩ g46.2.1 g46.2.2 (fun _ _ => trivial) dX6_init_907 em47 kk) em47 ?_
  obtain ⟨g48, h⟩ := gz_gu h
  obtain ⟨g49, h⟩ := gz_gu h
  obtain ⟨g50, h⟩ := gz_gu h
  obtain ⟨m51, em51, h⟩ := gz_lt h
  refine gz_Vs (fun _ kk => Rcp_X6_158_0 (pc := 909) hX hn0 (c := c0) (fun _ => g48) g49 g50 dX6_init_909 em51 kk) (by rw [em51]; rfl) ?_
  refine gz_Vs (fun _ kk => gz_aload_n (pc := 912) hX dX6_init_912 rfl 0 rfl kk) rfl ?_
  refine gz_Vs (fun _ kk => gz_sipush (pc := 913) (v := (2480 : Int32)) hX dX6_init_913 (by decide) kk) rfl ?_
  obtain ⟨g52, h⟩ := gz_gu h
  obtain ⟨m53, em53, h⟩ := gz_lt h
  refine gz_Vn (fun _ kk => gz_newa (pc := 916) (t := 0) (N := gz_ix (2480 : Int32)) hX rfl rfl q457 rfl ⟨⟨g52.1, Nat.lt_succ_self _⟩, rfl⟩ g52.2.1 g52.2.2 (fun _ _ => trivial) dX6_init_916 em53 kk) em53 ?_
  obtain ⟨g54, h⟩ := gz_gu h
  obtain ⟨g55, h⟩ := gz_gu h
  obtain ⟨g56, h⟩ := gz_gu h
  obtain ⟨m57, em57, h⟩ := gz_lt h
  refine gz_Vs (fun _ kk => Rcp_X6_161_0 (pc := 918) hX hn0 (c := c0) (fun _ => g54) g55 g56 dX6_init_918 em57 kk) (by rw [em57]; rfl) ?_
  refine gz_Vs (fun _ kk => gz_aload_n (pc := 921) hX dX6_init_921 rfl 0 rfl kk) rfl ?_
  refine gz_Vs (fun _ kk => gz_sipush (pc := 922) (v := (3020 : Int32)) hX dX6_init_922 (by decide) kk) rfl ?_
  obtain ⟨g58, h⟩ := gz_gu h
  obtain ⟨m59, em59, h⟩ := gz_lt h
  refine gz_Vn (fun _ kk => gz_newa (pc := 925) (t := 0) (N := gz_ix (3020 : Int32)) hX rfl rfl q457 rfl ⟨⟨g58.1, Nat.lt_succ_self _⟩, rfl⟩ g58.2.1 g58.2.2 (fun _ _ => trivial) dX6_init_925 em59 kk) em59 ?_
  obtain ⟨g60, h⟩ := gz_gu h
  obtain ⟨g61, h⟩ := gz_gu h
  obtain ⟨g62, h⟩ := gz_gu h
  obtain ⟨m63, em63, h⟩ := gz_lt h
  refine gz_Vs (fun _ kk => Rcp_X6_164_0 (pc := 927) hX hn0 (c := c0) (fun _ => g60) g61 g62 dX6_init_927 em63 kk) (by rw [em63]; rfl) ?_
  exact Rwb_X6_init_930 hX hn0 h hk
noncomputable def Rmj_X6_init_781 (c0 : Nat) (m : gM) : Option (Unit × gM) :=
  (if 0 ≤ (4 : Int32) ∧ gz_ix (4 : Int32) * 4 ≤ 536870912 ∧ gZ m ≠ 0 then gz_let (gz_al m (0 + 101) (gz_ix (4 : Int32)) (gz_ix (4 : Int32))) fun m2 => (if gK m2 (gZ m) = 101 ∧ 1000 ≤ (gZ m) then (if gz_in (0 : Int32) (gN m2 (gZ m)) then gz_let (gz_sI m2 (gZ m) (gz_ix (0 : Int32)) (-1 : Int32)) fun m5 => (if gK m5 (gZ m) = 101 ∧ 1000 ≤ (gZ m) then (if gz_in (1 : Int32) (gN m5 (gZ m)) then gz_let (gz_sI m5 (gZ m) (gz_ix (1 : Int32)) (-1 : Int32)) fun m8 => (if gK m8 (gZ m) = 101 ∧ 1000 ≤ (gZ m) then (if gz_in (2 : Int32) (gN m8 (gZ m)) then gz_let (gz_sI m8 (gZ m) (gz_ix (2 : Int32)) (-1 : Int32)) fun m11 => (if gK m11 (gZ m) = 101 ∧ 1000 ≤ (gZ m) then (if gz_in (3 : Int32) (gN m11 (gZ m)) then gz_let (gz_sI m11 (gZ m) (gz_ix (3 : Int32)) (-1 : Int32)) fun m14 => (if gK m14 c0 = 1 then (if 1000 ≤ c0 then (if (gZ m) ≠ 0 then gz_let (gz_sP m14 c0 43 (gZ m)) fun m18 => (if 0 ≤ (4 : Int32) ∧ gz_ix (4 : Int32) * 4 ≤ 536870912 ∧ gZ m18 ≠ 0 then gz_let (gz_al m18 (0 + 101) (gz_ix (4 : Int32)) (gz_ix (4 : Int32))) fun m20 => (if gK m20 c0 = 1 then (if 1000 ≤ c0 then (if (gZ m18) ≠ 0 then gz_let (gz_sP m20 c0 44 (gZ m18)) fun m24 => (if 0 ≤ (3200 : Int32) ∧ gz_ix (3200 : Int32) * 4 ≤ 536870912 ∧ gZ m24 ≠ 0 then gz_let (gz_al m24 (0 + 101) (gz_ix (3200 : Int32)) (gz_ix (3200 : Int32))) fun m26 => (if gK m26 c0 = 1 then (if 1000 ≤ c0 then (if (gZ m24) ≠ 0 then gz_let (gz_sP m26 c0 45 (gZ m24)) fun m30 => (if 0 ≤ (64 : Int32) ∧ gz_ix (64 : Int32) * 4 ≤ 536870912 ∧ gZ m30 ≠ 0 then gz_let (gz_al m30 (0 + 101) (gz_ix (64 : Int32)) (gz_ix (64 : Int32))) fun m32 => (if gK m32 c0 = 1 then (if 1000 ≤ c0 then (if (gZ m30) ≠ 0 then gz_let (gz_sP m32 c0 49 (gZ m30)) fun m36 => (if 0 ≤ (151 : Int32) ∧ gz_ix (151 : Int32) * 4 ≤ 536870912 ∧ gZ m36 ≠ 0 then gz_let (gz_al m36 (0 + 101) (gz_ix (151 : Int32)) (gz_ix (151 : Int32))) fun m38 => (if gK m38 c0 = 1 then (if 1000 ≤ c0 then (if (gZ m36) ≠ 0 then gz_let (gz_sP m38 c0 50 (gZ m36)) fun m42 => (if 0 ≤ (30 : Int32) ∧ gz_ix (30 : Int32) * 4 ≤ 536870912 ∧ gZ m42 ≠ 0 then gz_let (gz_al m42 (0 + 101) (gz_ix (30 : Int32)) (gz_ix (30 : Int32))) fun m44 => (if gK m44 c0 = 1 then (if 1000 ≤ c0 then (if (gZ m42) ≠ 0 then gz_let (gz_sP m44 c0 51 (gZ m42)) fun m48 => (Rmj_X6_init_845 c0 m48) else none) else none) else none) else none) else none) else none) else none) else none) else none) else none) else none) else none) else none) else none) else none) else none) else none) else none) else none) else none) else none) else none) else none) else none) else none) else none) else none) else none) else none) else none) else none) else none)
theorem Rwb_X6_init_781 {X : gz_X} {G : gz_G} {zE : Nat × Nat} (hX : gz_C mR X G cX6_init 1 RX6 1 20) (hn0 : X.2.2.2.2.2.2.2.2.1.name = "<init>") {c0 : Nat}  {m : gM} {z : (Unit × gM)} (h : Rmj_X6_init_781 c0 m = some z) (hk : (fun z : (Unit × gM) => gz_kVa mR X G 1 zE cX6_init z.2) z) : gz_Va mR X G 1 zE m 781 [(0, .ref (gz_ad G c0))] [] := by
  unfold Rmj_X6_init_781 at h
  refine gz_Vs (fun _ kk => gz_aload_n (pc := 781) hX dX6_init_781 rfl 0 rfl kk) rfl ?_
  refine gz_Vs (fun _ kk => gz_iconst (pc := 782) (v := (4 : Int32)) hX dX6_init_782 (by decide) kk) rfl ?_
  obtain ⟨g1, h⟩ := gz_gu h
  obtain ⟨m2, em2, h⟩ := gz_lt h
  refine gz_Vn (fun _ kk => gz_newa (pc := 783) (t := 0) (N := gz_ix (4 : Int32)) hX rfl rfl q457 rfl ⟨⟨g1.1, Nat.lt_succ_self _⟩, rfl⟩ g1.2.1 g1.2.2 (fun _ _ => trivial) dX6_init_783 em2 kk) em2 ?_
  refine gz_Vs (fun _ kk => gz_dup (pc := 785) hX dX6_init_785 rfl kk) rfl ?_
  refine gz_Vs (fun _ kk => gz_iconst (pc := 786) (v := (0 : Int32)) hX dX6_init_786 (by decide) kk) rfl ?_
  refine gz_Vs (fun _ kk => gz_iconst (pc := 787) (v := (-1 : Int32)) hX dX6_init_787 (by decide) kk) rfl ?_
  obtain ⟨g3, h⟩ := gz_gu h
  obtain ⟨g4, h⟩ := gz_gu h
  obtain ⟨m5, em5, h⟩ := gz_lt h
  refine gz_Vs (fun _ kk => gz_iast2 (pc := 788) (c := (gZ m)) (n := gN m2 (gZ m)) hX rfl (fun _ => ⟨g3.1, rfl⟩) g3.2 g4 dX6_init_788 em5 kk) (by rw [em5]; rfl) ?_
  refine gz_Vs (fun _ kk => gz_dup (pc := 789) hX dX6_init_789 rfl kk) rfl ?_
  refine gz_Vs (fun _ kk => gz_iconst (pc := 790) (v := (1 : Int32)) hX dX6_init_790 (by decide) kk) rfl ?_
  refine gz_Vs (fun _ kk => gz_iconst (pc := 791) (v := (-1 : Int32)) hX dX6_init_791 (by decide) kk) rfl ?_
  obtain ⟨g6, h⟩ := gz_gu h
  obtain ⟨g7, h⟩ := gz_gu h
  obtain ⟨m8, em8, h⟩ := gz_lt h
  refine gz_Vs (fun _ kk => gz_iast2 (pc := 792) (c := (gZ m)) (n := gN m5 (gZ m)) hX rfl (fun _ => ⟨g6.1, rfl⟩) g6.2 g7 dX6_init_792 em8 kk) (by rw [em8]; rfl) ?_
  refine gz_Vs (fun _ kk => gz_dup (pc := 793) hX dX6_init_793 rfl kk) rfl ?_
  refine gz_Vs (fun _ kk => gz_iconst (pc := 794) (v := (2 : Int32)) hX dX6_init_794 (by decide) kk) rfl ?_
  refine gz_Vs (fun _ kk => gz_iconst (pc := 795) (v := (-1 : Int32)) hX dX6_init_795 (by decide) kk) rfl ?_
  obtain ⟨g9, h⟩ := gz_gu h
  obtain ⟨g10, h⟩ := gz_gu h
  obtain ⟨m11, em11, h⟩ := gz_lt h
  refine gz_Vs (fun _ kk => gz_iast2 (pc := 796) (c := (gZ m)) (n := gN m8 (gZ m)) hX rfl (fun _ => ⟨g9.1, rfl⟩) g9.2 g10 dX6_init_796 em11 kk) (by rw [em11]; rfl) ?_
  refine gz_Vs (fun _ kk => gz_dup (pc := 797) hX dX6_init_797 rfl kk) rfl ?_
  refine gz_Vs (fun _ kk => gz_iconst (pc := 798) (v := (3 : Int32)) hX dX6_init_798 (by decide) kk) rfl ?_
  refine gz_Vs (fun _ kk => gz_iconst (pc := 799) (v := (-1 : Int32)) hX dX6_init_799 (by decide) kk) rfl ?_
  obtain ⟨g12, h⟩ := gz_gu h
  obtain ⟨g13, h⟩ := gz_gu h
  obtain ⟨m14, em14, h⟩ := gz_lt h
  refine gz_Vs (fun _ kk => gz_iast2 (pc := 800) (c := (gZ m)) (n := gN m11 (gZ m)) hX rfl (fun _ => ⟨g12.1, rfl⟩) g12.2 g13 dX6_init_800 em14 kk) (by rw [em14]; rfl) ?_
  obtain ⟨g15, h⟩ := gz_gu h
  obtain ⟨g16, h⟩ := gz_gu h
  obtain ⟨g17, h⟩ := gz_gu h
  obtain ⟨m18, em18, h⟩ := gz_lt h
  refine gz_Vs (fun _ kk => Rcp_X6_115_0 (pc := 801) hX hn0 (c := c0) (fun _ => g15) g16 g17 dX6_init_801 em18 kk) (by rw [em18]; rfl) ?_
  refine gz_Vs (fun _ kk => gz_aload_n (pc := 804) hX dX6_init_804 rfl 0 rfl kk) rfl ?_
  refine gz_Vs (fun _ kk => gz_iconst (pc := 805) (v := (4 : Int32)) hX dX6_init_805 (by decide) kk) rfl ?_
  obtain ⟨g19, h⟩ := gz_gu h
  obtain ⟨m20, em20, h⟩ := gz_lt h
  refine gz_Vn (fun _ kk => gz_newa (pc := 806) (t := 0) (N := gz_ix (4 : Int32)) hX rfl rfl q457 rfl ⟨⟨g19.1, Nat.lt_succ_self _⟩, rfl⟩ g19.2.1 g19.2.2 (fun _ _ => trivial) dX6_init_806 em20 kk) em20 ?_
  obtain ⟨g21, h⟩ := gz_gu h
  obtain ⟨g22, h⟩ := gz_gu h
  obtain ⟨g23, h⟩ := gz_gu h
  obtain ⟨m24, em24, h⟩ := gz_lt h
  refine gz_Vs (fun _ kk => Rcp_X6_118_0 (pc := 808) hX hn0 (c := c0) (fun _ => g21) g22 g23 dX6_init_808 em24 kk) (by rw [em24]; rfl) ?_
  refine gz_Vs (fun _ kk => gz_aload_n (pc := 811) hX dX6_init_811 rfl 0 rfl kk) rfl ?_
  refine gz_Vs (fun _ kk => gz_sipush (pc := 812) (v := (3200 : Int32)) hX dX6_init_812 (by decide) kk) rfl ?_
  obtain ⟨g25, h⟩ := gz_gu h
  obtain ⟨m26, em26, h⟩ := gz_lt h
  refine gz_Vn (fun _ kk => gz_newa (pc := 815) (t := 0) (N := gz_ix (3200 : Int32)) hX rfl rfl q457 rfl ⟨⟨g25.1, Nat.lt_succ_self _⟩, rfl⟩ g25.2.1 g25.2.2 (fun _ _ => trivial) dX6_init_815 em26 kk) em26 ?_
  obtain ⟨g27, h⟩ := gz_gu h
  obtain ⟨g28, h⟩ := gz_gu h
  obtain ⟨g29, h⟩ := gz_gu h
  obtain ⟨m30, em30, h⟩ := gz_lt h
  refine gz_Vs (fun _ kk => Rcp_X6_121_0 (pc := 817) hX hn0 (c := c0) (fun _ => g27) g28 g29 dX6_init_817 em30 kk) (by rw [em30]; rfl) ?_
  refine gz_Vs (fun _ kk => gz_aload_n (pc := 820) hX dX6_init_820 rfl 0 rfl kk) rfl ?_
  refine gz_Vs (fun _ kk => gz_bipush (pc := 821) (v := (64 : Int32)) hX dX6_init_821 (by decide) kk) rfl ?_
  obtain ⟨g31, h⟩ := gz_gu h
  obtain ⟨m32, em32, h⟩ := gz_lt h
  refine gz_Vn (fun _ kk => gz_newa (pc := 823) (t := 0) (N := gz_ix (64 : Int32)) hX rfl rfl q457 rfl ⟨⟨g31.1, Nat.lt_succ_self _⟩, rfl⟩ g31.2.1 g31.2.2 (fun _ _ => trivial) dX6_init_823 em32 kk) em32 ?_
  obtain ⟨g33, h⟩ := gz_gu h
  obtain ⟨g34, h⟩ := gz_gu h
  obtain ⟨g35, h⟩ := gz_gu h
  obtain ⟨m36, em36, h⟩ := gz_lt h
  refine gz_Vs (fun _ kk => Rcp_X6_124_0 (pc := 825) hX hn0 (c := c0) (fun _ => g33) g34 g35 dX6_init_825 em36 kk) (by rw [em36]; rfl) ?_
  refine gz_Vs (fun _ kk => gz_aload_n (pc := 828) hX dX6_init_828 rfl 0 rfl kk) rfl ?_
  refine gz_Vs (fun _ kk => gz_sipush (pc := 829) (v := (151 : Int32)) hX dX6_init_829 (by decide) kk) rfl ?_
  obtain ⟨g37, h⟩ := gz_gu h
  obtain ⟨m38, em38, h⟩ := gz_lt h
  refine gz_Vn (fun _ kk => gz_newa (pc := 832) (t := 0) (N := gz_ix (151 : Int32)) hX rfl rfl q457 rfl ⟨⟨g37.1, Nat.lt_succ_self _⟩, rfl⟩ g37.2.1 g37.2.2 (fun _ _ => trivial) dX6_init_832 em38 kk) em38 ?_
  obtain ⟨g39, h⟩ := gz_gu h
  obtain ⟨g40, h⟩ := gz_gu h
  obtain ⟨g41, h⟩ := gz_gu h
  obtain ⟨m42, em42, h⟩ := gz_lt h
  refine gz_Vs (fun _ kk => Rcp_X6_127_0 (pc := 834) hX hn0 (c := c0) (fun _ => g39) g40 g41 dX6_init_834 em42 kk) (by rw [em42]; rfl) ?_
  refine gz_Vs (fun _ kk => gz_aload_n (pc := 837) hX dX6_init_837 rfl 0 rfl kk) rfl ?_
  refine gz_Vs (fun _ kk => gz_bipush (pc := 838) (v := (30 : Int32)) hX dX6_init_838 (by decide) kk) rfl ?_
  obtain ⟨g43, h⟩ := gz_gu h
  obtain ⟨m44, em44, h⟩ := gz_lt h
  refine gz_Vn (fun _ kk => gz_newa (pc := 840) (t := 0) (N := gz_ix (30 : Int32)) hX rfl rfl q457 rfl ⟨⟨g43.1, Nat.lt_succ_self _⟩, rfl⟩ g43.2.1 g43.2.2 (fun _ _ => trivial) dX6_init_840 em44 kk) em44 ?_
  obtain ⟨g45, h⟩ := gz_gu h
  obtain ⟨g46, h⟩ := gz_gu h
  obtain ⟨g47, h⟩ := gz_gu h
  obtain ⟨m48, em48, h⟩ := gz_lt h
  refine gz_Vs (fun _ kk => Rcp_X6_130_0 (pc := 842) hX hn0 (c := c0) (fun _ => g45) g46 g47 dX6_init_842 em48 kk) (by rw [em48]; rfl) ?_
  exact Rwb_X6_init_845 hX hn0 h hk
noncomputable def Rmj_X6_init_711 (c0 : Nat) (m : gM) : Option (Unit × gM) :=
  (if 0 ≤ (3 : Int32) ∧ gz_ix (3 : Int32) * 2 ≤ 536870912 ∧ gZ m ≠ 0 then gz_let (gz_al m (2 + 101) (gz_ix (3 : Int32)) (gz_ix (3 : Int32))) fun m2 => (if gK m2 (gZ m) = 103 ∧ 1000 ≤ (gZ m) then (if gz_in (0 : Int32) (gN m2 (gZ m)) then gz_let (gz_sI m2 (gZ m) (gz_ix (0 : Int32)) ((109 : Int32).toUInt32.toUInt16.toUInt32.toInt32)) fun m5 => (if gK m5 (gZ m) = 103 ∧ 1000 ≤ (gZ m) then (if gz_in (1 : Int32) (gN m5 (gZ m)) then gz_let (gz_sI m5 (gZ m) (gz_ix (1 : Int32)) ((97 : Int32).toUInt32.toUInt16.toUInt32.toInt32)) fun m8 => (if gK m8 (gZ m) = 103 ∧ 1000 ≤ (gZ m) then (if gz_in (2 : Int32) (gN m8 (gZ m)) then gz_let (gz_sI m8 (gZ m) (gz_ix (2 : Int32)) ((120 : Int32).toUInt32.toUInt16.toUInt32.toInt32)) fun m11 => (if gK m11 c0 = 1 then (if 1000 ≤ c0 then (if (gZ m) ≠ 0 then gz_let (gz_sP m11 c0 35 (gZ m)) fun m15 => (if 0 ≤ (12 : Int32) ∧ gz_ix (12 : Int32) * 4 ≤ 536870912 ∧ gZ m15 ≠ 0 then gz_let (gz_al m15 (0 + 101) (gz_ix (12 : Int32)) (gz_ix (12 : Int32))) fun m17 => (if gK m17 c0 = 1 then (if 1000 ≤ c0 then (if (gZ m15) ≠ 0 then gz_let (gz_sP m17 c0 37 (gZ m15)) fun m21 => (if 0 ≤ (32 : Int32) ∧ gz_ix (32 : Int32) * 8 ≤ 536870912 ∧ gZ m21 ≠ 0 then gz_let (gz_al m21 (4 + 101) (gz_ix (32 : Int32)) (gz_ix (32 : Int32))) fun m23 => (if gK m23 c0 = 1 then (if 1000 ≤ c0 then (if (gZ m21) ≠ 0 then gz_let (gz_sP m23 c0 38 (gZ m21)) fun m27 => (if 0 ≤ (36 : Int32) ∧ gz_ix (36 : Int32) * 4 ≤ 536870912 ∧ gZ m27 ≠ 0 then gz_let (gz_al m27 (0 + 101) (gz_ix (36 : Int32)) (gz_ix (36 : Int32))) fun m29 => (if gK m29 c0 = 1 then (if 1000 ≤ c0 then (if (gZ m27) ≠ 0 then gz_let (gz_sP m29 c0 39 (gZ m27)) fun m33 => (if 0 ≤ (32 : Int32) ∧ gz_ix (32 : Int32) * 4 ≤ 536870912 ∧ gZ m33 ≠ 0 then gz_let (gz_al m33 (0 + 101) (gz_ix (32 : Int32)) (gz_ix (32 : Int32))) fun m35 => (if gK m35 c0 = 1 then (if 1000 ≤ c0 then (if (gZ m33) ≠ 0 then gz_let (gz_sP m35 c0 40 (gZ m33)) fun m39 => (if 0 ≤ (8 : Int32) ∧ gz_ix (8 : Int32) * 4 ≤ 536870912 ∧ gZ m39 ≠ 0 then gz_let (gz_al m39 (0 + 101) (gz_ix (8 : Int32)) (gz_ix (8 : Int32))) fun m41 => (if gK m41 c0 = 1 then (if 1000 ≤ c0 then (if (gZ m39) ≠ 0 then gz_let (gz_sP m41 c0 41 (gZ m39)) fun m45 => (if 0 ≤ (48 : Int32) ∧ gz_ix (48 : Int32) * 4 ≤ 536870912 ∧ gZ m45 ≠ 0 then gz_let (gz_al m45 (0 + 101) (gz_ix (48 : Int32)) (gz_ix (48 : Int32))) fun m47 => (if gK m47 c0 = 1 then (if 1000 ≤ c0 then (if (gZ m45) ≠ 0 then gz_let (gz_sP m47 c0 42 (gZ m45)) fun m51 => (Rmj_X6_init_781 c0 m51) else none) else none) else none) else none) else none) else none) else none) else none) else none) else none) else none) else none) else none) else none) else none) else none) else none) else none) else none) else none) else none) else none) else none) else none) else none) else none) else none) else none) else none) else none) else none) else none) else none) else none)
theorem Rwb_X6_init_711 {X : gz_X} {G : gz_G} {zE : Nat × Nat} (hX : gz_C mR X G cX6_init 1 RX6 1 20) (hn0 : X.2.2.2.2.2.2.2.2.1.name = "<init>") {c0 : Nat}  {m : gM} {z : (Unit × gM)} (h : Rmj_X6_init_711 c0 m = some z) (hk : (fun z : (Unit × gM) => gz_kVa mR X G 1 zE cX6_init z.2) z) : gz_Va mR X G 1 zE m 711 [(0, .ref (gz_ad G c0))] [] := by
  unfold Rmj_X6_init_711 at h
  refine gz_Vs (fun _ kk => gz_aload_n (pc := 711) hX dX6_init_711 rfl 0 rfl kk) rfl ?_
  refine gz_Vs (fun _ kk => gz_iconst (pc := 712) (v := (3 : Int32)) hX dX6_init_712 (by decide) kk) rfl ?_
  obtain ⟨g1, h⟩ := gz_gu h
  obtain ⟨m2, em2, h⟩ := gz_lt h
  refine gz_Vn (fun _ kk => gz_newa (pc := 713) (t := 2) (N := gz_ix (3 : Int32)) hX rfl rfl q726 rfl ⟨⟨g1.1, Nat.lt_succ_self _⟩, rfl⟩ g1.2.1 g1.2.2 (fun _ _ => trivial) dX6_init_713 em2 kk) em2 ?_
  refine gz_Vs (fun _ kk => gz_dup (pc := 715) hX dX6_init_715 rfl kk) rfl ?_
  refine gz_Vs (fun _ kk => gz_iconst (pc := 716) (v := (0 : Int32)) hX dX6_init_716 (by decide) kk) rfl ?_
  refine gz_Vs (fun _ kk => gz_bipush (pc := 717) (v := (109 : Int32)) hX dX6_init_717 (by decide) kk) rfl ?_
  obtain ⟨g3, h⟩ := gz_gu h
  obtain ⟨g4, h⟩ := gz_gu h
  obtain ⟨m5, em5, h⟩ := gz_lt h
  refine gz_Vs (fun _ kk => gz_cast2 (pc := 719) (c := (gZ m)) (n := gN m2 (gZ m)) hX rfl (fun _ => ⟨g3.1, rfl⟩) g3.2 g4 dX6_init_719 em5 kk) (by rw [em5]; rfl) ?_
  refine gz_Vs (fun _ kk => gz_dup (pc := 720) hX dX6_init_720 rfl kk) rfl ?_
  refine gz_Vs (fun _ kk => gz_iconst (pc := 721) (v := (1 : Int32)) hX dX6_init_721 (by decide) kk) rfl ?_
  refine gz_Vs (fun _ kk => gz_bipush (pc := 722) (v := (97 : Int32)) hX dX6_init_722 (by decide) kk) rfl ?_
  obtain ⟨g6, h⟩ := gz_gu h
  obtain ⟨g7, h⟩ := gz_gu h
  obtain ⟨m8, em8, h⟩ := gz_lt h
  refine gz_Vs (fun _ kk => gz_cast2 (pc := 724) (c := (gZ m)) (n := gN m5 (gZ m)) hX rfl (fun _ => ⟨g6.1, rfl⟩) g6.2 g7 dX6_init_724 em8 kk) (by rw [em8]; rfl) ?_
  refine gz_Vs (fun _ kk => gz_dup (pc := 725) hX dX6_init_725 rfl kk) rfl ?_
  refine gz_Vs (fun _ kk => gz_iconst (pc := 726) (v := (2 : Int32)) hX dX6_init_726 (by decide) kk) rfl ?_
  refine gz_Vs (fun _ kk => gz_bipush (pc := 727) (v := (120 : Int32)) hX dX6_init_727 (by decide) kk) rfl ?_
  obtain ⟨g9, h⟩ := gz_gu h
  obtain ⟨g10, h⟩ := gz_gu h
  obtain ⟨m11, em11, h⟩ := gz_lt h
  refine gz_Vs (fun _ kk => gz_cast2 (pc := 729) (c := (gZ m)) (n := gN m8 (gZ m)) hX rfl (fun _ => ⟨g9.1, rfl⟩) g9.2 g10 dX6_init_729 em11 kk) (by rw [em11]; rfl) ?_
  obtain ⟨g12, h⟩ := gz_gu h
  obtain ⟨g13, h⟩ := gz_gu h
  obtain ⟨g14, h⟩ := gz_gu h
  obtain ⟨m15, em15, h⟩ := gz_lt h
  refine gz_Vs (fun _ kk => Rcp_X6_93_0 (pc := 730) hX hn0 (c := c0) (fun _ => g12) g13 g14 dX6_init_730 em15 kk) (by rw [em15]; rfl) ?_
  refine gz_Vs (fun _ kk => gz_aload_n (pc := 733) hX dX6_init_733 rfl 0 rfl kk) rfl ?_
  refine gz_Vs (fun _ kk => gz_bipush (pc := 734) (v := (12 : Int32)) hX dX6_init_734 (by decide) kk) rfl ?_
  obtain ⟨g16, h⟩ := gz_gu h
  obtain ⟨m17, em17, h⟩ := gz_lt h
  refine gz_Vn (fun _ kk => gz_newa (pc := 736) (t := 0) (N := gz_ix (12 : Int32)) hX rfl rfl q457 rfl ⟨⟨g16.1, Nat.lt_succ_self _⟩, rfl⟩ g16.2.1 g16.2.2 (fun _ _ => trivial) dX6_init_736 em17 kk) em17 ?_
  obtain ⟨g18, h⟩ := gz_gu h
  obtain ⟨g19, h⟩ := gz_gu h
  obtain ⟨g20, h⟩ := gz_gu h
  obtain ⟨m21, em21, h⟩ := gz_lt h
  refine gz_Vs (fun _ kk => Rcp_X6_96_0 (pc := 738) hX hn0 (c := c0) (fun _ => g18) g19 g20 dX6_init_738 em21 kk) (by rw [em21]; rfl) ?_
  refine gz_Vs (fun _ kk => gz_aload_n (pc := 741) hX dX6_init_741 rfl 0 rfl kk) rfl ?_
  refine gz_Vs (fun _ kk => gz_bipush (pc := 742) (v := (32 : Int32)) hX dX6_init_742 (by decide) kk) rfl ?_
  obtain ⟨g22, h⟩ := gz_gu h
  obtain ⟨m23, em23, h⟩ := gz_lt h
  refine gz_Vn (fun _ kk => gz_newa (pc := 744) (t := 4) (N := gz_ix (32 : Int32)) hX rfl rfl q408 rfl ⟨⟨g22.1, Nat.lt_succ_self _⟩, rfl⟩ g22.2.1 g22.2.2 (fun _ _ => trivial) dX6_init_744 em23 kk) em23 ?_
  obtain ⟨g24, h⟩ := gz_gu h
  obtain ⟨g25, h⟩ := gz_gu h
  obtain ⟨g26, h⟩ := gz_gu h
  obtain ⟨m27, em27, h⟩ := gz_lt h
  refine gz_Vs (fun _ kk => Rcp_X6_99_0 (pc := 746) hX hn0 (c := c0) (fun _ => g24) g25 g26 dX6_init_746 em27 kk) (by rw [em27]; rfl) ?_
  refine gz_Vs (fun _ kk => gz_aload_n (pc := 749) hX dX6_init_749 rfl 0 rfl kk) rfl ?_
  refine gz_Vs (fun _ kk => gz_bipush (pc := 750) (v := (36 : Int32)) hX dX6_init_750 (by decide) kk) rfl ?_
  obtain ⟨g28, h⟩ := gz_gu h
  obtain ⟨m29, em29, h⟩ := gz_lt h
  refine gz_Vn (fun _ kk => gz_newa (pc := 752) (t := 0) (N := gz_ix (36 : Int32)) hX rfl rfl q457 rfl ⟨⟨g28.1, Nat.lt_succ_self _⟩, rfl⟩ g28.2.1 g28.2.2 (fun _ _ => trivial) dX6_init_752 em29 kk) em29 ?_
  obtain ⟨g30, h⟩ := gz_gu h
  obtain ⟨g31, h⟩ := gz_gu h
  obtain ⟨g32, h⟩ := gz_gu h
  obtain ⟨m33, em33, h⟩ := gz_lt h
  refine gz_Vs (fun _ kk => Rcp_X6_103_0 (pc := 754) hX hn0 (c := c0) (fun _ => g30) g31 g32 dX6_init_754 em33 kk) (by rw [em33]; rfl) ?_
  refine gz_Vs (fun _ kk => gz_aload_n (pc := 757) hX dX6_init_757 rfl 0 rfl kk) rfl ?_
  refine gz_Vs (fun _ kk => gz_bipush (pc := 758) (v := (32 : Int32)) hX dX6_init_758 (by decide) kk) rfl ?_
  obtain ⟨g34, h⟩ := gz_gu h
  obtain ⟨m35, em35, h⟩ := gz_lt h
  refine gz_Vn (fun _ kk => gz_newa (pc := 760) (t := 0) (N := gz_ix (32 : Int32)) hX rfl rfl q457 rfl ⟨⟨g34.1, Nat.lt_succ_self _⟩, rfl⟩ g34.2.1 g34.2.2 (fun _ _ => trivial) dX6_init_760 em35 kk) em35 ?_
  obtain ⟨g36, h⟩ := gz_gu h
  obtain ⟨g37, h⟩ := gz_gu h
  obtain ⟨g38, h⟩ := gz_gu h
  obtain ⟨m39, em39, h⟩ := gz_lt h
  refine gz_Vs (fun _ kk => Rcp_X6_106_0 (pc := 762) hX hn0 (c := c0) (fun _ => g36) g37 g38 dX6_init_762 em39 kk) (by rw [em39]; rfl) ?_
  refine gz_Vs (fun _ kk => gz_aload_n (pc := 765) hX dX6_init_765 rfl 0 rfl kk) rfl ?_
  refine gz_Vs (fun _ kk => gz_bipush (pc := 766) (v := (8 : Int32)) hX dX6_init_766 (by decide) kk) rfl ?_
  obtain ⟨g40, h⟩ := gz_gu h
  obtain ⟨m41, em41, h⟩ := gz_lt h
  refine gz_Vn (fun _ kk => gz_newa (pc := 768) (t := 0) (N := gz_ix (8 : Int32)) hX rfl rfl q457 rfl ⟨⟨g40.1, Nat.lt_succ_self _⟩, rfl⟩ g40.2.1 g40.2.2 (fun _ _ => trivial) dX6_init_768 em41 kk) em41 ?_
  obtain ⟨g42, h⟩ := gz_gu h
  obtain ⟨g43, h⟩ := gz_gu h
  obtain ⟨g44, h⟩ := gz_gu h
  obtain ⟨m45, em45, h⟩ := gz_lt h
  refine gz_Vs (fun _ kk => Rcp_X6_109_0 (pc := 770) hX hn0 (c := c0) (fun _ => g42) g43 g44 dX6_init_770 em45 kk) (by rw [em45]; rfl) ?_
  refine gz_Vs (fun _ kk => gz_aload_n (pc := 773) hX dX6_init_773 rfl 0 rfl kk) rfl ?_
  refine gz_Vs (fun _ kk => gz_bipush (pc := 774) (v := (48 : Int32)) hX dX6_init_774 (by decide) kk) rfl ?_
  obtain ⟨g46, h⟩ := gz_gu h
  obtain ⟨m47, em47, h⟩ := gz_lt h
  refine gz_Vn (fun _ kk => gz_newa (pc := 776) (t := 0) (N := gz_ix (48 : Int32)) hX rfl rfl q457 rfl ⟨⟨g46.1, Nat.lt_succ_self _⟩, rfl⟩ g46.2.1 g46.2.2 (fun _ _ => trivial) dX6_init_776 em47 kk) em47 ?_
  obtain ⟨g48, h⟩ := gz_gu h
  obtain ⟨g49, h⟩ := gz_gu h
  obtain ⟨g50, h⟩ := gz_gu h
  obtain ⟨m51, em51, h⟩ := gz_lt h
  refine gz_Vs (fun _ kk => Rcp_X6_112_0 (pc := 778) hX hn0 (c := c0) (fun _ => g48) g49 g50 dX6_init_778 em51 kk) (by rw [em51]; rfl) ?_
  exact Rwb_X6_init_781 hX hn0 h hk
noncomputable def Rmj_X6_init_645 (c0 : Nat) (m : gM) : Option (Unit × gM) :=
  (if 0 ≤ (3 : Int32) ∧ gz_ix (3 : Int32) * 2 ≤ 536870912 ∧ gZ m ≠ 0 then gz_let (gz_al m (2 + 101) (gz_ix (3 : Int32)) (gz_ix (3 : Int32))) fun m2 => (if gK m2 (gZ m) = 103 ∧ 1000 ≤ (gZ m) then (if gz_in (0 : Int32) (gN m2 (gZ m)) then gz_let (gz_sI m2 (gZ m) (gz_ix (0 : Int32)) ((110 : Int32).toUInt32.toUInt16.toUInt32.toInt32)) fun m5 => (if gK m5 (gZ m) = 103 ∧ 1000 ≤ (gZ m) then (if gz_in (1 : Int32) (gN m5 (gZ m)) then gz_let (gz_sI m5 (gZ m) (gz_ix (1 : Int32)) ((111 : Int32).toUInt32.toUInt16.toUInt32.toInt32)) fun m8 => (if gK m8 (gZ m) = 103 ∧ 1000 ≤ (gZ m) then (if gz_in (2 : Int32) (gN m8 (gZ m)) then gz_let (gz_sI m8 (gZ m) (gz_ix (2 : Int32)) ((116 : Int32).toUInt32.toUInt16.toUInt32.toInt32)) fun m11 => (if gK m11 c0 = 1 then (if 1000 ≤ c0 then (if (gZ m) ≠ 0 then gz_let (gz_sP m11 c0 32 (gZ m)) fun m15 => (if 0 ≤ (3 : Int32) ∧ gz_ix (3 : Int32) * 2 ≤ 536870912 ∧ gZ m15 ≠ 0 then gz_let (gz_al m15 (2 + 101) (gz_ix (3 : Int32)) (gz_ix (3 : Int32))) fun m17 => (if gK m17 (gZ m15) = 103 ∧ 1000 ≤ (gZ m15) then (if gz_in (0 : Int32) (gN m17 (gZ m15)) then gz_let (gz_sI m17 (gZ m15) (gz_ix (0 : Int32)) ((97 : Int32).toUInt32.toUInt16.toUInt32.toInt32)) fun m20 => (if gK m20 (gZ m15) = 103 ∧ 1000 ≤ (gZ m15) then (if gz_in (1 : Int32) (gN m20 (gZ m15)) then gz_let (gz_sI m20 (gZ m15) (gz_ix (1 : Int32)) ((108 : Int32).toUInt32.toUInt16.toUInt32.toInt32)) fun m23 => (if gK m23 (gZ m15) = 103 ∧ 1000 ≤ (gZ m15) then (if gz_in (2 : Int32) (gN m23 (gZ m15)) then gz_let (gz_sI m23 (gZ m15) (gz_ix (2 : Int32)) ((108 : Int32).toUInt32.toUInt16.toUInt32.toInt32)) fun m26 => (if gK m26 c0 = 1 then (if 1000 ≤ c0 then (if (gZ m15) ≠ 0 then gz_let (gz_sP m26 c0 33 (gZ m15)) fun m30 => (if 0 ≤ (3 : Int32) ∧ gz_ix (3 : Int32) * 2 ≤ 536870912 ∧ gZ m30 ≠ 0 then gz_let (gz_al m30 (2 + 101) (gz_ix (3 : Int32)) (gz_ix (3 : Int32))) fun m32 => (if gK m32 (gZ m30) = 103 ∧ 1000 ≤ (gZ m30) then (if gz_in (0 : Int32) (gN m32 (gZ m30)) then gz_let (gz_sI m32 (gZ m30) (gz_ix (0 : Int32)) ((109 : Int32).toUInt32.toUInt16.toUInt32.toInt32)) fun m35 => (if gK m35 (gZ m30) = 103 ∧ 1000 ≤ (gZ m30) then (if gz_in (1 : Int32) (gN m35 (gZ m30)) then gz_let (gz_sI m35 (gZ m30) (gz_ix (1 : Int32)) ((105 : Int32).toUInt32.toUInt16.toUInt32.toInt32)) fun m38 => (if gK m38 (gZ m30) = 103 ∧ 1000 ≤ (gZ m30) then (if gz_in (2 : Int32) (gN m38 (gZ m30)) then gz_let (gz_sI m38 (gZ m30) (gz_ix (2 : Int32)) ((110 : Int32).toUInt32.toUInt16.toUInt32.toInt32)) fun m41 => (if gK m41 c0 = 1 then (if 1000 ≤ c0 then (if (gZ m30) ≠ 0 then gz_let (gz_sP m41 c0 34 (gZ m30)) fun m45 => (Rmj_X6_init_711 c0 m45) else none) else none) else none) else none) else none) else none) else none) else none) else none) else none) else none) else none) else none) else none) else none) else none) else none) else none) else none) else none) else none) else none) else none) else none) else none) else none) else none) else none) else none) else none)
theorem Rwb_X6_init_645 {X : gz_X} {G : gz_G} {zE : Nat × Nat} (hX : gz_C mR X G cX6_init 1 RX6 1 20) (hn0 : X.2.2.2.2.2.2.2.2.1.name = "<init>") {c0 : Nat}  {m : gM} {z : (Unit × gM)} (h : Rmj_X6_init_645 c0 m = some z) (hk : (fun z : (Unit × gM) => gz_kVa mR X G 1 zE cX6_init z.2) z) : gz_Va mR X G 1 zE m 645 [(0, .ref (gz_ad G c0))] [] := by
  unfold Rmj_X6_init_645 at h
  refine gz_Vs (fun _ kk => gz_aload_n (pc := 645) hX dX6_init_645 rfl 0 rfl kk) rfl ?_
  refine gz_Vs (fun _ kk => gz_iconst (pc := 646) (v := (3 : Int32)) hX dX6_init_646 (by decide) kk) rfl ?_
  obtain ⟨g1, h⟩ := gz_gu h
  obtain ⟨m2, em2, h⟩ := gz_lt h
  refine gz_Vn (fun _ kk => gz_newa (pc := 647) (t := 2) (N := gz_ix (3 : Int32)) hX rfl rfl q726 rfl ⟨⟨g1.1, Nat.lt_succ_self _⟩, rfl⟩ g1.2.1 g1.2.2 (fun _ _ => trivial) dX6_init_647 em2 kk) em2 ?_
  refine gz_Vs (fun _ kk => gz_dup (pc := 649) hX dX6_init_649 rfl kk) rfl ?_
  refine gz_Vs (fun _ kk => gz_iconst (pc := 650) (v := (0 : Int32)) hX dX6_init_650 (by decide) kk) rfl ?_
  refine gz_Vs (fun _ kk => gz_bipush (pc := 651) (v := (110 : Int32)) hX dX6_init_651 (by decide) kk) rfl ?_
  obtain ⟨g3, h⟩ := gz_gu h
  obtain ⟨g4, h⟩ := gz_gu h
  obtain ⟨m5, em5, h⟩ := gz_lt h
  refine gz_Vs (fun _ kk => gz_cast2 (pc := 653) (c := (gZ m)) (n := gN m2 (gZ m)) hX rfl (fun _ => ⟨g3.1, rfl⟩) g3.2 g4 dX6_init_653 em5 kk) (by rw [em5]; rfl) ?_
  refine gz_Vs (fun _ kk => gz_dup (pc := 654) hX dX6_init_654 rfl kk) rfl ?_
  refine gz_Vs (fun _ kk => gz_iconst (pc := 655) (v := (1 : Int32)) hX dX6_init_655 (by decide) kk) rfl ?_
  refine gz_Vs (fun _ kk => gz_bipush (pc := 656) (v := (111 : Int32)) hX dX6_init_656 (by decide) kk) rfl ?_
  obtain ⟨g6, h⟩ := gz_gu h
  obtain ⟨g7, h⟩ := gz_gu h
  obtain ⟨m8, em8, h⟩ := gz_lt h
  refine gz_Vs (fun _ kk => gz_cast2 (pc := 658) (c := (gZ m)) (n := gN m5 (gZ m)) hX rfl (fun _ => ⟨g6.1, rfl⟩) g6.2 g7 dX6_init_658 em8 kk) (by rw [em8]; rfl) ?_
  refine gz_Vs (fun _ kk => gz_dup (pc := 659) hX dX6_init_659 rfl kk) rfl ?_
  refine gz_Vs (fun _ kk => gz_iconst (pc := 660) (v := (2 : Int32)) hX dX6_init_660 (by decide) kk) rfl ?_
  refine gz_Vs (fun _ kk => gz_bipush (pc := 661) (v := (116 : Int32)) hX dX6_init_661 (by decide) kk) rfl ?_
  obtain ⟨g9, h⟩ := gz_gu h
  obtain ⟨g10, h⟩ := gz_gu h
  obtain ⟨m11, em11, h⟩ := gz_lt h
  refine gz_Vs (fun _ kk => gz_cast2 (pc := 663) (c := (gZ m)) (n := gN m8 (gZ m)) hX rfl (fun _ => ⟨g9.1, rfl⟩) g9.2 g10 dX6_init_663 em11 kk) (by rw [em11]; rfl) ?_
  obtain ⟨g12, h⟩ := gz_gu h
  obtain ⟨g13, h⟩ := gz_gu h
  obtain ⟨g14, h⟩ := gz_gu h
  obtain ⟨m15, em15, h⟩ := gz_lt h
  refine gz_Vs (fun _ kk => Rcp_X6_84_0 (pc := 664) hX hn0 (c := c0) (fun _ => g12) g13 g14 dX6_init_664 em15 kk) (by rw [em15]; rfl) ?_
  refine gz_Vs (fun _ kk => gz_aload_n (pc := 667) hX dX6_init_667 rfl 0 rfl kk) rfl ?_
  refine gz_Vs (fun _ kk => gz_iconst (pc := 668) (v := (3 : Int32)) hX dX6_init_668 (by decide) kk) rfl ?_
  obtain ⟨g16, h⟩ := gz_gu h
  obtain ⟨m17, em17, h⟩ := gz_lt h
  refine gz_Vn (fun _ kk => gz_newa (pc := 669) (t := 2) (N := gz_ix (3 : Int32)) hX rfl rfl q726 rfl ⟨⟨g16.1, Nat.lt_succ_self _⟩, rfl⟩ g16.2.1 g16.2.2 (fun _ _ => trivial) dX6_init_669 em17 kk) em17 ?_
  refine gz_Vs (fun _ kk => gz_dup (pc := 671) hX dX6_init_671 rfl kk) rfl ?_
  refine gz_Vs (fun _ kk => gz_iconst (pc := 672) (v := (0 : Int32)) hX dX6_init_672 (by decide) kk) rfl ?_
  refine gz_Vs (fun _ kk => gz_bipush (pc := 673) (v := (97 : Int32)) hX dX6_init_673 (by decide) kk) rfl ?_
  obtain ⟨g18, h⟩ := gz_gu h
  obtain ⟨g19, h⟩ := gz_gu h
  obtain ⟨m20, em20, h⟩ := gz_lt h
  refine gz_Vs (fun _ kk => gz_cast2 (pc := 675) (c := (gZ m15)) (n := gN m17 (gZ m15)) hX rfl (fun _ => ⟨g18.1, rfl⟩) g18.2 g19 dX6_init_675 em20 kk) (by rw [em20]; rfl) ?_
  refine gz_Vs (fun _ kk => gz_dup (pc := 676) hX dX6_init_676 rfl kk) rfl ?_
  refine gz_Vs (fun _ kk => gz_iconst (pc := 677) (v := (1 : Int32)) hX dX6_init_677 (by decide) kk) rfl ?_
  refine gz_Vs (fun _ kk => gz_bipush (pc := 678) (v := (108 : Int32)) hX dX6_init_678 (by decide) kk) rfl ?_
  obtain ⟨g21, h⟩ := gz_gu h
  obtain ⟨g22, h⟩ := gz_gu h
  obtain ⟨m23, em23, h⟩ := gz_lt h
  refine gz_Vs (fun _ kk => gz_cast2 (pc := 680) (c := (gZ m15)) (n := gN m20 (gZ m15)) hX rfl (fun _ => ⟨g21.1, rfl⟩) g21.2 g22 dX6_init_680 em23 kk) (by rw [em23]; rfl) ?_
  refine gz_Vs (fun _ kk => gz_dup (pc := 681) hX dX6_init_681 rfl kk) rfl ?_
  refine gz_Vs (fun _ kk => gz_iconst (pc := 682) (v := (2 : Int32)) hX dX6_init_682 (by decide) kk) rfl ?_
  refine gz_Vs (fun _ kk => gz_bipush (pc := 683) (v := (108 : Int32)) hX dX6_init_683 (by decide) kk) rfl ?_
  obtain ⟨g24, h⟩ := gz_gu h
  obtain ⟨g25, h⟩ := gz_gu h
  obtain ⟨m26, em26, h⟩ := gz_lt h
  refine gz_Vs (fun _ kk => gz_cast2 (pc := 685) (c := (gZ m15)) (n := gN m23 (gZ m15)) hX rfl (fun _ => ⟨g24.1, rfl⟩) g24.2 g25 dX6_init_685 em26 kk) (by rw [em26]; rfl) ?_
  obtain ⟨g27, h⟩ := gz_gu h
  obtain ⟨g28, h⟩ := gz_gu h
  obtain ⟨g29, h⟩ := gz_gu h
  obtain ⟨m30, em30, h⟩ := gz_lt h
  refine gz_Vs (fun _ kk => Rcp_X6_87_0 (pc := 686) hX hn0 (c := c0) (fun _ => g27) g28 g29 dX6_init_686 em30 kk) (by rw [em30]; rfl) ?_
  refine gz_Vs (fun _ kk => gz_aload_n (pc := 689) hX dX6_init_689 rfl 0 rfl kk) rfl ?_
  refine gz_Vs (fun _ kk => gz_iconst (pc := 690) (v := (3 : Int32)) hX dX6_init_690 (by decide) kk) rfl ?_
  obtain ⟨g31, h⟩ := gz_gu h
  obtain ⟨m32, em32, h⟩ := gz_lt h
  refine gz_Vn (fun _ kk => gz_newa (pc := 691) (t := 2) (N := gz_ix (3 : Int32)) hX rfl rfl q726 rfl ⟨⟨g31.1, Nat.lt_succ_self _⟩, rfl⟩ g31.2.1 g31.2.2 (fun _ _ => trivial) dX6_init_691 em32 kk) em32 ?_
  refine gz_Vs (fun _ kk => gz_dup (pc := 693) hX dX6_init_693 rfl kk) rfl ?_
  refine gz_Vs (fun _ kk => gz_iconst (pc := 694) (v := (0 : Int32)) hX dX6_init_694 (by decide) kk) rfl ?_
  refine gz_Vs (fun _ kk => gz_bipush (pc := 695) (v := (109 : Int32)) hX dX6_init_695 (by decide) kk) rfl ?_
  obtain ⟨g33, h⟩ := gz_gu h
  obtain ⟨g34, h⟩ := gz_gu h
  obtain ⟨m35, em35, h⟩ := gz_lt h
  refine gz_Vs (fun _ kk => gz_cast2 (pc := 697) (c := (gZ m30)) (n := gN m32 (gZ m30)) hX rfl (fun _ => ⟨g33.1, rfl⟩) g33.2 g34 dX6_init_697 em35 kk) (by rw [em35]; rfl) ?_
  refine gz_Vs (fun _ kk => gz_dup (pc := 698) hX dX6_init_698 rfl kk) rfl ?_
  refine gz_Vs (fun _ kk => gz_iconst (pc := 699) (v := (1 : Int32)) hX dX6_init_699 (by decide) kk) rfl ?_
  refine gz_Vs (fun _ kk => gz_bipush (pc := 700) (v := (105 : Int32)) hX dX6_init_700 (by decide) kk) rfl ?_
  obtain ⟨g36, h⟩ := gz_gu h
  obtain ⟨g37, h⟩ := gz_gu h
  obtain ⟨m38, em38, h⟩ := gz_lt h
  refine gz_Vs (fun _ kk => gz_cast2 (pc := 702) (c := (gZ m30)) (n := gN m35 (gZ m30)) hX rfl (fun _ => ⟨g36.1, rfl⟩) g36.2 g37 dX6_init_702 em38 kk) (by rw [em38]; rfl) ?_
  refine gz_Vs (fun _ kk => gz_dup (pc := 703) hX dX6_init_703 rfl kk) rfl ?_
  refine gz_Vs (fun _ kk => gz_iconst (pc := 704) (v := (2 : Int32)) hX dX6_init_704 (by decide) kk) rfl ?_
  refine gz_Vs (fun _ kk => gz_bipush (pc := 705) (v := (110 : Int32)) hX dX6_init_705 (by decide) kk) rfl ?_
  obtain ⟨g39, h⟩ := gz_gu h
  obtain ⟨g40, h⟩ := gz_gu h
  obtain ⟨m41, em41, h⟩ := gz_lt h
  refine gz_Vs (fun _ kk => gz_cast2 (pc := 707) (c := (gZ m30)) (n := gN m38 (gZ m30)) hX rfl (fun _ => ⟨g39.1, rfl⟩) g39.2 g40 dX6_init_707 em41 kk) (by rw [em41]; rfl) ?_
  obtain ⟨g42, h⟩ := gz_gu h
  obtain ⟨g43, h⟩ := gz_gu h
  obtain ⟨g44, h⟩ := gz_gu h
  obtain ⟨m45, em45, h⟩ := gz_lt h
  refine gz_Vs (fun _ kk => Rcp_X6_90_0 (pc := 708) hX hn0 (c := c0) (fun _ => g42) g43 g44 dX6_init_708 em45 kk) (by rw [em45]; rfl) ?_
  exact Rwb_X6_init_711 hX hn0 h hk
noncomputable def Rmj_X6_init_579 (c0 : Nat) (m : gM) : Option (Unit × gM) :=
  (if 0 ≤ (4 : Int32) ∧ gz_ix (4 : Int32) * 2 ≤ 536870912 ∧ gZ m ≠ 0 then gz_let (gz_al m (2 + 101) (gz_ix (4 : Int32)) (gz_ix (4 : Int32))) fun m2 => (if gK m2 (gZ m) = 103 ∧ 1000 ≤ (gZ m) then (if gz_in (0 : Int32) (gN m2 (gZ m)) then gz_let (gz_sI m2 (gZ m) (gz_ix (0 : Int32)) ((101 : Int32).toUInt32.toUInt16.toUInt32.toInt32)) fun m5 => (if gK m5 (gZ m) = 103 ∧ 1000 ≤ (gZ m) then (if gz_in (1 : Int32) (gN m5 (gZ m)) then gz_let (gz_sI m5 (gZ m) (gz_ix (1 : Int32)) ((110 : Int32).toUInt32.toUInt16.toUInt32.toInt32)) fun m8 => (if gK m8 (gZ m) = 103 ∧ 1000 ≤ (gZ m) then (if gz_in (2 : Int32) (gN m8 (gZ m)) then gz_let (gz_sI m8 (gZ m) (gz_ix (2 : Int32)) ((100 : Int32).toUInt32.toUInt16.toUInt32.toInt32)) fun m11 => (if gK m11 (gZ m) = 103 ∧ 1000 ≤ (gZ m) then (if gz_in (3 : Int32) (gN m11 (gZ m)) then gz_let (gz_sI m11 (gZ m) (gz_ix (3 : Int32)) ((115 : Int32).toUInt32.toUInt16.toUInt32.toInt32)) fun m14 => (if gK m14 c0 = 1 then (if 1000 ≤ c0 then (if (gZ m) ≠ 0 then gz_let (gz_sP m14 c0 29 (gZ m)) fun m18 => (if 0 ≤ (2 : Int32) ∧ gz_ix (2 : Int32) * 2 ≤ 536870912 ∧ gZ m18 ≠ 0 then gz_let (gz_al m18 (2 + 101) (gz_ix (2 : Int32)) (gz_ix (2 : Int32))) fun m20 => (if gK m20 (gZ m18) = 103 ∧ 1000 ≤ (gZ m18) then (if gz_in (0 : Int32) (gN m20 (gZ m18)) then gz_let (gz_sI m20 (gZ m18) (gz_ix (0 : Int32)) ((111 : Int32).toUInt32.toUInt16.toUInt32.toInt32)) fun m23 => (if gK m23 (gZ m18) = 103 ∧ 1000 ≤ (gZ m18) then (if gz_in (1 : Int32) (gN m23 (gZ m18)) then gz_let (gz_sI m23 (gZ m18) (gz_ix (1 : Int32)) ((114 : Int32).toUInt32.toUInt16.toUInt32.toInt32)) fun m26 => (if gK m26 c0 = 1 then (if 1000 ≤ c0 then (if (gZ m18) ≠ 0 then gz_let (gz_sP m26 c0 30 (gZ m18)) fun m30 => (if 0 ≤ (3 : Int32) ∧ gz_ix (3 : Int32) * 2 ≤ 536870912 ∧ gZ m30 ≠ 0 then gz_let (gz_al m30 (2 + 101) (gz_ix (3 : Int32)) (gz_ix (3 : Int32))) fun m32 => (if gK m32 (gZ m30) = 103 ∧ 1000 ≤ (gZ m30) then (if gz_in (0 : Int32) (gN m32 (gZ m30)) then gz_let (gz_sI m32 (gZ m30) (gz_ix (0 : Int32)) ((97 : Int32).toUInt32.toUInt16.toUInt32.toInt32)) fun m35 => (if gK m35 (gZ m30) = 103 ∧ 1000 ≤ (gZ m30) then (if gz_in (1 : Int32) (gN m35 (gZ m30)) then gz_let (gz_sI m35 (gZ m30) (gz_ix (1 : Int32)) ((110 : Int32).toUInt32.toUInt16.toUInt32.toInt32)) fun m38 => (if gK m38 (gZ m30) = 103 ∧ 1000 ≤ (gZ m30) then (if gz_in (2 : Int32) (gN m38 (gZ m30)) then gz_let (gz_sI m38 (gZ m30) (gz_ix (2 : Int32)) ((100 : Int32).toUInt32.toUInt16.toUInt32.toInt32)) fun m41 => (if gK m41 c0 = 1 then (if 1000 ≤ c0 then (if (gZ m30) ≠ 0 then gz_let (gz_sP m41 c0 31 (gZ m30)) fun m45 => (Rmj_X6_init_645 c0 m45) else none) else none) else none) else none) else none) else none) else none) else none) else none) else none) else none) else none) else none) else none) else none) else none) else none) else none) else none) else none) else none) else none) else none) else none) else none) else none) else none) else none) else none) else none)
theorem Rwb_X6_init_579 {X : gz_X} {G : gz_G} {zE : Nat × Nat} (hX : gz_C mR X G cX6_init 1 RX6 1 20) (hn0 : X.2.2.2.2.2.2.2.2.1.name = "<init>") {c0 : Nat}  {m : gM} {z : (Unit × gM)} (h : Rmj_X6_init_579 c0 m = some z) (hk : (fun z : (Unit × gM) => gz_kVa mR X G 1 zE cX6_init z.2) z) : gz_Va mR X G 1 zE m 579 [(0, .ref (gz_ad G c0))] [] := by
  unfold Rmj_X6_init_579 at h
  refine gz_Vs (fun _ kk => gz_aload_n (pc := 579) hX dX6_init_579 rfl 0 rfl kk) rfl ?_
  refine gz_Vs (fun _ kk => gz_iconst (pc := 580) (v := (4 : Int32)) hX dX6_init_580 (by decide) kk) rfl ?_
  obtain ⟨g1, h⟩ := gz_gu h
  obtain ⟨m2, em2, h⟩ := gz_lt h
  refine gz_Vn (fun _ kk => gz_newa (pc := 581) (t := 2) (N := gz_ix (4 : Int32)) hX rfl rfl q726 rfl ⟨⟨g1.1, Nat.lt_succ_self _⟩, rfl⟩ g1.2.1 g1.2.2 (fun _ _ => trivial) dX6_init_581 em2 kk) em2 ?_
  refine gz_Vs (fun _ kk => gz_dup (pc := 583) hX dX6_init_583 rfl kk) rfl ?_
  refine gz_Vs (fun _ kk => gz_iconst (pc := 584) (v := (0 : Int32)) hX dX6_init_584 (by decide) kk) rfl ?_
  refine gz_Vs (fun _ kk => gz_bipush (pc := 585) (v := (101 : Int32)) hX dX6_init_585 (by decide) kk) rfl ?_
  obtain ⟨g3, h⟩ := gz_gu h
  obtain ⟨g4, h⟩ := gz_gu h
  obtain ⟨m5, em5, h⟩ := gz_lt h
  refine gz_Vs (fun _ kk => gz_cast2 (pc := 587) (c := (gZ m)) (n := gN m2 (gZ m)) hX rfl (fun _ => ⟨g3.1, rfl⟩) g3.2 g4 dX6_init_587 em5 kk) (by rw [em5]; rfl) ?_
  refine gz_Vs (fun _ kk => gz_dup (pc := 588) hX dX6_init_588 rfl kk) rfl ?_
  refine gz_Vs (fun _ kk => gz_iconst (pc := 589) (v := (1 : Int32)) hX dX6_init_589 (by decide) kk) rfl ?_
  refine gz_Vs (fun _ kk => gz_bipush (pc := 590) (v := (110 : Int32)) hX dX6_init_590 (by decide) kk) rfl ?_
  obtain ⟨g6, h⟩ := gz_gu h
  obtain ⟨g7, h⟩ := gz_gu h
  obtain ⟨m8, em8, h⟩ := gz_lt h
  refine gz_Vs (fun _ kk => gz_cast2 (pc := 592) (c := (gZ m)) (n := gN m5 (gZ m)) hX rfl (fun _ => ⟨g6.1, rfl⟩) g6.2 g7 dX6_init_592 em8 kk) (by rw [em8]; rfl) ?_
  refine gz_Vs (fun _ kk => gz_dup (pc := 593) hX dX6_init_593 rfl kk) rfl ?_
  refine gz_Vs (fun _ kk => gz_iconst (pc := 594) (v := (2 : Int32)) hX dX6_init_594 (by decide) kk) rfl ?_
  refine gz_Vs (fun _ kk => gz_bipush (pc := 595) (v := (100 : Int32)) hX dX6_init_595 (by decide) kk) rfl ?_
  obtain ⟨g9, h⟩ := gz_gu h
  obtain ⟨g10, h⟩ := gz_gu h
  obtain ⟨m11, em11, h⟩ := gz_lt h
  refine gz_Vs (fun _ kk => gz_cast2 (pc := 597) (c := (gZ m)) (n := gN m8 (gZ m)) hX rfl (fun _ => ⟨g9.1, rfl⟩) g9.2 g10 dX6_init_597 em11 kk) (by rw [em11]; rfl) ?_
  refine gz_Vs (fun _ kk => gz_dup (pc := 598) hX dX6_init_598 rfl kk) rfl ?_
  refine gz_Vs (fun _ kk => gz_iconst (pc := 599) (v := (3 : Int32)) hX dX6_init_599 (by decide) kk) rfl ?_
  refine gz_Vs (fun _ kk => gz_bipush (pc := 600) (v := (115 : Int32)) hX dX6_init_600 (by decide) kk) rfl ?_
  obtain ⟨g12, h⟩ := gz_gu h
  obtain ⟨g13, h⟩ := gz_gu h
  obtain ⟨m14, em14, h⟩ := gz_lt h
  refine gz_Vs (fun _ kk => gz_cast2 (pc := 602) (c := (gZ m)) (n := gN m11 (gZ m)) hX rfl (fun _ => ⟨g12.1, rfl⟩) g12.2 g13 dX6_init_602 em14 kk) (by rw [em14]; rfl) ?_
  obtain ⟨g15, h⟩ := gz_gu h
  obtain ⟨g16, h⟩ := gz_gu h
  obtain ⟨g17, h⟩ := gz_gu h
  obtain ⟨m18, em18, h⟩ := gz_lt h
  refine gz_Vs (fun _ kk => Rcp_X6_75_0 (pc := 603) hX hn0 (c := c0) (fun _ => g15) g16 g17 dX6_init_603 em18 kk) (by rw [em18]; rfl) ?_
  refine gz_Vs (fun _ kk => gz_aload_n (pc := 606) hX dX6_init_606 rfl 0 rfl kk) rfl ?_
  refine gz_Vs (fun _ kk => gz_iconst (pc := 607) (v := (2 : Int32)) hX dX6_init_607 (by decide) kk) rfl ?_
  obtain ⟨g19, h⟩ := gz_gu h
  obtain ⟨m20, em20, h⟩ := gz_lt h
  refine gz_Vn (fun _ kk => gz_newa (pc := 608) (t := 2) (N := gz_ix (2 : Int32)) hX rfl rfl q726 rfl ⟨⟨g19.1, Nat.lt_succ_self _⟩, rfl⟩ g19.2.1 g19.2.2 (fun _ _ => trivial) dX6_init_608 em20 kk) em20 ?_
  refine gz_Vs (fun _ kk => gz_dup (pc := 610) hX dX6_init_610 rfl kk) rfl ?_
  refine gz_Vs (fun _ kk => gz_iconst (pc := 611) (v := (0 : Int32)) hX dX6_init_611 (by decide) kk) rfl ?_
  refine gz_Vs (fun _ kk => gz_bipush (pc := 612) (v := (111 : Int32)) hX dX6_init_612 (by decide) kk) rfl ?_
  obtain ⟨g21, h⟩ := gz_gu h
  obtain ⟨g22, h⟩ := gz_gu h
  obtain ⟨m23, em23, h⟩ := gz_lt h
  refine gz_Vs (fun _ kk => gz_cast2 (pc := 614) (c := (gZ m18)) (n := gN m20 (gZ m18)) hX rfl (fun _ => ⟨g21.1, rfl⟩) g21.2 g22 dX6_init_614 em23 kk) (by rw [em23]; rfl) ?_
  refine gz_Vs (fun _ kk => gz_dup (pc := 615) hX dX6_init_615 rfl kk) rfl ?_
  refine gz_Vs (fun _ kk => gz_iconst (pc := 616) (v := (1 : Int32)) hX dX6_init_616 (by decide) kk) rfl ?_
  refine gz_Vs (fun _ kk => gz_bipush (pc := 617) (v := (114 : Int32)) hX dX6_init_617 (by decide) kk) rfl ?_
  obtain ⟨g24, h⟩ := gz_gu h
  obtain ⟨g25, h⟩ := gz_gu h
  obtain ⟨m26, em26, h⟩ := gz_lt h
  refine gz_Vs (fun _ kk => gz_cast2 (pc := 619) (c := (gZ m18)) (n := gN m23 (gZ m18)) hX rfl (fun _ => ⟨g24.1, rfl⟩) g24.2 g25 dX6_init_619 em26 kk) (by rw [em26]; rfl) ?_
  obtain ⟨g27, h⟩ := gz_gu h
  obtain ⟨g28, h⟩ := gz_gu h
  obtain ⟨g29, h⟩ := gz_gu h
  obtain ⟨m30, em30, h⟩ := gz_lt h
  refine gz_Vs (fun _ kk => Rcp_X6_78_0 (pc := 620) hX hn0 (c := c0) (fun _ => g27) g28 g29 dX6_init_620 em30 kk) (by rw [em30]; rfl) ?_
  refine gz_Vs (fun _ kk => gz_aload_n (pc := 623) hX dX6_init_623 rfl 0 rfl kk) rfl ?_
  refine gz_Vs (fun _ kk => gz_iconst (pc := 624) (v := (3 : Int32)) hX dX6_init_624 (by decide) kk) rfl ?_
  obtain ⟨g31, h⟩ := gz_gu h
  obtain ⟨m32, em32, h⟩ := gz_lt h
  refine gz_Vn (fun _ kk => gz_newa (pc := 625) (t := 2) (N := gz_ix (3 : Int32)) hX rfl rfl q726 rfl ⟨⟨g31.1, Nat.lt_succ_self _⟩, rfl⟩ g31.2.1 g31.2.2 (fun _ _ => trivial) dX6_init_625 em32 kk) em32 ?_
  refine gz_Vs (fun _ kk => gz_dup (pc := 627) hX dX6_init_627 rfl kk) rfl ?_
  refine gz_Vs (fun _ kk => gz_iconst (pc := 628) (v := (0 : Int32)) hX dX6_init_628 (by decide) kk) rfl ?_
  refine gz_Vs (fun _ kk => gz_bipush (pc := 629) (v := (97 : Int32)) hX dX6_init_629 (by decide) kk) rfl ?_
  obtain ⟨g33, h⟩ := gz_gu h
  obtain ⟨g34, h⟩ := gz_gu h
  obtain ⟨m35, em35, h⟩ := gz_lt h
  refine gz_Vs (fun _ kk => gz_cast2 (pc := 631) (c := (gZ m30)) (n := gN m32 (gZ m30)) hX rfl (fun _ => ⟨g33.1, rfl⟩) g33.2 g34 dX6_init_631 em35 kk) (by rw [em35]; rfl) ?_
  refine gz_Vs (fun _ kk => gz_dup (pc := 632) hX dX6_init_632 rfl kk) rfl ?_
  refine gz_Vs (fun _ kk => gz_iconst (pc := 633) (v := (1 : Int32)) hX dX6_init_633 (by decide) kk) rfl ?_
  refine gz_Vs (fun _ kk => gz_bipush (pc := 634) (v := (110 : Int32)) hX dX6_init_634 (by decide) kk) rfl ?_
  obtain ⟨g36, h⟩ := gz_gu h
  obtain ⟨g37, h⟩ := gz_gu h
  obtain ⟨m38, em38, h⟩ := gz_lt h
  refine gz_Vs (fun _ kk => gz_cast2 (pc := 636) (c := (gZ m30)) (n := gN m35 (gZ m30)) hX rfl (fun _ => ⟨g36.1, rfl⟩) g36.2 g37 dX6_init_636 em38 kk) (by rw [em38]; rfl) ?_
  refine gz_Vs (fun _ kk => gz_dup (pc := 637) hX dX6_init_637 rfl kk) rfl ?_
  refine gz_Vs (fun _ kk => gz_iconst (pc := 638) (v := (2 : Int32)) hX dX6_init_638 (by decide) kk) rfl ?_
  refine gz_Vs (fun _ kk => gz_bipush (pc := 639) (v := (100 : Int32)) hX dX6_init_639 (by decide) kk) rfl ?_
  obtain ⟨g39, h⟩ := gz_gu h
  obtain ⟨g40, h⟩ := gz_gu h
  obtain ⟨m41, em41, h⟩ := gz_lt h
  refine gz_Vs (fun _ kk => gz_cast2 (pc := 641) (c := (gZ m30)) (n := gN m38 (gZ m30)) hX rfl (fun _ => ⟨g39.1, rfl⟩) g39.2 g40 dX6_init_641 em41 kk) (by rw [em41]; rfl) ?_
  obtain ⟨g42, h⟩ := gz_gu h
  obtain ⟨g43, h⟩ := gz_gu h
  obtain ⟨g44, h⟩ := gz_gu h
  obtain ⟨m45, em45, h⟩ := gz_lt h
  refine gz_Vs (fun _ kk => Rcp_X6_81_0 (pc := 642) hX hn0 (c := c0) (fun _ => g42) g43 g44 dX6_init_642 em45 kk) (by rw [em45]; rfl) ?_
  exact Rwb_X6_init_645 hX hn0 h hk
noncomputable def Rmj_X6_init_509 (c0 : Nat) (m : gM) : Option (Unit × gM) :=
  (if 0 ≤ (6 : Int32) ∧ gz_ix (6 : Int32) * 2 ≤ 536870912 ∧ gZ m ≠ 0 then gz_let (gz_al m (2 + 101) (gz_ix (6 : Int32)) (gz_ix (6 : Int32))) fun m2 => (if gK m2 (gZ m) = 103 ∧ 1000 ≤ (gZ m) then (if gz_in (0 : Int32) (gN m2 (gZ m)) then gz_let (gz_sI m2 (gZ m) (gz_ix (0 : Int32)) ((110 : Int32).toUInt32.toUInt16.toUInt32.toInt32)) fun m5 => (if gK m5 (gZ m) = 103 ∧ 1000 ≤ (gZ m) then (if gz_in (1 : Int32) (gN m5 (gZ m)) then gz_let (gz_sI m5 (gZ m) (gz_ix (1 : Int32)) ((117 : Int32).toUInt32.toUInt16.toUInt32.toInt32)) fun m8 => (if gK m8 (gZ m) = 103 ∧ 1000 ≤ (gZ m) then (if gz_in (2 : Int32) (gN m8 (gZ m)) then gz_let (gz_sI m8 (gZ m) (gz_ix (2 : Int32)) ((109 : Int32).toUInt32.toUInt16.toUInt32.toInt32)) fun m11 => (if gK m11 (gZ m) = 103 ∧ 1000 ≤ (gZ m) then (if gz_in (3 : Int32) (gN m11 (gZ m)) then gz_let (gz_sI m11 (gZ m) (gz_ix (3 : Int32)) ((98 : Int32).toUInt32.toUInt16.toUInt32.toInt32)) fun m14 => (if gK m14 (gZ m) = 103 ∧ 1000 ≤ (gZ m) then (if gz_in (4 : Int32) (gN m14 (gZ m)) then gz_let (gz_sI m14 (gZ m) (gz_ix (4 : Int32)) ((101 : Int32).toUInt32.toUInt16.toUInt32.toInt32)) fun m17 => (if gK m17 (gZ m) = 103 ∧ 1000 ≤ (gZ m) then (if gz_in (5 : Int32) (gN m17 (gZ m)) then gz_let (gz_sI m17 (gZ m) (gz_ix (5 : Int32)) ((114 : Int32).toUInt32.toUInt16.toUInt32.toInt32)) fun m20 => (if gK m20 c0 = 1 then (if 1000 ≤ c0 then (if (gZ m) ≠ 0 then gz_let (gz_sP m20 c0 27 (gZ m)) fun m24 => (if 0 ≤ (5 : Int32) ∧ gz_ix (5 : Int32) * 2 ≤ 536870912 ∧ gZ m24 ≠ 0 then gz_let (gz_al m24 (2 + 101) (gz_ix (5 : Int32)) (gz_ix (5 : Int32))) fun m26 => (if gK m26 (gZ m24) = 103 ∧ 1000 ≤ (gZ m24) then (if gz_in (0 : Int32) (gN m26 (gZ m24)) then gz_let (gz_sI m26 (gZ m24) (gz_ix (0 : Int32)) ((112 : Int32).toUInt32.toUInt16.toUInt32.toInt32)) fun m29 => (if gK m29 (gZ m24) = 103 ∧ 1000 ≤ (gZ m24) then (if gz_in (1 : Int32) (gN m29 (gZ m24)) then gz_let (gz_sI m29 (gZ m24) (gz_ix (1 : Int32)) ((108 : Int32).toUInt32.toUInt16.toUInt32.toInt32)) fun m32 => (if gK m32 (gZ m24) = 103 ∧ 1000 ≤ (gZ m24) then (if gz_in (2 : Int32) (gN m32 (gZ m24)) then gz_let (gz_sI m32 (gZ m24) (gz_ix (2 : Int32)) ((97 : Int32).toUInt32.toUInt16.toUInt32.toInt32)) fun m35 => (if gK m35 (gZ m24) = 103 ∧ 1000 ≤ (gZ m24) then (if gz_in (3 : Int32) (gN m35 (gZ m24)) then gz_let (gz_sI m35 (gZ m24) (gz_ix (3 : Int32)) ((99 : Int32).toUInt32.toUInt16.toUInt32.toInt32)) fun m38 => (if gK m38 (gZ m24) = 103 ∧ 1000 ≤ (gZ m24) then (if gz_in (4 : Int32) (gN m38 (gZ m24)) then gz_let (gz_sI m38 (gZ m24) (gz_ix (4 : Int32)) ((101 : Int32).toUInt32.toUInt16.toUInt32.toInt32)) fun m41 => (if gK m41 c0 = 1 then (if 1000 ≤ c0 then (if (gZ m24) ≠ 0 then gz_let (gz_sP m41 c0 28 (gZ m24)) fun m45 => (Rmj_X6_init_579 c0 m45) else none) else none) else none) else none) else none) else none) else none) else none) else none) else none) else none) else none) else none) else none) else none) else none) else none) else none) else none) else none) else none) else none) else none) else none) else none) else none) else none) else none) else none) else none)
theorem Rwb_X6_init_509 {X : gz_X} {G : gz_G} {zE : Nat × Nat} (hX : gz_C mR X G cX6_init 1 RX6 1 20) (hn0 : X.2.2.2.2.2.2.2.2.1.name = "<init>") {c0 : Nat}  {m : gM} {z : (Unit × gM)} (h : Rmj_X6_init_509 c0 m = some z) (hk : (fun z : (Unit × gM) => gz_kVa mR X G 1 zE cX6_init z.2) z) : gz_Va mR X G 1 zE m 509 [(0, .ref (gz_ad G c0))] [] := by
  unfold Rmj_X6_init_509 at h
  refine gz_Vs (fun _ kk => gz_aload_n (pc := 509) hX dX6_init_509 rfl 0 rfl kk) rfl ?_
  refine gz_Vs (fun _ kk => gz_bipush (pc := 510) (v := (6 : Int32)) hX dX6_init_510 (by decide) kk) rfl ?_
  obtain ⟨g1, h⟩ := gz_gu h
  obtain ⟨m2, em2, h⟩ := gz_lt h
  refine gz_Vn (fun _ kk => gz_newa (pc := 512) (t := 2) (N := gz_ix (6 : Int32)) hX rfl rfl q726 rfl ⟨⟨g1.1, Nat.lt_succ_self _⟩, rfl⟩ g1.2.1 g1.2.2 (fun _ _ => trivial) dX6_init_512 em2 kk) em2 ?_
  refine gz_Vs (fun _ kk => gz_dup (pc := 514) hX dX6_init_514 rfl kk) rfl ?_
  refine gz_Vs (fun _ kk => gz_iconst (pc := 515) (v := (0 : Int32)) hX dX6_init_515 (by decide) kk) rfl ?_
  refine gz_Vs (fun _ kk => gz_bipush (pc := 516) (v := (110 : Int32)) hX dX6_init_516 (by decide) kk) rfl ?_
  obtain ⟨g3, h⟩ := gz_gu h
  obtain ⟨g4, h⟩ := gz_gu h
  obtain ⟨m5, em5, h⟩ := gz_lt h
  refine gz_Vs (fun _ kk => gz_cast2 (pc := 518) (c := (gZ m)) (n := gN m2 (gZ m)) hX rfl (fun _ => ⟨g3.1, rfl⟩) g3.2 g4 dX6_init_518 em5 kk) (by rw [em5]; rfl) ?_
  refine gz_Vs (fun _ kk => gz_dup (pc := 519) hX dX6_init_519 rfl kk) rfl ?_
  refine gz_Vs (fun _ kk => gz_iconst (pc := 520) (v := (1 : Int32)) hX dX6_init_520 (by decide) kk) rfl ?_
  refine gz_Vs (fun _ kk => gz_bipush (pc := 521) (v := (117 : Int32)) hX dX6_init_521 (by decide) kk) rfl ?_
  obtain ⟨g6, h⟩ := gz_gu h
  obtain ⟨g7, h⟩ := gz_gu h
  obtain ⟨m8, em8, h⟩ := gz_lt h
  refine gz_Vs (fun _ kk => gz_cast2 (pc := 523) (c := (gZ m)) (n := gN m5 (gZ m)) hX rfl (fun _ => ⟨g6.1, rfl⟩) g6.2 g7 dX6_init_523 em8 kk) (by rw [em8]; rfl) ?_
  refine gz_Vs (fun _ kk => gz_dup (pc := 524) hX dX6_init_524 rfl kk) rfl ?_
  refine gz_Vs (fun _ kk => gz_iconst (pc := 525) (v := (2 : Int32)) hX dX6_init_525 (by decide) kk) rfl ?_
  refine gz_Vs (fun _ kk => gz_bipush (pc := 526) (v := (109 : Int32)) hX dX6_init_526 (by decide) kk) rfl ?_
  obtain ⟨g9, h⟩ := gz_gu h
  obtain ⟨g10, h⟩ := gz_gu h
  obtain ⟨m11, em11, h⟩ := gz_lt h
  refine gz_Vs (fun _ kk => gz_cast2 (pc := 528) (c := (gZ m)) (n := gN m8 (gZ m)) hX rfl (fun _ => ⟨g9.1, rfl⟩) g9.2 g10 dX6_init_528 em11 kk) (by rw [em11]; rfl) ?_
  refine gz_Vs (fun _ kk => gz_dup (pc := 529) hX dX6_init_529 rfl kk) rfl ?_
  refine gz_Vs (fun _ kk => gz_iconst (pc := 530) (v := (3 : Int32)) hX dX6_init_530 (by decide) kk) rfl ?_
  refine gz_Vs (fun _ kk => gz_bipush (pc := 531) (v := (98 : Int32)) hX dX6_init_531 (by decide) kk) rfl ?_
  obtain ⟨g12, h⟩ := gz_gu h
  obtain ⟨g13, h⟩ := gz_gu h
  obtain ⟨m14, em14, h⟩ := gz_lt h
  refine gz_Vs (fun _ kk => gz_cast2 (pc := 533) (c := (gZ m)) (n := gN m11 (gZ m)) hX rfl (fun _ => ⟨g12.1, rfl⟩) g12.2 g13 dX6_init_533 em14 kk) (by rw [em14]; rfl) ?_
  refine gz_Vs (fun _ kk => gz_dup (pc := 534) hX dX6_init_534 rfl kk) rfl ?_
  refine gz_Vs (fun _ kk => gz_iconst (pc := 535) (v := (4 : Int32)) hX dX6_init_535 (by decide) kk) rfl ?_
  refine gz_Vs (fun _ kk => gz_bipush (pc := 536) (v := (101 : Int32)) hX dX6_init_536 (by decide) kk) rfl ?_
  obtain ⟨g15, h⟩ := gz_gu h
  obtain ⟨g16, h⟩ := gz_gu h
  obtain ⟨m17, em17, h⟩ := gz_lt h
  refine gz_Vs (fun _ kk => gz_cast2 (pc := 538) (c := (gZ m)) (n := gN m14 (gZ m)) hX rfl (fun _ => ⟨g15.1, rfl⟩) g15.2 g16 dX6_init_538 em17 kk) (by rw [em17]; rfl) ?_
  refine gz_Vs (fun _ kk => gz_dup (pc := 539) hX dX6_init_539 rfl kk) rfl ?_
  refine gz_Vs (fun _ kk => gz_iconst (pc := 540) (v := (5 : Int32)) hX dX6_init_540 (by decide) kk) rfl ?_
  refine gz_Vs (fun _ kk => gz_bipush (pc := 541) (v := (114 : Int32)) hX dX6_init_541 (by decide) kk) rfl ?_
  obtain ⟨g18, h⟩ := gz_gu h
  obtain ⟨g19, h⟩ := gz_gu h
  obtain ⟨m20, em20, h⟩ := gz_lt h
  refine gz_Vs (fun _ kk => gz_cast2 (pc := 543) (c := (gZ m)) (n := gN m17 (gZ m)) hX rfl (fun _ => ⟨g18.1, rfl⟩) g18.2 g19 dX6_init_543 em20 kk) (by rw [em20]; rfl) ?_
  obtain ⟨g21, h⟩ := gz_gu h
  obtain ⟨g22, h⟩ := gz_gu h
  obtain ⟨g23, h⟩ := gz_gu h
  obtain ⟨m24, em24, h⟩ := gz_lt h
  refine gz_Vs (fun _ kk => Rcp_X6_69_0 (pc := 544) hX hn0 (c := c0) (fun _ => g21) g22 g23 dX6_init_544 em24 kk) (by rw [em24]; rfl) ?_
  refine gz_Vs (fun _ kk => gz_aload_n (pc := 547) hX dX6_init_547 rfl 0 rfl kk) rfl ?_
  refine gz_Vs (fun _ kk => gz_iconst (pc := 548) (v := (5 : Int32)) hX dX6_init_548 (by decide) kk) rfl ?_
  obtain ⟨g25, h⟩ := gz_gu h
  obtain ⟨m26, em26, h⟩ := gz_lt h
  refine gz_Vn (fun _ kk => gz_newa (pc := 549) (t := 2) (N := gz_ix (5 : Int32)) hX rfl rfl q726 rfl ⟨⟨g25.1, Nat.lt_succ_self _⟩, rfl⟩ g25.2.1 g25.2.2 (fun _ _ => trivial) dX6_init_549 em26 kk) em26 ?_
  refine gz_Vs (fun _ kk => gz_dup (pc := 551) hX dX6_init_551 rfl kk) rfl ?_
  refine gz_Vs (fun _ kk => gz_iconst (pc := 552) (v := (0 : Int32)) hX dX6_init_552 (by decide) kk) rfl ?_
  refine gz_Vs (fun _ kk => gz_bipush (pc := 553) (v := (112 : Int32)) hX dX6_init_553 (by decide) kk) rfl ?_
  obtain ⟨g27, h⟩ := gz_gu h
  obtain ⟨g28, h⟩ := gz_gu h
  obtain ⟨m29, em29, h⟩ := gz_lt h
  refine gz_Vs (fun _ kk => gz_cast2 (pc := 555) (c := (gZ m24)) (n := gN m26 (gZ m24)) hX rfl (fun _ => ⟨g27.1, rfl⟩) g27.2 g28 dX6_init_555 em29 kk) (by rw [em29]; rfl) ?_
  refine gz_Vs (fun _ kk => gz_dup (pc := 556) hX dX6_init_556 rfl kk) rfl ?_
  refine gz_Vs (fun _ kk => gz_iconst (pc := 557) (v := (1 : Int32)) hX dX6_init_557 (by decide) kk) rfl ?_
  refine gz_Vs (fun _ kk => gz_bipush (pc := 558) (v := (108 : Int32)) hX dX6_init_558 (by decide) kk) rfl ?_
  obtain ⟨g30, h⟩ := gz_gu h
  obtain ⟨g31, h⟩ := gz_gu h
  obtain ⟨m32, em32, h⟩ := gz_lt h
  refine gz_Vs (fun _ kk => gz_cast2 (pc := 560) (c := (gZ m24)) (n := gN m29 (gZ m24)) hX rfl (fun _ => ⟨g30.1, rfl⟩) g30.2 g31 dX6_init_560 em32 kk) (by rw [em32]; rfl) ?_
  refine gz_Vs (fun _ kk => gz_dup (pc := 561) hX dX6_init_561 rfl kk) rfl ?_
  refine gz_Vs (fun _ kk => gz_iconst (pc := 562) (v := (2 : Int32)) hX dX6_init_562 (by decide) kk) rfl ?_
  refine gz_Vs (fun _ kk => gz_bipush (pc := 563) (v := (97 : Int32)) hX dX6_init_563 (by decide) kk) rfl ?_
  obtain ⟨g33, h⟩ := gz_gu h
  obtain ⟨g34, h⟩ := gz_gu h
  obtain ⟨m35, em35, h⟩ := gz_lt h
  refine gz_Vs (fun _ kk => gz_cast2 (pc := 565) (c := (gZ m24)) (n := gN m32 (gZ m24)) hX rfl (fun _ => ⟨g33.1, rfl⟩) g33.2 g34 dX6_init_565 em35 kk) (by rw [em35]; rfl) ?_
  refine gz_Vs (fun _ kk => gz_dup (pc := 566) hX dX6_init_566 rfl kk) rfl ?_
  refine gz_Vs (fun _ kk => gz_iconst (pc := 567) (v := (3 : Int32)) hX dX6_init_567 (by decide) kk) rfl ?_
  refine gz_Vs (fun _ kk => gz_bipush (pc := 568) (v := (99 : Int32)) hX dX6_init_568 (by decide) kk) rfl ?_
  obtain ⟨g36, h⟩ := gz_gu h
  obtain ⟨g37, h⟩ := gz_gu h
  obtain ⟨m38, em38, h⟩ := gz_lt h
  refine gz_Vs (fun _ kk => gz_cast2 (pc := 570) (c := (gZ m24)) (n := gN m35 (gZ m24)) hX rfl (fun _ => ⟨g36.1, rfl⟩) g36.2 g37 dX6_init_570 em38 kk) (by rw [em38]; rfl) ?_
  refine gz_Vs (fun _ kk => gz_dup (pc := 571) hX dX6_init_571 rfl kk) rfl ?_
  refine gz_Vs (fun _ kk => gz_iconst (pc := 572) (v := (4 : Int32)) hX dX6_init_572 (by decide) kk) rfl ?_
  refine gz_Vs (fun _ kk => gz_bipush (pc := 573) (v := (101 : Int32)) hX dX6_init_573 (by decide) kk) rfl ?_
  obtain ⟨g39, h⟩ := gz_gu h
  obtain ⟨g40, h⟩ := gz_gu h
  obtain ⟨m41, em41, h⟩ := gz_lt h
  refine gz_Vs (fun _ kk => gz_cast2 (pc := 575) (c := (gZ m24)) (n := gN m38 (gZ m24)) hX rfl (fun _ => ⟨g39.1, rfl⟩) g39.2 g40 dX6_init_575 em41 kk) (by rw [em41]; rfl) ?_
  obtain ⟨g42, h⟩ := gz_gu h
  obtain ⟨g43, h⟩ := gz_gu h
  obtain ⟨g44, h⟩ := gz_gu h
  obtain ⟨m45, em45, h⟩ := gz_lt h
  refine gz_Vs (fun _ kk => Rcp_X6_72_0 (pc := 576) hX hn0 (c := c0) (fun _ => g42) g43 g44 dX6_init_576 em45 kk) (by rw [em45]; rfl) ?_
  exact Rwb_X6_init_579 hX hn0 h hk
noncomputable def Rmj_X6_init_450 (c0 : Nat) (m : gM) : Option (Unit × gM) :=
  (if 0 ≤ (4 : Int32) ∧ gz_ix (4 : Int32) * 2 ≤ 536870912 ∧ gZ m ≠ 0 then gz_let (gz_al m (2 + 101) (gz_ix (4 : Int32)) (gz_ix (4 : Int32))) fun m2 => (if gK m2 (gZ m) = 103 ∧ 1000 ≤ (gZ m) then (if gz_in (0 : Int32) (gN m2 (gZ m)) then gz_let (gz_sI m2 (gZ m) (gz_ix (0 : Int32)) ((104 : Int32).toUInt32.toUInt16.toUInt32.toInt32)) fun m5 => (if gK m5 (gZ m) = 103 ∧ 1000 ≤ (gZ m) then (if gz_in (1 : Int32) (gN m5 (gZ m)) then gz_let (gz_sI m5 (gZ m) (gz_ix (1 : Int32)) ((111 : Int32).toUInt32.toUInt16.toUInt32.toInt32)) fun m8 => (if gK m8 (gZ m) = 103 ∧ 1000 ≤ (gZ m) then (if gz_in (2 : Int32) (gN m8 (gZ m)) then gz_let (gz_sI m8 (gZ m) (gz_ix (2 : Int32)) ((117 : Int32).toUInt32.toUInt16.toUInt32.toInt32)) fun m11 => (if gK m11 (gZ m) = 103 ∧ 1000 ≤ (gZ m) then (if gz_in (3 : Int32) (gN m11 (gZ m)) then gz_let (gz_sI m11 (gZ m) (gz_ix (3 : Int32)) ((114 : Int32).toUInt32.toUInt16.toUInt32.toInt32)) fun m14 => (if gK m14 c0 = 1 then (if 1000 ≤ c0 then (if (gZ m) ≠ 0 then gz_let (gz_sP m14 c0 25 (gZ m)) fun m18 => (if 0 ≤ (5 : Int32) ∧ gz_ix (5 : Int32) * 2 ≤ 536870912 ∧ gZ m18 ≠ 0 then gz_let (gz_al m18 (2 + 101) (gz_ix (5 : Int32)) (gz_ix (5 : Int32))) fun m20 => (if gK m20 (gZ m18) = 103 ∧ 1000 ≤ (gZ m18) then (if gz_in (0 : Int32) (gN m20 (gZ m18)) then gz_let (gz_sI m20 (gZ m18) (gz_ix (0 : Int32)) ((115 : Int32).toUInt32.toUInt16.toUInt32.toInt32)) fun m23 => (if gK m23 (gZ m18) = 103 ∧ 1000 ≤ (gZ m18) then (if gz_in (1 : Int32) (gN m23 (gZ m18)) then gz_let (gz_sI m23 (gZ m18) (gz_ix (1 : Int32)) ((109 : Int32).toUInt32.toUInt16.toUInt32.toInt32)) fun m26 => (if gK m26 (gZ m18) = 103 ∧ 1000 ≤ (gZ m18) then (if gz_in (2 : Int32) (gN m26 (gZ m18)) then gz_let (gz_sI m26 (gZ m18) (gz_ix (2 : Int32)) ((101 : Int32).toUInt32.toUInt16.toUInt32.toInt32)) fun m29 => (if gK m29 (gZ m18) = 103 ∧ 1000 ≤ (gZ m18) then (if gz_in (3 : Int32) (gN m29 (gZ m18)) then gz_let (gz_sI m29 (gZ m18) (gz_ix (3 : Int32)) ((108 : Int32).toUInt32.toUInt16.toUInt32.toInt32)) fun m32 => (if gK m32 (gZ m18) = 103 ∧ 1000 ≤ (gZ m18) then (if gz_in (4 : Int32) (gN m32 (gZ m18)) then gz_let (gz_sI m32 (gZ m18) (gz_ix (4 : Int32)) ((108 : Int32).toUInt32.toUInt16.toUInt32.toInt32)) fun m35 => (if gK m35 c0 = 1 then (if 1000 ≤ c0 then (if (gZ m18) ≠ 0 then gz_let (gz_sP m35 c0 26 (gZ m18)) fun m39 => (Rmj_X6_init_509 c0 m39) else none) else none) else none) else none) else none) else none) else none) else none) else none) else none) else none) else none) else none) else none) else none) else none) else none) else none) else none) else none) else none) else none) else none) else none) else none) else none)
theorem Rwb_X6_init_450 {X : gz_X} {G : gz_G} {zE : Nat × Nat} (hX : gz_C mR X G cX6_init 1 RX6 1 20) (hn0 : X.2.2.2.2.2.2.2.2.1.name = "<init>") {c0 : Nat}  {m : gM} {z : (Unit × gM)} (h : Rmj_X6_init_450 c0 m = some z) (hk : (fun z : (Unit × gM) => gz_kVa mR X G 1 zE cX6_init z.2) z) : gz_Va mR X G 1 zE m 450 [(0, .ref (gz_ad G c0))] [] := by
  unfold Rmj_X6_init_450 at h
  refine gz_Vs (fun _ kk => gz_aload_n (pc := 450) hX dX6_init_450 rfl 0 rfl kk) rfl ?_
  refine gz_Vs (fun _ kk => gz_iconst (pc := 451) (v := (4 : Int32)) hX dX6_init_451 (by decide) kk) rfl ?_
  obtain ⟨g1, h⟩ := gz_gu h
  obtain ⟨m2, em2, h⟩ := gz_lt h
  refine gz_Vn (fun _ kk => gz_newa (pc := 452) (t := 2) (N := gz_ix (4 : Int32)) hX rfl rfl q726 rfl ⟨⟨g1.1, Nat.lt_succ_self _⟩, rfl⟩ g1.2.1 g1.2.2 (fun _ _ => trivial) dX6_init_452 em2 kk) em2 ?_
  refine gz_Vs (fun _ kk => gz_dup (pc := 454) hX dX6_init_454 rfl kk) rfl ?_
  refine gz_Vs (fun _ kk => gz_iconst (pc := 455) (v := (0 : Int32)) hX dX6_init_455 (by decide) kk) rfl ?_
  refine gz_Vs (fun _ kk => gz_bipush (pc := 456) (v := (104 : Int32)) hX dX6_init_456 (by decide) kk) rfl ?_
  obtain ⟨g3, h⟩ := gz_gu h
  obtain ⟨g4, h⟩ := gz_gu h
  obtain ⟨m5, em5, h⟩ := gz_lt h
  refine gz_Vs (fun _ kk => gz_cast2 (pc := 458) (c := (gZ m)) (n := gN m2 (gZ m)) hX rfl (fun _ => ⟨g3.1, rfl⟩) g3.2 g4 dX6_init_458 em5 kk) (by rw [em5]; rfl) ?_
  refine gz_Vs (fun _ kk => gz_dup (pc := 459) hX dX6_init_459 rfl kk) rfl ?_
  refine gz_Vs (fun _ kk => gz_iconst (pc := 460) (v := (1 : Int32)) hX dX6_init_460 (by decide) kk) rfl ?_
  refine gz_Vs (fun _ kk => gz_bipush (pc := 461) (v := (111 : Int32)) hX dX6_init_461 (by decide) kk) rfl ?_
  obtain ⟨g6, h⟩ := gz_gu h
  obtain ⟨g7, h⟩ := gz_gu h
  obtain ⟨m8, em8, h⟩ := gz_lt h
  refine gz_Vs (fun _ kk => gz_cast2 (pc := 463) (c := (gZ m)) (n := gN m5 (gZ m)) hX rfl (fun _ => ⟨g6.1, rfl⟩) g6.2 g7 dX6_init_463 em8 kk) (by rw [em8]; rfl) ?_
  refine gz_Vs (fun _ kk => gz_dup (pc := 464) hX dX6_init_464 rfl kk) rfl ?_
  refine gz_Vs (fun _ kk => gz_iconst (pc := 465) (v := (2 : Int32)) hX dX6_init_465 (by decide) kk) rfl ?_
  refine gz_Vs (fun _ kk => gz_bipush (pc := 466) (v := (117 : Int32)) hX dX6_init_466 (by decide) kk) rfl ?_
  obtain ⟨g9, h⟩ := gz_gu h
  obtain ⟨g10, h⟩ := gz_gu h
  obtain ⟨m11, em11, h⟩ := gz_lt h
  refine gz_Vs (fun _ kk => gz_cast2 (pc := 468) (c := (gZ m)) (n := gN m8 (gZ m)) hX rfl (fun _ => ⟨g9.1, rfl⟩) g9.2 g10 dX6_init_468 em11 kk) (by rw [em11]; rfl) ?_
  refine gz_Vs (fun _ kk => gz_dup (pc := 469) hX dX6_init_469 rfl kk) rfl ?_
  refine gz_Vs (fun _ kk => gz_iconst (pc := 470) (v := (3 : Int32)) hX dX6_init_470 (by decide) kk) rfl ?_
  refine gz_Vs (fun _ kk => gz_bipush (pc := 471) (v := (114 : Int32)) hX dX6_init_471 (by decide) kk) rfl ?_
  obtain ⟨g12, h⟩ := gz_gu h
  obtain ⟨g13, h⟩ := gz_gu h
  obtain ⟨m14, em14, h⟩ := gz_lt h
  refine gz_Vs (fun _ kk => gz_cast2 (pc := 473) (c := (gZ m)) (n := gN m11 (gZ m)) hX rfl (fun _ => ⟨g12.1, rfl⟩) g12.2 g13 dX6_init_473 em14 kk) (by rw [em14]; rfl) ?_
  obtain ⟨g15, h⟩ := gz_gu h
  obtain ⟨g16, h⟩ := gz_gu h
  obtain ⟨g17, h⟩ := gz_gu h
  obtain ⟨m18, em18, h⟩ := gz_lt h
  refine gz_Vs (fun _ kk => Rcp_X6_63_0 (pc := 474) hX hn0 (c := c0) (fun _ => g15) g16 g17 dX6_init_474 em18 kk) (by rw [em18]; rfl) ?_
  refine gz_Vs (fun _ kk => gz_aload_n (pc := 477) hX dX6_init_477 rfl 0 rfl kk) rfl ?_
  refine gz_Vs (fun _ kk => gz_iconst (pc := 478) (v := (5 : Int32)) hX dX6_init_478 (by decide) kk) rfl ?_
  obtain ⟨g19, h⟩ := gz_gu h
  obtain ⟨m20, em20, h⟩ := gz_lt h
  refine gz_Vn (fun _ kk => gz_newa (pc := 479) (t := 2) (N := gz_ix (5 : Int32)) hX rfl rfl q726 rfl ⟨⟨g19.1, Nat.lt_succ_self _⟩, rfl⟩ g19.2.1 g19.2.2 (fun _ _ => trivial) dX6_init_479 em20 kk) em20 ?_
  refine gz_Vs (fun _ kk => gz_dup (pc := 481) hX dX6_init_481 rfl kk) rfl ?_
  refine gz_Vs (fun _ kk => gz_iconst (pc := 482) (v := (0 : Int32)) hX dX6_init_482 (by decide) kk) rfl ?_
  refine gz_Vs (fun _ kk => gz_bipush (pc := 483) (v := (115 : Int32)) hX dX6_init_483 (by decide) kk) rfl ?_
  obtain ⟨g21, h⟩ := gz_gu h
  obtain ⟨g22, h⟩ := gz_gu h
  obtain ⟨m23, em23, h⟩ := gz_lt h
  refine gz_Vs (fun _ kk => gz_cast2 (pc := 485) (c := (gZ m18)) (n := gN m20 (gZ m18)) hX rfl (fun _ => ⟨g21.1, rfl⟩) g21.2 g22 dX6_init_485 em23 kk) (by rw [em23]; rfl) ?_
  refine gz_Vs (fun _ kk => gz_dup (pc := 486) hX dX6_init_486 rfl kk) rfl ?_
  refine gz_Vs (fun _ kk => gz_iconst (pc := 487) (v := (1 : Int32)) hX dX6_init_487 (by decide) kk) rfl ?_
  refine gz_Vs (fun _ kk => gz_bipush (pc := 488) (v := (109 : Int32)) hX dX6_init_488 (by decide) kk) rfl ?_
  obtain ⟨g24, h⟩ := gz_gu h
  obtain ⟨g25, h⟩ := gz_gu h
  obtain ⟨m26, em26, h⟩ := gz_lt h
  refine gz_Vs (fun _ kk => gz_cast2 (pc := 490) (c := (gZ m18)) (n := gN m23 (gZ m18)) hX rfl (fun _ => ⟨g24.1, rfl⟩) g24.2 g25 dX6_init_490 em26 kk) (by rw [em26]; rfl) ?_
  refine gz_Vs (fun _ kk => gz_dup (pc := 491) hX dX6_init_491 rfl kk) rfl ?_
  refine gz_Vs (fun _ kk => gz_iconst (pc := 492) (v := (2 : Int32)) hX dX6_init_492 (by decide) kk) rfl ?_
  refine gz_Vs (fun _ kk => gz_bipush (pc := 493) (v := (101 : Int32)) hX dX6_init_493 (by decide) kk) rfl ?_
  obtain ⟨g27, h⟩ := gz_gu h
  obtain ⟨g28, h⟩ := gz_gu h
  obtain ⟨m29, em29, h⟩ := gz_lt h
  refine gz_Vs (fun _ kk => gz_cast2 (pc := 495) (c := (gZ m18)) (n := gN m26 (gZ m18)) hX rfl (fun _ => ⟨g27.1, rfl⟩) g27.2 g28 dX6_init_495 em29 kk) (by rw [em29]; rfl) ?_
  refine gz_Vs (fun _ kk => gz_dup (pc := 496) hX dX6_init_496 rfl kk) rfl ?_
  refine gz_Vs (fun _ kk => gz_iconst (pc := 497) (v := (3 : Int32)) hX dX6_init_497 (by decide) kk) rfl ?_
  refine gz_Vs (fun _ kk => gz_bipush (pc := 498) (v := (108 : Int32)) hX dX6_init_498 (by decide) kk) rfl ?_
  obtain ⟨g30, h⟩ := gz_gu h
  obtain ⟨g31, h⟩ := gz_gu h
  obtain ⟨m32, em32, h⟩ := gz_lt h
  refine gz_Vs (fun _ kk => gz_cast2 (pc := 500) (c := (gZ m18)) (n := gN m29 (gZ m18)) hX rfl (fun _ => ⟨g30.1, rfl⟩) g30.2 g31 dX6_init_500 em32 kk) (by rw [em32]; rfl) ?_
  refine gz_Vs (fun _ kk => gz_dup (pc := 501) hX dX6_init_501 rfl kk) rfl ?_
  refine gz_Vs (fun _ kk => gz_iconst (pc := 502) (v := (4 : Int32)) hX dX6_init_502 (by decide) kk) rfl ?_
  refine gz_Vs (fun _ kk => gz_bipush (pc := 503) (v := (108 : Int32)) hX dX6_init_503 (by decide) kk) rfl ?_
  obtain ⟨g33, h⟩ := gz_gu h
  obtain ⟨g34, h⟩ := gz_gu h
  obtain ⟨m35, em35, h⟩ := gz_lt h
  refine gz_Vs (fun _ kk => gz_cast2 (pc := 505) (c := (gZ m18)) (n := gN m32 (gZ m18)) hX rfl (fun _ => ⟨g33.1, rfl⟩) g33.2 g34 dX6_init_505 em35 kk) (by rw [em35]; rfl) ?_
  obtain ⟨g36, h⟩ := gz_gu h
  obtain ⟨g37, h⟩ := gz_gu h
  obtain ⟨g38, h⟩ := gz_gu h
  obtain ⟨m39, em39, h⟩ := gz_lt h
  refine gz_Vs (fun _ kk => Rcp_X6_66_0 (pc := 506) hX hn0 (c := c0) (fun _ => g36) g37 g38 dX6_init_506 em39 kk) (by rw [em39]; rfl) ?_
  exact Rwb_X6_init_509 hX hn0 h hk
noncomputable def Rmj_X6_init_373 (c0 : Nat) (m : gM) : Option (Unit × gM) :=
  (if 0 ≤ (8 : Int32) ∧ gz_ix (8 : Int32) * 2 ≤ 536870912 ∧ gZ m ≠ 0 then gz_let (gz_al m (2 + 101) (gz_ix (8 : Int32)) (gz_ix (8 : Int32))) fun m2 => (if gK m2 (gZ m) = 103 ∧ 1000 ≤ (gZ m) then (if gz_in (0 : Int32) (gN m2 (gZ m)) then gz_let (gz_sI m2 (gZ m) (gz_ix (0 : Int32)) ((115 : Int32).toUInt32.toUInt16.toUInt32.toInt32)) fun m5 => (if gK m5 (gZ m) = 103 ∧ 1000 ≤ (gZ m) then (if gz_in (1 : Int32) (gN m5 (gZ m)) then gz_let (gz_sI m5 (gZ m) (gz_ix (1 : Int32)) ((116 : Int32).toUInt32.toUInt16.toUInt32.toInt32)) fun m8 => (if gK m8 (gZ m) = 103 ∧ 1000 ≤ (gZ m) then (if gz_in (2 : Int32) (gN m8 (gZ m)) then gz_let (gz_sI m8 (gZ m) (gz_ix (2 : Int32)) ((114 : Int32).toUInt32.toUInt16.toUInt32.toInt32)) fun m11 => (if gK m11 (gZ m) = 103 ∧ 1000 ≤ (gZ m) then (if gz_in (3 : Int32) (gN m11 (gZ m)) then gz_let (gz_sI m11 (gZ m) (gz_ix (3 : Int32)) ((101 : Int32).toUInt32.toUInt16.toUInt32.toInt32)) fun m14 => (if gK m14 (gZ m) = 103 ∧ 1000 ≤ (gZ m) then (if gz_in (4 : Int32) (gN m14 (gZ m)) then gz_let (gz_sI m14 (gZ m) (gz_ix (4 : Int32)) ((110 : Int32).toUInt32.toUInt16.toUInt32.toInt32)) fun m17 => (if gK m17 (gZ m) = 103 ∧ 1000 ≤ (gZ m) then (if gz_in (5 : Int32) (gN m17 (gZ m)) then gz_let (gz_sI m17 (gZ m) (gz_ix (5 : Int32)) ((103 : Int32).toUInt32.toUInt16.toUInt32.toInt32)) fun m20 => (if gK m20 (gZ m) = 103 ∧ 1000 ≤ (gZ m) then (if gz_in (6 : Int32) (gN m20 (gZ m)) then gz_let (gz_sI m20 (gZ m) (gz_ix (6 : Int32)) ((116 : Int32).toUInt32.toUInt16.toUInt32.toInt32)) fun m23 => (if gK m23 (gZ m) = 103 ∧ 1000 ≤ (gZ m) then (if gz_in (7 : Int32) (gN m23 (gZ m)) then gz_let (gz_sI m23 (gZ m) (gz_ix (7 : Int32)) ((104 : Int32).toUInt32.toUInt16.toUInt32.toInt32)) fun m26 => (if gK m26 c0 = 1 then (if 1000 ≤ c0 then (if (gZ m) ≠ 0 then gz_let (gz_sP m26 c0 23 (gZ m)) fun m30 => (if 0 ≤ (4 : Int32) ∧ gz_ix (4 : Int32) * 2 ≤ 536870912 ∧ gZ m30 ≠ 0 then gz_let (gz_al m30 (2 + 101) (gz_ix (4 : Int32)) (gz_ix (4 : Int32))) fun m32 => (if gK m32 (gZ m30) = 103 ∧ 1000 ≤ (gZ m30) then (if gz_in (0 : Int32) (gN m32 (gZ m30)) then gz_let (gz_sI m32 (gZ m30) (gz_ix (0 : Int32)) ((110 : Int32).toUInt32.toUInt16.toUInt32.toInt32)) fun m35 => (if gK m35 (gZ m30) = 103 ∧ 1000 ≤ (gZ m30) then (if gz_in (1 : Int32) (gN m35 (gZ m30)) then gz_let (gz_sI m35 (gZ m30) (gz_ix (1 : Int32)) ((101 : Int32).toUInt32.toUInt16.toUInt32.toInt32)) fun m38 => (if gK m38 (gZ m30) = 103 ∧ 1000 ≤ (gZ m30) then (if gz_in (2 : Int32) (gN m38 (gZ m30)) then gz_let (gz_sI m38 (gZ m30) (gz_ix (2 : Int32)) ((97 : Int32).toUInt32.toUInt16.toUInt32.toInt32)) fun m41 => (if gK m41 (gZ m30) = 103 ∧ 1000 ≤ (gZ m30) then (if gz_in (3 : Int32) (gN m41 (gZ m30)) then gz_let (gz_sI m41 (gZ m30) (gz_ix (3 : Int32)) ((114 : Int32).toUInt32.toUInt16.toUInt32.toInt32)) fun m44 => (if gK m44 c0 = 1 then (if 1000 ≤ c0 then (if (gZ m30) ≠ 0 then gz_let (gz_sP m44 c0 24 (gZ m30)) fun m48 => (Rmj_X6_init_450 c0 m48) else none) else none) else none) else none) else none) else none) else none) else none) else none) else none) else none) else none) else none) else none) else none) else none) else none) else none) else none) else none) else none) else none) else none) else none) else none) else none) else none) else none) else none) else none) else none) else none)
theorem Rwb_X6_init_373 {X : gz_X} {G : gz_G} {zE : Nat × Nat} (hX : gz_C mR X G cX6_init 1 RX6 1 20) (hn0 : X.2.2.2.2.2.2.2.2.1.name = "<init>") {c0 : Nat}  {m : gM} {z : (Unit × gM)} (h : Rmj_X6_init_373 c0 m = some z) (hk : (fun z : (Unit × gM) => gz_kVa mR X G 1 zE cX6_init z.2) z) : gz_Va mR X G 1 zE m 373 [(0, .ref (gz_ad G c0))] [] := by
  unfold Rmj_X6_init_373 at h
  refine gz_Vs (fun _ kk => gz_aload_n (pc := 373) hX dX6_init_373 rfl 0 rfl kk) rfl ?_
  refine gz_Vs (fun _ kk => gz_bipush (pc := 374) (v := (8 : Int32)) hX dX6_init_374 (by decide) kk) rfl ?_
  obtain ⟨g1, h⟩ := gz_gu h
  obtain ⟨m2, em2, h⟩ := gz_lt h
  refine gz_Vn (fun _ kk => gz_newa (pc := 376) (t := 2) (N := gz_ix (8 : Int32)) hX rfl rfl q726 rfl ⟨⟨g1.1, Nat.lt_succ_self _⟩, rfl⟩ g1.2.1 g1.2.2 (fun _ _ => trivial) dX6_init_376 em2 kk) em2 ?_
  refine gz_Vs (fun _ kk => gz_dup (pc := 378) hX dX6_init_378 rfl kk) rfl ?_
  refine gz_Vs (fun _ kk => gz_iconst (pc := 379) (v := (0 : Int32)) hX dX6_init_379 (by decide) kk) rfl ?_
  refine gz_Vs (fun _ kk => gz_bipush (pc := 380) (v := (115 : Int32)) hX dX6_init_380 (by decide) kk) rfl ?_
  obtain ⟨g3, h⟩ := gz_gu h
  obtain ⟨g4, h⟩ := gz_gu h
  obtain ⟨m5, em5, h⟩ := gz_lt h
  refine gz_Vs (fun _ kk => gz_cast2 (pc := 382) (c := (gZ m)) (n := gN m2 (gZ m)) hX rfl (fun _ => ⟨g3.1, rfl⟩) g3.2 g4 dX6_init_382 em5 kk) (by rw [em5]; rfl) ?_
  refine gz_Vs (fun _ kk => gz_dup (pc := 383) hX dX6_init_383 rfl kk) rfl ?_
  refine gz_Vs (fun _ kk => gz_iconst (pc := 384) (v := (1 : Int32)) hX dX6_init_384 (by decide) kk) rfl ?_
  refine gz_Vs (fun _ kk => gz_bipush (pc := 385) (v := (116 : Int32)) hX dX6_init_385 (by decide) kk) rfl ?_
  obtain ⟨g6, h⟩ := gz_gu h
  obtain ⟨g7, h⟩ := gz_gu h
  obtain ⟨m8, em8, h⟩ := gz_lt h
  refine gz_Vs (fun _ kk => gz_cast2 (pc := 387) (c := (gZ m)) (n := gN m5 (gZ m)) hX rfl (fun _ => ⟨g6.1, rfl⟩) g6.2 g7 dX6_init_387 em8 kk) (by rw [em8]; rfl) ?_
  refine gz_Vs (fun _ kk => gz_dup (pc := 388) hX dX6_init_388 rfl kk) rfl ?_
  refine gz_Vs (fun _ kk => gz_iconst (pc := 389) (v := (2 : Int32)) hX dX6_init_389 (by decide) kk) rfl ?_
  refine gz_Vs (fun _ kk => gz_bipush (pc := 390) (v := (114 : Int32)) hX dX6_init_390 (by decide) kk) rfl ?_
  obtain ⟨g9, h⟩ := gz_gu h
  obtain ⟨g10, h⟩ := gz_gu h
  obtain ⟨m11, em11, h⟩ := gz_lt h
  refine gz_Vs (fun _ kk => gz_cast2 (pc := 392) (c := (gZ m)) (n := gN m8 (gZ m)) hX rfl (fun _ => ⟨g9.1, rfl⟩) g9.2 g10 dX6_init_392 em11 kk) (by rw [em11]; rfl) ?_
  refine gz_Vs (fun _ kk => gz_dup (pc := 393) hX dX6_init_393 rfl kk) rfl ?_
  refine gz_Vs (fun _ kk => gz_iconst (pc := 394) (v := (3 : Int32)) hX dX6_init_394 (by decide) kk) rfl ?_
  refine gz_Vs (fun _ kk => gz_bipush (pc := 395) (v := (101 : Int32)) hX dX6_init_395 (by decide) kk) rfl ?_
  obtain ⟨g12, h⟩ := gz_gu h
  obtain ⟨g13, h⟩ := gz_gu h
  obtain ⟨m14, em14, h⟩ := gz_lt h
  refine gz_Vs (fun _ kk => gz_cast2 (pc := 397) (c := (gZ m)) (n := gN m11 (gZ m)) hX rfl (fun _ => ⟨g12.1, rfl⟩) g12.2 g13 dX6_init_397 em14 kk) (by rw [em14]; rfl) ?_
  refine gz_Vs (fun _ kk => gz_dup (pc := 398) hX dX6_init_398 rfl kk) rfl ?_
  refine gz_Vs (fun _ kk => gz_iconst (pc := 399) (v := (4 : Int32)) hX dX6_init_399 (by decide) kk) rfl ?_
  refine gz_Vs (fun _ kk => gz_bipush (pc := 400) (v := (110 : Int32)) hX dX6_init_400 (by decide) kk) rfl ?_
  obtain ⟨g15, h⟩ := gz_gu h
  obtain ⟨g16, h⟩ := gz_gu h
  obtain ⟨m17, em17, h⟩ := gz_lt h
  refine gz_Vs (fun _ kk => gz_cast2 (pc := 402) (c := (gZ m)) (n := gN m14 (gZ m)) hX rfl (fun _ => ⟨g15.1, rfl⟩) g15.2 g16 dX6_init_402 em17 kk) (by rw [em17]; rfl) ?_
  refine gz_Vs (fun _ kk => gz_dup (pc := 403) hX dX6_init_403 rfl kk) rfl ?_
  refine gz_Vs (fun _ kk => gz_iconst (pc := 404) (v := (5 : Int32)) hX dX6_init_404 (by decide) kk) rfl ?_
  refine gz_Vs (fun _ kk => gz_bipush (pc := 405) (v := (103 : Int32)) hX dX6_init_405 (by decide) kk) rfl ?_
  obtain ⟨g18, h⟩ := gz_gu h
  obtain ⟨g19, h⟩ := gz_gu h
  obtain ⟨m20, em20, h⟩ := gz_lt h
  refine gz_Vs (fun _ kk => gz_cast2 (pc := 407) (c := (gZ m)) (n := gN m17 (gZ m)) hX rfl (fun _ => ⟨g18.1, rfl⟩) g18.2 g19 dX6_init_407 em20 kk) (by rw [em20]; rfl) ?_
  refine gz_Vs (fun _ kk => gz_dup (pc := 408) hX dX6_init_408 rfl kk) rfl ?_
  refine gz_Vs (fun _ kk => gz_bipush (pc := 409) (v := (6 : Int32)) hX dX6_init_409 (by decide) kk) rfl ?_
  refine gz_Vs (fun _ kk => gz_bipush (pc := 411) (v := (116 : Int32)) hX dX6_init_411 (by decide) kk) rfl ?_
  obtain ⟨g21, h⟩ := gz_gu h
  obtain ⟨g22, h⟩ := gz_gu h
  obtain ⟨m23, em23, h⟩ := gz_lt h
  refine gz_Vs (fun _ kk => gz_cast2 (pc := 413) (c := (gZ m)) (n := gN m20 (gZ m)) hX rfl (fun _ => ⟨g21.1, rfl⟩) g21.2 g22 dX6_init_413 em23 kk) (by rw [em23]; rfl) ?_
  refine gz_Vs (fun _ kk => gz_dup (pc := 414) hX dX6_init_414 rfl kk) rfl ?_
  refine gz_Vs (fun _ kk => gz_bipush (pc := 415) (v := (7 : Int32)) hX dX6_init_415 (by decide) kk) rfl ?_
  refine gz_Vs (fun _ kk => gz_bipush (pc := 417) (v := (104 : Int32)) hX dX6_init_417 (by decide) kk) rfl ?_
  obtain ⟨g24, h⟩ := gz_gu h
  obtain ⟨g25, h⟩ := gz_gu h
  obtain ⟨m26, em26, h⟩ := gz_lt h
  refine gz_Vs (fun _ kk => gz_cast2 (pc := 419) (c := (gZ m)) (n := gN m23 (gZ m)) hX rfl (fun _ => ⟨g24.1, rfl⟩) g24.2 g25 dX6_init_419 em26 kk) (by rw [em26]; rfl) ?_
  obtain ⟨g27, h⟩ := gz_gu h
  obtain ⟨g28, h⟩ := gz_gu h
  obtain ⟨g29, h⟩ := gz_gu h
  obtain ⟨m30, em30, h⟩ := gz_lt h
  refine gz_Vs (fun _ kk => Rcp_X6_57_0 (pc := 420) hX hn0 (c := c0) (fun _ => g27) g28 g29 dX6_init_420 em30 kk) (by rw [em30]; rfl) ?_
  refine gz_Vs (fun _ kk => gz_aload_n (pc := 423) hX dX6_init_423 rfl 0 rfl kk) rfl ?_
  refine gz_Vs (fun _ kk => gz_iconst (pc := 424) (v := (4 : Int32)) hX dX6_init_424 (by decide) kk) rfl ?_
  obtain ⟨g31, h⟩ := gz_gu h
  obtain ⟨m32, em32, h⟩ := gz_lt h
  refine gz_Vn (fun _ kk => gz_newa (pc := 425) (t := 2) (N := gz_ix (4 : Int32)) hX rfl rfl q726 rfl ⟨⟨g31.1, Nat.lt_succ_self _⟩, rfl⟩ g31.2.1 g31.2.2 (fun _ _ => trivial) dX6_init_425 em32 kk) em32 ?_
  refine gz_Vs (fun _ kk => gz_dup (pc := 427) hX dX6_init_427 rfl kk) rfl ?_
  refine gz_Vs (fun _ kk => gz_iconst (pc := 428) (v := (0 : Int32)) hX dX6_init_428 (by decide) kk) rfl ?_
  refine gz_Vs (fun _ kk => gz_bipush (pc := 429) (v := (110 : Int32)) hX dX6_init_429 (by decide) kk) rfl ?_
  obtain ⟨g33, h⟩ := gz_gu h
  obtain ⟨g34, h⟩ := gz_gu h
  obtain ⟨m35, em35, h⟩ := gz_lt h
  refine gz_Vs (fun _ kk => gz_cast2 (pc := 431) (c := (gZ m30)) (n := gN m32 (gZ m30)) hX rfl (fun _ => ⟨g33.1, rfl⟩) g33.2 g34 dX6_init_431 em35 kk) (by rw [em35]; rfl) ?_
  refine gz_Vs (fun _ kk => gz_dup (pc := 432) hX dX6_init_432 rfl kk) rfl ?_
  refine gz_Vs (fun _ kk => gz_iconst (pc := 433) (v := (1 : Int32)) hX dX6_init_433 (by decide) kk) rfl ?_
  refine gz_Vs (fun _ kk => gz_bipush (pc := 434) (v := (101 : Int32)) hX dX6_init_434 (by decide) kk) rfl ?_
  obtain ⟨g36, h⟩ := gz_gu h
  obtain ⟨g37, h⟩ := gz_gu h
  obtain ⟨m38, em38, h⟩ := gz_lt h
  refine gz_Vs (fun _ kk => gz_cast2 (pc := 436) (c := (gZ m30)) (n := gN m35 (gZ m30)) hX rfl (fun _ => ⟨g36.1, rfl⟩) g36.2 g37 dX6_init_436 em38 kk) (by rw [em38]; rfl) ?_
  refine gz_Vs (fun _ kk => gz_dup (pc := 437) hX dX6_init_437 rfl kk) rfl ?_
  refine gz_Vs (fun _ kk => gz_iconst (pc := 438) (v := (2 : Int32)) hX dX6_init_438 (by decide) kk) rfl ?_
  refine gz_Vs (fun _ kk => gz_bipush (pc := 439) (v := (97 : Int32)) hX dX6_init_439 (by decide) kk) rfl ?_
  obtain ⟨g39, h⟩ := gz_gu h
  obtain ⟨g40, h⟩ := gz_gu h
  obtain ⟨m41, em41, h⟩ := gz_lt h
  refine gz_Vs (fun _ kk => gz_cast2 (pc := 441) (c := (gZ m30)) (n := gN m38 (gZ m30)) hX rfl (fun _ => ⟨g39.1, rfl⟩) g39.2 g40 dX6_init_441 em41 kk) (by rw [em41]; rfl) ?_
  refine gz_Vs (fun _ kk => gz_dup (pc := 442) hX dX6_init_442 rfl kk) rfl ?_
  refine gz_Vs (fun _ kk => gz_iconst (pc := 443) (v := (3 : Int32)) hX dX6_init_443 (by decide) kk) rfl ?_
  refine gz_Vs (fun _ kk => gz_bipush (pc := 444) (v := (114 : Int32)) hX dX6_init_444 (by decide) kk) rfl ?_
  obtain ⟨g42, h⟩ := gz_gu h
  obtain ⟨g43, h⟩ := gz_gu h
  obtain ⟨m44, em44, h⟩ := gz_lt h
  refine gz_Vs (fun _ kk => gz_cast2 (pc := 446) (c := (gZ m30)) (n := gN m41 (gZ m30)) hX rfl (fun _ => ⟨g42.1, rfl⟩) g42.2 g43 dX6_init_446 em44 kk) (by rw [em44]; rfl) ?_
  obtain ⟨g45, h⟩ := gz_gu h
  obtain ⟨g46, h⟩ := gz_gu h
  obtain ⟨g47, h⟩ := gz_gu h
  obtain ⟨m48, em48, h⟩ := gz_lt h
  refine gz_Vs (fun _ kk => Rcp_X6_60_0 (pc := 447) hX hn0 (c := c0) (fun _ => g45) g46 g47 dX6_init_447 em48 kk) (by rw [em48]; rfl) ?_
  exact Rwb_X6_init_450 hX hn0 h hk
noncomputable def Rmj_X6_init_297 (c0 : Nat) (m : gM) : Option (Unit × gM) :=
  (if 0 ≤ (5 : Int32) ∧ gz_ix (5 : Int32) * 2 ≤ 536870912 ∧ gZ m ≠ 0 then gz_let (gz_al m (2 + 101) (gz_ix (5 : Int32)) (gz_ix (5 : Int32))) fun m2 => (if gK m2 (gZ m) = 103 ∧ 1000 ≤ (gZ m) then (if gz_in (0 : Int32) (gN m2 (gZ m)) then gz_let (gz_sI m2 (gZ m) (gz_ix (0 : Int32)) ((109 : Int32).toUInt32.toUInt16.toUInt32.toInt32)) fun m5 => (if gK m5 (gZ m) = 103 ∧ 1000 ≤ (gZ m) then (if gz_in (1 : Int32) (gN m5 (gZ m)) then gz_let (gz_sI m5 (gZ m) (gz_ix (1 : Int32)) ((105 : Int32).toUInt32.toUInt16.toUInt32.toInt32)) fun m8 => (if gK m8 (gZ m) = 103 ∧ 1000 ≤ (gZ m) then (if gz_in (2 : Int32) (gN m8 (gZ m)) then gz_let (gz_sI m8 (gZ m) (gz_ix (2 : Int32)) ((110 : Int32).toUInt32.toUInt16.toUInt32.toInt32)) fun m11 => (if gK m11 (gZ m) = 103 ∧ 1000 ≤ (gZ m) then (if gz_in (3 : Int32) (gN m11 (gZ m)) then gz_let (gz_sI m11 (gZ m) (gz_ix (3 : Int32)) ((100 : Int32).toUInt32.toUInt16.toUInt32.toInt32)) fun m14 => (if gK m14 (gZ m) = 103 ∧ 1000 ≤ (gZ m) then (if gz_in (4 : Int32) (gN m14 (gZ m)) then gz_let (gz_sI m14 (gZ m) (gz_ix (4 : Int32)) ((115 : Int32).toUInt32.toUInt16.toUInt32.toInt32)) fun m17 => (if gK m17 c0 = 1 then (if 1000 ≤ c0 then (if (gZ m) ≠ 0 then gz_let (gz_sP m17 c0 21 (gZ m)) fun m21 => (if 0 ≤ (7 : Int32) ∧ gz_ix (7 : Int32) * 2 ≤ 536870912 ∧ gZ m21 ≠ 0 then gz_let (gz_al m21 (2 + 101) (gz_ix (7 : Int32)) (gz_ix (7 : Int32))) fun m23 => (if gK m23 (gZ m21) = 103 ∧ 1000 ≤ (gZ m21) then (if gz_in (0 : Int32) (gN m23 (gZ m21)) then gz_let (gz_sI m23 (gZ m21) (gz_ix (0 : Int32)) ((100 : Int32).toUInt32.toUInt16.toUInt32.toInt32)) fun m26 => (if gK m26 (gZ m21) = 103 ∧ 1000 ≤ (gZ m21) then (if gz_in (1 : Int32) (gN m26 (gZ m21)) then gz_let (gz_sI m26 (gZ m21) (gz_ix (1 : Int32)) ((114 : Int32).toUInt32.toUInt16.toUInt32.toInt32)) fun m29 => (if gK m29 (gZ m21) = 103 ∧ 1000 ≤ (gZ m21) then (if gz_in (2 : Int32) (gN m29 (gZ m21)) then gz_let (gz_sI m29 (gZ m21) (gz_ix (2 : Int32)) ((97 : Int32).toUInt32.toUInt16.toUInt32.toInt32)) fun m32 => (if gK m32 (gZ m21) = 103 ∧ 1000 ≤ (gZ m21) then (if gz_in (3 : Int32) (gN m32 (gZ m21)) then gz_let (gz_sI m32 (gZ m21) (gz_ix (3 : Int32)) ((117 : Int32).toUInt32.toUInt16.toUInt32.toInt32)) fun m35 => (if gK m35 (gZ m21) = 103 ∧ 1000 ≤ (gZ m21) then (if gz_in (4 : Int32) (gN m35 (gZ m21)) then gz_let (gz_sI m35 (gZ m21) (gz_ix (4 : Int32)) ((103 : Int32).toUInt32.toUInt16.toUInt32.toInt32)) fun m38 => (if gK m38 (gZ m21) = 103 ∧ 1000 ≤ (gZ m21) then (if gz_in (5 : Int32) (gN m38 (gZ m21)) then gz_let (gz_sI m38 (gZ m21) (gz_ix (5 : Int32)) ((104 : Int32).toUInt32.toUInt16.toUInt32.toInt32)) fun m41 => (if gK m41 (gZ m21) = 103 ∧ 1000 ≤ (gZ m21) then (if gz_in (6 : Int32) (gN m41 (gZ m21)) then gz_let (gz_sI m41 (gZ m21) (gz_ix (6 : Int32)) ((116 : Int32).toUInt32.toUInt16.toUInt32.toInt32)) fun m44 => (if gK m44 c0 = 1 then (if 1000 ≤ c0 then (if (gZ m21) ≠ 0 then gz_let (gz_sP m44 c0 22 (gZ m21)) fun m48 => (Rmj_X6_init_373 c0 m48) else none) else none) else none) else none) else none) else none) else none) else none) else none) else none) else none) else none) else none) else none) else none) else none) else none) else none) else none) else none) else none) else none) else none) else none) else none) else none) else none) else none) else none) else none) else none) else none)
theorem Rwb_X6_init_297 {X : gz_X} {G : gz_G} {zE : Nat × Nat} (hX : gz_C mR X G cX6_init 1 RX6 1 20) (hn0 : X.2.2.2.2.2.2.2.2.1.name = "<init>") {c0 : Nat}  {m : gM} {z : (Unit × gM)} (h : Rmj_X6_init_297 c0 m = some z) (hk : (fun z : (Unit × gM) => gz_kVa mR X G 1 zE cX6_init z.2) z) : gz_Va mR X G 1 zE m 297 [(0, .ref (gz_ad G c0))] [] := by
  unfold Rmj_X6_init_297 at h
  refine gz_Vs (fun _ kk => gz_aload_n (pc := 297) hX dX6_init_297 rfl 0 rfl kk) rfl ?_
  refine gz_Vs (fun _ kk => gz_iconst (pc := 298) (v := (5 : Int32)) hX dX6_init_298 (by decide) kk) rfl ?_
  obtain ⟨g1, h⟩ := gz_gu h
  obtain ⟨m2, em2, h⟩ := gz_lt h
  refine gz_Vn (fun _ kk => gz_newa (pc := 299) (t := 2) (N := gz_ix (5 : Int32)) hX rfl rfl q726 rfl ⟨⟨g1.1, Nat.lt_succ_self _⟩, rfl⟩ g1.2.1 g1.2.2 (fun _ _ => trivial) dX6_init_299 em2 kk) em2 ?_
  refine gz_Vs (fun _ kk => gz_dup (pc := 301) hX dX6_init_301 rfl kk) rfl ?_
  refine gz_Vs (fun _ kk => gz_iconst (pc := 302) (v := (0 : Int32)) hX dX6_init_302 (by decide) kk) rfl ?_
  refine gz_Vs (fun _ kk => gz_bipush (pc := 303) (v := (109 : Int32)) hX dX6_init_303 (by decide) kk) rfl ?_
  obtain ⟨g3, h⟩ := gz_gu h
  obtain ⟨g4, h⟩ := gz_gu h
  obtain ⟨m5, em5, h⟩ := gz_lt h
  refine gz_Vs (fun _ kk => gz_cast2 (pc := 305) (c := (gZ m)) (n := gN m2 (gZ m)) hX rfl (fun _ => ⟨g3.1, rfl⟩) g3.2 g4 dX6_init_305 em5 kk) (by rw [em5]; rfl) ?_
  refine gz_Vs (fun _ kk => gz_dup (pc := 306) hX dX6_init_306 rfl kk) rfl ?_
  refine gz_Vs (fun _ kk => gz_iconst (pc := 307) (v := (1 : Int32)) hX dX6_init_307 (by decide) kk) rfl ?_
  refine gz_Vs (fun _ kk => gz_bipush (pc := 308) (v := (105 : Int32)) hX dX6_init_308 (by decide) kk) rfl ?_
  obtain ⟨g6, h⟩ := gz_gu h
  obtain ⟨g7, h⟩ := gz_gu h
  obtain ⟨m8, em8, h⟩ := gz_lt h
  refine gz_Vs (fun _ kk => gz_cast2 (pc := 310) (c := (gZ m)) (n := gN m5 (gZ m)) hX rfl (fun _ => ⟨g6.1, rfl⟩) g6.2 g7 dX6_init_310 em8 kk) (by rw [em8]; rfl) ?_
  refine gz_Vs (fun _ kk => gz_dup (pc := 311) hX dX6_init_311 rfl kk) rfl ?_
  refine gz_Vs (fun _ kk => gz_iconst (pc := 312) (v := (2 : Int32)) hX dX6_init_312 (by decide) kk) rfl ?_
  refine gz_Vs (fun _ kk => gz_bipush (pc := 313) (v := (110 : Int32)) hX dX6_init_313 (by decide) kk) rfl ?_
  obtain ⟨g9, h⟩ := gz_gu h
  obtain ⟨g10, h⟩ := gz_gu h
  obtain ⟨m11, em11, h⟩ := gz_lt h
  refine gz_Vs (fun _ kk => gz_cast2 (pc := 315) (c := (gZ m)) (n := gN m8 (gZ m)) hX rfl (fun _ => ⟨g9.1, rfl⟩) g9.2 g10 dX6_init_315 em11 kk) (by rw [em11]; rfl) ?_
  refine gz_Vs (fun _ kk => gz_dup (pc := 316) hX dX6_init_316 rfl kk) rfl ?_
  refine gz_Vs (fun _ kk => gz_iconst (pc := 317) (v := (3 : Int32)) hX dX6_init_317 (by decide) kk) rfl ?_
  refine gz_Vs (fun _ kk => gz_bipush (pc := 318) (v := (100 : Int32)) hX dX6_init_318 (by decide) kk) rfl ?_
  obtain ⟨g12, h⟩ := gz_gu h
  obtain ⟨g13, h⟩ := gz_gu h
  obtain ⟨m14, em14, h⟩ := gz_lt h
  refine gz_Vs (fun _ kk => gz_cast2 (pc := 320) (c := (gZ m)) (n := gN m11 (gZ m)) hX rfl (fun _ => ⟨g12.1, rfl⟩) g12.2 g13 dX6_init_320 em14 kk) (by rw [em14]; rfl) ?_
  refine gz_Vs (fun _ kk => gz_dup (pc := 321) hX dX6_init_321 rfl kk) rfl ?_
  refine gz_Vs (fun _ kk => gz_iconst (pc := 322) (v := (4 : Int32)) hX dX6_init_322 (by decide) kk) rfl ?_
  refine gz_Vs (fun _ kk => gz_bipush (pc := 323) (v := (115 : Int32)) hX dX6_init_323 (by decide) kk) rfl ?_
  obtain ⟨g15, h⟩ := gz_gu h
  obtain ⟨g16, h⟩ := gz_gu h
  obtain ⟨m17, em17, h⟩ := gz_lt h
  refine gz_Vs (fun _ kk => gz_cast2 (pc := 325) (c := (gZ m)) (n := gN m14 (gZ m)) hX rfl (fun _ => ⟨g15.1, rfl⟩) g15.2 g16 dX6_init_325 em17 kk) (by rw [em17]; rfl) ?_
  obtain ⟨g18, h⟩ := gz_gu h
  obtain ⟨g19, h⟩ := gz_gu h
  obtain ⟨g20, h⟩ := gz_gu h
  obtain ⟨m21, em21, h⟩ := gz_lt h
  refine gz_Vs (fun _ kk => Rcp_X6_51_0 (pc := 326) hX hn0 (c := c0) (fun _ => g18) g19 g20 dX6_init_326 em21 kk) (by rw [em21]; rfl) ?_
  refine gz_Vs (fun _ kk => gz_aload_n (pc := 329) hX dX6_init_329 rfl 0 rfl kk) rfl ?_
  refine gz_Vs (fun _ kk => gz_bipush (pc := 330) (v := (7 : Int32)) hX dX6_init_330 (by decide) kk) rfl ?_
  obtain ⟨g22, h⟩ := gz_gu h
  obtain ⟨m23, em23, h⟩ := gz_lt h
  refine gz_Vn (fun _ kk => gz_newa (pc := 332) (t := 2) (N := gz_ix (7 : Int32)) hX rfl rfl q726 rfl ⟨⟨g22.1, Nat.lt_succ_self _⟩, rfl⟩ g22.2.1 g22.2.2 (fun _ _ => trivial) dX6_init_332 em23 kk) em23 ?_
  refine gz_Vs (fun _ kk => gz_dup (pc := 334) hX dX6_init_334 rfl kk) rfl ?_
  refine gz_Vs (fun _ kk => gz_iconst (pc := 335) (v := (0 : Int32)) hX dX6_init_335 (by decide) kk) rfl ?_
  refine gz_Vs (fun _ kk => gz_bipush (pc := 336) (v := (100 : Int32)) hX dX6_init_336 (by decide) kk) rfl ?_
  obtain ⟨g24, h⟩ := gz_gu h
  obtain ⟨g25, h⟩ := gz_gu h
  obtain ⟨m26, em26, h⟩ := gz_lt h
  refine gz_Vs (fun _ kk => gz_cast2 (pc := 338) (c := (gZ m21)) (n := gN m23 (gZ m21)) hX rfl (fun _ => ⟨g24.1, rfl⟩) g24.2 g25 dX6_init_338 em26 kk) (by rw [em26]; rfl) ?_
  refine gz_Vs (fun _ kk => gz_dup (pc := 339) hX dX6_init_339 rfl kk) rfl ?_
  refine gz_Vs (fun _ kk => gz_iconst (pc := 340) (v := (1 : Int32)) hX dX6_init_340 (by decide) kk) rfl ?_
  refine gz_Vs (fun _ kk => gz_bipush (pc := 341) (v := (114 : Int32)) hX dX6_init_341 (by decide) kk) rfl ?_
  obtain ⟨g27, h⟩ := gz_gu h
  obtain ⟨g28, h⟩ := gz_gu h
  obtain ⟨m29, em29, h⟩ := gz_lt h
  refine gz_Vs (fun _ kk => gz_cast2 (pc := 343) (c := (gZ m21)) (n := gN m26 (gZ m21)) hX rfl (fun _ => ⟨g27.1, rfl⟩) g27.2 g28 dX6_init_343 em29 kk) (by rw [em29]; rfl) ?_
  refine gz_Vs (fun _ kk => gz_dup (pc := 344) hX dX6_init_344 rfl kk) rfl ?_
  refine gz_Vs (fun _ kk => gz_iconst (pc := 345) (v := (2 : Int32)) hX dX6_init_345 (by decide) kk) rfl ?_
  refine gz_Vs (fun _ kk => gz_bipush (pc := 346) (v := (97 : Int32)) hX dX6_init_346 (by decide) kk) rfl ?_
  obtain ⟨g30, h⟩ := gz_gu h
  obtain ⟨g31, h⟩ := gz_gu h
  obtain ⟨m32, em32, h⟩ := gz_lt h
  refine gz_Vs (fun _ kk => gz_cast2 (pc := 348) (c := (gZ m21)) (n := gN m29 (gZ m21)) hX rfl (fun _ => ⟨g30.1, rfl⟩) g30.2 g31 dX6_init_348 em32 kk) (by rw [em32]; rfl) ?_
  refine gz_Vs (fun _ kk => gz_dup (pc := 349) hX dX6_init_349 rfl kk) rfl ?_
  refine gz_Vs (fun _ kk => gz_iconst (pc := 350) (v := (3 : Int32)) hX dX6_init_350 (by decide) kk) rfl ?_
  refine gz_Vs (fun _ kk => gz_bipush (pc := 351) (v := (117 : Int32)) hX dX6_init_351 (by decide) kk) rfl ?_
  obtain ⟨g33, h⟩ := gz_gu h
  obtain ⟨g34, h⟩ := gz_gu h
  obtain ⟨m35, em35, h⟩ := gz_lt h
  refine gz_Vs (fun _ kk => gz_cast2 (pc := 353) (c := (gZ m21)) (n := gN m32 (gZ m21)) hX rfl (fun _ => ⟨g33.1, rfl⟩) g33.2 g34 dX6_init_353 em35 kk) (by rw [em35]; rfl) ?_
  refine gz_Vs (fun _ kk => gz_dup (pc := 354) hX dX6_init_354 rfl kk) rfl ?_
  refine gz_Vs (fun _ kk => gz_iconst (pc := 355) (v := (4 : Int32)) hX dX6_init_355 (by decide) kk) rfl ?_
  refine gz_Vs (fun _ kk => gz_bipush (pc := 356) (v := (103 : Int32)) hX dX6_init_356 (by decide) kk) rfl ?_
  obtain ⟨g36, h⟩ := gz_gu h
  obtain ⟨g37, h⟩ := gz_gu h
  obtain ⟨m38, em38, h⟩ := gz_lt h
  refine gz_Vs (fun _ kk => gz_cast2 (pc := 358) (c := (gZ m21)) (n := gN m35 (gZ m21)) hX rfl (fun _ => ⟨g36.1, rfl⟩) g36.2 g37 dX6_init_358 em38 kk) (by rw [em38]; rfl) ?_
  refine gz_Vs (fun _ kk => gz_dup (pc := 359) hX dX6_init_359 rfl kk) rfl ?_
  refine gz_Vs (fun _ kk => gz_iconst (pc := 360) (v := (5 : Int32)) hX dX6_init_360 (by decide) kk) rfl ?_
  refine gz_Vs (fun _ kk => gz_bipush (pc := 361) (v := (104 : Int32)) hX dX6_init_361 (by decide) kk) rfl ?_
  obtain ⟨g39, h⟩ := gz_gu h
  obtain ⟨g40, h⟩ := gz_gu h
  obtain ⟨m41, em41, h⟩ := gz_lt h
  refine gz_Vs (fun _ kk => gz_cast2 (pc := 363) (c := (gZ m21)) (n := gN m38 (gZ m21)) hX rfl (fun _ => ⟨g39.1, rfl⟩) g39.2 g40 dX6_init_363 em41 kk) (by rw [em41]; rfl) ?_
  refine gz_Vs (fun _ kk => gz_dup (pc := 364) hX dX6_init_364 rfl kk) rfl ?_
  refine gz_Vs (fun _ kk => gz_bipush (pc := 365) (v := (6 : Int32)) hX dX6_init_365 (by decide) kk) rfl ?_
  refine gz_Vs (fun _ kk => gz_bipush (pc := 367) (v := (116 : Int32)) hX dX6_init_367 (by decide) kk) rfl ?_
  obtain ⟨g42, h⟩ := gz_gu h
  obtain ⟨g43, h⟩ := gz_gu h
  obtain ⟨m44, em44, h⟩ := gz_lt h
  refine gz_Vs (fun _ kk => gz_cast2 (pc := 369) (c := (gZ m21)) (n := gN m41 (gZ m21)) hX rfl (fun _ => ⟨g42.1, rfl⟩) g42.2 g43 dX6_init_369 em44 kk) (by rw [em44]; rfl) ?_
  obtain ⟨g45, h⟩ := gz_gu h
  obtain ⟨g46, h⟩ := gz_gu h
  obtain ⟨g47, h⟩ := gz_gu h
  obtain ⟨m48, em48, h⟩ := gz_lt h
  refine gz_Vs (fun _ kk => Rcp_X6_54_0 (pc := 370) hX hn0 (c := c0) (fun _ => g45) g46 g47 dX6_init_370 em48 kk) (by rw [em48]; rfl) ?_
  exact Rwb_X6_init_373 hX hn0 h hk
noncomputable def Rmj_X6_init_237 (c0 : Nat) (m : gM) : Option (Unit × gM) :=
  (if 0 ≤ (3 : Int32) ∧ gz_ix (3 : Int32) * 2 ≤ 536870912 ∧ gZ m ≠ 0 then gz_let (gz_al m (2 + 101) (gz_ix (3 : Int32)) (gz_ix (3 : Int32))) fun m2 => (if gK m2 (gZ m) = 103 ∧ 1000 ≤ (gZ m) then (if gz_in (0 : Int32) (gN m2 (gZ m)) then gz_let (gz_sI m2 (gZ m) (gz_ix (0 : Int32)) ((116 : Int32).toUInt32.toUInt16.toUInt32.toInt32)) fun m5 => (if gK m5 (gZ m) = 103 ∧ 1000 ≤ (gZ m) then (if gz_in (1 : Int32) (gN m5 (gZ m)) then gz_let (gz_sI m5 (gZ m) (gz_ix (1 : Int32)) ((105 : Int32).toUInt32.toUInt16.toUInt32.toInt32)) fun m8 => (if gK m8 (gZ m) = 103 ∧ 1000 ≤ (gZ m) then (if gz_in (2 : Int32) (gN m8 (gZ m)) then gz_let (gz_sI m8 (gZ m) (gz_ix (2 : Int32)) ((101 : Int32).toUInt32.toUInt16.toUInt32.toInt32)) fun m11 => (if gK m11 c0 = 1 then (if 1000 ≤ c0 then (if (gZ m) ≠ 0 then gz_let (gz_sP m11 c0 19 (gZ m)) fun m15 => (if 0 ≤ (6 : Int32) ∧ gz_ix (6 : Int32) * 2 ≤ 536870912 ∧ gZ m15 ≠ 0 then gz_let (gz_al m15 (2 + 101) (gz_ix (6 : Int32)) (gz_ix (6 : Int32))) fun m17 => (if gK m17 (gZ m15) = 103 ∧ 1000 ≤ (gZ m15) then (if gz_in (0 : Int32) (gN m17 (gZ m15)) then gz_let (gz_sI m17 (gZ m15) (gz_ix (0 : Int32)) ((115 : Int32).toUInt32.toUInt16.toUInt32.toInt32)) fun m20 => (if gK m20 (gZ m15) = 103 ∧ 1000 ≤ (gZ m15) then (if gz_in (1 : Int32) (gN m20 (gZ m15)) then gz_let (gz_sI m20 (gZ m15) (gz_ix (1 : Int32)) ((116 : Int32).toUInt32.toUInt16.toUInt32.toInt32)) fun m23 => (if gK m23 (gZ m15) = 103 ∧ 1000 ≤ (gZ m15) then (if gz_in (2 : Int32) (gN m23 (gZ m15)) then gz_let (gz_sI m23 (gZ m15) (gz_ix (2 : Int32)) ((97 : Int32).toUInt32.toUInt16.toUInt32.toInt32)) fun m26 => (if gK m26 (gZ m15) = 103 ∧ 1000 ≤ (gZ m15) then (if gz_in (3 : Int32) (gN m26 (gZ m15)) then gz_let (gz_sI m26 (gZ m15) (gz_ix (3 : Int32)) ((114 : Int32).toUInt32.toUInt16.toUInt32.toInt32)) fun m29 => (if gK m29 (gZ m15) = 103 ∧ 1000 ≤ (gZ m15) then (if gz_in (4 : Int32) (gN m29 (gZ m15)) then gz_let (gz_sI m29 (gZ m15) (gz_ix (4 : Int32)) ((116 : Int32).toUInt32.toUInt16.toUInt32.toInt32)) fun m32 => (if gK m32 (gZ m15) = 103 ∧ 1000 ≤ (gZ m15) then (if gz_in (5 : Int32) (gN m32 (gZ m15)) then gz_let (gz_sI m32 (gZ m15) (gz_ix (5 : Int32)) ((115 : Int32).toUInt32.toUInt16.toUInt32.toInt32)) fun m35 => (if gK m35 c0 = 1 then (if 1000 ≤ c0 then (if (gZ m15) ≠ 0 then gz_let (gz_sP m35 c0 20 (gZ m15)) fun m39 => (Rmj_X6_init_297 c0 m39) else none) else none) else none) else none) else none) else none) else none) else none) else none) else none) else none) else none) else none) else none) else none) else none) else none) else none) else none) else none) else none) else none) else none) else none) else none) else none)
theorem Rwb_X6_init_237 {X : gz_X} {G : gz_G} {zE : Nat × Nat} (hX : gz_C mR X G cX6_init 1 RX6 1 20) (hn0 : X.2.2.2.2.2.2.2.2.1.name = "<init>") {c0 : Nat}  {m : gM} {z : (Unit × gM)} (h : Rmj_X6_init_237 c0 m = some z) (hk : (fun z : (Unit × gM) => gz_kVa mR X G 1 zE cX6_init z.2) z) : gz_Va mR X G 1 zE m 237 [(0, .ref (gz_ad G c0))] [] := by
  unfold Rmj_X6_init_237 at h
  refine gz_Vs (fun _ kk => gz_aload_n (pc := 237) hX dX6_init_237 rfl 0 rfl kk) rfl ?_
  refine gz_Vs (fun _ kk => gz_iconst (pc := 238) (v := (3 : Int32)) hX dX6_init_238 (by decide) kk) rfl ?_
  obtain ⟨g1, h⟩ := gz_gu h
  obtain ⟨m2, em2, h⟩ := gz_lt h
  refine gz_Vn (fun _ kk => gz_newa (pc := 239) (t := 2) (N := gz_ix (3 : Int32)) hX rfl rfl q726 rfl ⟨⟨g1.1, Nat.lt_succ_self _⟩, rfl⟩ g1.2.1 g1.2.2 (fun _ _ => trivial) dX6_init_239 em2 kk) em2 ?_
  refine gz_Vs (fun _ kk => gz_dup (pc := 241) hX dX6_init_241 rfl kk) rfl ?_
  refine gz_Vs (fun _ kk => gz_iconst (pc := 242) (v := (0 : Int32)) hX dX6_init_242 (by decide) kk) rfl ?_
  refine gz_Vs (fun _ kk => gz_bipush (pc := 243) (v := (116 : Int32)) hX dX6_init_243 (by decide) kk) rfl ?_
  obtain ⟨g3, h⟩ := gz_gu h
  obtain ⟨g4, h⟩ := gz_gu h
  obtain ⟨m5, em5, h⟩ := gz_lt h
  refine gz_Vs (fun _ kk => gz_cast2 (pc := 245) (c := (gZ m)) (n := gN m2 (gZ m)) hX rfl (fun _ => ⟨g3.1, rfl⟩) g3.2 g4 dX6_init_245 em5 kk) (by rw [em5]; rfl) ?_
  refine gz_Vs (fun _ kk => gz_dup (pc := 246) hX dX6_init_246 rfl kk) rfl ?_
  refine gz_Vs (fun _ kk => gz_iconst (pc := 247) (v := (1 : Int32)) hX dX6_init_247 (by decide) kk) rfl ?_
  refine gz_Vs (fun _ kk => gz_bipush (pc := 248) (v := (105 : Int32)) hX dX6_init_248 (by decide) kk) rfl ?_
  obtain ⟨g6, h⟩ := gz_gu h
  obtain ⟨g7, h⟩ := gz_gu h
  obtain ⟨m8, em8, h⟩ := gz_lt h
  refine gz_Vs (fun _ kk => gz_cast2 (pc := 250) (c := (gZ m)) (n := gN m5 (gZ m)) hX rfl (fun _ => ⟨g6.1, rfl⟩) g6.2 g7 dX6_init_250 em8 kk) (by rw [em8]; rfl) ?_
  refine gz_Vs (fun _ kk => gz_dup (pc := 251) hX dX6_init_251 rfl kk) rfl ?_
  refine gz_Vs (fun _ kk => gz_iconst (pc := 252) (v := (2 : Int32)) hX dX6_init_252 (by decide) kk) rfl ?_
  refine gz_Vs (fun _ kk => gz_bipush (pc := 253) (v := (101 : Int32)) hX dX6_init_253 (by decide) kk) rfl ?_
  obtain ⟨g9, h⟩ := gz_gu h
  obtain ⟨g10, h⟩ := gz_gu h
  obtain ⟨m11, em11, h⟩ := gz_lt h
  refine gz_Vs (fun _ kk => gz_cast2 (pc := 255) (c := (gZ m)) (n := gN m8 (gZ m)) hX rfl (fun _ => ⟨g9.1, rfl⟩) g9.2 g10 dX6_init_255 em11 kk) (by rw [em11]; rfl) ?_
  obtain ⟨g12, h⟩ := gz_gu h
  obtain ⟨g13, h⟩ := gz_gu h
  obtain ⟨g14, h⟩ := gz_gu h
  obtain ⟨m15, em15, h⟩ := gz_lt h
  refine gz_Vs (fun _ kk => Rcp_X6_45_0 (pc := 256) hX hn0 (c := c0) (fun _ => g12) g13 g14 dX6_init_256 em15 kk) (by rw [em15]; rfl) ?_
  refine gz_Vs (fun _ kk => gz_aload_n (pc := 259) hX dX6_init_259 rfl 0 rfl kk) rfl ?_
  refine gz_Vs (fun _ kk => gz_bipush (pc := 260) (v := (6 : Int32)) hX dX6_init_260 (by decide) kk) rfl ?_
  obtain ⟨g16, h⟩ := gz_gu h
  obtain ⟨m17, em17, h⟩ := gz_lt h
  refine gz_Vn (fun _ kk => gz_newa (pc := 262) (t := 2) (N := gz_ix (6 : Int32)) hX rfl rfl q726 rfl ⟨⟨g16.1, Nat.lt_succ_self _⟩, rfl⟩ g16.2.1 g16.2.2 (fun _ _ => trivial) dX6_init_262 em17 kk) em17 ?_
  refine gz_Vs (fun _ kk => gz_dup (pc := 264) hX dX6_init_264 rfl kk) rfl ?_
  refine gz_Vs (fun _ kk => gz_iconst (pc := 265) (v := (0 : Int32)) hX dX6_init_265 (by decide) kk) rfl ?_
  refine gz_Vs (fun _ kk => gz_bipush (pc := 266) (v := (115 : Int32)) hX dX6_init_266 (by decide) kk) rfl ?_
  obtain ⟨g18, h⟩ := gz_gu h
  obtain ⟨g19, h⟩ := gz_gu h
  obtain ⟨m20, em20, h⟩ := gz_lt h
  refine gz_Vs (fun _ kk => gz_cast2 (pc := 268) (c := (gZ m15)) (n := gN m17 (gZ m15)) hX rfl (fun _ => ⟨g18.1, rfl⟩) g18.2 g19 dX6_init_268 em20 kk) (by rw [em20]; rfl) ?_
  refine gz_Vs (fun _ kk => gz_dup (pc := 269) hX dX6_init_269 rfl kk) rfl ?_
  refine gz_Vs (fun _ kk => gz_iconst (pc := 270) (v := (1 : Int32)) hX dX6_init_270 (by decide) kk) rfl ?_
  refine gz_Vs (fun _ kk => gz_bipush (pc := 271) (v := (116 : Int32)) hX dX6_init_271 (by decide) kk) rfl ?_
  obtain ⟨g21, h⟩ := gz_gu h
  obtain ⟨g22, h⟩ := gz_gu h
  obtain ⟨m23, em23, h⟩ := gz_lt h
  refine gz_Vs (fun _ kk => gz_cast2 (pc := 273) (c := (gZ m15)) (n := gN m20 (gZ m15)) hX rfl (fun _ => ⟨g21.1, rfl⟩) g21.2 g22 dX6_init_273 em23 kk) (by rw [em23]; rfl) ?_
  refine gz_Vs (fun _ kk => gz_dup (pc := 274) hX dX6_init_274 rfl kk) rfl ?_
  refine gz_Vs (fun _ kk => gz_iconst (pc := 275) (v := (2 : Int32)) hX dX6_init_275 (by decide) kk) rfl ?_
  refine gz_Vs (fun _ kk => gz_bipush (pc := 276) (v := (97 : Int32)) hX dX6_init_276 (by decide) kk) rfl ?_
  obtain ⟨g24, h⟩ := gz_gu h
  obtain ⟨g25, h⟩ := gz_gu h
  obtain ⟨m26, em26, h⟩ := gz_lt h
  refine gz_Vs (fun _ kk => gz_cast2 (pc := 278) (c := (gZ m15)) (n := gN m23 (gZ m15)) hX rfl (fun _ => ⟨g24.1, rfl⟩) g24.2 g25 dX6_init_278 em26 kk) (by rw [em26]; rfl) ?_
  refine gz_Vs (fun _ kk => gz_dup (pc := 279) hX dX6_init_279 rfl kk) rfl ?_
  refine gz_Vs (fun _ kk => gz_iconst (pc := 280) (v := (3 : Int32)) hX dX6_init_280 (by decide) kk) rfl ?_
  refine gz_Vs (fun _ kk => gz_bipush (pc := 281) (v := (114 : Int32)) hX dX6_init_281 (by decide) kk) rfl ?_
  obtain ⟨g27, h⟩ := gz_gu h
  obtain ⟨g28, h⟩ := gz_gu h
  obtain ⟨m29, em29, h⟩ := gz_lt h
  refine gz_Vs (fun _ kk => gz_cast2 (pc := 283) (c := (gZ m15)) (n := gN m26 (gZ m15)) hX rfl (fun _ => ⟨g27.1, rfl⟩) g27.2 g28 dX6_init_283 em29 kk) (by rw [em29]; rfl) ?_
  refine gz_Vs (fun _ kk => gz_dup (pc := 284) hX dX6_init_284 rfl kk) rfl ?_
  refine gz_Vs (fun _ kk => gz_iconst (pc := 285) (v := (4 : Int32)) hX dX6_init_285 (by decide) kk) rfl ?_
  refine gz_Vs (fun _ kk => gz_bipush (pc := 286) (v := (116 : Int32)) hX dX6_init_286 (by decide) kk) rfl ?_
  obtain ⟨g30, h⟩ := gz_gu h
  obtain ⟨g31, h⟩ := gz_gu h
  obtain ⟨m32, em32, h⟩ := gz_lt h
  refine gz_Vs (fun _ kk => gz_cast2 (pc := 288) (c := (gZ m15)) (n := gN m29 (gZ m15)) hX rfl (fun _ => ⟨g30.1, rfl⟩) g30.2 g31 dX6_init_288 em32 kk) (by rw [em32]; rfl) ?_
  refine gz_Vs (fun _ kk => gz_dup (pc := 289) hX dX6_init_289 rfl kk) rfl ?_
  refine gz_Vs (fun _ kk => gz_iconst (pc := 290) (v := (5 : Int32)) hX dX6_init_290 (by decide) kk) rfl ?_
  refine gz_Vs (fun _ kk => gz_bipush (pc := 291) (v := (115 : Int32)) hX dX6_init_291 (by decide) kk) rfl ?_
  obtain ⟨g33, h⟩ := gz_gu h
  obtain ⟨g34, h⟩ := gz_gu h
  obtain ⟨m35, em35, h⟩ := gz_lt h
  refine gz_Vs (fun _ kk => gz_cast2 (pc := 293) (c := (gZ m15)) (n := gN m32 (gZ m15)) hX rfl (fun _ => ⟨g33.1, rfl⟩) g33.2 g34 dX6_init_293 em35 kk) (by rw [em35]; rfl) ?_
  obtain ⟨g36, h⟩ := gz_gu h
  obtain ⟨g37, h⟩ := gz_gu h
  obtain ⟨g38, h⟩ := gz_gu h
  obtain ⟨m39, em39, h⟩ := gz_lt h
  refine gz_Vs (fun _ kk => Rcp_X6_48_0 (pc := 294) hX hn0 (c := c0) (fun _ => g36) g37 g38 dX6_init_294 em39 kk) (by rw [em39]; rfl) ?_
  exact Rwb_X6_init_297 hX hn0 h hk
noncomputable def Rmj_X6_init_161 (c0 : Nat) (m : gM) : Option (Unit × gM) :=
  (if 0 ≤ (2 : Int32) ∧ gz_ix (2 : Int32) * 2 ≤ 536870912 ∧ gZ m ≠ 0 then gz_let (gz_al m (2 + 101) (gz_ix (2 : Int32)) (gz_ix (2 : Int32))) fun m2 => (if gK m2 (gZ m) = 103 ∧ 1000 ≤ (gZ m) then (if gz_in (0 : Int32) (gN m2 (gZ m)) then gz_let (gz_sI m2 (gZ m) (gz_ix (0 : Int32)) ((105 : Int32).toUInt32.toUInt16.toUInt32.toInt32)) fun m5 => (if gK m5 (gZ m) = 103 ∧ 1000 ≤ (gZ m) then (if gz_in (1 : Int32) (gN m5 (gZ m)) then gz_let (gz_sI m5 (gZ m) (gz_ix (1 : Int32)) ((110 : Int32).toUInt32.toUInt16.toUInt32.toInt32)) fun m8 => (if gK m8 c0 = 1 then (if 1000 ≤ c0 then (if (gZ m) ≠ 0 then gz_let (gz_sP m8 c0 16 (gZ m)) fun m12 => (if 0 ≤ (5 : Int32) ∧ gz_ix (5 : Int32) * 2 ≤ 536870912 ∧ gZ m12 ≠ 0 then gz_let (gz_al m12 (2 + 101) (gz_ix (5 : Int32)) (gz_ix (5 : Int32))) fun m14 => (if gK m14 (gZ m12) = 103 ∧ 1000 ≤ (gZ m12) then (if gz_in (0 : Int32) (gN m14 (gZ m12)) then gz_let (gz_sI m14 (gZ m12) (gz_ix (0 : Int32)) ((98 : Int32).toUInt32.toUInt16.toUInt32.toInt32)) fun m17 => (if gK m17 (gZ m12) = 103 ∧ 1000 ≤ (gZ m12) then (if gz_in (1 : Int32) (gN m17 (gZ m12)) then gz_let (gz_sI m17 (gZ m12) (gz_ix (1 : Int32)) ((117 : Int32).toUInt32.toUInt16.toUInt32.toInt32)) fun m20 => (if gK m20 (gZ m12) = 103 ∧ 1000 ≤ (gZ m12) then (if gz_in (2 : Int32) (gN m20 (gZ m12)) then gz_let (gz_sI m20 (gZ m12) (gz_ix (2 : Int32)) ((114 : Int32).toUInt32.toUInt16.toUInt32.toInt32)) fun m23 => (if gK m23 (gZ m12) = 103 ∧ 1000 ≤ (gZ m12) then (if gz_in (3 : Int32) (gN m23 (gZ m12)) then gz_let (gz_sI m23 (gZ m12) (gz_ix (3 : Int32)) ((110 : Int32).toUInt32.toUInt16.toUInt32.toInt32)) fun m26 => (if gK m26 (gZ m12) = 103 ∧ 1000 ≤ (gZ m12) then (if gz_in (4 : Int32) (gN m26 (gZ m12)) then gz_let (gz_sI m26 (gZ m12) (gz_ix (4 : Int32)) ((115 : Int32).toUInt32.toUInt16.toUInt32.toInt32)) fun m29 => (if gK m29 c0 = 1 then (if 1000 ≤ c0 then (if (gZ m12) ≠ 0 then gz_let (gz_sP m29 c0 17 (gZ m12)) fun m33 => (if 0 ≤ (4 : Int32) ∧ gz_ix (4 : Int32) * 2 ≤ 536870912 ∧ gZ m33 ≠ 0 then gz_let (gz_al m33 (2 + 101) (gz_ix (4 : Int32)) (gz_ix (4 : Int32))) fun m35 => (if gK m35 (gZ m33) = 103 ∧ 1000 ≤ (gZ m33) then (if gz_in (0 : Int32) (gN m35 (gZ m33)) then gz_let (gz_sI m35 (gZ m33) (gz_ix (0 : Int32)) ((104 : Int32).toUInt32.toUInt16.toUInt32.toInt32)) fun m38 => (if gK m38 (gZ m33) = 103 ∧ 1000 ≤ (gZ m33) then (if gz_in (1 : Int32) (gN m38 (gZ m33)) then gz_let (gz_sI m38 (gZ m33) (gz_ix (1 : Int32)) ((101 : Int32).toUInt32.toUInt16.toUInt32.toInt32)) fun m41 => (if gK m41 (gZ m33) = 103 ∧ 1000 ≤ (gZ m33) then (if gz_in (2 : Int32) (gN m41 (gZ m33)) then gz_let (gz_sI m41 (gZ m33) (gz_ix (2 : Int32)) ((97 : Int32).toUInt32.toUInt16.toUInt32.toInt32)) fun m44 => (if gK m44 (gZ m33) = 103 ∧ 1000 ≤ (gZ m33) then (if gz_in (3 : Int32) (gN m44 (gZ m33)) then gz_let (gz_sI m44 (gZ m33) (gz_ix (3 : Int32)) ((116 : Int32).toUInt32.toUInt16.toUInt32.toInt32)) fun m47 => (if gK m47 c0 = 1 then (if 1000 ≤ c0 then (if (gZ m33) ≠ 0 then gz_let (gz_sP m47 c0 18 (gZ m33)) fun m51 => (Rmj_X6_init_237 c0 m51) else none) else none) else none) else none) else none) else none) else none) else none) else none) else none) else none) else none) else none) else none) else none) else none) else none) else none) else none) else none) else none) else none) else none) else none) else none) else none) else none) else none) else none) else none) else none) else none) else none) else none)
theorem Rwb_X6_init_161 {X : gz_X} {G : gz_G} {zE : Nat × Nat} (hX : gz_C mR X G cX6_init 1 RX6 1 20) (hn0 : X.2.2.2.2.2.2.2.2.1.name = "<init>") {c0 : Nat}  {m : gM} {z : (Unit × gM)} (h : Rmj_X6_init_161 c0 m = some z) (hk : (fun z : (Unit × gM) => gz_kVa mR X G 1 zE cX6_init z.2) z) : gz_Va mR X G 1 zE m 161 [(0, .ref (gz_ad G c0))] [] := by
  unfold Rmj_X6_init_161 at h
  refine gz_Vs (fun _ kk => gz_aload_n (pc := 161) hX dX6_init_161 rfl 0 rfl kk) rfl ?_
  refine gz_Vs (fun _ kk => gz_iconst (pc := 162) (v := (2 : Int32)) hX dX6_init_162 (by decide) kk) rfl ?_
  obtain ⟨g1, h⟩ := gz_gu h
  obtain ⟨m2, em2, h⟩ := gz_lt h
  refine gz_Vn (fun _ kk => gz_newa (pc := 163) (t := 2) (N := gz_ix (2 : Int32)) hX rfl rfl q726 rfl ⟨⟨g1.1, Nat.lt_succ_self _⟩, rfl⟩ g1.2.1 g1.2.2 (fun _ _ => trivial) dX6_init_163 em2 kk) em2 ?_
  refine gz_Vs (fun _ kk => gz_dup (pc := 165) hX dX6_init_165 rfl kk) rfl ?_
  refine gz_Vs (fun _ kk => gz_iconst (pc := 166) (v := (0 : Int32)) hX dX6_init_166 (by decide) kk) rfl ?_
  refine gz_Vs (fun _ kk => gz_bipush (pc := 167) (v := (105 : Int32)) hX dX6_init_167 (by decide) kk) rfl ?_
  obtain ⟨g3, h⟩ := gz_gu h
  obtain ⟨g4, h⟩ := gz_gu h
  obtain ⟨m5, em5, h⟩ := gz_lt h
  refine gz_Vs (fun _ kk => gz_cast2 (pc := 169) (c := (gZ m)) (n := gN m2 (gZ m)) hX rfl (fun _ => ⟨g3.1, rfl⟩) g3.2 g4 dX6_init_169 em5 kk) (by rw [em5]; rfl) ?_
  refine gz_Vs (fun _ kk => gz_dup (pc := 170) hX dX6_init_170 rfl kk) rfl ?_
  refine gz_Vs (fun _ kk => gz_iconst (pc := 171) (v := (1 : Int32)) hX dX6_init_171 (by decide) kk) rfl ?_
  refine gz_Vs (fun _ kk => gz_bipush (pc := 172) (v := (110 : Int32)) hX dX6_init_172 (by decide) kk) rfl ?_
  obtain ⟨g6, h⟩ := gz_gu h
  obtain ⟨g7, h⟩ := gz_gu h
  obtain ⟨m8, em8, h⟩ := gz_lt h
  refine gz_Vs (fun _ kk => gz_cast2 (pc := 174) (c := (gZ m)) (n := gN m5 (gZ m)) hX rfl (fun _ => ⟨g6.1, rfl⟩) g6.2 g7 dX6_init_174 em8 kk) (by rw [em8]; rfl) ?_
  obtain ⟨g9, h⟩ := gz_gu h
  obtain ⟨g10, h⟩ := gz_gu h
  obtain ⟨g11, h⟩ := gz_gu h
  obtain ⟨m12, em12, h⟩ := gz_lt h
  refine gz_Vs (fun _ kk => Rcp_X6_36_0 (pc := 175) hX hn0 (c := c0) (fun _ => g9) g10 g11 dX6_init_175 em12 kk) (by rw [em12]; rfl) ?_
  refine gz_Vs (fun _ kk => gz_aload_n (pc := 178) hX dX6_init_178 rfl 0 rfl kk) rfl ?_
  refine gz_Vs (fun _ kk => gz_iconst (pc := 179) (v := (5 : Int32)) hX dX6_init_179 (by decide) kk) rfl ?_
  obtain ⟨g13, h⟩ := gz_gu h
  obtain ⟨m14, em14, h⟩ := gz_lt h
  refine gz_Vn (fun _ kk => gz_newa (pc := 180) (t := 2) (N := gz_ix (5 : Int32)) hX rfl rfl q726 rfl ⟨⟨g13.1, Nat.lt_succ_self _⟩, rfl⟩ g13.2.1 g13.2.2 (fun _ _ => trivial) dX6_init_180 em14 kk) em14 ?_
  refine gz_Vs (fun _ kk => gz_dup (pc := 182) hX dX6_init_182 rfl kk) rfl ?_
  refine gz_Vs (fun _ kk => gz_iconst (pc := 183) (v := (0 : Int32)) hX dX6_init_183 (by decide) kk) rfl ?_
  refine gz_Vs (fun _ kk => gz_bipush (pc := 184) (v := (98 : Int32)) hX dX6_init_184 (by decide) kk) rfl ?_
  obtain ⟨g15, h⟩ := gz_gu h
  obtain ⟨g16, h⟩ := gz_gu h
  obtain ⟨m17, em17, h⟩ := gz_lt h
  refine gz_Vs (fun _ kk => gz_cast2 (pc := 186) (c := (gZ m12)) (n := gN m14 (gZ m12)) hX rfl (fun _ => ⟨g15.1, rfl⟩) g15.2 g16 dX6_init_186 em17 kk) (by rw [em17]; rfl) ?_
  refine gz_Vs (fun _ kk => gz_dup (pc := 187) hX dX6_init_187 rfl kk) rfl ?_
  refine gz_Vs (fun _ kk => gz_iconst (pc := 188) (v := (1 : Int32)) hX dX6_init_188 (by decide) kk) rfl ?_
  refine gz_Vs (fun _ kk => gz_bipush (pc := 189) (v := (117 : Int32)) hX dX6_init_189 (by decide) kk) rfl ?_
  obtain ⟨g18, h⟩ := gz_gu h
  obtain ⟨g19, h⟩ := gz_gu h
  obtain ⟨m20, em20, h⟩ := gz_lt h
  refine gz_Vs (fun _ kk => gz_cast2 (pc := 191) (c := (gZ m12)) (n := gN m17 (gZ m12)) hX rfl (fun _ => ⟨g18.1, rfl⟩) g18.2 g19 dX6_init_191 em20 kk) (by rw [em20]; rfl) ?_
  refine gz_Vs (fun _ kk => gz_dup (pc := 192) hX dX6_init_192 rfl kk) rfl ?_
  refine gz_Vs (fun _ kk => gz_iconst (pc := 193) (v := (2 : Int32)) hX dX6_init_193 (by decide) kk) rfl ?_
  refine gz_Vs (fun _ kk => gz_bipush (pc := 194) (v := (114 : Int32)) hX dX6_init_194 (by decide) kk) rfl ?_
  obtain ⟨g21, h⟩ := gz_gu h
  obtain ⟨g22, h⟩ := gz_gu h
  obtain ⟨m23, em23, h⟩ := gz_lt h
  refine gz_Vs (fun _ kk => gz_cast2 (pc := 196) (c := (gZ m12)) (n := gN m20 (gZ m12)) hX rfl (fun _ => ⟨g21.1, rfl⟩) g21.2 g22 dX6_init_196 em23 kk) (by rw [em23]; rfl) ?_
  refine gz_Vs (fun _ kk => gz_dup (pc := 197) hX dX6_init_197 rfl kk) rfl ?_
  refine gz_Vs (fun _ kk => gz_iconst (pc := 198) (v := (3 : Int32)) hX dX6_init_198 (by decide) kk) rfl ?_
  refine gz_Vs (fun _ kk => gz_bipush (pc := 199) (v := (110 : Int32)) hX dX6_init_199 (by decide) kk) rfl ?_
  obtain ⟨g24, h⟩ := gz_gu h
  obtain ⟨g25, h⟩ := gz_gu h
  obtain ⟨m26, em26, h⟩ := gz_lt h
  refine gz_Vs (fun _ kk => gz_cast2 (pc := 201) (c := (gZ m12)) (n := gN m23 (gZ m12)) hX rfl (fun _ => ⟨g24.1, rfl⟩) g24.2 g25 dX6_init_201 em26 kk) (by rw [em26]; rfl) ?_
  refine gz_Vs (fun _ kk => gz_dup (pc := 202) hX dX6_init_202 rfl kk) rfl ?_
  refine gz_Vs (fun _ kk => gz_iconst (pc := 203) (v := (4 : Int32)) hX dX6_init_203 (by decide) kk) rfl ?_
  refine gz_Vs (fun _ kk => gz_bipush (pc := 204) (v := (115 : Int32)) hX dX6_init_204 (by decide) kk) rfl ?_
  obtain ⟨g27, h⟩ := gz_gu h
  obtain ⟨g28, h⟩ := gz_gu h
  obtain ⟨m29, em29, h⟩ := gz_lt h
  refine gz_Vs (fun _ kk => gz_cast2 (pc := 206) (c := (gZ m12)) (n := gN m26 (gZ m12)) hX rfl (fun _ => ⟨g27.1, rfl⟩) g27.2 g28 dX6_init_206 em29 kk) (by rw [em29]; rfl) ?_
  obtain ⟨g30, h⟩ := gz_gu h
  obtain ⟨g31, h⟩ := gz_gu h
  obtain ⟨g32, h⟩ := gz_gu h
  obtain ⟨m33, em33, h⟩ := gz_lt h
  refine gz_Vs (fun _ kk => Rcp_X6_39_0 (pc := 207) hX hn0 (c := c0) (fun _ => g30) g31 g32 dX6_init_207 em33 kk) (by rw [em33]; rfl) ?_
  refine gz_Vs (fun _ kk => gz_aload_n (pc := 210) hX dX6_init_210 rfl 0 rfl kk) rfl ?_
  refine gz_Vs (fun _ kk => gz_iconst (pc := 211) (v := (4 : Int32)) hX dX6_init_211 (by decide) kk) rfl ?_
  obtain ⟨g34, h⟩ := gz_gu h
  obtain ⟨m35, em35, h⟩ := gz_lt h
  refine gz_Vn (fun _ kk => gz_newa (pc := 212) (t := 2) (N := gz_ix (4 : Int32)) hX rfl rfl q726 rfl ⟨⟨g34.1, Nat.lt_succ_self _⟩, rfl⟩ g34.2.1 g34.2.2 (fun _ _ => trivial) dX6_init_212 em35 kk) em35 ?_
  refine gz_Vs (fun _ kk => gz_dup (pc := 214) hX dX6_init_214 rfl kk) rfl ?_
  refine gz_Vs (fun _ kk => gz_iconst (pc := 215) (v := (0 : Int32)) hX dX6_init_215 (by decide) kk) rfl ?_
  refine gz_Vs (fun _ kk => gz_bipush (pc := 216) (v := (104 : Int32)) hX dX6_init_216 (by decide) kk) rfl ?_
  obtain ⟨g36, h⟩ := gz_gu h
  obtain ⟨g37, h⟩ := gz_gu h
  obtain ⟨m38, em38, h⟩ := gz_lt h
  refine gz_Vs (fun _ kk => gz_cast2 (pc := 218) (c := (gZ m33)) (n := gN m35 (gZ m33)) hX rfl (fun _ => ⟨g36.1, rfl⟩) g36.2 g37 dX6_init_218 em38 kk) (by rw [em38]; rfl) ?_
  refine gz_Vs (fun _ kk => gz_dup (pc := 219) hX dX6_init_219 rfl kk) rfl ?_
  refine gz_Vs (fun _ kk => gz_iconst (pc := 220) (v := (1 : Int32)) hX dX6_init_220 (by decide) kk) rfl ?_
  refine gz_Vs (fun _ kk => gz_bipush (pc := 221) (v := (101 : Int32)) hX dX6_init_221 (by decide) kk) rfl ?_
  obtain ⟨g39, h⟩ := gz_gu h
  obtain ⟨g40, h⟩ := gz_gu h
  obtain ⟨m41, em41, h⟩ := gz_lt h
  refine gz_Vs (fun _ kk => gz_cast2 (pc := 223) (c := (gZ m33)) (n := gN m38 (gZ m33)) hX rfl (fun _ => ⟨g39.1, rfl⟩) g39.2 g40 dX6_init_223 em41 kk) (by rw [em41]; rfl) ?_
  refine gz_Vs (fun _ kk => gz_dup (pc := 224) hX dX6_init_224 rfl kk) rfl ?_
  refine gz_Vs (fun _ kk => gz_iconst (pc := 225) (v := (2 : Int32)) hX dX6_init_225 (by decide) kk) rfl ?_
  refine gz_Vs (fun _ kk => gz_bipush (pc := 226) (v := (97 : Int32)) hX dX6_init_226 (by decide) kk) rfl ?_
  obtain ⟨g42, h⟩ := gz_gu h
  obtain ⟨g43, h⟩ := gz_gu h
  obtain ⟨m44, em44, h⟩ := gz_lt h
  refine gz_Vs (fun _ kk => gz_cast2 (pc := 228) (c := (gZ m33)) (n := gN m41 (gZ m33)) hX rfl (fun _ => ⟨g42.1, rfl⟩) g42.2 g43 dX6_init_228 em44 kk) (by rw [em44]; rfl) ?_
  refine gz_Vs (fun _ kk => gz_dup (pc := 229) hX dX6_init_229 rfl kk) rfl ?_
  refine gz_Vs (fun _ kk => gz_iconst (pc := 230) (v := (3 : Int32)) hX dX6_init_230 (by decide) kk) rfl ?_
  refine gz_Vs (fun _ kk => gz_bipush (pc := 231) (v := (116 : Int32)) hX dX6_init_231 (by decide) kk) rfl ?_
  obtain ⟨g45, h⟩ := gz_gu h
  obtain ⟨g46, h⟩ := gz_gu h
  obtain ⟨m47, em47, h⟩ := gz_lt h
  refine gz_Vs (fun _ kk => gz_cast2 (pc := 233) (c := (gZ m33)) (n := gN m44 (gZ m33)) hX rfl (fun _ => ⟨g45.1, rfl⟩) g45.2 g46 dX6_init_233 em47 kk) (by rw [em47]; rfl) ?_
  obtain ⟨g48, h⟩ := gz_gu h
  obtain ⟨g49, h⟩ := gz_gu h
  obtain ⟨g50, h⟩ := gz_gu h
  obtain ⟨m51, em51, h⟩ := gz_lt h
  refine gz_Vs (fun _ kk => Rcp_X6_42_0 (pc := 234) hX hn0 (c := c0) (fun _ => g48) g49 g50 dX6_init_234 em51 kk) (by rw [em51]; rfl) ?_
  exact Rwb_X6_init_237 hX hn0 h hk
noncomputable def Rmj_X6_init_80 (c0 : Nat) (m : gM) : Option (Unit × gM) :=
  (if 0 ≤ (2 : Int32) ∧ gz_ix (2 : Int32) * 2 ≤ 536870912 ∧ gZ m ≠ 0 then gz_let (gz_al m (2 + 101) (gz_ix (2 : Int32)) (gz_ix (2 : Int32))) fun m2 => (if gK m2 (gZ m) = 103 ∧ 1000 ≤ (gZ m) then (if gz_in (0 : Int32) (gN m2 (gZ m)) then gz_let (gz_sI m2 (gZ m) (gz_ix (0 : Int32)) ((116 : Int32).toUInt32.toUInt16.toUInt32.toInt32)) fun m5 => (if gK m5 (gZ m) = 103 ∧ 1000 ≤ (gZ m) then (if gz_in (1 : Int32) (gN m5 (gZ m)) then gz_let (gz_sI m5 (gZ m) (gz_ix (1 : Int32)) ((111 : Int32).toUInt32.toUInt16.toUInt32.toInt32)) fun m8 => (if gK m8 c0 = 1 then (if 1000 ≤ c0 then (if (gZ m) ≠ 0 then gz_let (gz_sP m8 c0 13 (gZ m)) fun m12 => (if 0 ≤ (5 : Int32) ∧ gz_ix (5 : Int32) * 2 ≤ 536870912 ∧ gZ m12 ≠ 0 then gz_let (gz_al m12 (2 + 101) (gz_ix (5 : Int32)) (gz_ix (5 : Int32))) fun m14 => (if gK m14 (gZ m12) = 103 ∧ 1000 ≤ (gZ m12) then (if gz_in (0 : Int32) (gN m14 (gZ m12)) then gz_let (gz_sI m14 (gZ m12) (gz_ix (0 : Int32)) ((115 : Int32).toUInt32.toUInt16.toUInt32.toInt32)) fun m17 => (if gK m17 (gZ m12) = 103 ∧ 1000 ≤ (gZ m12) then (if gz_in (1 : Int32) (gN m17 (gZ m12)) then gz_let (gz_sI m17 (gZ m12) (gz_ix (1 : Int32)) ((116 : Int32).toUInt32.toUInt16.toUInt32.toInt32)) fun m20 => (if gK m20 (gZ m12) = 103 ∧ 1000 ≤ (gZ m12) then (if gz_in (2 : Int32) (gN m20 (gZ m12)) then gz_let (gz_sI m20 (gZ m12) (gz_ix (2 : Int32)) ((101 : Int32).toUInt32.toUInt16.toUInt32.toInt32)) fun m23 => (if gK m23 (gZ m12) = 103 ∧ 1000 ≤ (gZ m12) then (if gz_in (3 : Int32) (gN m23 (gZ m12)) then gz_let (gz_sI m23 (gZ m12) (gz_ix (3 : Int32)) ((112 : Int32).toUInt32.toUInt16.toUInt32.toInt32)) fun m26 => (if gK m26 (gZ m12) = 103 ∧ 1000 ≤ (gZ m12) then (if gz_in (4 : Int32) (gN m26 (gZ m12)) then gz_let (gz_sI m26 (gZ m12) (gz_ix (4 : Int32)) ((115 : Int32).toUInt32.toUInt16.toUInt32.toInt32)) fun m29 => (if gK m29 c0 = 1 then (if 1000 ≤ c0 then (if (gZ m12) ≠ 0 then gz_let (gz_sP m29 c0 14 (gZ m12)) fun m33 => (if 0 ≤ (5 : Int32) ∧ gz_ix (5 : Int32) * 2 ≤ 536870912 ∧ gZ m33 ≠ 0 then gz_let (gz_al m33 (2 + 101) (gz_ix (5 : Int32)) (gz_ix (5 : Int32))) fun m35 => (if gK m35 (gZ m33) = 103 ∧ 1000 ≤ (gZ m33) then (if gz_in (0 : Int32) (gN m35 (gZ m33)) then gz_let (gz_sI m35 (gZ m33) (gz_ix (0 : Int32)) ((116 : Int32).toUInt32.toUInt16.toUInt32.toInt32)) fun m38 => (if gK m38 (gZ m33) = 103 ∧ 1000 ≤ (gZ m33) then (if gz_in (1 : Int32) (gN m38 (gZ m33)) then gz_let (gz_sI m38 (gZ m33) (gz_ix (1 : Int32)) ((104 : Int32).toUInt32.toUInt16.toUInt32.toInt32)) fun m41 => (if gK m41 (gZ m33) = 103 ∧ 1000 ≤ (gZ m33) then (if gz_in (2 : Int32) (gN m41 (gZ m33)) then gz_let (gz_sI m41 (gZ m33) (gz_ix (2 : Int32)) ((105 : Int32).toUInt32.toUInt16.toUInt32.toInt32)) fun m44 => (if gK m44 (gZ m33) = 103 ∧ 1000 ≤ (gZ m33) then (if gz_in (3 : Int32) (gN m44 (gZ m33)) then gz_let (gz_sI m44 (gZ m33) (gz_ix (3 : Int32)) ((110 : Int32).toUInt32.toUInt16.toUInt32.toInt32)) fun m47 => (if gK m47 (gZ m33) = 103 ∧ 1000 ≤ (gZ m33) then (if gz_in (4 : Int32) (gN m47 (gZ m33)) then gz_let (gz_sI m47 (gZ m33) (gz_ix (4 : Int32)) ((103 : Int32).toUInt32.toUInt16.toUInt32.toInt32)) fun m50 => (if gK m50 c0 = 1 then (if 1000 ≤ c0 then (if (gZ m33) ≠ 0 then gz_let (gz_sP m50 c0 15 (gZ m33)) fun m54 => (Rmj_X6_init_161 c0 m54) else none) else none) else none) else none) else none) else none) else none) else none) else none) else none) else none) else none) else none) else none) else none) else none) else none) else none) else none) else none) else none) else none) else none) else none) else none) else none) else none) else none) else none) else none) else none) else none) else none) else none) else none) else none)
theorem Rwb_X6_init_80 {X : gz_X} {G : gz_G} {zE : Nat × Nat} (hX : gz_C mR X G cX6_init 1 RX6 1 20) (hn0 : X.2.2.2.2.2.2.2.2.1.name = "<init>") {c0 : Nat}  {m : gM} {z : (Unit × gM)} (h : Rmj_X6_init_80 c0 m = some z) (hk : (fun z : (Unit × gM) => gz_kVa mR X G 1 zE cX6_init z.2) z) : gz_Va mR X G 1 zE m 80 [(0, .ref (gz_ad G c0))] [] := by
  unfold Rmj_X6_init_80 at h
  refine gz_Vs (fun _ kk => gz_aload_n (pc := 80) hX dX6_init_80 rfl 0 rfl kk) rfl ?_
  refine gz_Vs (fun _ kk => gz_iconst (pc := 81) (v := (2 : Int32)) hX dX6_init_81 (by decide) kk) rfl ?_
  obtain ⟨g1, h⟩ := gz_gu h
  obtain ⟨m2, em2, h⟩ := gz_lt h
  refine gz_Vn (fun _ kk => gz_newa (pc := 82) (t := 2) (N := gz_ix (2 : Int32)) hX rfl rfl q726 rfl ⟨⟨g1.1, Nat.lt_succ_self _⟩, rfl⟩ g1.2.1 g1.2.2 (fun _ _ => trivial) dX6_init_82 em2 kk) em2 ?_
  refine gz_Vs (fun _ kk => gz_dup (pc := 84) hX dX6_init_84 rfl kk) rfl ?_
  refine gz_Vs (fun _ kk => gz_iconst (pc := 85) (v := (0 : Int32)) hX dX6_init_85 (by decide) kk) rfl ?_
  refine gz_Vs (fun _ kk => gz_bipush (pc := 86) (v := (116 : Int32)) hX dX6_init_86 (by decide) kk) rfl ?_
  obtain ⟨g3, h⟩ := gz_gu h
  obtain ⟨g4, h⟩ := gz_gu h
  obtain ⟨m5, em5, h⟩ := gz_lt h
  refine gz_Vs (fun _ kk => gz_cast2 (pc := 88) (c := (gZ m)) (n := gN m2 (gZ m)) hX rfl (fun _ => ⟨g3.1, rfl⟩) g3.2 g4 dX6_init_88 em5 kk) (by rw [em5]; rfl) ?_
  refine gz_Vs (fun _ kk => gz_dup (pc := 89) hX dX6_init_89 rfl kk) rfl ?_
  refine gz_Vs (fun _ kk => gz_iconst (pc := 90) (v := (1 : Int32)) hX dX6_init_90 (by decide) kk) rfl ?_
  refine gz_Vs (fun _ kk => gz_bipush (pc := 91) (v := (111 : Int32)) hX dX6_init_91 (by decide) kk) rfl ?_
  obtain ⟨g6, h⟩ := gz_gu h
  obtain ⟨g7, h⟩ := gz_gu h
  obtain ⟨m8, em8, h⟩ := gz_lt h
  refine gz_Vs (fun _ kk => gz_cast2 (pc := 93) (c := (gZ m)) (n := gN m5 (gZ m)) hX rfl (fun _ => ⟨g6.1, rfl⟩) g6.2 g7 dX6_init_93 em8 kk) (by rw [em8]; rfl) ?_
  obtain ⟨g9, h⟩ := gz_gu h
  obtain ⟨g10, h⟩ := gz_gu h
  obtain ⟨g11, h⟩ := gz_gu h
  obtain ⟨m12, em12, h⟩ := gz_lt h
  refine gz_Vs (fun _ kk => Rcp_X6_27_0 (pc := 94) hX hn0 (c := c0) (fun _ => g9) g10 g11 dX6_init_94 em12 kk) (by rw [em12]; rfl) ?_
  refine gz_Vs (fun _ kk => gz_aload_n (pc := 97) hX dX6_init_97 rfl 0 rfl kk) rfl ?_
  refine gz_Vs (fun _ kk => gz_iconst (pc := 98) (v := (5 : Int32)) hX dX6_init_98 (by decide) kk) rfl ?_
  obtain ⟨g13, h⟩ := gz_gu h
  obtain ⟨m14, em14, h⟩ := gz_lt h
  refine gz_Vn (fun _ kk => gz_newa (pc := 99) (t := 2) (N := gz_ix (5 : Int32)) hX rfl rfl q726 rfl ⟨⟨g13.1, Nat.lt_succ_self _⟩, rfl⟩ g13.2.1 g13.2.2 (fun _ _ => trivial) dX6_init_99 em14 kk) em14 ?_
  refine gz_Vs (fun _ kk => gz_dup (pc := 101) hX dX6_init_101 rfl kk) rfl ?_
  refine gz_Vs (fun _ kk => gz_iconst (pc := 102) (v := (0 : Int32)) hX dX6_init_102 (by decide) kk) rfl ?_
  refine gz_Vs (fun _ kk => gz_bipush (pc := 103) (v := (115 : Int32)) hX dX6_init_103 (by decide) kk) rfl ?_
  obtain ⟨g15, h⟩ := gz_gu h
  obtain ⟨g16, h⟩ := gz_gu h
  obtain ⟨m17, em17, h⟩ := gz_lt h
  refine gz_Vs (fun _ kk => gz_cast2 (pc := 105) (c := (gZ m12)) (n := gN m14 (gZ m12)) hX rfl (fun _ => ⟨g15.1, rfl⟩) g15.2 g16 dX6_init_105 em17 kk) (by rw [em17]; rfl) ?_
  refine gz_Vs (fun _ kk => gz_dup (pc := 106) hX dX6_init_106 rfl kk) rfl ?_
  refine gz_Vs (fun _ kk => gz_iconst (pc := 107) (v := (1 : Int32)) hX dX6_init_107 (by decide) kk) rfl ?_
  refine gz_Vs (fun _ kk => gz_bipush (pc := 108) (v := (116 : Int32)) hX dX6_init_108 (by decide) kk) rfl ?_
  obtain ⟨g18, h⟩ := gz_gu h
  obtain ⟨g19, h⟩ := gz_gu h
  obtain ⟨m20, em20, h⟩ := gz_lt h
  refine gz_Vs (fun _ kk => gz_cast2 (pc := 110) (c := (gZ m12)) (n := gN m17 (gZ m12)) hX rfl (fun _ => ⟨g18.1, rfl⟩) g18.2 g19 dX6_init_110 em20 kk) (by rw [em20]; rfl) ?_
  refine gz_Vs (fun _ kk => gz_dup (pc := 111) hX dX6_init_111 rfl kk) rfl ?_
  refine gz_Vs (fun _ kk => gz_iconst (pc := 112) (v := (2 : Int32)) hX dX6_init_112 (by decide) kk) rfl ?_
  refine gz_Vs (fun _ kk => gz_bipush (pc := 113) (v := (101 : Int32)) hX dX6_init_113 (by decide) kk) rfl ?_
  obtain ⟨g21, h⟩ := gz_gu h
  obtain ⟨g22, h⟩ := gz_gu h
  obtain ⟨m23, em23, h⟩ := gz_lt h
  refine gz_Vs (fun _ kk => gz_cast2 (pc := 115) (c := (gZ m12)) (n := gN m20 (gZ m12)) hX rfl (fun _ => ⟨g21.1, rfl⟩) g21.2 g22 dX6_init_115 em23 kk) (by rw [em23]; rfl) ?_
  refine gz_Vs (fun _ kk => gz_dup (pc := 116) hX dX6_init_116 rfl kk) rfl ?_
  refine gz_Vs (fun _ kk => gz_iconst (pc := 117) (v := (3 : Int32)) hX dX6_init_117 (by decide) kk) rfl ?_
  refine gz_Vs (fun _ kk => gz_bipush (pc := 118) (v := (112 : Int32)) hX dX6_init_118 (by decide) kk) rfl ?_
  obtain ⟨g24, h⟩ := gz_gu h
  obtain ⟨g25, h⟩ := gz_gu h
  obtain ⟨m26, em26, h⟩ := gz_lt h
  refine gz_Vs (fun _ kk => gz_cast2 (pc := 120) (c := (gZ m12)) (n := gN m23 (gZ m12)) hX rfl (fun _ => ⟨g24.1, rfl⟩) g24.2 g25 dX6_init_120 em26 kk) (by rw [em26]; rfl) ?_
  refine gz_Vs (fun _ kk => gz_dup (pc := 121) hX dX6_init_121 rfl kk) rfl ?_
  refine gz_Vs (fun _ kk => gz_iconst (pc := 122) (v := (4 : Int32)) hX dX6_init_122 (by decide) kk) rfl ?_
  refine gz_Vs (fun _ kk => gz_bipush (pc := 123) (v := (115 : Int32)) hX dX6_init_123 (by decide) kk) rfl ?_
  obtain ⟨g27, h⟩ := gz_gu h
  obtain ⟨g28, h⟩ := gz_gu h
  obtain ⟨m29, em29, h⟩ := gz_lt h
  refine gz_Vs (fun _ kk => gz_cast2 (pc := 125) (c := (gZ m12)) (n := gN m26 (gZ m12)) hX rfl (fun _ => ⟨g27.1, rfl⟩) g27.2 g28 dX6_init_125 em29 kk) (by rw [em29]; rfl) ?_
  obtain ⟨g30, h⟩ := gz_gu h
  obtain ⟨g31, h⟩ := gz_gu h
  obtain ⟨g32, h⟩ := gz_gu h
  obtain ⟨m33, em33, h⟩ := gz_lt h
  refine gz_Vs (fun _ kk => Rcp_X6_30_0 (pc := 126) hX hn0 (c := c0) (fun _ => g30) g31 g32 dX6_init_126 em33 kk) (by rw [em33]; rfl) ?_
  refine gz_Vs (fun _ kk => gz_aload_n (pc := 129) hX dX6_init_129 rfl 0 rfl kk) rfl ?_
  refine gz_Vs (fun _ kk => gz_iconst (pc := 130) (v := (5 : Int32)) hX dX6_init_130 (by decide) kk) rfl ?_
  obtain ⟨g34, h⟩ := gz_gu h
  obtain ⟨m35, em35, h⟩ := gz_lt h
  refine gz_Vn (fun _ kk => gz_newa (pc := 131) (t := 2) (N := gz_ix (5 : Int32)) hX rfl rfl q726 rfl ⟨⟨g34.1, Nat.lt_succ_self _⟩, rfl⟩ g34.2.1 g34.2.2 (fun _ _ => trivial) dX6_init_131 em35 kk) em35 ?_
  refine gz_Vs (fun _ kk => gz_dup (pc := 133) hX dX6_init_133 rfl kk) rfl ?_
  refine gz_Vs (fun _ kk => gz_iconst (pc := 134) (v := (0 : Int32)) hX dX6_init_134 (by decide) kk) rfl ?_
  refine gz_Vs (fun _ kk => gz_bipush (pc := 135) (v := (116 : Int32)) hX dX6_init_135 (by decide) kk) rfl ?_
  obtain ⟨g36, h⟩ := gz_gu h
  obtain ⟨g37, h⟩ := gz_gu h
  obtain ⟨m38, em38, h⟩ := gz_lt h
  refine gz_Vs (fun _ kk => gz_cast2 (pc := 137) (c := (gZ m33)) (n := gN m35 (gZ m33)) hX rfl (fun _ => ⟨g36.1, rfl⟩) g36.2 g37 dX6_init_137 em38 kk) (by rw [em38]; rfl) ?_
  refine gz_Vs (fun _ kk => gz_dup (pc := 138) hX dX6_init_138 rfl kk) rfl ?_
  refine gz_Vs (fun _ kk => gz_iconst (pc := 139) (v := (1 : Int32)) hX dX6_init_139 (by decide) kk) rfl ?_
  refine gz_Vs (fun _ kk => gz_bipush (pc := 140) (v := (104 : Int32)) hX dX6_init_140 (by decide) kk) rfl ?_
  obtain ⟨g39, h⟩ := gz_gu h
  obtain ⟨g40, h⟩ := gz_gu h
  obtain ⟨m41, em41, h⟩ := gz_lt h
  refine gz_Vs (fun _ kk => gz_cast2 (pc := 142) (c := (gZ m33)) (n := gN m38 (gZ m33)) hX rfl (fun _ => ⟨g39.1, rfl⟩) g39.2 g40 dX6_init_142 em41 kk) (by rw [em41]; rfl) ?_
  refine gz_Vs (fun _ kk => gz_dup (pc := 143) hX dX6_init_143 rfl kk) rfl ?_
  refine gz_Vs (fun _ kk => gz_iconst (pc := 144) (v := (2 : Int32)) hX dX6_init_144 (by decide) kk) rfl ?_
  refine gz_Vs (fun _ kk => gz_bipush (pc := 145) (v := (105 : Int32)) hX dX6_init_145 (by decide) kk) rfl ?_
  obtain ⟨g42, h⟩ := gz_gu h
  obtain ⟨g43, h⟩ := gz_gu h
  obtain ⟨m44, em44, h⟩ := gz_lt h
  refine gz_Vs (fun _ kk => gz_cast2 (pc := 147) (c := (gZ m33)) (n := gN m41 (gZ m33)) hX rfl (fun _ => ⟨g42.1, rfl⟩) g42.2 g43 dX6_init_147 em44 kk) (by rw [em44]; rfl) ?_
  refine gz_Vs (fun _ kk => gz_dup (pc := 148) hX dX6_init_148 rfl kk) rfl ?_
  refine gz_Vs (fun _ kk => gz_iconst (pc := 149) (v := (3 : Int32)) hX dX6_init_149 (by decide) kk) rfl ?_
  refine gz_Vs (fun _ kk => gz_bipush (pc := 150) (v := (110 : Int32)) hX dX6_init_150 (by decide) kk) rfl ?_
  obtain ⟨g45, h⟩ := gz_gu h
  obtain ⟨g46, h⟩ := gz_gu h
  obtain ⟨m47, em47, h⟩ := gz_lt h
  refine gz_Vs (fun _ kk => gz_cast2 (pc := 152) (c := (gZ m33)) (n := gN m44 (gZ m33)) hX rfl (fun _ => ⟨g45.1, rfl⟩) g45.2 g46 dX6_init_152 em47 kk) (by rw [em47]; rfl) ?_
  refine gz_Vs (fun _ kk => gz_dup (pc := 153) hX dX6_init_153 rfl kk) rfl ?_
  refine gz_Vs (fun _ kk => gz_iconst (pc := 154) (v := (4 : Int32)) hX dX6_init_154 (by decide) kk) rfl ?_
  refine gz_Vs (fun _ kk => gz_bipush (pc := 155) (v := (103 : Int32)) hX dX6_init_155 (by decide) kk) rfl ?_
  obtain ⟨g48, h⟩ := gz_gu h
  obtain ⟨g49, h⟩ := gz_gu h
  obtain ⟨m50, em50, h⟩ := gz_lt h
  refine gz_Vs (fun _ kk => gz_cast2 (pc := 157) (c := (gZ m33)) (n := gN m47 (gZ m33)) hX rfl (fun _ => ⟨g48.1, rfl⟩) g48.2 g49 dX6_init_157 em50 kk) (by rw [em50]; rfl) ?_
  obtain ⟨g51, h⟩ := gz_gu h
  obtain ⟨g52, h⟩ := gz_gu h
  obtain ⟨g53, h⟩ := gz_gu h
  obtain ⟨m54, em54, h⟩ := gz_lt h
  refine gz_Vs (fun _ kk => Rcp_X6_33_0 (pc := 158) hX hn0 (c := c0) (fun _ => g51) g52 g53 dX6_init_158 em54 kk) (by rw [em54]; rfl) ?_
  exact Rwb_X6_init_161 hX hn0 h hk
noncomputable def Rcf_X6_init (c0 : Nat) (m : gM) : Option (Unit × gM) :=
  (if 0 ≤ (1600 : Int32) ∧ gz_ix (1600 : Int32) * 4 ≤ 536870912 ∧ gZ m ≠ 0 then gz_let (gz_al m (0 + 101) (gz_ix (1600 : Int32)) (gz_ix (1600 : Int32))) fun m2 => (if gK m2 c0 = 1 then (if 1000 ≤ c0 then (if (gZ m) ≠ 0 then gz_let (gz_sP m2 c0 0 (gZ m)) fun m6 => (if gK m6 c0 = 1 then (if 1000 ≤ c0 then gz_let (gz_sI m6 c0 8 (-1 : Int32)) fun m9 => (if 0 ≤ (6 : Int32) ∧ gz_ix (6 : Int32) * 4 ≤ 536870912 ∧ gZ m9 ≠ 0 then gz_let (gz_al m9 (0 + 101) (gz_ix (6 : Int32)) (gz_ix (6 : Int32))) fun m11 => (if gK m11 c0 = 1 then (if 1000 ≤ c0 then (if (gZ m9) ≠ 0 then gz_let (gz_sP m11 c0 9 (gZ m9)) fun m15 => (if 0 ≤ (4 : Int32) ∧ gz_ix (4 : Int32) * 2 ≤ 536870912 ∧ gZ m15 ≠ 0 then gz_let (gz_al m15 (2 + 101) (gz_ix (4 : Int32)) (gz_ix (4 : Int32))) fun m17 => (if gK m17 (gZ m15) = 103 ∧ 1000 ≤ (gZ m15) then (if gz_in (0 : Int32) (gN m17 (gZ m15)) then gz_let (gz_sI m17 (gZ m15) (gz_ix (0 : Int32)) ((104 : Int32).toUInt32.toUInt16.toUInt32.toInt32)) fun m20 => (if gK m20 (gZ m15) = 103 ∧ 1000 ≤ (gZ m15) then (if gz_in (1 : Int32) (gN m20 (gZ m15)) then gz_let (gz_sI m20 (gZ m15) (gz_ix (1 : Int32)) ((97 : Int32).toUInt32.toUInt16.toUInt32.toInt32)) fun m23 => (if gK m23 (gZ m15) = 103 ∧ 1000 ≤ (gZ m15) then (if gz_in (2 : Int32) (gN m23 (gZ m15)) then gz_let (gz_sI m23 (gZ m15) (gz_ix (2 : Int32)) ((108 : Int32).toUInt32.toUInt16.toUInt32.toInt32)) fun m26 => (if gK m26 (gZ m15) = 103 ∧ 1000 ≤ (gZ m15) then (if gz_in (3 : Int32) (gN m26 (gZ m15)) then gz_let (gz_sI m26 (gZ m15) (gz_ix (3 : Int32)) ((108 : Int32).toUInt32.toUInt16.toUInt32.toInt32)) fun m29 => (if gK m29 c0 = 1 then (if 1000 ≤ c0 then (if (gZ m15) ≠ 0 then gz_let (gz_sP m29 c0 11 (gZ m15)) fun m33 => (if 0 ≤ (4 : Int32) ∧ gz_ix (4 : Int32) * 2 ≤ 536870912 ∧ gZ m33 ≠ 0 then gz_let (gz_al m33 (2 + 101) (gz_ix (4 : Int32)) (gz_ix (4 : Int32))) fun m35 => (if gK m35 (gZ m33) = 103 ∧ 1000 ≤ (gZ m33) then (if gz_in (0 : Int32) (gN m35 (gZ m33)) then gz_let (gz_sI m35 (gZ m33) (gz_ix (0 : Int32)) ((100 : Int32).toUInt32.toUInt16.toUInt32.toInt32)) fun m38 => (if gK m38 (gZ m33) = 103 ∧ 1000 ≤ (gZ m33) then (if gz_in (1 : Int32) (gN m38 (gZ m33)) then gz_let (gz_sI m38 (gZ m33) (gz_ix (1 : Int32)) ((111 : Int32).toUInt32.toUInt16.toUInt32.toInt32)) fun m41 => (if gK m41 (gZ m33) = 103 ∧ 1000 ≤ (gZ m33) then (if gz_in (2 : Int32) (gN m41 (gZ m33)) then gz_let (gz_sI m41 (gZ m33) (gz_ix (2 : Int32)) ((111 : Int32).toUInt32.toUInt16.toUInt32.toInt32)) fun m44 => (if gK m44 (gZ m33) = 103 ∧ 1000 ≤ (gZ m33) then (if gz_in (3 : Int32) (gN m44 (gZ m33)) then gz_let (gz_sI m44 (gZ m33) (gz_ix (3 : Int32)) ((114 : Int32).toUInt32.toUInt16.toUInt32.toInt32)) fun m47 => (if gK m47 c0 = 1 then (if 1000 ≤ c0 then (if (gZ m33) ≠ 0 then gz_let (gz_sP m47 c0 12 (gZ m33)) fun m51 => (Rmj_X6_init_80 c0 m51) else none) else none) else none) else none) else none) else none) else none) else none) else none) else none) else none) else none) else none) else none) else none) else none) else none) else none) else none) else none) else none) else none) else none) else none) else none) else none) else none) else none) else none) else none) else none) else none) else none) else none)
theorem Rwm_X6_init {X : gz_X} {G : gz_G} {zE : Nat × Nat} (hX : gz_C mR X G cX6_init 1 RX6 1 20) (hn0 : X.2.2.2.2.2.2.2.2.1.name = "<init>") {c0 : Nat}  {m : gM} {z : (Unit × gM)} (h : Rcf_X6_init c0 m = some z) (hk : (fun z : (Unit × gM) => gz_kVa mR X G 1 zE cX6_init z.2) z) : gz_Va mR X G 1 zE m 0 [(0, .ref (gz_ad G c0))] [] := by
  unfold Rcf_X6_init at h
  refine gz_Vs (fun _ kk => gz_aload_n (pc := 0) hX dX6_init_0 rfl 0 rfl kk) rfl ?_
  refine gz_Vs (fun _ kk => gz_objI (pc := 1) hX q1770 q214 q215 ⟨Nat.le_of_ble_eq_true rfl, Nat.le_of_ble_eq_true rfl⟩ (Nat.le_of_ble_eq_true rfl) dX6_init_1 kk) rfl ?_
  refine gz_Vs (fun _ kk => gz_aload_n (pc := 4) hX dX6_init_4 rfl 0 rfl kk) rfl ?_
  refine gz_Vs (fun _ kk => gz_sipush (pc := 5) (v := (1600 : Int32)) hX dX6_init_5 (by decide) kk) rfl ?_
  obtain ⟨g1, h⟩ := gz_gu h
  obtain ⟨m2, em2, h⟩ := gz_lt h
  refine gz_Vn (fun _ kk => gz_newa (pc := 8) (t := 0) (N := gz_ix (1600 : Int32)) hX rfl rfl q457 rfl ⟨⟨g1.1, Nat.lt_succ_self _⟩, rfl⟩ g1.2.1 g1.2.2 (fun _ _ => trivial) dX6_init_8 em2 kk) em2 ?_
  obtain ⟨g3, h⟩ := gz_gu h
  obtain ⟨g4, h⟩ := gz_gu h
  obtain ⟨g5, h⟩ := gz_gu h
  obtain ⟨m6, em6, h⟩ := gz_lt h
  refine gz_Vs (fun _ kk => Rcp_X6_7_0 (pc := 10) hX hn0 (c := c0) (fun _ => g3) g4 g5 dX6_init_10 em6 kk) (by rw [em6]; rfl) ?_
  refine gz_Vs (fun _ kk => gz_aload_n (pc := 13) hX dX6_init_13 rfl 0 rfl kk) rfl ?_
  refine gz_Vs (fun _ kk => gz_iconst (pc := 14) (v := (-1 : Int32)) hX dX6_init_14 (by decide) kk) rfl ?_
  obtain ⟨g7, h⟩ := gz_gu h
  obtain ⟨g8, h⟩ := gz_gu h
  obtain ⟨m9, em9, h⟩ := gz_lt h
  refine gz_Vs (fun _ kk => Rcp_X6_13_0 (pc := 15) hX (c := c0) (fun _ => g7) g8 dX6_init_15 em9 kk) (by rw [em9]; rfl) ?_
  refine gz_Vs (fun _ kk => gz_aload_n (pc := 18) hX dX6_init_18 rfl 0 rfl kk) rfl ?_
  refine gz_Vs (fun _ kk => gz_bipush (pc := 19) (v := (6 : Int32)) hX dX6_init_19 (by decide) kk) rfl ?_
  obtain ⟨g10, h⟩ := gz_gu h
  obtain ⟨m11, em11, h⟩ := gz_lt h
  refine gz_Vn (fun _ kk => gz_newa (pc := 21) (t := 0) (N := gz_ix (6 : Int32)) hX rfl rfl q457 rfl ⟨⟨g10.1, Nat.lt_succ_self _⟩, rfl⟩ g10.2.1 g10.2.2 (fun _ _ => trivial) dX6_init_21 em11 kk) em11 ?_
  obtain ⟨g12, h⟩ := gz_gu h
  obtain ⟨g13, h⟩ := gz_gu h
  obtain ⟨g14, h⟩ := gz_gu h
  obtain ⟨m15, em15, h⟩ := gz_lt h
  refine gz_Vs (fun _ kk => Rcp_X6_17_0 (pc := 23) hX hn0 (c := c0) (fun _ => g12) g13 g14 dX6_init_23 em15 kk) (by rw [em15]; rfl) ?_
  refine gz_Vs (fun _ kk => gz_aload_n (pc := 26) hX dX6_init_26 rfl 0 rfl kk) rfl ?_
  refine gz_Vs (fun _ kk => gz_iconst (pc := 27) (v := (4 : Int32)) hX dX6_init_27 (by decide) kk) rfl ?_
  obtain ⟨g16, h⟩ := gz_gu h
  obtain ⟨m17, em17, h⟩ := gz_lt h
  refine gz_Vn (fun _ kk => gz_newa (pc := 28) (t := 2) (N := gz_ix (4 : Int32)) hX rfl rfl q726 rfl ⟨⟨g16.1, Nat.lt_succ_self _⟩, rfl⟩ g16.2.1 g16.2.2 (fun _ _ => trivial) dX6_init_28 em17 kk) em17 ?_
  refine gz_Vs (fun _ kk => gz_dup (pc := 30) hX dX6_init_30 rfl kk) rfl ?_
  refine gz_Vs (fun _ kk => gz_iconst (pc := 31) (v := (0 : Int32)) hX dX6_init_31 (by decide) kk) rfl ?_
  refine gz_Vs (fun _ kk => gz_bipush (pc := 32) (v := (104 : Int32)) hX dX6_init_32 (by decide) kk) rfl ?_
  obtain ⟨g18, h⟩ := gz_gu h
  obtain ⟨g19, h⟩ := gz_gu h
  obtain ⟨m20, em20, h⟩ := gz_lt h
  refine gz_Vs (fun _ kk => gz_cast2 (pc := 34) (c := (gZ m15)) (n := gN m17 (gZ m15)) hX rfl (fun _ => ⟨g18.1, rfl⟩) g18.2 g19 dX6_init_34 em20 kk) (by rw [em20]; rfl) ?_
  refine gz_Vs (fun _ kk => gz_dup (pc := 35) hX dX6_init_35 rfl kk) rfl ?_
  refine gz_Vs (fun _ kk => gz_iconst (pc := 36) (v := (1 : Int32)) hX dX6_init_36 (by decide) kk) rfl ?_
  refine gz_Vs (fun _ kk => gz_bipush (pc := 37) (v := (97 : Int32)) hX dX6_init_37 (by decide) kk) rfl ?_
  obtain ⟨g21, h⟩ := gz_gu h
  obtain ⟨g22, h⟩ := gz_gu h
  obtain ⟨m23, em23, h⟩ := gz_lt h
  refine gz_Vs (fun _ kk => gz_cast2 (pc := 39) (c := (gZ m15)) (n := gN m20 (gZ m15)) hX rfl (fun _ => ⟨g21.1, rfl⟩) g21.2 g22 dX6_init_39 em23 kk) (by rw [em23]; rfl) ?_
  refine gz_Vs (fun _ kk => gz_dup (pc := 40) hX dX6_init_40 rfl kk) rfl ?_
  refine gz_Vs (fun _ kk => gz_iconst (pc := 41) (v := (2 : Int32)) hX dX6_init_41 (by decide) kk) rfl ?_
  refine gz_Vs (fun _ kk => gz_bipush (pc := 42) (v := (108 : Int32)) hX dX6_init_42 (by decide) kk) rfl ?_
  obtain ⟨g24, h⟩ := gz_gu h
  obtain ⟨g25, h⟩ := gz_gu h
  obtain ⟨m26, em26, h⟩ := gz_lt h
  refine gz_Vs (fun _ kk => gz_cast2 (pc := 44) (c := (gZ m15)) (n := gN m23 (gZ m15)) hX rfl (fun _ => ⟨g24.1, rfl⟩) g24.2 g25 dX6_init_44 em26 kk) (by rw [em26]; rfl) ?_
  refine gz_Vs (fun _ kk => gz_dup (pc := 45) hX dX6_init_45 rfl kk) rfl ?_
  refine gz_Vs (fun _ kk => gz_iconst (pc := 46) (v := (3 : Int32)) hX dX6_init_46 (by decide) kk) rfl ?_
  refine gz_Vs (fun _ kk => gz_bipush (pc := 47) (v := (108 : Int32)) hX dX6_init_47 (by decide) kk) rfl ?_
  obtain ⟨g27, h⟩ := gz_gu h
  obtain ⟨g28, h⟩ := gz_gu h
  obtain ⟨m29, em29, h⟩ := gz_lt h
  refine gz_Vs (fun _ kk => gz_cast2 (pc := 49) (c := (gZ m15)) (n := gN m26 (gZ m15)) hX rfl (fun _ => ⟨g27.1, rfl⟩) g27.2 g28 dX6_init_49 em29 kk) (by rw [em29]; rfl) ?_
  obtain ⟨g30, h⟩ := gz_gu h
  obtain ⟨g31, h⟩ := gz_gu h
  obtain ⟨g32, h⟩ := gz_gu h
  obtain ⟨m33, em33, h⟩ := gz_lt h
  refine gz_Vs (fun _ kk => Rcp_X6_20_0 (pc := 50) hX hn0 (c := c0) (fun _ => g30) g31 g32 dX6_init_50 em33 kk) (by rw [em33]; rfl) ?_
  refine gz_Vs (fun _ kk => gz_aload_n (pc := 53) hX dX6_init_53 rfl 0 rfl kk) rfl ?_
  refine gz_Vs (fun _ kk => gz_iconst (pc := 54) (v := (4 : Int32)) hX dX6_init_54 (by decide) kk) rfl ?_
  obtain ⟨g34, h⟩ := gz_gu h
  obtain ⟨m35, em35, h⟩ := gz_lt h
  refine gz_Vn (fun _ kk => gz_newa (pc := 55) (t := 2) (N := gz_ix (4 : Int32)) hX rfl rfl q726 rfl ⟨⟨g34.1, Nat.lt_succ_self _⟩, rfl⟩ g34.2.1 g34.2.2 (fun _ _ => trivial) dX6_init_55 em35 kk) em35 ?_
  refine gz_Vs (fun _ kk => gz_dup (pc := 57) hX dX6_init_57 rfl kk) rfl ?_
  refine gz_Vs (fun _ kk => gz_iconst (pc := 58) (v := (0 : Int32)) hX dX6_init_58 (by decide) kk) rfl ?_
  refine gz_Vs (fun _ kk => gz_bipush (pc := 59) (v := (100 : Int32)) hX dX6_init_59 (by decide) kk) rfl ?_
  obtain ⟨g36, h⟩ := gz_gu h
  obtain ⟨g37, h⟩ := gz_gu h
  obtain ⟨m38, em38, h⟩ := gz_lt h
  refine gz_Vs (fun _ kk => gz_cast2 (pc := 61) (c := (gZ m33)) (n := gN m35 (gZ m33)) hX rfl (fun _ => ⟨g36.1, rfl⟩) g36.2 g37 dX6_init_61 em38 kk) (by rw [em38]; rfl) ?_
  refine gz_Vs (fun _ kk => gz_dup (pc := 62) hX dX6_init_62 rfl kk) rfl ?_
  refine gz_Vs (fun _ kk => gz_iconst (pc := 63) (v := (1 : Int32)) hX dX6_init_63 (by decide) kk) rfl ?_
  refine gz_Vs (fun _ kk => gz_bipush (pc := 64) (v := (111 : Int32)) hX dX6_init_64 (by decide) kk) rfl ?_
  obtain ⟨g39, h⟩ := gz_gu h
  obtain ⟨g40, h⟩ := gz_gu h
  obtain ⟨m41, em41, h⟩ := gz_lt h
  refine gz_Vs (fun _ kk => gz_cast2 (pc := 66) (c := (gZ m33)) (n := gN m38 (gZ m33)) hX rfl (fun _ => ⟨g39.1, rfl⟩) g39.2 g40 dX6_init_66 em41 kk) (by rw [em41]; rfl) ?_
  refine gz_Vs (fun _ kk => gz_dup (pc := 67) hX dX6_init_67 rfl kk) rfl ?_
  refine gz_Vs (fun _ kk => gz_iconst (pc := 68) (v := (2 : Int32)) hX dX6_init_68 (by decide) kk) rfl ?_
  refine gz_Vs (fun _ kk => gz_bipush (pc := 69) (v := (111 : Int32)) hX dX6_init_69 (by decide) kk) rfl ?_
  obtain ⟨g42, h⟩ := gz_gu h
  obtain ⟨g43, h⟩ := gz_gu h
  obtain ⟨m44, em44, h⟩ := gz_lt h
  refine gz_Vs (fun _ kk => gz_cast2 (pc := 71) (c := (gZ m33)) (n := gN m41 (gZ m33)) hX rfl (fun _ => ⟨g42.1, rfl⟩) g42.2 g43 dX6_init_71 em44 kk) (by rw [em44]; rfl) ?_
  refine gz_Vs (fun _ kk => gz_dup (pc := 72) hX dX6_init_72 rfl kk) rfl ?_
  refine gz_Vs (fun _ kk => gz_iconst (pc := 73) (v := (3 : Int32)) hX dX6_init_73 (by decide) kk) rfl ?_
  refine gz_Vs (fun _ kk => gz_bipush (pc := 74) (v := (114 : Int32)) hX dX6_init_74 (by decide) kk) rfl ?_
  obtain ⟨g45, h⟩ := gz_gu h
  obtain ⟨g46, h⟩ := gz_gu h
  obtain ⟨m47, em47, h⟩ := gz_lt h
  refine gz_Vs (fun _ kk => gz_cast2 (pc := 76) (c := (gZ m33)) (n := gN m44 (gZ m33)) hX rfl (fun _ => ⟨g45.1, rfl⟩) g45.2 g46 dX6_init_76 em47 kk) (by rw [em47]; rfl) ?_
  obtain ⟨g48, h⟩ := gz_gu h
  obtain ⟨g49, h⟩ := gz_gu h
  obtain ⟨g50, h⟩ := gz_gu h
  obtain ⟨m51, em51, h⟩ := gz_lt h
  refine gz_Vs (fun _ kk => Rcp_X6_24_0 (pc := 77) hX hn0 (c := c0) (fun _ => g48) g49 g50 dX6_init_77 em51 kk) (by rw [em51]; rfl) ?_
  exact Rwb_X6_init_80 hX hn0 h hk
theorem Rct_X6_init {G : gz_G} {l : Launch} {c0 : Nat}  {m m9 : gM} (h : Rcf_X6_init c0 m = some ((), m9)) : gz_Met mR G l yX6_init cX6_init 1 none (mRc 1 20 (gZ m9 - gZ m) (gW m9 - gW m)) [.ref (gz_ad G c0)] m m9 none :=
  gz_ofVc (by decide +kernel) (Nat.le_of_ble_eq_true rfl) fun X _ hn hX hk => (Rwm_X6_init (zE := m9.2.2.2.2.2) hX hn h (fun pc lv hd => gz_Ve (hk pc lv hd))).2
