/-! ===== the model: own words, names ===== -/
theorem wds_i : ∀ k : Nat, k < 25 → (1012 + k, ownW k) ∈ wds := by decide +kernel
def noW (T : Nat → Int) (n p k : Nat) : Prop := ∀ j : Nat, j < k → ¬ isW T n p (ownW j)
theorem noW.s {T : Nat → Int} {n p k : Nat} (h : noW T n p k) (hw : ¬ isW T n p (ownW k)) : noW T n p (k + 1) := fun j hj => by
  by_cases e : j = k
  · rw [e]; exact hw
  · exact h j (by omega)
theorem isOwn_of {T : Nat → Int} {n p k : Nat} (hk : k < 25) (h : isW T n p (ownW k)) : isOwn T n p := ⟨k, List.mem_range.mpr hk, h⟩
theorem isOwn_no {T : Nat → Int} {n p : Nat} (h : noW T n p 25) : ¬ isOwn T n p := fun ⟨k, hk, hw⟩ => h k (List.mem_range.mp hk) hw
theorem own_if {α : Type} {c : Prop} [Decidable c] {A B : Option α} {Q : α → Prop} (h1 : c → pw B Q) (h2 : ¬ c → pw A Q) : pw (if (if c then (1 : Int32) else 0) = 0 then A else B) Q := by
  by_cases h : c
  · rw [if_pos h, if_neg n10]; exact h1 h
  · rw [if_neg h]; exact pw_t (by first | rfl | exact True.intro) (h2 h)
theorem own315 (m : MM) : mj_X6_isOwnHere_315 m = some (1, m) := by
  unfold mj_X6_isOwnHere_315 mj_X6_isOwnHere_320
  rw [if_pos (Or.inr rfl)]
theorem own294 (m : MM) : mj_X6_isOwnHere_294 m = some (1, m) := by
  unfold mj_X6_isOwnHere_294 mj_X6_isOwnHere_299
  rw [if_neg n10]; exact own315 m
theorem own218 (m : MM) : mj_X6_isOwnHere_218 m = some (1, m) := by
  unfold mj_X6_isOwnHere_218 mj_X6_isOwnHere_223
  rw [if_neg n10]; exact own294 m
theorem own142 (m : MM) : mj_X6_isOwnHere_142 m = some (1, m) := by
  unfold mj_X6_isOwnHere_142 mj_X6_isOwnHere_147
  rw [if_neg n10]; exact own218 m
theorem own66 (m : MM) : mj_X6_isOwnHere_66 m = some (1, m) := by
  unfold mj_X6_isOwnHere_66 mj_X6_isOwnHere_71
  rw [if_neg n10]; exact own142 m
theorem p_own {T : Nat → Int} {n : Nat} {m : MM} (hL : lxM T n m) {p : Nat} (g : gd T n m p) : pw (mf_isOwnHere m) (fun q => q.1 = (if isOwn T n p then 1 else 0) ∧ xF m q.2 ∧ gs T n q.2 p) := by
  have X := xF.refl m
  have A : noW T n p 0 := fun j hj => absurd hj (Nat.not_lt_zero _)
  unfold mf_isOwnHere
  refine pw_bind (pw_mono (p_isHere hL g (show (1012, ownW 0) ∈ wds from wds_i 0 (by decide))) ?_)
  rintro ⟨r0, m0⟩ ⟨e0, x0, g0⟩
  dsimp only at e0 x0 g0 ⊢
  subst e0
  refine own_if (fun hw => pw_eq (own66 _) ⟨(if_pos (isOwn_of (k := 0) (by decide) hw)).symm, X.trans x0, g0⟩) (fun hw => ?_)
  replace A := A.s hw
  replace hL := hL.x x0
  replace X := X.trans x0
  have g := g0.gd
  refine pw_bind (pw_mono (p_isHere hL g (show (1013, ownW 1) ∈ wds from wds_i 1 (by decide))) ?_)
  rintro ⟨r1, m1⟩ ⟨e1, x1, g1⟩
  dsimp only at e1 x1 g1 ⊢
  subst e1
  refine own_if (fun hw => pw_eq (own66 _) ⟨(if_pos (isOwn_of (k := 1) (by decide) hw)).symm, X.trans x1, g1⟩) (fun hw => ?_)
  replace A := A.s hw
  replace hL := hL.x x1
  replace X := X.trans x1
  have g := g1.gd
  refine pw_bind (pw_mono (p_isHere hL g (show (1014, ownW 2) ∈ wds from wds_i 2 (by decide))) ?_)
  rintro ⟨r2, m2⟩ ⟨e2, x2, g2⟩
  dsimp only at e2 x2 g2 ⊢
  subst e2
  refine own_if (fun hw => pw_eq (own66 _) ⟨(if_pos (isOwn_of (k := 2) (by decide) hw)).symm, X.trans x2, g2⟩) (fun hw => ?_)
  replace A := A.s hw
  replace hL := hL.x x2
  replace X := X.trans x2
  have g := g2.gd
  refine pw_bind (pw_mono (p_isHere hL g (show (1015, ownW 3) ∈ wds from wds_i 3 (by decide))) ?_)
  rintro ⟨r3, m3⟩ ⟨e3, x3, g3⟩
  dsimp only at e3 x3 g3 ⊢
  subst e3
  refine own_if (fun hw => pw_eq (own66 _) ⟨(if_pos (isOwn_of (k := 3) (by decide) hw)).symm, X.trans x3, g3⟩) (fun hw => ?_)
  replace A := A.s hw
  replace hL := hL.x x3
  replace X := X.trans x3
  have g := g3.gd
  refine pw_bind (pw_mono (p_isHere hL g (show (1016, ownW 4) ∈ wds from wds_i 4 (by decide))) ?_)
  rintro ⟨r4, m4⟩ ⟨e4, x4, g4⟩
  dsimp only at e4 x4 g4 ⊢
  subst e4
  refine own_if (fun hw => pw_eq (own66 _) ⟨(if_pos (isOwn_of (k := 4) (by decide) hw)).symm, X.trans x4, g4⟩) (fun hw => ?_)
  replace A := A.s hw
  replace hL := hL.x x4
  replace X := X.trans x4
  have g := g4.gd
  refine pw_bind (pw_mono (p_isHere hL g (show (1017, ownW 5) ∈ wds from wds_i 5 (by decide))) ?_)
  rintro ⟨r5, m5⟩ ⟨e5, x5, g5⟩
  dsimp only at e5 x5 g5 ⊢
  subst e5
  refine own_if (fun hw => pw_eq (own66 _) ⟨(if_pos (isOwn_of (k := 5) (by decide) hw)).symm, X.trans x5, g5⟩) (fun hw => ?_)
  replace A := A.s hw
  replace hL := hL.x x5
  replace X := X.trans x5
  have g := g5.gd
  unfold mj_X6_isOwnHere_71
  refine pw_t (by first | rfl | exact True.intro) ?_
  refine pw_bind (pw_mono (p_isHere hL g (show (1018, ownW 6) ∈ wds from wds_i 6 (by decide))) ?_)
  rintro ⟨r6, m6⟩ ⟨e6, x6, g6⟩
  dsimp only at e6 x6 g6 ⊢
  subst e6
  refine own_if (fun hw => pw_eq (own142 _) ⟨(if_pos (isOwn_of (k := 6) (by decide) hw)).symm, X.trans x6, g6⟩) (fun hw => ?_)
  replace A := A.s hw
  replace hL := hL.x x6
  replace X := X.trans x6
  have g := g6.gd
  refine pw_bind (pw_mono (p_isHere hL g (show (1019, ownW 7) ∈ wds from wds_i 7 (by decide))) ?_)
  rintro ⟨r7, m7⟩ ⟨e7, x7, g7⟩
  dsimp only at e7 x7 g7 ⊢
  subst e7
  refine own_if (fun hw => pw_eq (own142 _) ⟨(if_pos (isOwn_of (k := 7) (by decide) hw)).symm, X.trans x7, g7⟩) (fun hw => ?_)
  replace A := A.s hw
  replace hL := hL.x x7
  replace X := X.trans x7
  have g := g7.gd
  refine pw_bind (pw_mono (p_isHere hL g (show (1020, ownW 8) ∈ wds from wds_i 8 (by decide))) ?_)
  rintro ⟨r8, m8⟩ ⟨e8, x8, g8⟩
  dsimp only at e8 x8 g8 ⊢
  subst e8
  refine own_if (fun hw => pw_eq (own142 _) ⟨(if_pos (isOwn_of (k := 8) (by decide) hw)).symm, X.trans x8, g8⟩) (fun hw => ?_)
  replace A := A.s hw
  replace hL := hL.x x8
  replace X := X.trans x8
  have g := g8.gd
  refine pw_bind (pw_mono (p_isHere hL g (show (1021, ownW 9) ∈ wds from wds_i 9 (by decide))) ?_)
  rintro ⟨r9, m9⟩ ⟨e9, x9, g9⟩
  dsimp only at e9 x9 g9 ⊢
  subst e9
  refine own_if (fun hw => pw_eq (own142 _) ⟨(if_pos (isOwn_of (k := 9) (by decide) hw)).symm, X.trans x9, g9⟩) (fun hw => ?_)
  replace A := A.s hw
  replace hL := hL.x x9
  replace X := X.trans x9
  have g := g9.gd
  refine pw_bind (pw_mono (p_isHere hL g (show (1022, ownW 10) ∈ wds from wds_i 10 (by decide))) ?_)
  rintro ⟨r10, m10⟩ ⟨e10, x10, g10⟩
  dsimp only at e10 x10 g10 ⊢
  subst e10
  refine own_if (fun hw => pw_eq (own142 _) ⟨(if_pos (isOwn_of (k := 10) (by decide) hw)).symm, X.trans x10, g10⟩) (fun hw => ?_)
  replace A := A.s hw
  replace hL := hL.x x10
  replace X := X.trans x10
  have g := g10.gd
  refine pw_bind (pw_mono (p_isHere hL g (show (1023, ownW 11) ∈ wds from wds_i 11 (by decide))) ?_)
  rintro ⟨r11, m11⟩ ⟨e11, x11, g11⟩
  dsimp only at e11 x11 g11 ⊢
  subst e11
  refine own_if (fun hw => pw_eq (own142 _) ⟨(if_pos (isOwn_of (k := 11) (by decide) hw)).symm, X.trans x11, g11⟩) (fun hw => ?_)
  replace A := A.s hw
  replace hL := hL.x x11
  replace X := X.trans x11
  have g := g11.gd
  unfold mj_X6_isOwnHere_147
  refine pw_t (by first | rfl | exact True.intro) ?_
  refine pw_bind (pw_mono (p_isHere hL g (show (1024, ownW 12) ∈ wds from wds_i 12 (by decide))) ?_)
  rintro ⟨r12, m12⟩ ⟨e12, x12, g12⟩
  dsimp only at e12 x12 g12 ⊢
  subst e12
  refine own_if (fun hw => pw_eq (own218 _) ⟨(if_pos (isOwn_of (k := 12) (by decide) hw)).symm, X.trans x12, g12⟩) (fun hw => ?_)
  replace A := A.s hw
  replace hL := hL.x x12
  replace X := X.trans x12
  have g := g12.gd
  refine pw_bind (pw_mono (p_isHere hL g (show (1025, ownW 13) ∈ wds from wds_i 13 (by decide))) ?_)
  rintro ⟨r13, m13⟩ ⟨e13, x13, g13⟩
  dsimp only at e13 x13 g13 ⊢
  subst e13
  refine own_if (fun hw => pw_eq (own218 _) ⟨(if_pos (isOwn_of (k := 13) (by decide) hw)).symm, X.trans x13, g13⟩) (fun hw => ?_)
  replace A := A.s hw
  replace hL := hL.x x13
  replace X := X.trans x13
  have g := g13.gd
  refine pw_bind (pw_mono (p_isHere hL g (show (1026, ownW 14) ∈ wds from wds_i 14 (by decide))) ?_)
  rintro ⟨r14, m14⟩ ⟨e14, x14, g14⟩
  dsimp only at e14 x14 g14 ⊢
  subst e14
  refine own_if (fun hw => pw_eq (own218 _) ⟨(if_pos (isOwn_of (k := 14) (by decide) hw)).symm, X.trans x14, g14⟩) (fun hw => ?_)
  replace A := A.s hw
  replace hL := hL.x x14
  replace X := X.trans x14
  have g := g14.gd
  refine pw_bind (pw_mono (p_isHere hL g (show (1027, ownW 15) ∈ wds from wds_i 15 (by decide))) ?_)
  rintro ⟨r15, m15⟩ ⟨e15, x15, g15⟩
  dsimp only at e15 x15 g15 ⊢
  subst e15
  refine own_if (fun hw => pw_eq (own218 _) ⟨(if_pos (isOwn_of (k := 15) (by decide) hw)).symm, X.trans x15, g15⟩) (fun hw => ?_)
  replace A := A.s hw
  replace hL := hL.x x15
  replace X := X.trans x15
  have g := g15.gd
  refine pw_bind (pw_mono (p_isHere hL g (show (1028, ownW 16) ∈ wds from wds_i 16 (by decide))) ?_)
  rintro ⟨r16, m16⟩ ⟨e16, x16, g16⟩
  dsimp only at e16 x16 g16 ⊢
  subst e16
  refine own_if (fun hw => pw_eq (own218 _) ⟨(if_pos (isOwn_of (k := 16) (by decide) hw)).symm, X.trans x16, g16⟩) (fun hw => ?_)
  replace A := A.s hw
  replace hL := hL.x x16
  replace X := X.trans x16
  have g := g16.gd
  refine pw_bind (pw_mono (p_isHere hL g (show (1029, ownW 17) ∈ wds from wds_i 17 (by decide))) ?_)
  rintro ⟨r17, m17⟩ ⟨e17, x17, g17⟩
  dsimp only at e17 x17 g17 ⊢
  subst e17
  refine own_if (fun hw => pw_eq (own218 _) ⟨(if_pos (isOwn_of (k := 17) (by decide) hw)).symm, X.trans x17, g17⟩) (fun hw => ?_)
  replace A := A.s hw
  replace hL := hL.x x17
  replace X := X.trans x17
  have g := g17.gd
  unfold mj_X6_isOwnHere_223
  refine pw_t (by first | rfl | exact True.intro) ?_
  refine pw_bind (pw_mono (p_isHere hL g (show (1030, ownW 18) ∈ wds from wds_i 18 (by decide))) ?_)
  rintro ⟨r18, m18⟩ ⟨e18, x18, g18⟩
  dsimp only at e18 x18 g18 ⊢
  subst e18
  refine own_if (fun hw => pw_eq (own294 _) ⟨(if_pos (isOwn_of (k := 18) (by decide) hw)).symm, X.trans x18, g18⟩) (fun hw => ?_)
  replace A := A.s hw
  replace hL := hL.x x18
  replace X := X.trans x18
  have g := g18.gd
  refine pw_bind (pw_mono (p_isHere hL g (show (1031, ownW 19) ∈ wds from wds_i 19 (by decide))) ?_)
  rintro ⟨r19, m19⟩ ⟨e19, x19, g19⟩
  dsimp only at e19 x19 g19 ⊢
  subst e19
  refine own_if (fun hw => pw_eq (own294 _) ⟨(if_pos (isOwn_of (k := 19) (by decide) hw)).symm, X.trans x19, g19⟩) (fun hw => ?_)
  replace A := A.s hw
  replace hL := hL.x x19
  replace X := X.trans x19
  have g := g19.gd
  refine pw_bind (pw_mono (p_isHere hL g (show (1032, ownW 20) ∈ wds from wds_i 20 (by decide))) ?_)
  rintro ⟨r20, m20⟩ ⟨e20, x20, g20⟩
  dsimp only at e20 x20 g20 ⊢
  subst e20
  refine own_if (fun hw => pw_eq (own294 _) ⟨(if_pos (isOwn_of (k := 20) (by decide) hw)).symm, X.trans x20, g20⟩) (fun hw => ?_)
  replace A := A.s hw
  replace hL := hL.x x20
  replace X := X.trans x20
  have g := g20.gd
  refine pw_bind (pw_mono (p_isHere hL g (show (1033, ownW 21) ∈ wds from wds_i 21 (by decide))) ?_)
  rintro ⟨r21, m21⟩ ⟨e21, x21, g21⟩
  dsimp only at e21 x21 g21 ⊢
  subst e21
  refine own_if (fun hw => pw_eq (own294 _) ⟨(if_pos (isOwn_of (k := 21) (by decide) hw)).symm, X.trans x21, g21⟩) (fun hw => ?_)
  replace A := A.s hw
  replace hL := hL.x x21
  replace X := X.trans x21
  have g := g21.gd
  refine pw_bind (pw_mono (p_isHere hL g (show (1034, ownW 22) ∈ wds from wds_i 22 (by decide))) ?_)
  rintro ⟨r22, m22⟩ ⟨e22, x22, g22⟩
  dsimp only at e22 x22 g22 ⊢
  subst e22
  refine own_if (fun hw => pw_eq (own294 _) ⟨(if_pos (isOwn_of (k := 22) (by decide) hw)).symm, X.trans x22, g22⟩) (fun hw => ?_)
  replace A := A.s hw
  replace hL := hL.x x22
  replace X := X.trans x22
  have g := g22.gd
  refine pw_bind (pw_mono (p_isHere hL g (show (1035, ownW 23) ∈ wds from wds_i 23 (by decide))) ?_)
  rintro ⟨r23, m23⟩ ⟨e23, x23, g23⟩
  dsimp only at e23 x23 g23 ⊢
  subst e23
  refine own_if (fun hw => pw_eq (own294 _) ⟨(if_pos (isOwn_of (k := 23) (by decide) hw)).symm, X.trans x23, g23⟩) (fun hw => ?_)
  replace A := A.s hw
  replace hL := hL.x x23
  replace X := X.trans x23
  have g := g23.gd
  unfold mj_X6_isOwnHere_299
  refine pw_t (by first | rfl | exact True.intro) ?_
  refine pw_bind (pw_mono (p_isHere hL g (show (1036, ownW 24) ∈ wds from wds_i 24 (by decide))) ?_)
  rintro ⟨r24, m24⟩ ⟨e24, x24, g24⟩
  dsimp only at e24 x24 g24 ⊢
  subst e24
  refine own_if (fun hw => pw_eq (own315 _) ⟨(if_pos (isOwn_of (k := 24) (by decide) hw)).symm, X.trans x24, g24⟩) (fun hw => ?_)
  replace A := A.s hw
  replace hL := hL.x x24
  replace X := X.trans x24
  have g := g24.gd
  unfold mj_X6_isOwnHere_320
  refine pw_t (Or.inl rfl) (pw_some ⟨(if_neg (isOwn_no A)).symm, X, g24⟩)
