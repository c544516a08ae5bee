/-! ===== a new list, a new builder, a sign laid to a builder ===== -/
/-- a builder of n signs with its place -/
def sbP (μ : gM) (b n : Nat) (g : Nat → Int) : Prop := sbR μ b n g ∧ (2369 ≤ b ∧ b < gZ μ) ∧ (2369 ≤ gP μ b 0 ∧ gP μ b 0 < gZ μ) ∧ gN μ (gP μ b 0) ≤ 3900 ∧ b ≠ gP μ b 0
theorem sgn_b (g : Int) : 0 ≤ sgn g ∧ sgn g < 128 := by
  unfold sgn
  split
  · omega
  · split
    · omega
    · split <;> omega
theorem fits_b {v : Int} (h : 0 ≤ v ∧ v < 128) : fits FieldType.byte (.int (iI v)) = true := by
  obtain ⟨k, rfl⟩ : ∃ k : Nat, v = k := ⟨v.toNat, by omega⟩
  have : ∀ k : Nat, k < 128 → fits FieldType.byte (.int (iI (k : Int))) = true := by decide +kernel
  exact this k (by omega)
theorem byt_b {v : Int} (h : 0 ≤ v ∧ v < 128) : ((iI v).toInt8.toInt32).toInt8.toInt32 = iI v := by
  obtain ⟨k, rfl⟩ : ∃ k : Nat, v = k := ⟨v.toNat, by omega⟩
  have : ∀ k : Nat, k < 128 → ((iI (k : Int)).toInt8.toInt32).toInt8.toInt32 = iI (k : Int) := by decide +kernel
  exact this k (by omega)
theorem shr0i (x : Int32) : x >>> (iI 0 &&& 31) = x := by
  rw [show iI 0 &&& (31 : Int32) = 0 by decide]
  exact Int32.shiftRight_zero
theorem shl0i (x : Int32) : x <<< (iI 0 &&& 31) = x := by
  rw [show iI 0 &&& (31 : Int32) = 0 by decide]
  exact Int32.shiftLeft_zero
/-- room is made -/
theorem c_ensure {μ : gM} {b n : Nat} {g : Nat → Int} (h : sbP μ b n g) (hn : n < 1700) : ∃ μ' : gM, cf_J14_ensureCapacityInternal b (iI ((n + 1 : Nat) : Int)) μ = some ((), μ') ∧ sbP μ' b n g ∧ n < gN μ' (gP μ' b 0) ∧ uF b (gP μ b 0) μ μ' ∧ (gP μ' b 0 = gP μ b 0 ∨ gP μ' b 0 = gZ μ) ∧ gC μ' ≤ gC μ + (2 * n + 10) := by
  have hAll := h
  obtain ⟨⟨a1, a2, a3, a4, a5, a6, a7, a8, a9, a10, a11⟩, ⟨b1, b2⟩, ⟨c1, c2⟩, d1, d2⟩ := h
  generalize hA : gP μ b 0 = a at *
  by_cases room : n < gN μ a
  · refine ⟨μ, ?_, hAll, by rw [hA]; exact room, ⟨Nat.le_refl _, Nat.le_refl _, fun _ _ _ _ => ⟨rfl, rfl, fun _ => ⟨rfl, rfl, rfl⟩⟩⟩, Or.inl hA, by omega⟩
    unfold cf_J14_ensureCapacityInternal
    simp only [gz_let]
    rw [if_pos a3, hA, if_pos a6, if_pos a8, if_pos a3, a4, shr0i, ← iI_nI, iI_sub, if_pos (by rw [iI_lit, iI_le (by omega) (by omega)]; omega)]
  · have hN : gN μ a = n := by omega
    have cap : ∃ c : Nat, c = n + (if (1 : Int) < (n : Int) + 2 then n + 2 else 1) := ⟨_, rfl⟩
    have e2 : iI ((n + 1 : Nat) : Int) - iI (n : Int) = iI 1 := by rw [iI_sub]; exact congrArg iI (by omega)
    have e3 : iI (n : Int) + (2 : Int32) = iI ((n : Int) + 2) := by rw [iI_lit, iI_add]
    have hnew : cf_J14_newCapacity b (iI ((n + 1 : Nat) : Int)) μ = some (iI ((2 * n + 2 : Nat) : Int), μ) := by
      unfold cf_J14_newCapacity
      simp only [gz_let]
      rw [if_pos a3, hA, if_pos a6, if_pos a8, if_pos a3, a4, shl0i, shl0i, hN, ← iI_nI, e2, e3, if_pos a3, c_newLen (by omega) (by omega) (by omega)]
      simp only [Option.bind_some]
      rw [if_pos (show (1 : Int) < (n : Int) + 2 by omega), show (n : Int) + ((n : Int) + 2) = ((2 * n + 2 : Nat) : Int) by omega, if_neg (by rw [iI_lit, iI_eq (by omega) (by omega)]; omega), if_pos a3, a4, shr0i]
    have g0 : gz_ix (0 : Int32) = 0 := by decide
    have gn : gz_ix (iI (n : Int)) = n := by rw [gix (by omega)]; omega
    have gc : gz_ix (iI ((2 * n + 2 : Nat) : Int)) = 2 * n + 2 := by rw [gix (by omega)]; omega
    generalize hm5 : gz_al μ (1 + 101) (2 * n + 2) (2 * n + 2) = m5
    have k5 : ∀ c : Nat, c ≠ gZ μ → gK m5 c = gK μ c := fun c hc => by rw [← hm5, al_k, if_neg hc]
    have n5 : ∀ c : Nat, c ≠ gZ μ → gN m5 c = gN μ c := fun c hc => by rw [← hm5, al_n, if_neg hc]
    have i5 : ∀ c j : Nat, c ≠ gZ μ → gI m5 c j = gI μ c j := fun c j hc => by rw [← hm5, al_i, if_neg hc]
    have l5 : ∀ c j : Nat, c ≠ gZ μ → gL m5 c j = gL μ c j := fun c j hc => by rw [← hm5, al_l, if_neg hc]
    have p5 : ∀ c j : Nat, c ≠ gZ μ → gP m5 c j = gP μ c j := fun c j hc => by rw [← hm5, al_p, if_neg hc]
    have k5z : gK m5 (gZ μ) = 102 := by rw [← hm5, al_k, if_pos rfl]
    have n5z : gN m5 (gZ μ) = 2 * n + 2 := by rw [← hm5, al_n, if_pos rfl]
    have z5 : gZ m5 = gZ μ + 1 := by rw [← hm5]; rfl
    have w5' : gW m5 = gW μ + (2 * n + 2) := by rw [← hm5]; rfl
    generalize hm6 : gz_cpI m5 a 0 (gZ μ) 0 n = m6
    have k6 : ∀ c : Nat, gK m6 c = gK m5 c := fun c => by rw [← hm6]; rfl
    have n6 : ∀ c : Nat, gN m6 c = gN m5 c := fun c => by rw [← hm6]; rfl
    have l6 : ∀ c j : Nat, gL m6 c j = gL m5 c j := fun c j => by rw [← hm6]; rfl
    have p6 : ∀ c j : Nat, gP m6 c j = gP m5 c j := fun c j => by rw [← hm6]; rfl
    have i6 : ∀ c j : Nat, c ≠ gZ μ → gI m6 c j = gI μ c j := fun c j hc => by
      rw [← hm6]
      show (if c = gZ μ then _ else gI m5 c j) = _
      rw [if_neg hc]
      exact i5 c j hc
    have i6z : ∀ j : Nat, j < n → gI m6 (gZ μ) j = gI μ a j := fun j hj => by
      rw [← hm6]
      show (if gZ μ = gZ μ then va_cpy (m5.2.2.1 a) (m5.2.2.1 (gZ μ)) 0 0 n j else _) = _
      rw [if_pos rfl]
      unfold va_cpy
      rw [if_pos (by omega), Nat.zero_add, Nat.sub_zero]
      exact i5 a j (by omega)
    have z6 : m6.2.2.2.2.2 = m5.2.2.2.2.2 := by rw [← hm6]; rfl
    have hz6 : gZ m6 = gZ m5 := congrArg Prod.fst z6
    have hw6 : gW m6 = gW m5 := congrArg Prod.snd z6
    have hcopy : cf_J13_copyOf_3 a (iI ((2 * n + 2 : Nat) : Int)) μ = some (gZ μ, m6) := by
      unfold cf_J13_copyOf_3
      rw [if_pos a8, hN, ← iI_nI, if_neg (by rw [iI_eq (by omega) (by omega)]; omega), if_pos ⟨by rw [show (0 : Int32) = iI 0 from rfl, iI_le (by omega) (by omega)]; omega, by rw [gc]; omega, by omega⟩, gc, hm5]
      simp only [gz_let]
      rw [if_pos (show gK m5 a = 102 by rw [k5 a (by omega)]; exact a8), n5 a (by omega), hN, ← iI_nI, c_J8min (by omega) (by omega), if_neg (show ¬ (((2 * n + 2 : Nat) : Int)) < (n : Int) by omega)]
      simp only [Option.bind_some]
      rw [if_pos trivial, if_pos ⟨⟨by rw [k5 a (by omega)]; exact a8, k5z⟩, by omega⟩, gn, g0, if_pos ⟨⟨by decide, by decide, by rw [show (0 : Int32) = iI 0 from rfl, iI_le (by omega) (by omega)]; omega⟩, by rw [n5 a (by omega)]; omega, by rw [n5z]; omega⟩, if_pos (fun i hi => ?_), hm6]
      rw [Nat.zero_add, i5 a i (by omega), a11 i hi]
      exact fits_b (sgn_b _)
    generalize hm7 : gz_sP m6 b 0 (gZ μ) = m7
    have k7 : ∀ c : Nat, c ≠ gZ μ → gK m7 c = gK μ c := fun c hc => by rw [← hm7]; exact (k6 c).trans (k5 c hc)
    have n7 : ∀ c : Nat, c ≠ gZ μ → gN m7 c = gN μ c := fun c hc => by rw [← hm7]; exact (n6 c).trans (n5 c hc)
    have k7z : gK m7 (gZ μ) = 102 := by rw [← hm7]; exact (k6 _).trans k5z
    have n7z : gN m7 (gZ μ) = 2 * n + 2 := by rw [← hm7]; exact (n6 _).trans n5z
    have i7 : ∀ c j : Nat, c ≠ gZ μ → gI m7 c j = gI μ c j := fun c j hc => by rw [← hm7]; exact i6 c j hc
    have i7z : ∀ j : Nat, j < n → gI m7 (gZ μ) j = gI μ a j := fun j hj => by rw [← hm7]; exact i6z j hj
    have l7 : ∀ c j : Nat, c ≠ gZ μ → gL m7 c j = gL μ c j := fun c j hc => by rw [← hm7]; exact (l6 c j).trans (l5 c j hc)
    have p7 : ∀ c j : Nat, c ≠ gZ μ → c ≠ b → gP m7 c j = gP μ c j := fun c j hc h' => by rw [← hm7, sP_p, if_neg (fun z => h' z.1)]; exact (p6 c j).trans (p5 c j hc)
    have p7b : gP m7 b 0 = gZ μ := by rw [← hm7, sP_p, if_pos ⟨rfl, rfl⟩]
    have z7 : gZ m7 = gZ μ + 1 := by rw [← hm7]; show gZ m6 = _; omega
    have w7 : gW m7 = gW μ + (2 * n + 2) := by rw [← hm7]; show gW m6 = _; omega
    refine ⟨m7, ?_, ⟨⟨a1, a2, by rw [k7 b (by omega)]; exact a3, by rw [i7 b 1 (by omega)]; exact a4, by rw [i7 b 3 (by omega)]; exact a5, by rw [p7b]; omega, by rw [p7b]; exact ks_hi (by omega), by rw [p7b]; exact k7z, by rw [p7b, n7z]; omega, by rw [p7b, n7z]; omega, fun i hi => by rw [p7b, i7z i hi]; exact a11 i hi⟩, ⟨b1, by omega⟩, ⟨by rw [p7b]; omega, by rw [p7b]; omega⟩, by rw [p7b, n7z]; omega, by rw [p7b]; omega⟩, by rw [p7b, n7z]; omega, ⟨by omega, by omega, fun c hc h1 h2 => ⟨k7 c (by omega), n7 c (by omega), fun j => ⟨i7 c j (by omega), l7 c j (by omega), p7 c j (by omega) h1⟩⟩⟩, Or.inr p7b, ?_⟩
    · unfold cf_J14_ensureCapacityInternal
      simp only [gz_let]
      rw [if_pos a3, hA, if_pos a6, if_pos a8, if_pos a3, a4, shr0i, hN, ← iI_nI, e2, if_neg (by decide), if_pos a3, if_pos a6, if_pos a3, hnew]
      simp only [Option.bind_some]
      rw [if_pos trivial, if_pos a3, a4, shl0i, hcopy]
      simp only [Option.bind_some]
      rw [if_pos ⟨by omega, by omega⟩, if_pos (show gK m6 b = 23 by rw [k6, k5 b (by omega)]; exact a3), if_pos (by omega), if_pos ⟨sr_hi2 b1 0, by omega⟩, hm7]
    · show 8 * gZ m7 + gW m7 ≤ 8 * gZ μ + gW μ + _
      omega
/-- a sign is laid to a builder -/
theorem c_append {μ : gM} {b n : Nat} {g : Nat → Int} (h : sbP μ b n g) (hn : n < 1700) (x : Int) : ∃ μ' : gM, cf_J15_append b (iI (sgn x)) μ = some (b, μ') ∧ sbP μ' b (n + 1) (fun i => if i = n then x else g i) ∧ uF b (gP μ b 0) μ μ' ∧ (gP μ' b 0 = gP μ b 0 ∨ gP μ' b 0 = gZ μ) ∧ gC μ' ≤ gC μ + (2 * n + 10) := by
  have a3 := h.1.2.2.1
  have a5 : gI μ b 3 = iI n := h.1.2.2.2.2.1
  obtain ⟨m1, s1, s2, s3, s4, s5, s6⟩ := c_ensure h hn
  obtain ⟨⟨a1', a2', a3', a4', a5', a6', a7', a8', a9', a10', a11'⟩, ⟨b1, b2⟩, ⟨c1, c2⟩, d1, d2⟩ := s2
  have ei : iI (n : Int) + (1 : Int32) = iI ((n + 1 : Nat) : Int) := by rw [iI_lit, iI_add]; rfl
  have gn : gz_ix (iI (n : Int)) = n := by rw [gix (by omega)]; omega
  have hsb := sgn_b x
  have n10 : ¬ (1 : Int32) = 0 := by decide
  generalize hA : gP m1 b 0 = a at *
  generalize hm7 : gz_sI (gz_sI m1 b 3 (iI ((n + 1 : Nat) : Int))) a n (iI (sgn x)) = m7
  have p7 : ∀ c j : Nat, gP m7 c j = gP m1 c j := fun c j => by rw [← hm7]; rfl
  have k7 : ∀ c : Nat, gK m7 c = gK m1 c := fun c => by rw [← hm7]; rfl
  have n7 : ∀ c : Nat, gN m7 c = gN m1 c := fun c => by rw [← hm7]; rfl
  have z7 : m7.2.2.2.2.2 = m1.2.2.2.2.2 := by rw [← hm7]; rfl
  have zz : gZ m7 = gZ m1 := congrArg Prod.fst z7
  have ww : gW m7 = gW m1 := congrArg Prod.snd z7
  have i7 : ∀ c j : Nat, ¬ (c = a ∧ j = n) → ¬ (c = b ∧ j = 3) → gI m7 c j = gI m1 c j := fun c j h1 h2 => by rw [← hm7, sI_i, if_neg h1, sI_i, if_neg h2]
  refine ⟨m7, ?_, ⟨⟨a1', a2', by rw [k7]; exact a3', by rw [i7 b 1 (by omega) (by omega)]; exact a4', ?_, by rw [p7, hA]; exact a6', by rw [p7, hA]; exact a7', by rw [p7, hA, k7]; exact a8', by rw [p7, hA, n7]; omega, by rw [p7, hA, n7]; omega, fun i hi => ?_⟩, ⟨b1, by omega⟩, ⟨by rw [p7, hA]; exact c1, by rw [p7, hA]; omega⟩, by rw [p7, hA, n7]; exact d1, by rw [p7, hA]; exact d2⟩, ⟨by have := s4.1; omega, by have := s4.2.1; omega, fun c hc h1 h2 => ?_⟩, by rw [p7, hA]; exact s5, ?_⟩
  · unfold cf_J15_append cf_J14_append
    rw [if_pos a3, if_pos a3, if_pos a3, a5, ei, s1]
    simp only [Option.bind_some]
    rw [if_pos ⟨s4.1, s4.2.1⟩, if_pos a3']
    unfold cf_J14_isLatin1
    rw [if_neg n10, if_pos a3', if_pos (show gI m1 b 1 = 0 from a4')]
    simp only [Option.bind_some]
    rw [if_pos trivial, if_neg n10]
    unfold cf_J11_canEncode
    rw [if_neg (by rw [iI_lit, iI_lt (by omega) (by omega)]; omega)]
    simp only [Option.bind_some, gz_let]
    rw [if_pos trivial, if_neg n10, if_pos a3', hA, if_pos a6', if_pos a3', if_pos a3', if_pos (by omega), a5', ei, if_pos ⟨show gK m1 a = 102 from a8', by omega⟩, if_pos ((gin_iI (by omega)).2 (by show 0 ≤ (n : Int) ∧ (n : Int) < (gN m1 a : Int); omega)), gn, byt_b hsb, hm7]
    unfold mj_J14_append_75
    simp only [Option.bind_some]
    rw [if_pos ⟨by have := s4.1; omega, by have := s4.2.1; omega⟩]
  · rw [← hm7, sI_i, if_neg (by omega), sI_i, if_pos ⟨rfl, rfl⟩]
  · rw [p7, hA]
    show gI m7 a i = iI (sgn (if i = n then x else g i))
    by_cases q : i = n
    · rw [if_pos q, ← hm7, sI_i, if_pos ⟨rfl, q⟩]
    · rw [if_neg q, i7 a i (by omega) (by omega)]
      exact a11' i (by omega)
  · obtain ⟨t1, t2, t3⟩ := s4.2.2 c hc h1 h2
    have hca : c ≠ a := by
      rcases s5 with z | z
      · rw [z]; exact h2
      · rw [z]; omega
    refine ⟨(k7 c).trans t1, (n7 c).trans t2, fun j => ⟨(i7 c j (fun z => hca z.1) (fun z => h1 z.1)).trans (t3 j).1, ?_, (p7 c j).trans (t3 j).2.2⟩⟩
    rw [← hm7]
    exact (t3 j).2.1
  · show 8 * gZ m7 + gW m7 ≤ 8 * gZ μ + gW μ + _
    have : 8 * gZ m1 + gW m1 ≤ 8 * gZ μ + gW μ + (2 * n + 10) := s6
    omega
/-- a builder is made ready -/
theorem c_newSB {μ : gM} {b : Nat} (hb : gK μ b = 23) (hb2 : 2369 ≤ b ∧ b < gZ μ) (h3 : gI μ b 3 = 0) : ∃ μ' : gM, cf_J15_init b μ = some ((), μ') ∧ sbP μ' b 0 (fun _ => 0) ∧ uF b b μ μ' ∧ gP μ' b 0 = gZ μ ∧ gC μ' = gC μ + 24 := by
  have g16 : gz_ix (16 : Int32) = 16 := by decide
  generalize hm5 : gz_al μ (1 + 101) 16 16 = m5
  have k5 : ∀ c : Nat, c ≠ gZ μ → gK m5 c = gK μ c := fun c hc => by rw [← hm5, al_k, if_neg hc]
  have n5 : ∀ c : Nat, c ≠ gZ μ → gN m5 c = gN μ c := fun c hc => by rw [← hm5, al_n, if_neg hc]
  have i5 : ∀ c j : Nat, c ≠ gZ μ → gI m5 c j = gI μ c j := fun c j hc => by rw [← hm5, al_i, if_neg hc]
  have l5 : ∀ c j : Nat, c ≠ gZ μ → gL m5 c j = gL μ c j := fun c j hc => by rw [← hm5, al_l, if_neg hc]
  have p5 : ∀ c j : Nat, c ≠ gZ μ → gP m5 c j = gP μ c j := fun c j hc => by rw [← hm5, al_p, if_neg hc]
  have k5z : gK m5 (gZ μ) = 102 := by rw [← hm5, al_k, if_pos rfl]
  have n5z : gN m5 (gZ μ) = 16 := by rw [← hm5, al_n, if_pos rfl]
  have z5 : gZ m5 = gZ μ + 1 := by rw [← hm5]; rfl
  have w5' : gW m5 = gW μ + 16 := by rw [← hm5]; rfl
  generalize hm7 : gz_sI (gz_sP m5 b 0 (gZ μ)) b 1 (0 : Int32) = m7
  have k7 : ∀ c : Nat, gK m7 c = gK m5 c := fun c => by rw [← hm7]; rfl
  have n7 : ∀ c : Nat, gN m7 c = gN m5 c := fun c => by rw [← hm7]; rfl
  have z7 : gZ m7 = gZ m5 := by rw [← hm7]; rfl
  have w7 : gW m7 = gW m5 := by rw [← hm7]; rfl
  have p7b : gP m7 b 0 = gZ μ := by rw [← hm7]; show gP (gz_sP m5 b 0 (gZ μ)) b 0 = _; rw [sP_p, if_pos ⟨rfl, rfl⟩]
  refine ⟨m7, ?_, ⟨⟨by omega, ks_hi hb2.1, by rw [k7, k5 b (by omega)]; exact hb, by rw [← hm7, sI_i, if_pos ⟨rfl, rfl⟩]; rfl, ?_, by rw [p7b]; omega, by rw [p7b]; exact ks_hi (by omega), by rw [p7b, k7]; exact k5z, Nat.zero_le _, by rw [p7b, n7, n5z]; omega, fun i hi => absurd hi (Nat.not_lt_zero _)⟩, ⟨hb2.1, by omega⟩, ⟨by rw [p7b]; omega, by rw [p7b]; omega⟩, by rw [p7b, n7, n5z]; omega, by rw [p7b]; omega⟩, ⟨by omega, by omega, fun c hc h1 _ => ⟨(k7 c).trans (k5 c (by omega)), (n7 c).trans (n5 c (by omega)), fun j => ⟨?_, ?_, ?_⟩⟩⟩, p7b, ?_⟩
  · unfold cf_J15_init cf_J14_init
    simp only [gz_let]
    rw [if_neg (by decide), if_pos ⟨by decide, by rw [g16]; omega, by omega⟩, g16, hm5, if_pos (show gK m5 b = 23 by rw [k5 b (by omega)]; exact hb), if_pos (by omega), if_pos ⟨sr_hi2 hb2.1 0, by omega⟩, if_pos (show gK (gz_sP m5 b 0 (gZ μ)) b = 23 by show gK m5 b = 23; rw [k5 b (by omega)]; exact hb), if_pos (by omega), hm7]
    simp only [Option.bind_some]
    rw [if_pos ⟨by omega, by omega⟩]
  · rw [← hm7, sI_i, if_neg (by omega)]
    show gI m5 b 3 = _
    rw [i5 b 3 (by omega), h3]
    rfl
  · rw [← hm7, sI_i, if_neg (fun z => h1 z.1)]
    exact i5 c j (by omega)
  · rw [← hm7]
    exact l5 c j (by omega)
  · rw [← hm7]
    show gP (gz_sP m5 b 0 (gZ μ)) c j = _
    rw [sP_p, if_neg (fun z => h1 z.1)]
    exact p5 c j (by omega)
  · show 8 * gZ m7 + gW m7 = 8 * gZ μ + gW μ + 24
    omega
/-- a list is made ready -/
theorem c_newList {μ : gM} {r k : Nat} (hr : gK μ r = 21) (hr2 : 2369 ≤ r ∧ r < gZ μ) (h2 : gI μ r 2 = 0) (hk : 1 ≤ k) (hk2 : k < 100) : ∃ μ' : gM, cf_J2_init r (iI k) μ = some ((), μ') ∧ lsR μ' r 0 (fun _ => 0) ∧ r ≠ gP μ' r 1 ∧ uF r r μ μ' ∧ gP μ' r 1 = gZ μ ∧ gC μ' = gC μ + (k + 8) := by
  have gk : gz_ix (iI (k : Int)) = k := by rw [gix (by omega)]; omega
  generalize hm4 : gz_sI μ r 0 (0 : Int32) = m4
  have k4 : ∀ c : Nat, gK m4 c = gK μ c := fun c => by rw [← hm4]; rfl
  have n4 : ∀ c : Nat, gN m4 c = gN μ c := fun c => by rw [← hm4]; rfl
  have i4 : ∀ c j : Nat, ¬ (c = r ∧ j = 0) → gI m4 c j = gI μ c j := fun c j hc => by rw [← hm4, sI_i, if_neg hc]
  have z4 : gZ m4 = gZ μ := by rw [← hm4]; rfl
  have w4 : gW m4 = gW μ := by rw [← hm4]; rfl
  generalize hm5 : gz_al m4 (5 + 101) k k = m5
  have k5 : ∀ c : Nat, c ≠ gZ μ → gK m5 c = gK μ c := fun c hc => by rw [← hm5, al_k, if_neg (by omega)]; exact k4 c
  have n5 : ∀ c : Nat, c ≠ gZ μ → gN m5 c = gN μ c := fun c hc => by rw [← hm5, al_n, if_neg (by omega)]; exact n4 c
  have i5 : ∀ c j : Nat, c ≠ gZ μ → ¬ (c = r ∧ j = 0) → gI m5 c j = gI μ c j := fun c j hc h' => by rw [← hm5, al_i, if_neg (by omega)]; exact i4 c j h'
  have l5 : ∀ c j : Nat, c ≠ gZ μ → gL m5 c j = gL μ c j := fun c j hc => by rw [← hm5, al_l, if_neg (by omega), ← hm4]; rfl
  have p5 : ∀ c j : Nat, c ≠ gZ μ → gP m5 c j = gP μ c j := fun c j hc => by rw [← hm5, al_p, if_neg (by omega), ← hm4]; rfl
  have k5z : gK m5 (gZ μ) = 106 := by rw [← hm5, al_k, if_pos z4.symm]
  have n5z : gN m5 (gZ μ) = k := by rw [← hm5, al_n, if_pos z4.symm]
  have z5 : gZ m5 = gZ μ + 1 := by rw [← hm5, show gZ (gz_al m4 (5 + 101) k k) = gZ m4 + 1 from rfl, z4]
  have w5' : gW m5 = gW μ + k := by rw [← hm5, show gW (gz_al m4 (5 + 101) k k) = gW m4 + k from rfl, w4]
  have p7r : gP (gz_sP m5 r 1 (gZ μ)) r 1 = gZ μ := by rw [sP_p, if_pos ⟨rfl, rfl⟩]
  refine ⟨gz_sP m5 r 1 (gZ μ), ?_, ⟨⟨by omega, ks_hi hr2.1, by show gK m5 r = 21; rw [k5 r (by omega)]; exact hr, ?_, by rw [p7r]; omega, by rw [p7r]; exact ks_hi (by omega), by rw [p7r]; exact k5z, by omega, fun i hi => absurd hi (by omega)⟩, ⟨hr2.1, by show r < gZ m5; omega⟩, ⟨by rw [p7r]; omega, by rw [p7r]; show gZ μ < gZ m5; omega⟩, by rw [p7r]; show gN m5 (gZ μ) ≤ 1900; omega, by rw [p7r]; show 1 ≤ gN m5 (gZ μ); omega, fun i hi => absurd hi (by omega)⟩, by rw [p7r]; omega, ⟨by show gZ μ ≤ gZ m5; omega, by show gW μ ≤ gW m5; omega, fun c hc h1 _ => ⟨k5 c (by omega), n5 c (by omega), fun j => ⟨i5 c j (by omega) (fun z => h1 z.1), l5 c j (by omega), ?_⟩⟩⟩, p7r, ?_⟩
  · unfold cf_J2_init cf_J1_init cf_J0_init
    simp only [Option.bind_some, gz_let]
    rw [if_pos hr, if_pos (by omega)]
    simp only [Option.bind_some]
    rw [hm4, if_pos (show m4.2.2.2.2.2 = μ.2.2.2.2.2 by rw [← hm4]; rfl), if_neg (by rw [iI_lit, iI_le (by omega) (by omega)]; omega), if_pos ⟨by rw [show (0 : Int32) = iI 0 from rfl, iI_le (by omega) (by omega)]; omega, by rw [gk]; omega, by omega⟩, gk, hm5, z4, if_pos (show gK m5 r = 21 by rw [k5 r (by omega)]; exact hr), if_pos (by omega), if_pos ⟨sr_hi2 hr2.1 1, by omega⟩]
  · show gI m5 r 2 = _
    rw [i5 r 2 (by omega) (by omega), h2]
    rfl
  · rw [sP_p, if_neg (fun z => h1 z.1)]
    exact p5 c j (by omega)
  · show 8 * gZ m5 + gW m5 = 8 * gZ μ + gW μ + (k + 8)
    omega
