/-! ===== lists and rows of signs grow ===== -/
/-- all below is as it was but two cells -/
def uF (a b : Nat) (μ μ' : gM) : Prop := gZ μ ≤ gZ μ' ∧ gW μ ≤ gW μ' ∧ ∀ c : Nat, c < gZ μ → c ≠ a → c ≠ b → gK μ' c = gK μ c ∧ gN μ' c = gN μ c ∧ ∀ j : Nat, gI μ' c j = gI μ c j ∧ gL μ' c j = gL μ c j ∧ gP μ' c j = gP μ c j
theorem uF.s {a b z : Nat} {μ μ' : gM} (h : uF a b μ μ') (ha : z ≤ a) (hb : z ≤ b) (hz : z ≤ gZ μ) : sFr z μ μ' := ⟨h.1, h.2.1, fun c hc => h.2.2 c (by omega) (by omega) (by omega)⟩
theorem half1 : ∀ n : Nat, n < 2000 → iI n >>> ((1 : Int32) &&& 31) = iI ((n / 2 : Nat) : Int) := by decide +kernel
/-- a list of n things with room -/
def lsR (μ : gM) (r n : Nat) (L : Nat → Nat) : Prop := lst μ r n ∧ (2369 ≤ r ∧ r < gZ μ) ∧ (2369 ≤ gP μ r 1 ∧ gP μ r 1 < gZ μ) ∧ gN μ (gP μ r 1) ≤ 1900 ∧ 1 ≤ gN μ (gP μ r 1) ∧ ∀ i : Nat, i < n → el μ r i = L i ∧ cOb μ (L i) = true ∧ L i < gZ μ
theorem c_J8max {a b : Int} (ha : -2147483648 ≤ a ∧ a < 2147483648) (hb : -2147483648 ≤ b ∧ b < 2147483648) (μ : gM) : cf_J8_max (iI a) (iI b) μ = some (iI (if a < b then b else a), μ) := by
  unfold cf_J8_max
  by_cases h : a < b
  · rw [if_pos (by rw [iI_lt ha hb]; exact h), if_pos h]
  · rw [if_neg (by rw [iI_lt ha hb]; exact h), if_neg h]
theorem c_J8min {a b : Int} (ha : -2147483648 ≤ a ∧ a < 2147483648) (hb : -2147483648 ≤ b ∧ b < 2147483648) (μ : gM) : cf_J8_min (iI a) (iI b) μ = some (iI (if b < a then b else a), μ) := by
  unfold cf_J8_min
  by_cases h : b < a
  · rw [if_pos (by rw [iI_lt hb ha]; exact h), if_pos h]
  · rw [if_neg (by rw [iI_lt hb ha]; exact h), if_neg h]
theorem c_newLen {a b c : Int} (ha : 0 ≤ a ∧ a < 100000) (hb : 1 ≤ b ∧ b < 100000) (hc : 0 ≤ c ∧ c < 100000) (μ : gM) : cf_J12_newLength (iI a) (iI b) (iI c) μ = some (iI (a + (if b < c then c else b)), μ) := by
  unfold cf_J12_newLength
  rw [c_J8max (by omega) (by omega)]
  simp only [Option.bind_some, gz_let]
  rw [iI_add]
  have : 0 < a + (if b < c then c else b) ∧ a + (if b < c then c else b) < 300000 := by split <;> omega
  rw [if_neg (by rw [iI_lit, iI_le (by omega) (by omega)]; omega), if_neg (by rw [iI_lit, iI_lt (by omega) (by omega)]; omega)]
/-- the last step: the thing is put into its place -/
theorem c_add11 {μ : gM} {r a e n : Nat} (hr : gK μ r = 21) (hr2 : 2369 ≤ r) (ha : gK μ a = 106) (ha2 : 2369 ≤ a) (hra : r ≠ a) (hn : n < gN μ a) (hn2 : n < 100000) (he : e ≠ 0) (ho : cOb μ e = true) : mj_J2_add_2_11 r e a (iI n) μ = some ((), gz_sI (gz_sP μ a n e) r 2 (iI ((n + 1 : Nat) : Int))) := by
  have gn : gz_ix (iI (n : Int)) = n := by rw [gix (by omega)]; omega
  unfold mj_J2_add_2_11
  rw [if_pos ⟨ha, by omega⟩, if_pos ((gin_iI (by omega)).2 (by omega)), if_pos ⟨he, ho, ks_hi ha2⟩, gn]
  simp only [gz_let]
  rw [if_pos (show gK (gz_sP μ a n e) r = 21 from hr), if_pos (by omega), iI_lit, iI_add]
  rfl
theorem c_add {μ : gM} {r n e : Nat} {L : Nat → Nat} (h : lsR μ r n L) (hn : n < 1200) (he : e ≠ 0) (hek : ks e = 0) (hez : e < gZ μ) (ho : cOb μ e = true) (hra : r ≠ gP μ r 1) : ∃ μ' : gM, cf_J2_add r e μ = some (1, μ') ∧ lsR μ' r (n + 1) (fun i => if i = n then e else L i) ∧ uF r (gP μ r 1) μ μ' ∧ (gP μ' r 1 = gP μ r 1 ∨ gP μ' r 1 = gZ μ) ∧ gC μ' ≤ gC μ + (n + n / 2 + 9) := by
  obtain ⟨⟨a1, a2, a3, a4, a5, a6, a7, a8, a9⟩, ⟨b1, b2⟩, ⟨c1, c2⟩, d1, d0, d2⟩ := h
  have e4 : gI μ r 2 = iI (n : Int) := a4
  generalize hA : gP μ r 1 = a at *
  have eA : ∀ i : Nat, el μ r i = gP μ a i := fun i => by unfold el; rw [hA]
  -- what has been counted first
  generalize hm4 : gz_sI μ r 0 (gI μ r 0 + (1 : Int32)) = m4
  have k4 : ∀ c : Nat, gK m4 c = gK μ c := fun c => by rw [← hm4]; rfl
  have n4 : ∀ c : Nat, gN m4 c = gN μ c := fun c => by rw [← hm4]; rfl
  have p4 : ∀ c j : Nat, gP m4 c j = gP μ c j := fun c j => by rw [← hm4]; rfl
  have l4 : ∀ c j : Nat, gL m4 c j = gL μ c j := fun c j => by rw [← hm4]; rfl
  have i4 : ∀ c j : Nat, ¬ (c = r ∧ j = 0) → gI m4 c j = gI μ c j := fun c j hc => by rw [← hm4, sI_i, if_neg hc]
  have z4 : gZ m4 = gZ μ := by rw [← hm4]; rfl
  have w4 : gW m4 = gW μ := by rw [← hm4]; rfl
  have kr : gK m4 r = 21 := by rw [k4]; exact a3
  have start : ∀ {R : Option (Int32 × gM)}, (cf_J2_add_2 r e a (iI (n : Int)) m4).bind (fun x => (if gZ m4 ≤ gZ x.2 ∧ gW m4 ≤ gW x.2 then some ((1 : Int32), x.2) else none)) = R → cf_J2_add r e μ = R := by
    intro R hR
    unfold cf_J2_add
    rw [if_pos a3, if_pos a3, if_pos (by omega), hm4]
    simp only [gz_let]
    rw [if_pos kr, p4, hA, if_pos a5, if_pos kr, if_pos kr, i4 r 2 (by omega), e4]
    exact hR
  have cob4 : ∀ x : Nat, cOb m4 x = cOb μ x := fun x => by unfold cOb; rw [show m4.1 x = μ.1 x from k4 x]
  by_cases full : n = gN μ a
  rotate_left
  · -- there is room
    have hlt : n < gN μ a := by have : (n : Int) ≤ gN μ a := a8; omega
    have add2 : cf_J2_add_2 r e a (iI (n : Int)) m4 = some ((), gz_sI (gz_sP m4 a n e) r 2 (iI ((n + 1 : Nat) : Int))) := by
      unfold cf_J2_add_2
      rw [if_pos (by rw [k4]; exact a7), n4, if_neg (by rw [← iI_nI, iI_eq (by omega) (by omega)]; omega)]
      exact c_add11 kr b1 (by rw [k4]; exact a7) c1 hra (by rw [n4]; exact hlt) (by omega) he (by rw [cob4]; exact ho)
    have eP : gP (gz_sI (gz_sP m4 a n e) r 2 (iI ((n + 1 : Nat) : Int))) r 1 = a := by
      show gP (gz_sP m4 a n e) r 1 = a
      rw [sP_p, if_neg (by omega), p4, hA]
    refine ⟨gz_sI (gz_sP m4 a n e) r 2 (iI ((n + 1 : Nat) : Int)), start ?_, ⟨⟨a1, a2, kr, ?_, ?_, ?_, ?_, ?_, fun i hi => ?_⟩, ⟨b1, by show r < gZ m4; omega⟩, ⟨?_, ?_⟩, ?_, ?_, fun i hi => ?_⟩, ⟨by show gZ μ ≤ gZ m4; omega, by show gW μ ≤ gW m4; omega, fun c hc h1 h2 => ⟨k4 c, n4 c, fun j => ⟨?_, l4 c j, ?_⟩⟩⟩, Or.inl ?_, ?_⟩
    · rw [add2]
      simp only [Option.bind_some]
      rw [if_pos ⟨Nat.le_refl _, Nat.le_refl _⟩]
    · rw [sI_i, if_pos ⟨rfl, rfl⟩]
    · rw [eP]; exact a5
    · rw [eP]; exact a6
    · rw [eP]; show gK m4 a = 106; rw [k4]; exact a7
    · rw [eP]; show ((n + 1 : Nat) : Int) ≤ (gN m4 a : Int); rw [n4]; omega
    · unfold el
      rw [eP]
      show gP (gz_sP m4 a n e) a i ≠ 0 ∧ ks (gP (gz_sP m4 a n e) a i) = 0
      rw [sP_p]
      by_cases q : i = n
      · rw [if_pos ⟨rfl, q⟩]; exact ⟨he, hek⟩
      · rw [if_neg (fun z => q z.2), p4, ← eA]
        exact a9 i (by omega)
    · rw [eP]; exact c1
    · rw [eP]; show a < gZ m4; omega
    · rw [eP]; show gN m4 a ≤ 1900; rw [n4]; exact d1
    · rw [eP]; show 1 ≤ gN m4 a; rw [n4]; exact d0
    · unfold el
      rw [eP]
      show gP (gz_sP m4 a n e) a i = (if i = n then e else L i) ∧ cOb (gz_sI (gz_sP m4 a n e) r 2 (iI ((n + 1 : Nat) : Int))) (if i = n then e else L i) = true ∧ (if i = n then e else L i) < gZ m4
      rw [sP_p]
      by_cases q : i = n
      · rw [if_pos ⟨rfl, q⟩, if_pos q]
        exact ⟨rfl, by show cOb m4 e = true; rw [cob4]; exact ho, by omega⟩
      · rw [if_neg (fun z => q z.2), if_neg q, p4, ← eA]
        obtain ⟨x1, x2, x3⟩ := d2 i (by omega)
        exact ⟨x1, by show cOb m4 (L i) = true; rw [cob4]; exact x2, by omega⟩
    · show gI (gz_sI (gz_sP m4 a n e) r 2 (iI ((n + 1 : Nat) : Int))) c j = gI μ c j
      rw [sI_i, if_neg (fun z => h1 z.1)]
      exact i4 c j (fun z => h1 z.1)
    · show gP (gz_sP m4 a n e) c j = gP μ c j
      rw [sP_p, if_neg (fun z => h2 z.1)]
      exact p4 c j
    · exact eP
    · show 8 * gZ m4 + gW m4 ≤ 8 * gZ μ + gW μ + _
      omega
  · -- it must grow
    have hN0 : 1 ≤ n := by omega
    generalize hc : n + (if (1 : Int) < ((n / 2 : Nat) : Int) then n / 2 else 1) = cap
    have hcap : n < cap ∧ cap ≤ n + n / 2 + 1 := by
      rw [← hc]
      split <;> omega
    have gcap : gz_ix (iI (cap : Int)) = cap := by rw [gix (by omega)]; omega
    have g0 : gz_ix (0 : Int32) = 0 := by decide
    generalize hm5 : gz_al m4 (5 + 101) cap cap = m5
    have z5 : gZ m5 = gZ μ + 1 := by rw [← hm5, show gZ (gz_al m4 (5 + 101) cap cap) = gZ m4 + 1 from rfl, z4]
    have w5 : gW m5 = gW μ + cap := by rw [← hm5, show gW (gz_al m4 (5 + 101) cap cap) = gW m4 + cap from rfl, w4]
    have k5 : ∀ c : Nat, c ≠ gZ μ → gK m5 c = gK μ c := fun c hc => by rw [← hm5, al_k, if_neg (by omega)]; exact k4 c
    have n5 : ∀ c : Nat, c ≠ gZ μ → gN m5 c = gN μ c := fun c hc => by rw [← hm5, al_n, if_neg (by omega)]; exact n4 c
    have p5 : ∀ c j : Nat, c ≠ gZ μ → gP m5 c j = gP μ c j := fun c j hc => by rw [← hm5, al_p, if_neg (by omega)]; exact p4 c j
    have l5 : ∀ c j : Nat, c ≠ gZ μ → gL m5 c j = gL μ c j := fun c j hc => by rw [← hm5, al_l, if_neg (by omega)]; exact l4 c j
    have i5 : ∀ c j : Nat, c ≠ gZ μ → ¬ (c = r ∧ j = 0) → gI m5 c j = gI μ c j := fun c j hc h' => by rw [← hm5, al_i, if_neg (by omega)]; exact i4 c j h'
    have k5z : gK m5 (gZ μ) = 106 := by rw [← hm5, al_k, if_pos z4.symm]
    have n5z : gN m5 (gZ μ) = cap := by rw [← hm5, al_n, if_pos z4.symm]
    generalize hm6 : gz_cpP m5 a 0 (gZ μ) 0 n = m6
    have k6 : ∀ c : Nat, gK m6 c = gK m5 c := fun c => by rw [← hm6]; rfl
    have n6 : ∀ c : Nat, gN m6 c = gN m5 c := fun c => by rw [← hm6]; rfl
    have i6 : ∀ c j : Nat, gI m6 c j = gI m5 c j := fun c j => by rw [← hm6]; rfl
    have l6 : ∀ c j : Nat, gL m6 c j = gL m5 c j := fun c j => by rw [← hm6]; rfl
    have p6 : ∀ c j : Nat, c ≠ gZ μ → gP m6 c j = gP μ c j := fun c j hc => by
      rw [← hm6]
      show (if c = gZ μ then _ else gP m5 c j) = _
      rw [if_neg hc]
      exact p5 c j hc
    have p6z : ∀ j : Nat, j < n → gP m6 (gZ μ) j = gP μ a j := fun j hj => by
      rw [← hm6]
      show (if gZ μ = gZ μ then va_cpy (m5.2.2.2.2.1 a) (m5.2.2.2.2.1 (gZ μ)) 0 0 n j else _) = _
      rw [if_pos rfl]
      unfold va_cpy
      rw [if_pos (by omega), Nat.zero_add, Nat.sub_zero]
      exact p5 a j (by omega)
    have z6 : m6.2.2.2.2.2 = m5.2.2.2.2.2 := by rw [← hm6]; rfl
    have grow : cf_J2_grow r m4 = some (gZ μ, gz_sP m6 r 1 (gZ μ)) := by
      have e1 : iI (n : Int) + (1 : Int32) = iI ((n : Int) + 1) := by rw [iI_lit, iI_add]
      have e2 : iI ((n : Int) + 1) - iI (n : Int) = iI 1 := by rw [iI_sub]; exact congrArg iI (by omega)
      have e3 : (n : Int) + (if (1 : Int) < ((n / 2 : Nat) : Int) then ((n / 2 : Nat) : Int) else 1) = (cap : Int) := by
        rw [← hc]
        split <;> omega
      unfold cf_J2_grow cf_J2_grow_2
      rw [if_pos kr, if_pos kr, i4 r 2 (by omega), e4, e1]
      simp only [gz_let]
      rw [if_pos kr, p4, hA, if_pos a5, if_pos (show gK m4 a = 106 by rw [k4]; exact a7), n4, ← full, ← iI_nI, if_pos (show (0 : Int32) < iI (n : Int) by rw [iI_lit, iI_lt (by omega) (by omega)]; omega)]
      unfold mj_J2_grow_2_20
      rw [e2, half1 n (by omega), c_newLen (by omega) (by omega) (by omega), e3]
      simp only [Option.bind_some, gz_let]
      rw [if_pos trivial, if_pos kr, p4, hA, if_pos a5]
      unfold cf_J13_copyOf cf_J13_copyOf_2 mj_J13_copyOf_2_24
      rw [if_pos (show gK m4 a = 106 by rw [k4]; exact a7), if_pos ⟨by rw [show (0 : Int32) = iI 0 from rfl, iI_le (by omega) (by omega)]; omega, by rw [gcap]; omega, by omega⟩, gcap, hm5, z4]
      simp only [gz_let]
      have hcp : ∀ i : Nat, i < n → gP m5 a (0 + i) = 0 ∨ cOb m5 (gP m5 a (0 + i)) = true := fun i hi => by
        right
        rw [Nat.zero_add, p5 a i (by omega), ← eA]
        obtain ⟨x1, x2, x3⟩ := d2 i hi
        rw [x1]
        show (Nat.ble 1 (m5.1 (L i)) && Nat.ble (m5.1 (L i)) 23) = true
        rw [show m5.1 (L i) = gK μ (L i) from k5 (L i) (by omega)]
        exact x2
      have gn : gz_ix (iI (n : Int)) = n := by rw [gix (by omega)]; omega
      rw [if_pos (show gK m5 a = 106 by rw [k5 a (by omega)]; exact a7), n5 a (by omega), ← full, ← iI_nI, c_J8min (by omega) (by omega), if_neg (show ¬ (cap : Int) < (n : Int) by omega)]
      simp only [Option.bind_some]
      rw [if_pos trivial, if_pos ⟨⟨by rw [k5 a (by omega)]; exact a7, k5z⟩, by omega⟩, gn, g0, if_pos ⟨⟨by decide, by decide, by rw [show (0 : Int32) = iI 0 from rfl, iI_le (by omega) (by omega)]; omega⟩, by rw [n5 a (by omega)]; omega, by rw [n5z]; omega⟩, if_pos ⟨ks_hi (by omega), hcp⟩, hm6]
      simp only [Option.bind_some]
      have hle : gZ μ ≤ gZ m6 ∧ gW m4 ≤ gW m6 := by
        have hz : gZ m6 = gZ m5 := congrArg Prod.fst z6
        have hw : gW m6 = gW m5 := congrArg Prod.snd z6
        omega
      rw [if_pos hle]
      simp only [Option.bind_some]
      rw [if_pos hle, if_pos (show gK m6 r = 21 by rw [k6, k5 r (by omega)]; exact a3), if_pos (by omega), if_pos ⟨sr_hi2 b1 1, by omega⟩]
      simp only [Option.bind_some]
      rw [if_pos (show gZ μ ≤ gZ (gz_sP m6 r 1 (gZ μ)) ∧ gW m4 ≤ gW (gz_sP m6 r 1 (gZ μ)) from hle)]
    generalize hm7 : gz_sP m6 r 1 (gZ μ) = m7 at grow
    have k7 : ∀ c : Nat, c ≠ gZ μ → gK m7 c = gK μ c := fun c hc => by rw [← hm7]; exact (k6 c).trans (k5 c hc)
    have n7 : ∀ c : Nat, c ≠ gZ μ → gN m7 c = gN μ c := fun c hc => by rw [← hm7]; exact (n6 c).trans (n5 c hc)
    have k7z : gK m7 (gZ μ) = 106 := by rw [← hm7]; exact (k6 _).trans k5z
    have n7z : gN m7 (gZ μ) = cap := by rw [← hm7]; exact (n6 _).trans n5z
    have i7 : ∀ c j : Nat, c ≠ gZ μ → ¬ (c = r ∧ j = 0) → gI m7 c j = gI μ c j := fun c j hc h' => by rw [← hm7]; exact (i6 c j).trans (i5 c j hc h')
    have l7 : ∀ c j : Nat, c ≠ gZ μ → gL m7 c j = gL μ c j := fun c j hc => by rw [← hm7]; exact (l6 c j).trans (l5 c j hc)
    have p7 : ∀ c j : Nat, c ≠ gZ μ → c ≠ r → gP m7 c j = gP μ c j := fun c j hc h' => by rw [← hm7, sP_p, if_neg (fun z => h' z.1)]; exact p6 c j hc
    have p7r : gP m7 r 1 = gZ μ := by rw [← hm7, sP_p, if_pos ⟨rfl, rfl⟩]
    have p7z : ∀ j : Nat, j < n → gP m7 (gZ μ) j = gP μ a j := fun j hj => by rw [← hm7, sP_p, if_neg (fun z => by omega)]; exact p6z j hj
    have z7 : gZ m7 = gZ μ + 1 := by rw [← hm7]; show gZ m6 = _; rw [show gZ m6 = gZ m5 from congrArg Prod.fst z6, z5]
    have w7 : gW m7 = gW μ + cap := by rw [← hm7]; show gW m6 = _; rw [show gW m6 = gW m5 from congrArg Prod.snd z6, w5]
    have cob7 : ∀ x : Nat, x < gZ μ → cOb m7 x = cOb μ x := fun x hx => by unfold cOb; rw [show m7.1 x = μ.1 x from k7 x (by omega)]
    have add2 : cf_J2_add_2 r e a (iI (n : Int)) m4 = some ((), gz_sI (gz_sP m7 (gZ μ) n e) r 2 (iI ((n + 1 : Nat) : Int))) := by
      unfold cf_J2_add_2
      rw [if_pos (by rw [k4]; exact a7), n4, if_pos (by rw [← iI_nI, ← full]), if_pos kr, grow]
      simp only [Option.bind_some]
      rw [if_pos ⟨by omega, by omega⟩]
      exact c_add11 (by rw [k7 r (by omega)]; exact a3) b1 k7z (by omega) (by omega) (by rw [n7z]; omega) (by omega) he (by rw [cob7 e hez]; exact ho)
    have eP : gP (gz_sI (gz_sP m7 (gZ μ) n e) r 2 (iI ((n + 1 : Nat) : Int))) r 1 = gZ μ := by
      show gP (gz_sP m7 (gZ μ) n e) r 1 = gZ μ
      rw [sP_p, if_neg (by omega), p7r]
    refine ⟨gz_sI (gz_sP m7 (gZ μ) n e) r 2 (iI ((n + 1 : Nat) : Int)), start ?_, ⟨⟨a1, a2, by show gK m7 r = 21; rw [k7 r (by omega)]; exact a3, ?_, ?_, ?_, ?_, ?_, fun i hi => ?_⟩, ⟨b1, by show r < gZ m7; omega⟩, ⟨?_, ?_⟩, ?_, ?_, fun i hi => ?_⟩, ⟨by show gZ μ ≤ gZ m7; omega, by show gW μ ≤ gW m7; omega, fun c hc h1 h2 => ⟨k7 c (by omega), n7 c (by omega), fun j => ⟨?_, l7 c j (by omega), ?_⟩⟩⟩, Or.inr eP, ?_⟩
    · rw [add2]
      simp only [Option.bind_some]
      rw [if_pos ⟨by show gZ m4 ≤ gZ m7; omega, by show gW m4 ≤ gW m7; omega⟩]
    · rw [sI_i, if_pos ⟨rfl, rfl⟩]
    · rw [eP]; omega
    · rw [eP]; exact ks_hi (by omega)
    · rw [eP]; exact k7z
    · rw [eP]; show ((n + 1 : Nat) : Int) ≤ (gN m7 (gZ μ) : Int); rw [n7z]; omega
    · unfold el
      rw [eP]
      show gP (gz_sP m7 (gZ μ) n e) (gZ μ) i ≠ 0 ∧ ks (gP (gz_sP m7 (gZ μ) n e) (gZ μ) i) = 0
      rw [sP_p]
      by_cases q : i = n
      · rw [if_pos ⟨rfl, q⟩]; exact ⟨he, hek⟩
      · rw [if_neg (fun z => q z.2), p7z i (by omega), ← eA]
        exact a9 i (by omega)
    · rw [eP]; omega
    · rw [eP]; show gZ μ < gZ m7; omega
    · rw [eP]; show gN m7 (gZ μ) ≤ 1900; rw [n7z]; omega
    · rw [eP]; show 1 ≤ gN m7 (gZ μ); rw [n7z]; omega
    · unfold el
      rw [eP]
      show gP (gz_sP m7 (gZ μ) n e) (gZ μ) i = (if i = n then e else L i) ∧ cOb m7 (if i = n then e else L i) = true ∧ (if i = n then e else L i) < gZ m7
      rw [sP_p]
      by_cases q : i = n
      · rw [if_pos ⟨rfl, q⟩, if_pos q]
        exact ⟨rfl, by rw [cob7 e hez]; exact ho, by omega⟩
      · rw [if_neg (fun z => q z.2), if_neg q, p7z i (by omega), ← eA]
        obtain ⟨x1, x2, x3⟩ := d2 i (by omega)
        exact ⟨x1, by rw [cob7 _ x3]; exact x2, by omega⟩
    · show gI (gz_sI (gz_sP m7 (gZ μ) n e) r 2 (iI ((n + 1 : Nat) : Int))) c j = gI μ c j
      rw [sI_i, if_neg (fun z => h1 z.1)]
      exact i7 c j (by omega) (fun z => h1 z.1)
    · show gP (gz_sP m7 (gZ μ) n e) c j = gP μ c j
      rw [sP_p, if_neg (fun z => by omega)]
      exact p7 c j (by omega) h1
    · show 8 * gZ m7 + gW m7 ≤ 8 * gZ μ + gW μ + _
      omega
