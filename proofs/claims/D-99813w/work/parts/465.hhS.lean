/-! ===== both households are one ===== -/
def cRg (c : Int) : Prop := (0 ≤ c ∧ c < 60) ∨ (1000 ≤ c ∧ c < 20000)
theorem chC_rg {f : Nat → List Int} {g : Nat → Int} (hg : ∀ i : Nat, 1 ≤ i → cRg (g i) ∨ True) : ∀ (n : Nat), (∀ i : Nat, i ≤ n → ∀ c ∈ f i, cRg c) → (∀ i : Nat, 1 ≤ i → i ≤ n → cRg (g i)) → ∀ c ∈ chC f g n, cRg c
  | 0, h, _, c, hc => h 0 (Nat.le_refl _) c hc
  | n + 1, h, h2, c, hc => by
    have hc : c ∈ chC f g n ++ (f (n + 1) ++ [g (n + 1)]) := hc
    rcases List.mem_append.mp hc with q | q
    · exact chC_rg hg n (fun i hi => h i (by omega)) (fun i i1 i2 => h2 i i1 (by omega)) c q
    · rcases List.mem_append.mp q with q | q
      · exact h (n + 1) (Nat.le_refl _) c q
      · rw [List.mem_singleton.mp q]; exact h2 (n + 1) (by omega) (Nat.le_refl _)
theorem vRep_c {al : Int → Prop} : ∀ (d : Nat) {μ : gM} {r : Nat} {cs : List Int}, vRep al false d μ r cs → ∀ c ∈ cs, cRg c
  | 0, _, _, _, h => h.elim
  | d + 1, μ, r, cs, ⟨_, _, h⟩ => by
    intro c hc
    rcases h with ⟨_, v, hv, _, e⟩ | ⟨_, w, hw, _, _, e⟩ | ⟨_, c1, c2, k, hk, _, h1, h2, e⟩ | ⟨_, q, _⟩ | ⟨_, n, f, g, _, _, hf, _, hg, e⟩
    · subst e
      rw [List.mem_singleton.mp hc]
      exact Or.inr (by omega)
    · subst e
      rw [List.mem_singleton.mp hc]
      refine Or.inl ?_
      unfold prt
      repeat' split
      all_goals omega
    · subst e
      rcases List.mem_append.mp hc with q | q
      · exact vRep_c d h1 c q
      · rcases List.mem_append.mp q with q | q
        · exact vRep_c d h2 c q
        · rw [List.mem_singleton.mp q]; exact Or.inl (by omega)
    · cases q
    · subst e
      exact chC_rg (fun _ _ => Or.inr True.intro) n (fun i hi => vRep_c d (hf i hi)) (fun i i1 i2 => Or.inl (by have := hg i i1 i2; omega)) c hc
theorem tRep_c {al : Int → Prop} : ∀ (d : Nat) {μ : gM} {r : Nat} {cs : List Int}, tRep al false d μ r cs → ∀ c ∈ cs, cRg c
  | 0, _, _, _, h => h.elim
  | d + 1, μ, r, cs, ⟨_, _, h⟩ => by
    intro c hc
    rcases h with ⟨_, e⟩ | ⟨_, c1, c2, k, hk, _, h1, h2, e⟩ | ⟨_, c1, h1, e⟩ | ⟨_, n, f, k, hk, _, _, _, hf, e⟩
    · subst e
      rw [List.mem_singleton.mp hc]
      exact Or.inl (by omega)
    · subst e
      rcases List.mem_append.mp hc with q | q
      · exact vRep_c d h1 c q
      · rcases List.mem_append.mp q with q | q
        · exact vRep_c d h2 c q
        · rw [List.mem_singleton.mp q]; exact Or.inl (by omega)
    · subst e
      rcases List.mem_append.mp hc with q | q
      · exact tRep_c d h1 c q
      · rw [List.mem_singleton.mp q]; exact Or.inl (by omega)
    · subst e
      exact chC_rg (fun _ _ => Or.inr True.intro) n (fun i hi => tRep_c d (hf i hi)) (fun i i1 i2 => Or.inl (by omega)) c hc
theorem cdS.at {m : MM} {x : Nat} {cs : List Int} (h : cdS m x (some cs)) (hr : ∀ c ∈ cs, cRg c) : codesAt m x cs ∧ mi m 1044 (2 + x) ≠ -1 ∧ csM m x = cs := by
  obtain ⟨f, a1, a2, a3, a4⟩ := h
  have e1 : mi m 1044 (2 + x) = f := by unfold mi; rw [a1, toInt_iI (by omega) (by omega)]
  have e2 : mi m 1045 (2 + x) = ((f + cs.length : Nat) : Int) := by unfold mi; rw [a2, toInt_iI (by omega) (by omega)]
  have hc : codesAt m x cs := by
    refine ⟨by omega, by rw [e1, e2]; omega, by rw [e2]; omega, fun i hi => ?_⟩
    rw [e1, show 1600 + ((f : Int)).toNat + i = 1600 + (f + i) by omega]
    unfold mi
    have hm : cs.getD i 0 ∈ cs := by rw [getD_get hi]; exact List.getElem_mem hi
    have := hr _ hm
    unfold cRg at this
    rw [a4 i hi, toInt_iI (by omega) (by omega)]
  exact ⟨hc, by rw [e1]; omega, csM_of hc⟩
theorem alS_4 : alS false = al4 := funext fun w => by
  unfold alS al4
  rw [if_neg (by decide)]
theorem okS.at {μ μ2 : gM} {M : Nat → Prop} {P : gM → Prop} (h : okS μ M P) (hs : ∀ d : Nat, 2369 ≤ d → d < gZ μ → smC μ μ2 d) : P μ2 := by
  obtain ⟨S, h1, h2⟩ := h
  exact h2 μ2 (fun d hd => hs d (h1 d hd).1 (h1 d hd).2.1)
theorem mi_i {m : MM} {c j : Nat} {v : Int} (h : m.1 c j = iI v) (hv : -2147483648 ≤ v ∧ v < 2147483648) : mi m c j = v := by unfold mi; rw [h, toInt_iI hv.1 hv.2]
theorem ci_i {μ : gM} {c j : Nat} {v : Int} (h : gI μ c j = iI v) (hv : -2147483648 ≤ v ∧ v < 2147483648) : ci μ c j = v := by unfold ci; rw [h, toInt_iI hv.1 hv.2]
theorem hh_of {m : MM} {μ μ2 : gM} {c : Nat} {h : HS} (ho : hsOK h) (hS : hsS m h) (hR : hcR μ c h) (hl : loA (gZ μ) μ μ2) (h0 : gP μ2 1000 0 = c) : (hhS m μ2 ∧ cOK m ∧ drC h μ2) ∧ gI μ2 c 1 = iI h.st ∧ gI μ2 c 0 = gI μ c 0 ∧ gK μ2 c = 2 ∧ ∀ t : Nat, t < h.nt → gI μ2 (thC μ2 t) 2 = iI (h.tv t).2.1 ∧ gI μ2 (thC μ2 t) 3 = iI (h.tv t).2.2 := by
  have h8 := ho.nh8
  have h9 := ho.nt8
  have h12 := ho.ni12
  have hd12 := ho.nd12
  have hdg := ho.dgO
  obtain ⟨⟨s1, s2, s3, s4, s5⟩, ⟨n1, n2⟩, t1, t2, b0, b1⟩ := hS
  obtain ⟨⟨⟨r1, r2, r3⟩, r4, r5⟩, ⟨q1, q2⟩, q3, q4⟩ := hR
  have hs : ∀ d : Nat, 2369 ≤ d → d < gZ μ → smC μ μ2 d := fun d d1 d2 => hl d (ks_hi d1) d2
  have smc := hs c r2 r3
  have eH : hC μ2 = c := h0
  have e6 : mi m 1038 6 = h.nh := mi_i s1 (by omega)
  have e7 : mi m 1038 7 = h.nt := mi_i s2 (by omega)
  have e8 : mi m 1038 8 = h.nd := mi_i s3 (by omega)
  have e9 : mi m 1038 9 = h.ni := mi_i s4 (by omega)
  have e11 : mi m 1038 11 = h.dg := mi_i s5 (by omega)
  have eL : ∀ i : Nat, gP μ2 c (3 + i) = lcC μ c i := fun i => (smc.2.2 _).2.2
  -- the lists
  have LL : ∀ i : Nat, i < 4 → lst μ2 (lcC μ c i) (hN h i : Int) ∧ ∀ k : Nat, k < hN h i → hP h i k μ2 (el μ2 (lcC μ c i) k) := fun i hi => by
    obtain ⟨L, l1, l2⟩ := r5 i hi
    have z0 := l1.2.1
    have z1 := l1.2.2.1
    obtain ⟨k1, k2, k3⟩ := l1.1.i (hs _ z0.1 z0.2).i (hs _ z1.1 z1.2).i
    refine ⟨k1, fun k hk => ?_⟩
    rw [k3 k, (l1.2.2.2.2.2 k hk).1]
    exact (l2 k hk).2.at hs
  obtain ⟨l0, p0⟩ := LL 0 (by omega)
  obtain ⟨l1, p1⟩ := LL 1 (by omega)
  obtain ⟨l2, p2⟩ := LL 2 (by omega)
  obtain ⟨l3, p3⟩ := LL 3 (by omega)
  have l0 : lst μ2 (gP μ2 c 3) (h.nh : Int) := by rw [show gP μ2 c 3 = lcC μ c 0 from eL 0]; exact l0
  have l1 : lst μ2 (gP μ2 c 4) (h.nd : Int) := by rw [show gP μ2 c 4 = lcC μ c 1 from eL 1]; exact l1
  have l2 : lst μ2 (gP μ2 c 5) (h.nt : Int) := by rw [show gP μ2 c 5 = lcC μ c 2 from eL 2]; exact l2
  have l3 : lst μ2 (gP μ2 c 6) (h.ni : Int) := by rw [show gP μ2 c 6 = lcC μ c 3 from eL 3]; exact l3
  have p0 : ∀ k : Nat, k < h.nh → gK μ2 (el μ2 (gP μ2 c 3) k) = 7 ∧ strR μ2 (gP μ2 (el μ2 (gP μ2 c 3) k) 0) (h.hn k) := fun k hk => by rw [show gP μ2 c 3 = lcC μ c 0 from eL 0]; exact p0 k hk
  have p1 : ∀ k : Nat, k < h.nd → gK μ2 (el μ2 (gP μ2 c 4) k) = 8 ∧ gI μ2 (el μ2 (gP μ2 c 4) k) 0 = iI (h.dv k).1 ∧ gI μ2 (el μ2 (gP μ2 c 4) k) 1 = iI (h.dv k).2.1 ∧ gI μ2 (el μ2 (gP μ2 c 4) k) 2 = iI (h.dv k).2.2 := fun k hk => by rw [show gP μ2 c 4 = lcC μ c 1 from eL 1]; exact p1 k hk
  have p2 : ∀ k : Nat, k < h.nt → gK μ2 (el μ2 (gP μ2 c 5) k) = 9 ∧ strR μ2 (gP μ2 (el μ2 (gP μ2 c 5) k) 0) (h.tn k) ∧ gI μ2 (el μ2 (gP μ2 c 5) k) 1 = iI (h.tv k).1 ∧ gI μ2 (el μ2 (gP μ2 c 5) k) 2 = iI (h.tv k).2.1 ∧ gI μ2 (el μ2 (gP μ2 c 5) k) 3 = iI (h.tv k).2.2 := fun k hk => by rw [show gP μ2 c 5 = lcC μ c 2 from eL 2]; exact p2 k hk
  have p3 : ∀ k : Nat, k < h.ni → gK μ2 (el μ2 (gP μ2 c 6) k) = 10 ∧ gI μ2 (el μ2 (gP μ2 c 6) k) 0 = iI (h.iv k).1 ∧ gI μ2 (el μ2 (gP μ2 c 6) k) 1 = iI (h.iv k).2 := fun k hk => by rw [show gP μ2 c 6 = lcC μ c 3 from eL 3]; exact p3 k hk
  -- the trees
  have tv : (h.bu = none ∧ gP μ2 c 7 = 0) ∨ ∃ cs, h.bu = some cs ∧ vRep al4 false 60 μ2 (gP μ2 c 7) cs := by
    cases hb : h.bu with
    | none => rw [hb] at q3; exact Or.inl ⟨rfl, (smc.2.2 7).2.2.trans q3⟩
    | some cs =>
      rw [hb] at q3
      refine Or.inr ⟨cs, rfl, ?_⟩
      have := q3.2.at hs
      rw [alS_4] at this
      rw [(smc.2.2 7).2.2]
      exact vRep_le (by omega) this
  have tt : (h.mn = none ∧ gP μ2 c 8 = 0) ∨ ∃ cs, h.mn = some cs ∧ tRep al4 false 60 μ2 (gP μ2 c 8) cs := by
    cases hb : h.mn with
    | none => rw [hb] at q4; exact Or.inl ⟨rfl, (smc.2.2 8).2.2.trans q4⟩
    | some cs =>
      rw [hb] at q4
      refine Or.inr ⟨cs, rfl, ?_⟩
      have := q4.2.at hs
      rw [alS_4] at this
      rw [(smc.2.2 8).2.2]
      exact tRep_le (by omega) this
  have no : ∀ {x : Nat}, cdS m x none → mi m 1044 (2 + x) = -1 := fun h => by
    unfold mi
    rw [show m.1 1044 _ = -1 from h]
    decide
  have low : ∀ {cs : List Int}, (∀ c ∈ cs, cRg c) → ∀ c ∈ cs, c < 60 ∨ 1000 ≤ c := fun h c hc => by
    have := h c hc
    unfold cRg at this
    omega
  have HV : ((mi m 1044 2 = -1 ∧ gP μ2 (hC μ2) 7 = 0) ∨ (mi m 1044 2 ≠ -1 ∧ vRep al4 false 60 μ2 (gP μ2 (hC μ2) 7) (csM m 0))) ∧ cOK1 m 0 false := by
    rw [eH]
    rcases tv with ⟨hb, z⟩ | ⟨cs, hb, v⟩
    · rw [hb] at b0
      exact ⟨Or.inl ⟨no b0, z⟩, fun q => absurd (no b0) q⟩
    · rw [hb] at b0
      have hr := vRep_c 60 v
      obtain ⟨c1, c2, c3⟩ := b0.at hr
      refine ⟨Or.inr ⟨c2, by rw [c3]; exact v⟩, fun _ => ?_⟩
      rw [c3]
      exact ⟨c1, low hr, vRep_T 60 v⟩
  have HT : ((mi m 1044 3 = -1 ∧ gP μ2 (hC μ2) 8 = 0) ∨ (mi m 1044 3 ≠ -1 ∧ tRep al4 false 60 μ2 (gP μ2 (hC μ2) 8) (csM m 1))) ∧ cOK1 m 1 true := by
    rw [eH]
    rcases tt with ⟨hb, z⟩ | ⟨cs, hb, v⟩
    · rw [hb] at b1
      exact ⟨Or.inl ⟨no b1, z⟩, fun q => absurd (no b1) q⟩
    · rw [hb] at b1
      have hr := tRep_c 60 v
      obtain ⟨c1, c2, c3⟩ := b1.at hr
      refine ⟨Or.inr ⟨c2, by rw [c3]; exact v⟩, fun _ => ?_⟩
      rw [c3]
      exact ⟨c1, low hr, tRep_T 60 v⟩
  have mL : ∀ {j : Nat} {w : List Int}, nmOK w → m.2 1039 j = lL (nmV w) → ml m 1039 j = nmV w := fun hw e => by
    have := nmV_b hw
    unfold ml
    rw [e, toInt_lL (by omega) (by omega)]
  refine ⟨?_, (smc.2.2 1).1.trans q1, (smc.2.2 0).1, smc.1.trans r1, fun t ht => ⟨?_, ?_⟩⟩
  rotate_left
  · rw [show thC μ2 t = el μ2 (gP μ2 c 5) t by unfold thC; rw [eH]]; exact (p2 t ht).2.2.2.1
  · rw [show thC μ2 t = el μ2 (gP μ2 c 5) t by unfold thC; rw [eH]]; exact (p2 t ht).2.2.2.2
  refine ⟨⟨⟨⟨by omega, by omega, by omega, by omega, by omega⟩, ⟨by rw [eH]; omega, by rw [eH]; exact ks_hi r2, by rw [eH]; exact smc.1.trans r1, by rw [eH, e6]; exact l0, by rw [eH, e8]; exact l1, by rw [eH, e7]; exact l2, by rw [eH, e9]; exact l3, by rw [eH, e11]; exact ci_i ((smc.2.2 2).1.trans q2) (by omega)⟩, fun t ht => ?_, fun k hk => ?_⟩, ⟨HV.1, HT.1⟩, fun k hk => ?_, fun k hk => ?_⟩, ⟨HV.2, HT.2⟩, ⟨by rw [eH]; omega, by rw [eH]; exact smc.1.trans r1⟩, by rw [eH]; exact l1, fun k hk => by rw [eH]; exact p1 k hk⟩
  · have ht' : t < h.nt := by omega
    have o := ho.tvO t ht'
    obtain ⟨y1, y2⟩ := t1 t ht'
    obtain ⟨z1, -, z3, -, z5⟩ := p2 t ht'
    have f1 := mi_i y1 (by omega)
    have f2 := mi_i y2 (by omega)
    have ec : thC μ2 t = el μ2 (gP μ2 c 5) t := by unfold thC; rw [eH]
    rw [ec, f1, f2, e6]
    exact ⟨z1, ci_i z3 (by omega), ci_i z5 (by omega), by omega, by omega⟩
  · have hk' : k < h.ni := by omega
    have o := ho.ivO k hk'
    obtain ⟨y1, y2⟩ := t2 k hk'
    obtain ⟨z1, z2, z3⟩ := p3 k hk'
    have f1 := mi_i y1 (by omega)
    have f2 := mi_i y2 (by omega)
    have ec : tiC μ2 k = el μ2 (gP μ2 c 6) k := by unfold tiC; rw [eH]
    rw [ec, f1, f2, e7]
    exact ⟨z1, ci_i z2 (by omega), ci_i z3 (by omega), by omega, by omega⟩
  · have hk' : k < h.nh := by omega
    have ec : hlC μ2 k = el μ2 (gP μ2 c 3) k := by unfold hlC; rw [eH]
    obtain ⟨z1, z2⟩ := p0 k hk'
    rw [ec]
    exact ⟨by omega, h.hn k, z2, ho.hnO.1 k hk', mL (ho.hnO.1 k hk') (n1 k hk')⟩
  · have hk' : k < h.nt := by omega
    have ec : thC μ2 k = el μ2 (gP μ2 c 5) k := by unfold thC; rw [eH]
    obtain ⟨z1, z2, -⟩ := p2 k hk'
    rw [ec]
    exact ⟨by omega, h.tn k, z2, ho.tnO.1 k hk', mL (ho.tnO.1 k hk') (n2 k hk')⟩
