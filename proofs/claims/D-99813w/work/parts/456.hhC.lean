/-! ===== the component: the household while it is read ===== -/
def smC (μ μ' : gM) (d : Nat) : Prop := gK μ' d = gK μ d ∧ gN μ' d = gN μ d ∧ ∀ j : Nat, gI μ' d j = gI μ d j ∧ gL μ' d j = gL μ d j ∧ gP μ' d j = gP μ d j
theorem smC.refl (μ : gM) (d : Nat) : smC μ μ d := ⟨rfl, rfl, fun _ => ⟨rfl, rfl, rfl⟩⟩
theorem smC.trans {a b c : gM} {d : Nat} (h1 : smC a b d) (h2 : smC b c d) : smC a c d := ⟨h2.1.trans h1.1, h2.2.1.trans h1.2.1, fun j => ⟨(h2.2.2 j).1.trans (h1.2.2 j).1, (h2.2.2 j).2.1.trans (h1.2.2 j).2.1, (h2.2.2 j).2.2.trans (h1.2.2 j).2.2⟩⟩
theorem pF.sm {z : Nat} {μ μ' : gM} (h : pF z μ μ') {d : Nat} (h1 : 2369 ≤ d) (h2 : d < z) : smC μ μ' d := (h.i h1 (show d + 1 ≤ z by omega)) d (Nat.le_refl _) (Nat.lt_succ_self _)
theorem uF.sm {a b d : Nat} {μ μ' : gM} (h : uF a b μ μ') (h1 : d < gZ μ) (h2 : d ≠ a) (h3 : d ≠ b) : smC μ μ' d := h.2.2 d h1 h2 h3
theorem sFr.sm {z d : Nat} {μ μ' : gM} (h : sFr z μ μ') (h1 : d < z) : smC μ μ' d := h.2.2 d h1
theorem smC.i {μ μ' : gM} {d : Nat} (h : smC μ μ' d) : inR d (d + 1) μ μ' := fun c h1 h2 => by rw [show c = d by omega]; exact h
/-- something holds that rests on cells out of reach -/
def okS (μ : gM) (Mu : Nat → Prop) (P : gM → Prop) : Prop := ∃ S : Nat → Prop, (∀ d : Nat, S d → 2369 ≤ d ∧ d < gZ μ ∧ ¬ Mu d) ∧ ∀ μ' : gM, (∀ d : Nat, S d → smC μ μ' d) → P μ'
theorem okS.mv {μ μ' : gM} {Mu Mu' : Nat → Prop} {P : gM → Prop} (h : okS μ Mu P) (hs : ∀ d : Nat, 2369 ≤ d → d < gZ μ → ¬ Mu d → smC μ μ' d) (hz : gZ μ ≤ gZ μ') (hm : ∀ d : Nat, d < gZ μ → Mu' d → Mu d) : okS μ' Mu' P := by
  obtain ⟨S, h1, h2⟩ := h
  exact ⟨S, fun d hd => ⟨(h1 d hd).1, by have := (h1 d hd).2.1; omega, fun q => (h1 d hd).2.2 (hm d (h1 d hd).2.1 q)⟩, fun μ2 q => h2 μ2 (fun d hd => (hs d (h1 d hd).1 (h1 d hd).2.1 (h1 d hd).2.2).trans (q d hd))⟩
theorem okS.get {μ : gM} {Mu : Nat → Prop} {P : gM → Prop} (h : okS μ Mu P) : P μ := by
  obtain ⟨S, h1, h2⟩ := h
  exact h2 μ (fun d _ => smC.refl μ d)
theorem okS.imp {μ : gM} {Mu : Nat → Prop} {P P' : gM → Prop} (h : okS μ Mu P) (hp : ∀ μ', P μ' → P' μ') : okS μ Mu P' := by
  obtain ⟨S, h1, h2⟩ := h
  exact ⟨S, h1, fun μ' q => hp μ' (h2 μ' q)⟩
theorem Tv.okS {R : gM → Nat → List Int → Prop} {a b : Nat} {μ : gM} {r : Nat} {cs : List Int} (h : Tv R a b μ r cs) {Mu : Nat → Prop} (hm : ∀ d : Nat, a ≤ d → d < b → ¬ Mu d) : okS μ Mu (fun μ' => R μ' r cs) := ⟨fun d => a ≤ d ∧ d < b, fun d hd => ⟨by have := h.2.1.1; omega, by have := h.2.1.2; omega, hm d hd.1 hd.2⟩, fun μ' q => h.2.2 μ' (fun c h1 h2 => q c ⟨h1, h2⟩)⟩
/-- the lists of a household at c -/
abbrev lcC (μ : gM) (c i : Nat) : Nat := gP μ c (3 + i)
abbrev acC (μ : gM) (c i : Nat) : Nat := gP μ (lcC μ c i) 1
def Mu (μ : gM) (c d : Nat) : Prop := d = c ∨ ∃ i : Nat, i < 4 ∧ (d = lcC μ c i ∨ d = acC μ c i)
def dst (μ : gM) (c : Nat) : Prop := (∀ i : Nat, i < 4 → c ≠ lcC μ c i ∧ c ≠ acC μ c i) ∧ (∀ i j : Nat, i < 4 → j < 4 → lcC μ c i ≠ acC μ c j) ∧ ∀ i j : Nat, i < 4 → j < 4 → i ≠ j → lcC μ c i ≠ lcC μ c j ∧ acC μ c i ≠ acC μ c j
def hcB (μ : gM) (c : Nat) (N : Nat → Nat) (pc : Nat → Nat → gM → Nat → Prop) : Prop := (gK μ c = 2 ∧ 2369 ≤ c ∧ c < gZ μ) ∧ dst μ c ∧ ∀ i : Nat, i < 4 → ∃ L : Nat → Nat, lsR μ (lcC μ c i) (N i) L ∧ ∀ k : Nat, k < N i → 2369 ≤ L k ∧ okS μ (Mu μ c) (fun μ' => pc i k μ' (L k))
/-- nothing of it changes -/
theorem hcB.p {μ μ' : gM} {c : Nat} {N : Nat → Nat} {pc : Nat → Nat → gM → Nat → Prop} (h : hcB μ c N pc) (hs : ∀ d : Nat, 2369 ≤ d → d < gZ μ → smC μ μ' d) (hz : gZ μ ≤ gZ μ') : hcB μ' c N pc ∧ (∀ i : Nat, i < 4 → lcC μ' c i = lcC μ c i ∧ acC μ' c i = acC μ c i) := by
  obtain ⟨⟨h1, h2, h3⟩, h4, h5⟩ := h
  have eL : ∀ i : Nat, lcC μ' c i = lcC μ c i := fun i => ((hs c h2 h3).2.2 _).2.2
  have eA : ∀ i : Nat, i < 4 → acC μ' c i = acC μ c i := fun i hi => by
    obtain ⟨L, l1, -⟩ := h5 i hi
    show gP μ' (lcC μ' c i) 1 = _
    rw [eL]
    exact ((hs _ l1.2.1.1 l1.2.1.2).2.2 1).2.2
  refine ⟨⟨⟨(hs c h2 h3).1.trans h1, h2, by omega⟩, ⟨fun i hi => by rw [eL, eA i hi]; exact h4.1 i hi, fun i j hi hj => by rw [eL, eA j hj]; exact h4.2.1 i j hi hj, fun i j hi hj e => by rw [eL, eL, eA i hi, eA j hj]; exact h4.2.2 i j hi hj e⟩, fun i hi => ?_⟩, fun i hi => ⟨eL i, eA i hi⟩⟩
  obtain ⟨L, l1, l2⟩ := h5 i hi
  refine ⟨L, ?_, fun k hk => ⟨(l2 k hk).1, (l2 k hk).2.mv (fun d d1 d2 _ => hs d d1 d2) hz (fun d _ q => ?_)⟩⟩
  · rw [eL]
    have z0 := l1.2.1
    have z1 := l1.2.2.1
    refine l1.i (hs _ z0.1 z0.2).i (hs _ z1.1 z1.2).i hz (fun k hk => ?_)
    have zk := l1.2.2.2.2.2 k hk
    have zc := zk.2.1
    have e : gK μ' (L k) = gK μ (L k) := (hs _ (l2 k hk).1 zk.2.2).1
    show (Nat.ble 1 (gK μ' (L k)) && Nat.ble (gK μ' (L k)) 23) = true
    rw [e]
    exact zc
  · rcases q with q | ⟨j, hj, q⟩
    · exact Or.inl q
    · rw [eL, eA j hj] at q
      exact Or.inr ⟨j, hj, q⟩
/-- one more thing in list i -/
theorem hcB.add {μ : gM} {c i e : Nat} {N : Nat → Nat} {pc pc' : Nat → Nat → gM → Nat → Prop} (h : hcB μ c N pc) (hi : i < 4) (hN : N i < 100) (he : 2369 ≤ e ∧ e < gZ μ) (ho : cOb μ e = true) (hold : ∀ j k : Nat, j < 4 → k < N j → ∀ (μ' : gM) (r : Nat), pc j k μ' r → pc' j k μ' r) (hnew : okS μ (Mu μ c) (fun μ' => pc' i (N i) μ' e)) : ∃ μ' : gM, cf_J2_add (lcC μ c i) e μ = some (1, μ') ∧ hcB μ' c (hupd N i (N i + 1)) pc' ∧ uF (lcC μ c i) (acC μ c i) μ μ' ∧ (∀ d : Nat, d < gZ μ → Mu μ' c d → Mu μ c d) ∧ (∀ j : Nat, j < 4 → lcC μ' c j = lcC μ c j) ∧ gC μ' ≤ gC μ + (N i + N i / 2 + 9) := by
  obtain ⟨⟨h1, h2, h3⟩, h4, h5⟩ := h
  obtain ⟨L, l1, l2⟩ := h5 i hi
  obtain ⟨μ', s1, s2, s3, s4, s5⟩ := c_add l1 (by omega) (by omega) (ks_hi he.1) he.2 ho (h4.2.1 i i hi hi)
  have smc : smC μ μ' c := s3.sm h3 (h4.1 i hi).1 (h4.1 i hi).2
  have eL : ∀ j : Nat, lcC μ' c j = lcC μ c j := fun j => (smc.2.2 _).2.2
  have eA : ∀ j : Nat, j < 4 → j ≠ i → acC μ' c j = acC μ c j := fun j hj hne => by
    obtain ⟨L2, m1, -⟩ := h5 j hj
    show gP μ' (lcC μ' c j) 1 = _
    rw [eL]
    exact ((s3.sm m1.2.1.2 (h4.2.2 j i hj hi hne).1 (h4.2.1 j i hj hi)).2.2 1).2.2
  have eAi : acC μ' c i = acC μ c i ∨ acC μ' c i = gZ μ := by
    show gP μ' (lcC μ' c i) 1 = _ ∨ gP μ' (lcC μ' c i) 1 = _
    rw [eL]; exact s4
  have lz : ∀ j : Nat, j < 4 → lcC μ c j < gZ μ ∧ acC μ c j < gZ μ := fun j hj => by
    obtain ⟨L2, m1, -⟩ := h5 j hj
    exact ⟨m1.2.1.2, m1.2.2.1.2⟩
  have mu : ∀ d : Nat, d < gZ μ → Mu μ' c d → Mu μ c d := fun d hd q => by
    rcases q with q | ⟨j, hj, q⟩
    · exact Or.inl q
    · rw [eL] at q
      rcases q with q | q
      · exact Or.inr ⟨j, hj, Or.inl q⟩
      · by_cases e : j = i
        · subst e
          rcases eAi with z | z
          · rw [z] at q; exact Or.inr ⟨j, hj, Or.inr q⟩
          · rw [z] at q; omega
        · rw [eA j hj e] at q; exact Or.inr ⟨j, hj, Or.inr q⟩
  have sm0 : ∀ d : Nat, 2369 ≤ d → d < gZ μ → ¬ Mu μ c d → smC μ μ' d := fun d _ d2 d3 => s3.sm d2 (fun q => d3 (Or.inr ⟨i, hi, Or.inl q⟩)) (fun q => d3 (Or.inr ⟨i, hi, Or.inr q⟩))
  have dd : dst μ' c := by
    refine ⟨fun j hj => ?_, fun j k hj hk => ?_, fun j k hj hk hne => ?_⟩
    · rw [eL]
      refine ⟨(h4.1 j hj).1, ?_⟩
      by_cases e : j = i
      · subst e
        rcases eAi with z | z
        · rw [z]; exact (h4.1 j hj).2
        · rw [z]; omega
      · rw [eA j hj e]; exact (h4.1 j hj).2
    · rw [eL]
      by_cases e : k = i
      · subst e
        rcases eAi with z | z
        · rw [z]; exact h4.2.1 j k hj hk
        · rw [z]; have := (lz j hj).1; omega
      · rw [eA k hk e]; exact h4.2.1 j k hj hk
    · rw [eL, eL]
      refine ⟨(h4.2.2 j k hj hk hne).1, ?_⟩
      by_cases e : j = i
      · subst e
        rw [eA k hk (fun q => hne q.symm)]
        rcases eAi with z | z
        · rw [z]; exact (h4.2.2 j k hj hk hne).2
        · rw [z]; have := (lz k hk).2; omega
      · rw [eA j hj e]
        by_cases e2 : k = i
        · subst e2
          rcases eAi with z | z
          · rw [z]; exact (h4.2.2 j k hj hk hne).2
          · rw [z]; have := (lz j hj).2; omega
        · rw [eA k hk e2]; exact (h4.2.2 j k hj hk hne).2
  refine ⟨μ', s1, ⟨⟨smc.1.trans h1, h2, by have := s3.1; omega⟩, dd, fun j hj => ?_⟩, s3, mu, fun j _ => eL j, s5⟩
  by_cases e : j = i
  · subst e
    rw [hupd_at, eL]
    refine ⟨_, s2, fun k hk => ?_⟩
    by_cases q : k = N j
    · subst q
      rw [if_pos rfl]
      exact ⟨he.1, hnew.mv sm0 s3.1 mu⟩
    · rw [if_neg q]
      have hk2 : k < N j := by omega
      exact ⟨(l2 k hk2).1, ((l2 k hk2).2.imp (fun μ2 z => hold j k hj hk2 μ2 _ z)).mv sm0 s3.1 mu⟩
  · rw [hupd_ne _ _ e, eL]
    obtain ⟨L2, m1, m2⟩ := h5 j hj
    refine ⟨L2, ?_, fun k hk => ⟨(m2 k hk).1, ((m2 k hk).2.imp (fun μ2 z => hold j k hj hk μ2 _ z)).mv sm0 s3.1 mu⟩⟩
    have z0 := m1.2.1
    have z1 := m1.2.2.1
    have t0 := h4.2.2 j i hj hi e
    refine m1.i (s3.sm z0.2 t0.1 (h4.2.1 j i hj hi)).i (s3.sm z1.2 (fun q => h4.2.1 i j hi hj q.symm) t0.2).i s3.1 (fun k hk => ?_)
    have zk := m1.2.2.2.2.2 k hk
    have zc := zk.2.1
    have e2 : gK μ' (L2 k) = gK μ (L2 k) := by
      by_cases q1 : L2 k = lcC μ c i
      · rw [q1]; exact (s2.1.2.2.1).trans (l1.1.2.2.1).symm
      · by_cases q2 : L2 k = acC μ c i
        · exfalso
          have hK := l1.1.2.2.2.2.2.2.1
          rw [q2] at zc
          have zc2 : (Nat.ble 1 (gK μ (acC μ c i)) && Nat.ble (gK μ (acC μ c i)) 23) = true := zc
          rw [show gK μ (acC μ c i) = 106 from hK] at zc2
          exact absurd zc2 (by decide)
        · exact (s3.sm zk.2.2 q1 q2).1
    show (Nat.ble 1 (gK μ' (L2 k)) && Nat.ble (gK μ' (L2 k)) 23) = true
    rw [e2]
    exact zc
/-- a field of the household itself is set -/
theorem hcB.fld {μ μ' : gM} {c : Nat} {N : Nat → Nat} {pc : Nat → Nat → gM → Nat → Prop} (h : hcB μ c N pc) (hs : ∀ d : Nat, 2369 ≤ d → d < gZ μ → d ≠ c → smC μ μ' d) (hk : gK μ' c = gK μ c) (hp : ∀ i : Nat, i < 4 → gP μ' c (3 + i) = gP μ c (3 + i)) (hz : gZ μ ≤ gZ μ') : hcB μ' c N pc ∧ ∀ d : Nat, Mu μ' c d → Mu μ c d := by
  obtain ⟨⟨h1, h2, h3⟩, h4, h5⟩ := h
  replace hp : ∀ i : Nat, i < 4 → lcC μ' c i = lcC μ c i := hp
  have eA : ∀ i : Nat, i < 4 → acC μ' c i = acC μ c i := fun i hi => by
    obtain ⟨L, l1, -⟩ := h5 i hi
    show gP μ' (lcC μ' c i) 1 = _
    rw [hp i hi]
    exact ((hs _ l1.2.1.1 l1.2.1.2 (fun q => (h4.1 i hi).1 q.symm)).2.2 1).2.2
  have mu : ∀ d : Nat, Mu μ' c d → Mu μ c d := fun d q => by
    rcases q with q | ⟨j, hj, q⟩
    · exact Or.inl q
    · rw [hp j hj, eA j hj] at q
      exact Or.inr ⟨j, hj, q⟩
  refine ⟨⟨⟨hk.trans h1, h2, by omega⟩, ⟨fun i hi => by rw [hp i hi, eA i hi]; exact h4.1 i hi, fun i j hi hj => by rw [hp i hi, eA j hj]; exact h4.2.1 i j hi hj, fun i j hi hj e => by rw [hp i hi, hp j hj, eA i hi, eA j hj]; exact h4.2.2 i j hi hj e⟩, fun i hi => ?_⟩, mu⟩
  obtain ⟨L, l1, l2⟩ := h5 i hi
  refine ⟨L, ?_, fun k hk => ⟨(l2 k hk).1, (l2 k hk).2.mv (fun d d1 d2 d3 => hs d d1 d2 (fun q => d3 (Or.inl q))) hz (fun d _ q => mu d q)⟩⟩
  rw [hp i hi]
  have z0 := l1.2.1
  have z1 := l1.2.2.1
  refine l1.i (hs _ z0.1 z0.2 (fun q => (h4.1 i hi).1 q.symm)).i (hs _ z1.1 z1.2 (fun q => (h4.1 i hi).2 q.symm)).i hz (fun k hk9 => ?_)
  have zk := l1.2.2.2.2.2 k hk9
  have zc := zk.2.1
  have e : gK μ' (L k) = gK μ (L k) := by
    by_cases q : L k = c
    · rw [q]; exact hk
    · exact (hs _ (l2 k hk9).1 zk.2.2 q).1
  show (Nat.ble 1 (gK μ' (L k)) && Nat.ble (gK μ' (L k)) 23) = true
  rw [e]
  exact zc
/-- what the pieces are -/
def hN (h : HS) (i : Nat) : Nat := if i = 0 then h.nh else if i = 1 then h.nd else if i = 2 then h.nt else if i = 3 then h.ni else 0
def hP (h : HS) (i k : Nat) (μ : gM) (r : Nat) : Prop :=
  if i = 0 then gK μ r = 7 ∧ strR μ (gP μ r 0) (h.hn k) else
  if i = 1 then gK μ r = 8 ∧ gI μ r 0 = iI (h.dv k).1 ∧ gI μ r 1 = iI (h.dv k).2.1 ∧ gI μ r 2 = iI (h.dv k).2.2 else
  if i = 2 then gK μ r = 9 ∧ strR μ (gP μ r 0) (h.tn k) ∧ gI μ r 1 = iI (h.tv k).1 ∧ gI μ r 2 = iI (h.tv k).2.1 ∧ gI μ r 3 = iI (h.tv k).2.2 else
  gK μ r = 10 ∧ gI μ r 0 = iI (h.iv k).1 ∧ gI μ r 1 = iI (h.iv k).2
def trO (μ : gM) (c j : Nat) (R : gM → Nat → List Int → Prop) (o : Option (List Int)) : Prop := match o with
  | none => gP μ c j = 0
  | some cs => gP μ c j ≠ 0 ∧ okS μ (Mu μ c) (fun μ' => R μ' (gP μ c j) cs)
theorem trO.mv {μ μ' : gM} {c j : Nat} {R : gM → Nat → List Int → Prop} {o : Option (List Int)} (h : trO μ c j R o) (hp : gP μ' c j = gP μ c j) (hs : ∀ d : Nat, 2369 ≤ d → d < gZ μ → ¬ Mu μ c d → smC μ μ' d) (hz : gZ μ ≤ gZ μ') (hm : ∀ d : Nat, d < gZ μ → Mu μ' c d → Mu μ c d) : trO μ' c j R o := by
  cases o with
  | none => exact hp.trans h
  | some cs =>
    obtain ⟨h1, h2⟩ := h
    refine ⟨by rw [hp]; exact h1, ?_⟩
    rw [hp]
    exact h2.mv hs hz hm
/-- the household at c holds h (but for its count of statements) -/
def hcR (μ : gM) (c : Nat) (h : HS) : Prop := hcB μ c (hN h) (hP h) ∧ (gI μ c 1 = iI h.st ∧ gI μ c 2 = iI h.dg) ∧ trO μ c 7 (vRep (alS false) false 26) h.bu ∧ trO μ c 8 (tRep (alS false) false 50) h.mn
theorem hcR.p {μ μ' : gM} {c : Nat} {h : HS} (hR : hcR μ c h) (x : pF (gZ μ) μ μ') : hcR μ' c h := by
  obtain ⟨h1, h2, h3, h4⟩ := hR
  have hs : ∀ d : Nat, 2369 ≤ d → d < gZ μ → smC μ μ' d := fun d d1 d2 => x.sm d1 d2
  obtain ⟨b1, b2⟩ := h1.p hs x.1
  have smc := hs c h1.1.2.1 h1.1.2.2
  have mu : ∀ d : Nat, d < gZ μ → Mu μ' c d → Mu μ c d := fun d _ q => by
    rcases q with q | ⟨j, hj, q⟩
    · exact Or.inl q
    · rw [(b2 j hj).1, (b2 j hj).2] at q
      exact Or.inr ⟨j, hj, q⟩
  exact ⟨b1, ⟨(smc.2.2 1).1.trans h2.1, (smc.2.2 2).1.trans h2.2⟩, h3.mv (smc.2.2 7).2.2 (fun d d1 d2 _ => hs d d1 d2) x.1 mu, h4.mv (smc.2.2 8).2.2 (fun d d1 d2 _ => hs d d1 d2) x.1 mu⟩
