/-! ===== the law's walk: two worlds on one heap ===== -/
def gH (G : gz_G) (H : Heap) : gz_G := (G.1, G.2.1, G.2.2.1, G.2.2.2.1, H)
theorem gR_H {Z : gz_S} {G : gz_G} {μ : gM} {H H' : Heap} (h : gz_R Z (gH G H) μ H') : gz_R Z (gH G H') μ H' := ⟨h.1, h.2.1, h.2.2.1, h.2.2.2.1, fun _ _ _ => rfl, h.2.2.2.2.2⟩
/-- cells of a world that makes nothing are as they were, in another heap that holds them -/
theorem gR_keep {Z : gz_S} {G : gz_G} {μ : gM} {H H' : Heap} (h : gz_R Z (gH G H) μ H) (hz : μ.2.2.2.2.2.1 = 0 ∨ H'.size = H.size) (hq : ∀ c : Nat, μ.1 c ≠ 0 → H'[gz_ad G c]? = H[gz_ad G c]?) : gz_R Z (gH G H') μ H' := by
  obtain ⟨h1, h2, h3, h4, h5, h6⟩ := h
  refine ⟨fun c => ⟨fun ci hci hlt => ?_, fun t ht => ?_⟩, h2, h3, fun h0 => ?_, fun _ _ _ => rfl, h6⟩
  · obtain ⟨r, hr, hob⟩ := (h1 c).1 ci hci hlt
    exact ⟨r, hr, hob.kept (hq c (by rw [hci]; exact Nat.succ_ne_zero _))⟩
  · have h7 := (h1 c).2 t ht
    exact (hq c (by rw [ht]; exact Nat.succ_ne_zero _)).trans h7
  · rcases hz with hz | hz
    · exact absurd hz h0
    · have h8 := h4 h0
      exact ⟨hz.trans h8.1, h8.2⟩
/-- what does not change all through the law: where the two worlds lie -/
def LG (Gc Gm : gz_G) (s : State) : Prop := (∀ q : Nat, gz_A Gc q ↔ (s.heap.size ≤ q ∧ ¬ gz_A Gm q)) ∧ (∀ q : Nat, gz_A Gm q → s.heap.size ≤ q ∧ ∃ c : Nat, kM c ≠ 0 ∧ gz_ad Gm c = q) ∧ (∀ c : Nat, c < 1000 → gz_ad Gc c < s.heap.size) ∧ (∀ H : Heap, (∀ q : Nat, q < s.heap.size → H[q]? = s.heap[q]?) → gz_K cS (gH Gc H) s ∧ gz_K mS (gH Gm H) s) ∧ ∀ c : Nat, 1000 ≤ c → gz_ad Gc c ≤ s.heap.size + c
def LR (Gc Gm : gz_G) (s : State) (μ : gM) (m : MM) (H : Heap) : Prop :=
  gz_R cS (gH Gc H) μ H ∧ gz_R mS (gH Gm H) (mF m) H ∧ gZ μ ≠ 0 ∧ s.heap.size ≤ H.size ∧ ∀ q : Nat, q < s.heap.size → H[q]? = s.heap[q]?
theorem gz_ad_add {Z : gz_S} {G : gz_G} {μ : gM} {H : Heap} (h : gz_R Z G μ H) (hz : gZ μ ≠ 0) : ∀ k : Nat, gz_ad G (gZ μ + k) = gz_ad G (gZ μ) + k
  | 0 => rfl
  | k + 1 => by
    have h1 := gz_ad_add h hz k
    have h2 := ((h.2.2.2.1 hz).2.2 (gZ μ + k) (Nat.le_add_right _ _)).2.1
    rw [← Nat.add_assoc, h2, h1, Nat.add_assoc]
section LAW
variable {X : gz_X} {Gc Gm : gz_G} {kS : Nat} {μ : gM} {m : MM} {pc : Nat} {lv : List (Nat × Value)} {st : List Value}
/-- the law's machine at pc -/
def lV (X : gz_X) (Gc Gm : gz_G) (kS : Nat) (μ : gM) (m : MM) (pc : Nat) (lv : List (Nat × Value)) (st : List Value) : Prop :=
  ∀ (H : Heap) (locs : List Loc) (ls : Array Slot) (cs : Nat × Nat), LR Gc Gm X.2.2.2.2.1 μ m H → cs.1 + X.2.2.2.2.1.heap.size = H.size → cs.2 = gW μ + kS → (∀ q ∈ locs, X.2.2.2.2.1.heap.size ≤ q.base) → lv_has ls 4 lv →
    W X.1 X.2.1 X.2.2.1 X.2.2.2.1 X.2.2.2.2.1 X.2.2.2.2.2.1 X.2.2.2.2.2.2.1 X.2.2.2.2.2.2.2.1 X.2.2.2.2.2.2.2.2.1 X.2.2.2.2.2.2.2.2.2.1 H locs cs.1 cs.2 X.2.2.2.2.2.2.2.2.2.2 (F0 X.2.2.2.2.2.1 pc ls st)
def lC (X : gz_X) : Prop := X.1.tables.exec = Jvm.exec ∧ X.2.2.2.2.2.2.2.2.2.1.code = cL_law ∧ X.2.2.2.2.2.2.2.2.2.1.maxLocals = 4 ∧ X.2.2.2.2.1.vm.findClass R_law = some X.2.2.2.2.2.1.cls ∧ (∀ w ∈ lw_all, w.before X.2.2.2.2.2.2.1 X.2.2.2.2.1 = true) ∧ X.2.2.2.1 = room_1
theorem lV_callC (hX : lC X) (hG : LG Gc Gm X.2.2.2.2.1) {y : MethodName} {bytes : ByteArray} {maxL n index : Nat} {ret : Option FieldType} {rm : Room} {As rest st0 : List Value} {μ' : gM} {v : Option Value}
    (hM : ∀ H : Heap, gz_Met cS (gH Gc H) X.2.1 y bytes maxL ret rm (.ref (gz_ad Gc 1000) :: As) μ μ' v) (hw : GoodIn lw_all (wsV R_law index RX0 y (ws_ y bytes maxL ret)))
    (hdd : y.cls = RX0 ∧ y.cls ≠ "java/lang/invoke/MethodHandle" ∧ y.cls ≠ "java/lang/invoke/VarHandle" ∧ (parseMethodDescriptor y.desc).map (fun d => d.parameters.length) = some n) (hroom : rm.frames + 1 ≤ 2048 ∧ 8 + (maxL + 11) + rm.locals ≤ 84000) (hn : As.length = n)
    (hcell : gZ μ' = gZ μ + rm.cells ∧ gW μ' = gW μ + rm.slots) (hbig : gZ μ' ≤ 800000 ∧ gW μ' + kS ≤ 6000000) (hst : st0 = As.reverse ++ .ref (gz_ad Gc 1000) :: rest) (hW : (rest.map fun v => v.category).sum ≤ 8) (hd : decode cL_law pc = .ok (.invokevirtual index, 3))
    (kk : lV X Gc Gm kS μ' m (pc + 3) lv (v.toList ++ rest)) : lV X Gc Gm kS μ m pc lv st0 := by
  intro H locs ls cs hLR hc1 hc2 hA hl
  obtain ⟨hRc, hRm, hz, hsz, hold⟩ := hLR
  obtain ⟨hKc, hKm⟩ := hG.2.2.2.1 H hold
  obtain ⟨h1, h2, h3, h4, h5, h6⟩ := hX
  subst hst
  have hs1 : H.size = gz_ad Gc (gZ μ) := (hRc.2.2.2.1 hz).1
  have hs2 : gz_ad Gc (gZ μ') = gz_ad Gc (gZ μ) + rm.cells := by
    rw [hcell.1]
    exact gz_ad_add (G := gH Gc H) hRc hz rm.cells
  have had : gz_ad Gc (gZ μ') ≤ X.2.2.2.2.1.heap.size + gZ μ' := hG.2.2.2.2 _ (by rw [hcell.1]; have := (hRc.2.2.2.1 hz).2.1; exact Nat.le_trans this (Nat.le_add_right _ _))
  have hroomc : cs.1 + rm.cells ≤ X.2.2.2.1.cells := by rw [h6]; show _ ≤ 805700; omega
  have hrooms : cs.2 + rm.slots ≤ X.2.2.2.1.slots := by rw [h6]; show _ ≤ 6679004; omega
  have hr := va_runV (As := As) (rest := rest) (g := F0 X.2.2.2.2.2.1 pc ls (As.reverse ++ .ref (gz_ad Gc 1000) :: rest)) (H := H) (locs := locs) (cells := cs.1) (slots := cs.2) (below := X.2.2.2.2.2.2.2.1) (meth := X.2.2.2.2.2.2.2.2.1) (e := X.2.2.1) (l := X.2.1) ⟨h1, h2, h3, h4, h5⟩ (hM H) (cwV n h5 hw rfl rfl rfl hdd ⟨by rw [h6]; exact hroom.1, by rw [h6]; exact hroom.2⟩) ⟨fun a U g mk z => ⟨z.1, z.2.1, gz_K.same cs_E g mk a z.2.2⟩, gz_recv (X := X) hKc hRc (ci := 0) (c := 1000) (q := (RX0, TX0, 28)) rfl (by decide) (cz_k hRc.2.2.2.2.2 rfl), fun U hU hW => ⟨rfl, by rw [hU]; exact hRc, gz_K.warm cs_E hW hKc⟩⟩ rfl hn hl.1 rfl (lv_room hW) hd ⟨hroomc, hrooms⟩
  intro T hT Y
  obtain ⟨v', st₀, t, T', L, h0, Y', hL, e1, e2, ⟨hv, hR'⟩, go⟩ := hr T hT Y
  cases hv
  rw [← e1] at hR'
  have hfr : ∀ q : Nat, ¬ gz_A Gc q → q < H.size → T'.heap[q]? = H[q]? := hR'.2.2.2.2.1
  have hz' : gZ μ' ≠ 0 := by rw [hcell.1]; omega
  have hs3 : T'.heap.size = gz_ad Gc (gZ μ') := (hR'.2.2.2.1 hz').1
  obtain ⟨t2, a1, b1⟩ := kk T'.heap (locs ++ L) ls (cs.1 + rm.cells, cs.2 + rm.slots) ⟨gR_H hR', gR_keep hRm (Or.inl rfl) (fun c hc => hfr _ (fun h => ((hG.1 _).mp h).2 (hRm.2.2.1 c (by
      by_cases hw : 1000 ≤ c
      · exact hw
      · exact absurd (show kM c = 0 by unfold kM; rw [if_neg (by omega), if_pos (by omega)]) hc) hc)) (gz_cell.lt (hRm.1 c) hc (by omega))), hz', by rw [hs3, hs2, ← hs1]; omega, fun q hq => by
      rw [hfr q (fun h => absurd ((hG.1 q).mp h).1 (by omega)) (by omega)]
      exact hold q hq⟩ (by show cs.1 + rm.cells + _ = _; rw [hs3, hs2, ← hs1, ← hc1]; omega) (by show cs.2 + rm.slots = _; rw [hcell.2, hc2]; omega) (fun q hq => by
    rcases List.mem_append.mp hq with h | h
    · exact hA q h
    · exact ((hG.1 _).mp (hL q h)).1) hl T' rfl Y'
  exact ⟨t2, go t2 a1, b1⟩
theorem lV_callH (hX : lC X) (hG : LG Gc Gm X.2.2.2.2.1) {y : MethodName} {bytes : ByteArray} {maxL n index : Nat} {ret : Option FieldType} {rm : Room} {hh : List (Nat × Nat × Nat × Nat)} {As rest st0 : List Value} {μ' : gM} {v : Option Value}
    (hM : ∀ H : Heap, gw_Met cS (gH Gc H) X.2.1 y bytes maxL ret hh rm (.ref (gz_ad Gc 1000) :: As) μ μ' v) (hw : GoodIn lw_all (wsV R_law index RX0 y (wsW_ y bytes maxL ret hh)))
    (hdd : y.cls = RX0 ∧ y.cls ≠ "java/lang/invoke/MethodHandle" ∧ y.cls ≠ "java/lang/invoke/VarHandle" ∧ (parseMethodDescriptor y.desc).map (fun d => d.parameters.length) = some n) (hroom : rm.frames + 1 ≤ 2048 ∧ 8 + (maxL + 11) + rm.locals ≤ 84000) (hn : As.length = n)
    (hcell : gZ μ' = gZ μ + rm.cells ∧ gW μ' = gW μ + rm.slots) (hbig : gZ μ' ≤ 800000 ∧ gW μ' + kS ≤ 6000000) (hst : st0 = As.reverse ++ .ref (gz_ad Gc 1000) :: rest) (hW : (rest.map fun v => v.category).sum ≤ 8) (hd : decode cL_law pc = .ok (.invokevirtual index, 3))
    (kk : lV X Gc Gm kS μ' m (pc + 3) lv (v.toList ++ rest)) : lV X Gc Gm kS μ m pc lv st0 := by
  intro H locs ls cs hLR hc1 hc2 hA hl
  obtain ⟨hRc, hRm, hz, hsz, hold⟩ := hLR
  obtain ⟨hKc, hKm⟩ := hG.2.2.2.1 H hold
  obtain ⟨h1, h2, h3, h4, h5, h6⟩ := hX
  subst hst
  have hs1 : H.size = gz_ad Gc (gZ μ) := (hRc.2.2.2.1 hz).1
  have hs2 : gz_ad Gc (gZ μ') = gz_ad Gc (gZ μ) + rm.cells := by
    rw [hcell.1]
    exact gz_ad_add (G := gH Gc H) hRc hz rm.cells
  have had : gz_ad Gc (gZ μ') ≤ X.2.2.2.2.1.heap.size + gZ μ' := hG.2.2.2.2 _ (by rw [hcell.1]; have := (hRc.2.2.2.1 hz).2.1; exact Nat.le_trans this (Nat.le_add_right _ _))
  have hroomc : cs.1 + rm.cells ≤ X.2.2.2.1.cells := by rw [h6]; show _ ≤ 805700; omega
  have hrooms : cs.2 + rm.slots ≤ X.2.2.2.1.slots := by rw [h6]; show _ ≤ 6679004; omega
  have hr := vx_runVW (As := As) (rest := rest) (g := F0 X.2.2.2.2.2.1 pc ls (As.reverse ++ .ref (gz_ad Gc 1000) :: rest)) (H := H) (locs := locs) (cells := cs.1) (slots := cs.2) (below := X.2.2.2.2.2.2.2.1) (meth := X.2.2.2.2.2.2.2.2.1) (e := X.2.2.1) (l := X.2.1) ⟨h1, h2, h3, h4, h5⟩ (hM H) (vx_cwVW n h5 hw rfl rfl rfl hdd ⟨by rw [h6]; exact hroom.1, by rw [h6]; exact hroom.2⟩) ⟨fun a U g mk z => ⟨z.1, z.2.1, gz_K.same cs_E g mk a z.2.2⟩, gz_recv (X := X) hKc hRc (ci := 0) (c := 1000) (q := (RX0, TX0, 28)) rfl (by decide) (cz_k hRc.2.2.2.2.2 rfl), fun U hU hW => ⟨rfl, by rw [hU]; exact hRc, gz_K.warm cs_E hW hKc⟩⟩ rfl hn hl.1 rfl (lv_room hW) hd ⟨hroomc, hrooms⟩
  intro T hT Y
  obtain ⟨v', st₀, t, T', L, h0, Y', hL, e1, e2, ⟨hv, hR'⟩, go⟩ := hr T hT Y
  cases hv
  rw [← e1] at hR'
  have hfr : ∀ q : Nat, ¬ gz_A Gc q → q < H.size → T'.heap[q]? = H[q]? := hR'.2.2.2.2.1
  have hz' : gZ μ' ≠ 0 := by rw [hcell.1]; omega
  have hs3 : T'.heap.size = gz_ad Gc (gZ μ') := (hR'.2.2.2.1 hz').1
  obtain ⟨t2, a1, b1⟩ := kk T'.heap (locs ++ L) ls (cs.1 + rm.cells, cs.2 + rm.slots) ⟨gR_H hR', gR_keep hRm (Or.inl rfl) (fun c hc => hfr _ (fun h => ((hG.1 _).mp h).2 (hRm.2.2.1 c (by
      by_cases hw : 1000 ≤ c
      · exact hw
      · exact absurd (show kM c = 0 by unfold kM; rw [if_neg (by omega), if_pos (by omega)]) hc) hc)) (gz_cell.lt (hRm.1 c) hc (by omega))), hz', by rw [hs3, hs2, ← hs1]; omega, fun q hq => by
      rw [hfr q (fun h => absurd ((hG.1 q).mp h).1 (by omega)) (by omega)]
      exact hold q hq⟩ (by show cs.1 + rm.cells + _ = _; rw [hs3, hs2, ← hs1, ← hc1]; omega) (by show cs.2 + rm.slots = _; rw [hcell.2, hc2]; omega) (fun q hq => by
    rcases List.mem_append.mp hq with h | h
    · exact hA q h
    · exact ((hG.1 _).mp (hL q h)).1) hl T' rfl Y'
  exact ⟨t2, go t2 a1, b1⟩
theorem lV_callM (hX : lC X) (hG : LG Gc Gm X.2.2.2.2.1) {y : MethodName} {bytes : ByteArray} {maxL n index f lo : Nat} {ret : Option FieldType} {As rest st0 : List Value} {m' : MM} {v : Option Value}
    (hM : ∀ H : Heap, gz_Met mS (gH Gm H) X.2.1 y bytes maxL ret (mRm f lo) (.ref (gz_ad Gm 2000) :: As) (mF m) (mF m') v) (hw : GoodIn lw_all (wsV R_law index RX6 y (ws_ y bytes maxL ret)))
    (hdd : y.cls = RX6 ∧ y.cls ≠ "java/lang/invoke/MethodHandle" ∧ y.cls ≠ "java/lang/invoke/VarHandle" ∧ (parseMethodDescriptor y.desc).map (fun d => d.parameters.length) = some n) (hroom : f + 1 ≤ 2048 ∧ 8 + (maxL + 11) + lo ≤ 84000) (hn : As.length = n)
    (hbig : gZ μ ≤ 800000 ∧ gW μ + kS ≤ 6000000) (hst : st0 = As.reverse ++ .ref (gz_ad Gm 2000) :: rest) (hW : (rest.map fun v => v.category).sum ≤ 8) (hd : decode cL_law pc = .ok (.invokevirtual index, 3))
    (kk : lV X Gc Gm kS μ m' (pc + 3) lv (v.toList ++ rest)) : lV X Gc Gm kS μ m pc lv st0 := by
  intro H locs ls cs hLR hc1 hc2 hA hl
  obtain ⟨hRc, hRm, hz, hsz, hold⟩ := hLR
  obtain ⟨hKc, hKm⟩ := hG.2.2.2.1 H hold
  obtain ⟨h1, h2, h3, h4, h5, h6⟩ := hX
  subst hst
  have hs1 : H.size = gz_ad Gc (gZ μ) := (hRc.2.2.2.1 hz).1
  have had : gz_ad Gc (gZ μ) ≤ X.2.2.2.2.1.heap.size + gZ μ := hG.2.2.2.2 _ (hRc.2.2.2.1 hz).2.1
  have hroomc : cs.1 + 0 ≤ X.2.2.2.1.cells := by rw [h6]; show _ ≤ 805700; omega
  have hrooms : cs.2 + 0 ≤ X.2.2.2.1.slots := by rw [h6]; show _ ≤ 6679004; omega
  have hr := va_runV (As := As) (rest := rest) (g := F0 X.2.2.2.2.2.1 pc ls (As.reverse ++ .ref (gz_ad Gm 2000) :: rest)) (H := H) (locs := locs) (cells := cs.1) (slots := cs.2) (below := X.2.2.2.2.2.2.2.1) (meth := X.2.2.2.2.2.2.2.2.1) (e := X.2.2.1) (l := X.2.1) ⟨h1, h2, h3, h4, h5⟩ (hM H) (cwV n h5 hw rfl rfl rfl hdd ⟨by rw [h6]; exact hroom.1, by rw [h6]; exact hroom.2⟩) ⟨fun a U g mk z => ⟨z.1, z.2.1, gz_K.same mz_E g mk a z.2.2⟩, gz_recv (X := X) hKm hRm (ci := 0) (c := 2000) (q := (RX6, TX6, 104)) rfl (by decide) rfl, fun U hU hW => ⟨rfl, by rw [hU]; exact hRm, gz_K.warm mz_E hW hKm⟩⟩ rfl hn hl.1 rfl (lv_room hW) hd ⟨hroomc, hrooms⟩
  intro T hT Y
  obtain ⟨v', st₀, t, T', L, h0, Y', hL, e1, e2, ⟨hv, hR'⟩, go⟩ := hr T hT Y
  cases hv
  rw [← e1] at hR'
  have hfr : ∀ q : Nat, ¬ gz_A Gm q → q < H.size → T'.heap[q]? = H[q]? := hR'.2.2.2.2.1
  have hup : T'.heap.size ≤ H.size := by
    have h7 : T'.heap.size ≤ X.2.2.2.2.1.heap.size + (cs.1 + 0) := Y'.heapSize
    omega
  have hlo : H.size ≤ T'.heap.size := by
    rcases Nat.eq_zero_or_pos H.size with h | h
    · omega
    · have hq : H.size - 1 < T'.heap.size := by
        by_cases hm : gz_A Gm (H.size - 1)
        · obtain ⟨-, c, hc, hce⟩ := hG.2.1 _ hm
          have := gz_cell.lt (hR'.1 c) hc (by omega)
          rw [← hce]; exact this
        · have h9 := hfr (H.size - 1) hm (by omega)
          rw [Array.getElem?_eq_getElem (show H.size - 1 < H.size by omega)] at h9
          exact (Array.getElem?_eq_some_iff.mp h9).1
      omega
  have hse : T'.heap.size = H.size := Nat.le_antisymm hup hlo
  obtain ⟨t2, a1, b1⟩ := kk T'.heap (locs ++ L) ls (cs.1 + 0, cs.2 + 0) ⟨gR_keep hRc (Or.inr hse) (fun c hc => hfr _ (fun h => by
      by_cases hw : 1000 ≤ c
      · exact ((hG.1 _).mp (hRc.2.2.1 c hw hc)).2 h
      · have h9 := hG.2.2.1 c (by omega)
        have h10 := (hG.2.1 _ h).1
        exact absurd h10 (by omega)) (gz_cell.lt (hRc.1 c) hc (by omega))), gR_H hR', hz, by omega, fun q hq => by
      rw [hfr q (fun h => absurd (hG.2.1 q h).1 (by omega)) (by omega)]
      exact hold q hq⟩ (by show cs.1 + _ = _; rw [hse]; exact hc1) (by show cs.2 = _; exact hc2) (fun q hq => by
    rcases List.mem_append.mp hq with h | h
    · exact hA q h
    · exact (hG.2.1 _ (hL q h)).1) hl T' rfl Y'
  exact ⟨t2, go t2 a1, b1⟩
end LAW
