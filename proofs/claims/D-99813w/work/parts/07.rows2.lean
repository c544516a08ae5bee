/-! ===== rows of worlds with references (printed by gen/mkrows2.py) ===== -/
def gz_FL (X : gz_X) (own : String) (index : Nat) (ref n d : String) : Prop := (Cond.fieldLink own index ref n d).before X.2.2.2.2.2.2.1 X.2.2.2.2.1 = true ∨ ∃ host, (Cond.fieldLinkNest own index ref n d host).before X.2.2.2.2.2.2.1 X.2.2.2.2.1 = true
theorem gz_rfp {ad : Nat → Nat} {r : Nat} (h : r ≠ 0) : gz_rf ad r = .ref (ad r) := if_neg h
theorem gz_rq {ad : Nat → Nat} {r x : Nat} (e : r = x) (h : r ≠ 0) : gz_rf ad x = .ref (ad r) := by subst e; exact gz_rfp h
theorem gz_rf0 {ad : Nat → Nat} : gz_rf ad 0 = .null := rfl
section GZ2
variable {Z : gz_S} {X : gz_X} {G : gz_G} {cc : ByteArray} {nL : Nat} {own : String} {fr lo : Nat} {rem : Nat × Nat} {μ : gM} {pc : Nat} {lv : List (Nat × Value)} {st : List Value}
theorem gz_getf (hX : gz_C Z X G cc nL own fr lo) {C : String} {T : u_T} {N ci c k index : Nat} {v : Value} (hc : Z.1[ci]? = some (C, T, N)) (hci : ci < 100) (hin : ∀ w ∈ u_ws C T N, w ∈ lw_all) (hk : k < N) (hL : gz_FL X own index (T k).1 (T k).2.1 (T k).2.2.1) (hd : decode cc pc = .ok (.getfield index, 3)) (hK : Z.2.2.2.2 μ.1 μ.2.1 μ.2.2.2.2.1 → μ.1 c = ci + 1) (hv : Z.2.2.2.2 μ.1 μ.2.1 μ.2.2.2.2.1 → gz_u (gz_ad G) μ (Z.2.1 ci k) c k = v)
    (kk : gz_V Z X G nL rem μ (pc + 3) lv (v :: st)) : gz_V Z X G nL rem μ pc lv (.ref (gz_ad G c) :: st) := by
  intro H locs ls cs hR hC hA hl
  have hlc := hR.2.2.2.2.2
  obtain ⟨r, h1, cell, q1, q2, q3, q4⟩ := (hR.1 c).1 ci (hK hlc) hci
  have hr : r = (C, T, N) := Option.some.inj (h1.symm.trans hc)
  subst hr
  obtain ⟨hS, hfc, kC, hkC, hkind⟩ := hX.2.2.2.2.2.1.1.1 ci _ hc
  obtain ⟨cf, kf, fi, f, hi, hsl⟩ := hS k hk
  have hslot : cell.slots[f.slot]? = some v := by rw [hsl, q4 k hk]; exact congrArg some (hv hlc)
  rcases hL with hL | ⟨host, hL⟩
  · exact W.getf hX.1 hX.2.1 hX.2.2.2.1 hL hi (u_facts hfc hkC (u_lays hX.2.2.2.2.1 hin hk) hi).1 q1 (by rw [q3]; exact fun h => by cases h) (v := v) hslot rfl rfl hd (kk H locs ls cs hR hC hA hl)
  · exact va_Wgetf hX.1 hX.2.1 hX.2.2.2.1 hL hi (u_facts hfc hkC (u_lays hX.2.2.2.2.1 hin hk) hi).1 q1 (by rw [q3]; exact fun h => by cases h) (v := v) hslot rfl rfl hd (kk H locs ls cs hR hC hA hl)
theorem gz_putf (hX : gz_C Z X G cc nL own fr lo) {C : String} {T : u_T} {N ci c k index : Nat} {v : Value} {μ' : gM} {ty : FieldType} (hc : Z.1[ci]? = some (C, T, N)) (hci : ci < 100) (hin : ∀ w ∈ u_ws C T N, w ∈ lw_all) (ty0 : Nat → FieldType) (hty : ∀ k, k < N → parseFieldDescriptor (T k).2.2.1 = some (ty0 k)) (hnm : ∀ a, a < N → ∀ b, b < N → a ≠ b → (T a).2.1 ≠ (T b).2.1) (hk : k < N) (hL : gz_FL X own index (T k).1 (T k).2.1 (T k).2.2.1) (hfin : (T k).2.2.2 = false)
    (hd0 : ty0 k = ty) (hn : narrow ty v = v) (hfit : fits ty v = true) (hd : decode cc pc = .ok (.putfield index, 3)) (hK : Z.2.2.2.2 μ.1 μ.2.1 μ.2.2.2.2.1 → μ.1 c = ci + 1) (hw : 1000 ≤ c) (hk1 : μ'.1 = μ.1) (hn1 : μ'.2.1 = μ.2.1) (hz1 : μ'.2.2.2.2.2 = μ.2.2.2.2.2) (ho : ∀ d tc j : Nat, d ≠ c → gz_u (gz_ad G) μ' tc d j = gz_u (gz_ad G) μ tc d j)
    (hv : ∀ j, gz_u (gz_ad G) μ' (Z.2.1 ci j) c j = updV (fun j => gz_u (gz_ad G) μ (Z.2.1 ci j) c j) k v j) (hlc : Z.2.2.2.2 μ.1 μ.2.1 μ.2.2.2.2.1 → Z.2.2.2.2 μ'.1 μ'.2.1 μ'.2.2.2.2.1)
    (kk : gz_V Z X G nL rem μ' (pc + 3) lv (st)) : gz_V Z X G nL rem μ pc lv (v :: .ref (gz_ad G c) :: st) := by
  intro H locs ls cs hR hC hA hl
  subst hd0
  have hKc := hK hR.2.2.2.2.2
  obtain ⟨r, h1, cell, q1, q2, q3, q4⟩ := (hR.1 c).1 ci hKc hci
  have hr : r = (C, T, N) := Option.some.inj (h1.symm.trans hc)
  subst hr
  obtain ⟨hS, hfc, kC, hkC, hkind⟩ := hX.2.2.2.2.2.1.1.1 ci _ hc
  obtain ⟨cf, kf, fi, f, hi, hsl⟩ := hS k hk
  have hap := va_apart (own := own) hX.2.2.2.2.1 hin ty0 hty hnm hX.2.2.2.2.2.1.1 hc
  have hlay := hX.2.2.2.2.1 _ (hin _ (u_in_lay hk))
  unfold u_lay at hlay
  rw [if_neg (by rw [hfin]; decide)] at hlay
  have hst := (u_facts hfc hkC (u_lays hX.2.2.2.2.1 hin hk) hi).1
  have h6 := u_store hfc hkC hkind hlay hi (hty k hk) hn hfit
  have next : ∀ (H' : Heap) (L : Loc), L.base = gz_ad G c → H'[gz_ad G c]? = some (cell.setSlot f.slot v) → H'.size = H.size → (∀ q, q ≠ gz_ad G c → H'[q]? = H[q]?) → W X.1 X.2.1 X.2.2.1 X.2.2.2.1 X.2.2.2.2.1 X.2.2.2.2.2.1 X.2.2.2.2.2.2.1 X.2.2.2.2.2.2.2.1 X.2.2.2.2.2.2.2.2.1 X.2.2.2.2.2.2.2.2.2.1 H' (locs ++ [L]) cs.1 cs.2 X.2.2.2.2.2.2.2.2.2.2 (F0 X.2.2.2.2.2.1 (pc + 3) ls st) := by
    intro H' L hLb e1 e2 e3
    rw [hsl] at e1
    refine kk H' _ ls cs (hR.put hk1 hn1 hz1 ho (by rw [hKc]; exact Nat.succ_ne_zero _) hw e2 e3 ⟨fun ci' hci' hlt => ?_, fun t ht => ?_⟩ hlc) hC ?_ hl
    · rw [hk1, hKc] at hci'
      have : ci' = ci := (Nat.succ.inj hci').symm
      subst this
      exact ⟨_, hc, t_OB.to ⟨_, e1, q2, q3, t_set q4 hap hk v⟩ (fun j _ => (hv j).symm)⟩
    · rw [hk1, hKc] at ht
      omega
    · intro q hq
      rcases List.mem_append.mp hq with h | h
      · exact hA q h
      · rw [List.mem_singleton.mp h, hLb]; exact hR.2.2.1 c hw (by rw [hKc]; exact Nat.succ_ne_zero _)
  rcases hL with hL | ⟨host, hL⟩
  · exact W.putK hX.1 hX.2.1 (f := f) ⟨hX.2.2.2.1, hL, ⟨_, _, _, hi⟩, hst⟩ (by rw [q2]; exact h6) q1 q3 (by rw [hsl]; exact k2_hasslot (q4 k hk)) rfl rfl hd fun H' e1 e2 e3 => next H' _ rfl e1 e2 e3
  · exact va_WputK hX.1 hX.2.1 (f := f) hX.2.2.2.1 hL hi hst (by rw [q2]; exact h6) q1 q3 (by rw [hsl]; exact k2_hasslot (q4 k hk)) rfl rfl hd fun H' e1 e2 e3 => next H' _ rfl e1 e2 e3
theorem gz_iald2 (hX : gz_C Z X G cc nL own fr lo) {c n : Nat} {i : Int32} (hT : Z.2.2.1[0]? = some .int) (hK : Z.2.2.2.2 μ.1 μ.2.1 μ.2.2.2.2.1 → μ.1 c = 101 ∧ μ.2.1 c = n) (hi : gz_in i n) (hd : decode cc pc = .ok (.iaload, 1)) (kk : gz_V Z X G nL rem μ (pc + 1) lv (.int (μ.2.2.1 c (gz_ix i)) :: st)) : gz_V Z X G nL rem μ pc lv (.int i :: .ref (gz_ad G c) :: st) := by
  intro H locs ls cs hR hC hA hl
  obtain ⟨hK1, hK2⟩ := hK hR.2.2.2.2.2
  subst hK2
  exact gz_iald hX hT hK1 hi hd kk H locs ls cs hR hC hA hl
theorem gz_bald2 (hX : gz_C Z X G cc nL own fr lo) {c n : Nat} {i : Int32} (hT : Z.2.2.1[1]? = some .byte) (hK : Z.2.2.2.2 μ.1 μ.2.1 μ.2.2.2.2.1 → μ.1 c = 102 ∧ μ.2.1 c = n) (hi : gz_in i n) (hd : decode cc pc = .ok (.baload, 1)) (kk : gz_V Z X G nL rem μ (pc + 1) lv (.int (μ.2.2.1 c (gz_ix i)) :: st)) : gz_V Z X G nL rem μ pc lv (.int i :: .ref (gz_ad G c) :: st) := by
  intro H locs ls cs hR hC hA hl
  obtain ⟨hK1, hK2⟩ := hK hR.2.2.2.2.2
  subst hK2
  exact gz_bald hX hT hK1 hi hd kk H locs ls cs hR hC hA hl
theorem gz_cald2 (hX : gz_C Z X G cc nL own fr lo) {c n : Nat} {i : Int32} (hT : Z.2.2.1[2]? = some .char) (hK : Z.2.2.2.2 μ.1 μ.2.1 μ.2.2.2.2.1 → μ.1 c = 103 ∧ μ.2.1 c = n) (hi : gz_in i n) (hd : decode cc pc = .ok (.caload, 1)) (kk : gz_V Z X G nL rem μ (pc + 1) lv (.int (μ.2.2.1 c (gz_ix i)) :: st)) : gz_V Z X G nL rem μ pc lv (.int i :: .ref (gz_ad G c) :: st) := by
  intro H locs ls cs hR hC hA hl
  obtain ⟨hK1, hK2⟩ := hK hR.2.2.2.2.2
  subst hK2
  exact gz_cald hX hT hK1 hi hd kk H locs ls cs hR hC hA hl
theorem gz_zald2 (hX : gz_C Z X G cc nL own fr lo) {c n : Nat} {i : Int32} (hT : Z.2.2.1[3]? = some .boolean) (hK : Z.2.2.2.2 μ.1 μ.2.1 μ.2.2.2.2.1 → μ.1 c = 104 ∧ μ.2.1 c = n) (hi : gz_in i n) (hd : decode cc pc = .ok (.baload, 1)) (kk : gz_V Z X G nL rem μ (pc + 1) lv (.int (μ.2.2.1 c (gz_ix i)) :: st)) : gz_V Z X G nL rem μ pc lv (.int i :: .ref (gz_ad G c) :: st) := by
  intro H locs ls cs hR hC hA hl
  obtain ⟨hK1, hK2⟩ := hK hR.2.2.2.2.2
  subst hK2
  exact gz_zald hX hT hK1 hi hd kk H locs ls cs hR hC hA hl
theorem gz_lald2 (hX : gz_C Z X G cc nL own fr lo) {c n : Nat} {i : Int32} (hT : Z.2.2.1[4]? = some .long) (hK : Z.2.2.2.2 μ.1 μ.2.1 μ.2.2.2.2.1 → μ.1 c = 105 ∧ μ.2.1 c = n) (hi : gz_in i n) (hd : decode cc pc = .ok (.laload, 1)) (kk : gz_V Z X G nL rem μ (pc + 1) lv (.long (μ.2.2.2.1 c (gz_ix i)) :: st)) : gz_V Z X G nL rem μ pc lv (.int i :: .ref (gz_ad G c) :: st) := by
  intro H locs ls cs hR hC hA hl
  obtain ⟨hK1, hK2⟩ := hK hR.2.2.2.2.2
  subst hK2
  exact gz_lald hX hT hK1 hi hd kk H locs ls cs hR hC hA hl
theorem gz_iast2 (hX : gz_C Z X G cc nL own fr lo) {c n : Nat} {i : Int32} {x : Int32} {μ' : gM} (hT : Z.2.2.1[0]? = some .int) (hK : Z.2.2.2.2 μ.1 μ.2.1 μ.2.2.2.2.1 → μ.1 c = 101 ∧ μ.2.1 c = n) (hw : 1000 ≤ c) (hi : gz_in i n) (hd : decode cc pc = .ok (.iastore, 1)) (hm : μ' = gz_sI μ c (gz_ix i) (x)) (kk : gz_V Z X G nL rem μ' (pc + 1) lv (st)) : gz_V Z X G nL rem μ pc lv (.int x :: .int i :: .ref (gz_ad G c) :: st) := by
  intro H locs ls cs hR hC hA hl
  obtain ⟨hK1, hK2⟩ := hK hR.2.2.2.2.2
  subst hK2
  exact gz_iast hX hT hK1 hw hi hd hm kk H locs ls cs hR hC hA hl
theorem gz_bast2 (hX : gz_C Z X G cc nL own fr lo) {c n : Nat} {i : Int32} {x : Int32} {μ' : gM} (hT : Z.2.2.1[1]? = some .byte) (hK : Z.2.2.2.2 μ.1 μ.2.1 μ.2.2.2.2.1 → μ.1 c = 102 ∧ μ.2.1 c = n) (hw : 1000 ≤ c) (hi : gz_in i n) (hd : decode cc pc = .ok (.bastore, 1)) (hm : μ' = gz_sI μ c (gz_ix i) (x.toInt8.toInt32)) (kk : gz_V Z X G nL rem μ' (pc + 1) lv (st)) : gz_V Z X G nL rem μ pc lv (.int x :: .int i :: .ref (gz_ad G c) :: st) := by
  intro H locs ls cs hR hC hA hl
  obtain ⟨hK1, hK2⟩ := hK hR.2.2.2.2.2
  subst hK2
  exact gz_bast hX hT hK1 hw hi hd hm kk H locs ls cs hR hC hA hl
theorem gz_cast2 (hX : gz_C Z X G cc nL own fr lo) {c n : Nat} {i : Int32} {x : Int32} {μ' : gM} (hT : Z.2.2.1[2]? = some .char) (hK : Z.2.2.2.2 μ.1 μ.2.1 μ.2.2.2.2.1 → μ.1 c = 103 ∧ μ.2.1 c = n) (hw : 1000 ≤ c) (hi : gz_in i n) (hd : decode cc pc = .ok (.castore, 1)) (hm : μ' = gz_sI μ c (gz_ix i) (x.toUInt32.toUInt16.toUInt32.toInt32)) (kk : gz_V Z X G nL rem μ' (pc + 1) lv (st)) : gz_V Z X G nL rem μ pc lv (.int x :: .int i :: .ref (gz_ad G c) :: st) := by
  intro H locs ls cs hR hC hA hl
  obtain ⟨hK1, hK2⟩ := hK hR.2.2.2.2.2
  subst hK2
  exact gz_cast hX hT hK1 hw hi hd hm kk H locs ls cs hR hC hA hl
theorem gz_zast2 (hX : gz_C Z X G cc nL own fr lo) {c n : Nat} {i : Int32} {x : Int32} {μ' : gM} (hT : Z.2.2.1[3]? = some .boolean) (hK : Z.2.2.2.2 μ.1 μ.2.1 μ.2.2.2.2.1 → μ.1 c = 104 ∧ μ.2.1 c = n) (hw : 1000 ≤ c) (hi : gz_in i n) (hd : decode cc pc = .ok (.bastore, 1)) (hm : μ' = gz_sI μ c (gz_ix i) ((x &&& 1))) (kk : gz_V Z X G nL rem μ' (pc + 1) lv (st)) : gz_V Z X G nL rem μ pc lv (.int x :: .int i :: .ref (gz_ad G c) :: st) := by
  intro H locs ls cs hR hC hA hl
  obtain ⟨hK1, hK2⟩ := hK hR.2.2.2.2.2
  subst hK2
  exact gz_zast hX hT hK1 hw hi hd hm kk H locs ls cs hR hC hA hl
theorem gz_last2 (hX : gz_C Z X G cc nL own fr lo) {c n : Nat} {i : Int32} {x : Int64} {μ' : gM} (hT : Z.2.2.1[4]? = some .long) (hK : Z.2.2.2.2 μ.1 μ.2.1 μ.2.2.2.2.1 → μ.1 c = 105 ∧ μ.2.1 c = n) (hw : 1000 ≤ c) (hi : gz_in i n) (hd : decode cc pc = .ok (.lastore, 1)) (hm : μ' = gz_sL μ c (gz_ix i) (x)) (kk : gz_V Z X G nL rem μ' (pc + 1) lv (st)) : gz_V Z X G nL rem μ pc lv (.long x :: .int i :: .ref (gz_ad G c) :: st) := by
  intro H locs ls cs hR hC hA hl
  obtain ⟨hK1, hK2⟩ := hK hR.2.2.2.2.2
  subst hK2
  exact gz_last hX hT hK1 hw hi hd hm kk H locs ls cs hR hC hA hl
theorem gz_alen2 (hX : gz_C Z X G cc nL own fr lo) {c t n : Nat} {ty : FieldType} (hT : Z.2.2.1[t]? = some ty) (hK : Z.2.2.2.2 μ.1 μ.2.1 μ.2.2.2.2.1 → μ.1 c = t + 101 ∧ μ.2.1 c = n) (hd : decode cc pc = .ok (.arraylength, 1)) (kk : gz_V Z X G nL rem μ (pc + 1) lv (.int (nI n) :: st)) : gz_V Z X G nL rem μ pc lv (.ref (gz_ad G c) :: st) := by
  intro H locs ls cs hR hC hA hl
  obtain ⟨hK1, hK2⟩ := hK hR.2.2.2.2.2
  subst hK2
  exact gz_alen hX hT hK1 hd kk H locs ls cs hR hC hA hl
/-- aaload: what stands there -/
theorem gz_aald (hX : gz_C Z X G cc nL own fr lo) {c n t : Nat} {i : Int32} {ty : FieldType} {v : Value} (hT : Z.2.2.1[t]? = some ty) (hty : ty.isReference = true) (ht5 : gz_et t = 2) (hK : Z.2.2.2.2 μ.1 μ.2.1 μ.2.2.2.2.1 → μ.1 c = t + 101 ∧ μ.2.1 c = n) (hi : gz_in i n) (hv : Z.2.2.2.2 μ.1 μ.2.1 μ.2.2.2.2.1 → gz_rf (gz_ad G) (μ.2.2.2.2.1 c (gz_ix i)) = v) (hd : decode cc pc = .ok (.aaload, 1)) (kk : gz_V Z X G nL rem μ (pc + 1) lv (v :: st)) : gz_V Z X G nL rem μ pc lv (.int i :: .ref (gz_ad G c) :: st) := by
  intro H locs ls cs hR hC hA hl
  obtain ⟨hK1, hK2⟩ := hK hR.2.2.2.2.2
  subst hK2
  have hv := hv hR.2.2.2.2.2
  refine W.aald (v := v) (ty := ty) hX.1 hX.2.1 ((hR.1 c).2 t hK1) ((gz_ty hX.2.2.2.2.2.1 hT).1 _ _) hty (fun q => by cases q) (by rw [arrV_size]; exact gz_in_vp hi) ?_ rfl rfl hd (kk H locs ls cs hR hC hA hl)
  rw [arrV_read _ _ hi.2, ht5, ← hv]
  rfl
/-- aastore of the cell r, whose class (that of its heap cell) fits the array's component -/
theorem gz_aast (hX : gz_C Z X G cc nL own fr lo) {c n t r : Nat} {i : Int32} {ty : FieldType} {μ' : gM} (hT : Z.2.2.1[t]? = some ty) (hty : ty.isReference = true) (ht5 : gz_et t = 2) (hK : Z.2.2.2.2 μ.1 μ.2.1 μ.2.2.2.2.1 → μ.1 c = t + 101 ∧ μ.2.1 c = n) (hw : 1000 ≤ c) (hi : gz_in i n) (hr0 : r ≠ 0)
    (hr : ∀ H : Heap, gz_R Z G μ H → ∃ (cv : Cell) (kv k kcomp : Class) (comp : ClassId), H[gz_ad G r]? = some cv ∧ (∀ q, cv.vm ≠ .statics q) ∧ X.2.2.2.2.1.vm.classes[cv.cls]? = some kv ∧ X.2.2.2.2.1.vm.classes[gz_dA G t]? = some k ∧ k.kind = .array comp ty ∧ X.2.2.2.2.1.vm.classes[comp]? = some kcomp ∧ X.2.2.2.2.1.vm.assignable cv.cls comp = true)
    (hlc : Z.2.2.2.2 μ.1 μ.2.1 μ.2.2.2.2.1 → Z.2.2.2.2 (gz_sP μ c (gz_ix i) r).1 (gz_sP μ c (gz_ix i) r).2.1 (gz_sP μ c (gz_ix i) r).2.2.2.2.1) (hd : decode cc pc = .ok (.aastore, 1)) (hm : μ' = gz_sP μ c (gz_ix i) r) (kk : gz_V Z X G nL rem μ' (pc + 1) lv (st)) : gz_V Z X G nL rem μ pc lv (.ref (gz_ad G r) :: .int i :: .ref (gz_ad G c) :: st) := by
  intro H locs ls cs hR hC hA hl
  subst hm
  obtain ⟨hK1, hK2⟩ := hK hR.2.2.2.2.2
  subst hK2
  obtain ⟨cv, kv, k, kcomp, comp, g1, g2, g3, g4, g5, g6, g7⟩ := hr H hR
  refine W.aast hX.1 hX.2.1 ((hR.1 c).2 t hK1) (fun q h => by cases h) (fun h => by cases h) g4 g5 hty g6 ⟨Int32.not_lt.mpr hi.1, by rw [arrV_size]; exact hi.2⟩ g1 g2 g3 g7 rfl rfl hd fun H1 e z oq => ?_
  refine kk H1 _ ls cs (hR.put rfl rfl rfl (fun d tc j h => gz_sP_o d tc j h) (by rw [hK1]; exact Nat.succ_ne_zero _) hw z oq ⟨fun ci' hci' hlt => ?_, fun t' ht' => ?_⟩ hlc) hC ?_ hl
  · have : μ.1 c = ci' + 1 := hci'
    omega
  · have ht2 : μ.1 c = t' + 101 := ht'
    have : t' = t := by omega
    subst this
    rw [e, arrV_store]
    congr 2
    funext j
    have := (gz_sP_v (ad := gz_ad G) (μ := μ) (c := c) (x := r) (fun _ => gz_et t') ht5 (k := gz_ix i) j).symm
    rw [gz_rfp hr0] at this
    exact this
  · intro q hq
    rcases List.mem_append.mp hq with h | h
    · exact hA q h
    · rw [List.mem_singleton.mp h]; exact hR.2.2.1 c hw (by rw [hK1]; exact Nat.succ_ne_zero _)
/-! null -/
theorem gz_ifnonnull (hX : gz_C Z X G cc nL own fr lo) {c : Nat} {off : Int} {tgt : Nat} (hd : decode cc pc = .ok (.ifnonnull off, 3)) (ht : (pc : Int) + off = (tgt : Int)) (kt : c ≠ 0 → gz_V Z X G nL rem μ tgt lv (st)) (kf : c = 0 → gz_V Z X G nL rem μ (pc + 3) lv (st)) : gz_V Z X G nL rem μ pc lv (gz_rf (gz_ad G) c :: st) := by
  intro H locs ls cs hR hC hA hl
  by_cases h : c = 0
  · subst h
    exact lv_ifnonnullN hX.1 hX.2.1 hd (kf rfl H locs ls cs hR hC hA hl)
  · rw [gz_rfp h]
    exact lv_ifnonnull hX.1 hX.2.1 hd ht (kt h H locs ls cs hR hC hA hl)
theorem gz_ifnull (hX : gz_C Z X G cc nL own fr lo) {c : Nat} {off : Int} {tgt : Nat} (hd : decode cc pc = .ok (.ifnull off, 3)) (ht : (pc : Int) + off = (tgt : Int)) (kt : c = 0 → gz_V Z X G nL rem μ tgt lv (st)) (kf : c ≠ 0 → gz_V Z X G nL rem μ (pc + 3) lv (st)) : gz_V Z X G nL rem μ pc lv (gz_rf (gz_ad G) c :: st) := by
  intro H locs ls cs hR hC hA hl
  by_cases h : c = 0
  · subst h
    exact lv_ifnullN hX.1 hX.2.1 hd ht (kt rfl H locs ls cs hR hC hA hl)
  · rw [gz_rfp h]
    exact lv_ifnull hX.1 hX.2.1 hd (kf h H locs ls cs hR hC hA hl)
theorem gz_topr {c : Nat} (h : c ≠ 0) (k : gz_V Z X G nL rem μ pc lv (.ref (gz_ad G c) :: st)) : gz_V Z X G nL rem μ pc lv (gz_rf (gz_ad G) c :: st) := by rw [gz_rfp h]; exact k
theorem gz_topn {c d : Nat} (h : c = d) (k : gz_V Z X G nL rem μ pc lv (.ref (gz_ad G c) :: st)) : gz_V Z X G nL rem μ pc lv (.ref (gz_ad G d) :: st) := h ▸ k
theorem gz_aloadP (hX : gz_C Z X G cc nL own fr lo) {i r : Nat} (hd : decode cc pc = .ok (.aload i, 2)) (q : Nat) (hq : lv[q]? = some (i, gz_rf (gz_ad G) r)) (k : gz_V Z X G nL rem μ (pc + 2) lv (gz_rf (gz_ad G) r :: st)) : gz_V Z X G nL rem μ pc lv (st) := by
  intro H locs ls cs hR hC hA hl
  have h2 := lv_at hl q hq
  have h3 := k H locs ls cs hR hC hA hl
  by_cases h : r = 0
  · subst h
    exact lv_aloadN hX.1 hX.2.1 hd h2 h3
  · rw [gz_rfp h] at h2 h3
    exact lv_aload hX.1 hX.2.1 hd h2 h3
theorem gz_aloadP_n (hX : gz_C Z X G cc nL own fr lo) {k : Fin 4} {i r : Nat} (hd : decode cc pc = .ok (.aload_n k, 1)) (hi : (k : Nat) = i) (q : Nat) (hq : lv[q]? = some (i, gz_rf (gz_ad G) r)) (kk : gz_V Z X G nL rem μ (pc + 1) lv (gz_rf (gz_ad G) r :: st)) : gz_V Z X G nL rem μ pc lv (st) := by
  intro H locs ls cs hR hC hA hl
  have h2 := lv_at hl q hq
  have h3 := kk H locs ls cs hR hC hA hl
  by_cases h : r = 0
  · subst h
    exact lv_aload_nN hX.1 hX.2.1 hd hi h2 h3
  · rw [gz_rfp h] at h2 h3
    exact lv_aload_n hX.1 hX.2.1 hd hi h2 h3
/-! calls: constructors, nest mates, inherited, interfaces -/
theorem gz_callI (hX : gz_C Z X G cc nL own fr lo) (hE : gz_Es Z) {y : MethodName} {bytes : ByteArray} {maxL n index c : Nat} {rm : Room} {As rest st0 : List Value} {μ' : gM} {v : Option Value}
    (hM : gz_Met Z G X.2.1 y bytes maxL none rm (.ref (gz_ad G c) :: As) μ μ' v) (hcode : Cond.code y bytes maxL none ∈ lw_all) (hini : Cond.initialized y.cls ∈ lw_all) (hl0 : Cond.methodLink own index y ∈ lw_all) (hin : Cond.instanceMethod y ∈ lw_all) (hy1 : y.name = "<init>")
    (hdd : y.cls ≠ "java/lang/invoke/MethodHandle" ∧ y.cls ≠ "java/lang/invoke/VarHandle" ∧ (parseMethodDescriptor y.desc).map (fun d => d.parameters.length) = some n) (hroom : rm.frames + 1 ≤ fr ∧ 8 + (maxL + 11) + rm.locals ≤ lo) (hn : As.length = n)
    (hst : st0 = As.reverse ++ .ref (gz_ad G c) :: rest) (hW : (rest.map fun v => v.category).sum ≤ 8) (hd : decode cc pc = .ok (.invokespecial index, 3))
    (kk : gz_V Z X G nL rem μ' (pc + 3) lv (v.toList ++ rest)) : gz_V Z X G nL (rem.1 + rm.cells, rem.2 + rm.slots) μ pc lv (st0) := by
  intro H locs ls cs hR hC hA hl
  obtain ⟨h1, h2, h3, h4, h5, h6, h7, h8⟩ := hX
  subst hst
  refine gz_run (y := y) (a := (Value.ref (gz_ad G c) :: As).toArray) (va_runI (As := As) (rest := rest) ⟨h1, h2, h3, h4, h5⟩ hM (cwI n h5 (lw_meth hcode) rfl rfl rfl (h5 _ hini) (h5 _ hl0) (h5 _ hin) hy1 hdd ⟨Nat.le_trans hroom.1 h7, Nat.le_trans hroom.2 h8⟩) ⟨fun a U g mk z => ⟨z.1, z.2.1, gz_K.same hE g mk a z.2.2⟩, fun U hU hW => ⟨rfl, by rw [hU]; exact hR, gz_K.warm hE hW h6⟩⟩ rfl hn hl.1 rfl (lv_room hW) hd ⟨by have := hC.1; dsimp only at this; omega, by have := hC.2; dsimp only at this; omega⟩) hC hA hl kk
theorem gz_callVN (hX : gz_C Z X G cc nL own fr lo) (hE : gz_Es Z) {y : MethodName} {bytes : ByteArray} {maxL n index ci c : Nat} {ret : Option FieldType} {rm : Room} {As rest st0 : List Value} {μ' : gM} {v : Option Value} {q : vw_C} {host : String}
    (hM : gz_Met Z G X.2.1 y bytes maxL ret rm (.ref (gz_ad G c) :: As) μ μ' v) (hcode : Cond.code y bytes maxL ret ∈ lw_all) (hln : va_Nw (.methodLinkNest own index y host) X.2.2.2.2.1) (hini : Cond.initialized y.cls ∈ lw_all) (hins : Cond.instanceMethod y ∈ lw_all) (hsel : Cond.selects q.1 y y ∈ lw_all)
    (hdd : y.cls ≠ "java/lang/invoke/MethodHandle" ∧ y.cls ≠ "java/lang/invoke/VarHandle" ∧ (parseMethodDescriptor y.desc).map (fun d => d.parameters.length) = some n) (hroom : rm.frames + 1 ≤ fr ∧ 8 + (maxL + 11) + rm.locals ≤ lo) (hn : As.length = n)
    (hc : Z.1[ci]? = some q) (hci : ci < 100) (hk : Z.2.2.2.2 μ.1 μ.2.1 μ.2.2.2.2.1 → μ.1 c = ci + 1) (hst : st0 = As.reverse ++ .ref (gz_ad G c) :: rest) (hW : (rest.map fun v => v.category).sum ≤ 8) (hd : decode cc pc = .ok (.invokevirtual index, 3))
    (kk : gz_V Z X G nL rem μ' (pc + 3) lv (v.toList ++ rest)) : gz_V Z X G nL (rem.1 + rm.cells, rem.2 + rm.slots) μ pc lv (st0) := by
  intro H locs ls cs hR hC hA hl
  obtain ⟨h1, h2, h3, h4, h5, h6, h7, h8⟩ := hX
  subst hst
  refine gz_run (y := y) (a := (Value.ref (gz_ad G c) :: As).toArray) (va_runVN (As := As) (rest := rest) ⟨h1, h2, h3, h4, h5⟩ hM ⟨va_cnB n h5 (lw_meth hcode) rfl rfl rfl hln (h5 _ hini) hdd ⟨Nat.le_trans hroom.1 h7, Nat.le_trans hroom.2 h8⟩, h5 _ hins, h5 _ hsel⟩ ⟨fun a U g mk z => ⟨z.1, z.2.1, gz_K.same hE g mk a z.2.2⟩, gz_recv h6 hR hc hci (hk hR.2.2.2.2.2), fun U hU hW => ⟨rfl, by rw [hU]; exact hR, gz_K.warm hE hW h6⟩⟩ rfl hn hl.1 rfl (lv_room hW) hd ⟨by have := hC.1; dsimp only at this; omega, by have := hC.2; dsimp only at this; omega⟩) hC hA hl kk
theorem gz_callSN (hX : gz_C Z X G cc nL own fr lo) (hE : gz_Es Z) {y : MethodName} {bytes : ByteArray} {maxL n index : Nat} {ret : Option FieldType} {rm : Room} {As rest st0 : List Value} {μ' : gM} {v : Option Value} {host : String}
    (hM : gz_Met Z G X.2.1 y bytes maxL ret rm As μ μ' v) (hcode : Cond.code y bytes maxL ret ∈ lw_all) (hln : va_Nw (.methodLinkNest own index y host) X.2.2.2.2.1) (hini : Cond.initialized y.cls ∈ lw_all) (hsta : Cond.static y ∈ lw_all)
    (hdd : y.cls ≠ "java/lang/invoke/MethodHandle" ∧ y.cls ≠ "java/lang/invoke/VarHandle" ∧ (parseMethodDescriptor y.desc).map (fun d => d.parameters.length) = some n) (hroom : rm.frames + 1 ≤ fr ∧ 8 + (maxL + 11) + rm.locals ≤ lo) (hn : As.length = n)
    (hst : st0 = As.reverse ++ rest) (hW : (rest.map fun v => v.category).sum ≤ 8) (hd : decode cc pc = .ok (.invokestatic index, 3))
    (kk : gz_V Z X G nL rem μ' (pc + 3) lv (v.toList ++ rest)) : gz_V Z X G nL (rem.1 + rm.cells, rem.2 + rm.slots) μ pc lv (st0) := by
  intro H locs ls cs hR hC hA hl
  obtain ⟨h1, h2, h3, h4, h5, h6, h7, h8⟩ := hX
  subst hst
  refine gz_run (y := y) (a := As.toArray) (va_runSN (As := As) (rest := rest) ⟨h1, h2, h3, h4, h5⟩ hM ⟨va_cnB n h5 (lw_meth hcode) rfl rfl rfl hln (h5 _ hini) hdd ⟨Nat.le_trans hroom.1 h7, Nat.le_trans hroom.2 h8⟩, h5 _ hsta, trivial⟩ ⟨fun a U g mk z => ⟨z.1, z.2.1, gz_K.same hE g mk a z.2.2⟩, fun U hU hW => ⟨rfl, by rw [hU]; exact hR, gz_K.warm hE hW h6⟩⟩ rfl hn hl.1 rfl (lv_room hW) hd ⟨by have := hC.1; dsimp only at this; omega, by have := hC.2; dsimp only at this; omega⟩) hC hA hl kk
theorem gz_callIN (hX : gz_C Z X G cc nL own fr lo) (hE : gz_Es Z) {y : MethodName} {bytes : ByteArray} {maxL n index c : Nat} {rm : Room} {As rest st0 : List Value} {μ' : gM} {v : Option Value} {host : String}
    (hM : gz_Met Z G X.2.1 y bytes maxL none rm (.ref (gz_ad G c) :: As) μ μ' v) (hcode : Cond.code y bytes maxL none ∈ lw_all) (hln : va_Nw (.methodLinkNest own index y host) X.2.2.2.2.1) (hini : Cond.initialized y.cls ∈ lw_all) (hin : Cond.instanceMethod y ∈ lw_all) (hy1 : y.name = "<init>")
    (hdd : y.cls ≠ "java/lang/invoke/MethodHandle" ∧ y.cls ≠ "java/lang/invoke/VarHandle" ∧ (parseMethodDescriptor y.desc).map (fun d => d.parameters.length) = some n) (hroom : rm.frames + 1 ≤ fr ∧ 8 + (maxL + 11) + rm.locals ≤ lo) (hn : As.length = n)
    (hst : st0 = As.reverse ++ .ref (gz_ad G c) :: rest) (hW : (rest.map fun v => v.category).sum ≤ 8) (hd : decode cc pc = .ok (.invokespecial index, 3))
    (kk : gz_V Z X G nL rem μ' (pc + 3) lv (v.toList ++ rest)) : gz_V Z X G nL (rem.1 + rm.cells, rem.2 + rm.slots) μ pc lv (st0) := by
  intro H locs ls cs hR hC hA hl
  obtain ⟨h1, h2, h3, h4, h5, h6, h7, h8⟩ := hX
  subst hst
  refine gz_run (y := y) (a := (Value.ref (gz_ad G c) :: As).toArray) (va_runIN (As := As) (rest := rest) ⟨h1, h2, h3, h4, h5⟩ hM ⟨va_cnB n h5 (lw_meth hcode) rfl rfl rfl hln (h5 _ hini) hdd ⟨Nat.le_trans hroom.1 h7, Nat.le_trans hroom.2 h8⟩, hy1, h5 _ hin⟩ ⟨fun a U g mk z => ⟨z.1, z.2.1, gz_K.same hE g mk a z.2.2⟩, fun U hU hW => ⟨rfl, by rw [hU]; exact hR, gz_K.warm hE hW h6⟩⟩ rfl hn hl.1 rfl (lv_room hW) hd ⟨by have := hC.1; dsimp only at this; omega, by have := hC.2; dsimp only at this; omega⟩) hC hA hl kk
theorem gz_callV2 (hX : gz_C Z X G cc nL own fr lo) (hE : gz_Es Z) {y : MethodName} {bytes : ByteArray} {maxL n index ci c : Nat} {ret : Option FieldType} {rm : Room} {As rest st0 : List Value} {μ' : gM} {v : Option Value} {q : vw_C}
    (hM : gz_Met Z G X.2.1 y bytes maxL ret rm (.ref (gz_ad G c) :: As) μ μ' v) (hw : GoodIn lw_all (wsV own index q.1 y (ws_ y bytes maxL ret)))
    (hdd : y.cls = q.1 ∧ y.cls ≠ "java/lang/invoke/MethodHandle" ∧ y.cls ≠ "java/lang/invoke/VarHandle" ∧ (parseMethodDescriptor y.desc).map (fun d => d.parameters.length) = some n) (hroom : rm.frames + 1 ≤ fr ∧ 8 + (maxL + 11) + rm.locals ≤ lo) (hn : As.length = n)
    (hc : Z.1[ci]? = some q) (hci : ci < 100) (hk : Z.2.2.2.2 μ.1 μ.2.1 μ.2.2.2.2.1 → μ.1 c = ci + 1) (hst : st0 = As.reverse ++ .ref (gz_ad G c) :: rest) (hW : (rest.map fun v => v.category).sum ≤ 8) (hd : decode cc pc = .ok (.invokevirtual index, 3))
    (kk : gz_V Z X G nL rem μ' (pc + 3) lv (v.toList ++ rest)) : gz_V Z X G nL (rem.1 + rm.cells, rem.2 + rm.slots) μ pc lv (st0) := by
  intro H locs ls cs hR hC hA hl
  exact gz_callV hX hE hM hw hdd hroom hn hc hci (hk hR.2.2.2.2.2) hst hW hd kk H locs ls cs hR hC hA hl
theorem gz_callU (hX : gz_C Z X G cc nL own fr lo) (hE : gz_Es Z) {x y : MethodName} {bytes : ByteArray} {maxL n index ci c : Nat} {ret : Option FieldType} {rm : Room} {As rest st0 : List Value} {μ' : gM} {v : Option Value} {q : vw_C} {owner : String}
    (hM : gz_Met Z G X.2.1 y bytes maxL ret rm (.ref (gz_ad G c) :: As) μ μ' v) (cw : va_CU X.2.2.2.1 X.2.2.2.2.1 X.2.2.2.2.2.2.1 own q.1 owner index x y bytes maxL ret (ws_ y bytes maxL ret) rm rm.cells rm.slots n) (hn : As.length = n)
    (hc : Z.1[ci]? = some q) (hci : ci < 100) (hk : Z.2.2.2.2 μ.1 μ.2.1 μ.2.2.2.2.1 → μ.1 c = ci + 1) (hst : st0 = As.reverse ++ .ref (gz_ad G c) :: rest) (hW : (rest.map fun v => v.category).sum ≤ 8) (hd : decode cc pc = .ok (.invokevirtual index, 3))
    (kk : gz_V Z X G nL rem μ' (pc + 3) lv (v.toList ++ rest)) : gz_V Z X G nL (rem.1 + rm.cells, rem.2 + rm.slots) μ pc lv (st0) := by
  intro H locs ls cs hR hC hA hl
  obtain ⟨h1, h2, h3, h4, h5, h6, h7, h8⟩ := hX
  subst hst
  refine gz_run (y := y) (a := (Value.ref (gz_ad G c) :: As).toArray) (va_runU (As := As) (rest := rest) ⟨h1, h2, h3, h4, h5⟩ hM cw ⟨fun a U g mk z => ⟨z.1, z.2.1, gz_K.same hE g mk a z.2.2⟩, gz_recv h6 hR hc hci (hk hR.2.2.2.2.2), fun U hU hW => ⟨rfl, by rw [hU]; exact hR, gz_K.warm hE hW h6⟩⟩ rfl hn hl.1 rfl (lv_room hW) hd ⟨by have := hC.1; dsimp only at this; omega, by have := hC.2; dsimp only at this; omega⟩) hC hA hl kk
theorem gz_callF (hX : gz_C Z X G cc nL own fr lo) (hE : gz_Es Z) {x y : MethodName} {bytes : ByteArray} {maxL n index ci c count : Nat} {ret : Option FieldType} {rm : Room} {As rest st0 : List Value} {μ' : gM} {v : Option Value} {q : vw_C}
    (hM : gz_Met Z G X.2.1 y bytes maxL ret rm (.ref (gz_ad G c) :: As) μ μ' v) (cw : va_CI X.2.2.2.1 X.2.2.2.2.1 X.2.2.2.2.2.2.1 own q.1 index x y bytes maxL ret (ws_ y bytes maxL ret) rm rm.cells rm.slots n) (hn : As.length = n)
    (hc : Z.1[ci]? = some q) (hci : ci < 100) (hk : Z.2.2.2.2 μ.1 μ.2.1 μ.2.2.2.2.1 → μ.1 c = ci + 1) (hst : st0 = As.reverse ++ .ref (gz_ad G c) :: rest) (hW : (rest.map fun v => v.category).sum ≤ 8) (hd : decode cc pc = .ok (.invokeinterface index count, 5))
    (kk : gz_V Z X G nL rem μ' (pc + 5) lv (v.toList ++ rest)) : gz_V Z X G nL (rem.1 + rm.cells, rem.2 + rm.slots) μ pc lv (st0) := by
  intro H locs ls cs hR hC hA hl
  obtain ⟨h1, h2, h3, h4, h5, h6, h7, h8⟩ := hX
  subst hst
  have hr := va_runF (h6.1.1 ci q hc).2 (As := As) (rest := rest) (g := F0 X.2.2.2.2.2.1 pc ls (As.reverse ++ .ref (gz_ad G c) :: rest)) (H := H) (locs := locs) (cells := cs.1) (slots := cs.2) (below := X.2.2.2.2.2.2.2.1) (meth := X.2.2.2.2.2.2.2.2.1) (e := X.2.2.1) (l := X.2.1) ⟨h1, h2, h3, h4, h5⟩ hM cw ⟨fun a U g mk z => ⟨z.1, z.2.1, gz_K.same hE g mk a z.2.2⟩, gz_recv h6 hR hc hci (hk hR.2.2.2.2.2), fun U hU hW => ⟨rfl, by rw [hU]; exact hR, gz_K.warm hE hW h6⟩⟩ rfl hn hl.1 rfl (lv_room hW) hd ⟨by have := hC.1; dsimp only at this; omega, by have := hC.2; dsimp only at this; omega⟩
  intro T hT Y
  obtain ⟨v', st₀, t, T', L, h0, Y', hL, e1, e2, ⟨hv, hR'⟩, go⟩ := hr T hT Y
  cases hv
  obtain ⟨t2, a1, b1⟩ := kk T'.heap (locs ++ L) ls (cs.1 + rm.cells, cs.2 + rm.slots) (by rw [e1]; exact hR') (by have := hC.1; have := hC.2; constructor <;> (dsimp only at *; omega)) (fun q hq => by
    rcases List.mem_append.mp hq with h | h
    · exact hA q h
    · exact hL q h) hl T' rfl Y'
  exact ⟨t2, go t2 a1, b1⟩
/-! statics and constants -/
theorem gz_gets (hX : gz_C Z X G cc nL own fr lo) {C n d : String} {v : Value} {index : Nat} (hZ : va_Z C n d v (gz_A G) X.2.2.2.2.1 (gz_H G)) (hL : gz_FL X own index C n d) (hd : decode cc pc = .ok (.getstatic index, 3)) (kk : gz_V Z X G nL rem μ (pc + 3) lv (v :: st)) : gz_V Z X G nL rem μ pc lv (st) := by
  intro H locs ls cs hR hC hA hl
  obtain ⟨cf, kf, fi, f, a, cell, h1, h2, h3, h4, h5, h6, h7, h8⟩ := hZ
  have h9 : H[a]? = some cell := by rw [hR.2.2.2.2.1 a h8 (Array.getElem?_eq_some_iff.mp h5).1]; exact h5
  rcases hL with hL | ⟨host, hL⟩
  · exact W.gets hX.1 hX.2.1 hX.2.2.2.1 hL h1 h2 h3 h4 h9 (fun e => by rw [e] at h6; cases h6) h7 rfl hd (kk H locs ls cs hR hC hA hl)
  · exact va_WgetsN hX.1 hX.2.1 hX.2.2.2.1 hL h1 h2 h3 h4 h9 (fun e => by rw [e] at h6; cases h6) h7 rfl hd (kk H locs ls cs hR hC hA hl)
theorem gz_ldcS (hX : gz_C Z X G cc nL own fr lo) {tx : String} {index c : Nat} (hZ : vk_R own index tx (gz_ad G c) X.2.2.2.2.1) (hd : decode cc pc = .ok (.ldc index, 2)) (kk : gz_V Z X G nL rem μ (pc + 2) lv (.ref (gz_ad G c) :: st)) : gz_V Z X G nL rem μ pc lv (st) := by
  intro H locs ls cs hR hC hA hl
  exact va_ldcS hX.1 hX.2.1 hX.2.2.2.1 hZ hd (kk H locs ls cs hR hC hA hl)
theorem gz_ldcwS0 {p : Program} {l : Launch} {e : Env} {R : Room} {s : State} {m : MethodId} {args : Array Value} {below : List Frame} {meth : Method} {c : Code} {T : State} {locs : List Loc} {cells slots : Nat}
    (X : Stand p l e R s m args below meth c T locs cells slots) (hexec : p.tables.exec = Jvm.exec) {own text : String} {index : Nat} {a : Addr} (hown : s.vm.findClass own = some m.cls)
    (hconst : (Cond.stringRef own index text).before args s = true) (hev : (Term.string own index).eval args s none [] s = some (.ref a)) {g : JFrame} (hg : g.method = m) (hdg : decode c.code g.pc = .ok (.ldc_w index, 3)) :
    ∀ target, Steps p.tables e below (T.setTop { g with pc := g.pc + 3, stack := .ref a :: g.stack }) target → Steps p.tables e below (T.setTop g) target := by
  obtain ⟨k, cf, i, a', hk, hcf, hcp, -, hr, hev'⟩ := Cond.stringRef_spec hown hconst
  cases hev.symm.trans hev'
  obtain ⟨k', hk', he⟩ := X.warmed.alike.2.2 _ _ hk
  have hr' : k'.resolved[index]? = some (some (.string a)) := by
    rcases X.warmed.entry hk hk' index with h | ⟨h, -⟩
    · rw [h]; exact hr
    · rw [hr] at h; cases h
  intro target hrest
  subst hg
  jvm_step X.here [hexec, hdg, ldc_w.wp_string (s := T) (f := g) X.here.top hk' (by rw [he]; exact hcf) hcp hr']
  exact hrest
theorem gz_ldcwS (hX : gz_C Z X G cc nL own fr lo) {tx : String} {index c : Nat} (hZ : vk_R own index tx (gz_ad G c) X.2.2.2.2.1) (hd : decode cc pc = .ok (.ldc_w index, 3)) (kk : gz_V Z X G nL rem μ (pc + 3) lv (.ref (gz_ad G c) :: st)) : gz_V Z X G nL rem μ pc lv (st) := by
  intro H locs ls cs hR hC hA hl T hT Y
  obtain ⟨t, a1, b1⟩ := kk H locs ls cs hR hC hA hl T hT Y
  exact ⟨t, gz_ldcwS0 Y hX.1 hX.2.2.2.1 (text := tx) hZ.1 hZ.2 (g := F0 X.2.2.2.2.2.1 pc ls st) rfl (by rw [hX.2.1]; exact hd) t a1, b1⟩
/-! references compared -/
theorem gz_acmp_ne (hX : gz_C Z X G cc nL own fr lo) {x y : Nat} {off : Int} {tgt : Nat} (hk : μ.1 x ≠ 0 ∧ μ.1 y ≠ 0) (hd : decode cc pc = .ok (.if_acmp .ne off, 3)) (ht : (pc : Int) + off = (tgt : Int)) (kt : ¬ x = y → gz_V Z X G nL rem μ tgt lv (st)) (kf : x = y → gz_V Z X G nL rem μ (pc + 3) lv (st)) : gz_V Z X G nL rem μ pc lv (.ref (gz_ad G y) :: .ref (gz_ad G x) :: st) := by
  intro H locs ls cs hR hC hA hl
  exact lv_acmp_ne (rx := some (gz_ad G x)) (ry := some (gz_ad G y)) hX.1 hX.2.1 hd ht (fun h => kt (fun e => h (by rw [e])) H locs ls cs hR hC hA hl) (fun h => kf (hR.2.1 x y hk.1 hk.2 (Option.some.inj h)) H locs ls cs hR hC hA hl)
theorem gz_acmp_eq (hX : gz_C Z X G cc nL own fr lo) {x y : Nat} {off : Int} {tgt : Nat} (hk : μ.1 x ≠ 0 ∧ μ.1 y ≠ 0) (hd : decode cc pc = .ok (.if_acmp .eq off, 3)) (ht : (pc : Int) + off = (tgt : Int)) (kt : x = y → gz_V Z X G nL rem μ tgt lv (st)) (kf : ¬ x = y → gz_V Z X G nL rem μ (pc + 3) lv (st)) : gz_V Z X G nL rem μ pc lv (.ref (gz_ad G y) :: .ref (gz_ad G x) :: st) := by
  intro H locs ls cs hR hC hA hl
  exact lv_acmp_eq (rx := some (gz_ad G x)) (ry := some (gz_ad G y)) hX.1 hX.2.1 hd ht (fun h => kt (hR.2.1 x y hk.1 hk.2 (Option.some.inj h)) H locs ls cs hR hC hA hl) (fun h => kf (fun e => h (by rw [e])) H locs ls cs hR hC hA hl)
/-- instanceof of the very class -/
theorem gz_inst (hX : gz_C Z X G cc nL own fr lo) {ci c index : Nat} {q : vw_C} (hc : Z.1[ci]? = some q) (hci : ci < 100) (hk : μ.1 c = ci + 1) (hlink : Cond.classLink own index q.1 ∈ lw_all) (hd : decode cc pc = .ok (.instanceof index, 3)) (kk : gz_V Z X G nL rem μ (pc + 3) lv (.int 1 :: st)) : gz_V Z X G nL rem μ pc lv (.ref (gz_ad G c) :: st) := by
  intro H locs ls cs hR hC hA hl
  exact va_instE hX.1 hX.2.1 hX.2.2.2.1 (hX.2.2.2.2.1 _ hlink) (gz_recv hX.2.2.2.2.2.1 hR hc hci hk) hd (kk H locs ls cs hR hC hA hl)
theorem gz_RAn {U : State} {cA : ClassId} {ty : FieldType} (h : va_RA U cA ty) : U.vm.findClass ("[" ++ ty.toString) = some cA := by
  cases ty with
  | object C =>
    obtain ⟨kA, comp, h1, h2, h3, h4⟩ := h
    exact h4
  | _ => exact h
/-- checkcast of an array to its very type -/
theorem gz_castA (hX : gz_C Z X G cc nL own fr lo) {c t index : Nat} {ty : FieldType} {nm : String} (hT : Z.2.2.1[t]? = some ty) (hk : μ.1 c = t + 101) (hlink : Cond.classLink own index nm ∈ lw_all) (hnm : "[" ++ ty.toString = nm) (hd : decode cc pc = .ok (.checkcast index, 3)) (kk : gz_V Z X G nL rem μ (pc + 3) lv (.ref (gz_ad G c) :: st)) : gz_V Z X G nL rem μ pc lv (.ref (gz_ad G c) :: st) := by
  intro H locs ls cs hR hC hA hl
  subst hnm
  exact va_castE hX.1 hX.2.1 hX.2.2.2.1 (hX.2.2.2.2.1 _ hlink) ⟨_, (hR.1 c).2 t hk, rfl, gz_RAn (gz_ty hX.2.2.2.2.2.1 hT).2⟩ hd (kk H locs ls cs hR hC hA hl)
theorem gz_aretR {p : Program} {l : Launch} {e : Env} {R : Room} {s : State} {m : MethodId} {args : Array Value} {below : List Frame} {meth : Method} {c : Code} {rt : FieldType} {r : Nat} {H : Heap} {locs : List Loc} {ls : Array Slot} {μ' : gM} {a b : Nat} (hx : p.tables.exec = Jvm.exec) (hb : c.code = cc) (hr : meth.sig.returnType = some rt) (hrt : (∃ n, rt = .object n) ∨ ∃ t, rt = .array t) (hlk : meth.locks = false) (hR : gz_R Z G μ' H) (hA : ∀ q ∈ locs, gz_A G q.base) (hd : decode cc pc = .ok (.areturn, 1)) :
    W p l e R s m args below meth c H locs a b (MQ below (fun _ _ o t => o = .returned (some (.ref (gz_ad G r))) ∧ gz_R Z G μ' t.heap) args s a b (gz_A G)) (F0 m pc ls [.ref (gz_ad G r)]) :=
  W.aret hx hb hr hrt (Or.inr ⟨_, rfl⟩) (fun t ht hW => ⟨rfl, by rw [ht]; exact hR⟩) hA hd hlk
end GZ2
def gz_kR (Z : gz_S) (X : gz_X) (G : gz_G) (nL : Nat) (rem : Nat × Nat) (cc : ByteArray) (μ : gM) (r : Nat) : Prop := ∀ (pc : Nat) (lv : List (Nat × Value)), decode cc pc = .ok (.areturn, 1) → gz_V Z X G nL rem μ pc lv [.ref (gz_ad G r)]
theorem gz_ofR {Z : gz_S} {G : gz_G} {l : Launch} {y : MethodName} {cc : ByteArray} {nL : Nat} {rm : Room} {as : List Value} {μ μ' : gM} {r : Nat} {rt : FieldType} (hrt : (∃ n, rt = .object n) ∨ ∃ t, rt = .array t) (hy : plainFor y = true) (hsz : (lg_sl as).length ≤ nL)
    (body : ∀ X : gz_X, X.2.1 = l → gz_C Z X G cc nL y.cls rm.frames rm.locals → gz_kR Z X G nL (0, 0) cc μ' r → gz_V Z X G nL (rm.cells, rm.slots) μ 0 (lv_args 0 as) []) : gz_Met Z G l y cc nL (some rt) rm as μ μ' (some (.ref (gz_ad G r))) := by
  refine gz_of hy hsz fun p e s m args below meth c X eX hx hb hr hlk hC hnm => ?_
  subst eX
  refine body _ rfl hC fun pc lv hd H locs ls cs hR hC hA hl => ?_
  obtain ⟨c1, c2⟩ := cs
  obtain ⟨e1, e2⟩ := hC
  have e1 : c1 = rm.cells := e1
  have e2 : c2 = rm.slots := e2
  subst e1; subst e2
  exact gz_aretR hx hb hr hrt hlk hR hA hd
abbrev gK (m : gM) : Nat → Nat := m.1
abbrev gN (m : gM) : Nat → Nat := m.2.1
abbrev gI (m : gM) : Nat → Nat → Int32 := m.2.2.1
abbrev gL (m : gM) : Nat → Nat → Int64 := m.2.2.2.1
abbrev gP (m : gM) : Nat → Nat → Nat := m.2.2.2.2.1
