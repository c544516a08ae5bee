/-! ===== System.arraycopy (rows turned from the kit's va_copyi, va_copyM: the heap told cell by cell) ===== -/
section GZCP
variable {p : Program} {l : Launch} {e : Env} {R : Room} {s : State} {m : MethodId} {args : Array Value} {below : List Frame} {meth : Method} {c : Code} {H : Heap} {locs : List Loc} {cells slots : Nat} {Q : State → Prop}
variable {cc : ByteArray} {pc : Nat} {ls : Array Slot} {rest : List Value} {D : va_G} {cl : List vw_C} {a : Nat} {tys : List (ClassId × FieldType)}
theorem gz_cpWI (hexec : p.tables.exec = Jvm.exec) (hb : c.code = cc) (hml : c.maxLocals = ls.size) {own : String} {index : Nat} (hown : s.vm.findClass own = some m.cls) (hlink : (Cond.methodLink own index arraycopyName).before args s = true) (hnat : (Cond.native arraycopyName).before args s = true) (hstat : (Cond.static arraycopyName).before args s = true) (hini : (Cond.initialized "java/lang/System").before args s = true)
    (hK : va_K D cl tys s) (t0 t1 : Nat) {a0 : Nat} {c0 c1 : ClassId} {n0 n1 : Nat} {f g : Nat → Int32} {ty : FieldType} (h0 : H[a0]? = some (vp_cell c0 (n0, .inl f))) (h1c : H[a]? = some (vp_cell c1 (n1, .inl g))) (ht0 : tys[t0]? = some (c0, ty)) (ht1 : tys[t1]? = some (c1, ty)) (hprim : refKind ty = false)
    {sp dp n : Int32} (h1 : ¬ sp < 0) (h2 : ¬ dp < 0) (h3 : ¬ n < 0) (h4 : sp.toNatClampNeg + n.toNatClampNeg ≤ n0) (h5 : dp.toNatClampNeg + n.toNatClampNeg ≤ n1) (hfit : ∀ i, i < n.toNatClampNeg → fits ty (.int (f (sp.toNatClampNeg + i))) = true)
    (hframes : 1 ≤ R.frames) (hlocals : (rest.map fun v => v.category).sum + (nativeFrameWords "java/lang/System" "arraycopy" 5 + 11) ≤ R.locals) (hdg : decode cc pc = .ok (.invokestatic index, 3))
    (kk : ∀ H1 : Heap, H1[a]? = some (vp_cell c1 (n1, .inl (va_cpy f g sp.toNatClampNeg dp.toNatClampNeg n.toNatClampNeg))) → H1.size = H.size → (∀ q : Nat, q ≠ a → H1[q]? = H[q]?) → ∀ L : List Loc, (∀ q ∈ L, q.base = a) → W p l e R s m args below meth c H1 (locs ++ L) cells slots Q (F0 m (pc + 3) ls rest)) : W p l e R s m args below meth c H locs cells slots Q (F0 m pc ls (.int n :: .int dp :: .ref a :: .int sp :: .ref a0 :: rest)) := by
  have nn : ∀ z : Int32, ¬ z < 0 → z.toInt = (z.toNatClampNeg : Int) := by
    intro z hz
    have hz0 : (0 : Int) ≤ z.toInt := by
      have := Int32.not_lt.mp hz
      simpa using Int32.le_iff_toInt_le.mp this
    show z.toInt = ((z.toInt.toNat : Nat) : Int)
    omega
  intro T hT X
  have hc0 : H[a0]? = some (vp_cell c0 (n0, .inl f)) := h0
  have hc1 : H[a]? = some (vp_cell c1 (n1, .inl g)) := h1c
  obtain ⟨-, k0, hk0, cm0, hkk0⟩ := (hK.2 t0 _ ht0).1 n0 (fun j => .int (f j))
  obtain ⟨-, k1, hk1, cm1, hkk1⟩ := (hK.2 t1 _ ht1).1 n1 (fun j => .int (g j))
  obtain ⟨vm', X', step⟩ := X.arraycopy hexec hown hlink hnat hstat hini (src := a0) (dst := a) (cs := vp_cell c0 (n0, .inl f)) (cd := vp_cell c1 (n1, .inl g)) (srcPos := sp) (destPos := dp) (n := n) (by rw [hT]; exact hc0) (by rw [hT]; exact hc1)
    (fun _ h => by cases h) (fun _ h => by cases h) (fun h => by cases h) (fun h => by cases h) hk0 hk1 hkk0 hkk1 (by simp [hprim]) h1 h2 h3
    (by rw [nn sp h1, nn n h3]; show ¬ _ > ((arrV c0 n0 (fun j => .int (f j))).slots.size : Int); rw [arrV_size]; omega)
    (by rw [nn dp h2, nn n h3]; show ¬ _ > ((arrV c1 n1 (fun j => .int (g j))).slots.size : Int); rw [arrV_size]; omega)
    (fun vm₁ _ i hi => by
      have e : (vp_cell c0 (n0, .inl f)).slots.getD (sp.toNatClampNeg + i) .null = .int (f (sp.toNatClampNeg + i)) := by
        show (arrV c0 n0 (fun j => .int (f j))).slots.getD _ _ = _
        rw [Array.getD_eq_getD_getElem?, arrV_read _ _ (by omega)]
        rfl
      refine ⟨?_, ?_⟩
      · rw [e]
        exact hfit i hi
      · rw [e]
        exact trivial)
    (g := F0 m pc ls (.int n :: .int dp :: .ref a :: .int sp :: .ref a0 :: rest)) rfl (by rw [hml]) (rest := rest) rfl (by rw [hb]; exact hdg) hframes (by show 2 * 0 + _ + _ ≤ _; omega)
  have e1 : copied (vp_cell c0 (n0, .inl f)) (vp_cell c1 (n1, .inl g)) sp dp n = vp_cell c1 (n1, .inl (va_cpy f g sp.toNatClampNeg dp.toNatClampNeg n.toNatClampNeg)) := va_copied (fun z => .int z) c0 c1 f g h4
  rw [e1] at X' step
  have hl : a < H.size := (Array.getElem?_eq_some_iff.mp hc1).1
  have hheap : ((T.setVm vm').setCell a (vp_cell c1 (n1, .inl (va_cpy f g sp.toNatClampNeg dp.toNatClampNeg n.toNatClampNeg)))).heap = H.setIfInBounds a (vp_cell c1 (n1, .inl (va_cpy f g sp.toNatClampNeg dp.toNatClampNeg n.toNatClampNeg))) := by rw [← hT]; rfl
  have oq : ∀ q : Nat, q ≠ a → (H.setIfInBounds a (vp_cell c1 (n1, .inl (va_cpy f g sp.toNatClampNeg dp.toNatClampNeg n.toNatClampNeg))))[q]? = H[q]? := fun q hq => by simp [Array.getElem?_setIfInBounds, Ne.symm hq]
  obtain ⟨t, a1, b1⟩ := kk _ (show (H.setIfInBounds a _)[a]? = some _ by simp [Array.getElem?_setIfInBounds, hl]) (by simp) oq _ (fun q hq => by
      obtain ⟨z, -, hz⟩ := List.mem_map.mp hq
      rw [← hz]) _ hheap X'
  exact ⟨t, step t a1, b1⟩
theorem gz_cpWR (hexec : p.tables.exec = Jvm.exec) (hb : c.code = cc) (hml : c.maxLocals = ls.size) {own : String} {index : Nat} (hown : s.vm.findClass own = some m.cls) (hlink : (Cond.methodLink own index arraycopyName).before args s = true) (hnat : (Cond.native arraycopyName).before args s = true) (hstat : (Cond.static arraycopyName).before args s = true) (hini : (Cond.initialized "java/lang/System").before args s = true)
    (hK : va_K D cl tys s) (t0 t1 : Nat) {a0 : Nat} {c0 c1 : ClassId} {n0 n1 : Nat} {f g : Nat → Option Nat} {E0 E1 : String} (h0 : H[a0]? = some (vp_cell c0 (n0, .inr (.inr (.inr (.inr f)))))) (h1c : H[a]? = some (vp_cell c1 (n1, .inr (.inr (.inr (.inr g)))))) (ht0 : tys[t0]? = some (c0, .object E0)) (ht1 : tys[t1]? = some (c1, .object E1))
    {sp dp n : Int32} (h1 : ¬ sp < 0) (h2 : ¬ dp < 0) (h3 : ¬ n < 0) (h4 : sp.toNatClampNeg + n.toNatClampNeg ≤ n0) (h5 : dp.toNatClampNeg + n.toNatClampNeg ≤ n1) (hel : ∀ i : Nat, i < n.toNatClampNeg → ∀ y : Nat, f (sp.toNatClampNeg + i) = some y → va_Any E1 s H y)
    (hframes : 1 ≤ R.frames) (hlocals : (rest.map fun v => v.category).sum + (nativeFrameWords "java/lang/System" "arraycopy" 5 + 11) ≤ R.locals) (hdg : decode cc pc = .ok (.invokestatic index, 3))
    (kk : ∀ H1 : Heap, H1[a]? = some (vp_cell c1 (n1, .inr (.inr (.inr (.inr (va_cpy f g sp.toNatClampNeg dp.toNatClampNeg n.toNatClampNeg)))))) → H1.size = H.size → (∀ q : Nat, q ≠ a → H1[q]? = H[q]?) → ∀ L : List Loc, (∀ q ∈ L, q.base = a) → W p l e R s m args below meth c H1 (locs ++ L) cells slots Q (F0 m (pc + 3) ls rest)) : W p l e R s m args below meth c H locs cells slots Q (F0 m pc ls (.int n :: .int dp :: .ref a :: .int sp :: .ref a0 :: rest)) := by
  have nn : ∀ z : Int32, ¬ z < 0 → z.toInt = (z.toNatClampNeg : Int) := by
    intro z hz
    have hz0 : (0 : Int) ≤ z.toInt := by
      have := Int32.not_lt.mp hz
      simpa using Int32.le_iff_toInt_le.mp this
    show z.toInt = ((z.toInt.toNat : Nat) : Int)
    omega
  intro T hT X
  have hc0 : H[a0]? = some (vp_cell c0 (n0, .inr (.inr (.inr (.inr f))))) := h0
  have hc1 : H[a]? = some (vp_cell c1 (n1, .inr (.inr (.inr (.inr g))))) := h1c
  obtain ⟨-, k0, hk0, cm0, hkk0⟩ := (hK.2 t0 _ ht0).1 n0 (fun j => va_rf (f j))
  obtain ⟨-, k1, hk1, cm1, hkk1⟩ := (hK.2 t1 _ ht1).1 n1 (fun j => va_rf (g j))
  obtain ⟨vm', X', step⟩ := X.arraycopy hexec hown hlink hnat hstat hini (src := a0) (dst := a) (cs := vp_cell c0 (n0, .inr (.inr (.inr (.inr f))))) (cd := vp_cell c1 (n1, .inr (.inr (.inr (.inr g))))) (srcPos := sp) (destPos := dp) (n := n) (by rw [hT]; exact hc0) (by rw [hT]; exact hc1)
    (fun _ h => by cases h) (fun _ h => by cases h) (fun h => by cases h) (fun h => by cases h) hk0 hk1 hkk0 hkk1 rfl h1 h2 h3
    (by rw [nn sp h1, nn n h3]; show ¬ _ > ((arrV c0 n0 (fun j => va_rf (f j))).slots.size : Int); rw [arrV_size]; omega)
    (by rw [nn dp h2, nn n h3]; show ¬ _ > ((arrV c1 n1 (fun j => va_rf (g j))).slots.size : Int); rw [arrV_size]; omega)
    (fun vm₁ hal i hi => by
      have e : (vp_cell c0 (n0, .inr (.inr (.inr (.inr f))))).slots.getD (sp.toNatClampNeg + i) .null = va_rf (f (sp.toNatClampNeg + i)) := by
        show (arrV c0 n0 (fun j => va_rf (f j))).slots.getD _ _ = _
        rw [Array.getD_eq_getD_getElem?, arrV_read _ _ (by omega)]
        rfl
      rw [e]
      cases hy : f (sp.toNatClampNeg + i) with
      | none => exact ⟨rfl, trivial⟩
      | some y =>
        obtain ⟨cellV, g1, g2, ⟨kC, hkC⟩, hasg⟩ := hel i hi y hy
        obtain ⟨kA, comp, r1, r2, r3, -⟩ := (hK.2 t1 _ ht1).2
        cases hk1.symm.trans r1
        cases hkk1.symm.trans r2
        obtain ⟨kE, hkE, -⟩ := Vm.findClass_spec r3
        obtain ⟨kC', hkC', -⟩ := hal.2.2 _ _ hkC
        obtain ⟨kE', hkE', -⟩ := hal.2.2 _ _ hkE
        refine ⟨rfl, cellV, (show T.heap[y]? = some cellV by rw [hT]; exact g1), (fun q h => by rw [h] at g2; cases g2), ⟨kC', hkC'⟩, ?_, ?_⟩
        · exact ⟨kE', hkE'⟩
        · show vm₁.assignable _ _ = true
          rw [hal.assignable]
          exact hasg _ r3)
    (g := F0 m pc ls (.int n :: .int dp :: .ref a :: .int sp :: .ref a0 :: rest)) rfl (by rw [hml]) (rest := rest) rfl (by rw [hb]; exact hdg) hframes (by show 2 * 0 + _ + _ ≤ _; omega)
  have e1 : copied (vp_cell c0 (n0, .inr (.inr (.inr (.inr f))))) (vp_cell c1 (n1, .inr (.inr (.inr (.inr g))))) sp dp n = vp_cell c1 (n1, .inr (.inr (.inr (.inr (va_cpy f g sp.toNatClampNeg dp.toNatClampNeg n.toNatClampNeg))))) := by
    rw [vp_cell_q, vp_cell_q, vp_cell_q]
    exact va_copied (fun z => va_rf z) c0 c1 f g h4
  rw [e1] at X' step
  have hl : a < H.size := (Array.getElem?_eq_some_iff.mp hc1).1
  have hheap : ((T.setVm vm').setCell a (vp_cell c1 (n1, .inr (.inr (.inr (.inr (va_cpy f g sp.toNatClampNeg dp.toNatClampNeg n.toNatClampNeg))))))).heap = H.setIfInBounds a (vp_cell c1 (n1, .inr (.inr (.inr (.inr (va_cpy f g sp.toNatClampNeg dp.toNatClampNeg n.toNatClampNeg)))))) := by rw [← hT]; rfl
  have oq : ∀ q : Nat, q ≠ a → (H.setIfInBounds a (vp_cell c1 (n1, .inr (.inr (.inr (.inr (va_cpy f g sp.toNatClampNeg dp.toNatClampNeg n.toNatClampNeg)))))))[q]? = H[q]? := fun q hq => by simp [Array.getElem?_setIfInBounds, Ne.symm hq]
  obtain ⟨t, a1, b1⟩ := kk _ (show (H.setIfInBounds a _)[a]? = some _ by simp [Array.getElem?_setIfInBounds, hl]) (by simp) oq _ (fun q hq => by
      obtain ⟨z, -, hz⟩ := List.mem_map.mp hq
      rw [← hz]) _ hheap X'
  exact ⟨t, step t a1, b1⟩
end GZCP
def gz_cpI (μ : gM) (a0 sp a dp n : Nat) : gM := (μ.1, μ.2.1, fun c j => if c = a then va_cpy (μ.2.2.1 a0) (μ.2.2.1 a) sp dp n j else μ.2.2.1 c j, μ.2.2.2.1, μ.2.2.2.2.1, μ.2.2.2.2.2)
def gz_cpP (μ : gM) (a0 sp a dp n : Nat) : gM := (μ.1, μ.2.1, μ.2.2.1, μ.2.2.2.1, fun c j => if c = a then va_cpy (μ.2.2.2.2.1 a0) (μ.2.2.2.2.1 a) sp dp n j else μ.2.2.2.2.1 c j, μ.2.2.2.2.2)
section GZCQ
variable {Z : gz_S} {X : gz_X} {G : gz_G} {cc : ByteArray} {nL : Nat} {own : String} {fr lo : Nat} {rem : Nat × Nat} {μ : gM} {pc : Nat} {lv : List (Nat × Value)} {st : List Value}
theorem gz_tysAt {t : Nat} {ty : FieldType} (h : Z.2.2.1[t]? = some ty) : (gz_tys Z G)[t]? = some (gz_dA G t, ty) := by
  unfold gz_tys
  rw [List.getElem?_mapIdx, h]
  rfl
theorem gz_copyI (hX : gz_C Z X G cc nL own fr lo) {index t a0 a : Nat} {sp dp n : Int32} {ty : FieldType} {μ' : gM} (hlink : Cond.methodLink own index arraycopyName ∈ lw_all) (hnat : Cond.native arraycopyName ∈ lw_all) (hstat : Cond.static arraycopyName ∈ lw_all) (hini : Cond.initialized "java/lang/System" ∈ lw_all) (hT : Z.2.2.1[t]? = some ty) (ht : gz_et t = 0) (hprim : refKind ty = false) (hK : (μ.1 a0 = t + 101 ∧ μ.1 a = t + 101) ∧ 1000 ≤ a)
    (hi : (0 ≤ sp ∧ 0 ≤ dp ∧ 0 ≤ n) ∧ gz_ix sp + gz_ix n ≤ μ.2.1 a0 ∧ gz_ix dp + gz_ix n ≤ μ.2.1 a) (hfit : ∀ i, i < gz_ix n → fits ty (.int (μ.2.2.1 a0 (gz_ix sp + i))) = true) (hroom : 1 ≤ fr ∧ 60 ≤ lo) (hW : (st.map fun v => v.category).sum ≤ 8) (hd : decode cc pc = .ok (.invokestatic index, 3)) (hm : μ' = gz_cpI μ a0 (gz_ix sp) a (gz_ix dp) (gz_ix n)) (kk : gz_V Z X G nL rem μ' (pc + 3) lv st) : gz_V Z X G nL rem μ pc lv (.int n :: .int dp :: .ref (gz_ad G a) :: .int sp :: .ref (gz_ad G a0) :: st) := by
  intro H locs ls cs hR hC hA hl
  subst hm
  obtain ⟨⟨hk0, hk1⟩, hw⟩ := hK
  have e0 := (hR.1 a0).2 t hk0
  have e1 := (hR.1 a).2 t hk1
  rw [ht] at e0 e1
  refine gz_cpWI (f := μ.2.2.1 a0) (g := μ.2.2.1 a) hX.1 hX.2.1 (by rw [hX.2.2.1]; exact hl.1.symm) hX.2.2.2.1 (hX.2.2.2.2.1 _ hlink) (hX.2.2.2.2.1 _ hnat) (hX.2.2.2.2.1 _ hstat) (hX.2.2.2.2.1 _ hini) hX.2.2.2.2.2.1.1 t t e0 e1 (gz_tysAt hT) (gz_tysAt hT) hprim (Int32.not_lt.mpr hi.1.1) (Int32.not_lt.mpr hi.1.2.1) (Int32.not_lt.mpr hi.1.2.2) hi.2.1 hi.2.2 hfit (Nat.le_trans hroom.1 hX.2.2.2.2.2.2.1) (by have h9 := Nat.le_trans hroom.2 hX.2.2.2.2.2.2.2; have hw9 : nativeFrameWords "java/lang/System" "arraycopy" 5 ≤ 20 := (by decide); omega) hd fun H1 q1 q2 q3 L hL => ?_
  refine kk H1 _ ls cs (hR.put (c := a) rfl rfl rfl (fun d tc j h => ?_) (by rw [hk1]; exact Nat.succ_ne_zero _) hw q2 q3 ⟨fun ci' hci' hlt => ?_, fun t' ht' => ?_⟩ (fun h => h)) hC ?_ hl
  · unfold gz_u gz_cpI
    split
    · simp [h]
    · rfl
    · rfl
  · have : μ.1 a = ci' + 1 := hci'
    omega
  · have ht2 : μ.1 a = t' + 101 := ht'
    have : t' = t := by omega
    subst this
    rw [q1]
    show some (arrV (gz_dA G t') (μ.2.1 a) (fun j => Value.int (va_cpy (μ.2.2.1 a0) (μ.2.2.1 a) (gz_ix sp) (gz_ix dp) (gz_ix n) j))) = _
    congr 2
    funext j
    rw [ht]
    simp [gz_u, gz_cpI]
  · intro q hq
    rcases List.mem_append.mp hq with h | h
    · exact hA q h
    · rw [hL q h]; exact hR.2.2.1 a hw (by rw [hk1]; exact Nat.succ_ne_zero _)
def gz_fo (ad : Nat → Nat) (r : Nat) : Option Nat := if r = 0 then none else some (ad r)
theorem gz_fo_v {ad : Nat → Nat} {r : Nat} : va_rf (gz_fo ad r) = gz_rf ad r := by
  unfold gz_fo gz_rf
  split <;> rfl
theorem gz_copyR (hX : gz_C Z X G cc nL own fr lo) {index t a0 a : Nat} {sp dp n : Int32} {E : String} {μ' : gM} (hlink : Cond.methodLink own index arraycopyName ∈ lw_all) (hnat : Cond.native arraycopyName ∈ lw_all) (hstat : Cond.static arraycopyName ∈ lw_all) (hini : Cond.initialized "java/lang/System" ∈ lw_all) (hT : Z.2.2.1[t]? = some (.object E)) (ht : gz_et t = 2) (hK : (μ.1 a0 = t + 101 ∧ μ.1 a = t + 101) ∧ 1000 ≤ a)
    (hi : (0 ≤ sp ∧ 0 ≤ dp ∧ 0 ≤ n) ∧ gz_ix sp + gz_ix n ≤ μ.2.1 a0 ∧ gz_ix dp + gz_ix n ≤ μ.2.1 a) (hel : ∀ H : Heap, gz_R Z G μ H → ∀ i, i < gz_ix n → μ.2.2.2.2.1 a0 (gz_ix sp + i) ≠ 0 → va_Any E X.2.2.2.2.1 H (gz_ad G (μ.2.2.2.2.1 a0 (gz_ix sp + i)))) (hlc : Z.2.2.2.2 μ.1 μ.2.1 μ.2.2.2.2.1 → Z.2.2.2.2 μ.1 μ.2.1 (gz_cpP μ a0 (gz_ix sp) a (gz_ix dp) (gz_ix n)).2.2.2.2.1) (hroom : 1 ≤ fr ∧ 60 ≤ lo) (hW : (st.map fun v => v.category).sum ≤ 8) (hd : decode cc pc = .ok (.invokestatic index, 3)) (hm : μ' = gz_cpP μ a0 (gz_ix sp) a (gz_ix dp) (gz_ix n)) (kk : gz_V Z X G nL rem μ' (pc + 3) lv st) : gz_V Z X G nL rem μ pc lv (.int n :: .int dp :: .ref (gz_ad G a) :: .int sp :: .ref (gz_ad G a0) :: st) := by
  intro H locs ls cs hR hC hA hl
  subst hm
  obtain ⟨⟨hk0, hk1⟩, hw⟩ := hK
  have cellq : ∀ (cid : ClassId) (len : Nat) (row : Nat → Nat), arrV cid len (fun j => gz_rf (gz_ad G) (row j)) = vp_cell cid (len, .inr (.inr (.inr (.inr (fun j => gz_fo (gz_ad G) (row j)))))) := by
    intro cid len row
    rw [vp_cell_q]
    congr 1
    funext j
    exact gz_fo_v.symm
  have e0 := (hR.1 a0).2 t hk0
  have e1 := (hR.1 a).2 t hk1
  rw [ht] at e0 e1
  refine gz_cpWR (f := fun j => gz_fo (gz_ad G) (μ.2.2.2.2.1 a0 j)) (g := fun j => gz_fo (gz_ad G) (μ.2.2.2.2.1 a j)) hX.1 hX.2.1 (by rw [hX.2.2.1]; exact hl.1.symm) hX.2.2.2.1 (hX.2.2.2.2.1 _ hlink) (hX.2.2.2.2.1 _ hnat) (hX.2.2.2.2.1 _ hstat) (hX.2.2.2.2.1 _ hini) hX.2.2.2.2.2.1.1 t t (e0.trans (congrArg some (cellq _ _ (μ.2.2.2.2.1 a0)))) (e1.trans (congrArg some (cellq _ _ (μ.2.2.2.2.1 a)))) (gz_tysAt hT) (gz_tysAt hT) (Int32.not_lt.mpr hi.1.1) (Int32.not_lt.mpr hi.1.2.1) (Int32.not_lt.mpr hi.1.2.2) hi.2.1 hi.2.2 (fun i hi2 y hy => ?_) (Nat.le_trans hroom.1 hX.2.2.2.2.2.2.1) (by have h9 := Nat.le_trans hroom.2 hX.2.2.2.2.2.2.2; have hw9 : nativeFrameWords "java/lang/System" "arraycopy" 5 ≤ 20 := (by decide); omega) hd fun H1 q1 q2 q3 L hL => ?_
  · unfold gz_fo at hy
    by_cases h0 : μ.2.2.2.2.1 a0 (gz_ix sp + i) = 0
    · rw [if_pos h0] at hy; cases hy
    · rw [if_neg h0] at hy
      cases hy
      exact hel H hR i hi2 h0
  refine kk H1 _ ls cs (hR.put (c := a) rfl rfl rfl (fun d tc j h => ?_) (by rw [hk1]; exact Nat.succ_ne_zero _) hw q2 q3 ⟨fun ci' hci' hlt => ?_, fun t' ht' => ?_⟩ hlc) hC ?_ hl
  · unfold gz_u gz_cpP
    split
    · rfl
    · rfl
    · simp [h]
  · have : μ.1 a = ci' + 1 := hci'
    omega
  · have ht2 : μ.1 a = t' + 101 := ht'
    have : t' = t := by omega
    subst this
    rw [q1, vp_cell_q]
    congr 2
    funext j
    rw [ht]
    have e5 : va_cpy (fun j => gz_fo (gz_ad G) (μ.2.2.2.2.1 a0 j)) (fun j => gz_fo (gz_ad G) (μ.2.2.2.2.1 a j)) (gz_ix sp) (gz_ix dp) (gz_ix n) j = gz_fo (gz_ad G) (va_cpy (μ.2.2.2.2.1 a0) (μ.2.2.2.2.1 a) (gz_ix sp) (gz_ix dp) (gz_ix n) j) := by
      unfold va_cpy
      split <;> rfl
    rw [e5, gz_fo_v]
    simp [gz_u, gz_cpP]
  · intro q hq
    rcases List.mem_append.mp hq with h | h
    · exact hA q h
    · rw [hL q h]; exact hR.2.2.1 a hw (by rw [hk1]; exact Nat.succ_ne_zero _)
end GZCQ
/-- a private method of a superclass is selected as it is -/
theorem gz_selP {C C2 : String} {y y2 : MethodName} {s : State} {args : Array Value} {n : Nat} (hy : y.cls ≠ "java/lang/invoke/MethodHandle" ∧ y.cls ≠ "java/lang/invoke/VarHandle")
    (hins : (Cond.instantiable C n).before args s = true) (hpriv : (Cond.privateMethod y).before args s = true) (hinst : (Cond.instanceMethod y).before args s = true) (hsl : (Cond.selects C2 y2 y2).before args s = true) (hcl : y2.cls = y.cls) :
    (Cond.selects C y y).before args s = true := by
  obtain ⟨c, k, hc, hk, -, -, -, -⟩ := Cond.instantiable_spec hins
  obtain ⟨mk, methM, hnamed, hmethM, -, -⟩ := Cond.instanceMethod_spec hinst
  have hfound : s.methodFound? y.cls y.name y.desc = some mk := State.methodFound?_of_named hnamed hy
  obtain ⟨kM, hkM, -⟩ := className_of_methodNamed hnamed
  have hsel : selectMethod {} s.vm c mk = .method mk := selectMethod_private hmethM (Cond.privateMethod_at hpriv mk methM hnamed hmethM)
  obtain ⟨c2, r2, m2, q1, q2, q3, q4, kP, hkP, hkPi⟩ := Cond.selects_spec hsl
  have e2 := findClass_of_methodNamed q3
  rw [hcl] at e2
  have e : mk.cls = _ := Option.some.inj ((findClass_of_methodNamed hnamed).symm.trans e2)
  rw [← e] at hkP
  cases hkM.symm.trans hkP
  simp only [Cond.before, Cond.holds, Cond.value, hc, hfound, hnamed, hsel, hk, hkM]
  simp; exact hkPi
theorem gz_cwUP {R : Room} {s : State} {args : Array Value} {own C C2 owner : String} {index maxL k : Nat} {y y2 : MethodName} {bytes : ByteArray} {ret : Option FieldType} {rm : Room} (n : Nat) (ht : ∀ w ∈ lw_all, w.before args s = true) (hcode : Cond.code y bytes maxL ret ∈ lw_all) (hini : Cond.initialized y.cls ∈ lw_all) (hl : Cond.methodLink own index y ∈ lw_all) (hsm : Cond.sameMethod y.cls owner y.name y.desc ∈ lw_all) (hins : Cond.instanceMethod y ∈ lw_all) (hinst : Cond.instantiable C k ∈ lw_all) (hpriv : (Cond.privateMethod y).before args s = true) (hyx : y = ⟨owner, y.name, y.desc⟩) (hsl : Cond.selects C2 y2 y2 ∈ lw_all) (hcl : y2.cls = y.cls)
    (hd : owner ≠ "java/lang/invoke/MethodHandle" ∧ owner ≠ "java/lang/invoke/VarHandle" ∧ (parseMethodDescriptor y.desc).map (fun d => d.parameters.length) = some n) (hR : rm.frames + 1 ≤ R.frames ∧ 8 + (maxL + 11) + rm.locals ≤ R.locals) : va_CU R s args own C owner index y y bytes maxL ret (ws_ y bytes maxL ret) rm rm.cells rm.slots n := by
  have ho : y.cls = owner := by rw [hyx]
  refine ⟨⟨rfl, rfl, hR.1, hR.2, pay_in ht (lw_meth hcode), List.mem_cons_self⟩, ht _ hcode, ht _ hini, ⟨hd.1, hd.2.1⟩, fun sig h => ?_, ht _ hl, ht _ hsm, by rw [← hyx]; exact va_Decl.of (ht _ hins) (ht _ hcode), gz_selP (by rw [ho]; exact ⟨hd.1, hd.2.1⟩) (ht _ hinst) hpriv (ht _ hins) (ht _ hsl) hcl, ht _ hins⟩
  have h2 := hd.2.2
  rw [h] at h2
  exact (Option.some.inj h2).symm
section GZMI
variable {Z : gz_S} {X : gz_X} {G : gz_G} {cc : ByteArray} {nL : Nat} {own : String} {fr lo : Nat} {rem : Nat × Nat} {μ : gM} {pc : Nat} {lv : List (Nat × Value)} {st : List Value}
theorem gz_ldcM (hX : gz_C Z X G cc nL own fr lo) {C : String} {index c : Nat} (hlink : Cond.classLink own index C ∈ lw_all) (hM : va_Mi C (gz_ad G c) X.2.2.2.2.1) (hd : decode cc pc = .ok (.ldc index, 2)) (kk : gz_V Z X G nL rem μ (pc + 2) lv (.ref (gz_ad G c) :: st)) : gz_V Z X G nL rem μ pc lv st := by
  intro H locs ls cs hR hC hA hl
  exact va_ldcM hX.1 hX.2.1 hX.2.2.2.1 (hX.2.2.2.2.1 _ hlink) hM hd (kk H locs ls cs hR hC hA hl)
theorem gz_getC (hX : gz_C Z X G cc nL own fr lo) {C : String} {index c d t : Nat} {ty : FieldType} (hT : Z.2.2.1[t]? = some ty) (hk : μ.1 c = t + 101) (hnm : "[" ++ ty.toString = C) (hlink : Cond.methodLink own index ⟨"java/lang/Object", "getClass", "()Ljava/lang/Class;"⟩ ∈ lw_all) (hdecl : va_Nw (.declares ⟨"java/lang/Object", "getClass", "()Ljava/lang/Class;"⟩) X.2.2.2.2.1) (hsel : Cond.selects C ⟨"java/lang/Object", "getClass", "()Ljava/lang/Class;"⟩ ⟨"java/lang/Object", "getClass", "()Ljava/lang/Class;"⟩ ∈ lw_all) (hinst : Cond.instanceMethod ⟨"java/lang/Object", "getClass", "()Ljava/lang/Class;"⟩ ∈ lw_all) (hnat : Cond.native ⟨"java/lang/Object", "getClass", "()Ljava/lang/Class;"⟩ ∈ lw_all) (hM : va_Mi C (gz_ad G d) X.2.2.2.2.1) (hroom : 1 ≤ fr ∧ 60 ≤ lo) (hW : (st.map fun v => v.category).sum ≤ 8) (hd : decode cc pc = .ok (.invokevirtual index, 3)) (kk : gz_V Z X G nL rem μ (pc + 3) lv (.ref (gz_ad G d) :: st)) : gz_V Z X G nL rem μ pc lv (.ref (gz_ad G c) :: st) := by
  intro H locs ls cs hR hC hA hl
  subst hnm
  refine va_getC hX.1 hX.2.1 (by rw [hX.2.2.1]; exact hl.1.symm) hX.2.2.2.1 (hX.2.2.2.2.1 _ hlink) (va_Nw.use rfl hdecl) (hX.2.2.2.2.1 _ hsel) (hX.2.2.2.2.1 _ hinst) (hX.2.2.2.2.1 _ hnat) hM ⟨_, (hR.1 c).2 t hk, rfl, gz_RAn (gz_ty hX.2.2.2.2.2.1 hT).2⟩ (Nat.le_trans hroom.1 hX.2.2.2.2.2.2.1) (by have h9 := Nat.le_trans hroom.2 hX.2.2.2.2.2.2.2; omega) hd (kk H locs ls cs hR hC hA hl)
/-- a reference is itself -/
theorem gz_acmp_one (hX : gz_C Z X G cc nL own fr lo) {a : Nat} {off : Int} (hd : decode cc pc = .ok (.if_acmp .ne off, 3)) (ht : ∃ tgt : Nat, (pc : Int) + off = (tgt : Int)) (kk : gz_V Z X G nL rem μ (pc + 3) lv st) : gz_V Z X G nL rem μ pc lv (.ref a :: .ref a :: st) := by
  intro H locs ls cs hR hC hA hl
  obtain ⟨tgt, ht⟩ := ht
  exact lv_acmp_ne (rx := some a) (ry := some a) hX.1 hX.2.1 hd ht (fun h => absurd rfl h) (fun _ => kk H locs ls cs hR hC hA hl)
end GZMI
section GZSU
variable {Z : gz_S} {X : gz_X} {G : gz_G} {cc : ByteArray} {nL : Nat} {own : String} {fr lo : Nat} {rem : Nat × Nat} {μ : gM} {pc : Nat} {lv : List (Nat × Value)} {st : List Value}
theorem gz_callSU (hX : gz_C Z X G cc nL own fr lo) (hE : gz_Es Z) {y : MethodName} {bytes : ByteArray} {maxL n index ci c : Nat} {ret : Option FieldType} {rm : Room} {As rest st0 : List Value} {μ' : gM} {v : Option Value} {q : vw_C}
    (hM : gz_Met Z G X.2.1 y bytes maxL ret rm (.ref (gz_ad G c) :: As) μ μ' v) (cw : va_CS X.2.2.2.1 X.2.2.2.2.1 X.2.2.2.2.2.2.1 own index y bytes maxL ret (ws_ y bytes maxL ret) rm rm.cells rm.slots n) (hn : As.length = n)
    (hc : Z.1[ci]? = some q) (hci : ci < 100) (hk : Z.2.2.2.2 μ.1 μ.2.1 μ.2.2.2.2.1 → μ.1 c = ci + 1) (hst : st0 = As.reverse ++ .ref (gz_ad G c) :: rest) (hW : (rest.map fun v => v.category).sum ≤ 8) (hd : decode cc pc = .ok (.invokespecial index, 3))
    (kk : gz_V Z X G nL rem μ' (pc + 3) lv (v.toList ++ rest)) : gz_V Z X G nL (rem.1 + rm.cells, rem.2 + rm.slots) μ pc lv (st0) := by
  intro H locs ls cs hR hC hA hl
  obtain ⟨h1, h2, h3, h4, h5, h6, h7, h8⟩ := hX
  subst hst
  refine gz_run (y := y) (a := (Value.ref (gz_ad G c) :: As).toArray) (va_runSU (h6.1.1 ci q hc).2 (As := As) (rest := rest) ⟨h1, h2, h3, h4, h5⟩ hM cw ⟨fun a U g mk z => ⟨z.1, z.2.1, gz_K.same hE g mk a z.2.2⟩, gz_recv h6 hR hc hci (hk hR.2.2.2.2.2), fun U hU hW => ⟨rfl, by rw [hU]; exact hR, gz_K.warm hE hW h6⟩⟩ rfl hn hl.1 rfl (lv_room hW) hd ⟨by have := hC.1; dsimp only at this; omega, by have := hC.2; dsimp only at this; omega⟩) hC hA hl kk
end GZSU
