/-! ===== what is made; how much is still to be made ===== -/
theorem gz_memN {w : Cond} {P : Prop} (h : P) : P := h
/-- the first value of a slot of a kind -/
def gz_df : Nat → Value
  | 0 => .int 0
  | 1 => .long 0
  | _ => .null
theorem gz_al_v {ad : Nat → Nat} {μ : gM} {kind len sl tc j : Nat} : gz_u ad (gz_al μ kind len sl) tc μ.2.2.2.2.2.1 j = gz_df tc := by
  unfold gz_u gz_df gz_al
  split <;> simp [gz_rf]
/-- the machine stands, and what is made from here to the end is zE less what is made already -/
def gz_Va (Z : gz_S) (X : gz_X) (G : gz_G) (nL : Nat) (zE : Nat × Nat) (μ : gM) (pc : Nat) (lv : List (Nat × Value)) (st : List Value) : Prop :=
  (μ.2.2.2.2.2.1 ≤ zE.1 ∧ μ.2.2.2.2.2.2 ≤ zE.2) ∧ gz_V Z X G nL (zE.1 - μ.2.2.2.2.2.1, zE.2 - μ.2.2.2.2.2.2) μ pc lv st
section GZ3
variable {Z : gz_S} {X : gz_X} {G : gz_G} {cc : ByteArray} {nL : Nat} {own : String} {fr lo : Nat} {rem : Nat × Nat} {μ : gM} {pc : Nat} {lv : List (Nat × Value)} {st : List Value}
theorem gz_Vs {zE : Nat × Nat} {μ1 : gM} {pc1 : Nat} {lv1 : List (Nat × Value)} {st1 : List Value} (row : ∀ rem : Nat × Nat, gz_V Z X G nL rem μ1 pc1 lv1 st1 → gz_V Z X G nL rem μ pc lv st) (hz : μ1.2.2.2.2.2 = μ.2.2.2.2.2) (kk : gz_Va Z X G nL zE μ1 pc1 lv1 st1) : gz_Va Z X G nL zE μ pc lv st := by
  unfold gz_Va at kk ⊢
  rw [hz] at kk
  exact ⟨kk.1, row _ kk.2⟩
theorem gz_Vif {zE : Nat × Nat} {P Q : Prop} {μ1 μ2 : gM} {pc1 pc2 : Nat} {lv1 lv2 : List (Nat × Value)} {st1 st2 : List Value} (row : ∀ rem : Nat × Nat, (P → gz_V Z X G nL rem μ pc1 lv1 st1) → (Q → gz_V Z X G nL rem μ pc2 lv2 st2) → gz_V Z X G nL rem μ pc lv st) (hPQ : P ∨ Q) (k1 : P → gz_Va Z X G nL zE μ pc1 lv1 st1) (k2 : Q → gz_Va Z X G nL zE μ pc2 lv2 st2) : gz_Va Z X G nL zE μ pc lv st := by
  refine ⟨?_, row _ (fun h => (k1 h).2) (fun h => (k2 h).2)⟩
  rcases hPQ with h | h
  · exact (k1 h).1
  · exact (k2 h).1
/-- something is made -/
theorem gz_Vn {zE : Nat × Nat} {n k len : Nat} {μ1 : gM} {pc1 : Nat} {lv1 : List (Nat × Value)} {st1 : List Value} (row : ∀ rem : Nat × Nat, gz_V Z X G nL rem μ1 pc1 lv1 st1 → gz_V Z X G nL (rem.1 + 1, rem.2 + n) μ pc lv st) (hm : μ1 = gz_al μ k len n) (kk : gz_Va Z X G nL zE μ1 pc1 lv1 st1) : gz_Va Z X G nL zE μ pc lv st := by
  obtain ⟨⟨h1, h2⟩, h3⟩ := kk
  have e1 : μ1.2.2.2.2.2.1 = μ.2.2.2.2.2.1 + 1 := by rw [hm]; rfl
  have e2 : μ1.2.2.2.2.2.2 = μ.2.2.2.2.2.2 + n := by rw [hm]; rfl
  rw [e1] at h1 h3
  rw [e2] at h2 h3
  refine ⟨⟨by omega, by omega⟩, ?_⟩
  have h4 := row _ h3
  have r1 : zE.1 - (μ.2.2.2.2.2.1 + 1) + 1 = zE.1 - μ.2.2.2.2.2.1 := by omega
  have r2 : zE.2 - (μ.2.2.2.2.2.2 + n) + n = zE.2 - μ.2.2.2.2.2.2 := by omega
  dsimp only at h4
  rw [r1, r2] at h4
  exact h4
/-- a call that makes things -/
theorem gz_Vc {zE : Nat × Nat} {μ1 : gM} {pc1 : Nat} {lv1 : List (Nat × Value)} {st1 : List Value} {k n : Nat} (row : ∀ rem : Nat × Nat, gz_V Z X G nL rem μ1 pc1 lv1 st1 → gz_V Z X G nL (rem.1 + k, rem.2 + n) μ pc lv st) (hz : μ1.2.2.2.2.2.1 = μ.2.2.2.2.2.1 + k ∧ μ1.2.2.2.2.2.2 = μ.2.2.2.2.2.2 + n) (kk : gz_Va Z X G nL zE μ1 pc1 lv1 st1) : gz_Va Z X G nL zE μ pc lv st := by
  obtain ⟨⟨h1, h2⟩, h3⟩ := kk
  rw [hz.1] at h1 h3
  rw [hz.2] at h2 h3
  refine ⟨⟨by omega, by omega⟩, ?_⟩
  have h4 := row _ h3
  have r1 : zE.1 - (μ.2.2.2.2.2.1 + k) + k = zE.1 - μ.2.2.2.2.2.1 := by omega
  have r2 : zE.2 - (μ.2.2.2.2.2.2 + n) + n = zE.2 - μ.2.2.2.2.2.2 := by omega
  dsimp only at h4
  rw [r1, r2] at h4
  exact h4
theorem gz_new (hX : gz_C Z X G cc nL own fr lo) {C : String} {T : u_T} {N ci index : Nat} {μ' : gM} (hc : Z.1[ci]? = some (C, T, N)) (hci : ci < 100) (hin : ∀ w ∈ u_ws C T N, w ∈ lw_all) (ty0 : Nat → FieldType) (hty : ∀ k, k < N → parseFieldDescriptor (T k).2.2.1 = some (ty0 k)) (hdf : ∀ k, k < N → defaultValue (ty0 k) = gz_df (Z.2.1 ci k)) (hcl : Cond.classLink own index C ∈ lw_all) (hinst : Cond.instantiable C N ∈ lw_all) (hini : Cond.initialized C ∈ lw_all) (hz : μ.2.2.2.2.2.1 ≠ 0)
    (hlc : μ.1 μ.2.2.2.2.2.1 = 0 → Z.2.2.2.2 μ.1 μ.2.1 μ.2.2.2.2.1 → Z.2.2.2.2 (gz_al μ (ci + 1) 0 N).1 (gz_al μ (ci + 1) 0 N).2.1 (gz_al μ (ci + 1) 0 N).2.2.2.2.1) (hd : decode cc pc = .ok (.new index, 3)) (hm : μ' = gz_al μ (ci + 1) 0 N) (kk : gz_V Z X G nL rem μ' (pc + 3) lv (.ref (gz_ad G μ.2.2.2.2.2.1) :: st)) : gz_V Z X G nL (rem.1 + 1, rem.2 + N) μ pc lv st := by
  intro H locs ls cs hR hC hA hl
  subst hm
  have hKn := hX.2.2.2.2.2.1.1.1 ci _ hc
  obtain ⟨c1, c2⟩ := hC
  dsimp only at c1 c2
  refine W.newcK hX.1 hX.2.1 hX.2.2.2.1 (hX.2.2.2.2.1 _ hcl) (hX.2.2.2.2.1 _ hinst) (hX.2.2.2.2.1 _ hini) rfl hd (by omega) (by omega) hKn.2.1 rfl fun H1 kC hkC e1 z1 o1 => ?_
  have hb := u_born ty0 hX.2.2.2.2.1 hin hKn hkC e1 hty
  obtain ⟨s1, s2, s3⟩ := hR.2.2.2.1 hz
  have hk0 : (gz_al μ (ci + 1) 0 N).1 μ.2.2.2.2.2.1 = ci + 1 := by simp [gz_al]
  have h9 := kk H1 locs ls (cs.1 + 1, cs.2 + N) (hR.push hz z1 o1 ⟨fun ci' h' hlt => ?_, fun t ht => ?_⟩ hlc) ⟨by dsimp only; omega, by dsimp only; omega⟩ hA hl
  · rw [← s1] at h9
    exact h9
  · rw [hk0] at h'
    have : ci' = ci := (Nat.succ.inj h').symm
    subst this
    rw [← s1]
    exact ⟨_, hc, hb.to (fun j hj => (hdf j hj).trans gz_al_v.symm)⟩
  · rw [hk0] at ht
    omega
theorem gz_newa (hX : gz_C Z X G cc nL own fr lo) {atype : ArrayType} {t N : Nat} {n : Int32} {ty : FieldType} {μ' : gM} (hT : Z.2.2.1[t]? = some ty) (hty : newarray.typeOf atype = ty) (harr : Cond.arrayClass ty ∈ lw_all) (hdv : defaultValue ty = gz_df (gz_et t)) (hn : gz_in n (N + 1) ∧ n.toNatClampNeg = N) (hbytes : N * componentBytes ty ≤ 536870912) (hz : μ.2.2.2.2.2.1 ≠ 0)
    (hlc : μ.1 μ.2.2.2.2.2.1 = 0 → Z.2.2.2.2 μ.1 μ.2.1 μ.2.2.2.2.1 → Z.2.2.2.2 (gz_al μ (t + 101) N N).1 (gz_al μ (t + 101) N N).2.1 (gz_al μ (t + 101) N N).2.2.2.2.1) (hd : decode cc pc = .ok (.newarray atype, 2)) (hm : μ' = gz_al μ (t + 101) N N) (kk : gz_V Z X G nL rem μ' (pc + 2) lv (.ref (gz_ad G μ.2.2.2.2.2.1) :: st)) : gz_V Z X G nL (rem.1 + 1, rem.2 + N) μ pc lv (.int n :: st) := by
  intro H locs ls cs hR hC hA hl
  subst hm
  subst hty
  obtain ⟨c1, c2⟩ := hC
  dsimp only at c1 c2
  refine va_newaK hX.1 hX.2.1 (hX.2.2.2.2.1 _ harr) (N := N) (n := n) (rest := st) rfl hd rfl (Int32.not_lt.mpr hn.1.1) hn.2 hbytes (by omega) (by omega) rfl fun H1 cA e1 z1 o1 hA1 hf => ?_
  obtain ⟨s1, s2, s3⟩ := hR.2.2.2.1 hz
  have hcA : cA = gz_dA G t := Option.some.inj (hf.symm.trans (gz_RAn (gz_ty hX.2.2.2.2.2.1 hT).2))
  subst hcA
  have hk0 : (gz_al μ (t + 101) N N).1 μ.2.2.2.2.2.1 = t + 101 := by simp [gz_al]
  have hn0 : (gz_al μ (t + 101) N N).2.1 μ.2.2.2.2.2.1 = N := by simp [gz_al]
  have h9 := kk H1 locs ls (cs.1 + 1, cs.2 + N) (hR.push hz z1 o1 ⟨fun ci' h' hlt => ?_, fun t' ht => ?_⟩ hlc) ⟨by dsimp only; omega, by dsimp only; omega⟩ hA hl
  · rw [← s1] at h9
    exact h9
  · rw [hk0] at h'
    omega
  · rw [hk0] at ht
    have : t' = t := by omega
    subst this
    rw [← s1, e1, hn0]
    congr 2
    funext j
    exact hdv.trans gz_al_v.symm
theorem gz_anew (hX : gz_C Z X G cc nL own fr lo) {C : String} {index t N : Nat} {n : Int32} {μ' : gM} (hT : Z.2.2.1[t]? = some (.object C)) (ht5 : gz_et t = 2) (hcl : Cond.classLink own index C ∈ lw_all) (hover : va_AO C X.2.2.2.2.1) (hn : gz_in n (N + 1) ∧ n.toNatClampNeg = N) (hbytes : N * 4 ≤ 536870912) (hz : μ.2.2.2.2.2.1 ≠ 0)
    (hlc : μ.1 μ.2.2.2.2.2.1 = 0 → Z.2.2.2.2 μ.1 μ.2.1 μ.2.2.2.2.1 → Z.2.2.2.2 (gz_al μ (t + 101) N N).1 (gz_al μ (t + 101) N N).2.1 (gz_al μ (t + 101) N N).2.2.2.2.1) (hd : decode cc pc = .ok (.anewarray index, 3)) (hm : μ' = gz_al μ (t + 101) N N) (kk : gz_V Z X G nL rem μ' (pc + 3) lv (.ref (gz_ad G μ.2.2.2.2.2.1) :: st)) : gz_V Z X G nL (rem.1 + 1, rem.2 + N) μ pc lv (.int n :: st) := by
  intro H locs ls cs hR hC hA hl
  subst hm
  obtain ⟨hn1, hn2⟩ := hn
  subst hn2
  obtain ⟨c1, c2⟩ := hC
  dsimp only at c1 c2
  refine W.anew hX.1 hX.2.1 hX.2.2.2.1 (hX.2.2.2.2.1 _ hcl) (va_AO.use hover) rfl hd rfl (Int32.not_lt.mpr hn1.1) hbytes (by omega) (by omega) fun cA kA comp f1 f2 f3 f4 => ?_
  generalize hH1 : H.push ({ cls := cA, slots := Array.replicate n.toNatClampNeg .null, vm := .none } : Cell) = H1
  have z1 : H1.size = H.size + 1 := by rw [← hH1, Array.size_push]
  have e1 : H1[H.size]? = some (arrV cA n.toNatClampNeg (fun _ => .null)) := by rw [← hH1, Array.getElem?_push_size, ← arrV_new]
  have o1 : ∀ q : Nat, q < H.size → H1[q]? = H[q]? := fun q hq => by rw [← hH1, Array.getElem?_push, if_neg (Nat.ne_of_lt hq)]
  obtain ⟨s1, s2, s3⟩ := hR.2.2.2.1 hz
  have hcA : cA = gz_dA G t := Option.some.inj (f1.symm.trans (gz_RAn (gz_ty hX.2.2.2.2.2.1 hT).2))
  subst hcA
  have hk0 : (gz_al μ (t + 101) n.toNatClampNeg n.toNatClampNeg).1 μ.2.2.2.2.2.1 = t + 101 := by simp [gz_al]
  have hn0 : (gz_al μ (t + 101) n.toNatClampNeg n.toNatClampNeg).2.1 μ.2.2.2.2.2.1 = n.toNatClampNeg := by simp [gz_al]
  have h9 := kk H1 locs ls (cs.1 + 1, cs.2 + n.toNatClampNeg) (hR.push hz z1 o1 ⟨fun ci' h' hlt => ?_, fun t' ht => ?_⟩ hlc) ⟨by dsimp only; omega, by dsimp only; omega⟩ hA hl
  · rw [← s1] at h9
    exact h9
  · rw [hk0] at h'
    omega
  · rw [hk0] at ht
    have : t' = t := by omega
    subst this
    rw [← s1, e1, hn0]
    congr 2
    funext j
    refine Eq.trans ?_ gz_al_v.symm
    rw [ht5]
    rfl
theorem gz_getfS (hX : gz_C Z X G cc nL own fr lo) {C : String} {T : u_T} {N ci c k index : Nat} {v : Value} {ref : String} (hc : Z.1[ci]? = some (C, T, N)) (hci : ci < 100) (hin : ∀ w ∈ u_ws C T N, w ∈ lw_all) (hk : k < N) (hL : gz_FL X own index ref (T k).2.1 (T k).2.2.1) (hsame : ∀ x, X.2.2.2.2.1.fieldFound? (T k).1 (T k).2.1 (T k).2.2.1 = some x → X.2.2.2.2.1.fieldFound? ref (T k).2.1 (T k).2.2.1 = some x) (hd : decode cc pc = .ok (.getfield index, 3)) (hK : Z.2.2.2.2 μ.1 μ.2.1 μ.2.2.2.2.1 → μ.1 c = ci + 1) (hv : Z.2.2.2.2 μ.1 μ.2.1 μ.2.2.2.2.1 → gz_u (gz_ad G) μ (Z.2.1 ci k) c k = v)
    (kk : gz_V Z X G nL rem μ (pc + 3) lv (v :: st)) : gz_V Z X G nL rem μ pc lv (.ref (gz_ad G c) :: st) := by
  intro H locs ls cs hR hC hA hl
  have hlc := hR.2.2.2.2.2
  obtain ⟨r, h1, cell, q1, q2, q3, q4⟩ := (hR.1 c).1 ci (hK hlc) hci
  have hr : r = (C, T, N) := Option.some.inj (h1.symm.trans hc)
  subst hr
  obtain ⟨hS, hfc, kC, hkC, hkind⟩ := hX.2.2.2.2.2.1.1.1 ci _ hc
  obtain ⟨cf, kf, fi, f, hi, hsl⟩ := hS k hk
  have hslot : cell.slots[f.slot]? = some v := by rw [hsl, q4 k hk]; exact congrArg some (hv hlc)
  rcases hL with hL | ⟨host, hL⟩
  · exact W.getf hX.1 hX.2.1 hX.2.2.2.1 hL (hsame _ hi) (u_facts hfc hkC (u_lays hX.2.2.2.2.1 hin hk) hi).1 q1 (by rw [q3]; exact fun h => by cases h) (v := v) hslot rfl rfl hd (kk H locs ls cs hR hC hA hl)
  · exact va_Wgetf hX.1 hX.2.1 hX.2.2.2.1 hL (hsame _ hi) (u_facts hfc hkC (u_lays hX.2.2.2.2.1 hin hk) hi).1 q1 (by rw [q3]; exact fun h => by cases h) (v := v) hslot rfl rfl hd (kk H locs ls cs hR hC hA hl)
theorem gz_putfS (hX : gz_C Z X G cc nL own fr lo) {C : String} {T : u_T} {N ci c k index : Nat} {v : Value} {μ' : gM} {ty : FieldType} {ref : String} (hc : Z.1[ci]? = some (C, T, N)) (hci : ci < 100) (hin : ∀ w ∈ u_ws C T N, w ∈ lw_all) (ty0 : Nat → FieldType) (hty : ∀ k, k < N → parseFieldDescriptor (T k).2.2.1 = some (ty0 k)) (hnm : ∀ a, a < N → ∀ b, b < N → a ≠ b → (T a).2.1 ≠ (T b).2.1) (hk : k < N) (hL : gz_FL X own index ref (T k).2.1 (T k).2.2.1) (hsame : ∀ x, X.2.2.2.2.1.fieldFound? (T k).1 (T k).2.1 (T k).2.2.1 = some x → X.2.2.2.2.1.fieldFound? ref (T k).2.1 (T k).2.2.1 = some x) (hfin : (T k).2.2.2 = false)
    (hd0 : ty0 k = ty) (hn : narrow ty v = v) (hfit : fits ty v = true) (hd : decode cc pc = .ok (.putfield index, 3)) (hK : Z.2.2.2.2 μ.1 μ.2.1 μ.2.2.2.2.1 → μ.1 c = ci + 1) (hw : 1000 ≤ c) (hk1 : μ'.1 = μ.1) (hn1 : μ'.2.1 = μ.2.1) (hz1 : μ'.2.2.2.2.2 = μ.2.2.2.2.2) (ho : ∀ d tc j : Nat, d ≠ c → gz_u (gz_ad G) μ' tc d j = gz_u (gz_ad G) μ tc d j)
    (hv : ∀ j, gz_u (gz_ad G) μ' (Z.2.1 ci j) c j = updV (fun j => gz_u (gz_ad G) μ (Z.2.1 ci j) c j) k v j) (hlc : Z.2.2.2.2 μ.1 μ.2.1 μ.2.2.2.2.1 → Z.2.2.2.2 μ'.1 μ'.2.1 μ'.2.2.2.2.1)
    (kk : gz_V Z X G nL rem μ' (pc + 3) lv (st)) : gz_V Z X G nL rem μ pc lv (v :: .ref (gz_ad G c) :: st) := by
  intro H locs ls cs hR hC hA hl
  subst hd0
  have hKc := hK hR.2.2.2.2.2
  obtain ⟨r, h1, cell, q1, q2, q3, q4⟩ := (hR.1 c).1 ci hKc hci
  have hr : r = (C, T, N) := Option.some.inj (h1.symm.trans hc)
  subst hr
  obtain ⟨hS, hfc, kC, hkC, hkind⟩ := hX.2.2.2.2.2.1.1.1 ci _ hc
  obtain ⟨cf, kf, fi, f, hi, hsl⟩ := hS k hk
  have hap := va_apart (own := own) hX.2.2.2.2.1 hin ty0 hty hnm hX.2.2.2.2.2.1.1 hc
  have hlay := hX.2.2.2.2.1 _ (hin _ (u_in_lay hk))
  unfold u_lay at hlay
  rw [if_neg (by rw [hfin]; decide)] at hlay
  have hst := (u_facts hfc hkC (u_lays hX.2.2.2.2.1 hin hk) hi).1
  have h6 := u_store hfc hkC hkind hlay hi (hty k hk) hn hfit
  have next : ∀ (H' : Heap) (L : Loc), L.base = gz_ad G c → H'[gz_ad G c]? = some (cell.setSlot f.slot v) → H'.size = H.size → (∀ q, q ≠ gz_ad G c → H'[q]? = H[q]?) → W X.1 X.2.1 X.2.2.1 X.2.2.2.1 X.2.2.2.2.1 X.2.2.2.2.2.1 X.2.2.2.2.2.2.1 X.2.2.2.2.2.2.2.1 X.2.2.2.2.2.2.2.2.1 X.2.2.2.2.2.2.2.2.2.1 H' (locs ++ [L]) cs.1 cs.2 X.2.2.2.2.2.2.2.2.2.2 (F0 X.2.2.2.2.2.1 (pc + 3) ls st) := by
    intro H' L hLb e1 e2 e3
    rw [hsl] at e1
    refine kk H' _ ls cs (hR.put hk1 hn1 hz1 ho (by rw [hKc]; exact Nat.succ_ne_zero _) hw e2 e3 ⟨fun ci' hci' hlt => ?_, fun t ht => ?_⟩ hlc) hC ?_ hl
    · rw [hk1, hKc] at hci'
      have : ci' = ci := (Nat.succ.inj hci').symm
      subst this
      exact ⟨_, hc, t_OB.to ⟨_, e1, q2, q3, t_set q4 hap hk v⟩ (fun j _ => (hv j).symm)⟩
    · rw [hk1, hKc] at ht
      omega
    · intro q hq
      rcases List.mem_append.mp hq with h | h
      · exact hA q h
      · rw [List.mem_singleton.mp h, hLb]; exact hR.2.2.1 c hw (by rw [hKc]; exact Nat.succ_ne_zero _)
  rcases hL with hL | ⟨host, hL⟩
  · exact W.putK hX.1 hX.2.1 (f := f) ⟨hX.2.2.2.1, hL, ⟨_, _, _, hsame _ hi⟩, hst⟩ (by rw [q2]; exact h6) q1 q3 (by rw [hsl]; exact k2_hasslot (q4 k hk)) rfl rfl hd fun H' e1 e2 e3 => next H' _ rfl e1 e2 e3
  · exact va_WputK hX.1 hX.2.1 (f := f) hX.2.2.2.1 hL (hsame _ hi) hst (by rw [q2]; exact h6) q1 q3 (by rw [hsl]; exact k2_hasslot (q4 k hk)) rfl rfl hd fun H' e1 e2 e3 => next H' _ rfl e1 e2 e3
theorem gz_putff (hX : gz_C Z X G cc nL own fr lo) {C : String} {T : u_T} {N ci c k index : Nat} {v : Value} {μ' : gM} {ty : FieldType} {ref : String} (hc : Z.1[ci]? = some (C, T, N)) (hci : ci < 100) (hin : ∀ w ∈ u_ws C T N, w ∈ lw_all) (ty0 : Nat → FieldType) (hty : ∀ k, k < N → parseFieldDescriptor (T k).2.2.1 = some (ty0 k)) (hnm : ∀ a, a < N → ∀ b, b < N → a ≠ b → (T a).2.1 ≠ (T b).2.1) (hk : k < N) (hL : (Cond.fieldLink own index ref (T k).2.1 (T k).2.2.1).before X.2.2.2.2.2.2.1 X.2.2.2.2.1 = true) (hsame : ∀ x, X.2.2.2.2.1.fieldFound? (T k).1 (T k).2.1 (T k).2.2.1 = some x → X.2.2.2.2.1.fieldFound? ref (T k).2.1 (T k).2.2.1 = some x) (hfin : (T k).2.2.2 = true) (hin2 : X.2.2.2.2.2.2.2.2.1.name = "<init>") (hdecl : (T k).1 = own)
    (hd0 : ty0 k = ty) (hn : narrow ty v = v) (hfit : fits ty v = true) (hd : decode cc pc = .ok (.putfield index, 3)) (hK : Z.2.2.2.2 μ.1 μ.2.1 μ.2.2.2.2.1 → μ.1 c = ci + 1) (hw : 1000 ≤ c) (hk1 : μ'.1 = μ.1) (hn1 : μ'.2.1 = μ.2.1) (hz1 : μ'.2.2.2.2.2 = μ.2.2.2.2.2) (ho : ∀ d tc j : Nat, d ≠ c → gz_u (gz_ad G) μ' tc d j = gz_u (gz_ad G) μ tc d j)
    (hv : ∀ j, gz_u (gz_ad G) μ' (Z.2.1 ci j) c j = updV (fun j => gz_u (gz_ad G) μ (Z.2.1 ci j) c j) k v j) (hlc : Z.2.2.2.2 μ.1 μ.2.1 μ.2.2.2.2.1 → Z.2.2.2.2 μ'.1 μ'.2.1 μ'.2.2.2.2.1)
    (kk : gz_V Z X G nL rem μ' (pc + 3) lv (st)) : gz_V Z X G nL rem μ pc lv (v :: .ref (gz_ad G c) :: st) := by
  intro H locs ls cs hR hC hA hl
  subst hd0
  have hKc := hK hR.2.2.2.2.2
  obtain ⟨r, h1, cell, q1, q2, q3, q4⟩ := (hR.1 c).1 ci hKc hci
  have hr : r = (C, T, N) := Option.some.inj (h1.symm.trans hc)
  subst hr
  obtain ⟨hS, hfc, kC, hkC, hkind⟩ := hX.2.2.2.2.2.1.1.1 ci _ hc
  obtain ⟨cf, kf, fi, f, hi, hsl⟩ := hS k hk
  have hap := va_apart (own := own) hX.2.2.2.2.1 hin ty0 hty hnm hX.2.2.2.2.2.1.1 hc
  have hlay := hX.2.2.2.2.1 _ (hin _ (u_in_lay hk))
  unfold u_lay at hlay
  rw [if_pos hfin] at hlay
  have hst := (u_facts hfc hkC (u_lays hX.2.2.2.2.1 hin hk) hi).1
  have hcf : X.2.2.2.2.2.1.cls = cf := by
    obtain ⟨_, _, c', _, _, _, -, -, hf', -, -, -, hown2, -⟩ := Cond.laysFinal_spec hlay
    have e1 : c' = cf := by have := hi.symm.trans hf'; simp at this; exact this.1.symm
    rw [hdecl] at hown2
    rw [← e1]; exact Option.some.inj (hX.2.2.2.1.symm.trans hown2)
  have h6 := u_fits hfc hkC hkind (Or.inr hlay) hi (hty k hk) hn hfit
  have next : ∀ (H' : Heap) (L : Loc), L.base = gz_ad G c → H'[gz_ad G c]? = some (cell.setSlot f.slot v) → H'.size = H.size → (∀ q, q ≠ gz_ad G c → H'[q]? = H[q]?) → W X.1 X.2.1 X.2.2.1 X.2.2.2.1 X.2.2.2.2.1 X.2.2.2.2.2.1 X.2.2.2.2.2.2.1 X.2.2.2.2.2.2.2.1 X.2.2.2.2.2.2.2.2.1 X.2.2.2.2.2.2.2.2.2.1 H' (locs ++ [L]) cs.1 cs.2 X.2.2.2.2.2.2.2.2.2.2 (F0 X.2.2.2.2.2.1 (pc + 3) ls st) := by
    intro H' L hLb e1 e2 e3
    rw [hsl] at e1
    refine kk H' _ ls cs (hR.put hk1 hn1 hz1 ho (by rw [hKc]; exact Nat.succ_ne_zero _) hw e2 e3 ⟨fun ci' hci' hlt => ?_, fun t ht => ?_⟩ hlc) hC ?_ hl
    · rw [hk1, hKc] at hci'
      have : ci' = ci := (Nat.succ.inj hci').symm
      subst this
      exact ⟨_, hc, t_OB.to ⟨_, e1, q2, q3, t_set q4 hap hk v⟩ (fun j _ => (hv j).symm)⟩
    · rw [hk1, hKc] at ht
      omega
    · intro q hq
      rcases List.mem_append.mp hq with h | h
      · exact hA q h
      · rw [List.mem_singleton.mp h, hLb]; exact hR.2.2.1 c hw (by rw [hKc]; exact Nat.succ_ne_zero _)
  exact W.putFinK hX.1 hX.2.1 hX.2.2.2.1 hL (hsame _ hi) hst hcf hin2 (by rw [q2]; exact h6) q1 q3 (by rw [hsl]; exact k2_hasslot (q4 k hk)) rfl rfl hd fun H' e1 e2 e3 => next H' _ rfl e1 e2 e3
theorem gz_objI (hX : gz_C Z X G cc nL own fr lo) {idx a : Nat} (hlink : Cond.methodLink own idx Lib.objectInit ∈ lw_all) (hinst : Cond.instanceMethod Lib.objectInit ∈ lw_all) (hcode : Cond.code Lib.objectInit ⟨#[0xb1]⟩ 1 none ∈ lw_all) (hroom : 1 ≤ fr ∧ 20 ≤ lo) (hW : (st.map fun v => v.category).sum ≤ 8) (hd : decode cc pc = .ok (.invokespecial idx, 3)) (kk : gz_V Z X G nL rem μ (pc + 3) lv st) : gz_V Z X G nL rem μ pc lv (.ref a :: st) := by
  intro H locs ls cs hR hC hA hl
  refine W.objInit hX.1 hX.2.1 hX.2.2.2.1 (hX.2.2.2.2.1 _ hlink) (hX.2.2.2.2.1 _ hinst) (hX.2.2.2.2.1 _ hcode) rfl (by rw [hX.2.2.1]; exact hl.1) rfl hd (Nat.le_trans hroom.1 hX.2.2.2.2.2.2.1) ?_ (kk H locs ls cs hR hC hA hl)
  have h1 := Nat.le_trans hroom.2 hX.2.2.2.2.2.2.2
  show 2 * 0 + _ + 12 ≤ _
  omega
theorem gz_Ve (h : gz_V Z X G nL (0, 0) μ pc lv st) : gz_Va Z X G nL μ.2.2.2.2.2 μ pc lv st := by
  refine ⟨⟨Nat.le_refl _, Nat.le_refl _⟩, ?_⟩
  rw [Nat.sub_self, Nat.sub_self]
  exact h
end GZ3
def gz_kIa (Z : gz_S) (X : gz_X) (G : gz_G) (nL : Nat) (zE : Nat × Nat) (cc : ByteArray) (μ : gM) (r : Int32) : Prop := ∀ (pc : Nat) (lv : List (Nat × Value)), decode cc pc = .ok (.ireturn, 1) → gz_Va Z X G nL zE μ pc lv [.int r]
def gz_kZa (Z : gz_S) (X : gz_X) (G : gz_G) (nL : Nat) (zE : Nat × Nat) (cc : ByteArray) (μ : gM) (r : Int32) : Prop := ∀ (pc : Nat) (lv : List (Nat × Value)), decode cc pc = .ok (.ireturn, 1) → (r = 0 ∨ r = 1) → gz_Va Z X G nL zE μ pc lv [.int r]
def gz_kLa (Z : gz_S) (X : gz_X) (G : gz_G) (nL : Nat) (zE : Nat × Nat) (cc : ByteArray) (μ : gM) (r : Int64) : Prop := ∀ (pc : Nat) (lv : List (Nat × Value)), decode cc pc = .ok (.lreturn, 1) → gz_Va Z X G nL zE μ pc lv [.long r]
def gz_kVa (Z : gz_S) (X : gz_X) (G : gz_G) (nL : Nat) (zE : Nat × Nat) (cc : ByteArray) (μ : gM) : Prop := ∀ (pc : Nat) (lv : List (Nat × Value)), decode cc pc = .ok (.return_, 1) → gz_Va Z X G nL zE μ pc lv []
def gz_kRa (Z : gz_S) (X : gz_X) (G : gz_G) (nL : Nat) (zE : Nat × Nat) (cc : ByteArray) (μ : gM) (r : Nat) : Prop := ∀ (pc : Nat) (lv : List (Nat × Value)), decode cc pc = .ok (.areturn, 1) → gz_Va Z X G nL zE μ pc lv [.ref (gz_ad G r)]
abbrev gZ (m : gM) : Nat := m.2.2.2.2.2.1
abbrev gW (m : gM) : Nat := m.2.2.2.2.2.2
/-- room of a method that makes things -/
def mRc (f n c s : Nat) : Room := { frames := f, cells := c, slots := s, locals := n }
