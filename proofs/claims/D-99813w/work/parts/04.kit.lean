/-! ===== a kit of decompiled walks: pure helpers ===== -/
def gz_it {S R : Type} (f : S → Option (S ⊕ R)) : Nat → S → Option R
  | 0, _ => none
  | n + 1, s => match f s with
    | none => none
    | some (.inl s') => gz_it f n s'
    | some (.inr r) => some r
theorem gz_it_mono {S R : Type} {f : S → Option (S ⊕ R)} {r : R} : ∀ (n k : Nat) (s : S), gz_it f n s = some r → gz_it f (n + k) s = some r := by
  intro n
  induction n with
  | zero => intro k s h; cases h
  | succ n ih =>
    intro k s h
    rw [Nat.add_right_comm]
    unfold gz_it at h ⊢
    cases hf : f s with
    | none => rw [hf] at h; cases h
    | some x =>
      rw [hf] at h
      cases x with
      | inl s' => exact ih k s' h
      | inr r' => exact h
theorem gz_it_uni {S R : Type} {f : S → Option (S ⊕ R)} {r r' : R} {n k : Nat} {s : S} (h : gz_it f n s = some r) (h' : gz_it f k s = some r') : r = r' := by
  have a := gz_it_mono n k s h
  have b := gz_it_mono k n s h'
  rw [Nat.add_comm] at b
  exact Option.some.inj (a.symm.trans b)
/-- a loop: run f until it says 'out' -/
noncomputable def gz_loop {S R : Type} (f : S → Option (S ⊕ R)) (s : S) : Option R :=
  @ite _ (∃ n, (gz_it f n s).isSome = true) (Classical.propDecidable _) (gz_it f (Classical.epsilon fun n => (gz_it f n s).isSome = true) s) none
theorem gz_loop_iff {S R : Type} {f : S → Option (S ⊕ R)} {s : S} {r : R} : gz_loop f s = some r ↔ ∃ n, gz_it f n s = some r := by
  unfold gz_loop
  constructor
  · intro h
    by_cases hn : ∃ n, (gz_it f n s).isSome = true
    · rw [if_pos hn] at h
      exact ⟨_, h⟩
    · rw [if_neg hn] at h
      cases h
  · rintro ⟨n, h⟩
    have hn : ∃ n, (gz_it f n s).isSome = true := ⟨n, by rw [h]; rfl⟩
    rw [if_pos hn]
    have he := Classical.epsilon_spec hn
    obtain ⟨r', hr'⟩ := Option.isSome_iff_exists.mp he
    rw [hr', gz_it_uni hr' h]
theorem gz_loop_in {S R : Type} {f : S → Option (S ⊕ R)} {s s' : S} (h : f s = some (.inl s')) : gz_loop f s = gz_loop f s' := by
  apply Option.ext
  intro r
  show gz_loop f s = some r ↔ gz_loop f s' = some r
  rw [gz_loop_iff, gz_loop_iff]
  constructor
  · rintro ⟨n, hn⟩
    cases n with
    | zero => cases hn
    | succ n =>
      unfold gz_it at hn
      rw [h] at hn
      exact ⟨n, hn⟩
  · rintro ⟨n, hn⟩
    refine ⟨n + 1, ?_⟩
    unfold gz_it
    rw [h]
    exact hn
theorem gz_loop_out {S R : Type} {f : S → Option (S ⊕ R)} {s : S} {r : R} (h : f s = some (.inr r)) : gz_loop f s = some r := by
  rw [gz_loop_iff]
  refine ⟨1, ?_⟩
  unfold gz_it
  rw [h]
theorem gz_loop_no {S R : Type} {f : S → Option (S ⊕ R)} {s : S} (h : f s = none) : gz_loop f s = none := by
  cases hl : gz_loop f s with
  | none => rfl
  | some r =>
    obtain ⟨n, hn⟩ := gz_loop_iff.mp hl
    cases n with
    | zero => cases hn
    | succ n =>
      unfold gz_it at hn
      rw [h] at hn
      cases hn
theorem gz_loop_ind {S R : Type} {f : S → Option (S ⊕ R)} {P : S → Prop} {k : R → Prop} (step : ∀ (s : S) (x : S ⊕ R), f s = some x → Sum.elim P k x → P s) {s : S} {r : R} (h : gz_loop f s = some r) (hk : k r) : P s := by
  obtain ⟨n, hn⟩ := gz_loop_iff.mp h
  clear h
  induction n generalizing s with
  | zero => cases hn
  | succ n ih =>
    unfold gz_it at hn
    cases hf : f s with
    | none => rw [hf] at hn; cases hn
    | some x =>
      rw [hf] at hn
      cases x with
      | inl s' => exact step s _ hf (ih hn)
      | inr r' => cases hn; exact step s _ hf hk
def gz_let {α β : Type} (a : α) (f : α → Option β) : Option β := f a
theorem gz_lt {α β : Type} {a : α} {f : α → Option β} {r : β} (h : gz_let a f = some r) : ∃ x, x = a ∧ f x = some r := ⟨a, rfl, h⟩
theorem gz_gu {α : Type} {c : Prop} [Decidable c] {a : Option α} {r : α} (h : (if c then a else none) = some r) : c ∧ a = some r := by
  by_cases hc : c
  · rw [if_pos hc] at h; exact ⟨hc, h⟩
  · rw [if_neg hc] at h; cases h
theorem gz_bd {α β : Type} {a : Option α} {f : α → Option β} {r : β} (h : a.bind f = some r) : ∃ x, a = some x ∧ f x = some r := by
  cases ha : a with
  | none => rw [ha] at h; cases h
  | some x => rw [ha] at h; exact ⟨x, rfl, h⟩
theorem gz_mp {α β : Type} {a : Option α} {x : β ⊕ α} (h : a.map Sum.inr = some x) : ∃ y, a = some y ∧ x = Sum.inr y := by
  cases ha : a with
  | none => rw [ha] at h; cases h
  | some y => rw [ha] at h; exact ⟨y, rfl, (Option.some.inj h).symm⟩
theorem gz_it' {α : Type} {c : Prop} [Decidable c] {a b : Option α} {r : α} (hc : c) (h : (if c then a else b) = some r) : a = some r := by rw [if_pos hc] at h; exact h
theorem gz_if' {α : Type} {c : Prop} [Decidable c] {a b : Option α} {r : α} (hc : ¬ c) (h : (if c then a else b) = some r) : b = some r := by rw [if_neg hc] at h; exact h
theorem gz_fi' {α : Type} {c : Prop} [Decidable c] {a b : Option α} {r : α} (hc : ¬ ¬ c) (h : (if c then a else b) = some r) : a = some r := by rw [if_pos (Classical.byContradiction hc)] at h; exact h
/-- a cost added to what is behind: cells, slots -/
def gz_ac {α : Type} (k n : Nat) (o : Option (α × Nat × Nat)) : Option (α × Nat × Nat) := o.map (fun q => (q.1, q.2.1 + k, q.2.2 + n))
theorem gz_ace {α : Type} {k n : Nat} {o : Option (α × Nat × Nat)} {z : α × Nat × Nat} (h : gz_ac k n o = some z) : ∃ y : α × Nat × Nat, o = some y ∧ z = (y.1, y.2.1 + k, y.2.2 + n) := by
  cases ho : o with
  | none => rw [ho] at h; cases h
  | some y => rw [ho] at h; exact ⟨y, rfl, (Option.some.inj h).symm⟩
/-- an index within -/
abbrev gz_in (i : Int32) (n : Nat) : Prop := 0 ≤ i ∧ i.toNatClampNeg < n
theorem gz_in_vp {i : Int32} {n : Nat} (h : gz_in i n) : vp_in i n := by
  rintro (a | a)
  · exact absurd h.1 (Int32.not_le.mpr a)
  · exact absurd h.2 (Nat.not_lt.mpr a)
abbrev gz_ix (i : Int32) : Nat := i.toNatClampNeg
/-! ===== memory: kinds, lengths, ints, longs, references (0: null), the next cell (0: nothing is made) ===== -/
abbrev gM : Type := (Nat → Nat) × (Nat → Nat) × (Nat → Nat → Int32) × (Nat → Nat → Int64) × (Nat → Nat → Nat) × Nat × Nat
def gz_u2 {α : Type} (f : Nat → Nat → α) (c j : Nat) (x : α) : Nat → Nat → α := fun a b => if a = c ∧ b = j then x else f a b
def gz_rf (ad : Nat → Nat) (r : Nat) : Value := if r = 0 then .null else .ref (ad r)
def gz_u (ad : Nat → Nat) (μ : gM) (tc c j : Nat) : Value := match tc with
  | 0 => .int (μ.2.2.1 c j)
  | 1 => .long (μ.2.2.2.1 c j)
  | _ => gz_rf ad (μ.2.2.2.2.1 c j)
/-- the kind of an array's elements: types 0 .. 3 (int, byte, char, boolean) are ints, 4 longs, the others references -/
def gz_et (t : Nat) : Nat := if t < 4 then 0 else if t = 4 then 1 else 2
abbrev gz_G : Type := va_G × (Nat → ClassId) × (Nat → Nat) × (Nat → Prop) × Heap
/-- what is fixed of a world: classes, kinds of fields, array types, what else is known of the tables (E), what holds of kinds, lengths, references (lc) -/
abbrev gz_S : Type := List vw_C × (Nat → Nat → Nat) × List FieldType × (gz_G → State → Prop) × ((Nat → Nat) → (Nat → Nat) → (Nat → Nat → Nat) → Prop)
abbrev gz_D (G : gz_G) : va_G := G.1
abbrev gz_dA (G : gz_G) : Nat → ClassId := G.2.1
abbrev gz_ad (G : gz_G) : Nat → Nat := G.2.2.1
abbrev gz_A (G : gz_G) : Nat → Prop := G.2.2.2.1
/-- the heap that stood at first: what is not ours stays as in it -/
abbrev gz_H (G : gz_G) : Heap := G.2.2.2.2
/-- what stands in the heap for the cell c -/
def gz_cell (Z : gz_S) (G : gz_G) (μ : gM) (H : Heap) (c : Nat) : Prop :=
  (∀ ci : Nat, μ.1 c = ci + 1 → ci < 100 → ∃ r : vw_C, Z.1[ci]? = some r ∧ t_OB (gz_ad G c) ((gz_D G).1 ci) r.2.2 ((gz_D G).2 ci) H (fun j => gz_u (gz_ad G) μ (Z.2.1 ci j) c j)) ∧
  ∀ t : Nat, μ.1 c = t + 101 → H[gz_ad G c]? = some (arrV (gz_dA G t) (μ.2.1 c) (fun j => gz_u (gz_ad G) μ (gz_et t) c j))
/-- cells from z on are free, and lie at the heap's end -/
def gz_sz (G : gz_G) (μ : gM) (H : Heap) : Prop := μ.2.2.2.2.2.1 ≠ 0 → H.size = gz_ad G μ.2.2.2.2.2.1 ∧ 1000 ≤ μ.2.2.2.2.2.1 ∧ ∀ c : Nat, μ.2.2.2.2.2.1 ≤ c → μ.1 c = 0 ∧ gz_ad G (c + 1) = gz_ad G c + 1 ∧ gz_A G (gz_ad G c)
def gz_R (Z : gz_S) (G : gz_G) (μ : gM) (H : Heap) : Prop :=
  (∀ c : Nat, gz_cell Z G μ H c) ∧ (∀ c d : Nat, μ.1 c ≠ 0 → μ.1 d ≠ 0 → gz_ad G c = gz_ad G d → c = d) ∧ (∀ c : Nat, 1000 ≤ c → μ.1 c ≠ 0 → gz_A G (gz_ad G c)) ∧ gz_sz G μ H ∧ (∀ q : Nat, ¬ gz_A G q → q < (gz_H G).size → H[q]? = (gz_H G)[q]?) ∧ Z.2.2.2.2 μ.1 μ.2.1 μ.2.2.2.2.1
def gz_tys (Z : gz_S) (G : gz_G) : List (ClassId × FieldType) := Z.2.2.1.mapIdx (fun i ty => (gz_dA G i, ty))
abbrev gz_K (Z : gz_S) (G : gz_G) (U : State) : Prop := va_K (gz_D G) Z.1 (gz_tys Z G) U ∧ Z.2.2.2.1 G U
/-- E rides through calls -/
def gz_Es (Z : gz_S) : Prop := (∀ (G : gz_G) (s U : State), s.WarmedH U.vm → Z.2.2.2.1 G s → Z.2.2.2.1 G U) ∧ ∀ (G : gz_G) (s U : State), s.vm = U.vm → Z.2.2.2.1 G s → Z.2.2.2.1 G U
theorem gz_K.warm {Z : gz_S} {G : gz_G} {s U : State} (hE : gz_Es Z) (hW : s.WarmedH U.vm) (h : gz_K Z G s) : gz_K Z G U := ⟨va_K.moved hW.alike h.1, hE.1 G s U hW h.2⟩
theorem gz_K.same {Z : gz_S} {G : gz_G} {U : State} (hE : gz_Es Z) (g : JFrame) (mk : MethodId) (a : Array Value) (h : gz_K Z G U) : gz_K Z G (U.calling g mk a) := ⟨va_K.moved (u := U) (U := U.calling g mk a) (Vm.Alike.refl U.vm) h.1, hE.2 G U (U.calling g mk a) rfl h.2⟩
theorem gz_ty {Z : gz_S} {G : gz_G} {U : State} (hK : gz_K Z G U) {t : Nat} {ty : FieldType} (h : Z.2.2.1[t]? = some ty) : ArrOfT U (gz_dA G t) ty ∧ va_RA U (gz_dA G t) ty := by
  have h1 : (gz_tys Z G)[t]? = some (gz_dA G t, ty) := by
    unfold gz_tys
    rw [List.getElem?_mapIdx, h]
    rfl
  exact hK.1.2 t _ h1
/-- one cell changed: all else stands -/
theorem gz_R.put {Z : gz_S} {G : gz_G} {μ μ' : gM} {H H' : Heap} {c : Nat} (hR : gz_R Z G μ H) (hk : μ'.1 = μ.1) (hn : μ'.2.1 = μ.2.1) (hz : μ'.2.2.2.2.2 = μ.2.2.2.2.2) (ho : ∀ d tc j : Nat, d ≠ c → gz_u (gz_ad G) μ' tc d j = gz_u (gz_ad G) μ tc d j)
    (hc0 : μ.1 c ≠ 0) (hw : 1000 ≤ c) (hs : H'.size = H.size) (hq : ∀ q : Nat, q ≠ gz_ad G c → H'[q]? = H[q]?) (hc : gz_cell Z G μ' H' c) (hlc : Z.2.2.2.2 μ.1 μ.2.1 μ.2.2.2.2.1 → Z.2.2.2.2 μ'.1 μ'.2.1 μ'.2.2.2.2.1) : gz_R Z G μ' H' := by
  obtain ⟨h1, h2, h3, h4, h5, h6⟩ := hR
  refine ⟨fun d => ?_, by rw [hk]; exact h2, by rw [hk]; exact h3, ?_, fun q hqA hql => ?_, hlc h6⟩
  · by_cases hd : d = c
    · rw [hd]; exact hc
    · have hne : μ.1 d ≠ 0 → gz_ad G d ≠ gz_ad G c := fun h0 e => hd (h2 d c h0 hc0 e)
      obtain ⟨a, b⟩ := h1 d
      constructor
      · intro ci hci hlt
        rw [hk] at hci
        obtain ⟨r, hr, hob⟩ := a ci hci hlt
        refine ⟨r, hr, (hob.kept (hq _ (hne (by rw [hci]; exact Nat.succ_ne_zero _)))).to (fun j _ => (ho d _ j hd).symm)⟩
      · intro t ht
        rw [hk] at ht
        rw [hq _ (hne (by rw [ht]; exact Nat.succ_ne_zero _)), hn]
        rw [b t ht]
        congr 2
        funext j
        exact (ho d _ j hd).symm
  · unfold gz_sz at h4 ⊢
    rw [hz, hk, hs]
    exact h4
  · rw [hq q (fun e => hqA (e ▸ h3 c hw hc0))]
    exact h5 q hqA hql
/-- a new cell: of a kind, of a length, all zero -/
def gz_al (μ : gM) (kind len sl : Nat) : gM := (fun c => if c = μ.2.2.2.2.2.1 then kind else μ.1 c, fun c => if c = μ.2.2.2.2.2.1 then len else μ.2.1 c, fun c j => if c = μ.2.2.2.2.2.1 then 0 else μ.2.2.1 c j, fun c j => if c = μ.2.2.2.2.2.1 then 0 else μ.2.2.2.1 c j, fun c j => if c = μ.2.2.2.2.2.1 then 0 else μ.2.2.2.2.1 c j, μ.2.2.2.2.2.1 + 1, μ.2.2.2.2.2.2 + sl)
theorem gz_al_o {ad : Nat → Nat} {μ : gM} {kind len sl : Nat} (d tc j : Nat) (h : d ≠ μ.2.2.2.2.2.1) : gz_u ad (gz_al μ kind len sl) tc d j = gz_u ad μ tc d j := by
  unfold gz_u gz_al
  split <;> simp [h]
theorem gz_cell.lt {Z : gz_S} {G : gz_G} {μ : gM} {H : Heap} {c : Nat} (h : gz_cell Z G μ H c) (h0 : μ.1 c ≠ 0) (hd : μ.1 c ≤ 100 ∨ 101 ≤ μ.1 c) : gz_ad G c < H.size := by
  rcases hd with hd | hd
  · obtain ⟨r, -, cell, h2, -⟩ := h.1 (μ.1 c - 1) (by omega) (by omega)
    exact (Array.getElem?_eq_some_iff.mp h2).1
  · exact (Array.getElem?_eq_some_iff.mp (h.2 (μ.1 c - 101) (by omega))).1
theorem gz_R.push {Z : gz_S} {G : gz_G} {μ : gM} {H H' : Heap} {kind len sl : Nat} (hR : gz_R Z G μ H) (hz : μ.2.2.2.2.2.1 ≠ 0) (hs : H'.size = H.size + 1) (hq : ∀ q : Nat, q < H.size → H'[q]? = H[q]?)
    (hc : gz_cell Z G (gz_al μ kind len sl) H' μ.2.2.2.2.2.1) (hlc : μ.1 μ.2.2.2.2.2.1 = 0 → Z.2.2.2.2 μ.1 μ.2.1 μ.2.2.2.2.1 → Z.2.2.2.2 (gz_al μ kind len sl).1 (gz_al μ kind len sl).2.1 (gz_al μ kind len sl).2.2.2.2.1) : gz_R Z G (gz_al μ kind len sl) H' := by
  obtain ⟨h1, h2, h3, h4, h5, h6⟩ := hR
  obtain ⟨z1, z2, z3⟩ := h4 hz
  have hlt : ∀ c, μ.1 c ≠ 0 → gz_ad G c < H.size := fun c h0 => (h1 c).lt h0 (by omega)
  refine ⟨fun d => ?_, fun c d hc0 hd0 e => ?_, fun c hw h0 => ?_, fun _ => ⟨?_, ?_, fun c hcz => ?_⟩, fun q hqA hql => ?_, hlc (z3 _ (Nat.le_refl _)).1 h6⟩
  · by_cases hd : d = μ.2.2.2.2.2.1
    · rw [hd]; exact hc
    · obtain ⟨a, b⟩ := h1 d
      constructor
      · intro ci hci hl
        have hci' : μ.1 d = ci + 1 := by simpa [gz_al, hd] using hci
        obtain ⟨r, hr, hob⟩ := a ci hci' hl
        exact ⟨r, hr, (hob.kept (hq _ (hlt d (by omega)))).to (fun j _ => (gz_al_o d _ j hd).symm)⟩
      · intro t ht
        have ht' : μ.1 d = t + 101 := by simpa [gz_al, hd] using ht
        rw [hq _ (hlt d (by omega)), b t ht']
        have e1 : (gz_al μ kind len sl).2.1 d = μ.2.1 d := by simp [gz_al, hd]
        rw [e1]
        congr 2
        funext j
        exact (gz_al_o d _ j hd).symm
  · by_cases c1 : c = μ.2.2.2.2.2.1
    · by_cases d1 : d = μ.2.2.2.2.2.1
      · rw [c1, d1]
      · have hd' : μ.1 d ≠ 0 := by simpa [gz_al, d1] using hd0
        have := hlt d hd'
        rw [c1] at e
        omega
    · have hc' : μ.1 c ≠ 0 := by simpa [gz_al, c1] using hc0
      by_cases d1 : d = μ.2.2.2.2.2.1
      · have := hlt c hc'
        rw [d1] at e
        omega
      · have hd' : μ.1 d ≠ 0 := by simpa [gz_al, d1] using hd0
        exact h2 c d hc' hd' e
  · by_cases c1 : c = μ.2.2.2.2.2.1
    · rw [c1]; exact (z3 _ (Nat.le_refl _)).2.2
    · exact h3 c hw (by simpa [gz_al, c1] using h0)
  · show H'.size = gz_ad G (μ.2.2.2.2.2.1 + 1)
    rw [(z3 _ (Nat.le_refl _)).2.1, hs, z1]
  · show 1000 ≤ μ.2.2.2.2.2.1 + 1
    omega
  · have hcz' : μ.2.2.2.2.2.1 + 1 ≤ c := hcz
    obtain ⟨a1, a2, a3⟩ := z3 c (by omega)
    refine ⟨?_, a2, a3⟩
    have : c ≠ μ.2.2.2.2.2.1 := by omega
    simp [gz_al, this, a1]
  · rw [hq q ?_]
    · exact h5 q hqA hql
    · have h9 := h5 q hqA hql
      rw [Array.getElem?_eq_getElem hql] at h9
      exact (Array.getElem?_eq_some_iff.mp h9).1
def gz_sI (μ : gM) (c j : Nat) (x : Int32) : gM := (μ.1, μ.2.1, gz_u2 μ.2.2.1 c j x, μ.2.2.2.1, μ.2.2.2.2.1, μ.2.2.2.2.2)
def gz_sL (μ : gM) (c j : Nat) (x : Int64) : gM := (μ.1, μ.2.1, μ.2.2.1, gz_u2 μ.2.2.2.1 c j x, μ.2.2.2.2.1, μ.2.2.2.2.2)
def gz_sP (μ : gM) (c j : Nat) (x : Nat) : gM := (μ.1, μ.2.1, μ.2.2.1, μ.2.2.2.1, gz_u2 μ.2.2.2.2.1 c j x, μ.2.2.2.2.2)
theorem gz_sI_o {ad : Nat → Nat} {μ : gM} {c j : Nat} {x : Int32} (d tc i : Nat) (h : d ≠ c) : gz_u ad (gz_sI μ c j x) tc d i = gz_u ad μ tc d i := by
  unfold gz_u gz_sI
  split
  · simp [gz_u2, h]
  · rfl
  · rfl
theorem gz_sL_o {ad : Nat → Nat} {μ : gM} {c j : Nat} {x : Int64} (d tc i : Nat) (h : d ≠ c) : gz_u ad (gz_sL μ c j x) tc d i = gz_u ad μ tc d i := by
  unfold gz_u gz_sL
  split
  · rfl
  · simp [gz_u2, h]
  · rfl
theorem gz_sP_o {ad : Nat → Nat} {μ : gM} {c j x : Nat} (d tc i : Nat) (h : d ≠ c) : gz_u ad (gz_sP μ c j x) tc d i = gz_u ad μ tc d i := by
  unfold gz_u gz_sP
  split
  · rfl
  · rfl
  · simp [gz_u2, h]
theorem gz_sI_v {ad : Nat → Nat} {μ : gM} {c k : Nat} {x : Int32} (f : Nat → Nat) (hf : f k = 0) (j : Nat) : gz_u ad (gz_sI μ c k x) (f j) c j = updV (fun j => gz_u ad μ (f j) c j) k (.int x) j := by
  unfold updV
  by_cases h : j = k
  · subst h
    rw [if_pos rfl, hf]
    simp [gz_u, gz_sI, gz_u2]
  · rw [if_neg h]
    show gz_u ad (gz_sI μ c k x) (f j) c j = gz_u ad μ (f j) c j
    generalize f j = tc
    unfold gz_u gz_sI
    split
    · simp [gz_u2, h]
    · rfl
    · rfl
theorem gz_sL_v {ad : Nat → Nat} {μ : gM} {c k : Nat} {x : Int64} (f : Nat → Nat) (hf : f k = 1) (j : Nat) : gz_u ad (gz_sL μ c k x) (f j) c j = updV (fun j => gz_u ad μ (f j) c j) k (.long x) j := by
  unfold updV
  by_cases h : j = k
  · subst h
    rw [if_pos rfl, hf]
    simp [gz_u, gz_sL, gz_u2]
  · rw [if_neg h]
    show gz_u ad (gz_sL μ c k x) (f j) c j = gz_u ad μ (f j) c j
    generalize f j = tc
    unfold gz_u gz_sL
    split
    · rfl
    · simp [gz_u2, h]
    · rfl
theorem gz_sP_v {ad : Nat → Nat} {μ : gM} {c k x : Nat} (f : Nat → Nat) (hf : f k = 2) (j : Nat) : gz_u ad (gz_sP μ c k x) (f j) c j = updV (fun j => gz_u ad μ (f j) c j) k (gz_rf ad x) j := by
  unfold updV
  by_cases h : j = k
  · subst h
    rw [if_pos rfl, hf]
    simp [gz_u, gz_sP, gz_u2]
  · rw [if_neg h]
    show gz_u ad (gz_sP μ c k x) (f j) c j = gz_u ad μ (f j) c j
    generalize f j = tc
    unfold gz_u gz_sP
    split
    · rfl
    · rfl
    · simp [gz_u2, h]
/-! ===== the judgement: the machine stands at pc, locals lv, stack st, memory μ ===== -/
abbrev gz_X : Type := Program × Launch × Env × Room × State × MethodId × Array Value × List Frame × Method × Code × (State → Prop)
/-- rem: how many cells, of how many slots, are still to be made -/
def gz_V (Z : gz_S) (X : gz_X) (G : gz_G) (nL : Nat) (rem : Nat × Nat) (μ : gM) (pc : Nat) (lv : List (Nat × Value)) (st : List Value) : Prop :=
  ∀ (H : Heap) (locs : List Loc) (ls : Array Slot) (cs : Nat × Nat), gz_R Z G μ H → (cs.1 + rem.1 = X.2.2.2.1.cells ∧ cs.2 + rem.2 = X.2.2.2.1.slots) → (∀ q ∈ locs, gz_A G q.base) → lv_has ls nL lv →
    W X.1 X.2.1 X.2.2.1 X.2.2.2.1 X.2.2.2.2.1 X.2.2.2.2.2.1 X.2.2.2.2.2.2.1 X.2.2.2.2.2.2.2.1 X.2.2.2.2.2.2.2.2.1 X.2.2.2.2.2.2.2.2.2.1 H locs cs.1 cs.2 X.2.2.2.2.2.2.2.2.2.2 (F0 X.2.2.2.2.2.1 pc ls st)
/-- what is fixed in a walk of a method: machine, code, class, words, tables; frames and locals left -/
def gz_C (Z : gz_S) (X : gz_X) (G : gz_G) (cc : ByteArray) (nL : Nat) (own : String) (fr lo : Nat) : Prop :=
  X.1.tables.exec = Jvm.exec ∧ X.2.2.2.2.2.2.2.2.2.1.code = cc ∧ X.2.2.2.2.2.2.2.2.2.1.maxLocals = nL ∧ X.2.2.2.2.1.vm.findClass own = some X.2.2.2.2.2.1.cls ∧ (∀ w ∈ lw_all, w.before X.2.2.2.2.2.2.1 X.2.2.2.2.1 = true) ∧ gz_K Z G X.2.2.2.2.1 ∧ fr ≤ X.2.2.2.1.frames ∧ lo ≤ X.2.2.2.1.locals
