/-! ===== arrays of arrays made at once (multianewarray) ===== -/
section GMU
variable {Z : gz_S} {X : gz_X} {G : gz_G}
/-- an outer array of n of type t, each element what f makes; i of them are there -/
def gz_mkN (t n : Nat) (f : gM → gM) (m : gM) : Nat → gM
  | 0 => gz_al m (t + 101) n n
  | i + 1 => gz_sP (f (gz_mkN t n f m i)) (gZ m) i (gZ (gz_mkN t n f m i))
/-- what 'make' of the class c with these lengths does: the memory goes from m to f m, k cells of n slots are new -/
def gz_Mk (Z : gz_S) (X : gz_X) (G : gz_G) (c : ClassId) (dims : List Int32) (f : gM → gM) (k n : Nat) : Prop :=
  (∀ m : gM, gZ (f m) = gZ m + k ∧ gW (f m) = gW m + n ∧ ∀ d : Nat, d < gZ m → (f m).1 d = m.1 d ∧ (f m).2.1 d = m.2.1 d) ∧
  ∀ (m : gM) (T : State) (locs : List Loc) (cs : Nat × Nat),
    Stand X.1 X.2.1 X.2.2.1 X.2.2.2.1 X.2.2.2.2.1 X.2.2.2.2.2.1 X.2.2.2.2.2.2.1 X.2.2.2.2.2.2.2.1 X.2.2.2.2.2.2.2.2.1 X.2.2.2.2.2.2.2.2.2.1 T locs cs.1 cs.2 → gz_R Z G m T.heap → gZ m ≠ 0 → (∀ q ∈ locs, gz_A G q.base) → cs.1 + k ≤ X.2.2.2.1.cells → cs.2 + n ≤ X.2.2.2.1.slots →
    ∃ (T' : State) (locs' : List Loc), Stand X.1 X.2.1 X.2.2.1 X.2.2.2.1 X.2.2.2.2.1 X.2.2.2.2.2.1 X.2.2.2.2.2.2.1 X.2.2.2.2.2.2.2.1 X.2.2.2.2.2.2.2.2.1 X.2.2.2.2.2.2.2.2.2.1 T' locs' (cs.1 + k) (cs.2 + n) ∧ gz_R Z G (f m) T'.heap ∧ (∀ q ∈ locs', gz_A G q.base) ∧ T'.vm = T.vm ∧
      ∀ (g : JFrame) (E : CtlPost) (d : Bool) (acts : List Action) (Q : Addr → Pre), (∀ (d' : Bool) (acts' : List Action), Q (gz_ad G (gZ m)) d' acts' (T'.setTop g)) → wp (multianewarray.make c dims) Q E X.2.2.1 d acts (T.setTop g)
theorem gz_wpNew {E : CtlPost} {e : Env} {d : Bool} {acts : List Action} {s : State} {c comp : ClassId} {k : Class} {type : FieldType} {len : Nat} {ini : Value} (hk : s.vm.classes[c]? = some k) (hkind : k.kind = .array comp type)
    (hlimit : ¬ len > e.platform.arrayLengthLimit) (hheap : ¬ len * componentBytes type > e.platform.maxHeapBytes) (hfit : fits type ini = true) (hdef : ini.isDefault = true) {Q : Addr → Pre}
    (h1 : s.heap.size < e.platform.maxCells) (h2 : s.slotsUsed + len ≤ e.platform.maxSlots)
    (hq : Q s.heap.size d acts (s.pushCell { cls := c, slots := Array.replicate len ini, vm := .none })) :
    wp (Jvm.newArray c len ini) Q E e d acts s := by
  have hfits : ∀ i v, (Array.replicate len ini)[i]? = some v → s.fitsSlot c .none i v = true := by
    intro i v hv
    simp only [Array.getElem?_replicate] at hv
    split at hv
    · cases hv; simp [State.fitsSlot, State.slotType?, hk, hkind, hfit]
    · cases hv
  have hda : allocActs (Array.replicate len ini) s.heap.size acts = acts := by
    have hall : ((Array.replicate len ini).all (·.isDefault)) = true := by
      rw [Array.all_replicate]; split <;> simp [hdef]
    unfold allocActs; rw [if_pos hall]
  simp only [Jvm.newArray, Jvm.arrayFits, wp_bind', W.ask, W.ite, hlimit, if_false, wp_pure', W.theClass, hk, hkind, hheap, W.alloc, W.stop, Option.some.injEq, exists_eq_left', Array.size_replicate, hda]
  rw [if_neg (by omega)]
  exact ⟨h1, h2, hfits, hq⟩
/-- the heap behind a new array -/
theorem gz_pushA {m : gM} {T : State} {t N : Nat} {ini : Value} (hR : gz_R Z G m T.heap) (hz : gZ m ≠ 0) (hdv : ini = gz_df (gz_et t)) (hlc : ∀ (K N : Nat → Nat) (P : Nat → Nat → Nat), Z.2.2.2.2 K N P) : gz_R Z G (gz_al m (t + 101) N N) (T.pushCell { cls := gz_dA G t, slots := Array.replicate N ini, vm := .none }).heap := by
  have hk0 : (gz_al m (t + 101) N N).1 m.2.2.2.2.2.1 = t + 101 := by simp [gz_al]
  have hn0 : (gz_al m (t + 101) N N).2.1 m.2.2.2.2.2.1 = N := by simp [gz_al]
  obtain ⟨s1, s2, s3⟩ := hR.2.2.2.1 hz
  refine hR.push hz (State.heap_size_pushCell _ _) (fun q hq => State.heap_pushCell_of_lt _ _ hq) ⟨fun ci' h' hlt => ?_, fun t' ht => ?_⟩ (fun _ _ => hlc _ _ _)
  · rw [hk0] at h'
    omega
  · rw [hk0] at ht
    have : t' = t := by omega
    subst this
    rw [← s1, State.heap_pushCell_size, arrV_new, hn0]
    congr 2
    funext j
    exact hdv.trans gz_al_v.symm
theorem gz_mk1 {t N : Nat} {ty : FieldType} {cc : ClassId} {k : Class} {count : Int32} (hk : X.2.2.2.2.1.vm.classes[gz_dA G t]? = some k) (hkind : k.kind = .array cc ty) (hn : ¬ count < 0 ∧ count.toNatClampNeg = N) (hb : N * componentBytes ty ≤ 536870912) (hN : N ≤ 536870912) (hdf : fits ty (defaultValue ty) = true) (hdd : (defaultValue ty).isDefault = true) (hdv : defaultValue ty = gz_df (gz_et t)) (hlc : ∀ (K N : Nat → Nat) (P : Nat → Nat → Nat), Z.2.2.2.2 K N P) :
    gz_Mk Z X G (gz_dA G t) [count] (fun m => gz_al m (t + 101) N N) 1 N := by
  refine ⟨fun m => ⟨rfl, rfl, fun d hd => ?_⟩, ?_⟩
  · have : d ≠ m.2.2.2.2.2.1 := Nat.ne_of_lt hd
    simp [gz_al, this]
  · intro m T locs cs Y hR hz hA hc hs
    obtain ⟨k', hk', he⟩ := Y.warmed.alike.2.2 _ _ hk
    have hkind' : k'.kind = .array cc ty := by rw [he]; exact hkind
    obtain ⟨hn1, hn2⟩ := hn
    subst hn2
    obtain ⟨hr1, hr2⟩ := Y.roomAbove hc hs
    have hl : ¬ count.toNatClampNeg > X.2.2.1.platform.arrayLengthLimit := by rw [Launch.admits_arrayLengthLimit Y.admits]; omega
    have hh : ¬ count.toNatClampNeg * componentBytes ty > X.2.2.1.platform.maxHeapBytes := by rw [Launch.admits_maxHeapBytes Y.admits]; omega
    have hsz : T.heap.size = gz_ad G (gZ m) := (hR.2.2.2.1 hz).1
    have Y' := Y.pushed ({ cls := gz_dA G t, slots := Array.replicate count.toNatClampNeg (defaultValue ty), vm := .none } : Cell)
    have e1 : (Array.replicate count.toNatClampNeg (defaultValue ty)).size = count.toNatClampNeg := by simp
    dsimp only at Y'
    rw [e1] at Y'
    refine ⟨_, locs, Y', gz_pushA hR hz hdv hlc, hA, rfl, fun g E d acts Q hq => ?_⟩
    rw [multianewarray.make]
    simp only [wp_bind', W.ite, hn1, if_false, wp_pure', W.theClass, State.vm_setTop, hk', hkind', Option.some.injEq, exists_eq_left']
    refine gz_wpNew (s := T.setTop g) hk' hkind' hl hh hdf hdd (by show T.heap.size < _; omega) (by show T.slotsUsed + _ ≤ _; omega) ?_
    have h9 := hq d acts
    rw [← hsz] at h9
    exact h9
theorem gz_mkN_f {t N : Nat} {f : gM → gM} {k n : Nat} (hf : ∀ m : gM, gZ (f m) = gZ m + k ∧ gW (f m) = gW m + n ∧ ∀ d : Nat, d < gZ m → (f m).1 d = m.1 d ∧ (f m).2.1 d = m.2.1 d) (m : gM) : ∀ i : Nat, gZ (gz_mkN t N f m i) = gZ m + 1 + i * k ∧ gW (gz_mkN t N f m i) = gW m + N + i * n ∧ (∀ d : Nat, d < gZ m → (gz_mkN t N f m i).1 d = m.1 d ∧ (gz_mkN t N f m i).2.1 d = m.2.1 d) ∧ (gz_mkN t N f m i).1 (gZ m) = t + 101 ∧ (gz_mkN t N f m i).2.1 (gZ m) = N
  | 0 => by
    refine ⟨by show gZ m + 1 = _; omega, by show gW m + N = _; omega, fun d hd => ?_, by simp [gz_mkN, gz_al], by simp [gz_mkN, gz_al]⟩
    have : d ≠ m.2.2.2.2.2.1 := Nat.ne_of_lt hd
    simp [gz_mkN, gz_al, this]
  | i + 1 => by
    obtain ⟨a, b, c, d1, d2⟩ := gz_mkN_f hf m i
    obtain ⟨x, y, z⟩ := hf (gz_mkN t N f m i)
    refine ⟨?_, ?_, fun d hd => ?_, ?_, ?_⟩
    · show gZ (f (gz_mkN t N f m i)) = _
      rw [x, a, Nat.succ_mul]; omega
    · show gW (f (gz_mkN t N f m i)) = _
      rw [y, b, Nat.succ_mul]; omega
    · obtain ⟨p, q⟩ := z d (by rw [a]; omega)
      exact ⟨p.trans (c d hd).1, q.trans (c d hd).2⟩
    · exact (z (gZ m) (by rw [a]; omega)).1.trans d1
    · exact (z (gZ m) (by rw [a]; omega)).2.trans d2
theorem gz_mkN_ok {t N : Nat} {ty : FieldType} {c' : ClassId} {kc : Class} {count d0 : Int32} {ds : List Int32} {f : gM → gM} {k n : Nat} (hk : X.2.2.2.2.1.vm.classes[gz_dA G t]? = some kc) (hkind : kc.kind = .array c' ty) (href : ty.isReference = true) (ht5 : gz_et t = 2) (hn : ¬ count < 0 ∧ count.toNatClampNeg = N) (hb : N * componentBytes ty ≤ 536870912) (hN : N ≤ 536870912) (hfit : fits ty .null = true ∧ ∀ a, fits ty (.ref a) = true) (hds : (d0 :: ds).find? (· < 0) = none) (hlc : ∀ (K N : Nat → Nat) (P : Nat → Nat → Nat), Z.2.2.2.2 K N P)
    (hin : gz_Mk Z X G c' (d0 :: ds) f k n) : gz_Mk Z X G (gz_dA G t) (count :: d0 :: ds) (fun m => gz_mkN t N f m N) (1 + N * k) (N + N * n) := by
  refine ⟨fun m => ?_, ?_⟩
  · obtain ⟨a, b, c, -, -⟩ := gz_mkN_f (t := t) (N := N) hin.1 m N
    exact ⟨by rw [a]; omega, by rw [b]; omega, c⟩
  · intro m T locs cs Y hR hz hA hc hs
    obtain ⟨k', hk', he⟩ := Y.warmed.alike.2.2 _ _ hk
    have hkind' : k'.kind = .array c' ty := by rw [he]; exact hkind
    obtain ⟨hn1, hn2⟩ := hn
    obtain ⟨hr1, hr2⟩ := Y.roomAbove hc hs
    have hl : ¬ count.toNatClampNeg > X.2.2.1.platform.arrayLengthLimit := by rw [Launch.admits_arrayLengthLimit Y.admits]; omega
    have hh : ¬ count.toNatClampNeg * componentBytes ty > X.2.2.1.platform.maxHeapBytes := by rw [Launch.admits_maxHeapBytes Y.admits, hn2]; omega
    obtain ⟨s1, s2, s3⟩ := hR.2.2.2.1 hz
    have hsz : T.heap.size = gz_ad G (gZ m) := s1
    have Y0 := Y.pushed ({ cls := gz_dA G t, slots := Array.replicate count.toNatClampNeg .null, vm := .none } : Cell)
    have e1 : (Array.replicate count.toNatClampNeg Value.null).size = N := by simp [hn2]
    dsimp only at Y0
    rw [e1] at Y0
    have hR0 : gz_R Z G (gz_mkN t N f m 0) (T.pushCell { cls := gz_dA G t, slots := Array.replicate count.toNatClampNeg .null, vm := .none }).heap := by
      rw [hn2]
      exact gz_pushA hR hz (by rw [ht5]; rfl) hlc
    generalize hT0 : T.pushCell { cls := gz_dA G t, slots := Array.replicate count.toNatClampNeg .null, vm := .none } = T0 at Y0 hR0
    have hv0 : T0.vm = T.vm := by rw [← hT0]; rfl
    have loop : ∀ i : Nat, i ≤ N → ∃ (T' : State) (locs' : List Loc), Stand X.1 X.2.1 X.2.2.1 X.2.2.2.1 X.2.2.2.2.1 X.2.2.2.2.2.1 X.2.2.2.2.2.2.1 X.2.2.2.2.2.2.2.1 X.2.2.2.2.2.2.2.2.1 X.2.2.2.2.2.2.2.2.2.1 T' locs' (cs.1 + 1 + i * k) (cs.2 + N + i * n) ∧ gz_R Z G (gz_mkN t N f m i) T'.heap ∧ (∀ q ∈ locs', gz_A G q.base) ∧ T'.vm = T.vm ∧
        ∀ (body : Nat → PUnit → Sem (ForInStep PUnit)) (g : JFrame) (E : CtlPost) (d : Bool) (acts : List Action) (Q : PUnit → Pre), (∀ (x : Nat) (d1 : Bool) (acts1 : List Action) (u : State) (Q1 : ForInStep PUnit → Pre), wp (multianewarray.make c' (d0 :: ds)) (fun a d2 acts2 u2 => wp (Jvm.writeLoc T.heap.size x (.ref a)) (fun _ d3 acts3 u3 => Q1 (ForInStep.yield PUnit.unit) d3 acts3 u3) E X.2.2.1 d2 acts2 u2) E X.2.2.1 d1 acts1 u → wp (body x PUnit.unit) Q1 E X.2.2.1 d1 acts1 u) →
          (∀ (d' : Bool) (acts' : List Action), wp (forIn (List.range' i (N - i)) PUnit.unit body) Q E X.2.2.1 d' acts' (T'.setTop g)) → wp (forIn (List.range' 0 N) PUnit.unit body) Q E X.2.2.1 d acts (T0.setTop g) := by
      intro i
      induction i with
      | zero =>
        intro _
        exact ⟨T0, locs, by rw [Nat.zero_mul, Nat.zero_mul]; exact Y0, hR0, hA, hv0, fun body g E d acts Q _ h => h d acts⟩
      | succ x ih =>
        intro hlt
        obtain ⟨T', locs', Y', hR', hA', hv', go⟩ := ih (by omega)
        obtain ⟨f1, f2, f3, f4, f5⟩ := gz_mkN_f (t := t) (N := N) hin.1 m x
        have hmk : x * k + k ≤ N * k := by
          have := Nat.mul_le_mul_right k (show x + 1 ≤ N from hlt)
          rw [Nat.succ_mul] at this; exact this
        have hmn : x * n + n ≤ N * n := by
          have := Nat.mul_le_mul_right n (show x + 1 ≤ N from hlt)
          rw [Nat.succ_mul] at this; exact this
        have hneq : gZ (gz_mkN t N f m x) ≠ 0 := by rw [f1]; omega
        obtain ⟨T2, locs2, Y2, hR2, hA2, hv2, go2⟩ := hin.2 (gz_mkN t N f m x) T' locs' (cs.1 + 1 + x * k, cs.2 + N + x * n) Y' hR' hneq hA' (by show cs.1 + 1 + x * k + k ≤ _; omega) (by show cs.2 + N + x * n + n ≤ _; omega)
        obtain ⟨g1, g2, g3⟩ := hin.1 (gz_mkN t N f m x)
        have hkz : (f (gz_mkN t N f m x)).1 (gZ m) = t + 101 := ((g3 (gZ m) (by rw [f1]; omega)).1).trans f4
        have hnz : (f (gz_mkN t N f m x)).2.1 (gZ m) = N := ((g3 (gZ m) (by rw [f1]; omega)).2).trans f5
        have hcell := (hR2.1 (gZ m)).2 t hkz
        rw [hnz, ← hsz] at hcell
        obtain ⟨k2, hk2, he2⟩ := Y2.warmed.alike.2.2 _ _ hk
        have hkind2 : k2.kind = .array c' ty := by rw [he2]; exact hkind
        refine ⟨T2.setCell T.heap.size ((arrV (gz_dA G t) N fun j => gz_u (gz_ad G) (f (gz_mkN t N f m x)) (gz_et t) (gZ m) j).setSlot x (.ref (gz_ad G (gZ (gz_mkN t N f m x))))), locs2 ++ [⟨T.heap.size, x⟩], ?_, ?_, ?_, hv2.trans hv', ?_⟩
        · have h8 := Y2.stored hcell x (.ref (gz_ad G (gZ (gz_mkN t N f m x))))
          have e3 : cs.1 + 1 + (x + 1) * k = cs.1 + 1 + x * k + k := by rw [Nat.succ_mul]; omega
          have e4 : cs.2 + N + (x + 1) * n = cs.2 + N + x * n + n := by rw [Nat.succ_mul]; omega
          rw [e3, e4]
          exact h8
        · have hput : (T2.setCell T.heap.size ((arrV (gz_dA G t) N fun j => gz_u (gz_ad G) (f (gz_mkN t N f m x)) (gz_et t) (gZ m) j).setSlot x (.ref (gz_ad G (gZ (gz_mkN t N f m x)))))).heap[T.heap.size]? = some ((arrV (gz_dA G t) N fun j => gz_u (gz_ad G) (f (gz_mkN t N f m x)) (gz_et t) (gZ m) j).setSlot x (.ref (gz_ad G (gZ (gz_mkN t N f m x))))) := State.heap_setCell_self hcell
          refine hR2.put (μ' := gz_sP (f (gz_mkN t N f m x)) (gZ m) x (gZ (gz_mkN t N f m x))) (c := gZ m) rfl rfl rfl (fun dd tc j h => gz_sP_o dd tc j h) (by rw [hkz]; exact Nat.succ_ne_zero _) s2 (by simp [State.setCell]) (fun q hq => State.heap_setCell_other (by rw [hsz]; exact fun h => hq h.symm)) ⟨fun ci' hci' hlt' => ?_, fun t' ht' => ?_⟩ (fun _ => hlc _ _ _)
          · have : (f (gz_mkN t N f m x)).1 (gZ m) = ci' + 1 := hci'
            omega
          · have ht2 : (f (gz_mkN t N f m x)).1 (gZ m) = t' + 101 := ht'
            have : t' = t := by omega
            subst this
            have hn3 : (gz_sP (f (gz_mkN t' N f m x)) (gZ m) x (gZ (gz_mkN t' N f m x))).2.1 (gZ m) = N := hnz
            rw [← hsz, hput, arrV_store, hn3]
            congr 2
            funext j
            have h7 := (gz_sP_v (ad := gz_ad G) (μ := f (gz_mkN t' N f m x)) (c := gZ m) (x := gZ (gz_mkN t' N f m x)) (fun _ => gz_et t') ht5 (k := x) j).symm
            rw [gz_rfp hneq] at h7
            exact h7
        · intro q hq'
          rcases List.mem_append.mp hq' with h | h
          · exact hA2 q h
          · rw [List.mem_singleton.mp h]
            show gz_A G T.heap.size
            rw [hsz]
            exact (s3 _ (Nat.le_refl _)).2.2
        · intro body g E d acts Q hb h
          refine go body g E d acts Q hb fun d1 acts1 => ?_
          rw [show N - x = (N - (x + 1)) + 1 from by omega, List.range'_succ]
          simp only [List.forIn_cons, wp_bind']
          refine hb x d1 acts1 _ _ (go2 g E d1 acts1 _ fun d2 acts2 => ?_)
          simp only [W.writeLoc]
          refine ⟨_, hcell, (by simp [arrV]), by rw [arrV_size]; exact hlt, ?_, ?_⟩
          · simp [State.fitsSlot, State.slotType?, arrV, hk2, hkind2, hfit.2]
          · exact h _ _
    obtain ⟨T', locs', Y', hR', hA', hv', go⟩ := loop N (Nat.le_refl _)
    have e3 : cs.1 + 1 + N * k = cs.1 + (1 + N * k) := by omega
    have e4 : cs.2 + N + N * n = cs.2 + (N + N * n) := by omega
    rw [e3, e4] at Y'
    refine ⟨T', locs', Y', hR', hA', hv', fun g E d acts Q hq => ?_⟩
    rw [multianewarray.make]
    simp only [wp_bind', W.ite, hn1, if_false, wp_pure', W.theClass, State.vm_setTop, hk', hkind', Option.some.injEq, exists_eq_left']
    refine gz_wpNew (s := T.setTop g) hk' hkind' hl hh hfit.1 rfl (by show T.heap.size < _; omega) (by show T.slotsUsed + _ ≤ _; rw [hn2]; omega) ?_
    simp only [hds]
    rw [ite_self, wp_bind', Std.Legacy.Range.forIn_eq_forIn_range']
    have hsz2 : ([:count.toNatClampNeg] : Std.Legacy.Range).size = N := by simp [Std.Legacy.Range.size, hn2]
    rw [hsz2]
    show wp (forIn (List.range' 0 N 1) PUnit.unit _) _ E _ d acts ((T.pushCell { cls := gz_dA G t, slots := Array.replicate count.toNatClampNeg .null, vm := .none }).setTop g)
    rw [hT0]
    refine go _ g E d acts _ (fun x d1 acts1 u Q1 h => ?_) fun d' acts' => ?_
    · simp only [wp_bind', wp_pure']
      exact h
    · rw [Nat.sub_self]
      simp only [List.range'_zero, List.forIn_nil, wp_pure']
      have h9 := hq d' acts'
      rw [← hsz] at h9
      exact h9
end GMU
section GMU2
variable {Z : gz_S} {X : gz_X} {G : gz_G} {cc : ByteArray} {nL : Nat} {own : String} {fr lo : Nat} {rem : Nat × Nat} {μ : gM} {pc : Nat} {lv : List (Nat × Value)} {st : List Value}
theorem gz_multi2 (hX : gz_C Z X G cc nL own fr lo) {index t : Nat} {nm : String} {a b : Int32} {f : gM → gM} {k n : Nat} {μ' : gM} (hlink : Cond.classLink own index nm ∈ lw_all) (hnm : X.2.2.2.2.1.vm.findClass nm = some (gz_dA G t)) (hMk : gz_Mk Z X G (gz_dA G t) [a, b] f k n) (hz : gZ μ ≠ 0) (hd : decode cc pc = .ok (.multianewarray index 2, 4)) (hm : μ' = f μ) (kk : gz_V Z X G nL rem μ' (pc + 4) lv (.ref (gz_ad G (gZ μ)) :: st)) : gz_V Z X G nL (rem.1 + k, rem.2 + n) μ pc lv (.int b :: .int a :: st) := by
  intro H locs ls cs hR hC hA hl T hT Y
  subst hm
  subst hT
  obtain ⟨c1, c2⟩ := hC
  dsimp only at c1 c2
  have hpl : X.2.2.1.platform.magicAccessors = ({} : Platform).magicAccessors := by rw [Y.admits.platform]
  obtain ⟨c0, hfc0, hcl⟩ := Cond.classLink_spec hX.2.2.2.1 (hX.2.2.2.2.1 _ hlink) X.2.2.1.platform hpl
  cases Option.some.inj (hnm.symm.trans hfc0)
  obtain ⟨hg₁, hwarm₁, hready₁⟩ := State.classEntry (e := X.2.2.1) Y.warmed hcl
  have Y₁ := Y.noted hwarm₁
  have hdg : decode X.2.2.2.2.2.2.2.2.2.1.code pc = .ok (.multianewarray index 2, 4) := by rw [hX.2.1]; exact hd
  generalize hvm : T.vm.noted X.2.2.2.2.2.1.cls index (.cls (gz_dA G t)) = vm₁ at hg₁ hwarm₁ hready₁ Y₁
  obtain ⟨T', locs', Y', hR', hA', hv', go⟩ := hMk.2 μ (T.setVm vm₁) locs cs Y₁ hR hz hA (by omega) (by omega)
  obtain ⟨t2, a1, b1⟩ := kk T'.heap locs' ls (cs.1 + k, cs.2 + n) hR' ⟨by dsimp only; omega, by dsimp only; omega⟩ hA' hl T' rfl Y'
  refine ⟨t2, ?_, b1⟩
  jvm_step Y.here [hX.1, hdg]
  simp only [multianewarray.sem, wp_bind', W.resolveClassAt_links (State.method?_setTop (F0 X.2.2.2.2.2.1 pc ls (.int b :: .int a :: st)) Y.here.top) hg₁]
  rw [W.popN, if_neg (by decide)]
  refine ⟨F0 X.2.2.2.2.2.1 pc ls (.int b :: .int a :: st), State.topJava?_setTop' (s := T.setVm vm₁) _ Y.here.top, [.int a, .int b], st, rfl, rfl, ?_⟩
  simp only [List.mapM_cons, List.mapM_nil, wp_bind', wp_pure']
  have eS : ((T.setTop (F0 X.2.2.2.2.2.1 pc ls (.int b :: .int a :: st))).setVm vm₁).setTop (F0 X.2.2.2.2.2.1 pc ls st) = (T.setVm vm₁).setTop (F0 X.2.2.2.2.2.1 pc ls st) := by
    show ((T.setVm vm₁).setTop _).setTop _ = _
    rw [State.setTop_setTop]
  show wp (multianewarray.make (gz_dA G t) [a, b]) _ _ _ _ _ (((T.setTop (F0 X.2.2.2.2.2.1 pc ls (.int b :: .int a :: st))).setVm vm₁).setTop (F0 X.2.2.2.2.2.1 pc ls st))
  rw [eS]
  refine go (F0 X.2.2.2.2.2.1 pc ls st) _ _ _ _ fun d' acts' => ?_
  simp only [wp_bind', W.mark, W.pushRef, State.topJava?_setTop' _ Y'.here.top, Option.some.injEq, exists_eq_left', State.setTop_setTop, State.heap_setTop]
  intro acts
  simp [jvm, Y'.here.top]
  exact a1
end GMU2
section GMU3
variable {Z : gz_S} {X : gz_X} {G : gz_G} {cc : ByteArray} {nL : Nat} {own : String} {fr lo : Nat} {rem : Nat × Nat} {μ : gM} {pc : Nat} {lv : List (Nat × Value)} {st : List Value}
theorem gz_multi3 (hX : gz_C Z X G cc nL own fr lo) {index t : Nat} {nm : String} {a b c : Int32} {f : gM → gM} {k n : Nat} {μ' : gM} (hlink : Cond.classLink own index nm ∈ lw_all) (hnm : X.2.2.2.2.1.vm.findClass nm = some (gz_dA G t)) (hMk : gz_Mk Z X G (gz_dA G t) [a, b, c] f k n) (hz : gZ μ ≠ 0) (hd : decode cc pc = .ok (.multianewarray index 3, 4)) (hm : μ' = f μ) (kk : gz_V Z X G nL rem μ' (pc + 4) lv (.ref (gz_ad G (gZ μ)) :: st)) : gz_V Z X G nL (rem.1 + k, rem.2 + n) μ pc lv (.int c :: .int b :: .int a :: st) := by
  intro H locs ls cs hR hC hA hl T hT Y
  subst hm
  subst hT
  obtain ⟨c1, c2⟩ := hC
  dsimp only at c1 c2
  have hpl : X.2.2.1.platform.magicAccessors = ({} : Platform).magicAccessors := by rw [Y.admits.platform]
  obtain ⟨c0, hfc0, hcl⟩ := Cond.classLink_spec hX.2.2.2.1 (hX.2.2.2.2.1 _ hlink) X.2.2.1.platform hpl
  cases Option.some.inj (hnm.symm.trans hfc0)
  obtain ⟨hg₁, hwarm₁, hready₁⟩ := State.classEntry (e := X.2.2.1) Y.warmed hcl
  have Y₁ := Y.noted hwarm₁
  have hdg : decode X.2.2.2.2.2.2.2.2.2.1.code pc = .ok (.multianewarray index 3, 4) := by rw [hX.2.1]; exact hd
  generalize hvm : T.vm.noted X.2.2.2.2.2.1.cls index (.cls (gz_dA G t)) = vm₁ at hg₁ hwarm₁ hready₁ Y₁
  obtain ⟨T', locs', Y', hR', hA', hv', go⟩ := hMk.2 μ (T.setVm vm₁) locs cs Y₁ hR hz hA (by omega) (by omega)
  obtain ⟨t2, a1, b1⟩ := kk T'.heap locs' ls (cs.1 + k, cs.2 + n) hR' ⟨by dsimp only; omega, by dsimp only; omega⟩ hA' hl T' rfl Y'
  refine ⟨t2, ?_, b1⟩
  jvm_step Y.here [hX.1, hdg]
  simp only [multianewarray.sem, wp_bind', W.resolveClassAt_links (State.method?_setTop (F0 X.2.2.2.2.2.1 pc ls (.int c :: .int b :: .int a :: st)) Y.here.top) hg₁]
  rw [W.popN, if_neg (by decide)]
  refine ⟨F0 X.2.2.2.2.2.1 pc ls (.int c :: .int b :: .int a :: st), State.topJava?_setTop' (s := T.setVm vm₁) _ Y.here.top, [.int a, .int b, .int c], st, rfl, rfl, ?_⟩
  simp only [List.mapM_cons, List.mapM_nil, wp_bind', wp_pure']
  have eS : ((T.setTop (F0 X.2.2.2.2.2.1 pc ls (.int c :: .int b :: .int a :: st))).setVm vm₁).setTop (F0 X.2.2.2.2.2.1 pc ls st) = (T.setVm vm₁).setTop (F0 X.2.2.2.2.2.1 pc ls st) := by
    show ((T.setVm vm₁).setTop _).setTop _ = _
    rw [State.setTop_setTop]
  show wp (multianewarray.make (gz_dA G t) [a, b, c]) _ _ _ _ _ (((T.setTop (F0 X.2.2.2.2.2.1 pc ls (.int c :: .int b :: .int a :: st))).setVm vm₁).setTop (F0 X.2.2.2.2.2.1 pc ls st))
  rw [eS]
  refine go (F0 X.2.2.2.2.2.1 pc ls st) _ _ _ _ fun d' acts' => ?_
  simp only [wp_bind', W.mark, W.pushRef, State.topJava?_setTop' _ Y'.here.top, Option.some.injEq, exists_eq_left', State.setTop_setTop, State.heap_setTop]
  intro acts
  simp [jvm, Y'.here.top]
  exact a1
end GMU3
