/-! ===== methods that return, or throw the one Fault (cell 1012) ===== -/
/-- the Fault is thrown over the frame at pc with locals lv -/
def gz_VX (Z : gz_S) (X : gz_X) (G : gz_G) (nL : Nat) (rem : Nat × Nat) (μ : gM) (pc : Nat) (lv : List (Nat × Value)) : Prop :=
  ∀ (H : Heap) (locs : List Loc) (ls : Array Slot) (cs : Nat × Nat) (st : List Value), gz_R Z G μ H → (cs.1 + rem.1 = X.2.2.2.1.cells ∧ cs.2 + rem.2 = X.2.2.2.1.slots) → (∀ q ∈ locs, gz_A G q.base) → lv_has ls nL lv →
    vq_W X.1 X.2.1 X.2.2.1 X.2.2.2.1 X.2.2.2.2.1 X.2.2.2.2.2.1 X.2.2.2.2.2.2.1 X.2.2.2.2.2.2.2.1 X.2.2.2.2.2.2.2.2.1 X.2.2.2.2.2.2.2.2.2.1 H locs cs.1 cs.2 X.2.2.2.2.2.2.2.2.2.2 (F0 X.2.2.2.2.2.1 pc ls st) (gz_ad G 1012)
/-- v: what is returned (none: no value), or none: thrown -/
abbrev gx_Qc (Z : gz_S) (G : gz_G) (μ' : gM) (v : Option (Option Value)) : Array Value → State → Outcome → State → Prop := fun _ _ o t => (∃ rv : Option Value, v = some rv ∧ o = .returned rv) ∧ gz_R Z G μ' t.heap
abbrev gx_XC (Z : gz_S) (G : gz_G) (μ' : gM) (v : Option (Option Value)) : String → Addr → State → State → Prop := fun E q _ t => v = none ∧ E = "FirstSnuffer$Fault" ∧ q = gz_ad G 1012 ∧ gz_R Z G μ' t.heap
def gx_Met (Z : gz_S) (G : gz_G) (l : Launch) (y : MethodName) (bytes : ByteArray) (maxL : Nat) (ret : Option FieldType) (rm : Room) (as : List Value) (μ μ' : gM) (v : Option (Option Value)) : Prop :=
  vq_Met l y (ws_ y bytes maxL ret) rm (va_Pc as (fun U => gz_R Z G μ U.heap ∧ gz_K Z G U)) (gx_Qc Z G μ' v) (gx_XC Z G μ' v) rm.cells rm.slots (gz_A G)
section GXM
variable {Z : gz_S} {G : gz_G} {l : Launch} {y : MethodName} {cc : ByteArray} {nL : Nat} {rm : Room} {as : List Value} {μ μ' : gM}
theorem gx_of {ret : Option FieldType} {v : Option (Option Value)} (hy : plainName y.cls = true) (hsz : (lg_sl as).length ≤ nL)
    (body : ∀ (p : Program) (e : Env) (s : State) (m : MethodId) (args : Array Value) (below : List Frame) (meth : Method) (c : Code) (X : gz_X), X = (p, l, e, rm, s, m, args, below, meth, c, vq_MQ below (gx_Qc Z G μ' v) (gx_XC Z G μ' v) args s rm.cells rm.slots (gz_A G)) → p.tables.exec = Jvm.exec → c.code = cc → meth.sig.returnType = ret → meth.locks = false → gz_C Z X G cc nL y.cls rm.frames rm.locals → (∀ x ∈ c.exceptionTable.toList, False) → gz_V Z X G nL (rm.cells, rm.slots) μ 0 (lv_args 0 as) []) :
    gx_Met Z G l y cc nL ret rm as μ μ' v := by
  unfold gx_Met
  refine vq_ofW hy rfl ?_
  intro p e s m args below meth c s₁ B hml ht hv
  obtain ⟨rfl, hR, hK⟩ := hv
  have hts := atoms_spec (ws := ws_ y cc nL ret) B.pre
  have hts : ∀ w ∈ lw_all, w.before _ s = true := fun w h => hts w (List.mem_cons_of_mem _ h)
  have hown : s.vm.findClass y.cls = some m.cls := findClass_of_methodNamed B.named
  have key := body p e s m _ below meth c _ rfl B.exec B.bytes B.returns B.notSynchronized ⟨B.exec, B.bytes, hml, hown, hts, hK, Nat.le_refl _, Nat.le_refl _⟩ ht s.heap [] _ (0, 0) hR ⟨Nat.zero_add _, Nat.zero_add _⟩ (fun q h => by cases h) (lv_entry as hsz)
  intro T hT Y
  obtain ⟨t, a1, b1⟩ := key T hT Y
  rw [← lg_entry_eq] at a1
  exact ⟨t, a1, b1⟩
/-- thrown out of a method without handlers -/
theorem gx_out {v : Option (Option Value)} {p : Program} {e : Env} {s : State} {m : MethodId} {args : Array Value} {below : List Frame} {meth : Method} {c : Code} (hv : v = none) (hx : ∀ x ∈ c.exceptionTable.toList, False) (hlk : meth.locks = false) {fr lo : Nat} {own : String}
    (hC : gz_C Z (p, l, e, rm, s, m, args, below, meth, c, vq_MQ below (gx_Qc Z G μ' v) (gx_XC Z G μ' v) args s rm.cells rm.slots (gz_A G)) G cc nL own fr lo) (hc : Z.1[3]? = some (RX3, TX3, 2 + 6) ∨ ∃ q : vw_C, Z.1[3]? = some q ∧ q.1 = "FirstSnuffer$Fault") (hk : Z.2.2.2.2 μ'.1 μ'.2.1 μ'.2.2.2.2.1 → μ'.1 1012 = 4) (rem : Nat × Nat) (pc : Nat) (lv : List (Nat × Value)) :
    gz_VX Z (p, l, e, rm, s, m, args, below, meth, c, vq_MQ below (gx_Qc Z G μ' v) (gx_XC Z G μ' v) args s rm.cells rm.slots (gz_A G)) G nL rem μ' pc lv := by
  intro H locs ls cs st hR hcs hA hl
  have hq : ∃ q : vw_C, Z.1[3]? = some q ∧ q.1 = "FirstSnuffer$Fault" := by
    rcases hc with h | h
    · exact ⟨_, h, rfl⟩
    · exact h
  obtain ⟨q, hq1, hq2⟩ := hq
  obtain ⟨r, hr, cell, q1, q2, q3, -⟩ := (hR.1 1012).1 3 (hk hR.2.2.2.2.2) (by decide)
  have hfc := (hC.2.2.2.2.2.1.1.1 3 q hq1).2.1
  rw [hq2, ← q2] at hfc
  obtain ⟨c1, c2⟩ := hcs
  have c1 : cs.1 + rem.1 = rm.cells := c1
  have c2 : cs.2 + rem.2 = rm.slots := c2
  exact vq_out (E := "FirstSnuffer$Fault") (ce := cell) (fun x h => (hx x h).elim) hlk q1 q3 hfc (fun t ht _ => ⟨hv, rfl, rfl, by rw [ht]; exact hR⟩) hA (by omega) (by omega)
end GXM
section GXC
variable {Z : gz_S} {X : gz_X} {G : gz_G} {cc : ByteArray} {nL : Nat} {own : String} {fr lo : Nat} {rem : Nat × Nat} {μ : gM} {pc : Nat} {lv : List (Nat × Value)} {st : List Value}
theorem gz_athrow (hX : gz_C Z X G cc nL own fr lo) (hd : decode cc pc = .ok (.athrow, 1)) (kk : gz_VX Z X G nL rem μ pc lv) : gz_V Z X G nL rem μ pc lv (.ref (gz_ad G 1012) :: st) :=
  fun H locs ls cs hR hC hA hl => vq_athrow hX.1 hX.2.1 hd (kk H locs ls cs st hR hC hA hl)
/-- a call of a method that may throw -/
theorem gz_callX (hX : gz_C Z X G cc nL own fr lo) (hE : gz_Es Z) {y : MethodName} {bytes : ByteArray} {maxL n index ci c : Nat} {ret : Option FieldType} {rm : Room} {As rest st0 : List Value} {μ' : gM} {v : Option (Option Value)} {q : vw_C}
    (hM : gx_Met Z G X.2.1 y bytes maxL ret rm (.ref (gz_ad G c) :: As) μ μ' v) (hw : GoodIn lw_all (wsV own index q.1 y (ws_ y bytes maxL ret)))
    (hdd : y.cls = q.1 ∧ y.cls ≠ "java/lang/invoke/MethodHandle" ∧ y.cls ≠ "java/lang/invoke/VarHandle" ∧ (parseMethodDescriptor y.desc).map (fun d => d.parameters.length) = some n) (hroom : rm.frames + 1 ≤ fr ∧ 8 + (maxL + 11) + rm.locals ≤ lo) (hn : As.length = n)
    (hc : Z.1[ci]? = some q) (hci : ci < 100) (hk : Z.2.2.2.2 μ.1 μ.2.1 μ.2.2.2.2.1 → μ.1 c = ci + 1) (hst : st0 = As.reverse ++ .ref (gz_ad G c) :: rest) (hW : (rest.map fun v => v.category).sum ≤ 8) (hd : decode cc pc = .ok (.invokevirtual index, 3))
    (kk : ∀ rv : Option Value, v = some rv → gz_V Z X G nL rem μ' (pc + 3) lv (rv.toList ++ rest)) (kx : v = none → gz_VX Z X G nL rem μ' pc lv) : gz_V Z X G nL (rem.1 + rm.cells, rem.2 + rm.slots) μ pc lv (st0) := by
  intro H locs ls cs hR hC hA hl
  obtain ⟨h1, h2, h3, h4, h5, h6, h7, h8⟩ := hX
  subst hst
  have hr := vq_runV (As := As) (rest := rest) (g := F0 X.2.2.2.2.2.1 pc ls (As.reverse ++ .ref (gz_ad G c) :: rest)) (H := H) (locs := locs) (cells := cs.1) (slots := cs.2) (below := X.2.2.2.2.2.2.2.1) (meth := X.2.2.2.2.2.2.2.2.1) (e := X.2.2.1) (l := X.2.1) ⟨h1, h2, h3, h4, h5⟩ hM (cwV n h5 hw rfl rfl rfl hdd ⟨Nat.le_trans hroom.1 h7, Nat.le_trans hroom.2 h8⟩) ⟨fun a U g mk z => ⟨z.1, z.2.1, gz_K.same hE g mk a z.2.2⟩, gz_recv h6 hR hc hci (hk hR.2.2.2.2.2), fun U hU hW => ⟨rfl, by rw [hU]; exact hR, gz_K.warm hE hW h6⟩⟩ rfl hn hl.1 rfl (lv_room hW) hd ⟨by have := hC.1; dsimp only at this; omega, by have := hC.2; dsimp only at this; omega⟩
  intro T hT Y
  have hC' : cs.1 + rm.cells + rem.1 = X.2.2.2.1.cells ∧ cs.2 + rm.slots + rem.2 = X.2.2.2.1.slots := by
    have a1 := hC.1
    have a2 := hC.2
    dsimp only at a1 a2
    constructor <;> omega
  rcases hr T hT Y with ⟨v', st₀, t, T', L, h0, Y', hL, e1, e2, ⟨⟨rv, hv, ho⟩, hR'⟩, go⟩ | ⟨q', st₀, t, T', L, E, ce, h0, Y', hL, e1, e2, ⟨hv, hE', hq', hR'⟩, hce, hcv, hcl, go⟩
  · cases ho
    obtain ⟨t2, a1, b1⟩ := kk _ hv T'.heap (locs ++ L) ls (cs.1 + rm.cells, cs.2 + rm.slots) (by rw [e1]; exact hR') hC' (fun q hq => by
      rcases List.mem_append.mp hq with h | h
      · exact hA q h
      · exact hL q h) hl T' rfl Y'
    exact ⟨t2, go t2 a1, b1⟩
  · subst hq'
    obtain ⟨t2, a1, b1⟩ := kx hv T'.heap (locs ++ L) ls (cs.1 + rm.cells, cs.2 + rm.slots) rest (by rw [e1]; exact hR') hC' (fun q hq => by
      rcases List.mem_append.mp hq with h | h
      · exact hA q h
      · exact hL q h) hl T' rfl Y'
    exact ⟨t2, go.trans a1, b1⟩
end GXC
