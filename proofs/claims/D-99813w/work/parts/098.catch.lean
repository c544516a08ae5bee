/-! ===== methods with one handler, that catches the Fault ===== -/
section GXH
variable {Z : gz_S} {X : gz_X} {G : gz_G} {cc : ByteArray} {nL : Nat} {own : String} {fr lo : Nat} {μ : gM} {pc : Nat} {lv : List (Nat × Value)}
theorem gz_catcha {zE : Nat × Nat} {a b h ct : Nat} (hX : gz_C Z X G cc nL own fr lo) (hT : X.2.2.2.2.2.2.2.2.2.1.exceptionTable.toList = tableOf [(a, b, h, ct)]) (hct : ct ≠ 0) (hcov : covers ⟨a, b, h, ct⟩ pc = true) (hZ : Z.1[3]? = some (RX3, TX3, 8)) (hl : Cond.classLink own ct RX3 ∈ lw_all) (hcast : (Cond.castable RX3 RX3).before X.2.2.2.2.2.2.1 X.2.2.2.2.1 = true) (hk : Z.2.2.2.2 μ.1 μ.2.1 μ.2.2.2.2.1 → μ.1 1012 = 3 + 1)
    (kk : gz_Va Z X G nL zE μ h lv [.ref (gz_ad G 1012)]) : gz_VXa Z X G nL zE μ pc lv := by
  obtain ⟨k1, k2⟩ := kk
  refine ⟨k1, ?_⟩
  intro H locs ls cs st hR hC hA hl'
  obtain ⟨r, hr, cell, q1, q2, q3, -⟩ := (hR.1 1012).1 3 (hk hR.2.2.2.2.2) (by decide)
  have hfc := (hX.2.2.2.2.2.1.1.1 3 _ hZ).2.1
  rw [← q2] at hfc
  exact vq_catch (own := own) (name := RX3) (E := RX3) (ce := cell) hX.2.2.2.1 [] ⟨a, b, h, ct⟩ [] hT (fun z hz => nomatch hz) hcov hct (hX.2.2.2.2.1 _ hl) hcast q1 q3 hfc (k2 H locs ls cs hR hC hA hl')
end GXH
/-- the contract of a method with handlers -/
def gw_Met (Z : gz_S) (G : gz_G) (l : Launch) (y : MethodName) (bytes : ByteArray) (maxL : Nat) (ret : Option FieldType) (hh : List (Nat × Nat × Nat × Nat)) (rm : Room) (as : List Value) (μ μ' : gM) (v : Option Value) : Prop :=
  Met l y (wsW_ y bytes maxL ret hh) rm (va_Pc as (fun U => gz_R Z G μ U.heap ∧ gz_K Z G U)) (fun _ _ o t => o = .returned v ∧ gz_R Z G μ' t.heap) rm.cells rm.slots (gz_A G)
section GWM
variable {Z : gz_S} {G : gz_G} {l : Launch} {y : MethodName} {cc : ByteArray} {nL : Nat} {rm : Room} {as : List Value} {μ μ' : gM} {hh : List (Nat × Nat × Nat × Nat)}
theorem gw_of {ret : Option FieldType} {v : Option Value} (hy : plainFor y = true) (hsz : (lg_sl as).length ≤ nL)
    (body : ∀ (p : Program) (e : Env) (s : State) (m : MethodId) (args : Array Value) (below : List Frame) (meth : Method) (c : Code) (X : gz_X), X = (p, l, e, rm, s, m, args, below, meth, c, MQ below (fun _ _ o t => o = .returned v ∧ gz_R Z G μ' t.heap) args s rm.cells rm.slots (gz_A G)) → p.tables.exec = Jvm.exec → c.code = cc → meth.sig.returnType = ret → meth.locks = false → gz_C Z X G cc nL y.cls rm.frames rm.locals → c.exceptionTable.toList = tableOf hh → gz_V Z X G nL (rm.cells, rm.slots) μ 0 (lv_args 0 as) []) :
    gw_Met Z G l y cc nL ret hh rm as μ μ' v := by
  unfold gw_Met Met
  refine MetFree.of_bodySF (code := cc) (maxLocals := nL) (ret := ret) hy ?_ ?_
  · intro args s m h hn
    obtain ⟨m9, meth, c, hn9, h1, h2, h3, h4, -, h5, h6, -⟩ := Cond.codeWith_spec (atoms_spec (ws := wsW_ y cc nL ret hh) h _ List.mem_cons_self)
    cases hn.symm.trans hn9
    exact ⟨meth, c, h1, h2, h3, h4, h5, h6⟩
  · intro p e s m args below meth c s₁ B hml hv _
    obtain ⟨rfl, hR, hK⟩ := hv
    have hts0 := atoms_spec (ws := wsW_ y cc nL ret hh) B.pre
    have hts : ∀ w ∈ lw_all, w.before _ s = true := fun w h => hts0 w (List.mem_cons_of_mem _ h)
    have hown : s.vm.findClass y.cls = some m.cls := findClass_of_methodNamed B.named
    have hh0 : s₁.heap = s.heap := by rw [B.state]; rfl
    have htab : c.exceptionTable.toList = tableOf hh := vq_table (x := y) B (hts0 _ List.mem_cons_self)
    obtain ⟨t, a1, o, b1, b2, b3⟩ := body p e s m _ below meth c _ rfl B.exec B.bytes B.returns B.notSynchronized ⟨B.exec, B.bytes, hml, hown, hts, hK, Nat.le_refl _, Nat.le_refl _⟩ htab s.heap [] _ (0, 0) hR ⟨Nat.zero_add _, Nat.zero_add _⟩ (fun q h => by cases h) (lv_entry as hsz) s₁ hh0 (Stand.of_body B)
    rw [← lg_entry_eq] at a1
    exact ⟨t, o, a1, b1, b2, ⟨b3.1, b3.2⟩⟩
theorem gw_ofI {r : Int32} (hy : plainFor y = true) (hsz : (lg_sl as).length ≤ nL)
    (body : ∀ X : gz_X, X.2.1 = l → X.2.2.2.2.2.2.2.2.2.1.exceptionTable.toList = tableOf hh → gz_C Z X G cc nL y.cls rm.frames rm.locals → gz_kI Z X G nL (0, 0) cc μ' r → gz_V Z X G nL (rm.cells, rm.slots) μ 0 (lv_args 0 as) []) : gw_Met Z G l y cc nL (some .int) hh rm as μ μ' (some (.int r)) := by
  refine gw_of hy hsz fun p e s m args below meth c X eX hx hb hr hlk hC hT => ?_
  subst eX
  refine body _ rfl hT hC fun pc lv hd H locs ls cs hR hC hA hl => ?_
  obtain ⟨c1, c2⟩ := cs
  obtain ⟨e1, e2⟩ := hC
  have e1 : c1 = rm.cells := e1
  have e2 : c2 = rm.slots := e2
  subst e1; subst e2
  show W p l e rm s m args below meth c H locs rm.cells rm.slots (MQ below (fun _ _ o t => o = .returned (some (.int r)) ∧ gz_R Z G μ' t.heap) args s rm.cells rm.slots (gz_A G)) (F0 m pc ls [.int r])
  exact W.iret hx hb hr (fun t ht hW => ⟨rfl, by rw [ht]; exact hR⟩) hA hd hlk
theorem gw_ofL {r : Int64} (hy : plainFor y = true) (hsz : (lg_sl as).length ≤ nL)
    (body : ∀ X : gz_X, X.2.1 = l → X.2.2.2.2.2.2.2.2.2.1.exceptionTable.toList = tableOf hh → gz_C Z X G cc nL y.cls rm.frames rm.locals → gz_kL Z X G nL (0, 0) cc μ' r → gz_V Z X G nL (rm.cells, rm.slots) μ 0 (lv_args 0 as) []) : gw_Met Z G l y cc nL (some .long) hh rm as μ μ' (some (.long r)) := by
  refine gw_of hy hsz fun p e s m args below meth c X eX hx hb hr hlk hC hT => ?_
  subst eX
  refine body _ rfl hT hC fun pc lv hd H locs ls cs hR hC hA hl => ?_
  obtain ⟨c1, c2⟩ := cs
  obtain ⟨e1, e2⟩ := hC
  have e1 : c1 = rm.cells := e1
  have e2 : c2 = rm.slots := e2
  subst e1; subst e2
  show W p l e rm s m args below meth c H locs rm.cells rm.slots (MQ below (fun _ _ o t => o = .returned (some (.long r)) ∧ gz_R Z G μ' t.heap) args s rm.cells rm.slots (gz_A G)) (F0 m pc ls [.long r])
  exact W.lret hx hb hr (fun t ht hW => ⟨rfl, by rw [ht]; exact hR⟩) hA hd hlk
end GWM
