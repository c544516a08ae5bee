/-! ===== methods that throw (printed by gen/exc.py out of the kit's EXCEPTIONS.to-paste, the thrown address told) ===== -/
section VQA
/-- where a method has thrown q: the class by its name, the cell, what was written, the world -/
def vq_T (XC : String → Addr → State → State → Prop) (st : State) (q : Addr) (t : State) (mc ms : Nat) (free : Addr → Prop) : Prop :=
  ∃ (E : String) (ce : Cell) (L : List Loc), XC E q st t ∧ t.heap[q]? = some ce ∧ ce.vm = .none ∧ st.vm.findClass E = some ce.cls ∧ st.WarmedH t.vm ∧ st.sameButNew ({ t with vm := st.vm } : State) L mc ms ∧ ∀ z ∈ L, free z.base

def vq_Q (Qc : Array Value → State → Outcome → State → Prop) (XC : String → Addr → State → State → Prop) (mc ms : Nat) (free : Addr → Prop) : Array Value → State → Outcome → State → Prop := fun a st o t =>
  (Qc a st o t ∧ ∃ L, FrameEnd st o t L mc ms ∧ ∀ q ∈ L, free q.base) ∨ ∃ q, o = .threw q ∧ vq_T XC st q t mc ms free

/-- a callee that returns or throws -/
def vq_Met (l : Launch) (y : MethodName) (ws : List Cond) (rm : Room) (Pc : Array Value → State → Prop) (Qc : Array Value → State → Outcome → State → Prop) (XC : String → Addr → State → State → Prop) (mc ms : Nat) (free : Addr → Prop) : Prop :=
  MetFree l y (headSpec ws rm) Pc (fun _ _ _ _ _ => True) (vq_Q Qc XC mc ms free)

def vq_Post (XC : String → Addr → State → State → Prop) (mc ms : Nat) (free : Addr → Prop) : Pt → Array Value → Addr → Pt → Prop := fun A a q B =>
  ∃ (g : JFrame) (mk : MethodId) (t : State) (L : List Loc) (E : String) (ce : Cell), B.U.heap = t.heap ∧ B.U.vm = t.vm ∧ XC E q (A.U.calling g mk a) t ∧ t.heap[q]? = some ce ∧ ce.vm = .none ∧ A.U.vm.findClass E = some ce.cls ∧ B.locs = A.locs ++ L ∧ (∀ z ∈ L, free z.base) ∧ B.cells = A.cells + mc ∧ B.slots = A.slots + ms

def vq_Back (l : Launch) (R : Room) (p : Program) (e : Env) (below : List Frame) (s : State) (sargs : Array Value) (y : MethodName) (len W9 : Nat)
    (Pre : Pt → Array Value → Prop) (Post : Pt → Array Value → Option Value → Pt → Prop) (PostX : Pt → Array Value → Addr → Pt → Prop) : Prop :=
  ∀ (m : MethodId) (meth : Method) (c : Code) (A : Pt) (g : JFrame) (ig : Instr) (mk : MethodId) (a : Array Value),
    Stand p l e R s m sargs below meth c A.U A.locs A.cells A.slots → g.method = m → g.locals.size = c.maxLocals → decode c.code g.pc = .ok (ig, len) →
    2 * g.monitorRoom + (g.stack.map fun v => v.category).sum ≤ W9 → A.U.methodNamed? y = some mk → Pre A a →
    (∃ (v : Option Value) (B : Pt), Stand p l e R s m sargs below meth c B.U B.locs B.cells B.slots ∧ Post A a v B ∧
      Steps p.tables e below (doInvoke e (A.U.setTop g) [] mk a).1 (B.U.setTop { g with pc := g.pc + len, stack := v.toList ++ g.stack })) ∨
    (∃ (q : Addr) (B : Pt), Stand p l e R s m sargs below meth c B.U B.locs B.cells B.slots ∧ PostX A a q B ∧
      Steps p.tables e below (doInvoke e (A.U.setTop g) [] mk a).1 ((B.U.setTop g).pushFrame (.throwing q)))

section Payer
variable {l : Launch} {R : Room} {p : Program} {e : Env} {below : List Frame} {s : State} {sargs : Array Value} {y : MethodName} {len W9 : Nat}
theorem vq_back {ws : List Cond} {rm : Room} {Pc : Array Value → State → Prop} {Qc : Array Value → State → Outcome → State → Prop} {XC : String → Addr → State → State → Prop} {mc ms : Nat} {free : Addr → Prop} {bytes : ByteArray} {maxL : Nat} {ret : Option FieldType}
    (hM : vq_Met l y ws rm Pc Qc XC mc ms free) (hblind : FrameBlind Pc) (hrc : rm.cells = mc) (hrs : rm.slots = ms)
    (hframes : rm.frames + 1 ≤ R.frames) (hlocals : W9 + (maxL + 11) + rm.locals ≤ R.locals)
    (hws : ∀ w ∈ ws, ∀ a' U, s.WarmedH U.vm → w.before a' U = true) (hcode : Cond.code y bytes maxL ret ∈ ws) (hinit : ∀ a' U, s.WarmedH U.vm → (Cond.initialized y.cls).before a' U = true) :
    vq_Back l R p e below s sargs y len W9 (PreOf R mc ms Pc) (PostOf Qc mc ms free) (vq_Post XC mc ms free) := by
  intro m meth c A g ig mk a X hg hsize hdg hW hn hp
  have h1 : (headSpec ws rm).pre.before a A.U = true := atoms_intro fun w hw => hws w hw _ _ X.warmed
  have h2 : (Cond.code y bytes maxL ret).before a A.U = true := hws _ hcode _ _ X.warmed
  have h3 : (Cond.initialized y.cls).before a A.U = true := hinit _ _ X.warmed
  have h4 : A.cells + (headSpec ws rm).room.cells ≤ R.cells := by rw [show (headSpec ws rm).room.cells = mc from hrc]; exact hp.1
  have h5 : A.slots + (headSpec ws rm).room.slots ≤ R.slots := by rw [show (headSpec ws rm).room.slots = ms from hrs]; exact hp.2.1
  have hPc : Pc a (A.U.calling g mk a) := hblind _ _ _ _ hp.2.2
  obtain ⟨U, Ls, c0, s0⟩ := A
  dsimp only [Pt.U, Pt.locs, Pt.cells, Pt.slots] at h1 h2 h3 h4 h5 X hn hPc ⊢
  obtain ⟨methY, cY, hmY, hcY, -, hlY, -, -, -, -⟩ := Cond.code_spec hn h2
  obtain ⟨kY, hkY, -⟩ := className_of_methodNamed hn
  have hinitY : kY.init = .initialized := Cond.initialized_spec (findClass_of_methodNamed hn) hkY h3
  have h : At U g.method c below := by rw [hg]; exact X.here
  have hlocals9 : W9 + (maxL + 11) + (headSpec ws rm).room.locals ≤ R.locals := hlocals
  have happ : (headSpec ws rm).appliesLoose y e.platform (U.calling g mk a) = true :=
    Spec.appliesLoose_calling (g := g) h hdg hn hkY hinitY
      (X.room_calling (g := g) (R' := (headSpec ws rm).room) hsize hmY hcY hframes (by rw [hlY]; omega) h4 h5) h1
  obtain ⟨mid, hmid⟩ := h.above
  have hfr : (U.setTop g).frames = (.java g :: mid) ++ below := by rw [State.frames_setTop' g h.top, hmid]; rfl
  obtain ⟨o, s₂, hsteps, -, hend, hq⟩ := Steps.callFree hM p X.admits X.cas X.clock (acts := []) hfr happ hPc trivial
  have hq' : vq_Q Qc XC mc ms free a (U.calling g mk a) o s₂ := hq
  rw [State.frames_setTop' g h.top] at hend
  obtain ⟨g₀, hg0⟩ := Option.isSome_iff_exists.mp h.top
  obtain ⟨r, hr⟩ := State.topJava?_eq_some.mp hg0
  have hr' : (({ U with heap := s₂.heap, slotsUsed := s₂.slotsUsed } : State).setVm s₂.vm).frames = .java g₀ :: r := hr
  rcases hq' with ⟨hqc, L, hfe, hL⟩ | ⟨q, rfl, E, ce, L, hx, hce, hcv, hcl, hW₂, hsm, hL⟩
  · obtain ⟨⟨v, rfl⟩, hW₂, e2, q2, q3, q4, q5, q6⟩ := id hfe
    have e3 : s₂ = ({ (U.calling g mk a).setFrames s₂.frames with heap := s₂.heap, slotsUsed := s₂.slotsUsed } : State).setVm s₂.vm := by
      have : s₂ = ({ s₂ with vm := (U.calling g mk a).vm } : State).setVm s₂.vm := rfl
      rw [e2] at this
      exact this
    obtain ⟨c₂, i₂, len₂, hc₂, hd₂, hf₂⟩ := hend
    have hW' : U.WarmedH s₂.vm := hW₂
    have hcc : c₂ = c := by
      have h1 : s₂.code? g.method = U.code? g.method := by
        rw [State.code?_eq, State.code?_eq, hW'.alike.method?]
      exact Option.some.inj (hc₂.symm.trans (h1.trans h.code))
    subst hcc
    have hlen : len₂ = len := by rw [hdg] at hd₂; cases hd₂; rfl
    subst hlen
    have hs₂ : s₂ = (({ U with heap := s₂.heap, slotsUsed := s₂.slotsUsed } : State).setVm s₂.vm).setTop { g with pc := g.pc + len₂, stack := v.toList ++ g.stack } := by
      refine e3.trans ?_
      rw [hf₂, State.calling_eq h.top, State.setFrames_setFrames, State.setTop_of_frames _ hr', hr]
      rfl
    have hsame : U.sameButNew ({ U with heap := s₂.heap, slotsUsed := s₂.slotsUsed } : State) L mc ms := by
      refine ⟨?_, q2, q3, q4, q5, q6⟩
      obtain ⟨t, ht, -⟩ := State.frames_cons hr
      show ({ U with heap := s₂.heap, slotsUsed := s₂.slotsUsed } : State) = { U.setFrames U.frames with heap := s₂.heap, slotsUsed := s₂.slotsUsed }
      rw [State.setFrames_self ht]
    subst hg
    refine Or.inl ⟨v, ⟨(({ U with heap := s₂.heap, slotsUsed := s₂.slotsUsed } : State).setVm s₂.vm), Ls ++ L, c0 + mc, s0 + ms⟩,
      ⟨X.admits, X.cas, X.clock, X.frames, X.room, X.hears, X.method, X.code, (X.here.setHeapUsed s₂.heap s₂.slotsUsed).setVm hW'.alike, X.tail, State.WarmedH.trans X.warmed hW', X.limits, X.bytes, X.same.trans (hsame.setVm s.vm)⟩,
      ⟨g, mk, s₂, L, rfl, rfl, hqc, rfl, hL, rfl, rfl⟩, ?_⟩
    show Steps p.tables e below _ ((({ U with heap := s₂.heap, slotsUsed := s₂.slotsUsed } : State).setVm s₂.vm).setTop { g with pc := g.pc + len₂, stack := v.toList ++ g.stack })
    rw [← hs₂]
    exact hsteps
  · obtain ⟨e2, q2, q3, q4, q5, q6⟩ := id hsm
    have e3 : s₂ = ({ (U.calling g mk a).setFrames s₂.frames with heap := s₂.heap, slotsUsed := s₂.slotsUsed } : State).setVm s₂.vm := by
      have : s₂ = ({ s₂ with vm := (U.calling g mk a).vm } : State).setVm s₂.vm := rfl
      rw [e2] at this
      exact this
    have hf₂ : s₂.frames = .throwing q :: .java g :: U.frames.tail := hend
    have hW' : U.WarmedH s₂.vm := hW₂
    have hs₂ : s₂ = ((({ U with heap := s₂.heap, slotsUsed := s₂.slotsUsed } : State).setVm s₂.vm).setTop g).pushFrame (.throwing q) := by
      refine e3.trans ?_
      rw [hf₂, State.calling_eq h.top, State.setFrames_setFrames, State.pushFrame, State.frames_setTop _ hr', State.setTop_of_frames _ hr', State.setFrames_setFrames, hr]
      rfl
    have hsame : U.sameButNew ({ U with heap := s₂.heap, slotsUsed := s₂.slotsUsed } : State) L mc ms := by
      refine ⟨?_, q2, q3, q4, q5, q6⟩
      obtain ⟨t, ht, -⟩ := State.frames_cons hr
      show ({ U with heap := s₂.heap, slotsUsed := s₂.slotsUsed } : State) = { U.setFrames U.frames with heap := s₂.heap, slotsUsed := s₂.slotsUsed }
      rw [State.setFrames_self ht]
    subst hg
    refine Or.inr ⟨q, ⟨(({ U with heap := s₂.heap, slotsUsed := s₂.slotsUsed } : State).setVm s₂.vm), Ls ++ L, c0 + mc, s0 + ms⟩,
      ⟨X.admits, X.cas, X.clock, X.frames, X.room, X.hears, X.method, X.code, (X.here.setHeapUsed s₂.heap s₂.slotsUsed).setVm hW'.alike, X.tail, State.WarmedH.trans X.warmed hW', X.limits, X.bytes, X.same.trans (hsame.setVm s.vm)⟩,
      ⟨g, mk, s₂, L, E, ce, rfl, rfl, hx, hce, hcv, hcl, rfl, hL, rfl, rfl⟩, ?_⟩
    show Steps p.tables e below _ (((({ U with heap := s₂.heap, slotsUsed := s₂.slotsUsed } : State).setVm s₂.vm).setTop g).pushFrame (.throwing q))
    rw [← hs₂]
    exact hsteps

end Payer
section CallsV
variable {p : Program} {l : Launch} {e : Env} {R : Room} {s : State} {m : MethodId} {args : Array Value} {below : List Frame} {meth : Method} {c : Code} {T : State} {locs : List Loc} {cells slots : Nat}
theorem vq_callV (X : Stand p l e R s m args below meth c T locs cells slots) (hexec : p.tables.exec = Jvm.exec) {own C : String} {index : Nat} {y : MethodName} {bytes : ByteArray} {maxL : Nat} {ret : Option FieldType}
    (hown : s.vm.findClass own = some m.cls) (hlink : (Cond.methodLink own index y).before args s = true) (hinst : (Cond.instanceMethod y).before args s = true) (hsel : (Cond.selects C y y).before args s = true)
    (hcode : (Cond.code y bytes maxL ret).before args s = true) (hy : y.cls ≠ "java/lang/invoke/MethodHandle" ∧ y.cls ≠ "java/lang/invoke/VarHandle")
    {W9 : Nat} {Pre : Pt → Array Value → Prop} {Post : Pt → Array Value → Option Value → Pt → Prop} {PostX : Pt → Array Value → Addr → Pt → Prop} (hK : vq_Back l R p e below s args y 3 W9 Pre Post PostX)
    {b : Addr} {cellB : Cell} (hcell : T.heap[b]? = some cellB) (hobj : cellB.vm.isStatics = false) (hcls : s.vm.findClass C = some cellB.cls)
    {g : JFrame} (hg : g.method = m) (hsize : g.locals.size = c.maxLocals) {argsL rest : List Value} (hlen : ∀ sig, parseMethodDescriptor y.desc = some sig → argsL.length = sig.parameters.length)
    (hstack : g.stack = argsL.reverse ++ .ref b :: rest) (hW : 2 * g.monitorRoom + (rest.map fun v => v.category).sum ≤ W9) (hdg : decode c.code g.pc = .ok (.invokevirtual index, 3))
    (hpre : ∀ vm₁, s.WarmedH vm₁ → Pre ⟨T.setVm vm₁, locs, cells, slots⟩ (Value.ref b :: argsL).toArray) :
    (∃ (v : Option Value) (vm₁ : Vm) (B : Pt), s.WarmedH vm₁ ∧ Stand p l e R s m args below meth c B.U B.locs B.cells B.slots ∧ Post ⟨T.setVm vm₁, locs, cells, slots⟩ (Value.ref b :: argsL).toArray v B ∧
      ∀ target, Steps p.tables e below (B.U.setTop { g with pc := g.pc + 3, stack := v.toList ++ rest }) target → Steps p.tables e below (T.setTop g) target) ∨
    (∃ (q : Addr) (vm₁ : Vm) (B : Pt), s.WarmedH vm₁ ∧ Stand p l e R s m args below meth c B.U B.locs B.cells B.slots ∧ PostX ⟨T.setVm vm₁, locs, cells, slots⟩ (Value.ref b :: argsL).toArray q B ∧
      Steps p.tables e below (T.setTop g) ((B.U.setTop { g with stack := rest }).pushFrame (.throwing q))) := by
  obtain ⟨mk, methM, hnamed, hmethM, hstM, habM⟩ := Cond.instanceMethod_spec hinst
  obtain ⟨methM', cM, hmethM', -, -, -, -, -, -, hsigM⟩ := Cond.code_spec hnamed hcode
  cases hmethM.symm.trans hmethM'
  obtain ⟨c2, r2, m2, q1, q2, q3, q4, kP, hkP, hkPi⟩ := Cond.selects_spec hsel
  cases hcls.symm.trans q1
  cases (State.methodFound?_of_named hnamed hy).symm.trans q2
  cases hnamed.symm.trans q3
  have hselP : selectMethod e.platform s.vm cellB.cls mk = .method mk := by rw [Launch.admits_selectMethod X.admits]; exact q4
  obtain ⟨vm₁, X₁, hstep₁⟩ := X.invokevirtual hexec hown hlink hnamed hmethM hstM hkP hkPi hy (a := b) (cell := cellB) hcell
    (fun z h => by rw [h] at hobj; cases hobj) hselP hmethM habM hkP hkPi (g := g) hg (argsL := argsL) (rest := rest) (hlen _ hsigM) hstack hdg
  rcases hK m meth c ⟨T.setVm vm₁, locs, cells, slots⟩ { g with stack := rest } (.invokevirtual index) mk (Value.ref b :: argsL).toArray X₁ hg hsize hdg hW (X₁.named hnamed) (hpre vm₁ X₁.warmed) with ⟨v, B, X', hpost, hsteps⟩ | ⟨q, B, X', hpost, hsteps⟩
  · exact Or.inl ⟨v, vm₁, B, X₁.warmed, X', hpost, fun target h => hstep₁ _ fun acts => by rw [doInvoke_state]; exact hsteps.trans h⟩
  · exact Or.inr ⟨q, vm₁, B, X₁.warmed, X', hpost, hstep₁ _ fun acts => by rw [doInvoke_state]; exact hsteps⟩

end CallsV
theorem vq_cls {s : State} {T : State} {vm₁ : Vm} {E : String} {k : ClassId} (hW : s.WarmedH vm₁) (h : (T.setVm vm₁).vm.findClass E = some k) : s.vm.findClass E = some k := by
  have h1 : vm₁.findClass E = some k := h
  rw [hW.alike.findClass] at h1
  exact h1

/-- the method's frame g, with q thrown over it -/
def vq_W (p : Program) (l : Launch) (e : Env) (R : Room) (s : State) (m : MethodId) (args : Array Value) (below : List Frame) (meth : Method) (c : Code) (H : Heap) (locs : List Loc) (cells slots : Nat) (Q : State → Prop) (g : JFrame) (q : Addr) : Prop :=
  ∀ T : State, T.heap = H → Stand p l e R s m args below meth c T locs cells slots → ∃ t, Steps p.tables e below ((T.setTop g).pushFrame (.throwing q)) t ∧ Q t

def vq_Run (p : Program) (l : Launch) (e : Env) (R : Room) (s : State) (m : MethodId) (args : Array Value) (below : List Frame) (meth : Method) (c : Code) (H : Heap) (locs : List Loc) (cells slots mc ms : Nat) (g : JFrame) (rest : List Value) (Qa : State → Outcome → State → Prop) (XC : String → Addr → State → State → Prop) (free : Addr → Prop) : Prop :=
  ∀ T : State, T.heap = H → Stand p l e R s m args below meth c T locs cells slots →
    (∃ (v : Option Value) (st₀ t T' : State) (L : List Loc), st₀.heap = H ∧ Stand p l e R s m args below meth c T' (locs ++ L) (cells + mc) (slots + ms) ∧ (∀ q ∈ L, free q.base) ∧ T'.heap = t.heap ∧ T'.vm = t.vm ∧ Qa st₀ (.returned v) t ∧
      Goes p e below T g T' { g with pc := g.pc + 3, stack := v.toList ++ rest }) ∨
    (∃ (q : Addr) (st₀ t T' : State) (L : List Loc) (E : String) (ce : Cell), st₀.heap = H ∧ Stand p l e R s m args below meth c T' (locs ++ L) (cells + mc) (slots + ms) ∧ (∀ z ∈ L, free z.base) ∧ T'.heap = t.heap ∧ T'.vm = t.vm ∧ XC E q st₀ t ∧ t.heap[q]? = some ce ∧ ce.vm = .none ∧ s.vm.findClass E = some ce.cls ∧
      Steps p.tables e below (T.setTop g) ((T'.setTop { g with stack := rest }).pushFrame (.throwing q)))

section Runs
variable {p : Program} {l : Launch} {e : Env} {R : Room} {s : State} {m : MethodId} {args : Array Value} {below : List Frame} {meth : Method} {c : Code} {H : Heap} {locs : List Loc} {cells slots : Nat}
variable {y : MethodName} {bytes cc : ByteArray} {maxL nL mc ms n index : Nat} {ret : Option FieldType} {ws : List Cond} {rm : Room} {Pc : Array Value → State → Prop} {Qc : Array Value → State → Outcome → State → Prop} {XC : String → Addr → State → State → Prop} {free : Addr → Prop} {Ts : List Cond} {own C : String} {b : Addr} {As rest : List Value} {g : JFrame}
theorem vq_callBack (cb : CallB R s args own index y bytes maxL ret ws rm mc ms n) (hM : vq_Met l y ws rm Pc Qc XC mc ms free) (hbl : FrameBlind Pc) : vq_Back l R p e below s args y 3 8 (PreOf R mc ms Pc) (PostOf Qc mc ms free) (vq_Post XC mc ms free) := by
  obtain ⟨hrc, hrs, hfr, hlo, hws, hcw, -, hini, -⟩ := cb
  exact vq_back (bytes := bytes) (maxL := maxL) (ret := ret) hM hbl hrc hrs hfr hlo hws hcw (fun a' U hW => word_at hW (Or.inl (by first | rfl | simp [Cond.onTables, Cond.keeps, Cond.steady])) hini)

theorem vq_runV (S : CallFix p m c cc nL s args Ts own) (hM : vq_Met l y ws rm Pc Qc XC mc ms free) (cw : CallW R s args own C index y bytes maxL ret ws rm mc ms n) (hp : PreV s H C b Pc As)
    (hg : g.method = m) (hn : As.length = n) (hsize : g.locals.size = nL) (hstack : g.stack = As.reverse ++ .ref b :: rest) (hW : 2 * g.monitorRoom + (rest.map fun v => v.category).sum ≤ 8) (hdg : decode cc g.pc = .ok (.invokevirtual index, 3)) (hf : cells + mc ≤ R.cells ∧ slots + ms ≤ R.slots) :
    vq_Run p l e R s m args below meth c H locs cells slots mc ms g rest (Qc (Value.ref b :: As).toArray) XC free := by
  have hK : vq_Back l R p e below s args y 3 8 (PreOf R mc ms Pc) (PostOf Qc mc ms free) (vq_Post XC mc ms free) := vq_callBack cw.1 hM hp.1
  obtain ⟨⟨-, -, -, -, -, -, hcode, -, hy, hlen, hl⟩, hin, hse⟩ := cw
  obtain ⟨hx, hb, hml, ho, -⟩ := S
  obtain ⟨-, ⟨cellB, hcB, hoB, hclB⟩, hPc⟩ := hp
  intro T hT X
  rcases vq_callV X hx (C := C) (bytes := bytes) (maxL := maxL) (ret := ret) ho hl hin hse hcode hy hK (by rw [hT]; exact hcB) hoB hclB hg (hsize.trans hml.symm) (argsL := As) (rest := rest) (fun sig h => hn.trans (hlen sig h)) hstack hW (by rw [hb]; exact hdg)
    (fun vm₁ hW₁ => ⟨hf.1, hf.2, hPc (T.setVm vm₁) hT hW₁⟩) with ⟨v, vm₁, ⟨U', l2, c2, s2⟩, hW₁, X', ⟨g', mk, t, L, e1, e2, hq, h1, hL, h2, h3⟩, st⟩ | ⟨q, vm₁, ⟨U', l2, c2, s2⟩, hW₁, X', ⟨g', mk, t, L, E, ce, e1, e2, hq, hce, hcv, hcl, h1, hL, h2, h3⟩, st⟩
  · dsimp only [Pt.U, Pt.locs, Pt.cells, Pt.slots] at X' e1 e2 h1 h2 h3 st
    subst h1; subst h2; subst h3
    exact Or.inl ⟨v, (T.setVm vm₁).calling g' mk (Value.ref b :: As).toArray, t, U', L, hT, X', hL, e1, e2, hq, st⟩
  · dsimp only [Pt.U, Pt.locs, Pt.cells, Pt.slots] at X' e1 e2 h1 h2 h3 st hcl
    subst h1; subst h2; subst h3
    exact Or.inr ⟨q, (T.setVm vm₁).calling g' mk (Value.ref b :: As).toArray, t, U', L, E, ce, hT, X', hL, e1, e2, hq, hce, hcv, vq_cls hW₁ hcl, st⟩

end Runs
section Rows
variable {p : Program} {l : Launch} {e : Env} {R : Room} {s : State} {m : MethodId} {args : Array Value} {below : List Frame} {meth : Method} {c : Code} {H : Heap} {locs : List Loc} {cells slots : Nat} {Q : State → Prop}
variable {mc ms : Nat} {free : Addr → Prop} {A0 A1 : Nat → Prop} {H0 : Heap} {a : Array Value} {pc : Nat} {ls : Array Slot} {st0 rest : List Value}
/-- caught by the row x of this method's table; the rows ahead don't take it -/
theorem vq_catch {own name : String} {E : String} {ce : Cell} {q : Addr} (hown : s.vm.findClass own = some m.cls) (pre : List ExceptionTableEntry) (x : ExceptionTableEntry) (suf : List ExceptionTableEntry) (hsplit : c.exceptionTable.toList = pre ++ x :: suf)
    (hpass : ∀ z ∈ pre, covers z pc = false ∨ (z.catchType ≠ 0 ∧ ∃ nm : String, (Cond.classLink own z.catchType nm).before args s = true ∧ va_Nc E nm s)) (hx : covers x pc = true) (h0 : x.catchType ≠ 0)
    (hlink : (Cond.classLink own x.catchType name).before args s = true) (hcast : (Cond.castable E name).before args s = true) (hcell : H[q]? = some ce) (hv : ce.vm = .none) (hcl : s.vm.findClass E = some ce.cls)
    (kk : W p l e R s m args below meth c H locs cells slots Q (F0 m x.handlerPc ls [.ref q])) : vq_W p l e R s m args below meth c H locs cells slots Q (F0 m pc ls rest) q := by
  intro T hT X
  have hpl : e.platform.magicAccessors = ({} : Platform).magicAccessors := by rw [X.admits.platform]
  obtain ⟨c3, c4, hc3, hc4, hasg⟩ := Cond.castable_spec hcast
  cases Option.some.inj (hc3.symm.trans hcl)
  obtain ⟨c5, hc5, hcl5⟩ := Cond.classLink_spec hown hlink e.platform hpl
  cases Option.some.inj (hc4.symm.trans hc5)
  obtain ⟨vm', X', st⟩ := X.thenCaughtThrough q (g := F0 m pc ls rest) rfl (Steps.refl _) (by rw [hT]; exact hcell) (by rw [hv]; rfl) (by obtain ⟨k9, h9, -⟩ := Vm.findClass_spec hcl; exact ⟨k9, h9⟩) pre x suf hsplit
    (fun z hz => by
      rcases hpass z hz with h | ⟨hz0, nm, hl1, hn1⟩
      · exact Or.inl h
      · obtain ⟨c6, hc6, hcl6⟩ := Cond.classLink_spec hown hl1 e.platform hpl
        obtain ⟨a8, b8, h1, h2, h3⟩ := hn1
        cases Option.some.inj (h1.symm.trans hcl)
        cases Option.some.inj (h2.symm.trans hc6)
        exact Or.inr ⟨hz0, _, hcl6, h3⟩) hx (Or.inr ⟨h0, c4, hcl5, hasg⟩)
  obtain ⟨t, a1, b1⟩ := kk (T.setVm vm') hT X'
  exact ⟨t, st.trans a1, b1⟩

end Rows
section Ends
variable {p : Program} {l : Launch} {e : Env} {R : Room} {s : State} {m : MethodId} {args : Array Value} {below : List Frame} {meth : Method} {c : Code} {H : Heap} {locs : List Loc} {cells slots : Nat} {Q : State → Prop}
variable {mc ms : Nat} {free : Addr → Prop} {A0 A1 : Nat → Prop} {H0 : Heap} {a : Array Value} {ls : Array Slot} {st0 rest : List Value}
variable {Qc : Array Value → State → Outcome → State → Prop} {XC : String → Addr → State → State → Prop}
/-- what a body that may throw owes at its end -/
def vq_MQ (below : List Frame) (Qc : Array Value → State → Outcome → State → Prop) (XC : String → Addr → State → State → Prop) (a : Array Value) (s : State) (mc ms : Nat) (free : Addr → Prop) : State → Prop := fun t =>
  ∃ o, t.status = .running ∧ Ended t below o ∧ vq_Q Qc XC mc ms free a s o t

theorem vq_ret {g : JFrame} {mc ms : Nat} (k : W p l e R s m args below meth c H locs cells slots (MQ below Qc args s mc ms free) g) : W p l e R s m args below meth c H locs cells slots (vq_MQ below Qc XC args s mc ms free) g := by
  intro T hT X
  obtain ⟨t, a1, o, b1, b2, b3, b4⟩ := k T hT X
  exact ⟨t, a1, o, b1, b2, Or.inl ⟨b3, b4⟩⟩

/-- not caught here: it goes on to the caller -/
theorem vq_widen {g : JFrame} {q : Addr} {k n : Nat} (h1 : cells ≤ k) (h2 : slots ≤ n) (kk : vq_W p l e R s m args below meth c H locs k n Q g q) : vq_W p l e R s m args below meth c H locs cells slots Q g q := fun T hT X => kk T hT (stand_widen X h1 h2)

theorem vq_out {pc : Nat} {E : String} {ce : Cell} {q : Addr} {mc ms : Nat} (hout : ∀ x ∈ c.exceptionTable.toList, covers x pc = false) (hlocks : meth.locks = false) (hcell : H[q]? = some ce) (hv : ce.vm = .none) (hcl : s.vm.findClass E = some ce.cls)
    (hx : ∀ t : State, t.heap = H → s.vm.Alike t.vm → XC E q s t) (hf : ∀ z ∈ locs, free z.base) (hc : cells ≤ mc) (hs : slots ≤ ms) :
    vq_W p l e R s m args below meth c H locs cells slots (vq_MQ below Qc XC args s mc ms free) (F0 m pc ls rest) q := by
  intro T hT X
  obtain ⟨st1, hrun, hend, hW, hsm⟩ := X.leaveThrown q (g := F0 m pc ls rest) rfl rfl rfl hout hlocks
  have hcell9 : (T.setFrames (.throwing q :: below)).heap[q]? = some ce := by
    show T.heap[q]? = some ce
    rw [hT]; exact hcell
  exact ⟨_, st1, .threw q, hrun, hend, Or.inr ⟨q, rfl, E, ce, locs, hx _ hT hW.alike, hcell9, hv, hcl, hW, hsm.mono hc hs, hf⟩⟩

end Ends
section Bodies
variable {l : Launch}
theorem vq_ofW {y : MethodName} {ws ws' : List Cond} {rm : Room} {Pc : Array Value → State → Prop} {Qc : Array Value → State → Outcome → State → Prop} {XC : String → Addr → State → State → Prop} {mc ms : Nat} {free : Addr → Prop} {cc : ByteArray} {maxL : Nat} {ret : Option FieldType}
    (hy : plainName y.cls = true) (hw : ws = Cond.code y cc maxL ret :: ws')
    (body : ∀ p e s m args below meth c s₁, BodyLoose p l y (headSpec ws rm) cc maxL ret e s m args below meth c s₁ → c.maxLocals = maxL → (∀ x ∈ c.exceptionTable.toList, False) → Pc args s →
      W p l e (headSpec ws rm).room s m args below meth c s.heap [] 0 0 (vq_MQ below Qc XC args s mc ms free) (entryFrame m args maxL)) : vq_Met l y ws rm Pc Qc XC mc ms free := by
  refine MetFree.of_bodyS (code := cc) (maxLocals := maxL) (ret := ret) hy ?_ ?_
  · intro args s m h hn
    obtain ⟨meth, c, h1, h2, h3, h4, h5, h6, -, -⟩ := Cond.code_spec hn (atoms_spec (ws := ws) h _ (by rw [hw]; exact List.mem_cons_self))
    exact ⟨meth, c, h1, h2, h3, h4, h5, h6⟩
  · intro p e s m args below meth c s₁ B hml hP _
    have hh0 : s₁.heap = s.heap := by rw [B.state]; rfl
    have ht : ∀ x ∈ c.exceptionTable.toList, False := by
      obtain ⟨meth9, c9, h1, h2, -, -, -, -, h7, -⟩ := Cond.code_spec B.named (atoms_spec (ws := ws) B.pre _ (by rw [hw]; exact List.mem_cons_self))
      cases Option.some.inj (h1.symm.trans B.method)
      cases Option.some.inj (h2.symm.trans (Stand.of_body B).code)
      intro x hx
      rw [Array.isEmpty_iff.mp h7] at hx
      cases hx
    obtain ⟨t, a1, o, b1, b2, b3⟩ := body p e s m args below meth c s₁ B hml ht hP s₁ hh0 (Stand.of_body B)
    exact ⟨t, o, a1, b1, b2, b3⟩

/-- the table of a body with handlers -/
theorem vq_table {p : Program} {x y : MethodName} {S : Spec} {cc bytes : ByteArray} {maxL maxL' : Nat} {ret ret' : Option FieldType} {e : Env} {s s₁ : State} {m : MethodId} {args : Array Value} {below : List Frame} {meth : Method} {c : Code} {hh : List (Nat × Nat × Nat × Nat)}
    (B : BodyLoose p l y S cc maxL ret e s m args below meth c s₁) (h : (Cond.codeWith y bytes maxL' ret' hh).before args s = true) : c.exceptionTable.toList = tableOf hh := by
  obtain ⟨m9, meth9, c9, hn9, h1, h2, -, -, h6, -⟩ := Cond.codeWith_spec h
  cases Option.some.inj (hn9.symm.trans B.named)
  cases Option.some.inj (h1.symm.trans B.method)
  cases Option.some.inj (h2.symm.trans (Stand.of_body B).code)
  rw [← h6, table_eq]

end Bodies
section Athr
variable {p : Program} {l : Launch} {e : Env} {R : Room} {s : State} {m : MethodId} {args : Array Value} {below : List Frame} {meth : Method} {c : Code} {H : Heap} {locs : List Loc} {cells slots : Nat} {Q : State → Prop}
variable {ls : Array Slot} {rest : List Value} {D : va_G} {cl : List vw_C} {tys : List (ClassId × FieldType)} {ws : va_W}
/-- 'throw x' of an object that was made before -/
theorem vq_athrow {cc : ByteArray} {pc : Nat} (hexec : p.tables.exec = Jvm.exec) (hb : c.code = cc) {q : Addr} (hdg : decode cc pc = .ok (.athrow, 1)) (k : vq_W p l e R s m args below meth c H locs cells slots Q (F0 m pc ls rest) q) : W p l e R s m args below meth c H locs cells slots Q (F0 m pc ls (.ref q :: rest)) := by
  intro T hT X
  obtain ⟨t, st, hq⟩ := k T hT X
  refine ⟨t, ?_, hq⟩
  have hdg' : decode c.code pc = .ok (.athrow, 1) := by rw [hb]; exact hdg
  jvm_step X.here [X.here.top, hexec, hdg', athrow.wp_sem]
  exact st

end Athr
end VQA
