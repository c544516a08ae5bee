set_option maxRecDepth 100000
/-! ===== the component's world (printed by gen/comp.py) ===== -/
def TX20 : u_T := fun _ => ("", "", "", false)
theorem in_X20 : ∀ w ∈ u_ws RX20 TX20 0, w ∈ lw_all := fun w h => absurd h (by simp [u_ws])
def clC : List vw_C := [(RX0, TX0, 28), (RX1, TX1, 9), (RX2, TX2, 8), (RX3, TX3, 8), (RX4, TX4, 1), (RX5, TX5, 10), (RX7, TX7, 1), (RX8, TX8, 3), (RX9, TX9, 4), (RX10, TX10, 2), (RX12, TX12, 2), (RX13, TX13, 3), (RX14, TX14, 1), (RX15, TX15, 1), (RX16, TX16, 3), (RX18, TX18, 2), (RX19, TX19, 1), (RX20, TX20, 0), (RX21, TX21, 3), (RX22, TX22, 5), (RJ2, TJ2, 3), (RJ9, TJ9, 4), (RJ15, TJ15, 4)]
def ftC (ci k : Nat) : Nat := match ci with
  | 0 => ([2, 2, 0, 0, 0, 2, 2, 2, 2, 2, 2, 2, 2, 2, 0, 2, 2, 2, 2, 2, 0, 2, 2, 0, 1, 0, 2, 0] : List Nat).getD k 0
  | 1 => ([0, 0, 0, 2, 2, 2, 2, 2, 2] : List Nat).getD k 0
  | 2 => ([2, 0, 0, 0, 0, 0, 2, 2] : List Nat).getD k 0
  | 3 => ([2, 2, 2, 2, 2, 0, 0, 0] : List Nat).getD k 0
  | 4 => ([2] : List Nat).getD k 0
  | 5 => ([0, 0, 0, 0, 2, 2, 2, 2, 2, 2] : List Nat).getD k 0
  | 6 => ([2] : List Nat).getD k 0
  | 7 => ([0, 0, 0] : List Nat).getD k 0
  | 8 => ([2, 0, 0, 0] : List Nat).getD k 0
  | 9 => ([0, 0] : List Nat).getD k 0
  | 10 => ([2, 2] : List Nat).getD k 0
  | 11 => ([0, 2, 2] : List Nat).getD k 0
  | 12 => ([1] : List Nat).getD k 0
  | 13 => ([0] : List Nat).getD k 0
  | 14 => ([0, 2, 2] : List Nat).getD k 0
  | 15 => ([2, 0] : List Nat).getD k 0
  | 16 => ([2] : List Nat).getD k 0
  | 17 => ([] : List Nat).getD k 0
  | 18 => ([2, 2, 0] : List Nat).getD k 0
  | 19 => ([0, 2, 2, 1, 0] : List Nat).getD k 0
  | 20 => ([0, 2, 0] : List Nat).getD k 0
  | 21 => ([2, 0, 0, 0] : List Nat).getD k 0
  | 22 => ([2, 0, 0, 0] : List Nat).getD k 0
  | _ => 0
def tlC : List FieldType := [.int, .byte, .char, .boolean, .long, (.object "java/lang/Object"), (.object "java/lang/String"), (.array .int), (.array (.array .int)), (.object "FirstSnuffer$State")]
def cStk (o : Nat) : Nat := if o = 0 then 6 else if o = 5 then 108 else 101
def cStn (o : Nat) : Nat := if o = 0 then 0 else if o < 5 then 8 else if o = 5 then 40 else 3
def ks (c : Nat) : Nat :=
  if c < 1000 then 0 else if c < 1019 then ([1, 0, 0, 0, 0, 0, 0, 0, 0, 0, 102, 3, 4, 5, 105, 5, 105, 101, 108] : List Nat).getD (c - 1000) 0
  else if c < 1027 then 101 else if c < 1073 then cStk (c - 1027) else if c < 1119 then cStk (c - 1073)
  else if c < 1127 then ([101, 101, 104, 101, 101, 101, 101, 109] : List Nat).getD (c - 1119) 0
  else if c < 1447 then (if (c - 1127) % 32 = 0 then 108 else 101) else if c = 1447 then 110
  else if c < 2368 then cStk ((c - 1448) % 46) else if c = 2368 then 102 else 0
def ns (c : Nat) : Nat :=
  if c < 1019 then ([0, 0, 0, 0, 0, 0, 0, 0, 0, 0, 1600, 0, 0, 0, 7, 0, 7, 6, 8] : List Nat).getD (c - 1000) 0
  else if c < 1027 then 8 else if c < 1073 then cStn (c - 1027) else if c < 1119 then cStn (c - 1073)
  else if c < 1127 then ([4, 4, 12, 8, 16, 16, 16, 10] : List Nat).getD (c - 1119) 0
  else if c < 1447 then (if (c - 1127) % 32 = 0 then 31 else 8) else if c = 1447 then 20
  else if c < 2368 then cStn ((c - 1448) % 46) else 32
/-- the cells of State objects -/
def cSt (c : Nat) : Bool := c == 1027 || c == 1073 || (Nat.ble 1448 c && Nat.blt c 2368 && (c - 1448) % 46 == 0)
def mainFix : List Nat := [0, 1010, 0, 0, 0, 1011, 1013, 1015, 1017, 1018, 1027, 1073, 1119, 1120, 0, 1121, 1122, 1123, 1124, 1125, 0, 1126, 1447, 0, 0, 0, 2368, 0]
/-- references that never change -/
def sr (c k : Nat) : Nat :=
  if c = 1000 then mainFix.getD k 0
  else if c = 1011 then (if k = 0 then 1012 else if k = 7 then 1000 else 0)
  else if c = 1013 ∨ c = 1015 then (if k = 0 then c + 1 else 0)
  else if c = 1018 then (if k < 8 then 1019 + k else 0)
  else if cSt c then (if k = 9 then 1000 else if 4 ≤ k ∧ k < 9 then c + (k - 3) else 0)
  else if c = 1126 then (if k < 10 then 1127 + 32 * k else 0)
  else if 1127 ≤ c ∧ c < 1447 ∧ (c - 1127) % 32 = 0 then (if k < 31 then c + 1 + k else 0)
  else 0
def clc (K N : Nat → Nat) (P : Nat → Nat → Nat) : Prop := ∀ c : Nat, ks c ≠ 0 → K c = ks c ∧ N c = ns c ∧ ∀ k : Nat, sr c k ≠ 0 → P c k = sr c k
def cNw (w : Cond) : Bool := match w with
  | .fieldLinkNest .. => true
  | .methodLinkNest .. => true
  | .declares .. => true
  | .castable .. => true
  | .privateMethod .. => true
  | _ => false
def cLs : MethodName := ⟨"java/util/List", "size", "()I"⟩
def cLg : MethodName := ⟨"java/util/List", "get", "(I)Ljava/lang/Object;"⟩
def cLa : MethodName := ⟨"java/util/List", "add", "(Ljava/lang/Object;)Z"⟩
/-- the classes of arrays of arrays -/
def cAr (G : gz_G) (U : State) : Prop := (∃ k : Class, U.vm.classes[gz_dA G 7]? = some k ∧ k.kind = .array (gz_dA G 0) (.array .int)) ∧ ∃ k : Class, U.vm.classes[gz_dA G 8]? = some k ∧ k.kind = .array (gz_dA G 7) (.array (.array .int))
theorem cAr.moved {G : gz_G} {u U : State} (hvm : u.vm.Alike U.vm) (h : cAr G u) : cAr G U := by
  obtain ⟨⟨k1, a1, b1⟩, k2, a2, b2⟩ := h
  obtain ⟨k1', c1, d1⟩ := hvm.2.2 _ _ a1
  obtain ⟨k2', c2, d2⟩ := hvm.2.2 _ _ a2
  exact ⟨⟨k1', c1, by rw [d1]; exact b1⟩, k2', c2, by rw [d2]; exact b2⟩
def cKs : List (String × Nat × String × Nat) := [("FirstSnuffer", 415, "strength", 100), ("FirstSnuffer", 416, "heat", 102), ("FirstSnuffer", 417, "near", 104), ("FirstSnuffer", 419, "hour", 106), ("FirstSnuffer", 420, "smell", 108), ("FirstSnuffer", 421, "number", 110), ("FirstSnuffer", 423, "place", 112), ("FirstSnuffer", 428, "ends", 114), ("FirstSnuffer", 430, "steps", 116), ("FirstSnuffer", 434, "first", 118), ("FirstSnuffer", 436, "last", 120), ("FirstSnuffer", 438, "often", 122), ("FirstSnuffer", 440, "total", 124), ("FirstSnuffer", 442, "most", 126), ("FirstSnuffer", 444, "least", 128), ("FirstSnuffer", 449, "hall", 130), ("FirstSnuffer", 450, "door", 132), ("FirstSnuffer", 452, "to", 134), ("FirstSnuffer", 453, "thing", 136), ("FirstSnuffer", 455, "in", 138), ("FirstSnuffer", 457, "burns", 140), ("FirstSnuffer", 459, "tie", 142), ("FirstSnuffer", 461, "starts", 144), ("FirstSnuffer", 463, "minds", 146), ("FirstSnuffer", 465, "draught", 148), ("FirstSnuffer", 466, "or", 150), ("FirstSnuffer", 468, "and", 152), ("FirstSnuffer", 470, "not", 154), ("FirstSnuffer", 472, "all", 156), ("FirstSnuffer", 473, "min", 158), ("FirstSnuffer", 474, "max", 160), ("FirstSnuffer$Reader", 156, "to", 134), ("FirstSnuffer$Reader", 159, "steps", 116), ("FirstSnuffer$Reader", 176, "in", 138), ("FirstSnuffer$Reader", 178, "burns", 140), ("FirstSnuffer$Reader", 182, "heat", 102), ("FirstSnuffer$Reader", 202, "hall", 130), ("FirstSnuffer$Reader", 204, "door", 132), ("FirstSnuffer$Reader", 206, "thing", 136), ("FirstSnuffer$Reader", 208, "tie", 142), ("FirstSnuffer$Reader", 210, "starts", 144), ("FirstSnuffer$Reader", 229, "minds", 146), ("FirstSnuffer$Reader", 231, "draught", 148), ("FirstSnuffer$Reader", 297, "min", 158), ("FirstSnuffer$Reader", 299, "max", 160), ("FirstSnuffer$Reader", 312, "or", 150), ("FirstSnuffer$Reader", 320, "and", 152), ("FirstSnuffer$Reader", 322, "not", 154), ("FirstSnuffer$Reader", 329, "all", 156), ("java/lang/String", 7, "", 162)]
def cSi : List (String × String × String × Int32) := [("java/lang/String", "COMPACT_STRINGS", "Z", 1), ("java/lang/StringUTF16", "$assertionsDisabled", "Z", 1), ("java/lang/StringUTF16", "HI_BYTE_SHIFT", "I", 0), ("java/lang/StringUTF16", "LO_BYTE_SHIFT", "I", 8)]
def cSr : List (String × String × String × Nat) := [("FirstSnuffer", "OWN", "[Ljava/lang/String;", 10), ("FirstSnuffer", "ASKED", "[Ljava/lang/String;", 11), ("FirstSnuffer", "LOOKED", "[Ljava/lang/String;", 12), ("FirstSnuffer", "TOLD_OF", "[Ljava/lang/String;", 13), ("java/util/ArrayList", "EMPTY_ELEMENTDATA", "[Ljava/lang/Object;", 14), ("java/util/ArrayList", "DEFAULTCAPACITY_EMPTY_ELEMENTDATA", "[Ljava/lang/Object;", 15)]
/-- string constants and statics -/
def cSt0 (G : gz_G) (U : State) : Prop := (∀ q ∈ cKs, vk_R q.1 q.2.1 q.2.2.1 (gz_ad G q.2.2.2) U) ∧ (∀ q ∈ cSi, va_Z q.1 q.2.1 q.2.2.1 (.int q.2.2.2) (gz_A G) U (gz_H G)) ∧ (∀ q ∈ cSr, va_Z q.1 q.2.1 q.2.2.1 (.ref (gz_ad G q.2.2.2)) (gz_A G) U (gz_H G)) ∧ (va_AO "java/lang/Object" U ∧ va_AO "FirstSnuffer$State" U ∧ va_Mi "[Ljava/lang/Object;" (gz_ad G 16) U) ∧ ∃ w : Value, (w = .null ∨ ∃ a, w = .ref a) ∧ va_Z "jdk/internal/util/Preconditions" "SIOOBE_FORMATTER" "Ljava/util/function/BiFunction;" w (gz_A G) U (gz_H G)
theorem cSt0.warm {G : gz_G} {s U : State} (hW : s.WarmedH U.vm) (h : cSt0 G s) : cSt0 G U := by
  obtain ⟨a, b, c, ⟨o1, o2, o3⟩, w, d, e⟩ := h
  exact ⟨fun q hq => (a q hq).warm hW, fun q hq => (b q hq).moved hW.alike, fun q hq => (c q hq).moved hW.alike, ⟨o1.moved hW.alike, o2.moved hW.alike, o3.moved hW.alike⟩, w, d, e.moved hW.alike⟩
theorem cSt0.same {G : gz_G} {s U : State} (e : s.vm = U.vm) (h : cSt0 G s) : cSt0 G U := by
  obtain ⟨a, b, c, ⟨o1, o2, o3⟩, w, d, f⟩ := h
  have hA : s.vm.Alike U.vm := by rw [e]; exact Vm.Alike.refl _
  exact ⟨fun q hq => (a q hq).same e.symm, fun q hq => (b q hq).moved hA, fun q hq => (c q hq).moved hA, ⟨o1.moved hA, o2.moved hA, o3.moved hA⟩, w, d, f.moved hA⟩
/-- what is known of the tables besides -/
def cE (G : gz_G) (U : State) : Prop := cAr G U ∧ (∀ w ∈ lw_tbl, cNw w = true → va_Nw w U) ∧ va_Fw RJ2 cLs ⟨RJ2, "size", "()I"⟩ U ∧ va_Fw RJ2 cLg ⟨RJ2, "get", "(I)Ljava/lang/Object;"⟩ U ∧ va_Fw RJ2 cLa ⟨RJ2, "add", "(Ljava/lang/Object;)Z"⟩ U ∧ cSt0 G U
theorem va_Nw.warmP {y : MethodName} {s U : State} (hW : s.WarmedH U.vm) (hZ : va_Nw (.privateMethod y) s) : va_Nw (.privateMethod y) U := va_tabs rfl (rfl : (s.setVm U.vm).vm = U.vm) (by rw [Cond.privateMethod_setVm hW.alike]; exact hZ)
theorem va_Nw.warm {w : Cond} (hw : cNw w = true) {s U : State} (hW : s.WarmedH U.vm) (h : va_Nw w s) : va_Nw w U := by
  cases w <;> first | (cases hw; done) | exact va_Nw.warmF hW h | exact va_Nw.warmM hW h | exact va_Nw.warmD hW h | exact va_Nw.warmC hW h | exact va_Nw.warmP hW h
theorem cNw_on {w : Cond} (hw : cNw w = true) : w.onTables = true := by
  cases w <;> first | (cases hw; done) | rfl
abbrev cS : gz_S := (clC, ftC, tlC, cE, clc)
theorem cs_E : gz_Es cS := by
  refine ⟨fun G s U hW h => ⟨h.1.moved hW.alike, fun w hw hc => (h.2.1 w hw hc).warm hc hW, h.2.2.1.moved (by decide +kernel) hW.alike, h.2.2.2.1.moved (by decide +kernel) hW.alike, h.2.2.2.2.1.moved (by decide +kernel) hW.alike, h.2.2.2.2.2.warm hW⟩, fun G s U e h => ⟨h.1.moved (by rw [e]; exact Vm.Alike.refl _), fun w hw hc => (h.2.1 w hw hc).same (cNw_on hc) e, ?_, ?_, ?_, h.2.2.2.2.2.same e⟩⟩
  · exact h.2.2.1.moved (by decide +kernel) (by rw [e]; exact Vm.Alike.refl _)
  · exact h.2.2.2.1.moved (by decide +kernel) (by rw [e]; exact Vm.Alike.refl _)
  · exact h.2.2.2.2.1.moved (by decide +kernel) (by rw [e]; exact Vm.Alike.refl _)
theorem cz_s {X : gz_X} {G : gz_G} {cc : ByteArray} {nL : Nat} {own : String} {fr lo : Nat} (hX : gz_C cS X G cc nL own fr lo) : cSt0 G X.2.2.2.2.1 := hX.2.2.2.2.2.1.2.2.2.2.2.2
theorem cz_k {K N : Nat → Nat} {P : Nat → Nat → Nat} (h : clc K N P) {c k : Nat} (hk : ks c = k + 1) : K c = k + 1 := by rw [(h c (by rw [hk]; exact Nat.succ_ne_zero _)).1, hk]
theorem cz_a {K N : Nat → Nat} {P : Nat → Nat → Nat} (h : clc K N P) {c k n : Nat} (hk : ks c = k) (h0 : k ≠ 0) (hn : ns c = n) : K c = k ∧ N c = n := by
  have := h c (by rw [hk]; exact h0)
  exact ⟨by rw [this.1, hk], by rw [this.2.1, hn]⟩
theorem cz_f {ad : Nat → Nat} {m : gM} (h : clc m.1 m.2.1 m.2.2.2.2.1) {c k r tc : Nat} (hk : ks c ≠ 0) (hs : sr c k = r) (hr : r ≠ 0) (ht : tc = 2) : gz_u ad m tc c k = .ref (ad r) := by
  subst ht
  show gz_rf ad (m.2.2.2.2.1 c k) = _
  rw [(h c hk).2.2 k (by rw [hs]; exact hr), hs, gz_rfp hr]
theorem cz_e {ad : Nat → Nat} {m : gM} (h : clc m.1 m.2.1 m.2.2.2.2.1) {c k r : Nat} (hk : ks c ≠ 0) (hs : sr c k = r) (hr : r ≠ 0) : gz_rf ad (m.2.2.2.2.1 c k) = .ref (ad r) := by
  rw [(h c hk).2.2 k (by rw [hs]; exact hr), hs, gz_rfp hr]
theorem cSt_all : (List.range 2400).all (fun x => !cSt x || (ks x == 6 && (ks (x + 1) == 101 && ns (x + 1) == 8) && (ks (x + 2) == 101 && ns (x + 2) == 8) && (ks (x + 3) == 101 && ns (x + 3) == 8) && (ks (x + 4) == 101 && ns (x + 4) == 8) && (ks (x + 5) == 108 && ns (x + 5) == 40) && (sr x 4 == x + 1 && sr x 5 == x + 2 && sr x 6 == x + 3 && sr x 7 == x + 4 && sr x 8 == x + 5 && sr x 9 == 1000) && Nat.ble 1000 x)) = true := by decide +kernel
theorem cSt_lt {x : Nat} (h : cSt x = true) : x < 2400 := by
  simp [cSt] at h
  omega
theorem cSt_of {x : Nat} (h : cSt x = true) : ks x = 6 ∧ (ks (x + 1) = 101 ∧ ns (x + 1) = 8) ∧ (ks (x + 2) = 101 ∧ ns (x + 2) = 8) ∧ (ks (x + 3) = 101 ∧ ns (x + 3) = 8) ∧ (ks (x + 4) = 101 ∧ ns (x + 4) = 8) ∧ (ks (x + 5) = 108 ∧ ns (x + 5) = 40) ∧ (sr x 4 = x + 1 ∧ sr x 5 = x + 2 ∧ sr x 6 = x + 3 ∧ sr x 7 = x + 4 ∧ sr x 8 = x + 5 ∧ sr x 9 = 1000) ∧ 1000 ≤ x := by
  have h1 := List.all_eq_true.mp cSt_all x (List.mem_range.mpr (cSt_lt h))
  rw [h] at h1
  simp only [Bool.not_true, Bool.false_or, Bool.and_eq_true, beq_iff_eq, Nat.ble_eq] at h1
  obtain ⟨⟨⟨⟨⟨⟨⟨a, b⟩, c⟩, d⟩, e⟩, f⟩, ⟨⟨⟨⟨⟨g1, g2⟩, g3⟩, g4⟩, g5⟩, g6⟩⟩, i⟩ := h1
  exact ⟨a, b, c, d, e, f, ⟨g1, g2, g3, g4, g5, g6⟩, i⟩
theorem st_k {x : Nat} (h : cSt x = true) : ks x = 5 + 1 := (cSt_of h).1
theorem st_0 {x : Nat} (h : cSt x = true) : ks x ≠ 0 := by rw [st_k h]; decide
theorem st_w {x : Nat} (h : cSt x = true) : 1000 ≤ x := (cSt_of h).2.2.2.2.2.2.2
theorem st_w1 {x : Nat} (h : cSt x = true) (k : Nat) : 1000 ≤ x + k := Nat.le_trans (st_w h) (Nat.le_add_right _ _)
theorem st_a1 {x : Nat} (h : cSt x = true) : ks (x + 1) = 101 ∧ ns (x + 1) = 8 := (cSt_of h).2.1
theorem st_a2 {x : Nat} (h : cSt x = true) : ks (x + 2) = 101 ∧ ns (x + 2) = 8 := (cSt_of h).2.2.1
theorem st_a3 {x : Nat} (h : cSt x = true) : ks (x + 3) = 101 ∧ ns (x + 3) = 8 := (cSt_of h).2.2.2.1
theorem st_a4 {x : Nat} (h : cSt x = true) : ks (x + 4) = 101 ∧ ns (x + 4) = 8 := (cSt_of h).2.2.2.2.1
theorem st_a5 {x : Nat} (h : cSt x = true) : ks (x + 5) = 108 ∧ ns (x + 5) = 40 := (cSt_of h).2.2.2.2.2.1
theorem st_f4 {x : Nat} (h : cSt x = true) : sr x 4 = x + 1 := (cSt_of h).2.2.2.2.2.2.1.1
theorem st_f5 {x : Nat} (h : cSt x = true) : sr x 5 = x + 2 := (cSt_of h).2.2.2.2.2.2.1.2.1
theorem st_f6 {x : Nat} (h : cSt x = true) : sr x 6 = x + 3 := (cSt_of h).2.2.2.2.2.2.1.2.2.1
theorem st_f7 {x : Nat} (h : cSt x = true) : sr x 7 = x + 4 := (cSt_of h).2.2.2.2.2.2.1.2.2.2.1
theorem st_f8 {x : Nat} (h : cSt x = true) : sr x 8 = x + 5 := (cSt_of h).2.2.2.2.2.2.1.2.2.2.2.1
theorem st_f9 {x : Nat} (h : cSt x = true) : sr x 9 = 1000 := (cSt_of h).2.2.2.2.2.2.1.2.2.2.2.2
theorem far_s : ∀ n, n < 8 → sr 1018 n = 1019 + n := by decide +kernel
theorem far_a : ∀ n, n < 8 → ks (1019 + n) = 101 ∧ ns (1019 + n) = 8 := by decide +kernel
theorem by1_s : ∀ n, n < 10 → sr 1126 n = 1127 + 32 * n := by decide +kernel
theorem by1_a : ∀ n, n < 10 → ks (1127 + 32 * n) = 108 ∧ ns (1127 + 32 * n) = 31 := by decide +kernel
theorem by2_s : ∀ n, n < 10 → ∀ k, k < 31 → sr (1127 + 32 * n) k = 1127 + 32 * n + 1 + k := by decide +kernel
theorem by2_a : ∀ n, n < 10 → ∀ k, k < 31 → ks (1127 + 32 * n + 1 + k) = 101 ∧ ns (1127 + 32 * n + 1 + k) = 8 := by decide +kernel
theorem cz_n {Z : gz_S} {X : gz_X} {G : gz_G} {cc : ByteArray} {nL : Nat} {own : String} {fr lo : Nat} (hX : gz_C cS X G cc nL own fr lo) {w : Cond} (hw : w ∈ lw_tbl) (hc : cNw w = true) : va_Nw w X.2.2.2.2.1 := hX.2.2.2.2.2.1.2.2.1 w hw hc
theorem clc_sP {K N : Nat → Nat} {P : Nat → Nat → Nat} {c k r : Nat} (hs : sr c k = 0) (h : clc K N P) : clc K N (gz_u2 P c k r) := by
  intro d hd
  obtain ⟨a, b, e⟩ := h d hd
  refine ⟨a, b, fun j hj => ?_⟩
  unfold gz_u2
  by_cases hq : d = c ∧ j = k
  · rw [hq.1, hq.2] at hj
    exact absurd hs hj
  · rw [if_neg hq]; exact e j hj
theorem clc_al {m : gM} {k n s : Nat} (h0 : m.1 m.2.2.2.2.2.1 = 0) (h : clc m.1 m.2.1 m.2.2.2.2.1) : clc (gz_al m k n s).1 (gz_al m k n s).2.1 (gz_al m k n s).2.2.2.2.1 := by
  intro c hc
  obtain ⟨a, b, e⟩ := h c hc
  have hne : c ≠ m.2.2.2.2.2.1 := fun q => hc (by rw [← a, q]; exact h0)
  refine ⟨?_, ?_, fun j hj => ?_⟩
  · show (if c = m.2.2.2.2.2.1 then k else m.1 c) = _
    rw [if_neg hne]; exact a
  · show (if c = m.2.2.2.2.2.1 then n else m.2.1 c) = _
    rw [if_neg hne]; exact b
  · show (if c = m.2.2.2.2.2.1 then 0 else m.2.2.2.2.1 c j) = _
    rw [if_neg hne]; exact e j hj
theorem sr_r5 : (List.range 2400).all (fun x => !cSt x || (List.range 40).all (fun k => sr (x + 5) k == 0)) = true := by decide +kernel
theorem sr_row {x k : Nat} (h : cSt x = true) (hk : k < 40) : sr (x + 5) k = 0 := by
  have h1 := List.all_eq_true.mp sr_r5 x (List.mem_range.mpr (cSt_lt h))
  rw [h] at h1
  simp only [Bool.not_true, Bool.false_or] at h1
  exact beq_iff_eq.mp (List.all_eq_true.mp h1 k (List.mem_range.mpr hk))
theorem sr_kept (k : Nat) : sr 1447 k = 0 := by
  unfold sr
  rw [if_neg (by decide), if_neg (by decide), if_neg (by decide), if_neg (by decide), if_neg (by decide), if_neg (by decide), if_neg (by decide)]
theorem assign_refl (vm : Vm) (c : ClassId) : vm.assignable c c = true := by
  unfold Vm.assignable Vm.assignableAux
  simp
/-- storing a row (an int array) into an array of rows -/
theorem cr_row {X : gz_X} {G : gz_G} {cc : ByteArray} {nL : Nat} {own : String} {fr lo : Nat} {m : gM} (hX : gz_C cS X G cc nL own fr lo) {r : Nat} (hr : ks r = 101) (H : Heap) (hR : gz_R cS G m H) : ∃ (cv : Cell) (kv k kcomp : Class) (comp : ClassId), H[gz_ad G r]? = some cv ∧ (∀ q, cv.vm ≠ .statics q) ∧ X.2.2.2.2.1.vm.classes[cv.cls]? = some kv ∧ X.2.2.2.2.1.vm.classes[gz_dA G 7]? = some k ∧ k.kind = .array comp (.array .int) ∧ X.2.2.2.2.1.vm.classes[comp]? = some kcomp ∧ X.2.2.2.2.1.vm.assignable cv.cls comp = true := by
  obtain ⟨⟨k, a, b⟩, -⟩ := hX.2.2.2.2.2.1.2.1
  have h1 := (hR.1 r).2 0 (by rw [(hR.2.2.2.2.2 r (by rw [hr]; decide)).1, hr])
  obtain ⟨-, kv, h2, comp, h3⟩ := (gz_ty hX.2.2.2.2.2.1 (t := 0) (ty := .int) rfl).1 0 (fun _ => .int 0)
  have h2 : X.2.2.2.2.1.vm.classes[gz_dA G 0]? = some kv := h2
  exact ⟨_, kv, k, kv, gz_dA G 0, h1, fun q h => (by cases h), h2, a, b, h2, assign_refl _ _⟩
/-- an object of a class of ours -/
def cOb (m : gM) (r : Nat) : Bool := Nat.ble 1 (m.1 r) && Nat.ble (m.1 r) 23
theorem cCast : ∀ ci : Nat, ci < 23 → ∃ q, clC[ci]? = some q ∧ Cond.castable q.1 "java/lang/Object" ∈ lw_tbl := by
  intro ci h
  match ci, h with
  | 0, _ => exact ⟨_, rfl, q2674⟩
  | 1, _ => exact ⟨_, rfl, q2675⟩
  | 2, _ => exact ⟨_, rfl, q2677⟩
  | 3, _ => exact ⟨_, rfl, q2678⟩
  | 4, _ => exact ⟨_, rfl, q2679⟩
  | 5, _ => exact ⟨_, rfl, q2672⟩
  | 6, _ => exact ⟨_, rfl, q2682⟩
  | 7, _ => exact ⟨_, rfl, q2683⟩
  | 8, _ => exact ⟨_, rfl, q2684⟩
  | 9, _ => exact ⟨_, rfl, q2685⟩
  | 10, _ => exact ⟨_, rfl, q2686⟩
  | 11, _ => exact ⟨_, rfl, q2688⟩
  | 12, _ => exact ⟨_, rfl, q2689⟩
  | 13, _ => exact ⟨_, rfl, q2690⟩
  | 14, _ => exact ⟨_, rfl, q2691⟩
  | 15, _ => exact ⟨_, rfl, q2692⟩
  | 16, _ => exact ⟨_, rfl, q2693⟩
  | 17, _ => exact ⟨_, rfl, q2694⟩
  | 18, _ => exact ⟨_, rfl, q2695⟩
  | 19, _ => exact ⟨_, rfl, q2696⟩
  | 20, _ => exact ⟨_, rfl, q2676⟩
  | 21, _ => exact ⟨_, rfl, q2673⟩
  | 22, _ => exact ⟨_, rfl, q2687⟩
  | n + 23, h => omega
theorem cAny {X : gz_X} {G : gz_G} {cc : ByteArray} {nL : Nat} {own : String} {fr lo : Nat} {m : gM} {H : Heap} (hX : gz_C cS X G cc nL own fr lo) (hR : gz_R cS G m H) {r : Nat} (h : cOb m r = true) : va_Any "java/lang/Object" X.2.2.2.2.1 H (gz_ad G r) := by
  simp only [cOb, Bool.and_eq_true, Nat.ble_eq] at h
  obtain ⟨q, hq, hw⟩ := cCast (m.1 r - 1) (by omega)
  obtain ⟨cell, q1, q2, q3⟩ := gz_recv (X := X) hX.2.2.2.2.2.1 hR (ci := m.1 r - 1) (c := r) (q := q) hq (by omega) (by omega)
  obtain ⟨kC, hkC, -⟩ := Vm.findClass_spec q3
  exact ⟨cell, q1, q2, ⟨kC, hkC⟩, fun comp hc => vb_asgC (hX.2.2.2.2.2.1.2.2.1 _ hw rfl) comp _ hc q3⟩
theorem cr_ob {X : gz_X} {G : gz_G} {cc : ByteArray} {nL : Nat} {own : String} {fr lo : Nat} {m : gM} (hX : gz_C cS X G cc nL own fr lo) {r : Nat} (hr : cOb m r = true) (H : Heap) (hR : gz_R cS G m H) : ∃ (cv : Cell) (kv k kcomp : Class) (comp : ClassId), H[gz_ad G r]? = some cv ∧ (∀ q, cv.vm ≠ .statics q) ∧ X.2.2.2.2.1.vm.classes[cv.cls]? = some kv ∧ X.2.2.2.2.1.vm.classes[gz_dA G 5]? = some k ∧ k.kind = .array comp (.object "java/lang/Object") ∧ X.2.2.2.2.1.vm.classes[comp]? = some kcomp ∧ X.2.2.2.2.1.vm.assignable cv.cls comp = true := by
  obtain ⟨k, comp, a, b, c, -⟩ := (gz_ty hX.2.2.2.2.2.1 (t := 5) (ty := .object "java/lang/Object") rfl).2
  obtain ⟨cell, q1, q2, ⟨kC, hkC⟩, q4⟩ := cAny hX hR hr
  obtain ⟨kE, hkE, -⟩ := Vm.findClass_spec c
  exact ⟨cell, kC, k, kE, comp, q1, fun q h => (by rw [h] at q2; cases q2), hkC, a, b, hkE, q4 comp c⟩
theorem sr_all : (List.range 2400).all (fun c => ks c != 0 || (List.range 40).all (fun k => sr c k == 0)) = true := by decide +kernel
theorem sr_hi {c k : Nat} (h : 40 ≤ k) : sr c k = 0 := by
  unfold sr
  have e1 : mainFix.getD k 0 = 0 := by
    rw [List.getD_eq_getElem?_getD, List.getElem?_eq_none (by show 28 ≤ k; omega)]
    rfl
  repeat (first | rw [e1] | (split <;> try omega) | rfl)
theorem sr_dyn {c k : Nat} (h : ks c = 0) : sr c k = 0 := by
  by_cases hk : k < 40
  · by_cases hc : c < 2400
    · have h1 := List.all_eq_true.mp sr_all c (List.mem_range.mpr hc)
      rw [h] at h1
      simp only [bne_self_eq_false, Bool.false_or] at h1
      exact beq_iff_eq.mp (List.all_eq_true.mp h1 k (List.mem_range.mpr hk))
    · unfold sr
      have hs : cSt c = false := by
        cases hq : cSt c with
        | false => rfl
        | true => exact absurd (cSt_lt hq) hc
      rw [if_neg (by omega), if_neg (by omega), if_neg (by omega), if_neg (by omega), if_neg (by rw [hs]; decide), if_neg (by omega), if_neg (by omega)]
  · exact sr_hi (by omega)
theorem clc_cp {m : gM} {a0 sp a dp n : Nat} (ha : ks a = 0) (h : clc m.1 m.2.1 m.2.2.2.2.1) : clc m.1 m.2.1 (gz_cpP m a0 sp a dp n).2.2.2.2.1 := by
  intro c hc
  obtain ⟨x, y, z⟩ := h c hc
  refine ⟨x, y, fun k hk => ?_⟩
  show (if c = a then _ else m.2.2.2.2.1 c k) = _
  rw [if_neg (fun e => hc (by rw [e]; exact ha))]
  exact z k hk
/-- storing a State into the row of States -/
theorem cr_st {X : gz_X} {G : gz_G} {cc : ByteArray} {nL : Nat} {own : String} {fr lo : Nat} {m : gM} (hX : gz_C cS X G cc nL own fr lo) {r : Nat} (hr : cSt r = true) (H : Heap) (hR : gz_R cS G m H) : ∃ (cv : Cell) (kv k kcomp : Class) (comp : ClassId), H[gz_ad G r]? = some cv ∧ (∀ q, cv.vm ≠ .statics q) ∧ X.2.2.2.2.1.vm.classes[cv.cls]? = some kv ∧ X.2.2.2.2.1.vm.classes[gz_dA G 9]? = some k ∧ k.kind = .array comp (.object "FirstSnuffer$State") ∧ X.2.2.2.2.1.vm.classes[comp]? = some kcomp ∧ X.2.2.2.2.1.vm.assignable cv.cls comp = true := by
  obtain ⟨k, comp, a, b, c, -⟩ := (gz_ty hX.2.2.2.2.2.1 (t := 9) (ty := .object "FirstSnuffer$State") rfl).2
  obtain ⟨r0, h0, cell, q1, q2, q3, -⟩ := (hR.1 r).1 5 (cz_k hR.2.2.2.2.2 (st_k hr)) (by decide)
  obtain ⟨-, hfc, kC, hkC, -⟩ := hX.2.2.2.2.2.1.1.1 5 (RX5, TX5, 10) rfl
  have e : comp = (gz_D G).1 5 := Option.some.inj (c.symm.trans hfc)
  subst e
  exact ⟨cell, kC, k, kC, _, q1, fun q h => (by rw [q3] at h; cases h), by rw [q2]; exact hkC, a, b, hkC, by rw [q2]; exact assign_refl _ _⟩
