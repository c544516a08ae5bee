set_option maxRecDepth 100000
/-! ===== the raw world of the component's constructors: nothing is fixed yet (printed by gen/comp.py raw) ===== -/
def uSt (G : gz_G) (U : State) : Prop := va_Z "java/lang/Throwable" "UNASSIGNED_STACK" "[Ljava/lang/StackTraceElement;" (gz_rf (gz_ad G) (gz_ad G 8)) (gz_A G) U (gz_H G) ∧ va_Z "java/lang/Throwable" "SUPPRESSED_SENTINEL" "Ljava/util/List;" (gz_rf (gz_ad G) (gz_ad G 9)) (gz_A G) U (gz_H G)
def rE (G : gz_G) (U : State) : Prop := cE G U ∧ uSt G U
def clR (_ _ : Nat → Nat) (_ : Nat → Nat → Nat) : Prop := True
abbrev cR : gz_S := (clC, ftC, tlC, rE, clR)
theorem Rcs_E : gz_Es cR := ⟨fun G s U hW h => ⟨cs_E.1 G s U hW h.1, h.2.1.moved hW.alike, h.2.2.moved hW.alike⟩, fun G s U e h => ⟨cs_E.2 G s U e h.1, h.2.1.moved (by rw [e]; exact Vm.Alike.refl _), h.2.2.moved (by rw [e]; exact Vm.Alike.refl _)⟩⟩
section RZ
variable {X : gz_X} {G : gz_G} {cc : ByteArray} {nL : Nat} {own : String} {fr lo : Nat} {m : gM}
theorem Rcz_s (hX : gz_C cR X G cc nL own fr lo) : cSt0 G X.2.2.2.2.1 := hX.2.2.2.2.2.1.2.1.2.2.2.2.2
theorem rz_u (hX : gz_C cR X G cc nL own fr lo) : uSt G X.2.2.2.2.1 := hX.2.2.2.2.2.1.2.2
theorem Rcz_n {Z : gz_S} (hX : gz_C cR X G cc nL own fr lo) {w : Cond} (hw : w ∈ lw_tbl) (hc : cNw w = true) : va_Nw w X.2.2.2.2.1 := hX.2.2.2.2.2.1.2.1.2.1 w hw hc
theorem Rclc_al {m : gM} {k n s : Nat} (_ : m.1 m.2.2.2.2.2.1 = 0) (_ : clR m.1 m.2.1 m.2.2.2.2.1) : clR (gz_al m k n s).1 (gz_al m k n s).2.1 (gz_al m k n s).2.2.2.2.1 := trivial
theorem Rcr_st (hX : gz_C cR X G cc nL own fr lo) {r : Nat} (hr : m.1 r = 5 + 1) (H : Heap) (hR : gz_R cR G m H) : ∃ (cv : Cell) (kv k kcomp : Class) (comp : ClassId), H[gz_ad G r]? = some cv ∧ (∀ q, cv.vm ≠ .statics q) ∧ X.2.2.2.2.1.vm.classes[cv.cls]? = some kv ∧ X.2.2.2.2.1.vm.classes[gz_dA G 9]? = some k ∧ k.kind = .array comp (.object "FirstSnuffer$State") ∧ X.2.2.2.2.1.vm.classes[comp]? = some kcomp ∧ X.2.2.2.2.1.vm.assignable cv.cls comp = true := by
  obtain ⟨k, comp, a, b, c, -⟩ := (gz_ty hX.2.2.2.2.2.1 (t := 9) (ty := .object "FirstSnuffer$State") rfl).2
  obtain ⟨r0, h0, cell, q1, q2, q3, -⟩ := (hR.1 r).1 5 hr (by decide)
  obtain ⟨-, hfc, kC, hkC, -⟩ := hX.2.2.2.2.2.1.1.1 5 (RX5, TX5, 10) rfl
  have e : comp = (gz_D G).1 5 := Option.some.inj (c.symm.trans hfc)
  subst e
  exact ⟨cell, kC, k, kC, _, q1, fun q h => (by rw [q3] at h; cases h), by rw [q2]; exact hkC, a, b, hkC, by rw [q2]; exact assign_refl _ _⟩
theorem rz_n7 (hX : gz_C cR X G cc nL own fr lo) : X.2.2.2.2.1.vm.findClass "[[I" = some (gz_dA G 7) := gz_RAn (gz_ty hX.2.2.2.2.2.1 (t := 7) (ty := .array .int) rfl).2
theorem rz_n8 (hX : gz_C cR X G cc nL own fr lo) : X.2.2.2.2.1.vm.findClass "[[[I" = some (gz_dA G 8) := gz_RAn (gz_ty hX.2.2.2.2.2.1 (t := 8) (ty := .array (.array .int)) rfl).2
/-- int[n][k] and int[n][k][j] -/
def rk2 (n k : Nat) : gM → gM := fun m => gz_mkN 7 n (fun m => gz_al m (0 + 101) k k) m n
def rk3 (n k j : Nat) : gM → gM := fun m => gz_mkN 8 n (rk2 k j) m n
theorem rMk2 (hX : gz_C cR X G cc nL own fr lo) {a b : Int32} {n k : Nat} (ha : ¬ a < 0 ∧ a.toNatClampNeg = n) (hb : ¬ b < 0 ∧ b.toNatClampNeg = k) (hs : Nat.ble n 1000 = true := by rfl) (ht : Nat.ble k 1000 = true := by rfl) : gz_Mk cR X G (gz_dA G 7) [a, b] (rk2 n k) (1 + n * 1) (n + n * k) := by
  have hs := Nat.le_of_ble_eq_true hs
  have ht := Nat.le_of_ble_eq_true ht
  obtain ⟨⟨k7, a1, b1⟩, -⟩ := hX.2.2.2.2.2.1.2.1.1
  obtain ⟨-, kv, h2, comp, h3⟩ := (gz_ty hX.2.2.2.2.2.1 (t := 0) (ty := .int) rfl).1 0 (fun _ => .int 0)
  refine gz_mkN_ok a1 b1 rfl rfl ha (by show n * 4 ≤ _; omega) (by omega) ⟨rfl, fun _ => rfl⟩ (by simp [hb.1]) (fun _ _ _ => trivial) ?_
  exact gz_mk1 (cc := comp) (k := kv) (ty := .int) h2 h3 hb (by show k * 4 ≤ _; omega) (by omega) rfl rfl rfl (fun _ _ _ => trivial)
theorem rMk3 (hX : gz_C cR X G cc nL own fr lo) {a b c : Int32} {n k j : Nat} (ha : ¬ a < 0 ∧ a.toNatClampNeg = n) (hb : ¬ b < 0 ∧ b.toNatClampNeg = k) (hc : ¬ c < 0 ∧ c.toNatClampNeg = j) (hs : Nat.ble n 1000 = true := by rfl) (ht : Nat.ble k 1000 = true := by rfl) (hj : Nat.ble j 1000 = true := by rfl) : gz_Mk cR X G (gz_dA G 8) [a, b, c] (rk3 n k j) (1 + n * (1 + k * 1)) (n + n * (k + k * j)) := by
  have hs' := Nat.le_of_ble_eq_true hs
  obtain ⟨-, k8, a1, b1⟩ := hX.2.2.2.2.2.1.2.1.1
  exact gz_mkN_ok a1 b1 rfl rfl ha (by show n * 4 ≤ _; omega) (by omega) ⟨rfl, fun _ => rfl⟩ (by simp [hb.1, hc.1]) (fun _ _ _ => trivial) (rMk2 hX hb hc ht hj)
theorem rk2_z (n k : Nat) (m : gM) : gZ (rk2 n k m) = gZ m + (1 + n * 1) ∧ gW (rk2 n k m) = gW m + (n + n * k) := by
  obtain ⟨a, b, -⟩ := gz_mkN_f (t := 7) (N := n) (f := fun m => gz_al m (0 + 101) k k) (k := 1) (n := k) (fun m => ⟨rfl, rfl, fun d hd => by have : d ≠ m.2.2.2.2.2.1 := Nat.ne_of_lt hd; simp [gz_al, this]⟩) m n
  exact ⟨by unfold rk2; rw [a]; omega, by unfold rk2; rw [b]; omega⟩
theorem rk2_o (n k : Nat) (m : gM) : ∀ d : Nat, d < gZ m → (rk2 n k m).1 d = m.1 d ∧ (rk2 n k m).2.1 d = m.2.1 d := (gz_mkN_f (t := 7) (N := n) (f := fun m => gz_al m (0 + 101) k k) (k := 1) (n := k) (fun m => ⟨rfl, rfl, fun d hd => by have : d ≠ m.2.2.2.2.2.1 := Nat.ne_of_lt hd; simp [gz_al, this]⟩) m n).2.2.1
theorem rk3_z (n k j : Nat) (m : gM) : gZ (rk3 n k j m) = gZ m + (1 + n * (1 + k * 1)) ∧ gW (rk3 n k j m) = gW m + (n + n * (k + k * j)) := by
  obtain ⟨a, b, -⟩ := gz_mkN_f (t := 8) (N := n) (f := rk2 k j) (k := 1 + k * 1) (n := k + k * j) (fun m => ⟨(rk2_z k j m).1, (rk2_z k j m).2, rk2_o k j m⟩) m n
  exact ⟨by unfold rk3; rw [a]; omega, by unfold rk3; rw [b]; omega⟩
end RZ
