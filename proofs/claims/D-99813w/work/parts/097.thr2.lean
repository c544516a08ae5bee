/-! ===== throwing methods: ends, accounting ===== -/
def gx_k {α : Type} (f : α → Prop) (p : Prop) : Option α → Prop
  | some a => f a
  | none => p
def gx_o {α β : Type} (o : Option α) (f : α → Option β) (b : Option β) : Option β := match o with
  | some a => f a
  | none => b
def gz_VXa (Z : gz_S) (X : gz_X) (G : gz_G) (nL : Nat) (zE : Nat × Nat) (μ : gM) (pc : Nat) (lv : List (Nat × Value)) : Prop :=
  (μ.2.2.2.2.2.1 ≤ zE.1 ∧ μ.2.2.2.2.2.2 ≤ zE.2) ∧ gz_VX Z X G nL (zE.1 - μ.2.2.2.2.2.1, zE.2 - μ.2.2.2.2.2.2) μ pc lv
section GXA
variable {Z : gz_S} {X : gz_X} {G : gz_G} {cc : ByteArray} {nL : Nat} {own : String} {fr lo : Nat} {rem : Nat × Nat} {μ : gM} {pc : Nat} {lv : List (Nat × Value)} {st : List Value}
theorem gz_athrowa {zE : Nat × Nat} (hX : gz_C Z X G cc nL own fr lo) (hd : decode cc pc = .ok (.athrow, 1)) (kk : gz_VXa Z X G nL zE μ pc lv) : gz_Va Z X G nL zE μ pc lv (.ref (gz_ad G 1012) :: st) := ⟨kk.1, gz_athrow hX hd kk.2⟩
theorem gz_Vcx {zE : Nat × Nat} {μ1 : gM} {pc1 : Nat} {lv1 : List (Nat × Value)} {k n : Nat} (row : ∀ rem : Nat × Nat, gz_VX Z X G nL rem μ1 pc1 lv1 → gz_V Z X G nL (rem.1 + k, rem.2 + n) μ pc lv st) (hz : μ1.2.2.2.2.2.1 = μ.2.2.2.2.2.1 + k ∧ μ1.2.2.2.2.2.2 = μ.2.2.2.2.2.2 + n) (kk : gz_VXa Z X G nL zE μ1 pc1 lv1) : gz_Va Z X G nL zE μ pc lv st := by
  obtain ⟨⟨h1, h2⟩, h3⟩ := kk
  rw [hz.1] at h1 h3
  rw [hz.2] at h2 h3
  refine ⟨⟨by omega, by omega⟩, ?_⟩
  have h4 := row _ h3
  have r1 : zE.1 - (μ.2.2.2.2.2.1 + k) + k = zE.1 - μ.2.2.2.2.2.1 := by omega
  have r2 : zE.2 - (μ.2.2.2.2.2.2 + n) + n = zE.2 - μ.2.2.2.2.2.2 := by omega
  dsimp only at h4
  rw [r1, r2] at h4
  exact h4
theorem gz_VXe (h : gz_VX Z X G nL (0, 0) μ pc lv) : gz_VXa Z X G nL μ.2.2.2.2.2 μ pc lv := by
  refine ⟨⟨Nat.le_refl _, Nat.le_refl _⟩, ?_⟩
  rw [Nat.sub_self, Nat.sub_self]
  exact h
end GXA
section GXO
variable {Z : gz_S} {G : gz_G} {l : Launch} {y : MethodName} {cc : ByteArray} {nL : Nat} {rm : Room} {as : List Value} {μ μ' : gM}
theorem gx_ofR {o : Option Nat} {rt : FieldType} (hrt : (∃ n, rt = .object n) ∨ ∃ t, rt = .array t) (hy : plainName y.cls = true) (hsz : (lg_sl as).length ≤ nL) (hc : ∃ q : vw_C, Z.1[3]? = some q ∧ q.1 = "FirstSnuffer$Fault") (hk : Z.2.2.2.2 μ'.1 μ'.2.1 μ'.2.2.2.2.1 → μ'.1 1012 = 4)
    (body : ∀ X : gz_X, X.2.1 = l → gz_C Z X G cc nL y.cls rm.frames rm.locals → gx_k (fun r => gz_kR Z X G nL (0, 0) cc μ' r) (∀ (pc : Nat) (lv : List (Nat × Value)), gz_VX Z X G nL (0, 0) μ' pc lv) o → gz_V Z X G nL (rm.cells, rm.slots) μ 0 (lv_args 0 as) []) : gx_Met Z G l y cc nL (some rt) rm as μ μ' (o.map (fun r => some (.ref (gz_ad G r)))) := by
  refine gx_of hy hsz fun p e s m args below meth c X eX hx hb hr hlk hC hex => ?_
  subst eX
  refine body _ rfl hC ?_
  cases o with
  | none => exact fun pc lv => gx_out rfl hex hlk hC (Or.inr hc) hk (0, 0) pc lv
  | some r =>
    intro pc lv hd H locs ls cs hR hC hA hl
    obtain ⟨c1, c2⟩ := cs
    obtain ⟨e1, e2⟩ := hC
    have e1 : c1 = rm.cells := e1
    have e2 : c2 = rm.slots := e2
    subst e1; subst e2
    exact vq_ret (W.aret hx hb hr hrt (Or.inr ⟨_, rfl⟩) (fun t ht hW => ⟨⟨_, rfl, rfl⟩, by rw [ht]; exact hR⟩) hA hd hlk)
theorem gx_ofV {o : Option Unit} (hy : plainName y.cls = true) (hsz : (lg_sl as).length ≤ nL) (hc : ∃ q : vw_C, Z.1[3]? = some q ∧ q.1 = "FirstSnuffer$Fault") (hk : Z.2.2.2.2 μ'.1 μ'.2.1 μ'.2.2.2.2.1 → μ'.1 1012 = 4)
    (body : ∀ X : gz_X, X.2.1 = l → gz_C Z X G cc nL y.cls rm.frames rm.locals → gx_k (fun _ => gz_kV Z X G nL (0, 0) cc μ') (∀ (pc : Nat) (lv : List (Nat × Value)), gz_VX Z X G nL (0, 0) μ' pc lv) o → gz_V Z X G nL (rm.cells, rm.slots) μ 0 (lv_args 0 as) []) : gx_Met Z G l y cc nL none rm as μ μ' (o.map (fun _ => none)) := by
  refine gx_of hy hsz fun p e s m args below meth c X eX hx hb hr hlk hC hex => ?_
  subst eX
  refine body _ rfl hC ?_
  cases o with
  | none => exact fun pc lv => gx_out rfl hex hlk hC (Or.inr hc) hk (0, 0) pc lv
  | some r =>
    intro pc lv hd H locs ls cs hR hC hA hl
    obtain ⟨c1, c2⟩ := cs
    obtain ⟨e1, e2⟩ := hC
    have e1 : c1 = rm.cells := e1
    have e2 : c2 = rm.slots := e2
    subst e1; subst e2
    exact vq_ret (W.vret hx hb hr (fun t ht hW => ⟨⟨_, rfl, rfl⟩, by rw [ht]; exact hR⟩) hA hd hlk)
theorem gx_ofI {o : Option Int32} (hy : plainName y.cls = true) (hsz : (lg_sl as).length ≤ nL) (hc : ∃ q : vw_C, Z.1[3]? = some q ∧ q.1 = "FirstSnuffer$Fault") (hk : Z.2.2.2.2 μ'.1 μ'.2.1 μ'.2.2.2.2.1 → μ'.1 1012 = 4)
    (body : ∀ X : gz_X, X.2.1 = l → gz_C Z X G cc nL y.cls rm.frames rm.locals → gx_k (fun r => gz_kI Z X G nL (0, 0) cc μ' r) (∀ (pc : Nat) (lv : List (Nat × Value)), gz_VX Z X G nL (0, 0) μ' pc lv) o → gz_V Z X G nL (rm.cells, rm.slots) μ 0 (lv_args 0 as) []) : gx_Met Z G l y cc nL (some .int) rm as μ μ' (o.map (fun r => some (.int r))) := by
  refine gx_of hy hsz fun p e s m args below meth c X eX hx hb hr hlk hC hex => ?_
  subst eX
  refine body _ rfl hC ?_
  cases o with
  | none => exact fun pc lv => gx_out rfl hex hlk hC (Or.inr hc) hk (0, 0) pc lv
  | some r =>
    intro pc lv hd H locs ls cs hR hC hA hl
    obtain ⟨c1, c2⟩ := cs
    obtain ⟨e1, e2⟩ := hC
    have e1 : c1 = rm.cells := e1
    have e2 : c2 = rm.slots := e2
    subst e1; subst e2
    exact vq_ret (W.iret hx hb hr (fun t ht hW => ⟨⟨_, rfl, rfl⟩, by rw [ht]; exact hR⟩) hA hd hlk)
theorem gx_ofZ {o : Option Int32} (hy : plainName y.cls = true) (hsz : (lg_sl as).length ≤ nL) (hc : ∃ q : vw_C, Z.1[3]? = some q ∧ q.1 = "FirstSnuffer$Fault") (hk : Z.2.2.2.2 μ'.1 μ'.2.1 μ'.2.2.2.2.1 → μ'.1 1012 = 4)
    (body : ∀ X : gz_X, X.2.1 = l → gz_C Z X G cc nL y.cls rm.frames rm.locals → gx_k (fun r => gz_kZ Z X G nL (0, 0) cc μ' r) (∀ (pc : Nat) (lv : List (Nat × Value)), gz_VX Z X G nL (0, 0) μ' pc lv) o → gz_V Z X G nL (rm.cells, rm.slots) μ 0 (lv_args 0 as) []) : gx_Met Z G l y cc nL (some .boolean) rm as μ μ' (o.map (fun r => some (.int r))) := by
  refine gx_of hy hsz fun p e s m args below meth c X eX hx hb hr hlk hC hex => ?_
  subst eX
  refine body _ rfl hC ?_
  cases o with
  | none => exact fun pc lv => gx_out rfl hex hlk hC (Or.inr hc) hk (0, 0) pc lv
  | some r =>
    intro pc lv hd hz H locs ls cs hR hC hA hl
    obtain ⟨c1, c2⟩ := cs
    obtain ⟨e1, e2⟩ := hC
    have e1 : c1 = rm.cells := e1
    have e2 : c2 = rm.slots := e2
    subst e1; subst e2
    have hn : narrow .boolean (.int r) = .int r := by rcases hz with h | h <;> rw [h] <;> rfl
    exact vq_ret (W.zret hx hb hr hn (fun t ht hW => ⟨⟨_, rfl, rfl⟩, by rw [ht]; exact hR⟩) hA hd hlk)
end GXO
theorem gx_os {α β : Type} {a : α} {f : α → Option β} {b : Option β} {z : β} (h : gx_o (some a) f b = some z) : f a = some z := h
theorem gx_on {α β : Type} {f : α → Option β} {b : Option β} {z : β} (h : gx_o none f b = some z) : b = some z := h
theorem gx_km {α : Type} {f f' : α → Prop} {p p' : Prop} {o : Option α} (hf : ∀ a, f a → f' a) (hp : p → p') (h : gx_k f p o) : gx_k f' p' o := by
  cases o with
  | none => exact hp h
  | some a => exact hf a h
