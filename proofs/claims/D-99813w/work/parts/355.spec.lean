/-! ===== what an hour does, told of the model's memory ===== -/
/-- the cells that hours, ends, orders depend on -/
def kyC (c j : Nat) : Prop := c = 1038 ∨ c = 1041 ∨ c = 1043 ∨ c = 1044 ∨ c = 1045 ∨ c = 1046 ∨ c = 1050 ∨ (c = 1051 ∧ j < 30) ∨ (c = 2000 ∧ (j = 52 ∨ j = 53))
def sE (m m' : MM) : Prop := ∀ c j : Nat, kyC c j → m'.1 c j = m.1 c j
theorem sE.refl (m : MM) : sE m m := fun _ _ _ => rfl
theorem sE.symm {a b : MM} (h : sE a b) : sE b a := fun c j k => (h c j k).symm
theorem sE.trans {a b c : MM} (h1 : sE a b) (h2 : sE b c) : sE a c := fun x y k => (h2 x y k).trans (h1 x y k)
theorem sE.at {a b : MM} (h : sE a b) {c j : Nat} (hc : kyC c j) : mi b c j = mi a c j := congrArg Int32.toInt (h c j hc)
theorem sE.of {a b : MM} (h : tE a b) : sE a b := fun c j k => h.1 c j (by unfold kyC at k; omega)
theorem sE.w {a b : MM} (h : sE a b) (j : Nat) : mi b 1038 j = mi a 1038 j := h.at (by unfold kyC; omega)
theorem sE.g {a b : MM} (h : sE a b) (j : Nat) : mi b 1041 j = mi a 1041 j := h.at (by unfold kyC; omega)
theorem sE.k {a b : MM} (h : sE a b) (j : Nat) : mi b 1043 j = mi a 1043 j := h.at (by unfold kyC; omega)
theorem sE.f {a b : MM} (h : sE a b) (j : Nat) : mi b 1044 j = mi a 1044 j := h.at (by unfold kyC; omega)
theorem sE.e {a b : MM} (h : sE a b) (j : Nat) : mi b 1045 j = mi a 1045 j := h.at (by unfold kyC; omega)
theorem sE.c {a b : MM} (h : sE a b) (j : Nat) : mi b 1046 j = mi a 1046 j := h.at (by unfold kyC; omega)
theorem sE.y {a b : MM} (h : sE a b) (j : Nat) : mi b 1050 j = mi a 1050 j := h.at (by unfold kyC; omega)
theorem sE.n {a b : MM} (h : sE a b) {j : Nat} (hj : j < 30) : mi b 1051 j = mi a 1051 j := h.at (by unfold kyC; omega)
theorem sE.nTh {a b : MM} (h : sE a b) : things b = things a := by unfold things; rw [h.w]
theorem sE.nTi {a b : MM} (h : sE a b) : ties b = ties a := by unfold ties; rw [h.w]
theorem sE.near {a b : MM} (h : sE a b) (t : Nat) : ∀ k : Nat, k ≤ 8 → nearF b t k = nearF a t k
  | 0, _ => rfl
  | k + 1, hk => by
    rw [nearF_s, nearF_s, h.near t k (by omega), h.n (by omega), h.g, h.g]
theorem sE.heat {a b : MM} (h : sE a b) (t : Nat) : heatS b t = heatS a t := by
  unfold heatS
  rw [h.at (c := 2000) (j := 52) (by unfold kyC; omega), h.at (c := 2000) (j := 53) (by unfold kyC; omega), h.g]
theorem sE.env {a b : MM} (h : sE a b) (hm : rMany a) {t : Nat} (ht : t < 8) (w : Int) : envM b t w = envM a t w := by
  have hb := hm.2.1
  unfold envM
  rw [h.n (by omega), h.heat, h.nTh, h.near t _ (by unfold things; omega), h.n (by omega), h.g, h.n (by omega)]
theorem sE.many {a b : MM} (h : sE a b) (hm : rMany a) : rMany b := by
  unfold rMany
  rw [h.w, h.w, h.w, h.w, h.w]
  exact hm
theorem sE.oN {a b : MM} (h : sE a b) (hm : okN a) : okN b := by
  obtain ⟨h1, h2, h3, h4⟩ := hm
  refine ⟨by rw [h.n (by omega)]; exact h1, fun t ht => by rw [h.n (by omega), h.n (by omega)]; exact h2 t ht, by rw [h.at (c := 2000) (j := 53) (by unfold kyC; omega)]; exact h3, fun t ht => ?_⟩
  rw [h.w] at ht
  rw [h.g, h.g]
  exact h4 t ht
theorem sE.tS {a b : MM} (h : sE a b) {k : Nat} (hk : k < 12) (s : Int32) : tStep b k s = tStep a k s := by
  unfold tStep
  rw [h.n (by omega), h.k, h.k]
theorem sE.tP {a b : MM} (h : sE a b) : ∀ (k : Nat), k ≤ 12 → ∀ s : Int32, tPass b k s = tPass a k s
  | 0, _, _ => rfl
  | k + 1, hk, s => by
    show tStep b k (tPass b k s) = tStep a k (tPass a k s)
    rw [h.tP k (by omega), h.tS (by omega)]
theorem sE.tC {a b : MM} (h : sE a b) {K : Nat} (hK : K ≤ 12) : ∀ (n : Nat) (s : Int32), tClo b K n s = tClo a K n s
  | 0, _ => rfl
  | n + 1, s => by
    show (if tPass b K s = s then s else tClo b K n (tPass b K s)) = (if tPass a K s = s then s else tClo a K n (tPass a K s))
    rw [h.tP K hK, h.tC hK n]
theorem sE.ends {a b : MM} (h : sE a b) (hm : rMany a) (t : Nat) : endsS b t = endsS a t := by
  have hb := hm.2.2.2.1
  unfold endsS
  rw [h.nTi, h.tC (by unfold ties; omega)]
/-! codes in the model's memory -/
def csM (m : MM) (w : Nat) : List Int := (List.range (mi m 1045 (2 + w) - mi m 1044 (2 + w)).toNat).map (fun i => mi m 1046 (1600 + (mi m 1044 (2 + w)).toNat + i))
theorem csM_of {m : MM} {w : Nat} {cs : List Int} (h : codesAt m w cs) : csM m w = cs := by
  obtain ⟨h1, h2, h3, h4⟩ := h
  have hl : (mi m 1045 (2 + w) - mi m 1044 (2 + w)).toNat = cs.length := by omega
  unfold csM
  rw [hl]
  apply List.ext_getElem
  · rw [List.length_map, List.length_range]
  · intro i a b
    rw [List.getElem_map, List.getElem_range, h4 i b, List.getD_eq_getElem?_getD, List.getElem?_eq_getElem b, Option.getD_some]
theorem sE.cs {a b : MM} (h : sE a b) (w : Nat) : csM b w = csM a w := by
  unfold csM
  rw [h.e, h.f]
  congr 1
  funext i
  exact h.c _
def lk0 : Int → Int → Int := fun _ _ => 0
def valM (m : MM) (w t : Nat) : Int := (qR (envM m t) lk0 (csM m w) []).headD 0
def cOK1 (m : MM) (w : Nat) (ty : Bool) : Prop := mi m 1044 (2 + w) ≠ -1 → codesAt m w (csM m w) ∧ (∀ c ∈ csM m w, c < 60 ∨ 1000 ≤ c) ∧ qT (csM m w) [] [ty]
def cOK (m : MM) : Prop := cOK1 m 0 false ∧ cOK1 m 1 true
theorem sE.cAt {a b : MM} (h : sE a b) {w : Nat} {cs : List Int} (hc : codesAt a w cs) : codesAt b w cs := by
  unfold codesAt
  rw [h.f, h.e]
  obtain ⟨h1, h2, h3, h4⟩ := hc
  exact ⟨h1, h2, h3, fun i hi => by rw [h.c]; exact h4 i hi⟩
theorem sE.cO1 {a b : MM} (h : sE a b) {w : Nat} {ty : Bool} (hc : cOK1 a w ty) : cOK1 b w ty := by
  intro q
  rw [h.f] at q
  obtain ⟨h1, h2, h3⟩ := hc q
  rw [h.cs]
  exact ⟨h.cAt h1, h2, h3⟩
theorem sE.cO {a b : MM} (h : sE a b) (hc : cOK a) : cOK b := ⟨h.cO1 hc.1, h.cO1 hc.2⟩
theorem qR_env {e e' : Int → Int} {lk : Int → Int → Int} (h : ∀ w, e w = e' w) : ∀ (cs st : List Int), qR e lk cs st = qR e' lk cs st := by
  have : e = e' := funext h
  intro cs st
  rw [this]
theorem sE.val {a b : MM} (h : sE a b) (hm : rMany a) {t : Nat} (ht : t < 8) (w : Nat) : valM b w t = valM a w t := by
  unfold valM
  rw [h.cs, qR_env (h.env hm ht)]
def cutS (v : Int) : Int := if v < 0 then 0 else if 99 < v then 99 else v
theorem cutS_b (v : Int) : 0 ≤ cutS v ∧ cutS v ≤ 99 := by
  unfold cutS
  repeat' split
  all_goals omega
/-- how strongly one will burn; -1 if it does not burn -/
def nxM (m : MM) (t : Nat) : Int := if mi m 1051 (14 + 2 * t) ≤ 0 then -1 else cutS (if mi m 1044 2 = -1 then mi m 1051 (14 + 2 * t) - 1 else valM m 0 t)
theorem nxM_b (m : MM) (t : Nat) : -1 ≤ nxM m t ∧ nxM m t ≤ 99 := by
  have h := cutS_b (if mi m 1044 2 = -1 then mi m 1051 (14 + 2 * t) - 1 else valM m 0 t)
  unfold nxM
  split
  all_goals omega
theorem sE.nx {a b : MM} (h : sE a b) (hm : rMany a) {t : Nat} (ht : t < 8) : nxM b t = nxM a t := by
  unfold nxM
  rw [h.n (by omega), h.f, h.val hm ht]
def mdM (m : MM) (t : Nat) : Prop := 0 < mi m 1051 (14 + 2 * t) ∧ mi m 1044 3 ≠ -1 ∧ valM m 1 t = 1
theorem sE.md {a b : MM} (h : sE a b) (hm : rMany a) {t : Nat} (ht : t < 8) : mdM b t ↔ mdM a t := by
  unfold mdM
  rw [h.n (by omega), h.f, h.val hm ht]
/-- strengths and smells behind the hour, as far as thing i -/
def stI (m : MM) (i t : Nat) : Int := if t < i ∧ nxM m t ≠ -1 then nxM m t else mi m 1051 (14 + 2 * t)
def smI (m : MM) (i t : Nat) : Int := if t < i then (if nxM m t = -1 then (if mi m 1051 (15 + 2 * t) < 99 then mi m 1051 (15 + 2 * t) + 1 else mi m 1051 (15 + 2 * t)) else if nxM m t = 0 then 0 else mi m 1051 (15 + 2 * t)) else mi m 1051 (15 + 2 * t)
def hourM (m : MM) : MM := (fun c j => if c = 1051 ∧ j < 30 then (if j = 0 then iI (mi m 1051 0 + 1) else if j < 14 then m.1 1051 j else if j % 2 = 0 then iI (stI m (things m) ((j - 14) / 2)) else iI (smI m (things m) ((j - 14) / 2))) else m.1 c j, m.2)
theorem stI_r (m : MM) (i t : Nat) : -2147483648 ≤ stI m i t ∧ stI m i t < 2147483648 := by
  have h := nxM_b m t
  have h2 := mi_r m 1051 (14 + 2 * t)
  unfold stI
  split <;> omega
theorem smI_r (m : MM) (i t : Nat) : -2147483648 ≤ smI m i t ∧ smI m i t < 2147483648 := by
  have h2 := mi_r m 1051 (15 + 2 * t)
  unfold smI
  repeat' split
  all_goals omega
theorem hourM_o (m : MM) {c j : Nat} (h : ¬ (c = 1051 ∧ j < 30)) : (hourM m).1 c j = m.1 c j := if_neg h
theorem hourM_mo (m : MM) {c j : Nat} (h : ¬ (c = 1051 ∧ j < 30)) : mi (hourM m) c j = mi m c j := congrArg Int32.toInt (hourM_o m h)
theorem hourM_0 {m : MM} (h : okN m) : mi (hourM m) 1051 0 = mi m 1051 0 + 1 := by
  have h1 := h.1
  unfold hourM
  show Int32.toInt (if (1051 : Nat) = 1051 ∧ 0 < 30 then _ else _) = _
  rw [if_pos (by omega), if_pos rfl]
  exact toInt_iI (by omega) (by omega)
theorem hourM_w {m : MM} {j : Nat} (h0 : 0 < j) (h : j < 14) : mi (hourM m) 1051 j = mi m 1051 j := by
  unfold hourM
  show Int32.toInt (if (1051 : Nat) = 1051 ∧ j < 30 then _ else _) = _
  rw [if_pos (by omega), if_neg (by omega), if_pos h]
  rfl
theorem hourM_st {m : MM} {t : Nat} (h : t < 8) : mi (hourM m) 1051 (14 + 2 * t) = stI m (things m) t := by
  unfold hourM
  show Int32.toInt (if (1051 : Nat) = 1051 ∧ 14 + 2 * t < 30 then _ else _) = _
  rw [if_pos (by omega), if_neg (by omega), if_neg (by omega), if_pos (by omega), show (14 + 2 * t - 14) / 2 = t by omega]
  have := stI_r m (things m) t
  exact toInt_iI (by omega) (by omega)
theorem hourM_sm {m : MM} {t : Nat} (h : t < 8) : mi (hourM m) 1051 (15 + 2 * t) = smI m (things m) t := by
  unfold hourM
  show Int32.toInt (if (1051 : Nat) = 1051 ∧ 15 + 2 * t < 30 then _ else _) = _
  rw [if_pos (by omega), if_neg (by omega), if_neg (by omega), if_neg (by omega), show (15 + 2 * t - 14) / 2 = t by omega]
  have := smI_r m (things m) t
  exact toInt_iI (by omega) (by omega)
theorem stI_b {m : MM} (h : okN m) (i : Nat) {t : Nat} (ht : t < 8) : 0 ≤ stI m i t ∧ stI m i t ≤ 99 := by
  have h1 := (h.2.1 t ht).1
  have h2 := nxM_b m t
  unfold stI
  split <;> omega
theorem smI_b {m : MM} (h : okN m) (i : Nat) {t : Nat} (ht : t < 8) : 0 ≤ smI m i t ∧ smI m i t ≤ 99 := by
  have h1 := (h.2.1 t ht).2
  unfold smI
  repeat' split
  all_goals omega
/-! what is kept of the past -/
def keepS (l : List (Int × Int × Int)) (e : Int × Int × Int) : List (Int × Int × Int) := if l.length = 40 then l.tail ++ [e] else l ++ [e]
theorem keepS_len {l : List (Int × Int × Int)} (h : l.length ≤ 40) (e : Int × Int × Int) : (keepS l e).length ≤ 40 ∧ (keepS l e).length = (if l.length = 40 then 40 else l.length + 1) := by
  unfold keepS
  by_cases q : l.length = 40
  · rw [if_pos q, if_pos q, List.length_append, List.length_tail]
    show l.length - 1 + 1 ≤ 40 ∧ l.length - 1 + 1 = 40
    omega
  · rw [if_neg q, if_neg q, List.length_append]
    show l.length + 1 ≤ 40 ∧ l.length + 1 = l.length + 1
    omega
def e3 (e : Int × Int × Int) (j : Nat) : Int := if j = 0 then e.1 else if j = 1 then e.2.1 else e.2.2
def e3r (e : Int × Int × Int) : Prop := ∀ j : Nat, j < 3 → -2147483648 ≤ e3 e j ∧ e3 e j < 2147483648
def kpM (l : List (Int × Int × Int)) (m : MM) : Prop := l.length ≤ 40 ∧ mi m 1051 30 = l.length ∧ ∀ i j : Nat, i < l.length → j < 3 → mi m 1051 (31 + 3 * i + j) = e3 (l.getD i (0, 0, 0)) j
/-- what goes out of itself in the hour is kept -/
def hrK (m : MM) (l : List (Int × Int × Int)) : Nat → List (Int × Int × Int)
  | 0 => l
  | i + 1 => if nxM m i = 0 then keepS (hrK m l i) (mi m 1051 0, i, 0) else hrK m l i
theorem hrK_s (m : MM) (l : List (Int × Int × Int)) (i : Nat) : hrK m l (i + 1) = if nxM m i = 0 then keepS (hrK m l i) (mi m 1051 0, i, 0) else hrK m l i := rfl
def hrN (m : MM) : Nat → Int
  | 0 => 0
  | i + 1 => if nxM m i = 0 then hrN m i + 1 else hrN m i
theorem hrN_s (m : MM) (i : Nat) : hrN m (i + 1) = if nxM m i = 0 then hrN m i + 1 else hrN m i := rfl
theorem hrN_b (m : MM) : ∀ i : Nat, 0 ≤ hrN m i ∧ hrN m i ≤ i
  | 0 => by constructor <;> exact Int.le_refl _
  | i + 1 => by
    have := hrN_b m i
    rw [hrN_s]
    split <;> omega
