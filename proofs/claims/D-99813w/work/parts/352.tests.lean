/-! ===== tests as trees, and the codes that they stand for ===== -/
def tRep (al : Int → Prop) (lo : Bool) : Nat → gM → Nat → List Int → Prop
  | 0, _, _, _ => False
  | d + 1, μ, r, cs => r ≠ 0 ∧ ks r = 0 ∧ (
      (gK μ r = 18 ∧ cs = [13]) ∨
      (gK μ r = 19 ∧ ∃ (c1 c2 : List Int) (k : Int), (7 ≤ k ∧ k ≤ 9) ∧ gI μ r 2 = iI (if k = 7 then 60 else if k = 8 then 62 else 61) ∧ vRep al lo d μ (gP μ r 0) c1 ∧ vRep al lo d μ (gP μ r 1) c2 ∧ cs = c1 ++ (c2 ++ [k])) ∨
      (gK μ r = 17 ∧ ∃ c1 : List Int, tRep al lo d μ (gP μ r 0) c1 ∧ cs = c1 ++ [12]) ∨
      (gK μ r = 16 ∧ ∃ (n : Nat) (f : Nat → List Int) (k : Int), (k = 0 ∨ k = 1) ∧ n < 100000 ∧ gI μ r 1 = iI k ∧ lst μ (gP μ r 0) (n + 1 : Nat) ∧ (∀ i : Nat, i ≤ n → tRep al lo d μ (el μ (gP μ r 0) i) (f i)) ∧ cs = chC f (fun _ => 11 - k) n))
theorem qT_cht {f : Nat → List Int} {k : Int} (hk : k = 0 ∨ k = 1) : ∀ (n : Nat), (∀ i : Nat, i ≤ n → qT (f i) [] [true]) → qT (chC f (fun _ => 11 - k) n) [] [true]
  | 0, h => h 0 (Nat.le_refl _)
  | n + 1, h => by
    have h1 := qT_cht hk n (fun i hi => h i (by omega))
    have h2 := qT_under [true] (h (n + 1) (Nat.le_refl _))
    refine qT_app h1 (qT_app h2 (Or.inr (Or.inr (Or.inl ⟨by show (10 ≤ 11 - k ∧ 11 - k ≤ 11); omega, [], rfl, rfl⟩))))
theorem tRep_T {al : Int → Prop} {lo : Bool} : ∀ (d : Nat) {μ : gM} {r : Nat} {cs : List Int}, tRep al lo d μ r cs → qT cs [] [true]
  | 0, _, _, _, h => h.elim
  | d + 1, μ, r, cs, ⟨_, _, h⟩ => by
    rcases h with ⟨_, e⟩ | ⟨_, c1, c2, k, hk, _, h1, h2, e⟩ | ⟨_, c1, h1, e⟩ | ⟨_, n, f, k, hk, _, _, _, hf, e⟩
    · subst e
      exact Or.inr (Or.inr (Or.inr (Or.inr (Or.inl ⟨rfl, rfl⟩))))
    · subst e
      exact qT_app (vRep_T d h1) (qT_app (qT_under [false] (vRep_T d h2)) (Or.inr (Or.inl ⟨by omega, [], rfl, rfl⟩)))
    · subst e
      exact qT_app (tRep_T d h1) (Or.inr (Or.inr (Or.inr (Or.inl ⟨rfl, [], rfl, rfl⟩))))
    · subst e
      exact qT_cht hk n (fun i hi => tRep_T d (hf i hi))
theorem no_cht {f : Nat → List Int} {k : Int} (hk : k = 0 ∨ k = 1) : ∀ (n : Nat), (∀ i : Nat, i ≤ n → ∀ c ∈ f i, c < 60 ∨ 1000 ≤ c) → ∀ c ∈ chC f (fun _ => 11 - k) n, c < 60 ∨ 1000 ≤ c
  | 0, h => h 0 (Nat.le_refl _)
  | n + 1, h => by
    intro c hc
    rcases List.mem_append.mp hc with hc | hc
    · exact no_cht hk n (fun i hi => h i (by omega)) c hc
    · rcases List.mem_append.mp hc with hc | hc
      · exact h (n + 1) (Nat.le_refl _) c hc
      · rw [List.mem_singleton.mp hc]
        show 11 - k < 60 ∨ 1000 ≤ 11 - k
        omega
theorem qop_7 (a b : Int) : qop 7 a b = if a < b then 1 else 0 := by unfold qop; rw [if_neg (by omega), if_neg (by omega), if_neg (by omega), if_neg (by omega), if_neg (by omega), if_neg (by omega), if_pos (by omega)]
theorem qop_8 (a b : Int) : qop 8 a b = if b < a then 1 else 0 := by unfold qop; rw [if_neg (by omega), if_neg (by omega), if_neg (by omega), if_neg (by omega), if_neg (by omega), if_neg (by omega), if_neg (by omega), if_pos (by omega)]
theorem qop_9 (a b : Int) : qop 9 a b = if a = b then 1 else 0 := by unfold qop; rw [if_neg (by omega), if_neg (by omega), if_neg (by omega), if_neg (by omega), if_neg (by omega), if_neg (by omega), if_neg (by omega), if_neg (by omega), if_pos (by omega)]
theorem tRep_no {al : Int → Prop} : ∀ (d : Nat) {μ : gM} {r : Nat} {cs : List Int}, tRep al false d μ r cs → ∀ c ∈ cs, c < 60 ∨ 1000 ≤ c
  | 0, _, _, _, h => h.elim
  | d + 1, μ, r, cs, ⟨_, _, h⟩ => by
    rcases h with ⟨_, e⟩ | ⟨_, c1, c2, k, hk, _, h1, h2, e⟩ | ⟨_, c1, h1, e⟩ | ⟨_, n, f, k, hk, _, _, _, hf, e⟩
    · subst e
      intro c hc
      rw [List.mem_singleton.mp hc]; omega
    · subst e
      intro c hc
      rcases List.mem_append.mp hc with hc | hc
      · exact vRep_no d h1 c hc
      · rcases List.mem_append.mp hc with hc | hc
        · exact vRep_no d h2 c hc
        · rw [List.mem_singleton.mp hc]; omega
    · subst e
      intro c hc
      rcases List.mem_append.mp hc with hc | hc
      · exact tRep_no d h1 c hc
      · rw [List.mem_singleton.mp hc]; omega
    · subst e
      exact no_cht hk n (fun i hi => tRep_no d (hf i hi))
theorem tRep_k {al : Int → Prop} {lo : Bool} {d : Nat} {μ : gM} {r : Nat} {cs : List Int} (h : tRep al lo d μ r cs) : r ≠ 0 ∧ (gK μ r = 18 ∨ gK μ r = 19 ∨ gK μ r = 17 ∨ gK μ r = 16) := by
  cases d with
  | zero => exact h.elim
  | succ d =>
    obtain ⟨h0, _, h⟩ := h
    refine ⟨h0, ?_⟩
    rcases h with ⟨k, _⟩ | ⟨k, _⟩ | ⟨k, _⟩ | ⟨k, _⟩ <;> simp [k]
theorem vRep_0 {al : Int → Prop} {lo : Bool} {d : Nat} {μ : gM} {r : Nat} {cs : List Int} (h : vRep al lo d μ r cs) : r ≠ 0 := by
  cases d with
  | zero => exact h.elim
  | succ d => exact h.1
/-- deeper is no harm -/
theorem vRep_up {al : Int → Prop} {lo : Bool} : ∀ (d : Nat) {μ : gM} {r : Nat} {cs : List Int}, vRep al lo d μ r cs → vRep al lo (d + 1) μ r cs
  | 0, _, _, _, h => h.elim
  | d + 1, μ, r, cs, ⟨h0, h1, h⟩ => by
    refine ⟨h0, h1, ?_⟩
    rcases h with h | h | ⟨k, c1, c2, kk, hk, e1, a1, a2, e⟩ | ⟨k, hlo, c1, kk, hk, e1, e2, a1, e⟩ | ⟨k, n, f, g, hn, hl, hf, hsb, hg, e⟩
    · exact Or.inl h
    · exact Or.inr (Or.inl h)
    · exact Or.inr (Or.inr (Or.inl ⟨k, c1, c2, kk, hk, e1, vRep_up d a1, vRep_up d a2, e⟩))
    · exact Or.inr (Or.inr (Or.inr (Or.inl ⟨k, hlo, c1, kk, hk, e1, e2, vRep_up d a1, e⟩)))
    · exact Or.inr (Or.inr (Or.inr (Or.inr ⟨k, n, f, g, hn, hl, fun i hi => vRep_up d (hf i hi), hsb, hg, e⟩)))
theorem tRep_up {al : Int → Prop} {lo : Bool} : ∀ (d : Nat) {μ : gM} {r : Nat} {cs : List Int}, tRep al lo d μ r cs → tRep al lo (d + 1) μ r cs
  | 0, _, _, _, h => h.elim
  | d + 1, μ, r, cs, ⟨h0, h1, h⟩ => by
    refine ⟨h0, h1, ?_⟩
    rcases h with h | ⟨k, c1, c2, kk, hk, e1, a1, a2, e⟩ | ⟨k, c1, a1, e⟩ | ⟨k, n, f, kk, hk, hn, e1, hl, hf, e⟩
    · exact Or.inl h
    · exact Or.inr (Or.inl ⟨k, c1, c2, kk, hk, e1, vRep_up d a1, vRep_up d a2, e⟩)
    · exact Or.inr (Or.inr (Or.inl ⟨k, c1, tRep_up d a1, e⟩))
    · exact Or.inr (Or.inr (Or.inr ⟨k, n, f, kk, hk, hn, e1, hl, fun i hi => tRep_up d (hf i hi), e⟩))
/-- what is static may change -/
theorem sbR.dy {μ μ' : gM} {b n : Nat} {g : Nat → Int} (h : sbR μ b n g) (hd : dyS μ μ') : sbR μ' b n g := by
  obtain ⟨a1, a2, a3, a4, a5, a6, a7, a8, a9, a10, a11⟩ := h
  have h1 : gP μ' b 0 = gP μ b 0 := (hd.2.2.2 b a2 0).2.2
  have h3 : gK μ' = gK μ := hd.1
  have h4 : gN μ' = gN μ := hd.2.1
  refine ⟨a1, a2, by rw [h3]; exact a3, by rw [(hd.2.2.2 b a2 1).1]; exact a4, by rw [(hd.2.2.2 b a2 3).1]; exact a5, by rw [h1]; exact a6, by rw [h1]; exact a7, by rw [h1, h3]; exact a8, by rw [h1, h4]; exact a9, by rw [h1, h4]; exact a10, fun i hi => ?_⟩
  rw [h1, (hd.2.2.2 _ a7 i).1]
  exact a11 i hi
theorem vRep_dy {al : Int → Prop} {lo : Bool} {μ μ' : gM} (hd : dyS μ μ') : ∀ (d : Nat) {r : Nat} {cs : List Int}, vRep al lo d μ r cs → vRep al lo d μ' r cs
  | 0, _, _, h => h.elim
  | d + 1, r, cs, ⟨h0, h1, h⟩ => by
    have h3 : gK μ' r = gK μ r := by rw [show gK μ' = gK μ from hd.1]
    have hI : ∀ j, gI μ' r j = gI μ r j := fun j => (hd.2.2.2 r h1 j).1
    have hP : ∀ j, gP μ' r j = gP μ r j := fun j => (hd.2.2.2 r h1 j).2.2
    refine ⟨h0, h1, ?_⟩
    rcases h with ⟨k, v, hv, e1, e⟩ | ⟨k, w, hw, hal, e1, e⟩ | ⟨k, c1, c2, kk, hk, e1, a1, a2, e⟩ | ⟨k, hlo, c1, kk, hk, e1, e2, a1, e⟩ | ⟨k, n, f, g, hn, hl, hf, hsb, hg, e⟩
    · exact Or.inl ⟨h3.trans k, v, hv, (hd.2.2.2 r h1 0).2.1.trans e1, e⟩
    · exact Or.inr (Or.inl ⟨h3.trans k, w, hw, hal, (hI 0).trans e1, e⟩)
    · exact Or.inr (Or.inr (Or.inl ⟨h3.trans k, c1, c2, kk, hk, (hI 0).trans e1, by rw [hP]; exact vRep_dy hd d a1, by rw [hP]; exact vRep_dy hd d a2, e⟩))
    · exact Or.inr (Or.inr (Or.inr (Or.inl ⟨h3.trans k, hlo, c1, kk, hk, (hI 0).trans e1, (hP 2).trans e2, by rw [hP]; exact vRep_dy hd d a1, e⟩)))
    · have hl' := hl.dy hd
      exact Or.inr (Or.inr (Or.inr (Or.inr ⟨h3.trans k, n, f, g, hn, by rw [hP]; exact hl'.1, fun i hi => by rw [hP, hl'.2 i]; exact vRep_dy hd d (hf i hi), by rw [hP]; exact hsb.dy hd, hg, e⟩)))
theorem tRep_dy {al : Int → Prop} {lo : Bool} {μ μ' : gM} (hd : dyS μ μ') : ∀ (d : Nat) {r : Nat} {cs : List Int}, tRep al lo d μ r cs → tRep al lo d μ' r cs
  | 0, _, _, h => h.elim
  | d + 1, r, cs, ⟨h0, h1, h⟩ => by
    have h3 : gK μ' r = gK μ r := by rw [show gK μ' = gK μ from hd.1]
    have hI : ∀ j, gI μ' r j = gI μ r j := fun j => (hd.2.2.2 r h1 j).1
    have hP : ∀ j, gP μ' r j = gP μ r j := fun j => (hd.2.2.2 r h1 j).2.2
    refine ⟨h0, h1, ?_⟩
    rcases h with ⟨k, e⟩ | ⟨k, c1, c2, kk, hk, e1, a1, a2, e⟩ | ⟨k, c1, a1, e⟩ | ⟨k, n, f, kk, hk, hn, e1, hl, hf, e⟩
    · exact Or.inl ⟨h3.trans k, e⟩
    · exact Or.inr (Or.inl ⟨h3.trans k, c1, c2, kk, hk, (hI 2).trans e1, by rw [hP]; exact vRep_dy hd d a1, by rw [hP]; exact vRep_dy hd d a2, e⟩)
    · exact Or.inr (Or.inr (Or.inl ⟨h3.trans k, c1, by rw [hP]; exact tRep_dy hd d a1, e⟩))
    · have hl' := hl.dy hd
      exact Or.inr (Or.inr (Or.inr ⟨h3.trans k, n, f, kk, hk, hn, (hI 1).trans e1, by rw [hP]; exact hl'.1, fun i hi => by rw [hP, hl'.2 i]; exact tRep_dy hd d (hf i hi), e⟩))
/-! chains of tests -/
def ao (k a b : Int) : Int := qop (11 - k) a b
theorem ao_v {k a b : Int} (hk : k = 0 ∨ k = 1) (ha : a = 0 ∨ a = 1) (hb : b = 0 ∨ b = 1) : (ao k a b = 0 ∨ ao k a b = 1) ∧ (a = 1 - k → ao k a b = 1 - k) ∧ (a = k → ao k a b = b) := by
  unfold ao qop
  rcases hk with x | x <;> rcases ha with y | y <;> rcases hb with z | z <;> subst x <;> subst y <;> subst z <;> decide
def aoF (k : Int) (b : Nat → Int) : Nat → Int
  | 0 => b 0
  | n + 1 => ao k (aoF k b n) (b (n + 1))
theorem aoF_v {k : Int} (hk : k = 0 ∨ k = 1) {b : Nat → Int} : ∀ (n : Nat), (∀ i, i ≤ n → b i = 0 ∨ b i = 1) → aoF k b n = 0 ∨ aoF k b n = 1
  | 0, h => h 0 (Nat.le_refl _)
  | n + 1, h => (ao_v hk (aoF_v hk n (fun i hi => h i (by omega))) (h (n + 1) (Nat.le_refl _))).1
theorem aoF_abs {k : Int} (hk : k = 0 ∨ k = 1) {b : Nat → Int} {i : Nat} (hi : aoF k b i = 1 - k) : ∀ (j : Nat), (∀ x, x ≤ i + j → b x = 0 ∨ b x = 1) → aoF k b (i + j) = 1 - k
  | 0, _ => hi
  | j + 1, h => by
    have h1 := aoF_abs hk hi j (fun x hx => h x (by omega))
    exact (ao_v hk (aoF_v hk (i + j) (fun x hx => h x (by omega))) (h (i + j + 1) (by omega))).2.1 h1
theorem c_holds {al : Int → Prop} {lo : Bool} {μ : gM} {mo : Nat} {env : Int → Int} {lk : Int → Int → Int} (hmo : moOK μ mo) (henv : ∀ w : Int, 0 ≤ w → w ≤ 6 → al w → clp (cl μ (gP μ mo 0) w.toNat) = clp (env (prt w)))
    (hlk : lo = true → ∀ k a : Int, (k = 0 ∨ k = 1) → (-1000000 ≤ a ∧ a ≤ 1000000) → (-9223372036854775808 ≤ lk k a ∧ lk k a < 9223372036854775808) ∧ cf_X0_looked (iI k) (lL a) μ = some (lL (lk k a), μ)) :
    ∀ (d : Nat) {r : Nat} {cs : List Int}, tRep al lo d μ r cs → ∃ v : Int, (v = 0 ∨ v = 1) ∧ (cev d).2 r mo μ = some (iI v, μ) ∧ ∀ st, qR env lk cs st = v :: st
  | 0, _, _, h => h.elim
  | d + 1, r, cs, ⟨r0, rk, h⟩ => by
    have ih := @c_holds al lo μ mo env lk hmo henv hlk d
    have iv := @c_at al lo μ mo env lk hmo henv hlk d
    simp only [cev]
    have kne : ∀ x y : Nat, gK μ r = y → y ≠ x → ¬ μ.1 r = x := fun x y h1 h2 q => h2 (h1.symm.trans q)
    rcases h with ⟨k, e⟩ | ⟨k, c1, c2, kk, hk, e1, a1, a2, e⟩ | ⟨k, c1, a1, e⟩ | ⟨k, n, f, kk, hk, hn, e1, hl, hf, e⟩
    · subst e
      refine ⟨1, Or.inr rfl, ?_, fun st => ?_⟩
      · rw [if_pos k]
        unfold cf_X20_holds
        rw [iI_lit]
      · show qS env lk 13 st = _
        unfold qS
        rw [if_neg (by omega), if_neg (by omega), if_neg (by omega), if_pos rfl]
    · subst e
      obtain ⟨v1, b1, q1, s1⟩ := iv a1
      obtain ⟨v2, b2, q2, s2⟩ := iv a2
      have p1 := vRep_0 a1
      have p2 := vRep_0 a2
      refine ⟨qop kk v1 v2, ?_, ?_, fun st => ?_⟩
      · unfold qop
        rw [if_neg (by omega), if_neg (by omega), if_neg (by omega), if_neg (by omega), if_neg (by omega), if_neg (by omega)]
        repeat' split
        all_goals omega
      · rw [if_neg (kne _ _ k (by decide)), if_pos k]
        have hkk : kk = 7 ∨ kk = 8 ∨ kk = 9 := by omega
        rcases hkk with z | z | z <;> subst z
        · have e1' : gI μ r 2 = iI 60 := e1
          unfold cf_X21_holds
          simp only [gz_let, if_pos k, if_pos p1, if_pos p2, q1, q2, Option.bind_some, e1', qop_7]
          rw [if_pos (by rw [iI_lit])]
          by_cases c : v1 < v2
          · rw [if_neg (by rw [lL_le (by omega) (by omega)]; omega), if_pos c, iI_lit]
          · rw [if_pos (by rw [lL_le (by omega) (by omega)]; omega), if_neg c, iI_lit]
        · have e1' : gI μ r 2 = iI 62 := e1
          unfold cf_X21_holds
          simp only [gz_let, if_pos k, if_pos p1, if_pos p2, q1, q2, Option.bind_some, e1', qop_8]
          rw [if_neg (by decide), if_pos (by rw [iI_lit])]
          by_cases c : v2 < v1
          · rw [if_neg (by rw [lL_le (by omega) (by omega)]; omega), if_pos c, iI_lit]
          · rw [if_pos (by rw [lL_le (by omega) (by omega)]; omega), if_neg c, iI_lit]
        · have e1' : gI μ r 2 = iI 61 := e1
          unfold cf_X21_holds
          simp only [gz_let, if_pos k, if_pos p1, if_pos p2, q1, q2, Option.bind_some, e1', qop_9]
          rw [if_neg (by decide), if_neg (by decide)]
          by_cases c : v1 = v2
          · rw [if_pos (by rw [c]), if_pos c, iI_lit]
          · rw [if_neg (by rw [lL_eq (by omega) (by omega)]; exact c), if_neg c, iI_lit]
      · rw [qR_app, s1, qR_app, s2]
        show qS env lk kk (v2 :: v1 :: st) = _
        unfold qS
        rw [if_neg (by omega), if_neg (by omega), if_neg (by omega), if_neg (by omega), if_neg (by omega)]
    · subst e
      obtain ⟨v1, b1, q1, s1⟩ := ih a1
      have p1 := (tRep_k a1).1
      refine ⟨1 - v1, by omega, ?_, fun st => ?_⟩
      · rw [if_neg (kne _ _ k (by decide)), if_neg (kne _ _ k (by decide)), if_pos k]
        unfold cf_X19_holds
        simp only [gz_let, if_pos k, if_pos p1, q1, Option.bind_some]
        rcases b1 with z | z <;> subst z
        · rw [if_pos (by rw [iI_lit]), iI_lit]; rfl
        · rw [if_neg (by decide), iI_lit]; rfl
      · rw [qR_app, s1]
        show qS env lk 12 (v1 :: st) = _
        unfold qS
        rw [if_neg (by omega), if_neg (by omega), if_neg (by omega), if_neg (by omega), if_pos rfl]
    · subst e
      have lp : gP μ r 0 ≠ 0 := hl.1
      have lk21 : gK μ (gP μ r 0) = 21 := hl.2.2.1
      have hall : ∀ i : Nat, ∃ b : Int, i ≤ n → (b = 0 ∨ b = 1) ∧ (cev d).2 (el μ (gP μ r 0) i) mo μ = some (iI b, μ) ∧ ∀ st, qR env lk (f i) st = b :: st := by
        intro i
        by_cases hi : i ≤ n
        · obtain ⟨b, x, y, z⟩ := ih (hf i hi)
          exact ⟨b, fun _ => ⟨x, y, z⟩⟩
        · exact ⟨0, fun q => absurd q hi⟩
      obtain ⟨b, hb⟩ := Classical.axiomOfChoice hall
      have hb01 : ∀ i, i ≤ n → b i = 0 ∨ b i = 1 := fun i hi => (hb i hi).1
      have hch : ∀ i, i ≤ n → ∀ st, qR env lk (chC f (fun _ => 11 - kk) i) st = aoF kk b i :: st := by
        intro i
        induction i with
        | zero => intro hi st; exact (hb 0 hi).2.2 st
        | succ i ihi =>
          intro hi st
          show qR env lk (chC f (fun _ => 11 - kk) i ++ (f (i + 1) ++ [11 - kk])) st = _
          rw [qR_app, ihi (by omega), qR_app, (hb (i + 1) hi).2.2]
          show qS env lk (11 - kk) (b (i + 1) :: aoF kk b i :: st) = _
          unfold qS
          rw [if_neg (by omega), if_neg (by omega), if_neg (by omega), if_neg (by omega), if_neg (by omega)]
          rfl
      have hv := aoF_v hk n hb01
      refine ⟨aoF kk b n, hv, ?_, hch n (Nat.le_refl _)⟩
      rw [if_neg (kne _ _ k (by decide)), if_neg (kne _ _ k (by decide)), if_neg (kne _ _ k (by decide)), if_pos k]
      unfold cf_X18_holds ml_X18_holds_2
      have step : ∀ i : Nat, i ≤ n → mb_X18_holds_2 (cev d).1 (cev d).2 r mo (iI i) μ = (if b i = kk then some (Sum.inl (iI ((i + 1 : Nat) : Int), μ)) else some (Sum.inr (iI (1 - kk), μ))) := by
        intro i hi
        obtain ⟨x, y, -⟩ := hb i hi
        unfold mb_X18_holds_2
        simp only [gz_let, if_pos k, if_pos lp, if_pos lk21, c_size hl, Option.bind_some]
        rw [if_neg (by rw [iI_le (by omega) (by omega)]; omega)]
        simp only [c_get hl (by omega) (i := i) (by omega), Option.bind_some, if_pos (tRep_k (hf i hi)).2, y, if_pos k, e1]
        by_cases c : b i = kk
        · rw [if_pos (by rw [c]), if_pos c, iI_lit, iI_add]
          rfl
        · rw [if_neg (by rw [iI_eq (by omega) (by omega)]; exact c), if_neg c]
          rcases hk with z | z <;> subst z
          · rw [if_pos (by rw [iI_lit]), iI_lit]; rfl
          · rw [if_neg (by decide), iI_lit]; rfl
      have last : mb_X18_holds_2 (cev d).1 (cev d).2 r mo (iI ((n + 1 : Nat) : Int)) μ = some (Sum.inr (iI kk, μ)) := by
        unfold mb_X18_holds_2
        simp only [gz_let, if_pos k, if_pos lp, if_pos lk21, c_size hl, Option.bind_some, e1]
        rw [if_pos (by rw [iI_le (by omega) (by omega)]; omega)]
        rw [if_pos (by rcases hk with z | z <;> subst z <;> simp [iI_lit])]
      have key : ∀ (j i : Nat), i + j = n + 1 → (∀ x, x < i → b x = kk) → gz_loop (fun q : (Int32 × gM) => mb_X18_holds_2 (cev d).1 (cev d).2 r mo q.1 q.2) (iI i, μ) = some (iI (aoF kk b n), μ) := by
        have pre : ∀ i : Nat, i ≤ n → (∀ x, x ≤ i → b x = kk) → aoF kk b i = kk := by
          intro i
          induction i with
          | zero => intro _ h; exact h 0 (Nat.le_refl _)
          | succ i ihi =>
            intro hi h
            have h1 := ihi (by omega) (fun x hx => h x (by omega))
            show ao kk (aoF kk b i) (b (i + 1)) = kk
            rw [(ao_v hk (aoF_v hk i (fun x hx => hb01 x (by omega))) (hb01 (i + 1) hi)).2.2 h1]
            exact h (i + 1) (Nat.le_refl _)
        intro j
        induction j with
        | zero =>
          intro i hi hx
          have hi : i = n + 1 := hi
          subst hi
          rw [pre n (Nat.le_refl _) (fun x hx' => hx x (by omega))]
          exact gz_loop_out last
        | succ j ihj =>
          intro i hi hx
          have st := step i (by omega)
          by_cases c : b i = kk
          · rw [if_pos c] at st
            rw [gz_loop_in (s' := (iI ((i + 1 : Nat) : Int), μ)) st]
            exact ihj (i + 1) (by omega) (fun x hx' => by
              by_cases e : x = i
              · rw [e]; exact c
              · exact hx x (by omega))
          · rw [if_neg c] at st
            have hai : aoF kk b i = 1 - kk := by
              have hbi := hb01 i (by omega)
              cases i with
              | zero => show b 0 = 1 - kk; omega
              | succ i =>
                have h1 := pre i (by omega) (fun x hx' => hx x (by omega))
                show ao kk (aoF kk b i) (b (i + 1)) = _
                rw [(ao_v hk (aoF_v hk i (fun x hx => hb01 x (by omega))) hbi).2.2 h1]
                omega
            have hn' := aoF_abs hk hai (n - i) (fun x hx => hb01 x (by omega))
            rw [show i + (n - i) = n by omega] at hn'
            rw [hn']
            exact gz_loop_out st
      have h0 := key (n + 1) 0 (by omega) (fun x hx => absurd hx (Nat.not_lt_zero _))
      rw [iI_lit]
      exact h0
