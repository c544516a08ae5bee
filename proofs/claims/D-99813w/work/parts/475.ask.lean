/-! ===== a question: both sides ===== -/
theorem rWd.ways {m : MM} {μ : gM} (h : rWd m μ) : wyR m := by
  obtain ⟨l, _, w, _⟩ := h
  intro a b ha hb
  rcases w a b ha hb with ⟨q, -⟩ | ⟨q, -⟩ <;> omega
theorem rWd.ak {m : MM} {μ : gM} (h : rWd m μ) : akW m μ ∧ okN m ∧ m.1 2000 52 = -1 := by
  obtain ⟨l, ⟨q1, q2, q3, q4, q5, q6, q7, q8, q9, q10, q11, q12, q13⟩, w, _⟩ := h
  exact ⟨⟨q1, q2, q6, w⟩, q5, q12⟩
theorem ends_mv2 {a b : MM} (E : ∀ c j : Nat, c = 1038 ∨ c = 1043 ∨ c = 1051 → b.1 c j = a.1 c j) (t : Nat) : endsS b t = endsS a t := by
  have mE : ∀ c j : Nat, c = 1038 ∨ c = 1043 ∨ c = 1051 → mi b c j = mi a c j := fun c j hc => congrArg Int32.toInt (E c j hc)
  have st : ∀ (k : Nat) (s : Int32), tStep b k s = tStep a k s := fun k s => by
    unfold tStep
    rw [mE _ _ (by omega), mE _ _ (by omega), mE _ _ (by omega)]
  have ps : ∀ (k : Nat) (s : Int32), tPass b k s = tPass a k s := fun k => by
    induction k with
    | zero => intro s; rfl
    | succ k ih => intro s; show tStep b k (tPass b k s) = tStep a k (tPass a k s); rw [ih, st]
  have cl : ∀ (n K : Nat) (s : Int32), tClo b K n s = tClo a K n s := fun n => by
    induction n with
    | zero => intro K s; rfl
    | succ n ih => intro K s; unfold tClo; rw [ps, ih]
  unfold endsS ties
  rw [cl, mE _ _ (by omega)]
theorem cod_app {m : MM} : ∀ {A B : List Int}, cod m (A ++ B) → cod m B
  | [], _, h => h
  | _ :: A, _, h => cod_app (A := A) h.2
theorem cod_rev {m : MM} {cs : List Int} (h : cod m cs.reverse) : ∀ i : Nat, i < cs.length → m.1 1093 i = iI (cs.getD i 0) := by
  intro i hi
  have e : cs.reverse = (cs.drop (i + 1)).reverse ++ (cs.getD i 0 :: (cs.take i).reverse) := by
    rw [List.getD_eq_getElem?_getD, List.getElem?_eq_getElem hi, Option.getD_some]
    have : cs = cs.take i ++ (cs[i] :: cs.drop (i + 1)) := by
      rw [← List.drop_eq_getElem_cons hi, List.take_append_drop]
    conv => lhs; rw [this]
    rw [List.reverse_append, List.reverse_cons, List.append_assoc]
    rfl
  rw [e] at h
  have h2 := (cod_app h).1
  rw [List.length_reverse, List.length_take, Nat.min_eq_left (by omega)] at h2
  exact h2
/-- the model, when the question stands -/
theorem p_ask117 {m' : MM} {k : Nat} {cs : List Int} {ty : Bool} (hk : k < 6) (h5 : m'.1 2000 5 = 0) (h6 : m'.1 2000 6 = -1) (hE : eS m' (cs.reverse ++ []) [] 0 0 true) (hl : cs.length ≤ 1500) (hT : qT cs [] [ty]) (hM : rMany m') (hN : okN m') (hw : wyR m') (ht : tieOK m') : pw (mj_X6_ask_117 (iI k) m') (fun q => ∃ mC : MM, (∀ c j : Nat, c ≠ 1055 → ¬ (c = 2000 ∧ (j = 7 ∨ j = 8 ∨ j = 48 ∨ j = 101)) → mC.1 c j = m'.1 c j) ∧ (∀ c j : Nat, ¬ (c = 2000 ∧ j = 100) → mC.2 c j = m'.2 c j) ∧ mC.1 2000 7 = 0 ∧ mC.1 2000 8 = -1 ∧ (∀ t : Nat, t < things mC → mC.1 1055 t = endsS mC t) ∧ q.1 = lL (aS k (qv mC cs) (things mC)) ∧ akE mC q.2) := by
  unfold mj_X6_ask_117
  refine pw_let (pw_let ?_)
  have s0 : ∀ x : Int64, x = lL (aS0 k) → pw (mj_X6_ask_157 (iI k) x (msI (msI m' 2000 7 (m'.1 2000 5)) 2000 8 ((msI m' 2000 7 (m'.1 2000 5)).1 2000 6))) (fun q => ∃ mC : MM, (∀ c j : Nat, c ≠ 1055 → ¬ (c = 2000 ∧ (j = 7 ∨ j = 8 ∨ j = 48 ∨ j = 101)) → mC.1 c j = m'.1 c j) ∧ (∀ c j : Nat, ¬ (c = 2000 ∧ j = 100) → mC.2 c j = m'.2 c j) ∧ mC.1 2000 7 = 0 ∧ mC.1 2000 8 = -1 ∧ (∀ t : Nat, t < things mC → mC.1 1055 t = endsS mC t) ∧ q.1 = lL (aS k (qv mC cs) (things mC)) ∧ akE mC q.2) := fun x hx => by
    unfold mj_X6_ask_157
    refine pw_let (pw_let ?_)
    generalize hB : msI (msL (msI (msI m' 2000 7 (m'.1 2000 5)) 2000 8 ((msI m' 2000 7 (m'.1 2000 5)).1 2000 6)) 2000 100 x) 2000 101 1 = mB
    have I : ∀ c j : Nat, ¬ (c = 2000 ∧ (j = 7 ∨ j = 8 ∨ j = 101)) → mB.1 c j = m'.1 c j := fun c j h => by
      rw [← hB, msI_i, if_neg (by omega)]
      show (msI (msI m' 2000 7 (m'.1 2000 5)) 2000 8 ((msI m' 2000 7 (m'.1 2000 5)).1 2000 6)).1 c j = _
      rw [msI_i, if_neg (by omega), msI_i, if_neg (by omega)]
    have L : ∀ c j : Nat, ¬ (c = 2000 ∧ j = 100) → mB.2 c j = m'.2 c j := fun c j h => by
      rw [← hB]
      show (msL (msI (msI m' 2000 7 (m'.1 2000 5)) 2000 8 ((msI m' 2000 7 (m'.1 2000 5)).1 2000 6)) 2000 100 x).2 c j = _
      rw [msL_l, if_neg h]; rfl
    have V : mB.1 2000 7 = 0 ∧ mB.1 2000 8 = -1 ∧ mB.1 2000 101 = 1 ∧ mB.2 2000 100 = x := by
      rw [← hB]
      refine ⟨h5, ?_, rfl, rfl⟩
      show (msI m' 2000 7 (m'.1 2000 5)).1 2000 6 = -1
      rw [msI_i, if_neg (by omega)]; exact h6
    clear hB
    obtain ⟨v7, v8, v101, v100⟩ := V
    have mE : ∀ c j : Nat, ¬ (c = 2000 ∧ (j = 7 ∨ j = 8 ∨ j = 101)) → mi mB c j = mi m' c j := fun c j h => congrArg Int32.toInt (I c j h)
    have tieB : tieOK mB := by
      refine ⟨?_, fun k hk => ?_⟩
      · unfold rMany
        rw [mE _ _ (by omega), mE _ _ (by omega), mE _ _ (by omega), mE _ _ (by omega), mE _ _ (by omega)]
        exact ht.1
      · rw [mE _ _ (by omega)] at hk
        rw [mE _ _ (by omega), mE _ _ (by omega)]
        exact ht.2 k hk
    refine p_endsAll tieB fun mC f1 f2 f3 => ?_
    have J : ∀ c j : Nat, c ≠ 1055 → ¬ (c = 2000 ∧ (j = 7 ∨ j = 8 ∨ j = 48 ∨ j = 101)) → mC.1 c j = m'.1 c j := fun c j h1 h2 => (f1 c j h1 (by omega)).trans (I c j (by omega))
    have mJ : ∀ c j : Nat, c ≠ 1055 → ¬ (c = 2000 ∧ (j = 7 ∨ j = 8 ∨ j = 48 ∨ j = 101)) → mi mC c j = mi m' c j := fun c j h1 h2 => congrArg Int32.toInt (J c j h1 h2)
    have MC : rMany mC := by
      unfold rMany
      rw [mJ _ _ (by omega) (by omega), mJ _ _ (by omega) (by omega), mJ _ _ (by omega) (by omega), mJ _ _ (by omega) (by omega), mJ _ _ (by omega) (by omega)]
      exact hM
    have NC : okN mC := by
      obtain ⟨a1, a2, a3, a4⟩ := hN
      refine ⟨by rw [mJ _ _ (by omega) (by omega)]; exact a1, fun t ht => by rw [mJ _ _ (by omega) (by omega), mJ _ _ (by omega) (by omega)]; exact a2 t ht, by rw [mJ _ _ (by omega) (by omega)]; exact a3, fun t ht => ?_⟩
      rw [mJ _ _ (by omega) (by omega)] at ht
      rw [mJ _ _ (by omega) (by omega), mJ _ _ (by omega) (by omega)]
      exact a4 t ht
    obtain ⟨E1, E2, -⟩ := hE
    have c93 : ∀ i : Nat, i < cs.length → m'.1 1093 i = iI (cs.getD i 0) := by
      rw [List.append_nil] at E1
      exact cod_rev E1
    have th : things mC = things mB := by
      unfold things
      rw [mJ _ _ (by omega) (by omega), mE _ _ (by omega)]
    have en : ∀ t : Nat, endsS mC t = endsS mB t := fun t => ends_mv2 (fun c j h => f1 c j (by omega) (by omega)) t
    refine pw_mono (p_answers MC NC (fun a b ha hb => by rw [mJ _ _ (by omega) (by omega)]; exact hw a b ha hb) hl ((J _ _ (by omega) (by omega)).trans (by rw [E2]; simp)) (fun i hi => (J _ _ (by omega) (by omega)).trans (c93 i hi)) hT hk (by rw [f2, v100]; exact hx) (by rw [f1 _ _ (by omega) (by omega)]; exact v101)) ?_
    rintro q ⟨q1, q2⟩
    refine ⟨mC, J, fun c j h => by rw [f2]; exact L c j h, ?_, ?_, fun t h => ?_, q1, q2⟩
    · rw [f1 _ _ (by omega) (by omega)]; exact v7
    · rw [f1 _ _ (by omega) (by omega)]; exact v8
    · rw [th] at h
      rw [en]; exact f3 t h
  have h5' : (msI (msI m' 2000 7 (m'.1 2000 5)) 2000 8 ((msI m' 2000 7 (m'.1 2000 5)).1 2000 6)).1 2000 5 = 0 := by
    rw [msI_i, if_neg (by omega), msI_i, if_neg (by omega)]; exact h5
  refine pw_t h5' (pw_if (fun q => ?_) (fun q => ?_))
  · rw [show (2 : Int32) = iI 2 from rfl, iI_le (by omega) (by omega)] at q
    exact s0 _ (by unfold aS0; rw [if_pos (by omega)]; rfl)
  · rw [show (2 : Int32) = iI 2 from rfl, iI_le (by omega) (by omega)] at q
    exact s0 _ (by unfold aS0; rw [if_neg (by omega)]; decide)
