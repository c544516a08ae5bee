/-! ===== the model's codes, told to their end ===== -/
theorem qS_len (env : Int → Int) (lk : Int → Int → Int) (c : Int) (st : List Int) : (qS env lk c st).length ≤ st.length + 1 := by
  unfold qS
  repeat' split
  all_goals simp only [List.length_cons, List.length_nil]
  all_goals omega
theorem p_codesTell {m : MM} (h : rMany m) (hN : okN m) {w : Nat} (hw : w < 2) {cs : List Int} (hc : codesAt m w cs) (hno : ∀ c ∈ cs, c < 60 ∨ 1000 ≤ c) {ty : Bool} (hT : qT cs [] [ty]) {t : Nat} (ht : (t : Int) < mi m 1038 7) (lk : Int → Int → Int) :
    ∃ v : Int, qR (envM m t) lk cs [] = [v] ∧ vOK ty v ∧ pw (mf_codesTell (iI w) (iI t) m) (fun q => q.1 = lL v ∧ tE m q.2) := by
  have hb := h.2.1
  obtain ⟨c1, c2, c3, c4⟩ := hc
  have i1 : (2 : Int32) + iI w = iI (2 + w) := by rw [iI_lit, iI_add]
  have i2 : gz_ix (iI (2 + (w : Int))) = 2 + w := by rw [gix (by omega)]; omega
  -- the memory at the loop's start
  have hE0 : tE m (msI (msI (msI m 2000 55 (iI t)) 2000 48 (0 : Int32)) 2000 99 (0 : Int32)) := ⟨fun c j hc => by
    rw [msI_i, if_neg (by omega), msI_i, if_neg (by omega), msI_i, if_neg (by omega)], fun _ _ _ => rfl⟩
  have h55 : mi (msI (msI (msI m 2000 55 (iI t)) 2000 48 (0 : Int32)) 2000 99 (0 : Int32)) 2000 55 = t := by
    rw [iI_lit, mi_sI _ _ _ _ _ (by omega), if_neg (by omega), mi_sI _ _ _ _ _ (by omega), if_neg (by omega), mi_sI _ _ _ _ _ (by omega), if_pos ⟨rfl, rfl⟩]
  have h99 : pile (msI (msI (msI m 2000 55 (iI t)) 2000 48 (0 : Int32)) 2000 99 (0 : Int32)) [] := ⟨by rw [iI_lit, mi_sI _ _ _ _ _ (by omega), if_pos ⟨rfl, rfl⟩]; rfl, fun j hj => absurd hj (Nat.not_lt_zero _)⟩
  have key : ∀ P : Prop, (∀ v : Int, qR (envM m t) lk cs [] = [v] → vOK ty v → pw (mf_codesTell (iI w) (iI t) m) (fun q => q.1 = lL v ∧ tE m q.2) → P) → P := by
    intro P hP
    -- the last pile
    have run : pw (mf_codesTell (iI w) (iI t) m) (fun q => ∃ v : Int, qR (envM m t) lk cs [] = [v] ∧ vOK ty v ∧ q.1 = lL v ∧ tE m q.2) := by
      unfold mf_codesTell
      refine pw_let (pw_let (pw_let ?_))
      rw [i1, i2]
      refine pw_gu (by rw [gin_iI (by omega)]; omega) (pw_let ?_)
      rw [mi_of _ 1044 (2 + w), hE0.at (c := 1044) (by omega)]
      unfold ml_X6_codesTell_24
      refine pw_for (fun i q => q.1 = iI w ∧ q.2.1 = iI t ∧ q.2.2.1 = iI (mi m 1044 (2 + w) + i) ∧ tE m q.2.2.2 ∧ mi q.2.2.2 2000 55 = t ∧ ∃ s, pile q.2.2.2 (qR (envM m t) lk (cs.take i) []) ∧ stOK s (qR (envM m t) lk (cs.take i) []) ∧ (qR (envM m t) lk (cs.take i) []).length ≤ i ∧ qT (cs.drop i) s [ty]) cs.length ?_ ?_ ?_
      · rintro i ⟨x1, x2, x3, m2⟩ hi ⟨e1, e2, e3, hE, h5, s, hp, hs, hln, hq⟩
        dsimp only at e1 e2 e3 hE h5 hp ⊢
        subst e1; subst e2; subst e3
        have hcons : cs.drop i = cs.getD i 0 :: cs.drop (i + 1) := by
          rw [List.getD_eq_getElem?_getD, List.getElem?_eq_getElem hi, Option.getD_some]
          exact List.drop_eq_getElem_cons hi
        have htake : cs.take (i + 1) = cs.take i ++ [cs.getD i 0] := by
          rw [List.getD_eq_getElem?_getD, List.getElem?_eq_getElem hi, Option.getD_some]
          exact (List.take_append_getElem hi).symm
        have hmem : cs.getD i 0 ∈ cs := by
          rw [List.getD_eq_getElem?_getD, List.getElem?_eq_getElem hi, Option.getD_some]
          exact List.getElem_mem hi
        rw [hcons] at hq
        have h1 := p_tell1 (m0 := m) (hE.many h) (hE.okN hN) (t := t) (by rw [hE.at (by omega)]; exact ht) h5 hp (by omega) hw (k := mi m 1044 (2 + w) + i) (by rw [hE.at (by omega)]; omega) (by rw [hE.at (by omega)]; exact c3) (c := cs.getD i 0) (by
          rw [hE.at (by omega), show (mi m 1044 (2 + w) + (i : Int)).toNat = (mi m 1044 (2 + w)).toNat + i by omega, ← Nat.add_assoc]
          exact c4 i hi) (hno _ hmem) hq hs lk
        refine pw_mono h1 ?_
        rintro (q | q) hq2
        · obtain ⟨f1, f2, f3, f4, s', f5, f6, f7⟩ := hq2
          have fenv : qS (envM m2 t) lk (cs.getD i 0) (qR (envM m t) lk (cs.take i) []) = qR (envM m t) lk (cs.take (i + 1)) [] := by
            rw [htake, qR_app]
            have : envM m2 t = envM m t := funext fun w => hE.env t w
            rw [this]
            rfl
          rw [fenv] at f5 f6
          refine ⟨f1, f2, by rw [f3]; congr 1; omega, hE.trans (tE.of f4), by rw [f4.at (by omega)]; exact h5, s', f5, f6, ?_, f7⟩
          have l1 := qS_len (envM m2 t) lk (cs.getD i 0) (qR (envM m t) lk (cs.take i) [])
          rw [fenv] at l1
          omega
        · exact hq2.elim
      · rintro ⟨x1, x2, x3, m2⟩ ⟨e1, e2, e3, hE, h5, s, hp, hs, hln, hq⟩
        dsimp only at e1 e2 e3 hE h5 hp ⊢
        subst e1; subst e2; subst e3
        rw [List.take_length] at hp hs
        rw [List.drop_length] at hq
        have hq : s = [ty] := hq
        subst hq
        obtain ⟨v, vs, ev, hv, hvs⟩ := hs
        have hvs : vs = [] := hvs
        subst hvs
        rw [ev] at hp
        have e0 : ml m2 1099 0 = v := by have := hp.2 0 (by simp); simpa using this
        unfold mb_X6_codesTell_24
        rw [i1, i2, mi_of m2 1045 (2 + w), hE.at (c := 1045) (by omega)]
        have r45 := mi_r m 1045 (2 + w)
        refine pw_gu (by rw [gin_iI (by omega)]; omega) ?_
        refine pw_t (by rw [iI_le (by omega) (by omega)]; omega) ?_
        refine pw_gu (by decide) (pw_some ⟨v, ev, hv, ?_, hE⟩)
        show m2.2 1099 0 = lL v
        rw [ml_of, e0]
      · exact ⟨rfl, rfl, by simp, hE0, h55, [], h99, rfl, Nat.le_refl _, hT⟩
    obtain ⟨q, e, v, hv1, hv2, hv3, hv4⟩ := run
    exact hP v hv1 hv2 ⟨q, e, hv3, hv4⟩
  exact key _ fun v a b c => ⟨v, a, b, c⟩
