/-! ===== the component's strings ===== -/
theorem getD_get {w : List Int} {i : Nat} (h : i < w.length) : w.getD i 0 = w[i] := by
  rw [List.getD_eq_getElem?_getD, List.getElem?_eq_getElem h, Option.getD_some]
theorem list_eq {w w' : List Int} (hl : w.length = w'.length) (h : ∀ i : Nat, i < w.length → w.getD i 0 = w'.getD i 0) : w = w' := by
  apply List.ext_getElem hl
  intro i a b
  have := h i a
  rw [getD_get a, getD_get b] at this
  exact this
theorem strR.inj {μ : gM} {s : Nat} {w w' : List Int} (h : strR μ s w) (h' : strR μ s w') : w = w' := by
  have hl : w.length = w'.length := by rw [← h.2.1.2.2.2, ← h'.2.1.2.2.2]
  refine list_eq hl (fun i hi => ?_)
  obtain ⟨a1, a2, a3⟩ := h.2.2.2 i hi
  obtain ⟨b1, b2, b3⟩ := h'.2.2.2 i (by omega)
  rw [a1] at b1
  exact (iI_eq (by omega) (by omega)).mp b1
theorem c_beq {μ : gM} {a b : Nat} {w w' : List Int} (ka : gK μ a = 102) (kb : gK μ b = 102) (na : gN μ a = w.length) (nb : gN μ b = w'.length) (la : w.length ≤ 1600) (lb : w'.length ≤ 1600) (ha : ∀ i : Nat, i < w.length → gI μ a i = iI (w.getD i 0) ∧ 0 ≤ w.getD i 0 ∧ w.getD i 0 < 128) (hb : ∀ i : Nat, i < w'.length → gI μ b i = iI (w'.getD i 0) ∧ 0 ≤ w'.getD i 0 ∧ w'.getD i 0 < 128) : cf_J11_equals a b μ = some (if w = w' then 1 else 0, μ) := by
  unfold cf_J11_equals
  rw [if_pos ka, if_pos kb, na, nb, ← iI_nI, ← iI_nI]
  by_cases c : w.length = w'.length
  rotate_left
  · rw [if_neg (by rw [iI_eq (by omega) (by omega)]; omega), if_neg (fun e => c (by rw [e]))]
  rw [if_pos (by rw [c])]
  have key : pw (ml_J11_equals_9 a b (0 : Int32) μ) (fun q => q = (if w = w' then 1 else 0, μ)) := by
    unfold ml_J11_equals_9
    refine pw_for (fun (i : Nat) (q : Int32 × gM) => q.1 = iI i ∧ q.2 = μ ∧ ∀ j : Nat, j < i → w.getD j 0 = w'.getD j 0) w.length ?_ ?_ ⟨rfl, rfl, fun j hj => absurd hj (Nat.not_lt_zero _)⟩
    · rintro i ⟨y, m⟩ hi hq0
      dsimp only at hq0
      obtain ⟨rfl, rfl, k⟩ := hq0
      dsimp only at k ⊢
      have gi : gz_ix (iI (i : Int)) = i := by rw [gix (by omega)]; omega
      have ei : iI (i : Int) + (1 : Int32) = iI ((i + 1 : Nat) : Int) := by rw [iI_lit, iI_add]; rfl
      obtain ⟨a1, a2, a3⟩ := ha i hi
      obtain ⟨b1, b2, b3⟩ := hb i (by omega)
      unfold mb_J11_equals_9
      rw [na, nb, gi, ei, a1, b1, ← iI_nI]
      simp only [gz_let]
      refine pw_gu ka (pw_f (by rw [iI_le (by omega) (by omega)]; omega) (pw_gu ka (pw_gu ((gin_iI (by omega)).2 (by omega)) (pw_gu kb (pw_gu ((gin_iI (by omega)).2 (by omega)) ?_)))))
      by_cases d : w.getD i 0 = w'.getD i 0
      · refine pw_t (by rw [d]) (pw_some ⟨rfl, rfl, fun j hj => ?_⟩)
        by_cases z : j = i
        · rw [z]; exact d
        · exact k j (by omega)
      · exact pw_f (by rw [iI_eq (by omega) (by omega)]; exact d) (pw_some (by rw [if_neg (fun e => d (by rw [e]))]; rfl))
    · rintro ⟨y, m⟩ hq0
      dsimp only at hq0
      obtain ⟨rfl, rfl, k⟩ := hq0
      dsimp only at k ⊢
      unfold mb_J11_equals_9
      rw [na, ← iI_nI]
      exact pw_gu ka (pw_t (by rw [iI_le (by omega) (by omega)]; omega) (pw_some (by rw [if_pos (list_eq c k)]; rfl)))
  obtain ⟨q, e, rfl⟩ := key
  exact e
theorem c_equals {μ : gM} {s s' : Nat} {w w' : List Int} (h : strR μ s w) (h' : strR μ s' w') : cf_J9_equals s s' μ = some (if w = w' then 1 else 0, μ) := by
  obtain ⟨⟨a1, a2, a3, a4⟩, ⟨b1, b2, b3, b4⟩, c1, c2⟩ := id h
  obtain ⟨⟨a1', a2', a3', a4'⟩, ⟨b1', b2', b3', b4'⟩, c1', c2'⟩ := id h'
  unfold cf_J9_equals
  rw [if_pos ⟨by rw [a3]; decide, by rw [a3']; decide⟩]
  by_cases c : s = s'
  · subst c
    rw [if_pos rfl, if_pos (h.inj h')]
  · rw [if_neg c, if_pos a3', if_neg n10, if_pos a3', if_neg n10, if_pos a3, if_pos a3', if_pos (by rw [a4, a4'])]
    unfold mj_J9_equals_36 mj_J9_equals_54
    simp only [gz_let]
    rw [if_pos a3, if_pos b1, if_pos a3', if_pos b1', c_beq b3 b3' b4 b4' c1 c1' c2 c2']
    simp only [Option.bind_some]
    by_cases e : w = w'
    · rw [if_pos e, if_neg n10]
    · rw [if_neg e, if_pos rfl]
theorem shr0 (x : Int32) : x >>> ((0 : Int32) &&& 31) = x := by
  apply b_ext
  intro i hi
  have := b_sshr 0 (by omega) x hi
  rw [show (nI 0 &&& 31) = ((0 : Int32) &&& 31) from rfl] at this
  rw [this, if_pos (by omega), Nat.zero_add]
theorem shl0 (x : Int32) : x <<< ((0 : Int32) &&& 31) = x := by
  apply b_ext
  intro i hi
  have := b_shl 0 (by omega) x hi
  rw [show (nI 0 &&& 31) = ((0 : Int32) &&& 31) from rfl] at this
  rw [this]
  simp
theorem c_length {μ : gM} {s : Nat} {w : List Int} (h : strR μ s w) : cf_J9_length s μ = some (iI w.length, μ) := by
  obtain ⟨⟨a1, a2, a3, a4⟩, ⟨b1, b2, b3, b4⟩, c1, c2⟩ := id h
  unfold cf_J9_length cf_J9_coder
  simp only [gz_let]
  rw [if_pos a3, if_pos b1, if_pos b3, if_pos a3, if_neg n10, if_pos a3, a4, if_pos (by decide)]
  simp only [Option.bind_some]
  rw [shr0, b4, ← iI_nI]
/-! hashes -/
def hS : List Int → Int32 → Int32
  | [], h => h
  | c :: w, h => hS w ((31 : Int32) * h + iI c)
theorem hS_app : ∀ (w : List Int) (c : Int) (h : Int32), hS (w ++ [c]) h = (31 : Int32) * hS w h + iI c
  | [], _, _ => rfl
  | x :: w, c, h => hS_app w c _
theorem c_hashB {μ : gM} {a : Nat} {w : List Int} (ka : gK μ a = 102) (na : gN μ a = w.length) (la : w.length ≤ 1600) (ha : ∀ i : Nat, i < w.length → gI μ a i = iI (w.getD i 0) ∧ 0 ≤ w.getD i 0 ∧ w.getD i 0 < 128) : cf_J11_hashCode a μ = some (hS w 0, μ) := by
  have and255 : ∀ i : Nat, i < w.length → gI μ a i &&& (255 : Int32) = iI (w.getD i 0) := by
    intro i hi
    obtain ⟨a1, a2, a3⟩ := ha i hi
    obtain ⟨A, hA⟩ : ∃ A : Nat, w.getD i 0 = A := ⟨(w.getD i 0).toNat, by omega⟩
    rw [a1, hA, an8 A (by omega)]
  unfold cf_J11_hashCode
  rw [if_pos ka, na, ← iI_nI]
  by_cases c0 : w.length = 0
  · have : w = [] := List.length_eq_zero_iff.mp c0
    subst this
    rw [if_pos (show iI (([] : List Int).length : Int) = (0 : Int32) from rfl)]
    rfl
  rw [if_neg (by rw [iI_lit, iI_eq (by omega) (by omega)]; omega)]
  by_cases c1 : w.length = 1
  · have g0 : gz_ix (0 : Int32) = 0 := by decide
    rw [if_pos (by rw [c1]; rfl), if_pos ka, c1, if_pos (by decide), g0, and255 0 (by omega)]
    obtain ⟨x, rfl⟩ : ∃ x, w = [x] := List.length_eq_one_iff.mp c1
    show some (iI x, μ) = some ((31 : Int32) * 0 + iI x, μ)
    rw [show (31 : Int32) * 0 + iI x = iI x by rw [show (31 : Int32) * 0 = iI 0 by decide, iI_add]; exact congrArg iI (by omega)]
  rw [if_neg (by rw [iI_lit, iI_eq (by omega) (by omega)]; omega), if_pos ka]
  have key : pw (cf_J12_signedHashCode (0 : Int32) a (0 : Int32) (iI w.length) μ) (fun q => q = (hS w 0, μ)) := by
    unfold cf_J12_signedHashCode
    refine pw_let ?_
    rw [show (0 : Int32) + iI (w.length : Int) = iI (w.length : Int) by rw [show (0 : Int32) = iI 0 from rfl, iI_add]; exact congrArg iI (by omega)]
    unfold ml_J12_signedHashCode_8
    refine pw_for (fun (i : Nat) (q : Int32 × Int32 × Int32 × gM) => q.1 = hS (w.take i) 0 ∧ q.2.1 = iI w.length ∧ q.2.2.1 = iI i ∧ q.2.2.2 = μ) w.length ?_ ?_ ⟨rfl, rfl, rfl, rfl⟩
    · rintro i ⟨y1, y2, y3, m⟩ hi hq0
      dsimp only at hq0
      obtain ⟨rfl, rfl, rfl, rfl⟩ := hq0
      dsimp only
      have gi : gz_ix (iI (i : Int)) = i := by rw [gix (by omega)]; omega
      have ei : iI (i : Int) + (1 : Int32) = iI ((i + 1 : Nat) : Int) := by rw [iI_lit, iI_add]; rfl
      unfold mb_J12_signedHashCode_8
      rw [na, gi, ei, and255 i hi]
      simp only [gz_let]
      refine pw_f (by rw [iI_le (by omega) (by omega)]; omega) (pw_gu ka (pw_gu ((gin_iI (by omega)).2 (by omega)) (pw_some ⟨?_, rfl, rfl, rfl⟩)))
      dsimp only
      rw [List.take_succ_eq_append_getElem hi, hS_app, getD_get hi]
    · rintro ⟨y1, y2, y3, m⟩ hq0
      dsimp only at hq0
      obtain ⟨rfl, rfl, rfl, rfl⟩ := hq0
      dsimp only
      unfold mb_J12_signedHashCode_8
      exact pw_t (by rw [iI_le (by omega) (by omega)]; omega) (pw_some (by rw [List.take_length]; rfl))
  obtain ⟨q, e, rfl⟩ := key
  unfold cf_J12_vectorizedHashCode
  rw [if_pos rfl, if_pos ka, e]
  rfl
/-- a string whose hash is not, or rightly, kept -/
def hsR (μ : gM) (s : Nat) (w : List Int) : Prop := (gI μ s 2 = 0 ∧ gI μ s 3 = 0) ∨ gI μ s 2 = hS w 0
theorem c_hash {μ : gM} {s : Nat} {w : List Int} (h : strR μ s w) (hh : hsR μ s w) (hs : 1000 ≤ s) : ∃ μ' : gM, cf_J9_hashCode s μ = some (hS w 0, μ') ∧ μ'.1 = μ.1 ∧ μ'.2.1 = μ.2.1 ∧ μ'.2.2.2 = μ.2.2.2 ∧ (∀ c j : Nat, ¬ (c = s ∧ (j = 2 ∨ j = 3)) → gI μ' c j = gI μ c j) ∧ hsR μ' s w := by
  obtain ⟨⟨a1, a2, a3, a4⟩, ⟨b1, b2, b3, b4⟩, c1, c2⟩ := id h
  have hb := c_hashB b3 b4 c1 c2
  unfold cf_J9_hashCode mj_J9_hashCode_58
  simp only [gz_let]
  rw [if_pos a3]
  by_cases z2 : gI μ s 2 = 0
  rotate_left
  · rcases hh with hh | hh
    · exact absurd hh.1 z2
    · rw [if_neg z2, hh]
      exact ⟨μ, rfl, rfl, rfl, rfl, fun _ _ _ => rfl, Or.inr hh⟩
  rw [if_pos z2, if_pos a3]
  by_cases z3 : gI μ s 3 = 0
  rotate_left
  · rcases hh with hh | hh
    · exact absurd hh.2 z3
    · rw [if_neg z3, hh]
      exact ⟨μ, rfl, rfl, rfl, rfl, fun _ _ _ => rfl, Or.inr hh⟩
  rw [if_pos z3, if_pos a3]
  unfold cf_J9_isLatin1
  rw [if_neg n10, if_pos a3, if_pos a4]
  simp only [Option.bind_some]
  rw [if_neg n10, if_pos a3, if_pos b1, hb]
  simp only [Option.bind_some]
  unfold mj_J9_hashCode_40 mj_J9_hashCode_58
  by_cases y : hS w 0 = 0
  · rw [if_pos y, if_pos a3, if_pos hs]
    refine ⟨gz_sI μ s 3 (1 : Int32), rfl, rfl, rfl, rfl, fun c j hc => ?_, Or.inr ?_⟩
    · rw [sI_i, if_neg (by omega)]
    · rw [sI_i, if_neg (by omega), z2, y]
  · rw [if_neg y, if_pos a3, if_pos hs]
    refine ⟨gz_sI μ s 2 (hS w 0), rfl, rfl, rfl, rfl, fun c j hc => ?_, Or.inr ?_⟩
    · rw [sI_i, if_neg (by omega)]
    · rw [sI_i, if_pos ⟨rfl, rfl⟩]
/-! words among words -/
def sWd (c : Nat) : List Int := match sTab.find? (fun x => x.1 == c) with
  | some x => x.2
  | none => []
theorem sTab_has : (cOWN ++ cASKED ++ cLOOKED ++ cTOLD).all (fun c => sTab.any (fun x => x.1 == c && x.2 == sWd c)) = true := by decide +kernel
theorem srOK.str {μ : gM} (h : srOK μ) {c : Nat} (hc : c ∈ cOWN ++ cASKED ++ cLOOKED ++ cTOLD) : strR μ c (sWd c) := by
  have a := List.all_eq_true.mp sTab_has c hc
  obtain ⟨x, hx, e⟩ := List.any_eq_true.mp a
  simp only [Bool.and_eq_true, beq_iff_eq] at e
  have := (h.1 x hx).1
  rw [e.1, e.2] at this
  exact this
theorem c_find {μ : gM} {s a : Nat} {w : List Int} {L : List Nat} (h : strR μ s w) (ha : arrR μ a L) (hL : ∀ c ∈ L, strR μ c (sWd c)) (hl : L.length ≤ 100) : ∃ r : Int, cf_X0_find s a μ = some (iI r, μ) ∧ ((∃ i : Nat, i < L.length ∧ r = i ∧ sWd (L.getD i 0) = w ∧ ∀ j : Nat, j < i → sWd (L.getD j 0) ≠ w) ∨ (r = -1 ∧ ∀ j : Nat, j < L.length → sWd (L.getD j 0) ≠ w)) := by
  have key : pw (cf_X0_find s a μ) (fun q => q.2 = μ ∧ ∃ r : Int, q.1 = iI r ∧ ((∃ i : Nat, i < L.length ∧ r = i ∧ sWd (L.getD i 0) = w ∧ ∀ j : Nat, j < i → sWd (L.getD j 0) ≠ w) ∨ (r = -1 ∧ ∀ j : Nat, j < L.length → sWd (L.getD j 0) ≠ w))) := by
    unfold cf_X0_find ml_X0_find_2
    refine pw_for (fun (i : Nat) (q : Int32 × gM) => q.1 = iI i ∧ q.2 = μ ∧ ∀ j : Nat, j < i → sWd (L.getD j 0) ≠ w) L.length ?_ ?_ ⟨rfl, rfl, fun j hj => absurd hj (Nat.not_lt_zero _)⟩
    · rintro i ⟨y, m⟩ hi hq0
      dsimp only at hq0
      obtain ⟨rfl, rfl, k⟩ := hq0
      dsimp only at k ⊢
      have gi : gz_ix (iI (i : Int)) = i := by rw [gix (by omega)]; omega
      have ei : iI (i : Int) + (1 : Int32) = iI ((i + 1 : Nat) : Int) := by rw [iI_lit, iI_add]; rfl
      have hm : L.getD i 0 ∈ L := by
        rw [List.getD_eq_getElem?_getD, List.getElem?_eq_getElem hi, Option.getD_some]
        exact List.getElem_mem hi
      have hs := hL _ hm
      unfold mb_X0_find_2
      rw [ha.2.1, gi, ei, ← iI_nI, ha.2.2 i hi]
      simp only [gz_let]
      rw [c_equals hs h]
      simp only [Option.bind_some]
      refine pw_gu ha.1 (pw_f (by rw [iI_le (by omega) (by omega)]; omega) (pw_gu ha.1 (pw_gu ((gin_iI (by omega)).2 (by omega)) (pw_gu hs.1.1 (pw_gu hs.1.2.2.1 ?_)))))
      by_cases d : sWd (L.getD i 0) = w
      · rw [if_pos d]
        exact pw_f n10 (pw_some ⟨rfl, i, rfl, Or.inl ⟨i, hi, rfl, d, k⟩⟩)
      · rw [if_neg d]
        refine pw_t (by first | rfl | exact True.intro) (pw_some ⟨rfl, rfl, fun j hj => ?_⟩)
        by_cases z : j = i
        · rw [z]; exact d
        · exact k j (by omega)
    · rintro ⟨y, m⟩ hq0
      dsimp only at hq0
      obtain ⟨rfl, rfl, k⟩ := hq0
      dsimp only at k ⊢
      unfold mb_X0_find_2
      rw [ha.2.1, ← iI_nI]
      exact pw_gu ha.1 (pw_t (by rw [iI_le (by omega) (by omega)]; omega) (pw_some ⟨rfl, -1, show (-1 : Int32) = iI (-1) by decide, Or.inr ⟨rfl, k⟩⟩))
  obtain ⟨⟨x, m⟩, e, rfl, r, hr, hh⟩ := key
  dsimp only at hr
  rw [hr] at e
  exact ⟨r, e, hh⟩
