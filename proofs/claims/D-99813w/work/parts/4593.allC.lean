/-! ===== the component: the words of statements ===== -/
def tIx (w : List Int) : Int := if w = wHall then 0 else if w = wDoor then 1 else if w = wThing then 2 else if w = wTie then 3 else if w = wStarts then 4 else -1
def mIx (w : List Int) : Int := if w = wBurns then 0 else if w = wMinds then 1 else if w = wDraught then 2 else -1
theorem hs_words : hS wStarts 0 = -892483503 ∧ hS wTie 0 = 114832 ∧ hS wDoor 0 = 3089326 ∧ hS wHall 0 = 3194937 ∧ hS wThing 0 = 110331118 ∧ hS wBurns 0 = 94103684 ∧ hS wMinds 0 = 103900769 ∧ hS wDraught 0 = 1912947505 := by decide +kernel
/-- only a string's hash has changed -/
def hsF (s : Nat) (μ μ' : gM) : Prop := μ'.1 = μ.1 ∧ μ'.2.1 = μ.2.1 ∧ μ'.2.2.2 = μ.2.2.2 ∧ ∀ c j : Nat, ¬ (c = s ∧ (j = 2 ∨ j = 3)) → gI μ' c j = gI μ c j
theorem hsF.p {s z : Nat} {μ μ' : gM} (h : hsF s μ μ') (hz : z ≤ s) : pF z μ μ' := by
  obtain ⟨h1, h2, h3, h4⟩ := h
  have hL : gL μ' = gL μ := congrArg Prod.fst h3
  have hP' : gP μ' = gP μ := congrArg (fun z => z.2.1) h3
  have hZ : μ'.2.2.2.2.2 = μ.2.2.2.2.2 := congrArg (fun z => z.2.2) h3
  refine ⟨(zle hZ).1, (zle hZ).2, fun c hc => ⟨congrFun h1 c, congrFun h2 c, fun j => ⟨fun _ => h4 c j (by omega), by rw [hL], by rw [hP']⟩⟩⟩
theorem strR.h {s t : Nat} {w : List Int} {μ μ' : gM} (h : strR μ t w) (x : hsF s μ μ') (hs : gK μ s = 22) : strR μ' t w := by
  obtain ⟨x1, x2, x3, x4⟩ := x
  have hP' : gP μ' = gP μ := congrArg (fun z => z.2.1) x3
  have hK : gK μ' = gK μ := x1
  have hN' : gN μ' = gN μ := x2
  obtain ⟨⟨t1, t2, t3, t4⟩, ⟨t5, t6, t7, t8⟩, t9, t10⟩ := h
  refine ⟨⟨t1, t2, by rw [hK]; exact t3, by rw [x4 t 1 (by omega)]; exact t4⟩, ⟨by rw [hP']; exact t5, by rw [hP']; exact t6, by rw [hP', hK]; exact t7, by rw [hP', hN']; exact t8⟩, t9, fun i hi => ?_⟩
  rw [hP', x4 _ _ (fun q => ?_)]
  · exact t10 i hi
  · rw [q.1, hs] at t7; cases t7
section AllC
variable {T : Nat → Int} {n S z0 c : Nat} {μ : gM} {h : HS}
theorem c_isTold {s : Nat} {w : List Int} {x2 : Int32} {Q : Option Int32 × gM → Prop} (hL : cLx T n μ) (hs : strR μ s w) (hh : hsR μ s w) (hs1 : 2369 ≤ s) (hQ : ∀ μ' : gM, hsF s μ μ' → strR μ' s w → hsR μ' s w → pw (mj_X2_isTold_132 x2 (iI (tIx w)) μ') Q) : pw (cf_X2_isTold s x2 μ) Q := by
  obtain ⟨m3, e1, y1, y2, y3, y4, y5⟩ := c_hash hs hh (by omega)
  have x3 : hsF s μ m3 := ⟨y1, y2, y3, y4⟩
  have k22 := hs.1.2.2.1
  have hs3 := hs.h x3 k22
  have hq := hQ m3 x3 hs3 y5
  have z3 : m3.2.2.2.2.2 = μ.2.2.2.2.2 := congrArg (fun z => z.2.2) y3
  have hL3 : cLx T n m3 := hL.pz (z := 2369) (by omega) (x3.p hs1)
  have L : ∀ (lc : Nat) (v : List Int), (lc, v) ∈ sTab → lc < 1000 → cf_J9_equals s lc m3 = some (if w = v then 1 else 0, m3) := fun lc v hm hl => c_equals hs3 (litW hL3 hm hl).1
  obtain ⟨w1, w2, w3, w4, w5, -⟩ := hs_words
  unfold cf_X2_isTold
  refine pw_gu k22 ?_
  rw [e1]
  refine pw_bind (pw_some (pw_gu z3 ?_))
  rw [L 144 wStarts (by decide +kernel) (by omega), L 142 wTie (by decide +kernel) (by omega), L 132 wDoor (by decide +kernel) (by omega), L 130 wHall (by decide +kernel) (by omega), L 136 wThing (by decide +kernel) (by omega)]
  have k3 := hs3.1.2.2.1
  by_cases q1 : w = wStarts
  · have et : tIx w = 4 := by rw [q1]; decide
    rw [et] at hq
    refine pw_t (by rw [q1]; exact w1) (pw_gu k3 (pw_bind (pw_some (pw_gu rfl ?_))))
    rw [if_pos q1]
    exact pw_f n10 hq
  by_cases q2 : w = wTie
  · have et : tIx w = 3 := by rw [q2]; decide
    rw [et] at hq
    refine pw_f (by rw [q2, w2]; decide) (pw_t (by rw [q2]; exact w2) (pw_gu k3 (pw_bind (pw_some (pw_gu rfl ?_)))))
    rw [if_pos q2]
    exact pw_f n10 hq
  by_cases q3 : w = wDoor
  · have et : tIx w = 1 := by rw [q3]; decide
    rw [et] at hq
    refine pw_f (by rw [q3, w3]; decide) (pw_f (by rw [q3, w3]; decide) (pw_t (by rw [q3]; exact w3) (pw_gu k3 (pw_bind (pw_some (pw_gu rfl ?_))))))
    rw [if_pos q3]
    exact pw_f n10 hq
  by_cases q4 : w = wHall
  · have et : tIx w = 0 := by rw [q4]; decide
    rw [et] at hq
    refine pw_f (by rw [q4, w4]; decide) (pw_f (by rw [q4, w4]; decide) (pw_f (by rw [q4, w4]; decide) (pw_t (by rw [q4]; exact w4) (pw_gu k3 (pw_bind (pw_some (pw_gu rfl ?_)))))))
    rw [if_pos q4]
    exact pw_f n10 hq
  by_cases q5 : w = wThing
  · have et : tIx w = 2 := by rw [q5]; decide
    rw [et] at hq
    refine pw_f (by rw [q5, w5]; decide) (pw_f (by rw [q5, w5]; decide) (pw_f (by rw [q5, w5]; decide) (pw_f (by rw [q5, w5]; decide) (pw_t (by rw [q5]; exact w5) (pw_gu k3 (pw_bind (pw_some (pw_gu rfl ?_))))))))
    rw [if_pos q5]
    exact pw_f n10 hq
  have et : tIx w = -1 := by unfold tIx; rw [if_neg q4, if_neg q3, if_neg q5, if_neg q2, if_neg q1]
  rw [et] at hq
  rw [if_neg q1, if_neg q2, if_neg q3, if_neg q4, if_neg q5]
  have no : ∀ (A B : Option (Option Int32 × gM)), pw A Q → pw (if (0 : Int32) = 0 then A else B) Q := fun A B hA => pw_t rfl hA
  refine pw_if (fun _ => pw_gu k3 (pw_bind (pw_some (pw_gu rfl (no _ _ hq))))) (fun _ => ?_)
  refine pw_if (fun _ => pw_gu k3 (pw_bind (pw_some (pw_gu rfl (no _ _ hq))))) (fun _ => ?_)
  refine pw_if (fun _ => pw_gu k3 (pw_bind (pw_some (pw_gu rfl (no _ _ hq))))) (fun _ => ?_)
  refine pw_if (fun _ => pw_gu k3 (pw_bind (pw_some (pw_gu rfl (no _ _ hq))))) (fun _ => ?_)
  exact pw_if (fun _ => pw_gu k3 (pw_bind (pw_some (pw_gu rfl (no _ _ hq))))) (fun _ => hq)
theorem c_moreW {s : Nat} {w : List Int} {x2 : Int32} {Q : Option Unit × gM → Prop} (hL : cLx T n μ) (hs : strR μ s w) (hh : hsR μ s w) (hs1 : 2369 ≤ s) (hQ : ∀ μ' : gM, hsF s (gz_sI μ 1011 5 15) μ' → pw (mj_X2_more_90 x2 (iI (mIx w)) μ') Q) : pw (cf_X2_more s x2 μ) Q := by
  have hsB : strR (gz_sI μ 1011 5 15) s w := by
    obtain ⟨⟨t1, t2, t3, t4⟩, ⟨t5, t6, t7, t8⟩, t9, t10⟩ := hs
    refine ⟨⟨t1, t2, t3, by rw [sI_i, if_neg (by omega)]; exact t4⟩, ⟨t5, t6, t7, t8⟩, t9, fun i hi => ?_⟩
    show gI (gz_sI μ 1011 5 15) (gP μ s 0) i = _ ∧ _
    rw [sI_i, if_neg (fun q => by rw [q.1, ks_1011] at t6; cases t6)]
    exact t10 i hi
  have hhB : hsR (gz_sI μ 1011 5 15) s w := by
    unfold hsR at hh ⊢
    rw [sI_i, if_neg (by omega), sI_i, if_neg (by omega)]
    exact hh
  have k22 := hs.1.2.2.1
  have hLB : cLx T n (gz_sI μ 1011 5 15) := hL.hp (z := 2369) (by omega) ⟨Nat.le_refl _, Nat.le_refl _, fun c hc => ⟨rfl, rfl, fun j => ⟨fun k _ => by rw [sI_i, if_neg (fun q => k q.1)], rfl, fun _ => rfl⟩⟩⟩ (by rw [sI_i, if_neg (by omega)])
  obtain ⟨m3, e1, y1, y2, y3, y4, y5⟩ := c_hash hsB hhB (by omega)
  have x3 : hsF s (gz_sI μ 1011 5 15) m3 := ⟨y1, y2, y3, y4⟩
  have hs3 := hsB.h x3 k22
  have hq := hQ m3 x3
  have z3 : m3.2.2.2.2.2 = μ.2.2.2.2.2 := congrArg (fun z => z.2.2) y3
  have hL3 : cLx T n m3 := hLB.pz (z := 2369) (by omega) (x3.p hs1)
  have L : ∀ (lc : Nat) (v : List Int), (lc, v) ∈ sTab → lc < 1000 → cf_J9_equals s lc m3 = some (if w = v then 1 else 0, m3) := fun lc v hm hl => c_equals hs3 (litW hL3 hm hl).1
  obtain ⟨-, -, -, -, -, w1, w2, w3⟩ := hs_words
  unfold cf_X2_more
  refine pw_let (pw_gu k22 ?_)
  rw [e1]
  refine pw_bind (pw_some (pw_gu z3 ?_))
  rw [L 140 wBurns (by decide +kernel) (by omega), L 146 wMinds (by decide +kernel) (by omega), L 148 wDraught (by decide +kernel) (by omega)]
  have k3 := hs3.1.2.2.1
  by_cases q1 : w = wBurns
  · have et : mIx w = 0 := by rw [q1]; decide
    rw [et] at hq
    refine pw_t (by rw [q1]; exact w1) (pw_gu k3 (pw_bind (pw_some (pw_gu rfl ?_))))
    rw [if_pos q1]
    exact pw_f n10 hq
  by_cases q2 : w = wMinds
  · have et : mIx w = 1 := by rw [q2]; decide
    rw [et] at hq
    refine pw_f (by rw [q2, w2]; decide) (pw_t (by rw [q2]; exact w2) (pw_gu k3 (pw_bind (pw_some (pw_gu rfl ?_)))))
    rw [if_pos q2]
    exact pw_f n10 hq
  by_cases q3 : w = wDraught
  · have et : mIx w = 2 := by rw [q3]; decide
    rw [et] at hq
    refine pw_f (by rw [q3, w3]; decide) (pw_f (by rw [q3, w3]; decide) (pw_t (by rw [q3]; exact w3) (pw_gu k3 (pw_bind (pw_some (pw_gu rfl ?_))))))
    rw [if_pos q3]
    exact pw_f n10 hq
  have et : mIx w = -1 := by unfold mIx; rw [if_neg q1, if_neg q2, if_neg q3]
  rw [et] at hq
  rw [if_neg q1, if_neg q2, if_neg q3]
  have no : ∀ (A B : Option (Option Unit × gM)), pw A Q → pw (if (0 : Int32) = 0 then A else B) Q := fun A B hA => pw_t rfl hA
  refine pw_if (fun _ => pw_gu k3 (pw_bind (pw_some (pw_gu rfl (no _ _ hq))))) (fun _ => ?_)
  refine pw_if (fun _ => pw_gu k3 (pw_bind (pw_some (pw_gu rfl (no _ _ hq))))) (fun _ => ?_)
  exact pw_if (fun _ => pw_gu k3 (pw_bind (pw_some (pw_gu rfl (no _ _ hq))))) (fun _ => hq)
end AllC
