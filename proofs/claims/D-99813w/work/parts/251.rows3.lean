set_option maxRecDepth 100000
/-! ===== rows of the law's walk (printed by gen/law.py) ===== -/
def lS (X : gz_X) (b L : Nat) (xs : Nat → Int32) : Prop := va_X b L xs X.2.2.2.2.1 X.2.2.2.2.1.heap ∧ b < X.2.2.2.2.1.heap.size ∧ L ≤ 384
abbrev lvL (Gc Gm : gz_G) (b i : Nat) : List (Nat × Value) := [(0, .ref b), (1, .ref (gz_ad Gc 1000)), (2, .ref (gz_ad Gm 2000)), (3, .int (nI i))]
theorem nI_ad (a b : Nat) : nI a + nI b = nI (a + b) := (Int32.ofNat_add a b).symm
theorem nI_ix {a : Nat} (h : a < 1000) : (nI a).toNatClampNeg = a := Int32.toNatClampNeg_ofNat_of_lt (by omega)
section LROW
variable {X : gz_X} {Gc Gm : gz_G} {kS : Nat} {μ : gM} {m : MM} {pc : Nat} {lv : List (Nat × Value)} {st : List Value}
theorem lV_aload_n (hX : lC X) {k : Fin 4} {i x : Nat} (hd : decode cL_law pc = .ok (.aload_n k, 1)) (hi : (k : Nat) = i) (q : Nat) (hq : lv[q]? = some (i, .ref x)) (kk : lV X Gc Gm kS μ m (pc + 1) lv (.ref x :: st)) : lV X Gc Gm kS μ m pc lv st :=
  fun H locs ls cs h1 h2 h3 h4 hl => lv_aload_n hX.1 hX.2.1 hd hi (lv_at hl q hq) (kk H locs ls cs h1 h2 h3 h4 hl)
theorem lV_iload_n (hX : lC X) {k : Fin 4} {i : Nat} {x : Int32} (hd : decode cL_law pc = .ok (.iload_n k, 1)) (hi : (k : Nat) = i) (q : Nat) (hq : lv[q]? = some (i, .int x)) (kk : lV X Gc Gm kS μ m (pc + 1) lv (.int x :: st)) : lV X Gc Gm kS μ m pc lv st :=
  fun H locs ls cs h1 h2 h3 h4 hl => lv_iload_n hX.1 hX.2.1 hd hi (lv_at hl q hq) (kk H locs ls cs h1 h2 h3 h4 hl)
theorem lV_iconst (hX : lC X) {n : Int} {v : Int32} (hd : decode cL_law pc = .ok (.iconst n, 1)) (hv : Int32.ofInt n = v) (kk : lV X Gc Gm kS μ m (pc + 1) lv (.int v :: st)) : lV X Gc Gm kS μ m pc lv st :=
  fun H locs ls cs h1 h2 h3 h4 hl => lv_iconst hX.1 hX.2.1 hd hv (kk H locs ls cs h1 h2 h3 h4 hl)
theorem lV_bipush (hX : lC X) {n : Int} {v : Int32} (hd : decode cL_law pc = .ok (.bipush n, 2)) (hv : (Int8.ofInt n).toInt32 = v) (kk : lV X Gc Gm kS μ m (pc + 2) lv (.int v :: st)) : lV X Gc Gm kS μ m pc lv st :=
  fun H locs ls cs h1 h2 h3 h4 hl => lv_bipush hX.1 hX.2.1 hd hv (kk H locs ls cs h1 h2 h3 h4 hl)
theorem lV_iadd (hX : lC X) {x y : Int32} (hd : decode cL_law pc = .ok (.iadd, 1)) (kk : lV X Gc Gm kS μ m (pc + 1) lv (.int (x + y) :: st)) : lV X Gc Gm kS μ m pc lv (.int y :: .int x :: st) :=
  fun H locs ls cs h1 h2 h3 h4 hl => lv_iadd hX.1 hX.2.1 hd (kk H locs ls cs h1 h2 h3 h4 hl)
theorem lV_isub (hX : lC X) {x y : Int32} (hd : decode cL_law pc = .ok (.isub, 1)) (kk : lV X Gc Gm kS μ m (pc + 1) lv (.int (x - y) :: st)) : lV X Gc Gm kS μ m pc lv (.int y :: .int x :: st) :=
  fun H locs ls cs h1 h2 h3 h4 hl => lv_isub hX.1 hX.2.1 hd (kk H locs ls cs h1 h2 h3 h4 hl)
theorem lV_iand (hX : lC X) {x y : Int32} (hd : decode cL_law pc = .ok (.iand, 1)) (kk : lV X Gc Gm kS μ m (pc + 1) lv (.int (x &&& y) :: st)) : lV X Gc Gm kS μ m pc lv (.int y :: .int x :: st) :=
  fun H locs ls cs h1 h2 h3 h4 hl => lv_iand hX.1 hX.2.1 hd (kk H locs ls cs h1 h2 h3 h4 hl)
theorem lV_goto (hX : lC X) {off : Int} {tgt : Nat} (hd : decode cL_law pc = .ok (.goto off, 3)) (ht : (pc : Int) + off = (tgt : Int)) (kk : lV X Gc Gm kS μ m tgt lv st) : lV X Gc Gm kS μ m pc lv st :=
  fun H locs ls cs h1 h2 h3 h4 hl => lv_goto hX.1 hX.2.1 hd ht (kk H locs ls cs h1 h2 h3 h4 hl)
theorem lV_iinc (hX : lC X) {i k : Nat} {n : Int} {x v : Int32} {lw : List (Nat × Value)} (hd : decode cL_law pc = .ok (.iinc i n, 3)) (hk : lv[k]? = some (i, .int x)) (hv : x + Int32.ofInt n = v) (hn : i < 4) (hl9 : (i, Value.int v) :: lv.filter (fun q => !(q.1 == i) && !(q.1 + 1 == i && q.2.category == 2)) = lw) (kk : lV X Gc Gm kS μ m (pc + 3) lw st) : lV X Gc Gm kS μ m pc lv st :=
  fun H locs ls cs h1 h2 h3 h4 hl => lv_iinc hX.1 hX.2.1 hd hl hk hv hn hl9 (fun ls9 hl2 => kk H locs ls9 cs h1 h2 h3 h4 hl2)
theorem lV_sub {lw : List (Nat × Value)} (ks : List Nat) (h : lv_pick lv ks = lw) (kk : lV X Gc Gm kS μ m pc lw st) : lV X Gc Gm kS μ m pc lv st :=
  fun H locs ls cs h1 h2 h3 h4 hl => kk H locs ls cs h1 h2 h3 h4 (lv_sub hl ks h)
theorem lV_topi {x y : Int32} (h : x = y) (kk : lV X Gc Gm kS μ m pc lv (.int x :: st)) : lV X Gc Gm kS μ m pc lv (.int y :: st) := h ▸ kk
theorem lV_icmp_eq (hX : lC X) {x y : Int32} {off : Int} {tgt : Nat} (hd : decode cL_law pc = .ok (.if_icmp .eq off, 3)) (ht : (pc : Int) + off = (tgt : Int)) (kt : x = y → lV X Gc Gm kS μ m tgt lv st) (kf : ¬ x = y → lV X Gc Gm kS μ m (pc + 3) lv st) : lV X Gc Gm kS μ m pc lv (.int y :: .int x :: st) :=
  fun H locs ls cs h1 h2 h3 h4 hl => lv_icmp_eq hX.1 hX.2.1 hd ht (fun h => kt h H locs ls cs h1 h2 h3 h4 hl) (fun h => kf h H locs ls cs h1 h2 h3 h4 hl)
theorem lV_icmp_gt (hX : lC X) {x y : Int32} {off : Int} {tgt : Nat} (hd : decode cL_law pc = .ok (.if_icmp .gt off, 3)) (ht : (pc : Int) + off = (tgt : Int)) (kt : y < x → lV X Gc Gm kS μ m tgt lv st) (kf : ¬ y < x → lV X Gc Gm kS μ m (pc + 3) lv st) : lV X Gc Gm kS μ m pc lv (.int y :: .int x :: st) :=
  fun H locs ls cs h1 h2 h3 h4 hl => lv_icmp_gt hX.1 hX.2.1 hd ht (fun h => kt h H locs ls cs h1 h2 h3 h4 hl) (fun h => kf h H locs ls cs h1 h2 h3 h4 hl)
theorem lV_lcmp_eq (hX : lC X) {x y : Int64} {off : Int} {tgt : Nat} (hd1 : decode cL_law pc = .ok (.lcmp, 1)) (hd : decode cL_law (pc + 1) = .ok (.ifCond .eq off, 3)) (ht : ((pc + 1 : Nat) : Int) + off = (tgt : Int)) (kt : x = y → lV X Gc Gm kS μ m tgt lv st) (kf : ¬ x = y → lV X Gc Gm kS μ m (pc + 1 + 3) lv st) : lV X Gc Gm kS μ m pc lv (.long y :: .long x :: st) :=
  fun H locs ls cs h1 h2 h3 h4 hl => W.lcmp hX.1 hX.2.1 hd1 (lv_if_eq hX.1 hX.2.1 hd ht (fun h => kt ((lg_cmp_eq x y).mp h) H locs ls cs h1 h2 h3 h4 hl) (fun h => kf (fun q => h ((lg_cmp_eq x y).mpr q)) H locs ls cs h1 h2 h3 h4 hl))
theorem lV_tsIn (hX : lC X) {dflt lo0 hi : Int} {offs : Array Int} {len : Nat} {x v : Int32} {off : Int} {tgt : Nat} (hx : x = v) (hd : decode cL_law pc = .ok (.tableswitch dflt lo0 hi offs, len)) (hr : ¬ v.toInt < lo0 ∧ ¬ hi < v.toInt ∧ offs[(v.toInt - lo0).toNat]? = some off) (ht : (pc : Int) + off = (tgt : Int)) (kk : lV X Gc Gm kS μ m tgt lv st) : lV X Gc Gm kS μ m pc lv (.int x :: st) :=
  fun H locs ls cs h1 h2 h3 h4 hl => lv_tableIn hX.1 hX.2.1 hd (by rw [hx]; exact hr.1) (by rw [hx]; exact hr.2.1) (by rw [hx]; exact hr.2.2) ht (kk H locs ls cs h1 h2 h3 h4 hl)
theorem lV_tsOut (hX : lC X) {dflt lo0 hi : Int} {offs : Array Int} {len : Nat} {x : Int32} {tgt : Nat} (hd : decode cL_law pc = .ok (.tableswitch dflt lo0 hi offs, len)) (h : x.toInt < lo0 ∨ hi < x.toInt) (ht : (pc : Int) + dflt = (tgt : Int)) (kk : lV X Gc Gm kS μ m tgt lv st) : lV X Gc Gm kS μ m pc lv (.int x :: st) :=
  fun H locs ls cs h1 h2 h3 h4 hl => lv_tableOut hX.1 hX.2.1 hd h ht (kk H locs ls cs h1 h2 h3 h4 hl)
theorem lV_sld (hX : lC X) {b L : Nat} {xs : Nat → Int32} (hS : lS X b L xs) {i : Nat} (hi : i < L) (hd : decode cL_law pc = .ok (.iaload, 1)) (kk : lV X Gc Gm kS μ m (pc + 1) lv (.int (xs i) :: st)) : lV X Gc Gm kS μ m pc lv (.int (nI i) :: .ref b :: st) := by
  intro H locs ls cs h1 h2 h3 h4 hl
  have hL := hS.2.2
  have e := nI_ix (a := i) (by omega)
  refine va_sld (A := fun q => X.2.2.2.2.1.heap.size ≤ q) hX.1 hX.2.1 hS.1 hS.2.1 (Nat.not_le.mpr hS.2.1) ⟨h1.2.2.2.1, fun q g1 g2 => h1.2.2.2.2 q g1, h4⟩ (i := nI i) ?_ hd ?_
  · rintro (a | a)
    · have h0 : (0 : Int32) ≤ nI i := by
        rw [Int32.le_iff_toInt_le]
        show (0 : Int) ≤ (Int32.ofNat i).toInt
        rw [Int32.toInt_ofNat_of_lt (by omega)]
        omega
      exact absurd a (Int32.not_lt.mpr h0)
    · rw [e] at a
      omega
  · rw [e]
    exact kk H locs ls cs h1 h2 h3 h4 hl
theorem lV_slen (hX : lC X) {b L : Nat} {xs : Nat → Int32} (hS : lS X b L xs) (hd : decode cL_law pc = .ok (.arraylength, 1)) (kk : lV X Gc Gm kS μ m (pc + 1) lv (.int (nI L) :: st)) : lV X Gc Gm kS μ m pc lv (.ref b :: st) := by
  intro H locs ls cs h1 h2 h3 h4 hl
  exact va_slen (A := fun q => X.2.2.2.2.1.heap.size ≤ q) hX.1 hX.2.1 hS.1 hS.2.1 (Nat.not_le.mpr hS.2.1) ⟨h1.2.2.2.1, fun q g1 g2 => h1.2.2.2.2 q g1, h4⟩ hd (kk H locs ls cs h1 h2 h3 h4 hl)
theorem lV_arg (hX : lC X) {b L i k : Nat} {xs : Nat → Int32} (hS : lS X b L xs) (hi : i + 6 ≤ L) (hk : k ≤ 5) {n : Int} (hn : Int32.ofInt n = nI k) (d1 : decode cL_law pc = .ok (.aload_n 0, 1)) (d2 : decode cL_law (pc + 1) = .ok (.iload_n 3, 1)) (d3 : decode cL_law (pc + 1 + 1) = .ok (.iconst n, 1)) (d4 : decode cL_law (pc + 1 + 1 + 1) = .ok (.iadd, 1)) (d5 : decode cL_law (pc + 1 + 1 + 1 + 1) = .ok (.iaload, 1)) (kk : lV X Gc Gm kS μ m (pc + 5) (lvL Gc Gm b i) (.int (xs (i + k)) :: st)) : lV X Gc Gm kS μ m pc (lvL Gc Gm b i) st := by
  refine lV_aload_n hX d1 rfl 0 rfl ?_
  refine lV_iload_n hX d2 rfl 3 rfl ?_
  refine lV_iconst hX d3 hn ?_
  refine lV_iadd hX d4 ?_
  refine lV_topi (nI_ad i k).symm ?_
  exact lV_sld hX hS (by omega) d5 kk
/-- the law's end -/
theorem lV_end (hX : lC X) {b : Nat} (hQ : X.2.2.2.2.2.2.2.2.2.2 = lw_Z X.2.2.2.2.2.2.2.1 #[Value.ref b] X.2.2.2.2.1) (ha : X.2.2.2.2.2.2.1 = #[Value.ref b]) (hr : X.2.2.2.2.2.2.2.2.1.sig.returnType = ret) (hlk : X.2.2.2.2.2.2.2.2.1.locks = false) (hG : LG Gc Gm X.2.2.2.2.1) (hb : gZ μ ≤ 800000 ∧ gW μ + kS ≤ 6000000) (hd : decode cL_law pc = .ok (.ireturn, 1)) : lV X Gc Gm kS μ m pc lv [.int 1] := by
  intro H locs ls cs h1 h2 h3 h4 hl
  have hs1 : H.size = gz_ad Gc (gZ μ) := (h1.1.2.2.2.1 h1.2.2.1).1
  have hs2 := hG.2.2.2.2 (gZ μ) ((h1.1.2.2.2.1 h1.2.2.1).2.1)
  obtain ⟨p, l, e, R, s, mm, args, below, meth, c, Q⟩ := X
  dsimp only at *
  have hR : R = room_1 := hX.2.2.2.2.2
  subst hR
  subst hQ
  subst ha
  refine va_forget h4 (W.widen (k := 805700) (n := 6679004) (by omega) (by omega) ?_)
  exact lw_ret hX.1 hX.2.1 hr hlk hd
end LROW
