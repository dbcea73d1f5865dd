set_option maxRecDepth 100000
/-! what is asked of the current book: outcomes and contracts -/
def c_J (C : CC) (n : Nat) : Prop := c_I C n ∧ c_ru C ∧ c_ord C ∧ c_sum (fun y => y.2.2.1.length) C.2.1 ≤ n ∧ c_sum (fun y => y.2.2.2.length) C.2.1 ≤ n
def t_C (S : TS) : CC := S.1.2.2.2.2.2
def o_fnd (C : CC) (v : Int32) (i : Nat) (y : CF) : Prop := C.2.1[i]? = some y ∧ nI (y.2.1 0) = v
def o_no (C : CC) (v : Int32) : Prop := ∀ y ∈ C.2.1, nI (y.2.1 0) ≠ v
def o_3 (y : CF) (a b c : Int32) : Prop := nI (y.2.1 1) = a ∧ nI (y.2.1 2) = b ∧ nI (y.2.1 3) = c
def o_find (C : CC) (a b c : Int32) (k : Nat) (r : Int32) : Prop := (k = 0 ∧ ∃ i y, C.2.1[i]? = some y ∧ o_3 y a b c ∧ (∀ (j : Nat) (z : CF), j < i → C.2.1[j]? = some z → ¬ o_3 z a b c) ∧ r = nI (y.2.1 0)) ∨ (k = 1 ∧ ∀ y : CF, y ∈ C.2.1 → ¬ o_3 y a b c)
def o_factAt (C : CC) (v : Int32) (k : Nat) (r : Int32) : Prop := (k = 0 ∧ ∃ i y, v = nI i ∧ C.2.1[i]? = some y ∧ r = nI (y.2.1 0)) ∨ (k = 1 ∧ ∀ i, i < C.2.1.length → v ≠ nI i)
def o_factOf (C : CC) (v w : Int32) (k : Nat) (r : Int32) : Prop := (k = 1 ∧ o_no C v) ∨ ∃ i y, o_fnd C v i y ∧
  ((w = 0 ∧ k = 0 ∧ r = nI (y.2.1 1)) ∨ (w = 1 ∧ k = 0 ∧ r = nI (y.2.1 2)) ∨ (w = 2 ∧ k = 0 ∧ r = nI (y.2.1 3)) ∨ (w = 3 ∧ k = 0 ∧ r = nI (y.2.1 4)) ∨ (w = 4 ∧ k = 0 ∧ r = nI y.2.2.1.length) ∨ (w = 5 ∧ k = 0 ∧ r = nI (y.2.1 6)) ∨ (w = 6 ∧ k = 0 ∧ r = nI (c_sum (c_use (y.2.1 0)) C.2.1)) ∨ (w = 7 ∧ k = 0 ∧ ∃ D, c_dep C D ∧ r = nI (D i)) ∨ (k = 2 ∧ ∀ j, j < 8 → w ≠ nI j))
def o_trust (C : CC) (v : Int32) (k : Nat) (r : UInt32) : Prop := (k = 1 ∧ o_no C v) ∨ ∃ i y, o_fnd C v i y ∧ k = 0 ∧ r = q_tb (y.2.1 5)
def o_trusted (C : CC) (v : Int32) (k : Nat) (r : Int32) : Prop := (k = 0 ∧ ∃ i y, C.2.1[i]? = some y ∧ nI (C.2.1.countP (fun z => c_ta z y)) = v ∧ (∀ (j : Nat) (z : CF), j < i → C.2.1[j]? = some z → nI (C.2.1.countP (fun u => c_ta u z)) ≠ v) ∧ r = nI (y.2.1 0)) ∨ (k = 1 ∧ ∀ z ∈ C.2.1, nI (C.2.1.countP (fun u => c_ta u z)) ≠ v)
section ASK
variable {G : GG} {h h' : HH} {ρ ρ' : RO} {x : Nat} {S : TS}
theorem q_X.cur (hX : q_X G h ρ x S) : (∃ fs, h x = some (.inr (1, fs)) ∧ fs[0]? = some (.ref S.1.2.1)) ∧ q_B G h ρ S.1.1 S.1.2.1 S.1.2.2.1 S.1.2.2.2.1 S.1.2.2.2.2.1 (t_C S) ∧ 10 ≤ S.1.1 ∧ ∃ fs, h S.1.2.1 = some (.inr (2, fs)) := by
  obtain ⟨dq, arr, ra, si, v, N, ls, er, rf, fr, h1, r1, r2, r3, r4, r5, r6, h2, h3, h4, h5, h6, h7, h8, h9, h10, h11, h12, h13, h14⟩ := hX
  have hb := h13 S.1 (List.mem_cons_self ..)
  obtain ⟨lr, lf, g1, -⟩ := hb.1.1.len
  exact ⟨⟨_, h1, rfl⟩, hb.1, hb.2, _, g1⟩
theorem q_X.same (hX : q_X G h ρ x S) (hs : q_sp q_no h h') : q_X G h' ρ x S := hX.no (fun _ _ _ => rfl) hs
theorem q_X.uq (hX : q_X G h ρ x S) : ∀ B ∈ q_bks S, ∀ B' ∈ q_bks S, B.1 = B'.1 → B = B' := by
  obtain ⟨dq, arr, ra, si, v, N, ls, er, rf, fr, h1, r1, r2, r3, r4, r5, r6, h2, h3, h4, h5, h6, h7, h8, h9, h10, h11, h12, h13, h14⟩ := hX
  exact h14.2
/-- a walk over the current book -/
theorem q_X.wk (hX : q_X G h ρ x S) (hs : q_sp (q_S S.1.2.2.1 S.1.2.2.2.1 S.1.2.2.2.2.1) h h') (hw : q_wv G h' S.1.2.1 S.1.2.2.1 S.1.2.2.2.1 S.1.2.2.2.2.1) : q_X G h' ρ x S := by
  obtain ⟨-, hB, h10, -⟩ := hX.cur
  refine hX.fr (K := S.1.1) (fun _ _ _ => rfl) (q_S_k hB hs) h10 (fun B hBm e => ?_)
  have := hX.uq B hBm S.1 (List.mem_cons_self ..) e
  subst this
  exact ⟨hB.sp hs hw, h10⟩
/-- x's own field 0 -/
theorem q_X.bk (hX : q_X G h ρ x S) {Q : Option Nat → Prop} (hQ : Q (some S.1.2.1)) : w_getq h x 1 0 Q := by
  obtain ⟨⟨fs, h1, h2⟩, -⟩ := hX.cur
  exact w_geta_of h1 h2 hQ
theorem q_X.isb (hX : q_X G h ρ x S) {Q : Prop} (hQ : Q) : w_is h S.1.2.1 2 Q := by
  obtain ⟨-, -, -, fs, h1⟩ := hX.cur
  exact ⟨⟨_, h1⟩, hQ⟩
theorem sp_X1_numberOf {mc ms : Nat} {o : Option Nat} {Q : Int32 → HH → Prop} {X : String → Nat → HH → Prop} (hm : 1 ≤ mc) (hs : 6 ≤ ms) (hQ : ∀ a, o = some a → w_geti h a 14 0 (fun r => Q r h)) (hE : o = none → ∀ q, h q = none → X "java/util/NoSuchElementException" q h) : wp_X1_numberOf G mc ms h o Q X := by
  unfold wp_X1_numberOf
  refine ⟨fun z => ⟨mc, ms, by omega, by omega, sp_X1_checkElement hm hs (fun q => absurd rfl q) (fun _ => hE z)⟩, fun a z => ⟨mc, ms, by omega, by omega, sp_X1_checkElement hm hs (fun _ => hQ a z) (fun q => absurd q (by decide))⟩⟩
theorem sp_X1_find {a b c : Int32} {mc ms : Nat} {Q : Int32 → HH → Prop} {X : String → Nat → HH → Prop} (hX : q_X G h ρ x S) (hm : 10 ≤ mc) (hs : 30 ≤ ms)
    (hQ : ∀ h' r, q_X G h' ρ x S → o_find (t_C S) a b c 0 r → Q r h') (hE : ∀ h' q, q_X G h' ρ x S → o_find (t_C S) a b c 1 0 → X "java/util/NoSuchElementException" q h') : wp_X1_find G mc ms h x a b c Q X := by
  obtain ⟨-, hB, h10, -⟩ := hX.cur
  unfold wp_X1_find
  refine hX.bk <| w_nn_of ⟨1, 4, by omega, by omega, hX.isb <| sp_X2_find_2 hB.1 (by omega) (by omega) (fun h' i y hs' hy e1 e2 e3 hno => ⟨1, 6, by omega, by omega, sp_X1_numberOf (by omega) (by omega) (fun a z => ?_) (fun z => by cases z)⟩) (fun h' hs' hno => ⟨1, 6, by omega, by omega, sp_X1_numberOf (by omega) (by omega) (fun a z => by cases z) (fun _ q _ => hE h' q (hX.same hs') (Or.inr ⟨rfl, hno⟩))⟩)⟩
  cases z
  obtain ⟨l1, l2, hc⟩ := (hB.no hs').cell hy
  exact w_geti_of hc rfl (hQ h' _ (hX.same hs') (Or.inl ⟨rfl, i, y, hy, ⟨e1, e2, e3⟩, hno, rfl⟩))
theorem sp_X1_factAt {v : Int32} {mc ms n : Nat} {Q : Int32 → HH → Prop} {X : String → Nat → HH → Prop} (hX : q_X G h ρ x S) (hok : c_ok (t_C S)) (hm : 10 ≤ mc) (hs : 30 ≤ ms)
    (hQ : ∀ r, o_factAt (t_C S) v 0 r → Q r h) (hE : ∀ q, o_factAt (t_C S) v 1 0 → X "java/util/NoSuchElementException" q h) : wp_X1_factAt G mc ms h x v Q X := by
  obtain ⟨-, hB, h10, -⟩ := hX.cur
  obtain ⟨lr, lf, g1, g3, g2, ⟨fs3, g5⟩, ⟨fs4, g4⟩⟩ := hB.1.len
  have hl := hok.2.2.2.1
  unfold wp_X1_factAt
  refine hX.bk <| w_nn_of <| w_geta_of g1 rfl <| w_nn_of <| w_is_of g4 <| sp_J2_size g2 ?_
  rw [List.length_map]
  refine sp_inN (by omega) (fun i hi hv => ⟨1, 6, by omega, by omega, sp_X1_checkElement (by omega) (by omega) (fun _ => ?_) (fun z => absurd z (by decide))⟩) (fun hno => ⟨1, 6, by omega, by omega, sp_X1_checkElement (by omega) (by omega) (fun z => absurd rfl z) (fun _ q _ => hE q (Or.inr ⟨rfl, hno⟩))⟩)
  subst hv
  have hy := List.getElem?_eq_getElem hi
  obtain ⟨l1, l2, hc⟩ := hB.cell hy
  refine hX.bk <| w_nn_of <| w_geta_of g1 rfl <| w_nn_of <| w_is_of g4 <| sp_J2_get (x1 := ((t_C S).2.1[i]).1) g2 (by rw [List.getElem?_map, hy]; rfl) <| w_nn_of <| w_cast_of hc <| w_geti_of hc rfl ?_
  exact hQ _ (Or.inl ⟨rfl, i, _, rfl, hy, rfl⟩)
end ASK
/-! doubles that aren't NaN and have no minus: sums and means of trusts -/
def q_dp (z : UInt64) : Prop := z.toNat ≤ 0x7ff0000000000000
theorem q_dp.n {z : UInt64} (h : q_dp z) : vf_n64 z := by
  unfold vf_n64
  rw [UInt64.le_iff_toNat_le, UInt64.toNat_and]
  have : (0x7ff0000000000000 : UInt64).toNat = 0x7ff0000000000000 := by decide
  rw [this]
  exact Nat.le_trans Nat.and_le_left h
theorem fd_enc {c : Nat} {q : Int} (h1 : c < 2 ^ 53) (h2 : -1074 ≤ q) (h3 : q ≤ 971) : FP.Core.encode FP.Core.b64 (.fin false c q) ≤ 0x7ff0000000000000 := by
  have ht : FP.Core.b64.tails = 4503599627370496 := by decide
  have he : FP.Core.b64.exps = 2048 := by decide
  have hq : FP.Core.b64.qmin = -1074 := by decide
  unfold FP.Core.encode
  simp only
  rw [ht, hq]
  unfold FP.Core.assemble
  rw [ht, he]
  split
  · simp only [Bool.toNat_false]; omega
  · have : (q - -1074).toNat + 1 ≤ 2046 := by omega
    simp only [Bool.toNat_false]
    have h9 : c - 4503599627370496 < 4503599627370496 := by omega
    generalize (q - -1074).toNat + 1 = e at *
    omega
theorem fd_rr {num den : Nat} {e : Int} : FP.Core.encode FP.Core.b64 (FP.Core.roundRatio FP.Core.b64 false num den e) ≤ 0x7ff0000000000000 := by
  have hq : FP.Core.b64.qmin = -1074 := by decide
  have hqx : FP.Core.b64.qmax = 971 := by decide
  have hp : FP.Core.b64.p = 53 := by decide
  have ht : FP.Core.b64.tails = 4503599627370496 := by decide
  have bnd : ∀ {c : Nat} {q : Int}, c < 2 ^ 53 → -1074 ≤ q → FP.Core.encode FP.Core.b64 (FP.Core.bound FP.Core.b64 false c q) ≤ 0x7ff0000000000000 := by
    intro c q h1 h2
    unfold FP.Core.bound
    rw [hqx]
    split
    · exact fd_enc h1 h2 (by assumption)
    · decide
  unfold FP.Core.roundRatio
  split
  · exact fd_enc (by decide) (by rw [hq]; decide) (by rw [hq]; decide)
  · unfold FP.Core.roundAt FP.Core.settle
    rw [hp, ht]
    have hqm : -1074 ≤ FP.Core.quantum FP.Core.b64 num den e := by
      unfold FP.Core.quantum
      rw [hq]
      exact Int.le_max_left ..
    split
    · exact bnd (by assumption) hqm
    · exact bnd (by decide) (by omega)
theorem fd_of {n : Nat} (h : n ≤ 0x7ff0000000000000) : q_dp (UInt64.ofNat n) := by
  unfold q_dp
  rw [UInt64.toNat_ofNat']
  exact Nat.le_trans (Nat.mod_le _ _) h
theorem fd_dec {z : UInt64} (h : q_dp z) : FP.Core.decode FP.Core.b64 z.toNat = .inf false ∨ ∃ c q, FP.Core.decode FP.Core.b64 z.toNat = .fin false c q := by
  have ht : FP.Core.b64.tails = 4503599627370496 := by decide
  have he : FP.Core.b64.exps = 2048 := by decide
  unfold q_dp at h
  unfold FP.Core.decode FP.Core.fieldE FP.Core.fieldT FP.Core.fieldS
  rw [ht, he]
  generalize z.toNat = n at *
  have e3 : (n / 4503599627370496 / 2048 % 2 == 1) = false := by
    rw [show n / 4503599627370496 / 2048 = 0 by omega]
    rfl
  rw [e3]
  split
  · rw [if_pos (by omega)]
    exact Or.inl rfl
  · split
    · exact Or.inr ⟨_, _, rfl⟩
    · exact Or.inr ⟨_, _, rfl⟩
theorem fd_f2d {t : UInt32} (h : q_tr t) : q_dp (FP.f2d t) := by
  have h' : t.toNat ≤ 1065353216 := UInt32.le_iff_toNat_le.mp h
  obtain ⟨c, k, e1, -⟩ := fm_dec h'
  unfold FP.f2d
  have : FP.Core.fIsNaN t = false := by
    unfold FP.Core.fIsNaN FP.Core.isNaN
    rw [e1]
    exact decide_eq_false (fun z => by cases z)
  rw [this, if_neg (by decide)]
  unfold FP.Core.f2d FP.Core.convert
  rw [e1]
  exact fd_of fd_rr
theorem fd_add {a b : UInt64} (ha : q_dp a) (hb : q_dp b) : q_dp (FP.dadd a b) := by
  show q_dp (UInt64.ofNat (FP.Core.add FP.Core.b64 a.toNat b.toNat))
  unfold FP.Core.add
  refine fd_of ?_
  rcases fd_dec ha with e1 | ⟨c, q, e1⟩ <;> rcases fd_dec hb with e2 | ⟨d, r, e2⟩ <;> rw [e1, e2]
  · show FP.Core.encode FP.Core.b64 (FP.Core.round FP.Core.b64 (if false = false then .inf false else .nan)) ≤ _
    decide
  · show FP.Core.encode FP.Core.b64 (.inf false) ≤ _
    decide
  · show FP.Core.encode FP.Core.b64 (.inf false) ≤ _
    decide
  · show FP.Core.encode FP.Core.b64 (FP.Core.roundRatio FP.Core.b64 (FP.Core.sumSign false false (FP.Core.sumUnits false c q false d r (min q r))) _ 1 (min q r)) ≤ _
    have : FP.Core.sumSign false false (FP.Core.sumUnits false c q false d r (min q r)) = false := by
      have sg : ∀ n : Nat, FP.Core.signed false n = (n : Int) := fun n => rfl
      unfold FP.Core.sumSign FP.Core.sumUnits
      rw [sg, sg]
      split
      · rfl
      · exact decide_eq_false (by omega)
    rw [this]
    exact fd_rr
theorem fd_div {a : UInt64} {n : Nat} (ha : q_dp a) (h1 : 1 ≤ n) (h2 : n ≤ 20) : q_dp (FP.ddiv a (FP.i2d (nI n))) := by
  have key : (List.range 20).all (fun i => match FP.Core.decode FP.Core.b64 (FP.i2d (Int32.ofNat (i + 1))).toNat with
    | .fin false d _ => decide (d ≠ 0)
    | _ => false) = true := by decide +kernel
  have k := List.all_eq_true.mp key (n - 1) (List.mem_range.mpr (by omega))
  rw [show n - 1 + 1 = n by omega] at k
  show q_dp (UInt64.ofNat (FP.Core.div FP.Core.b64 a.toNat (FP.i2d (nI n)).toNat))
  unfold FP.Core.div
  refine fd_of ?_
  have k' : ∃ d r, FP.Core.decode FP.Core.b64 (FP.i2d (nI n)).toNat = .fin false d r ∧ d ≠ 0 := by
    unfold nI
    revert k
    generalize FP.Core.decode FP.Core.b64 (FP.i2d (Int32.ofNat n)).toNat = D
    intro k
    cases D with
    | nan => cases k
    | inf s => cases k
    | fin s d r =>
      cases s with
      | true => cases k
      | false => exact ⟨d, r, rfl, of_decide_eq_true k⟩
  obtain ⟨d, r, e2, hd⟩ := k'
  rcases fd_dec ha with e1 | ⟨c, q, e1⟩ <;> rw [e1, e2]
  · show FP.Core.encode FP.Core.b64 (.inf (false != false)) ≤ _
    decide
  · show FP.Core.encode FP.Core.b64 (if d = 0 then (if c = 0 then .nan else .inf (false != false)) else FP.Core.roundRatio FP.Core.b64 (false != false) c d (q - r)) ≤ _
    rw [if_neg hd]
    exact fd_rr
theorem fd_eq {z : UInt64} (h : q_dp z) : FP.dcmp z z = some .eq := by
  show FP.Core.cmp FP.Core.b64 z.toNat z.toNat = some .eq
  unfold FP.Core.cmp
  rcases fd_dec h with e1 | ⟨c, q, e1⟩ <;> rw [e1]
  · decide
  · show some (compare _ _) = some .eq
    rw [Int.compare_eq_eq.mpr rfl]
theorem ff_eq {t : UInt32} (h : q_tr t) : FP.fcmp t t = some .eq := by
  have h' : t.toNat ≤ 1065353216 := UInt32.le_iff_toNat_le.mp h
  obtain ⟨c, k, e1, -⟩ := fm_dec h'
  show FP.Core.cmp FP.Core.b32 t.toNat t.toNat = some .eq
  unfold FP.Core.cmp
  rw [e1]
  show some (compare _ _) = some .eq
  rw [Int.compare_eq_eq.mpr rfl]
theorem fd_0 : q_dp FP.dconst0 := by unfold q_dp; decide
theorem sp_J23_floatToIntBits {t : UInt32} {Q : Int32 → Prop} (h : q_tr t) (hQ : Q t.toInt32) : wp_J23_floatToIntBits t Q := by
  unfold wp_J23_floatToIntBits wp_J23_isNaN
  rw [ff_eq h]
  exact ⟨fun _ => ⟨fun z => absurd rfl z, fun _ => hQ⟩, fun z => absurd rfl z⟩
def o_agenda (C : CC) (p w : Int32) (k : Nat) (r : Int32) : Prop := (k = 1 ∧ (¬ 0 ≤ p ∨ ∃ n, p = nI n ∧ n < 2 ^ 31 ∧ s_at (c_du C) (s_key (c_w C)) n none)) ∨ ∃ n m fi, p = nI n ∧ n < 2 ^ 31 ∧ s_at (c_du C) (s_key (c_w C)) n (some m) ∧ m < 3360 ∧ c_mk C m fi ∧ ((k = 0 ∧ c_part fi (m / 420) w = some r) ∨ (k = 2 ∧ c_part fi (m / 420) w = none))
def o_matches (C : CC) (v : Int32) (k : Nat) (r : Int32) : Prop := (k = 1 ∧ ∀ i, i < C.1.length → v ≠ nI i) ∨ ∃ i x1, v = nI i ∧ C.1[i]? = some x1 ∧ k = 0 ∧ r = nI (s_cn (s_is x1.2 (q_fs C)) 420)
def o_quiet (C : CC) (k : Nat) (r : Int32) : Prop := ∃ C1 C2 c, c_eqv C C1 ∧ c_runs 61 C1 C2 c ∧ c ≤ 61 ∧ ((k = 0 ∧ c ≤ 60 ∧ r = nI c) ∨ (k = 1 ∧ 60 < c))
def o_why (C : CC) (v p w : Int32) (k : Nat) (r : Int32) : Prop := (k = 1 ∧ o_no C v) ∨ ∃ i y, o_fnd C v i y ∧ ((k = 1 ∧ ∀ j, j < y.2.2.1.length → p ≠ nI j) ∨ ∃ j fi q x1, p = nI j ∧ y.2.2.1[j]? = some fi ∧ C.1[q]? = some x1 ∧ fi.1 = x1.1 ∧ ((k = 0 ∧ c_part fi q w = some r) ∨ (k = 2 ∧ c_part fi q w = none)))
def o_would (C : CC) (v : Int32) (k : Nat) (r : Int32) : Prop := (k = 1 ∧ o_no C v) ∨ ∃ i y, o_fnd C v i y ∧ k = 0 ∧ ((y.2.1 4 = 0 ∧ r = 0) ∨ (y.2.1 4 = 1 ∧ ∃ C1 D, c_eqv C C1 ∧ c_dep (c_untold C1 i) D ∧ r = nI (c_los D (c_untold C1 i)).2))
def o_char (cs : List Nat) (v : Int32) (k : Nat) (r : Int32) : Prop := (k = 1 ∧ ∀ i, i < cs.length → v ≠ nI i) ∨ ∃ i, v = nI i ∧ i < cs.length ∧ k = 0 ∧ r = nI (cs.getD i 0)
def o_refusal (o : Option (Int32 × Int32)) (b : Int32) (k : Nat) (r : Int32) : Prop := (k = 1 ∧ o = none) ∨ ∃ q, o = some q ∧ k = 0 ∧ r = if b = 0 then q.1 else q.2
def o_opt (o : Option Nat) (k : Nat) (r : Int32) : Prop := (k = 1 ∧ o = none) ∨ ∃ i, o = some i ∧ k = 0 ∧ r = nI i
def o_elem (o : Option RW) (v : Int32) (k : Nat) (r : Int32) : Prop := (k = 2 ∧ o = none) ∨ (∃ l, o = some (.inl l) ∧ ((k = 2 ∧ ∀ i, i < l.length → v ≠ nI i) ∨ ∃ i, v = nI i ∧ i < l.length ∧ k = 0 ∧ r = l.getD i 0)) ∨ ∃ l, o = some (.inr l) ∧ ((k = 2 ∧ ∀ i, i < l.length → v ≠ nI i) ∨ ∃ i, v = nI i ∧ i < l.length ∧ k = 0 ∧ r = (l.getD i 0).toInt32)
def o_account (S : TS) (v : Int32) (k : Nat) (r : Int32) : Prop :=
  (v = 0 ∧ k = 0 ∧ r = nI (t_C S).2.1.length) ∨ (v = 1 ∧ k = 0 ∧ r = nI ((t_C S).2.2 0)) ∨ (v = 2 ∧ k = 0 ∧ r = nI (c_sum (fun y => y.2.1 4) (t_C S).2.1)) ∨ (v = 3 ∧ k = 0 ∧ r = nI (t_C S).1.length) ∨ (v = 4 ∧ k = 0 ∧ r = nI ((t_C S).2.2 2)) ∨
  (v = 5 ∧ k = 0 ∧ r = nI (s_cn (c_du (t_C S)) 3360)) ∨ (v = 6 ∧ k = 0 ∧ r = nI (c_sum (fun y => y.2.2.1.length) (t_C S).2.1)) ∨ (v = 7 ∧ k = 0 ∧ r = nI ((t_C S).2.2 1)) ∨ (v = 8 ∧ k = 0 ∧ ∃ D, c_dep (t_C S) D ∧ r = nI (c_gD D (t_C S).2.1.length)) ∨ (v = 9 ∧ k = 0 ∧ r = nI ((t_C S).2.2 3)) ∨
  (v = 10 ∧ k = 0 ∧ r = nI S.2.2.2.2.1.length) ∨ (v = 11 ∧ k = 0 ∧ r = nI S.2.1.length) ∨ (k = 1 ∧ ∀ j, j < 12 → v ≠ nI j)
section ASK2
variable {G : GG} {h h' : HH} {ρ ρ' : RO} {x : Nat} {S : TS} {n : Nat}
theorem c_J.ok {C : CC} (hJ : c_J C n) : c_ok C := hJ.1.1
theorem c_J.fw {C : CC} (hJ : c_J C n) : c_fw C := hJ.1.2.1
theorem c_J.cl {C : CC} (hJ : c_J C n) : c_cl C := hJ.1.2.2.2.1
theorem c_J.t4 {C : CC} (hJ : c_J C n) : ∀ y ∈ C.2.1, y.2.1 4 ≤ 1 := fun y hy => (hJ.fw y hy).2.2.2.1
theorem sp_X1_trust {v : Int32} {mc ms : Nat} {Q : UInt32 → HH → Prop} {X : String → Nat → HH → Prop} (hX : q_X G h ρ x S) (hm : 10 ≤ mc) (hs : 30 ≤ ms)
    (hQ : ∀ h' r, q_X G h' ρ x S → o_trust (t_C S) v 0 r → Q r h') (hE : ∀ h' q, q_X G h' ρ x S → o_trust (t_C S) v 1 0 → X "java/util/NoSuchElementException" q h') : wp_X1_trust G mc ms h x v Q X := by
  obtain ⟨-, hB, h10, -⟩ := hX.cur
  unfold wp_X1_trust
  refine hX.bk <| w_nn_of ⟨3, 20, by omega, by omega, hX.isb <| sp_X2_fact hB.1 (by omega) (by omega) (fun h' i y hs' hy e => ?_) (fun h' q hs' hno _ => hE h' q (hX.same hs') (Or.inl ⟨rfl, hno⟩))⟩
  obtain ⟨l1, l2, hc⟩ := (hB.no hs').cell hy
  exact w_nn_of <| w_getf_of hc rfl <| hQ h' _ (hX.same hs') (Or.inr ⟨i, y, ⟨hy, e⟩, rfl, rfl⟩)
theorem sp_X1_trustBits {v : Int32} {mc ms : Nat} {Q : Int32 → HH → Prop} {X : String → Nat → HH → Prop} (hX : q_X G h ρ x S) (hJ : c_J (t_C S) n) (hm : 10 ≤ mc) (hs : 30 ≤ ms)
    (hQ : ∀ h' r, q_X G h' ρ x S → o_trust (t_C S) v 0 r → Q r.toInt32 h') (hE : ∀ h' q, q_X G h' ρ x S → o_trust (t_C S) v 1 0 → X "java/util/NoSuchElementException" q h') : wp_X1_trustBits G mc ms h x v Q X := by
  obtain ⟨-, hB, h10, -⟩ := hX.cur
  unfold wp_X1_trustBits
  refine hX.bk <| w_nn_of ⟨3, 20, by omega, by omega, hX.isb <| sp_X2_fact hB.1 (by omega) (by omega) (fun h' i y hs' hy e => ?_) (fun h' q hs' hno _ => hE h' q (hX.same hs') (Or.inl ⟨rfl, hno⟩))⟩
  obtain ⟨l1, l2, hc⟩ := (hB.no hs').cell hy
  exact w_nn_of <| w_getf_of hc rfl <| sp_J23_floatToIntBits (hJ.fw y (List.mem_of_getElem? hy)).2.2.2.2.1 <| hQ h' _ (hX.same hs') (Or.inr ⟨i, y, ⟨hy, e⟩, rfl, rfl⟩)
theorem sp_X1_trusted {v : Int32} {mc ms : Nat} {Q : Int32 → HH → Prop} {X : String → Nat → HH → Prop} (hX : q_X G h ρ x S) (hJ : c_J (t_C S) n) (hm : 40 ≤ mc) (hs : 140 ≤ ms)
    (hQ : ∀ h' r, q_X G h' ρ x S → o_trusted (t_C S) v 0 r → Q r h') (hE : ∀ h' q, q_X G h' ρ x S → o_trusted (t_C S) v 1 0 → X "java/util/NoSuchElementException" q h') : wp_X1_trusted G mc ms h x v Q X := by
  obtain ⟨-, hB, h10, -⟩ := hX.cur
  unfold wp_X1_trusted
  refine hX.bk <| w_nn_of ⟨30, 120, by omega, by omega, hX.isb <| sp_X2_trusted hB hJ.ok (by omega) (by omega) (fun h' i y hs' hy e hno => ⟨1, 6, by omega, by omega, sp_X1_numberOf (by omega) (by omega) (fun a z => ?_) (fun z => by cases z)⟩) (fun h' hs' hno => ⟨1, 6, by omega, by omega, sp_X1_numberOf (by omega) (by omega) (fun a z => by cases z) (fun _ q _ => hE h' q (hX.same hs') (Or.inr ⟨rfl, hno⟩))⟩)⟩
  cases z
  obtain ⟨l1, l2, hc⟩ := (hB.no hs').cell hy
  exact w_geti_of hc rfl (hQ h' _ (hX.same hs') (Or.inl ⟨rfl, i, y, hy, e, hno, rfl⟩))
theorem sp_X1_due {b : Int32} {mc ms : Nat} {Q : Int32 → HH → Prop} (hX : q_X G h ρ x S) (hok : c_ok (t_C S)) (hm : 1 ≤ mc) (hs : 4 ≤ ms)
    (hQ : ∀ h', q_X G h' ρ x S → Q (nI (s_cn (c_du (t_C S)) 3360)) h') : wp_X1_due G mc ms h x b Q := by
  obtain ⟨-, hB, h10, -⟩ := hX.cur
  unfold wp_X1_due
  refine ⟨fun _ => hX.bk <| w_nn_of ⟨1, 4, by omega, by omega, hX.isb <| sp_X2_due hok hB.1 hB.2.1 (by omega) (by omega) (fun h' hs' hw => hQ h' (hX.wk hs' hw))⟩, fun _ => hX.bk <| w_nn_of ⟨1, 4, by omega, by omega, hX.isb <| sp_X2_dueAgain hok hB.1 hB.2.1 (by omega) (by omega) (fun h' hs' hw => hQ h' (hX.wk hs' hw))⟩⟩
theorem sp_X1_agenda {p w : Int32} {mc ms : Nat} {Q : Int32 → HH → Prop} {X : String → Nat → HH → Prop} (hX : q_X G h ρ x S) (hok : c_ok (t_C S)) (hm : 10 ≤ mc) (hs : 30 ≤ ms)
    (hQ : ∀ h' r, q_X G h' ρ x S → o_agenda (t_C S) p w 0 r → Q r h') (hE1 : ∀ h' q, q_X G h' ρ x S → o_agenda (t_C S) p w 1 0 → X "java/util/NoSuchElementException" q h') (hE2 : ∀ h' q, q_X G h' ρ x S → o_agenda (t_C S) p w 2 0 → X "java/lang/IllegalArgumentException" q h') : wp_X1_agenda G mc ms h x p w Q X := by
  obtain ⟨-, hB, h10, -⟩ := hX.cur
  unfold wp_X1_agenda
  have none_ : ∀ {h' : HH}, q_X G h' ρ x S → o_agenda (t_C S) p w 1 0 → ((none : Option Nat) = none → wp_X1_agenda_L18 G mc ms x Q X h' (0 + 2) (0 + 6) w none 0) ∧ (∀ a6, (none : Option Nat) = some a6 → wp_X1_agenda_L18 G mc ms x Q X h' (0 + 2) (0 + 6) w (some a6) 1) := fun hX' ho => ⟨fun _ => by
    unfold wp_X1_agenda_L18
    exact ⟨1, 6, by omega, by omega, sp_X1_checkElement (by omega) (by omega) (fun z => absurd rfl z) (fun _ q _ => hE1 _ q hX' ho)⟩, fun a z => by cases z⟩
  refine hX.bk <| w_nn_of ⟨2, 6, by omega, by omega, hX.isb <| sp_X2_agenda hok hB.1 hB.2.1 (by omega) (by omega) (fun hneg => none_ hX (Or.inl ⟨rfl, Or.inl hneg⟩)) (fun h' n e1 e2 hs' hw ho => none_ (hX.wk hs' hw) (Or.inl ⟨rfl, Or.inr ⟨n, e1, e2, ho⟩⟩)) (fun h' n fd m fi e1 e2 hs' hw ho hm3 hmk hfd => ⟨fun z => (by cases z), fun a z => ?_⟩)⟩
  cases z
  have hX' := hX.wk hs' hw
  obtain ⟨-, hB', -, -⟩ := hX'.cur
  obtain ⟨x1, y, c1, c2, c3, c4⟩ := id hmk
  unfold wp_X1_agenda_L18
  refine ⟨1, 6, by omega, by omega, sp_X1_checkElement (by omega) (by omega) (fun _ => hX'.bk <| w_nn_of ⟨1, 6, by omega, by omega, hX'.isb <| sp_X2_part (i := m / 420) hB'.1 hok hfd c1 (by rw [c3]) (by omega) (by omega) (fun r hr => hQ h' r hX' (Or.inr ⟨n, m, fi, e1, e2, ho, hm3, hmk, Or.inl ⟨rfl, hr⟩⟩)) (fun q hr _ => hE2 h' q hX' (Or.inr ⟨n, m, fi, e1, e2, ho, hm3, hmk, Or.inr ⟨rfl, hr⟩⟩))⟩) (fun z => absurd z (by decide))⟩
theorem sp_X1_matches {v : Int32} {mc ms : Nat} {Q : Int32 → HH → Prop} {X : String → Nat → HH → Prop} (hX : q_X G h ρ x S) (hok : c_ok (t_C S)) (hm : 10 ≤ mc) (hs : 30 ≤ ms)
    (hQ : ∀ h' r, q_X G h' ρ x S → o_matches (t_C S) v 0 r → Q r h') (hE : ∀ q, o_matches (t_C S) v 1 0 → X "java/lang/IndexOutOfBoundsException" q h) : wp_X1_matches G mc ms h x v Q X := by
  obtain ⟨-, hB, h10, -⟩ := hX.cur
  unfold wp_X1_matches
  refine hX.bk <| hX.bk <| w_nn_of ⟨1, 6, by omega, by omega, hX.isb <| sp_X2_rule hB.1 hok (by omega) (by omega) (fun i x1 e1 e2 => w_nn_of <| hX.isb <| sp_X2_matches hok hB.1 hB.2.1 e2 (fun h' hs' hw => hQ h' _ (hX.wk hs' hw) (Or.inr ⟨i, x1, e1, e2, rfl, rfl⟩))) (fun q hno _ => hE q (Or.inl ⟨rfl, hno⟩))⟩
theorem sp_X1_wouldGo {v : Int32} {mc ms k' : Nat} {Q : Int32 → HH → Prop} {X : String → Nat → HH → Prop} (hX : q_X G h ρ x S) (hJ : c_J (t_C S) n) (hn : n < 3990) (hm : 2500 + 50 * n ≤ mc) (hs : 10000 + 180 * n ≤ ms)
    (hQ : ∀ h' ρ' r, q_X G h' ρ' x S → o_would (t_C S) v 0 r → Q r h') (hE : ∀ h' ρ' q, q_X G h' ρ' x S → o_would (t_C S) v 1 0 → X "java/util/NoSuchElementException" q h') : wp_X1_wouldGo G mc ms h x v Q X := by
  obtain ⟨ρ1, M, hX1, h10, hM, hM2, -⟩ := hX.fresh
  obtain ⟨-, hB, -, -⟩ := hX1.cur
  have hl := hJ.ok.2.2.2.1
  have hca : c_sum c_all (t_C S).2.1 ≤ 2 * n := by
    have : ∀ ys : List CF, c_sum c_all ys = c_sum (fun y => y.2.2.1.length) ys + c_sum (fun y => y.2.2.2.length) ys := by
      intro ys
      induction ys with
      | nil => rfl
      | cons y ys ih => simp only [c_sum, c_all]; omega
    rw [this]
    have := hJ.2.2.2.1
    have := hJ.2.2.2.2
    omega
  have hr := hJ.2.2.2.1
  generalize hR : c_sum (fun y => y.2.2.1.length) (t_C S).2.1 = R at hr
  generalize hA : c_sum c_all (t_C S).2.1 = A at hca
  unfold wp_X1_wouldGo
  refine hX1.bk <| w_nn_of ⟨2500 + 50 * n, 10000 + 180 * n, by omega, by omega, hX1.isb <| sp_X2_wouldGo (k' := M) hB hJ.1 hn (fun z => hM S.1 (List.mem_cons_self ..) z) h10 hM2 ?_ ?_ (fun h' q hs' hno _ => hE h' ρ1 q (hX1.same hs') (Or.inl ⟨rfl, hno⟩)) (fun h' i y hs' hy e e4 => hQ h' ρ1 _ (hX1.same hs') (Or.inr ⟨i, y, ⟨hy, e⟩, rfl, Or.inl ⟨e4, rfl⟩⟩)) (fun h' i y C1 D hs' hy e e4 hq hd => hQ h' ρ1 _ (hX1.same hs') (Or.inr ⟨i, y, ⟨hy, e⟩, rfl, Or.inr ⟨e4, C1, D, hq, hd, rfl⟩⟩))⟩
  · rw [hR, hA]; omega
  · rw [hR, hA]; omega
theorem sp_X1_quietIn {mc ms : Nat} {Q : Int32 → HH → Prop} {X : String → Nat → HH → Prop} (hX : q_X G h ρ x S) (hJ : c_J (t_C S) n) (hn : n + 61 < 3990) (hm : 900 + 2 * n ≤ mc) (hs : 28000 + 260 * n ≤ ms)
    (hQ : ∀ h' ρ' r, q_X G h' ρ' x S → o_quiet (t_C S) 0 r → Q r h') (hE : ∀ h' ρ' q, q_X G h' ρ' x S → o_quiet (t_C S) 1 0 → X "java/util/NoSuchElementException" q h') : wp_X1_quietIn G mc ms h x Q X := by
  obtain ⟨ρ1, M, hX1, h10, hM, hM2, -⟩ := hX.fresh
  obtain ⟨-, hB, -, -⟩ := hX1.cur
  have hca : c_sum c_all (t_C S).2.1 ≤ 2 * n := by
    have : ∀ ys : List CF, c_sum c_all ys = c_sum (fun y => y.2.2.1.length) ys + c_sum (fun y => y.2.2.2.length) ys := by
      intro ys
      induction ys with
      | nil => rfl
      | cons y ys ih => simp only [c_sum, c_all]; omega
    rw [this]
    have := hJ.2.2.2.1
    have := hJ.2.2.2.2
    omega
  generalize hA : c_sum c_all (t_C S).2.1 = A at hca
  unfold wp_X1_quietIn
  refine hX1.bk <| w_nn_of ⟨890 + 2 * n, 27900 + 260 * n, by omega, by omega, hX1.isb <| sp_X2_quietIn (k' := M) hB hJ.1 hn (fun z => hM S.1 (List.mem_cons_self ..) z) h10 (fun c _ _ => hM2 c) (by rw [hA]; omega) (by rw [hA]; omega) (fun h' C1 C2 c hq hr hc hs' => ?_)⟩
  have hX' := hX1.same hs'
  by_cases q : c ≤ 60
  · rw [if_pos q]
    refine br_f (nO_neg (by omega)) ⟨1, 6, by omega, by omega, sp_X1_checkElement (by omega) (by omega) (fun _ => hQ h' ρ1 _ hX' ⟨C1, C2, c, hq, hr, hc, Or.inl ⟨rfl, q, rfl⟩⟩) (fun z => absurd z (by decide))⟩
  · rw [if_neg q]
    exact br_t rfl ⟨1, 6, by omega, by omega, sp_X1_checkElement (by omega) (by omega) (fun z => absurd rfl z) (fun _ q9 _ => hE h' ρ1 q9 hX' ⟨C1, C2, c, hq, hr, hc, Or.inr ⟨rfl, by omega⟩⟩)⟩
end ASK2
def s_sumT (C : CC) : Nat → UInt64
  | 0 => FP.dconst0
  | n + 1 => match C.2.1[n]? with
    | none => s_sumT C n
    | some y => FP.dadd (s_sumT C n) (FP.f2d (q_tb (y.2.1 5)))
def o_mean (C : CC) (k : Nat) (r : UInt64) : Prop := (k = 1 ∧ C.2.1.length = 0) ∨ (k = 0 ∧ C.2.1.length ≠ 0 ∧ r = FP.ddiv (s_sumT C C.2.1.length) (FP.i2d (nI C.2.1.length)))
section ASK3
variable {G : GG} {h h' : HH} {ρ ρ' : RO} {x : Nat} {S : TS} {n : Nat}
theorem sp_X1_why {v p w : Int32} {mc ms : Nat} {Q : Int32 → HH → Prop} {X : String → Nat → HH → Prop} (hX : q_X G h ρ x S) (hJ : c_J (t_C S) n) (hm : 10 ≤ mc) (hs : 60 ≤ ms)
    (hQ : ∀ h' r, q_X G h' ρ x S → o_why (t_C S) v p w 0 r → Q r h') (hE1 : ∀ h' q, q_X G h' ρ x S → o_why (t_C S) v p w 1 0 → X "java/util/NoSuchElementException" q h') (hE2 : ∀ h' q, q_X G h' ρ x S → o_why (t_C S) v p w 2 0 → X "java/lang/IllegalArgumentException" q h') : wp_X1_why G mc ms h x v p w Q X := by
  obtain ⟨-, hB, h10, -⟩ := hX.cur
  unfold wp_X1_why
  refine hX.bk <| w_nn_of ⟨3, 20, by omega, by omega, hX.isb <| sp_X2_fact hB.1 (by omega) (by omega) (fun h' i y hs' hy e => ?_) (fun h' q hs' hno _ => hE1 h' q (hX.same hs') (Or.inl ⟨rfl, hno⟩))⟩
  have hX' := hX.same hs'
  obtain ⟨-, hB', -, -⟩ := hX'.cur
  have hym := List.mem_of_getElem? hy
  obtain ⟨-, lR, lF, hcy, ⟨xs, u1, u2, u3⟩, -⟩ := (hB'.1.fact hy).1
  obtain ⟨fsu, uo⟩ := u1.ob
  have hlen := u1.2.1
  refine w_nn_of <| w_geta_of hcy rfl <| w_nn_of <| w_is_of uo <| sp_J2_size u1 ?_
  rw [u2]
  refine sp_inN (by omega) (fun j hj hp => ⟨1, 6, by omega, by omega, sp_X1_checkElement (by omega) (by omega) (fun _ => ?_) (fun z => absurd z (by decide))⟩) (fun hno => ⟨1, 6, by omega, by omega, sp_X1_checkElement (by omega) (by omega) (fun z => absurd rfl z) (fun _ q _ => hE1 h' q hX' (Or.inr ⟨i, y, ⟨hy, e⟩, Or.inl ⟨rfl, hno⟩⟩))⟩)
  subst hp
  have hfi := List.getElem?_eq_getElem hj
  have hxj := List.getElem?_eq_getElem (show j < xs.length by omega)
  have hq := u3 j _ _ hxj hfi
  obtain ⟨q, x1, hx1, hfx⟩ := (hJ.2.1 y hym).1 _ (List.getElem_mem hj)
  refine hX'.bk <| w_geta_of hcy rfl <| w_nn_of <| w_is_of uo <| sp_J2_get u1 hxj <| w_nn_of <| w_cast_of hq.2 <| w_nn_of ⟨1, 6, by omega, by omega, hX'.isb <| sp_X2_part (i := q) hB'.1 hJ.ok hq.2 hx1 hfx (by omega) (by omega) (fun r hr => hQ h' r hX' (Or.inr ⟨i, y, ⟨hy, e⟩, Or.inr ⟨j, _, q, x1, rfl, hfi, hx1, hfx, Or.inl ⟨rfl, hr⟩⟩⟩)) (fun q9 hr _ => hE2 h' q9 hX' (Or.inr ⟨i, y, ⟨hy, e⟩, Or.inr ⟨j, _, q, x1, rfl, hfi, hx1, hfx, Or.inr ⟨rfl, hr⟩⟩⟩))⟩
theorem sp_X1_isInOrder {mc ms : Nat} {Q : Int32 → HH → Prop} (hX : q_X G h ρ x S) (hJ : c_J (t_C S) n) (hm : 600 + 50 * n ≤ mc) (hs : 2200 + 200 * n ≤ ms)
    (hQ : ∀ h', q_X G h' ρ x S → Q 1 h') : wp_X1_isInOrder G mc ms h x Q := by
  obtain ⟨-, hB, h10, -⟩ := hX.cur
  have hl := hJ.ok.2.2.2.1
  have hca : c_sum c_all (t_C S).2.1 ≤ 2 * n := by
    have : ∀ ys : List CF, c_sum c_all ys = c_sum (fun y => y.2.2.1.length) ys + c_sum (fun y => y.2.2.2.length) ys := by
      intro ys
      induction ys with
      | nil => rfl
      | cons y ys ih => simp only [c_sum, c_all]; omega
    rw [this]
    have := hJ.2.2.2.1
    have := hJ.2.2.2.2
    omega
  have hr := hJ.2.2.2.1
  generalize hR : c_sum (fun y => y.2.2.1.length) (t_C S).2.1 = R at hr
  generalize hA : c_sum c_all (t_C S).2.1 = A at hca
  unfold wp_X1_isInOrder
  refine hX.bk <| w_nn_of ⟨600 + 50 * n, 2200 + 200 * n, by omega, by omega, hX.isb <| sp_X2_isInOrder hB hJ.ok hJ.fw hJ.cl hJ.2.2.1 ?_ ?_ (fun h' hs' => ⟨rfl, hQ h' (hX.same hs')⟩)⟩
  · rw [hR, hA]; omega
  · rw [hR, hA]; omega
theorem sp_X1_factOf {v w : Int32} {mc ms : Nat} {Q : Int32 → HH → Prop} {X : String → Nat → HH → Prop} (hX : q_X G h ρ x S) (hJ : c_J (t_C S) n) (hm : 500 + 40 * n ≤ mc) (hs : 2000 + 160 * n ≤ ms)
    (hQ : ∀ h' r, q_X G h' ρ x S → o_factOf (t_C S) v w 0 r → Q r h') (hE1 : ∀ h' q, q_X G h' ρ x S → o_factOf (t_C S) v w 1 0 → X "java/util/NoSuchElementException" q h') (hE2 : ∀ h' q, q_X G h' ρ x S → o_factOf (t_C S) v w 2 0 → X "java/lang/IllegalArgumentException" q h') : wp_X1_factOf G mc ms h x v w Q X := by
  obtain ⟨-, hB, h10, -⟩ := hX.cur
  have hl := hJ.ok.2.2.2.1
  have hr := hJ.2.2.2.1
  unfold wp_X1_factOf
  refine hX.bk <| w_nn_of ⟨3, 20, by omega, by omega, hX.isb <| sp_X2_fact hB.1 (by omega) (by omega) (fun h' i y hs' hy e => ?_) (fun h' q hs' hno _ => hE1 h' q (hX.same hs') (Or.inl ⟨rfl, hno⟩))⟩
  have hX' := hX.same hs'
  obtain ⟨-, hB', -, -⟩ := hX'.cur
  have hym := List.mem_of_getElem? hy
  obtain ⟨-, lR, lF, hcy, ⟨xs, u1, u2, u3⟩, -⟩ := (hB'.1.fact hy).1
  obtain ⟨fsu, uo⟩ := u1.ob
  have ans : ∀ {h2 : HH} {r : Int32}, q_X G h2 ρ x S → _ → Q r h2 := fun {h2 r} hX2 ho => hQ h2 r hX2 (Or.inr ⟨i, y, ⟨hy, e⟩, ho⟩)
  refine ⟨fun z => w_nn_of <| w_geti_of hcy rfl <| ans hX' (Or.inl ⟨z, rfl, rfl⟩), fun z0 => ⟨fun z => w_nn_of <| w_geti_of hcy rfl <| ans hX' (Or.inr (Or.inl ⟨z, rfl, rfl⟩)), fun z1 => ⟨fun z => w_nn_of <| w_geti_of hcy rfl <| ans hX' (Or.inr (Or.inr (Or.inl ⟨z, rfl, rfl⟩))), fun z2 => ⟨fun z => w_nn_of <| w_geti_of hcy rfl ?_, fun z3 => ⟨fun z => w_nn_of <| w_geta_of hcy rfl <| w_nn_of <| w_is_of uo <| sp_J2_size u1 ?_, fun z4 => ⟨fun z => w_nn_of <| w_geti_of hcy rfl <| ans hX' (Or.inr (Or.inr (Or.inr (Or.inr (Or.inr (Or.inl ⟨z, rfl, rfl⟩)))))), fun z5 => ⟨fun z => hX'.bk <| w_nn_of ⟨50, 150, by omega, by omega, hX'.isb <| sp_X2_uses hB' hJ.ok hy (by omega) (by omega) (fun h2 hs2 => ans (hX'.same hs2) (Or.inr (Or.inr (Or.inr (Or.inr (Or.inr (Or.inr (Or.inl ⟨z, rfl, rfl⟩)))))))) ⟩, fun z6 => ⟨fun z => hX'.bk <| w_nn_of ⟨450 + 40 * n, 1700 + 160 * n, by omega, by omega, hX'.isb <| sp_X2_depth_2 hB'.1 hJ.ok hJ.cl hJ.t4 hy (by unfold t_C at *; omega) (by unfold t_C at *; omega) (fun h2 D hs2 hd => ans (hX'.same hs2) (Or.inr (Or.inr (Or.inr (Or.inr (Or.inr (Or.inr (Or.inr (Or.inl ⟨z, rfl, D, hd, rfl⟩))))))))) ⟩, fun z7 => ⟨by omega, by omega, fun q _ => hE2 h' q hX' (Or.inr ⟨i, y, ⟨hy, e⟩, Or.inr (Or.inr (Or.inr (Or.inr (Or.inr (Or.inr (Or.inr (Or.inr ⟨rfl, fun j hj ej => ?_⟩)))))))⟩)⟩⟩⟩⟩⟩⟩⟩⟩⟩
  · have h4 := hJ.t4 y hym
    refine ⟨fun q => ans hX' (Or.inr (Or.inr (Or.inr (Or.inl ⟨z, rfl, ?_⟩)))), fun q => ans hX' (Or.inr (Or.inr (Or.inr (Or.inl ⟨z, rfl, ?_⟩))))⟩
    · have : y.2.1 4 = 0 := (nI_eq (a := y.2.1 4) (b := 0) (by omega) (by decide)).mp q
      rw [this]; rfl
    · have : y.2.1 4 = 1 := by
        rcases Nat.eq_zero_or_pos (y.2.1 4) with c | c
        · exact absurd (by rw [c]; rfl) q
        · omega
      rw [this]; rfl
  · rw [u2]
    exact ans hX' (Or.inr (Or.inr (Or.inr (Or.inr (Or.inl ⟨z, rfl, rfl⟩)))))
  · subst ej
    rcases (by omega : j = 0 ∨ j = 1 ∨ j = 2 ∨ j = 3 ∨ j = 4 ∨ j = 5 ∨ j = 6 ∨ j = 7) with rfl | rfl | rfl | rfl | rfl | rfl | rfl | rfl
    · exact z0 rfl
    · exact z1 rfl
    · exact z2 rfl
    · exact z3 rfl
    · exact z4 rfl
    · exact z5 rfl
    · exact z6 rfl
    · exact z7 rfl
end ASK3
