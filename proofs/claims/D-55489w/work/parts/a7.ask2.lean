set_option maxRecDepth 100000
section ASK4
variable {G : GG} {h h' : HH} {ρ ρ' : RO} {x : Nat} {S : TS} {n : Nat}
theorem sp_X1_checkState {mc ms : Nat} {c : Int32} {Q : HH → Prop} {X : String → Nat → HH → Prop} (hm : 1 ≤ mc) (hs : 6 ≤ ms) (hQ : c ≠ 0 → Q h) (hX : c = 0 → ∀ q, h q = none → X "java/lang/IllegalStateException" q h) : wp_X1_checkState G mc ms h c Q X :=
  ⟨hQ, fun z => ⟨by omega, by omega, hX z⟩⟩
theorem sp_X1_checkNumbers {mc ms : Nat} {c : Int32} {Q : HH → Prop} {X : String → Nat → HH → Prop} (hm : 1 ≤ mc) (hs : 6 ≤ ms) (hQ : c ≠ 0 → Q h) (hX : c = 0 → ∀ q, h q = none → X "java/lang/ArithmeticException" q h) : wp_X1_checkNumbers G mc ms h c Q X :=
  ⟨hQ, fun z => ⟨by omega, by omega, hX z⟩⟩
theorem sp_X1_checkRow {mc ms : Nat} {v : Int32} {Q : HH → Prop} {X : String → Nat → HH → Prop} (hm : 1 ≤ mc) (hs : 6 ≤ ms) (hQ : ∀ i, i < 2 → v = nI i → Q h) (hX : (∀ i, i < 2 → v ≠ nI i) → ∀ q, h q = none → X "java/lang/IndexOutOfBoundsException" q h) : wp_X1_checkRow G mc ms h v Q X := by
  unfold wp_X1_checkRow
  refine sp_inR 0 1 (by decide) (by decide) (fun h1 h2 => ⟨1, 6, by omega, by omega, sp_X1_checkIndex (by omega) (by omega) (fun _ => ?_) (fun z => absurd z (by decide))⟩) (fun hno => ⟨1, 6, by omega, by omega, sp_X1_checkIndex (by omega) (by omega) (fun z => absurd rfl z) (fun _ => hX (fun i hi e => hno ?_))⟩)
  · obtain ⟨j, hj, rfl⟩ := nI_of (x := v) (fun z => by
      have := Int32.lt_iff_toInt_lt.mp z
      rw [show (0 : Int32).toInt = 0 from by decide] at this
      omega)
    rw [nI_toInt (by omega)] at h2
    exact hQ j (by omega) rfl
  · rw [e, nI_toInt (by omega)]
    omega
theorem sp_X1_refusal {b : Int32} {mc ms : Nat} {Q : Int32 → HH → Prop} {X : String → Nat → HH → Prop} (hX : q_X G h ρ x S) (hm : 1 ≤ mc) (hs : 6 ≤ ms)
    (hQ : ∀ r, o_refusal S.2.2.2.2.2.2.2.2.1 b 0 r → Q r h) (hE : ∀ q, o_refusal S.2.2.2.2.2.2.2.2.1 b 1 0 → X "java/lang/IllegalStateException" q h) : wp_X1_refusal G mc ms h x b Q X := by
  obtain ⟨dq, arr, ra, si, v, N, ls, er, rf, fr, h1, r1, r2, r3, r4, r5, r6, h2, h3, h4, h5, h6, h7, h8, h9, h10, h11, h12, h13, h14⟩ := hX
  unfold wp_X1_refusal
  rcases h11 with ⟨rfl, e2⟩ | ⟨a, q, rfl, e2, -, v0, v1, v2, v3, v4, v5, e3⟩
  · refine w_getr_of (v := none) h1 rfl ⟨fun _ => ?_, fun a z => by cases z⟩
    unfold wp_X1_refusal_L12
    exact ⟨1, 6, by omega, by omega, sp_X1_checkState (by omega) (by omega) (fun z => absurd rfl z) (fun _ q _ => hE q (Or.inl ⟨rfl, e2⟩))⟩
  · refine w_getr_of (v := some a) h1 rfl ⟨fun z => (by cases z), fun a z => ?_⟩
    cases z
    unfold wp_X1_refusal_L12
    refine ⟨1, 6, by omega, by omega, sp_X1_checkState (by omega) (by omega) (fun _ => ⟨fun z => ?_, fun z => ?_⟩) (fun z => absurd z (by decide))⟩
    · refine w_getr_of (v := some _) h1 rfl <| w_nn_of <| w_geti_of e3 rfl <| hQ _ (Or.inr ⟨q, e2, rfl, ?_⟩)
      rw [if_pos z]
    · refine w_getr_of (v := some _) h1 rfl <| w_nn_of <| w_geti_of e3 rfl <| hQ _ (Or.inr ⟨q, e2, rfl, ?_⟩)
      rw [if_neg z]
theorem sp_X1_errorPosition {mc ms : Nat} {Q : Int32 → HH → Prop} {X : String → Nat → HH → Prop} (hX : q_X G h ρ x S) (hm : 1 ≤ mc) (hs : 6 ≤ ms)
    (hQ : ∀ r, o_opt S.2.2.2.2.2.2.1 0 r → Q r h) (hE : ∀ q, o_opt S.2.2.2.2.2.2.1 1 0 → X "java/util/NoSuchElementException" q h) : wp_X1_errorPosition G mc ms h x Q X := by
  obtain ⟨dq, arr, ra, si, v, N, ls, er, rf, fr, h1, r1, r2, r3, r4, r5, r6, h2, h3, h4, h5, h6, h7, h8, h9, h10, h11, h12, h13, h14⟩ := hX
  unfold wp_X1_errorPosition
  rcases h10 with ⟨rfl, e2⟩ | ⟨a, i, rfl, e2, -, -, v0, v1, v2, v3, v4, v5, e3⟩
  · exact w_getr_of (v := none) h1 rfl ⟨fun _ => ⟨1, 6, by omega, by omega, sp_X1_checkElement (by omega) (by omega) (fun z => absurd rfl z) (fun _ q _ => hE q (Or.inl ⟨rfl, e2⟩))⟩, fun a z => by cases z⟩
  · refine w_getr_of (v := some a) h1 rfl ⟨fun z => (by cases z), fun a z => ?_⟩
    cases z
    exact ⟨1, 6, by omega, by omega, sp_X1_checkElement (by omega) (by omega) (fun _ => w_getr_of (v := some _) h1 rfl <| w_nn_of <| w_geti_of e3 rfl <| hQ _ (Or.inr ⟨i, e2, rfl, rfl⟩)) (fun z => absurd z (by decide))⟩
theorem sp_X1_refusedItem {mc ms : Nat} {Q : Int32 → HH → Prop} {X : String → Nat → HH → Prop} (hX : q_X G h ρ x S) (hm : 1 ≤ mc) (hs : 6 ≤ ms)
    (hQ : ∀ r, o_opt S.2.2.2.2.2.2.2.1 0 r → Q r h) (hE : ∀ q, o_opt S.2.2.2.2.2.2.2.1 1 0 → X "java/util/NoSuchElementException" q h) : wp_X1_refusedItem G mc ms h x Q X := by
  obtain ⟨dq, arr, ra, si, v, N, ls, er, rf, fr, h1, r1, r2, r3, r4, r5, r6, h2, h3, h4, h5, h6, h7, h8, h9, h10, h11, h12, h13, h14⟩ := hX
  unfold wp_X1_refusedItem
  cases e : S.2.2.2.2.2.2.2.1 with
  | none =>
    rw [e] at h1
    exact w_geti_of h1 rfl (br_t rfl ⟨1, 6, by omega, by omega, sp_X1_checkElement (by omega) (by omega) (fun z => absurd rfl z) (fun _ q _ => hE q (Or.inl ⟨rfl, e⟩))⟩)
  | some i =>
    have hi := h12 i e
    rw [e] at h1
    exact w_geti_of h1 rfl (br_f (nO_neg (by omega)) ⟨1, 6, by omega, by omega, sp_X1_checkElement (by omega) (by omega) (fun _ => w_geti_of h1 rfl <| hQ _ (Or.inr ⟨i, e, rfl, rfl⟩)) (fun z => absurd z (by decide))⟩)
theorem w_isS_of {a : Nat} {cs : List Nat} {Q : Prop} (h1 : q_st G h a cs) (hQ : Q) : w_isS G h a Q := by
  rcases h1 with ⟨v, ⟨x1, x2, e⟩, -⟩ | ⟨rfl, -⟩
  · exact ⟨Or.inl ⟨_, e⟩, hQ⟩
  · exact ⟨Or.inr ⟨0, by decide, rfl⟩, hQ⟩
theorem sp_X1_character {v : Int32} {mc ms : Nat} {Q : Int32 → HH → Prop} {X : String → Nat → HH → Prop} (hX : q_X G h ρ x S) (hm : 1 ≤ mc) (hs : 6 ≤ ms)
    (hQ : ∀ r, o_char S.2.2.2.2.2.1 v 0 r → Q r h) (hE : ∀ q, o_char S.2.2.2.2.2.1 v 1 0 → X "java/lang/IndexOutOfBoundsException" q h) : wp_X1_character G mc ms h x v Q X := by
  obtain ⟨dq, arr, ra, si, v', N, ls, er, rf, fr, h1, r1, r2, r3, r4, r5, r6, h2, h3, h4, h5, h6, h7, h8, h9, h10, h11, h12, h13, h14⟩ := hX
  have hst := h9.st
  have hlen : S.2.2.2.2.2.1.length < 300000 := by
    rcases h9 with ⟨v, -, -, q⟩ | ⟨-, q⟩
    · exact q.2.1
    · rw [q]; decide
  unfold wp_X1_character
  refine w_geta_of h1 rfl <| w_nn_of <| w_isS_of hst <| sp_J6_length hst ?_
  refine sp_inN (by omega) (fun i hi e => ⟨1, 6, by omega, by omega, sp_X1_checkIndex (by omega) (by omega) (fun _ => ?_) (fun z => absurd z (by decide))⟩) (fun hno => ⟨1, 6, by omega, by omega, sp_X1_checkIndex (by omega) (by omega) (fun z => absurd rfl z) (fun _ q _ => hE q (Or.inl ⟨rfl, hno⟩))⟩)
  subst e
  refine w_geta_of h1 rfl <| w_nn_of <| w_isS_of hst ?_
  rcases hst with ⟨v2, hso⟩ | ⟨-, q⟩
  · have hc128 : S.2.2.2.2.2.1.getD i 0 < 128 := hso.2.2.1 _ (by rw [List.getD_eq_getElem?_getD, List.getElem?_eq_getElem hi]; exact List.getElem_mem hi)
    exact sp_J6_charAt hso hi ⟨t_nar _ hc128, hQ _ (Or.inr ⟨i, rfl, hi, rfl, rfl⟩)⟩
  · rw [q] at hi
    exact absurd hi (Nat.not_lt_zero _)
theorem sp_X1_account {v : Int32} {mc ms : Nat} {Q : Int32 → HH → Prop} {X : String → Nat → HH → Prop} (hX : q_X G h ρ x S) (hJ : c_J (t_C S) n) (hm : 500 + 40 * n ≤ mc) (hs : 2000 + 160 * n ≤ ms)
    (hQ : ∀ h' r, q_X G h' ρ x S → o_account S v 0 r → Q r h') (hE : ∀ q, o_account S v 1 0 → X "java/lang/IllegalArgumentException" q h) : wp_X1_account G mc ms h x v Q X := by
  obtain ⟨-, hB, h10, -⟩ := hX.cur
  have hl := hJ.ok.2.2.2.1
  have hr := hJ.2.2.2.1
  obtain ⟨lr, lf, g1, g3, g2, ⟨fs3, g5⟩, ⟨fs4, g4⟩⟩ := hB.1.len
  have hX0 := hX
  obtain ⟨dq, arr, ra, si, v', N, ls, er, rf, fr, h1, r1, r2, r3, r4, r5, r6, h2, h3, h4, h5, h6, h7, h8, h9, h10', h11, h12, h13, h14⟩ := hX0
  unfold wp_X1_account
  refine ⟨fun z => hX.bk <| w_nn_of <| w_geta_of g1 rfl <| w_nn_of <| w_is_of g4 <| sp_J2_size g2 ?_, fun z0 => ⟨fun z => hX.bk <| w_nn_of <| w_geti_of g1 rfl <| hQ h _ hX (Or.inr (Or.inl ⟨z, rfl, rfl⟩)), fun z1 => ⟨fun z => hX.bk <| w_nn_of ⟨1, 4, by omega, by omega, hX.isb <| sp_X2_told_2 hB.1 (by omega) (by omega) hJ.t4 (fun h' hs' => hQ h' _ (hX.same hs') (Or.inr (Or.inr (Or.inl ⟨z, rfl, rfl⟩))))⟩, fun z2 => ⟨fun z => hX.bk <| w_nn_of <| w_geta_of g1 rfl <| w_nn_of <| w_is_of g5 <| sp_J2_size g3 ?_, fun z3 => ⟨fun z => hX.bk <| w_nn_of <| w_geti_of g1 rfl <| hQ h _ hX (Or.inr (Or.inr (Or.inr (Or.inr (Or.inl ⟨z, rfl, rfl⟩))))), fun z4 => ⟨fun z => hX.bk <| w_nn_of ⟨1, 4, by omega, by omega, hX.isb <| sp_X2_due hJ.ok hB.1 hB.2.1 (by omega) (by omega) (fun h' hs' hw => hQ h' _ (hX.wk hs' hw) (Or.inr (Or.inr (Or.inr (Or.inr (Or.inr (Or.inl ⟨z, rfl, rfl⟩)))))))⟩, fun z5 => ⟨fun z => hX.bk <| w_nn_of ⟨1, 4, by omega, by omega, hX.isb <| sp_X2_reasons hB.1 (by omega) (by omega) (fun h' hs' => hQ h' _ (hX.same hs') (Or.inr (Or.inr (Or.inr (Or.inr (Or.inr (Or.inr (Or.inl ⟨z, rfl, rfl⟩))))))))⟩, fun z6 => ⟨fun z => hX.bk <| w_nn_of <| w_geti_of g1 rfl <| hQ h _ hX (Or.inr (Or.inr (Or.inr (Or.inr (Or.inr (Or.inr (Or.inr (Or.inl ⟨z, rfl, rfl⟩)))))))), fun z7 => ⟨fun z => hX.bk <| w_nn_of ⟨450 + 40 * n, 1700 + 160 * n, by omega, by omega, hX.isb <| sp_X2_greatestDepth hB.1 hJ.ok hJ.cl hJ.t4 (by unfold t_C at *; omega) (by unfold t_C at *; omega) (fun h' D hs' hd => hQ h' _ (hX.same hs') (Or.inr (Or.inr (Or.inr (Or.inr (Or.inr (Or.inr (Or.inr (Or.inr (Or.inl ⟨z, rfl, D, hd, rfl⟩))))))))))⟩, fun z8 => ⟨fun z => hX.bk <| w_nn_of <| w_geti_of g1 rfl <| hQ h _ hX (Or.inr (Or.inr (Or.inr (Or.inr (Or.inr (Or.inr (Or.inr (Or.inr (Or.inr (Or.inl ⟨z, rfl, rfl⟩)))))))))), fun z9 => ⟨fun z => ?_, fun z10 => ⟨fun z => ?_, fun z11 => ⟨by omega, by omega, fun q _ => hE q (Or.inr (Or.inr (Or.inr (Or.inr (Or.inr (Or.inr (Or.inr (Or.inr (Or.inr (Or.inr (Or.inr (Or.inr ⟨rfl, fun j hj ej => ?_⟩))))))))))))⟩⟩⟩⟩⟩⟩⟩⟩⟩⟩⟩⟩⟩
  · rw [List.length_map]
    exact hQ h _ hX (Or.inl ⟨z, rfl, rfl⟩)
  · rw [List.length_map]
    exact hQ h _ hX (Or.inr (Or.inr (Or.inr (Or.inl ⟨z, rfl, rfl⟩))))
  · obtain ⟨ml, hbo⟩ := h6.1
    exact w_geta_of h1 rfl <| w_nn_of <| w_is_of hbo <| sp_J5_length h6 <| hQ h _ hX (Or.inr (Or.inr (Or.inr (Or.inr (Or.inr (Or.inr (Or.inr (Or.inr (Or.inr (Or.inr (Or.inl ⟨z, rfl, rfl⟩)))))))))))
  · obtain ⟨d, f, -, -, hdq, -⟩ := id h2
    refine w_geta_of h1 rfl <| w_nn_of <| w_is_of hdq <| sp_J3_size h2 ?_
    rw [List.length_map]
    exact hQ h _ hX (Or.inr (Or.inr (Or.inr (Or.inr (Or.inr (Or.inr (Or.inr (Or.inr (Or.inr (Or.inr (Or.inr (Or.inl ⟨z, rfl, rfl⟩))))))))))))
  · subst ej
    rcases (by omega : j = 0 ∨ j = 1 ∨ j = 2 ∨ j = 3 ∨ j = 4 ∨ j = 5 ∨ j = 6 ∨ j = 7 ∨ j = 8 ∨ j = 9 ∨ j = 10 ∨ j = 11) with rfl | rfl | rfl | rfl | rfl | rfl | rfl | rfl | rfl | rfl | rfl | rfl
    · exact z0 rfl
    · exact z1 rfl
    · exact z2 rfl
    · exact z3 rfl
    · exact z4 rfl
    · exact z5 rfl
    · exact z6 rfl
    · exact z7 rfl
    · exact z8 rfl
    · exact z9 rfl
    · exact z10 rfl
    · exact z11 rfl
end ASK4
section ASK5
variable {G : GG} {h h' : HH} {ρ ρ' : RO} {x : Nat} {S : TS} {n : Nat}
/-- floats that stand in a row are trusts -/
def q_rwt (o : Option RW) : Prop := ∀ l, o = some (.inr l) → ∀ i, i < l.length → q_tr (l.getD i 0)
theorem w_qld2 {a i : Nat} {Q : Option Nat → Prop} {f : Nat → Option Nat} (h1 : h a = some (.inl (G.2.1 6, 2, .inr (.inr (.inr (.inr f)))))) (hi : i < 2) (h3 : Q (f i)) : w_qld G h a (nI i) Q := w_qld_of h1 hi (by decide) h3
theorem w_fld_of {a i n : Nat} {f : Nat → UInt32} {Q : UInt32 → Prop} (h1 : h a = some (.inl (G.2.1 2, n, .inr (.inr (.inl f))))) (hi : i < n) (hn : n < 2 ^ 31) (h3 : Q (f i)) : w_fld G h a (nI i) Q := ⟨n, f, h1, vp_in_nI hi hn, by rw [nI_clamp (by omega)]; exact h3⟩
theorem sp_X1_element {r v : Int32} {mc ms : Nat} {Q : Int32 → HH → Prop} {X : String → Nat → HH → Prop} (hX : q_X G h ρ x S) (ht : q_rwt S.2.2.2.1.1 ∧ q_rwt S.2.2.2.1.2) (hm : 4 ≤ mc) (hs : 20 ≤ ms)
    (hQ : ∀ i y, i < 2 → r = nI i → o_elem (if i = 0 then S.2.2.2.1.1 else S.2.2.2.1.2) v 0 y → Q y h) (hE1 : ∀ q, (∀ i, i < 2 → r ≠ nI i) → X "java/lang/IndexOutOfBoundsException" q h) (hE2 : ∀ i q, i < 2 → r = nI i → o_elem (if i = 0 then S.2.2.2.1.1 else S.2.2.2.1.2) v 2 0 → X "java/util/NoSuchElementException" q h) : wp_X1_element G mc ms h x r v Q X := by
  obtain ⟨dq, arr, ra, si, v', N, ls, er, rf, fr, h1, r1, r2, r3, r4, r5, r6, h2, h3, h4, h5, h6, h7, h8, h9, h10, h11, h12, h13, h14⟩ := hX
  unfold wp_X1_element
  refine ⟨1, 6, by omega, by omega, sp_X1_checkRow (by omega) (by omega) (fun i hi e => ?_) (fun hno q _ => hE1 q hno)⟩
  subst e
  have hrow : q_row G h ρ (fr i) (if i = 0 then S.2.2.2.1.1 else S.2.2.2.1.2) := by
    rcases (by omega : i = 0 ∨ i = 1) with rfl | rfl
    · exact h4
    · exact h5
  have htr : q_rwt (if i = 0 then S.2.2.2.1.1 else S.2.2.2.1.2) := by
    rcases (by omega : i = 0 ∨ i = 1) with rfl | rfl
    · exact ht.1
    · exact ht.2
  replace hQ := fun y => hQ i y hi rfl
  replace hE2 := fun q => hE2 i q hi rfl
  generalize (if i = 0 then S.2.2.2.1.1 else S.2.2.2.1.2) = rw0 at hrow htr hQ hE2
  have bad : o_elem rw0 v 2 0 → wp_X1_element_L38 G mc ms x Q X h (0 + 1) (0 + 6) (nI i) v := fun ho => by
    unfold wp_X1_element_L38 wp_X1_element_L39
    exact ⟨1, 6, by omega, by omega, sp_X1_checkElement (by omega) (by omega) (fun z => absurd rfl z) (fun _ q _ => hE2 q ho)⟩
  refine w_geta_of h1 rfl <| w_nn_of <| w_qld2 h3 hi ?_
  rcases hrow with ⟨e1, e2⟩ | ⟨a, e1, -, hrow⟩
  · rw [e1]
    exact ⟨fun _ => bad (Or.inl ⟨rfl, e2⟩), fun a z => by cases z⟩
  · rw [e1]
    refine ⟨fun z => (by cases z), fun a' z => ?_⟩
    cases z
    refine w_geta_of h1 rfl <| w_nn_of <| w_qld2 h3 hi ?_
    rw [e1]
    unfold wp_X1_length
    have good : (∀ Q' : Int32 → HH → Prop, (∀ y, o_elem rw0 v 0 y → Q' y h) → wp_X1_bits G h (some a) v Q') → wp_X1_element_L39 G mc ms x Q X h (0 + 1) (0 + 6) (nI i) v 1 := fun hb => by
      unfold wp_X1_element_L39
      refine ⟨1, 6, by omega, by omega, sp_X1_checkElement (by omega) (by omega) (fun _ => w_geta_of h1 rfl <| w_nn_of <| w_qld2 h3 hi ?_) (fun z => absurd z (by decide))⟩
      rw [e1]
      exact hb Q hQ
    rcases hrow with ⟨l, f, e2, e3, e4, e5⟩ | ⟨l, f, e2, e3, e4, e5⟩
    · refine w_nn_of <| Or.inl ⟨_, e4, br_f (by decide) ⟨_, e4, Or.inl ⟨0, _, by decide, e4, ?_⟩⟩⟩
      show wp_X1_inRange G h (Int32.toInt64 v) (0 : Int64) (Int32.toInt64 (nI l.length - 1)) _
      refine sp_inN (by omega) (fun j hj e => br_f (by decide) ?_) (fun hno => br_t rfl (bad (Or.inr (Or.inl ⟨l, e2, Or.inl ⟨rfl, hno⟩⟩))))
      subst e
      refine good (fun Q' hQ' => ?_)
      unfold wp_X1_bits
      refine w_nn_of <| Or.inl ⟨_, e4, br_f (by decide) ⟨_, e4, w_ild_of e4 hj (by omega) ?_⟩⟩
      rw [e5 j hj]
      exact hQ' _ (Or.inr (Or.inl ⟨l, e2, Or.inr ⟨j, rfl, hj, rfl, rfl⟩⟩))
    · refine w_nn_of <| Or.inr ⟨_, e4, br_t rfl ⟨_, e4, Or.inl ⟨2, _, by decide, e4, ?_⟩⟩⟩
      show wp_X1_inRange G h (Int32.toInt64 v) (0 : Int64) (Int32.toInt64 (nI l.length - 1)) _
      refine sp_inN (by omega) (fun j hj e => br_f (by decide) ?_) (fun hno => br_t rfl (bad (Or.inr (Or.inr ⟨l, e2, Or.inl ⟨rfl, hno⟩⟩))))
      subst e
      refine good (fun Q' hQ' => ?_)
      unfold wp_X1_bits
      refine w_nn_of <| Or.inr ⟨_, e4, br_t rfl ⟨_, e4, w_fld_of e4 hj (by omega) ?_⟩⟩
      rw [e5 j hj]
      exact sp_J23_floatToIntBits (htr l e2 j hj) <| hQ' _ (Or.inr (Or.inr ⟨l, e2, Or.inr ⟨j, rfl, hj, rfl, rfl⟩⟩))
theorem s_sumT_dp {C : CC} (hfw : c_fw C) : ∀ m, q_dp (s_sumT C m) := by
  intro m
  induction m with
  | zero => exact fd_0
  | succ m ih =>
    unfold s_sumT
    cases e : C.2.1[m]? with
    | none => exact ih
    | some y => exact fd_add ih (fd_f2d (hfw y (List.mem_of_getElem? e)).2.2.2.2.1)
theorem sp_X1_meanTrust {mc ms : Nat} {Q : UInt64 → HH → Prop} {X : String → Nat → HH → Prop} (hX : q_X G h ρ x S) (hJ : c_J (t_C S) n) (hm : 5 ≤ mc) (hs : 20 ≤ ms)
    (hQ : ∀ h' r, q_X G h' ρ x S → o_mean (t_C S) 0 r → Q r h') (hE : ∀ q, o_mean (t_C S) 1 0 → X "java/lang/ArithmeticException" q h) : wp_X1_meanTrust G mc ms h x Q X := by
  obtain ⟨-, hB, h10, -⟩ := hX.cur
  have hl := hJ.ok.2.2.2.1
  obtain ⟨lr, lf, g1, g3, g2, ⟨fs3, g5⟩, ⟨fs4, g4⟩⟩ := hB.1.len
  obtain ⟨-, -, mcf, arrf, g6, -⟩ := id g2
  unfold wp_X1_meanTrust
  refine hX.bk <| w_nn_of <| w_geta_of g1 rfl <| w_nn_of <| w_is_of g4 ?_
  unfold wp_J2_isEmpty
  refine w_geti_of g6 rfl ?_
  rw [List.length_map]
  refine ⟨fun z => ⟨fun q => absurd rfl q, fun _ => ?_⟩, fun z => ⟨fun _ => ?_, fun q => absurd q (by decide)⟩⟩
  · have hne : (t_C S).2.1.length ≠ 0 := fun q => z (by rw [q]; rfl)
    unfold wp_X1_meanTrust_L18
    refine ⟨1, 6, by omega, by omega, sp_X1_checkNumbers (by omega) (by omega) (fun _ => hX.bk <| w_nn_of <| w_geta_of g1 rfl <| w_nn_of ⟨1, 4, by omega, by omega, w_is_of g4 <| sp_J2_iterator g2 (by omega) (by omega) (fun it h2 hit hh2 hi2 => ?_)⟩) (fun z => absurd z (by decide))⟩
    have main : ∀ d i h1, i + d = (t_C S).2.1.length → q_sp q_no h h1 → q_it h1 lf it i → wp_X1_meanTrust_L34 G mc ms x Q X (d + 1) h1 (0 + 1 + 1) (0 + 6 + 4) (s_sumT (t_C S) i) (some it) := by
      intro d
      induction d with
      | zero =>
        intro i h1 hd hs hi
        unfold wp_X1_meanTrust_L34
        refine w_nn_of <| q_eachF (g2.kp (q_no_kp hs) rfl) hi (by omega) (fun _ => ?_) (fun y h' hy => ?_)
        · have hX1 := hX.same hs
          have hi' : i = (t_C S).2.1.length := by omega
          subst hi'
          refine hX1.bk <| w_nn_of <| w_geta_of (hs _ _ g1 q_no.not) rfl <| w_nn_of <| w_is_of (hs _ _ g4 q_no.not) <| sp_J2_size (g2.kp (q_no_kp hs) rfl) ?_
          rw [List.length_map]
          exact ⟨(fd_div (s_sumT_dp hJ.fw _) (by omega) hl).n, hQ h1 _ hX1 (Or.inr ⟨rfl, hne, rfl⟩)⟩
        · have := (List.getElem?_eq_some_iff.mp hy).1
          omega
      | succ d ih =>
        intro i h1 hd hs hi
        unfold wp_X1_meanTrust_L34
        refine w_nn_of <| q_eachF (g2.kp (q_no_kp hs) rfl) hi (by omega) (fun z => by omega) (fun y h4 hy hh hi4 => ?_)
        have hs4 := hs.nx hit hh
        obtain ⟨l1, l2, hc⟩ := (hB.no hs4).cell hy
        have htr := (hJ.fw y (List.mem_of_getElem? hy)).2.2.2.2.1
        have e1 : s_sumT (t_C S) (i + 1) = FP.dadd (s_sumT (t_C S) i) (FP.f2d (q_tb (y.2.1 5))) := by
          conv => lhs; unfold s_sumT
          rw [hy]
        refine w_cast_of hc <| w_getf_of hc rfl ⟨(fd_f2d htr).n, (fd_add (s_sumT_dp hJ.fw _) (fd_f2d htr)).n, ?_⟩
        rw [← e1]
        exact ih (i + 1) h4 (by omega) hs4 hi4
    exact ⟨_, main (t_C S).2.1.length 0 h2 (by omega) (q_sp.nw hit hh2) hi2⟩
  · unfold wp_X1_meanTrust_L18
    have : (t_C S).2.1.length = 0 := (nI_eq (a := (t_C S).2.1.length) (b := 0) (by omega) (by decide)).mp z
    exact ⟨1, 6, by omega, by omega, sp_X1_checkNumbers (by omega) (by omega) (fun z => absurd rfl z) (fun _ q _ => hE q (Or.inl ⟨rfl, this⟩))⟩
end ASK5
