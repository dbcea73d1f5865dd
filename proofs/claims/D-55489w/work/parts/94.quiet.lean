set_option maxRecDepth 100000
/-! when the agenda is empty; what would go -/
theorem c_eqv.at {C C' : CC} (he : c_eqv C C') {i : Nat} {y' : CF} (hi : C'.2.1[i]? = some y') : ∃ y, C.2.1[i]? = some y ∧ y'.2 = y.2 := by
  have := congrArg (fun l : List ((Nat → Nat) × List FI × List FI) => l[i]?) he.2.2
  simp only [List.getElem?_map, hi, Option.map_some] at this
  obtain ⟨y, h1, h2⟩ := Option.map_eq_some_iff.mp this.symm
  exact ⟨y, h1, h2.symm⟩
theorem c_eqv.symm {C C' : CC} (he : c_eqv C C') : c_eqv C' C := ⟨he.1.symm, he.2.1.symm, he.2.2.symm⟩
theorem c_eqv.len {C C' : CC} (he : c_eqv C C') : C'.2.1.length = C.2.1.length := by
  have := congrArg List.length he.2.2
  simpa using this
theorem c_eqv.mem {C C' : CC} (he : c_eqv C C') {y' : CF} (hi : y' ∈ C'.2.1) : ∃ y ∈ C.2.1, y'.2 = y.2 := by
  obtain ⟨i, h⟩ := List.getElem?_of_mem hi
  obtain ⟨y, h1, h2⟩ := he.at h
  exact ⟨y, List.mem_of_getElem? h1, h2⟩
theorem c_eqv.ok {C C' : CC} (he : c_eqv C C') (hok : c_ok C) : c_ok C' := by
  refine hok.sub he.1 he.len (fun i y' hy => ?_)
  obtain ⟨y, h1, h2⟩ := he.at hy
  exact ⟨y, h1, by rw [h2], fun fi hfi => by rw [h2] at hfi; exact hfi, fun fi hfi => by rw [h2] at hfi; exact hfi⟩
theorem c_eqv.fw {C C' : CC} (he : c_eqv C C') (hfw : c_fw C) : c_fw C' := fun y' hy' => by
  obtain ⟨y, h1, h2⟩ := he.mem hy'
  rw [h2, he.2.1]
  exact hfw y h1
theorem c_eqv.cl {C C' : CC} (he : c_eqv C C') (hcl : c_cl C) : c_cl C' := fun y' hy' fi hfi => by
  obtain ⟨y, h1, h2⟩ := he.mem hy'
  rw [h2] at hfi
  obtain ⟨⟨z, hz, ez⟩, h3⟩ := hcl y h1 fi hfi
  obtain ⟨z', hz', ez'⟩ := he.symm.mem hz
  refine ⟨⟨z', hz', by rw [← ez, ez']⟩, fun n hn => ?_⟩
  obtain ⟨z, hz, ez⟩ := h3 n hn
  obtain ⟨z', hz', ez'⟩ := he.symm.mem hz
  exact ⟨z', hz', by rw [← ez, ez']⟩
theorem c_eqv.sum {C C' : CC} (he : c_eqv C C') (f : (Nat → Nat) × List FI × List FI → Nat) : c_sum (fun y => f y.2) C'.2.1 = c_sum (fun y => f y.2) C.2.1 := by
  have key : ∀ (xs ys : List CF), xs.map Prod.snd = ys.map Prod.snd → c_sum (fun y => f y.2) xs = c_sum (fun y => f y.2) ys := by
    intro xs
    induction xs with
    | nil => intro ys h; cases ys with
      | nil => rfl
      | cons y ys => cases h
    | cons x1 xs ih =>
      intro ys h
      cases ys with
      | nil => cases h
      | cons y ys =>
        simp only [List.map_cons, List.cons.injEq] at h
        simp only [c_sum, ih ys h.2, h.1]
  exact key _ _ he.2.2
theorem c_eqv.I {C C' : CC} {n : Nat} (he : c_eqv C C') (hI : c_I C n) : c_I C' n := by
  obtain ⟨h1, h2, h3, h4, h5, h6⟩ := hI
  refine ⟨he.ok h1, he.fw h2, by rw [he.1]; exact h3, he.cl h4, by rw [he.2.1]; exact h5, fun y' hy' => ?_⟩
  obtain ⟨y, e1, e2⟩ := he.mem hy'
  rw [e2]
  exact h6 y e1
section QUIET
variable {G : GG} {h h' : HH} {ρ ρ' : RO} {k b w p t : Nat} {C : CC}
theorem sp_X2_quietIn {mc ms n k' : Nat} {Q : Int32 → HH → Prop} (hB : q_B G h ρ k b w p t C) (hI : c_I C n) (hn : n + 61 < 3990) (hkk : k ≠ k') (hk' : 10 ≤ k') (hown : ∀ c e, h c = some e → (ρ c).1 ≠ k')
    (hmc : 140 + c_sum c_all C.2.1 + 700 ≤ mc) (hms : 3400 + 6 * c_sum c_all C.2.1 + 61 * (4 * (n + 61) + 140) ≤ ms)
    (hQ : ∀ h' C1 C2 c, c_eqv C C1 → c_runs 61 C1 C2 c → c ≤ 61 → q_sp q_no h h' → Q (if c ≤ 60 then nI c else -1) h') : wp_X2_quietIn G mc ms h b Q := by
  obtain ⟨lr, lf, g1, -⟩ := hB.1.len
  have hL : ∀ y ∈ C.2.1, y.2.2.1.length < 3999 ∧ y.2.2.2.length < 3999 := fun y hy => by
    have := hI.2.2.2.2.2 y hy
    omega
  obtain ⟨K, hK⟩ : ∃ K, K = 4 * (n + 61) + 140 := ⟨_, rfl⟩
  rw [← hK] at hms
  refine ⟨140 + c_sum c_all C.2.1, 3400 + 6 * c_sum c_all C.2.1, by omega, by omega, w_is_of g1 <| sp_X2_copy hB hI.1 hI.2.1 hkk hk' hown hL (Nat.le_refl _) (Nat.le_refl _) (fun h1 ρ1 b' w' p' t' C1 hb' hs1 hex1 hB1 heqv => ?_)⟩
  have hI1 := heqv.I hI
  have main : ∀ d j C2 h2 ρ2 nc nk, j + d = 61 → (∀ C' c, c_runs d C2 C' c → c_runs 61 C1 C' (j + c)) → c_I C2 (n + j) → q_sp q_no h h2 → q_ex h ρ ρ2 → q_B G h2 ρ2 k' b' w' p' t' C2 → nc + 11 * d ≤ mc → nk + d * K ≤ ms → wp_X2_quietIn_L7 G mc ms b Q (d + 1) h2 nc nk (some b') (nI j) := by
    intro d
    induction d with
    | zero =>
      intro j C2 h2 ρ2 nc nk hj hacc hI2 hs2 hex2 hB2 hc hs
      unfold wp_X2_quietIn_L7
      refine br_t (nI_lt (a := 60) (by omega) (by omega)) ?_
      have := hQ h2 C1 C2 (j + 0) heqv (hacc C2 0 ⟨rfl, rfl⟩) (by omega) hs2
      rw [if_neg (by omega)] at this
      exact this
    | succ d ih =>
      intro j C2 h2 ρ2 nc nk hj hacc hI2 hs2 hex2 hB2 hc hs
      rw [Nat.succ_mul] at hs
      generalize hP : d * K = P at hs
      obtain ⟨lr2, lf2, g12, -⟩ := hB2.1.len
      unfold wp_X2_quietIn_L7
      have q1 : nc + 1 ≤ mc := by omega
      have q2 : nk + 3 ≤ ms := by omega
      refine br_f (nI_nlt (a := 60) (by omega) (by omega)) <| w_nn_of ⟨1, 3, q1, q2, w_is_of g12 <| sp_X2_foremost hI2.1 hB2.1 hB2.2.1 (Nat.le_refl _) (Nat.le_refl _) (fun h3 b1 b2 b3 => ⟨fun _ => ?_, fun a z => (by cases z)⟩) (fun h3 fd3 m3 fi3 b0 b1 b2 b3 b4 b5 b6 => ⟨fun z => (by cases z), fun a z => ?_⟩)⟩
      · have hs3 : q_sp q_no h h3 := fun c e hc _ => q_S_k hB2 b1 c e (hs2 c e hc q_no.not) (fun z => hown c e hc (by rw [← hex2 c e hc]; exact z))
        have := hQ h3 C1 C2 (j + 0) heqv (hacc C2 0 (Or.inl ⟨b3, rfl, rfl⟩)) (by omega) hs3
        rw [if_pos (by omega)] at this
        exact this
      · cases z
        have he3 : q_ex h2 ρ2 (q_up ρ2 fd3 (0, 0)) := q_ex_up b0
        have hB3 : q_B G h3 (q_up ρ2 fd3 (0, 0)) k' b' w' p' t' C2 := hB2.spn b1 b2 he3
        have hs3 : q_sp q_no h h3 := fun c e hc _ => q_S_k hB2 b1 c e (hs2 c e hc q_no.not) (fun z => hown c e hc (by rw [← hex2 c e hc]; exact z))
        have hdm2 : q_dm h h2 := fun c e hc => ⟨e, hs2 c e hc q_no.not⟩
        have hex3 : q_ex h ρ (q_up ρ2 fd3 (0, 0)) := q_ex.tr hdm2 hex2 he3
        obtain ⟨lr3, lf3, g13, -⟩ := hB3.1.len
        have q3 : nc + 1 + 10 ≤ mc := by omega
        have q4 : nk + 3 + (4 * (n + 61) + 130) ≤ ms := by omega
        have q5 : n + j < 3990 := by omega
        have q6 : 4 * (n + j) + 130 ≤ 4 * (n + 61) + 130 := by omega
        refine ⟨10, 4 * (n + 61) + 130, q3, q4, ?_⟩
        refine w_is_of g13 ?_
        refine sp_fire_m hB3 hk' hI2 q5 b3 b5 ⟨q_up_same, b6⟩ (Nat.le_refl _) q6 ?_
        intro h4 ρ4 C4 made a1 a2 a3 a4 a5 a6 a7
        rw [nI_1]
        have hdm3 : q_dm h h3 := fun c e hc => ⟨e, hs3 c e hc q_no.not⟩
        refine ih (j + 1) C4 h4 ρ4 _ _ (by omega) (fun C' c hr => ?_) a2 (fun c e hc _ => a6 c e (hs3 c e hc q_no.not) (fun z => hown c e hc (by rw [← hex3 c e hc]; exact z))) (q_ex.tr hdm3 hex3 a5) a7 (by omega) (by rw [hP]; omega)
        have := hacc C' (c + 1) (Or.inr ⟨C4, made, c, a1, hr, rfl⟩)
        rw [show j + 1 + c = j + (c + 1) by omega]
        exact this
  have := main 61 0 C1 h1 ρ1 (0 + (140 + c_sum c_all C.2.1)) (0 + (3400 + 6 * c_sum c_all C.2.1)) (by omega) (fun C' c hr => by rw [Nat.zero_add]; exact hr) hI1 hs1 hex1 hB1 (by omega) (by omega)
  exact ⟨_, this⟩
theorem sp_X1_checkElement {mc ms : Nat} {c : Int32} {Q : HH → Prop} {X : String → Nat → HH → Prop} (hm : 1 ≤ mc) (hs : 6 ≤ ms) (hQ : c ≠ 0 → Q h) (hX : c = 0 → ∀ q, h q = none → X "java/util/NoSuchElementException" q h) : wp_X1_checkElement G mc ms h c Q X :=
  ⟨hQ, fun z => ⟨by omega, by omega, hX z⟩⟩
theorem sp_X1_checkIndex {mc ms : Nat} {c : Int32} {Q : HH → Prop} {X : String → Nat → HH → Prop} (hm : 1 ≤ mc) (hs : 6 ≤ ms) (hQ : c ≠ 0 → Q h) (hX : c = 0 → ∀ q, h q = none → X "java/lang/IndexOutOfBoundsException" q h) : wp_X1_checkIndex G mc ms h c Q X :=
  ⟨hQ, fun z => ⟨by omega, by omega, hX z⟩⟩
theorem sp_X2_fact {mc ms : Nat} {v : Int32} {Q : Option Nat → HH → Prop} {X : String → Nat → HH → Prop} (hb : q_bk G h ρ k b w C) (hm : 3 ≤ mc) (hs : 20 ≤ ms)
    (hQ : ∀ h' (i : Nat) (y : CF), q_sp q_no h h' → C.2.1[i]? = some y → nI (y.2.1 0) = v → Q (some y.1) h')
    (hX : ∀ h' q, q_sp q_no h h' → (∀ y ∈ C.2.1, nI (y.2.1 0) ≠ v) → h' q = none → X "java/util/NoSuchElementException" q h') : wp_X2_fact G mc ms h b v Q X := by
  obtain ⟨lr, lf, g1, -⟩ := hb.len
  unfold wp_X2_fact
  refine ⟨1, 4, by omega, by omega, w_is_of g1 <| sp_X2_find hb (by omega) (by omega) (fun h' i y hs hy e => ⟨fun z => (by cases z), fun a z => ?_⟩) (fun h' hs hno => ⟨fun _ => ?_, fun a z => (by cases z)⟩)⟩
  · cases z
    exact ⟨1, 6, by omega, by omega, sp_X1_checkElement (by omega) (by omega) (fun _ => hQ h' i y hs hy e) (fun z => absurd z (by decide))⟩
  · exact ⟨1, 6, by omega, by omega, sp_X1_checkElement (by omega) (by omega) (fun z => absurd rfl z) (fun _ q hq => hX h' q hs hno hq)⟩
theorem sp_X2_rule {mc ms : Nat} {v : Int32} {Q : Option Nat → HH → Prop} {X : String → Nat → HH → Prop} (hb : q_bk G h ρ k b w C) (hok : c_ok C) (hm : 1 ≤ mc) (hs : 6 ≤ ms)
    (hQ : ∀ (i : Nat) (x1 : Nat × (Nat → Nat)), v = nI i → C.1[i]? = some x1 → Q (some x1.1) h)
    (hX : ∀ q, (∀ i, i < C.1.length → v ≠ nI i) → h q = none → X "java/lang/IndexOutOfBoundsException" q h) : wp_X2_rule G mc ms h b v Q X := by
  obtain ⟨lr, lf, g1, g3, g2, ⟨fs3, g5⟩, -⟩ := hb.len
  have hl8 := hok.1
  unfold wp_X2_rule
  refine w_geta_of g1 rfl <| w_nn_of <| w_is_of g5 <| sp_J2_size g3 ?_
  rw [List.length_map]
  refine sp_inN (by omega) (fun i hi hv => ⟨1, 6, by omega, by omega, sp_X1_checkIndex (by omega) (by omega) (fun _ => ?_) (fun z => absurd z (by decide))⟩) (fun hno => ⟨1, 6, by omega, by omega, sp_X1_checkIndex (by omega) (by omega) (fun z => absurd rfl z) (fun _ q hq => hX q hno hq)⟩)
  subst hv
  obtain ⟨x1, hx1⟩ : ∃ x1, C.1[i]? = some x1 := ⟨_, List.getElem?_eq_getElem hi⟩
  obtain ⟨hr1, hxa⟩ := hb.rule hx1
  obtain ⟨fsr, hro⟩ := hr1.ob
  exact w_geta_of g1 rfl <| w_nn_of <| w_is_of g5 <| sp_J2_get g3 hxa <| w_nn_of <| w_cast_of hro <| hQ i x1 rfl hx1
/-- what a part of a firing is -/
def c_part (fi : FI) (i : Nat) (v : Int32) : Option Int32 := if v = 0 then some (nI i) else if v = 1 then some (nI fi.2.1) else if v = 2 then some (nO fi.2.2) else none
theorem sp_X2_part {mc ms fd i : Nat} {v : Int32} {fi : FI} {x1 : Nat × (Nat → Nat)} {Q : Int32 → HH → Prop} {X : String → Nat → HH → Prop} (hb : q_bk G h ρ k b w C) (hok : c_ok C) (hfd : h fd = some (.inr (16, [.ref fi.1, .int (nI fi.2.1), .int (nO fi.2.2)]))) (hx : C.1[i]? = some x1) (hf : fi.1 = x1.1) (hm : 1 ≤ mc) (hs : 6 ≤ ms)
    (hQ : ∀ r, c_part fi i v = some r → Q r h) (hX : ∀ q, c_part fi i v = none → h q = none → X "java/lang/IllegalArgumentException" q h) : wp_X2_part G mc ms h b (some fd) v Q X := by
  obtain ⟨lr, lf, g1, g3, g2, ⟨fs3, g5⟩, -⟩ := hb.len
  obtain ⟨hr1, hxa⟩ := hb.rule hx
  unfold wp_X2_part
  refine ⟨fun z => ?_, fun z => ⟨fun z1 => ?_, fun z1 => ⟨fun z2 => ?_, fun z2 => ?_⟩⟩⟩
  · refine w_geta_of g1 rfl <| w_nn_of <| w_geta_of hfd rfl <| w_nn_of <| w_is_of g5 ?_
    rw [hf]
    refine sp_rules_indexOf g3 hr1 hok.2.1 hx (hQ _ ?_)
    unfold c_part
    rw [if_pos z]
  · refine w_nn_of <| w_geti_of hfd rfl (hQ _ ?_)
    unfold c_part
    rw [if_neg z, if_pos z1]
  · refine w_nn_of <| w_geti_of hfd rfl (hQ _ ?_)
    unfold c_part
    rw [if_neg z, if_neg z1, if_pos z2]
  · refine ⟨by omega, by omega, fun q hq => hX q ?_ hq⟩
    unfold c_part
    rw [if_neg z, if_neg z1, if_neg z2]
end QUIET
