set_option maxRecDepth 100000
/-! what a walk answers: newest, due, at a firing, ahead of one -/
def q_oc : Option Nat → Nat
  | none => 0
  | some n => n + 1
def c_nw (n : Nat) (o : Option Nat) : Nat := max n (o.getD 0)
theorem nO_neg {n : Nat} (h : n < 2 ^ 31) : ¬ nI n = -1 := fun z => nI_pos h (by rw [z]; decide)
theorem nO_inj {a b : Option Nat} (ha : ∀ n, a = some n → n < 2 ^ 31) (hb : ∀ n, b = some n → n < 2 ^ 31) : nO a = nO b ↔ a = b := by
  cases a with
  | none =>
    cases b with
    | none => simp
    | some n => exact ⟨fun z => absurd z.symm (nO_neg (hb n rfl)), fun z => by cases z⟩
  | some m =>
    cases b with
    | none => exact ⟨fun z => absurd z (nO_neg (ha m rfl)), fun z => by cases z⟩
    | some n =>
      have := nI_eq (ha m rfl) (hb n rfl)
      simp only [nO, this, Option.some.injEq]
theorem nO_le {a b : Option Nat} (ha : ∀ n, a = some n → n < 2 ^ 31) (hb : ∀ n, b = some n → n < 2 ^ 31) : nO a ≤ nO b ↔ q_oc a ≤ q_oc b := by
  cases a with
  | none =>
    cases b with
    | none => simp [nO, q_oc]
    | some n =>
      have h1 : (-1 : Int32) ≤ nI n := by
        have := nI_toInt (hb n rfl)
        rw [Int32.le_iff_toInt_le, this]
        have : (-1 : Int32).toInt = -1 := by decide
        omega
      simp [nO, q_oc, h1]
  | some m =>
    cases b with
    | none =>
      have h1 : ¬ nI m ≤ (-1 : Int32) := by
        have := nI_toInt (ha m rfl)
        rw [Int32.le_iff_toInt_le, this]
        have : (-1 : Int32).toInt = -1 := by decide
        omega
      simp [nO, q_oc, h1]
    | some n =>
      have := nI_leI (ha m rfl) (hb n rfl)
      simp only [nO, q_oc, this]
      omega
theorem nO_nw {n : Nat} {o : Option Nat} (hn : n < 2 ^ 31) (ho : ∀ n, o = some n → n < 2 ^ 31) : (if nI n < nO o then nO o else nI n) = nI (c_nw n o) := by
  cases o with
  | none =>
    have h1 : ¬ nI n < (-1 : Int32) := by
      have := nI_toInt hn
      rw [Int32.lt_iff_toInt_lt, this]
      have : (-1 : Int32).toInt = -1 := by decide
      omega
    simp [nO, c_nw, h1]
  | some m =>
    have := nI_ltI hn (ho m rfl)
    simp only [nO, c_nw, this, Option.getD_some]
    by_cases q : n < m
    · rw [if_pos q, Nat.max_eq_right (by omega)]
    · rw [if_neg q, Nat.max_eq_left (by omega)]
def q_bd (o : Option Nat) : Prop := ∀ n, o = some n → n < 2 ^ 31
/-- what has fired with a fact as the first one -/
def c_fired (y : CF) (ra : Nat) (o : Option Nat) : Bool := y.2.2.2.any (fun fi => fi.1 == ra && fi.2.2 == o)
def c_lex (w1 v1 i1 n1 q1 w2 v2 i2 n2 q2 : Nat) : Prop := w2 < w1 ∨ w2 = w1 ∧ (v2 < v1 ∨ v2 = v1 ∧ (i1 < i2 ∨ i1 = i2 ∧ (n1 < n2 ∨ n1 = n2 ∧ q1 < q2)))
theorem q_nd {xs : List Nat} (hn : xs.Nodup) {i j a : Nat} (hi : xs[i]? = some a) (hj : xs[j]? = some a) : i = j := by
  obtain ⟨a1, a2⟩ := List.getElem?_eq_some_iff.mp hi
  obtain ⟨b1, b2⟩ := List.getElem?_eq_some_iff.mp hj
  rcases Nat.lt_trichotomy i j with q | q | q
  · exact absurd (a2.trans b2.symm) (List.pairwise_iff_getElem.mp hn i j a1 b1 q)
  · exact q
  · exact absurd (b2.trans a2.symm) (List.pairwise_iff_getElem.mp hn j i b1 a1 q)
section WK3
variable {G : GG} {h : HH} {ρ : RO} {k b w p t : Nat}
theorem sp_X3_newest {r : Option Nat} {pl ot : Int32} {a : Nat} {F : Nat → Nat} {o : Option Nat} {g : Nat → Int32} {Q : Int32 → HH → Prop} (hw : q_wk G h b w p t r pl ot (some a) (nO o) g) (hF : q_fc h a F) (hn : F 0 < 2 ^ 31) (ho : q_bd o) (hQ : Q (nI (c_nw (F 0) o)) h) : wp_X3_newest G h w Q := by
  obtain ⟨l1, l2, hc⟩ := hF
  unfold wp_X3_newest
  refine w_geta_of hw.1 rfl <| w_nn_of <| w_geti_of hc rfl <| w_geti_of hw.1 rfl ?_
  rw [nO_nw hn ho]
  exact hQ
theorem sp_X12_newest {a : Nat} {v : Value} {n : Nat} {o : Option Nat} {Q : Int32 → HH → Prop} (ha : h a = some (.inr (16, [v, .int (nI n), .int (nO o)]))) (hn : n < 2 ^ 31) (ho : q_bd o) (hQ : Q (nI (c_nw n o)) h) : wp_X12_newest G h a Q := by
  unfold wp_X12_newest
  refine w_geti_of ha rfl <| w_geti_of ha rfl ?_
  rw [nO_nw hn ho]
  exact hQ
theorem q_ls.el {t : Nat × Nat} {a i x1 : Nat} {xs : List Nat} (hl : q_ls G h ρ t a xs) (hi : xs[i]? = some x1) : ∃ fs, h a = some (.inr (4, fs)) := ⟨_, hl.2.2.choose_spec.choose_spec.1⟩
theorem q_ls.ob {t : Nat × Nat} {a : Nat} {xs : List Nat} (hl : q_ls G h ρ t a xs) : ∃ fs, h a = some (.inr (4, fs)) := ⟨_, hl.2.2.choose_spec.choose_spec.1⟩
theorem sp_X3_isDue {ra : Nat} {pl ot : Int32} {y : CF} {o : Option Nat} {g : Nat → Int32} {Q : Int32 → HH → Prop} (hw : q_wk G h b w p t (some ra) pl ot (some y.1) (nO o) g) (hy : q_ft G h ρ k y) (hbd : ∀ fi ∈ y.2.2.2, q_bd fi.2.2) (ho : q_bd o) (hQ : Q (if c_fired y ra o then 0 else 1) h) : wp_X3_isDue G h w Q := by
  obtain ⟨-, lr, lf, hc, -, xs, h1, h2, h3⟩ := hy
  have hl := h1.2.1
  obtain ⟨fs, hlf⟩ := h1.ob
  have main : ∀ d j, j + d = y.2.2.2.length → (y.2.2.2.take j).any (fun fi => fi.1 == ra && fi.2.2 == o) = false → wp_X3_isDue_L2 G w Q (d + 1) h (nI j) := by
    intro d
    induction d with
    | zero =>
      intro j hj hno
      unfold wp_X3_isDue_L2
      refine w_geta_of hw.1 rfl <| w_nn_of <| w_geta_of hc rfl <| w_nn_of <| w_is_of hlf <| sp_J2_size h1 ?_
      refine br_t (nI_le (by omega) (by omega)) ?_
      rw [List.take_of_length_le (by omega)] at hno
      unfold c_fired at hQ
      rw [hno] at hQ
      exact hQ
    | succ d ih =>
      intro j hj hno
      obtain ⟨fi, hfi⟩ : ∃ fi, y.2.2.2[j]? = some fi := ⟨_, List.getElem?_eq_getElem (by omega)⟩
      obtain ⟨x1, hx1⟩ : ∃ x1, xs[j]? = some x1 := ⟨_, List.getElem?_eq_getElem (by omega)⟩
      obtain ⟨-, hx2⟩ := h3 j x1 fi hx1 hfi
      have hmem := List.mem_of_getElem? hfi
      have ht := q_take (P := fun fi : FI => fi.1 == ra && fi.2.2 == o) hfi
      unfold wp_X3_isDue_L2
      refine w_geta_of hw.1 rfl <| w_nn_of <| w_geta_of hc rfl <| w_nn_of <| w_is_of hlf <| sp_J2_size h1 ?_
      refine br_f (nI_ge (by omega) (by omega)) <| w_geta_of hw.1 rfl <| w_nn_of <| w_geta_of hc rfl <| w_nn_of <| w_is_of hlf <| sp_J2_get h1 hx1 <| w_nn_of <| w_cast_of hx2 <| w_geta_of hx2 rfl <| w_geta_of hw.1 rfl ?_
      rw [nI_1]
      refine ⟨fun z => ih (j + 1) (by omega) ?_, fun z => w_geti_of hx2 rfl <| w_geti_of hw.1 rfl ⟨fun z2 => ih (j + 1) (by omega) ?_, fun z2 => ?_⟩⟩
      · rw [ht, hno, Bool.false_or]
        have : fi.1 ≠ ra := fun q => z (by rw [q])
        simp [this]
      · rw [ht, hno, Bool.false_or]
        have : fi.2.2 ≠ o := fun q => z2 (by rw [q])
        simp [this]
      · have e1 : fi.1 = ra := Option.some.inj z
        have e2 : fi.2.2 = o := (nO_inj (hbd fi hmem) ho).mp z2
        have : c_fired y ra o = true := by
          unfold c_fired
          exact List.any_eq_true.mpr ⟨fi, hmem, by simp [e1, e2]⟩
        rw [this] at hQ
        exact hQ
  have := main y.2.2.2.length 0 (by omega) rfl
  exact ⟨_, this⟩
theorem sp_X3_isAt {ra fa : Nat} {pl ot : Int32} {a : Nat} {F : Nat → Nat} {o : Option Nat} {g : Nat → Int32} {fi : FI} {Q : Int32 → HH → Prop} (hw : q_wk G h b w p t (some ra) pl ot (some a) (nO o) g) (hF : q_fc h a F) (hn : F 0 < 2 ^ 31) (ho : q_bd o) (hfa : h fa = some (.inr (16, [.ref fi.1, .int (nI fi.2.1), .int (nO fi.2.2)]))) (hn2 : fi.2.1 < 2 ^ 31) (ho2 : q_bd fi.2.2)
    (hQ1 : fi = (ra, F 0, o) → Q 1 h) (hQ0 : fi ≠ (ra, F 0, o) → Q 0 h) : wp_X3_isAt G h w (some fa) Q := by
  obtain ⟨l1, l2, hc⟩ := hF
  unfold wp_X3_isAt
  refine w_geta_of hw.1 rfl <| w_nn_of <| w_geta_of hfa rfl ⟨fun z => hQ0 (fun q => z (by rw [q])), fun z => w_geta_of hw.1 rfl <| w_nn_of <| w_geti_of hc rfl <| w_geti_of hfa rfl ⟨fun z2 => hQ0 (fun q => z2 (by rw [q])), fun z2 => w_geti_of hw.1 rfl <| w_geti_of hfa rfl ⟨fun z3 => hQ0 (fun q => z3 (by rw [q])), fun z3 => hQ1 ?_⟩⟩⟩
  have e1 := Option.some.inj z
  have e2 := (nI_eq hn hn2).mp z2
  have e3 := (nO_inj ho ho2).mp z3
  rw [e1, e2, e3]
theorem pk_sub0 {a b : Nat} (ha : a < 2 ^ 30) (hb : b < 2 ^ 30) : (nI a - nI b = 0 ↔ a = b) ∧ (0 ≤ nI a - nI b ↔ b ≤ a) := by
  have h := pk_sub_toInt ha hb
  have h0 : (0 : Int32).toInt = 0 := by decide
  refine ⟨⟨fun z => ?_, fun z => ?_⟩, ?_⟩
  · rw [z, h0] at h
    omega
  · subst z
    rw [pk_sub (Nat.le_refl _), Nat.sub_self, nI_0]
  · rw [Int32.le_iff_toInt_le, h, h0]
    omega
/-- the place of a rule among the rules -/
theorem sp_rules_indexOf {C : CC} {lr i : Nat} {x1 : Nat × (Nat → Nat)} {Q : Int32 → HH → Prop} (hl : q_ls G h ρ (k, 4) lr (C.1.map Prod.fst)) (hr : q_rl G h ρ x1.1 x1.2) (hnd : (C.1.map Prod.fst).Nodup) (hi : C.1[i]? = some x1) (hQ : Q (nI i) h) : wp_J2_indexOf G h lr (some x1.1) Q := by
  obtain ⟨-, -, -, p1, p2, p3, hra, -⟩ := hr
  have hi' : (C.1.map Prod.fst)[i]? = some x1.1 := by rw [List.getElem?_map, hi]; rfl
  refine sp_J2_indexOf hl (Or.inl ⟨_, hra⟩) (fun j hj _ => ?_) (fun hno => absurd hi' (hno i))
  rw [q_nd hnd hj hi']
  exact hQ
theorem sp_X3_isAheadOf {C : CC} {fa i i2 : Nat} {pl ot : Int32} {a : Nat} {F : Nat → Nat} {o : Option Nat} {g : Nat → Int32} {fi : FI} {x1 x2 : Nat × (Nat → Nat)} {Q : Int32 → HH → Prop} (hb : q_bk G h ρ k b w C) (hnd : (C.1.map Prod.fst).Nodup) (hw : q_wk G h b w p t (some x1.1) pl ot (some a) (nO o) g) (hx1 : C.1[i]? = some x1) (hx2 : C.1[i2]? = some x2)
    (hF : q_fc h a F) (hn : F 0 < 2 ^ 30) (ho : q_bd o) (hfa : h fa = some (.inr (16, [.ref x2.1, .int (nI fi.2.1), .int (nO fi.2.2)]))) (hn2 : fi.2.1 < 2 ^ 30) (ho2 : q_bd fi.2.2) (hl : C.1.length < 2 ^ 30)
    (hQ1 : c_lex (x1.2 10) (c_nw (F 0) o) i (F 0) (q_oc o) (x2.2 10) (c_nw fi.2.1 fi.2.2) i2 fi.2.1 (q_oc fi.2.2) → Q 1 h) (hQ0 : ¬ c_lex (x1.2 10) (c_nw (F 0) o) i (F 0) (q_oc o) (x2.2 10) (c_nw fi.2.1 fi.2.2) i2 fi.2.1 (q_oc fi.2.2) → Q 0 h) : wp_X3_isAheadOf G h w (some fa) Q := by
  obtain ⟨-, lr, lf, g1, g2, g3, g4, g5⟩ := hb
  have r1 := g3 x1 (List.mem_of_getElem? hx1)
  have r2 := g3 x2 (List.mem_of_getElem? hx2)
  have hi1 := (List.getElem?_eq_some_iff.mp hx1).1
  have hi2 := (List.getElem?_eq_some_iff.mp hx2).1
  obtain ⟨fs4, g2o⟩ := g2.ob
  obtain ⟨l1, l2, hc⟩ := hF
  obtain ⟨-, -, w1, p1, p2, p3, hr1, -⟩ := id r1
  obtain ⟨-, -, w2, p1', p2', p3', hr2, -⟩ := id r2
  have nwb : ∀ {n : Nat} {o : Option Nat}, n < 2 ^ 31 → q_bd o → c_nw n o < 2 ^ 31 := by
    intro n o h1 h2
    unfold c_nw
    cases o with
    | none => simpa using h1
    | some m =>
      have := h2 m rfl
      simp only [Option.getD_some]
      omega
  unfold wp_X3_isAheadOf
  refine w_geta_of hw.1 rfl <| w_nn_of <| w_geti_of hr1 rfl <| w_nn_of <| w_geta_of hfa rfl <| w_nn_of <| w_geti_of hr2 rfl ⟨fun z => ?_, fun z => ?_⟩
  · have e0 := (nI_eq (by omega) (by omega)).mp z
    refine w_is_of hw.1 <| sp_X3_newest hw ⟨l1, l2, hc⟩ (by omega) ho <| w_is_of hfa <| sp_X12_newest hfa (by omega) ho2 ⟨fun z2 => ?_, fun z2 => ?_⟩
    · have e1 := (nI_eq (nwb (by omega) ho) (nwb (by omega) ho2)).mp z2
      refine w_geta_of hw.1 rfl <| w_nn_of <| w_geta_of g1 rfl <| w_geta_of hw.1 rfl <| w_nn_of <| w_is_of g2o <| sp_rules_indexOf g2 r1 hnd hx1 <| w_geta_of hw.1 rfl <| w_nn_of <| w_geta_of g1 rfl <| w_geta_of hfa rfl <| w_nn_of <| w_is_of g2o <| sp_rules_indexOf g2 r2 hnd hx2 <| w_geta_of hw.1 rfl <| w_nn_of <| w_geti_of hc rfl <| w_geti_of hfa rfl ⟨fun z3 => ⟨fun z4 => ?_, fun z4 => ?_⟩, fun z3 => ?_⟩
      · have e2 := (pk_sub0 (by omega) (by omega)).1.mp z3
        have e3 := (pk_sub0 (by omega) (by omega)).1.mp z4
        refine w_geti_of hw.1 rfl <| w_geti_of hfa rfl ?_
        rw [nO_le ho2 ho]
        exact ⟨fun z5 => hQ0 (by unfold c_lex; omega), fun z5 => hQ1 (by unfold c_lex; omega)⟩
      · have e2 := (pk_sub0 (by omega) (by omega)).1.mp z3
        rw [(pk_sub0 (by omega) (by omega)).1] at z4
        show (0 ≤ nI (F 0) - nI fi.2.1 → _) ∧ (¬ 0 ≤ nI (F 0) - nI fi.2.1 → _)
        rw [(pk_sub0 (by omega) (by omega)).2]
        exact ⟨fun z5 => hQ0 (by unfold c_lex; omega), fun z5 => hQ1 (by unfold c_lex; omega)⟩
      · rw [(pk_sub0 (by omega) (by omega)).1] at z3
        rw [(pk_sub0 (by omega) (by omega)).2]
        exact ⟨fun z5 => hQ0 (by unfold c_lex; omega), fun z5 => hQ1 (by unfold c_lex; omega)⟩
    · rw [nI_eq (nwb (by omega) ho) (nwb (by omega) ho2)] at z2
      refine w_is_of hw.1 <| sp_X3_newest hw ⟨l1, l2, hc⟩ (by omega) ho <| w_is_of hfa <| sp_X12_newest hfa (by omega) ho2 ?_
      rw [nI_leI (nwb (by omega) ho) (nwb (by omega) ho2)]
      exact ⟨fun z5 => hQ0 (by unfold c_lex; omega), fun z5 => hQ1 (by unfold c_lex; omega)⟩
  · rw [nI_eq (by omega) (by omega)] at z
    refine w_geta_of hw.1 rfl <| w_nn_of <| w_geti_of hr1 rfl <| w_geta_of hfa rfl <| w_nn_of <| w_geti_of hr2 rfl ?_
    rw [nI_leI (by omega) (by omega)]
    exact ⟨fun z5 => hQ0 (by unfold c_lex; omega), fun z5 => hQ1 (by unfold c_lex; omega)⟩
theorem sp_X12_become {a ra : Nat} {x2 x3 : Int32} {v1 v2 v3 : Value} {Q : HH → Prop} (ha : h a = some (.inr (16, [v1, v2, v3]))) (hQ : ∀ h', (∀ c, c ≠ a → h' c = h c) → h' a = some (.inr (16, [.ref ra, .int x2, .int x3])) → Q h') : wp_X12_become G h a (some ra) x2 x3 Q := by
  unfold wp_X12_become
  refine w_put_of ha (Nat.le_of_ble_eq_true rfl) rfl <| w_put_of q_h_same (Nat.le_of_ble_eq_true rfl) rfl <| w_put_of q_h_same (Nat.le_of_ble_eq_true rfl) rfl ?_
  simp only [q_h_up]
  exact hQ _ (fun c hc => q_h_ne hc) q_h_same
end WK3
/-! marks of matches in a book; the agenda -/
def c_w (C : CC) (i : Nat) : Nat := match C.1[i]? with
  | some x1 => x1.2 10
  | none => 0
def c_sec (C : CC) (m : Nat) : Option Nat := if m % 21 = 0 then none else (C.2.1[m % 21 - 1]?).map (fun z => z.2.1 0)
def c_du (C : CC) (m : Nat) : Bool := match C.1[m / 420]?, C.2.1[m / 21 % 20]? with
  | some x1, some y => s_is x1.2 (q_fs C) (m % 420) && !(c_fired y x1.1 (c_sec C m))
  | _, _ => false
def c_mk (C : CC) (m : Nat) (fi : FI) : Prop := ∃ x1 y, C.1[m / 420]? = some x1 ∧ C.2.1[m / 21 % 20]? = some y ∧ fi = (x1.1, y.2.1 0, c_sec C m) ∧ (m % 21 ≠ 0 → ∃ z, C.2.1[m % 21 - 1]? = some z)
def c_ok (C : CC) : Prop := C.1.length ≤ 8 ∧ (C.1.map Prod.fst).Nodup ∧ (∀ x1 ∈ C.1, x1.2 10 ≤ 9) ∧ C.2.1.length ≤ 20 ∧ (∀ (i j : Nat) (y z : CF), C.2.1[i]? = some y → C.2.1[j]? = some z → i < j → y.2.1 0 < z.2.1 0) ∧ (∀ y ∈ C.2.1, y.2.1 0 < 100000) ∧ ∀ y ∈ C.2.1, (∀ fi ∈ y.2.2.1, fi.2.1 < 100000 ∧ ∀ n, fi.2.2 = some n → n < 100000) ∧ ∀ fi ∈ y.2.2.2, fi.2.1 < 100000 ∧ ∀ n, fi.2.2 = some n → n < 100000
def c_N (C : CC) (i : Nat) : Nat := match C.2.1[i]? with
  | some y => y.2.1 0
  | none => 0
theorem c_N_of {C : CC} {i : Nat} {y : CF} (h : C.2.1[i]? = some y) : c_N C i = y.2.1 0 := by
  unfold c_N
  rw [h]
theorem c_N_lt {C : CC} (hok : c_ok C) {i j : Nat} (hi : i < C.2.1.length) (hj : j < C.2.1.length) : (c_N C i < c_N C j ↔ i < j) ∧ (c_N C i = c_N C j ↔ i = j) := by
  have key : ∀ {i j : Nat}, i < C.2.1.length → j < C.2.1.length → i < j → c_N C i < c_N C j := by
    intro i j hi hj hij
    rw [c_N_of (List.getElem?_eq_getElem hi), c_N_of (List.getElem?_eq_getElem hj)]
    exact hok.2.2.2.2.1 i j _ _ (List.getElem?_eq_getElem hi) (List.getElem?_eq_getElem hj) hij
  rcases Nat.lt_trichotomy i j with q | q | q
  · have := key hi hj q
    omega
  · subst q
    omega
  · have := key hj hi q
    omega
theorem c_sec_bd {C : CC} (hok : c_ok C) {m n : Nat} (h : c_sec C m = some n) : n < 100000 := by
  unfold c_sec at h
  split at h
  · cases h
  · obtain ⟨z, h1, h2⟩ := Option.map_eq_some_iff.mp h
    rw [← h2]
    exact hok.2.2.2.2.2.1 z (List.mem_of_getElem? h1)
theorem c_mk.nw {C : CC} {m : Nat} {fi : FI} (hok : c_ok C) (h : c_mk C m fi) : c_nw fi.2.1 fi.2.2 = c_N C (s_nw m) ∧ s_nw m < C.2.1.length ∧ fi.2.1 = c_N C (m / 21 % 20) ∧ m / 21 % 20 < C.2.1.length ∧ (m % 21 = 0 → fi.2.2 = none) ∧ (m % 21 ≠ 0 → fi.2.2 = some (c_N C (m % 21 - 1)) ∧ m % 21 - 1 < C.2.1.length) := by
  obtain ⟨x1, y, h1, h2, rfl, h3⟩ := h
  have hi := (List.getElem?_eq_some_iff.mp h2).1
  have e1 := c_N_of h2
  by_cases q : m % 21 = 0
  · have e2 : c_sec C m = none := by unfold c_sec; rw [if_pos q]
    have e3 : s_nw m = m / 21 % 20 := by unfold s_nw; omega
    refine ⟨?_, by omega, e1.symm, hi, fun _ => e2, fun z => absurd q z⟩
    simp only [e2, e3, e1, c_nw, Option.getD_none]
    omega
  · obtain ⟨z, hz⟩ := h3 q
    have e2 : c_sec C m = some (c_N C (m % 21 - 1)) := by
      unfold c_sec
      rw [if_neg q, hz, c_N_of hz]
      rfl
    have hj := (List.getElem?_eq_some_iff.mp hz).1
    refine ⟨?_, by unfold s_nw; omega, e1.symm, hi, fun z => absurd z q, fun _ => ⟨e2, hj⟩⟩
    simp only [e2, ← e1, c_nw, Option.getD_some]
    unfold s_nw
    rcases Nat.lt_or_ge (m / 21 % 20) (m % 21 - 1) with g | g
    · have := (c_N_lt hok hi hj).1.mpr g
      rw [Nat.max_eq_right (by omega), Nat.max_eq_right (by omega)]
    · rw [Nat.max_eq_left (a := m / 21 % 20) g]
      refine Nat.max_eq_left ?_
      have := (c_N_lt hok hi hj).1
      omega
theorem c_lex_key {C : CC} (hok : c_ok C) {m m' : Nat} {fi fi' : FI} (hm : m < 3360) (hm' : m' < 3360) (h : c_mk C m fi) (h' : c_mk C m' fi') :
    c_lex (c_w C (m / 420)) (c_nw fi.2.1 fi.2.2) (m / 420) fi.2.1 (q_oc fi.2.2) (c_w C (m' / 420)) (c_nw fi'.2.1 fi'.2.2) (m' / 420) fi'.2.1 (q_oc fi'.2.2) ↔ s_key (c_w C) m < s_key (c_w C) m' := by
  have hw : ∀ {m : Nat} {fi : FI}, c_mk C m fi → c_w C (m / 420) ≤ 9 := by
    rintro m fi ⟨x1, y, h1, -⟩
    unfold c_w
    rw [h1]
    exact hok.2.2.1 x1 (List.mem_of_getElem? h1)
  rw [s_key_lt hm hm' (hw h) (hw h')]
  obtain ⟨a1, a2, a3, a4, a5, a6⟩ := h.nw hok
  obtain ⟨b1, b2, b3, b4, b5, b6⟩ := h'.nw hok
  rw [a1, b1, a3, b3]
  have k1 := c_N_lt hok b2 a2
  have k2 := c_N_lt hok a4 b4
  have k3 : q_oc fi.2.2 < q_oc fi'.2.2 ↔ m % 21 < m' % 21 := by
    by_cases q : m % 21 = 0
    · rw [a5 q]
      by_cases q' : m' % 21 = 0
      · rw [b5 q']
        simp only [q_oc]
        omega
      · rw [(b6 q').1]
        simp only [q_oc]
        omega
    · rw [(a6 q).1]
      by_cases q' : m' % 21 = 0
      · rw [b5 q']
        simp only [q_oc]
        omega
      · rw [(b6 q').1]
        have := (c_N_lt hok (a6 q).2 (b6 q').2).1
        simp only [q_oc]
        omega
  unfold c_lex
  rw [k1.1, k1.2, k2.1, k2.2, k3]
  omega
theorem c_mk.inj {C : CC} (hok : c_ok C) {m m' : Nat} {fi : FI} (h : c_mk C m fi) (h' : c_mk C m' fi) : m = m' := by
  obtain ⟨a1, a2, a3, a4, a5, a6⟩ := h.nw hok
  obtain ⟨b1, b2, b3, b4, b5, b6⟩ := h'.nw hok
  obtain ⟨x1, y, h1, h2, e1, h3⟩ := h
  obtain ⟨x1', y', h1', h2', e1', h3'⟩ := h'
  have k0 : m / 420 = m' / 420 := by
    have g1 : (C.1.map Prod.fst)[m / 420]? = some x1.1 := by rw [List.getElem?_map, h1]; rfl
    have g2 : (C.1.map Prod.fst)[m' / 420]? = some x1'.1 := by rw [List.getElem?_map, h1']; rfl
    have g3 : x1.1 = x1'.1 := by
      rw [e1] at e1'
      exact (Prod.mk.inj e1').1
    rw [g3] at g1
    exact q_nd hok.2.1 g1 g2
  have k1 : m / 21 % 20 = m' / 21 % 20 := (c_N_lt hok a4 b4).2.mp (by omega)
  have k2 : m % 21 = m' % 21 := by
    by_cases q : m % 21 = 0
    · by_cases q' : m' % 21 = 0
      · omega
      · have := (b6 q').1
        rw [a5 q] at this
        cases this
    · by_cases q' : m' % 21 = 0
      · have := (a6 q).1
        rw [b5 q'] at this
        cases this
      · have e := (a6 q).1.symm.trans (b6 q').1
        have := (c_N_lt hok (a6 q).2 (b6 q').2).2.mp (Option.some.inj e)
        omega
  omega
theorem c_du_f {C : CC} {m : Nat} {x1 : Nat × (Nat → Nat)} (h1 : C.1[m / 420]? = some x1) (h2 : s_is x1.2 (q_fs C) (m % 420) = false) : c_du C m = false := by
  unfold c_du
  rw [h1]
  split
  · next e1 e2 =>
    cases e1
    rw [h2, Bool.false_and]
  · rfl
theorem c_du_n {C : CC} {m : Nat} (h1 : C.1.length ≤ m / 420) : c_du C m = false := by
  unfold c_du
  rw [List.getElem?_eq_none h1]
theorem c_du_t {C : CC} {m : Nat} {x1 : Nat × (Nat → Nat)} {y : CF} (h1 : C.1[m / 420]? = some x1) (h3 : C.2.1[m / 21 % 20]? = some y) (h2 : s_is x1.2 (q_fs C) (m % 420) = true) : c_du C m = !(c_fired y x1.1 (c_sec C m)) := by
  unfold c_du
  rw [h1, h3]
  simp only [h2, Bool.true_and]
theorem c_du_is {C : CC} {m : Nat} (h : c_du C m = true) : ∃ x1 y, C.1[m / 420]? = some x1 ∧ C.2.1[m / 21 % 20]? = some y ∧ s_is x1.2 (q_fs C) (m % 420) = true ∧ c_fired y x1.1 (c_sec C m) = false := by
  unfold c_du at h
  split at h
  · next x1 y e1 e2 =>
    simp only [Bool.and_eq_true, Bool.not_eq_true'] at h
    exact ⟨x1, y, e1, e2, h.1, h.2⟩
  · cases h
theorem c_du_lt {C : CC} (hok : c_ok C) {m : Nat} (h : c_du C m = true) : m < 3360 := by
  obtain ⟨x1, y, h1, -⟩ := c_du_is h
  have := (List.getElem?_eq_some_iff.mp h1).1
  have := hok.1
  omega
theorem c_w_of {C : CC} {i : Nat} {x1 : Nat × (Nat → Nat)} (h : C.1[i]? = some x1) : c_w C i = x1.2 10 := by
  unfold c_w
  rw [h]
theorem s_is_lt {r : Nat → Nat} {Fs : List (Nat → Nat)} {c : Nat} (h : s_is r Fs c = true) : c / 21 < Fs.length ∧ (c % 21 ≠ 0 → c % 21 - 1 < Fs.length) := by
  refine ⟨?_, fun hc => ?_⟩
  · rcases Nat.lt_or_ge (c / 21) Fs.length with q | q
    · exact q
    · rw [s_is_n (Or.inl q)] at h
      cases h
  · rcases Nat.lt_or_ge (c % 21 - 1) Fs.length with q | q
    · exact q
    · rw [s_is_n (Or.inr ⟨hc, q⟩)] at h
      cases h
theorem q_at.m {C : CC} {i c : Nat} {f : Option Nat} {s : Int32} (h : q_at C c f s) (hc : c < 420) : ∃ y, C.2.1[(420 * i + c) / 21 % 20]? = some y ∧ f = some y.1 ∧ s = nO (c_sec C (420 * i + c)) ∧ ((420 * i + c) % 21 ≠ 0 → ∃ z, C.2.1[(420 * i + c) % 21 - 1]? = some z) := by
  obtain ⟨y, h1, h2, h3, h4⟩ := h
  have e1 : (420 * i + c) / 21 % 20 = c / 21 := by omega
  have e2 : (420 * i + c) % 21 = c % 21 := by omega
  refine ⟨y, by rw [e1]; exact h1, h2, ?_, fun q => ?_⟩
  · unfold c_sec
    rw [e2]
    by_cases q : c % 21 = 0
    · rw [if_pos q]
      exact h3 q
    · rw [if_neg q]
      obtain ⟨z, hz, e⟩ := h4 q
      rw [hz]
      exact e
  · rw [e2] at q ⊢
    obtain ⟨z, hz, -⟩ := h4 q
    exact ⟨z, hz⟩
section AG
variable {G : GG} {h h0 : HH} {ρ : RO} {k b w p t fd : Nat} {C : CC}
def q_wv (G : GG) (h : HH) (b w p t : Nat) : Prop := ∃ r pl ot f s g, q_wk G h b w p t r pl ot f s g
def q_Sf (w p t fd : Nat) : Nat → Prop := fun c => q_S w p t c ∨ c = fd
def q_fcl (h : HH) (a : Nat) (fi : FI) : Prop := h a = some (.inr (16, [.ref fi.1, .int (nI fi.2.1), .int (nO fi.2.2)]))
def q_fny (h : HH) (a : Nat) : Prop := ∃ v1 v2 v3, h a = some (.inr (16, [v1, v2, v3]))
theorem q_wp.ps {ra : Nat} {r : Nat → Nat} {pl : Nat} {ot f : Option Nat} {s : Int32} (hp : q_wp G h b w p t ra r C pl ot f s) (hn : C.2.1.length ≤ 20) : q_ps pl ot ≤ 420 := by
  obtain ⟨g, hw, h1, -, h2⟩ := hp
  cases ot with
  | none => simp only [q_ps]; omega
  | some o =>
    obtain ⟨h3, -, y, h4, -⟩ := h2 o rfl
    have := (List.getElem?_eq_some_iff.mp h4).1
    simp only [q_ps]
    omega
theorem q_wp.v {ra : Nat} {r : Nat → Nat} {pl : Nat} {ot f : Option Nat} {s : Int32} (hp : q_wp G h b w p t ra r C pl ot f s) : q_wv G h b w p t := by
  obtain ⟨g, hw, -⟩ := hp
  exact ⟨_, _, _, _, _, _, hw⟩
theorem q_sp_fd {h1 : HH} (hs0 : q_sp (q_S w p t) h0 h) (hfd : h0 fd = none) (hs : q_sp (q_Sf w p t fd) h h1) : q_sp (q_S w p t) h0 h1 := fun c e hc hS => hs c e (hs0 c e hc hS) (fun z => z.elim hS (fun q => by rw [q, hfd] at hc; cases hc))
/-- what has been found by now -/
def q_bst (h : HH) (C : CC) (fd : Nat) (bst : Option Nat) : Prop := q_fny h fd ∧ ∀ m, bst = some m → m < 3360 ∧ ∃ fi, c_mk C m fi ∧ q_fcl h fd fi
theorem q_bst.st {h1 : HH} {bst : Option Nat} (hb : q_bst h C fd bst) (he : h1 fd = h fd) : q_bst h1 C fd bst := by
  obtain ⟨⟨v1, v2, v3, h2⟩, h3⟩ := hb
  refine ⟨⟨v1, v2, v3, he.trans h2⟩, fun m hm => ?_⟩
  obtain ⟨g1, fi, g2, g3⟩ := h3 m hm
  exact ⟨g1, fi, g2, he.trans g3⟩
theorem sp_X2_isNext_L38 {i : Nat} {x1 : Nat × (Nat → Nat)} {ma last : Option Nat} {Q : Int32 → HH → Prop} {k5 : HH → Option Nat → Option Nat → Int32 → Int32 → Prop} (hok : c_ok C) (hb0 : q_bk G h0 ρ k b w C) (hw0 : q_wv G h0 b w p t) (hwh : q_wv G h b w p t) (hs0 : q_sp (q_S w p t) h0 h) (hfd : h0 fd = none) (hx : C.1[i]? = some x1)
    (hma0 : ma = none → last = none) (hma : ∀ a, ma = some a → a ≠ fd ∧ ∃ l fi, last = some l ∧ l < 3360 ∧ c_mk C l fi ∧ q_fcl h a fi)
    (hk5 : ∀ h2 bst, q_sp (q_Sf w p t fd) h h2 → q_wv G h2 b w p t → s_mn (c_lt (c_du C) (420 * (i + 1))) (s_key (c_w C)) last bst → q_bst h2 C fd bst → k5 h2 ma (some fd) (if bst.isSome then 1 else 0) (nI (i + 1))) :
    ∀ N pl ot f s h1 bst, 421 - q_ps pl ot ≤ N → q_sp (q_Sf w p t fd) h h1 → q_wp G h1 b w p t x1.1 x1.2 C pl ot f s → s_mn (c_lt (c_du C) (420 * i + q_ps pl ot)) (s_key (c_w C)) last bst → q_bst h1 C fd bst → wp_X2_isNext_L38 G b Q k5 N h1 ma (some fd) (if bst.isSome then 1 else 0) (nI i) (some w) := by
  have hi : i < 8 := Nat.lt_of_lt_of_le (List.getElem?_eq_some_iff.mp hx).1 hok.1
  obtain ⟨r9, pl9, ot9, f9, s9, g9, hw00⟩ := hw0
  intro N
  induction N with
  | zero =>
    intro pl ot f s h1 bst hN hs hp
    have := hp.ps hok.2.2.2.1
    omega
  | succ N ih =>
    intro pl ot f s h1 bst hN hs hp hmn hbst
    have hps := hp.ps hok.2.2.2.1
    have hs1 := q_sp_fd hs0 hfd hs
    have hkp1 := hw00.kp (k := k) (ρ := ρ) hs1
    have hb1 := hb0.kp hkp1
    have hr1 : q_rl G h1 ρ x1.1 x1.2 := by
      obtain ⟨-, lr, lf, -, -, g3, -⟩ := hb1
      exact g3 x1 (List.mem_of_getElem? hx)
    obtain ⟨g1, hw1, -⟩ := id hp
    have hfdS : ¬ q_S w p t fd := by
      obtain ⟨v1, v2, v3, e⟩ := hbst.1
      exact hw1.ne e (q_wl.ob (by decide))
    have hfd2 : ∀ {h2 : HH}, q_sp (q_S w p t) h1 h2 → h2 fd = h1 fd := by
      intro h2 hs2
      obtain ⟨v1, v2, v3, e⟩ := hbst.1
      rw [hs2 fd _ e hfdS, e]
    unfold wp_X2_isNext_L38
    refine w_nn_of <| w_is_of hw1.1 <| sp_X3_goesOn hb1 hr1 hok.2.2.2.1 hp (fun h2 c pl' ot' f' s' hs2 hc1 hc2 hc3 hc4 hc5 hp2 hat => ?_) (fun h2 pl' ot' f' s' hs2 hno hp2 => ?_)
    · refine br_f (by decide) ?_
      have hcl := s_is_lt hc3
      have hc420 : c < 420 := by
        have := hcl.1
        have := hok.2.2.2.1
        rw [q_fs, List.length_map] at *
        omega
      obtain ⟨y, hy, hf', hs', hsec⟩ := hat.m (i := i) hc420
      have hxm : C.1[(420 * i + c) / 420]? = some x1 := by rw [show (420 * i + c) / 420 = i by omega]; exact hx
      have hmk : c_mk C (420 * i + c) (x1.1, y.2.1 0, c_sec C (420 * i + c)) := ⟨x1, y, hxm, hy, rfl, hsec⟩
      have hdu := c_du_t hxm hy (by rw [show (420 * i + c) % 420 = c by omega]; exact hc3)
      have hsf2 : q_sp (q_Sf w p t fd) h h2 := hs.tr (hs2.mono (fun c z => Or.inl z))
      have hmn2 : s_mn (c_lt (c_du C) (420 * i + c)) (s_key (c_w C)) last bst := s_mn_skip hmn (by omega) (fun m h1 h2 => by
        refine c_du_f (x1 := x1) (by rw [show m / 420 = i by omega]; exact hx) ?_
        rw [show m % 420 = m - 420 * i by omega]
        exact hc2 _ (by omega) (by omega))
      have hbst2 := hbst.st (hfd2 hs2)
      obtain ⟨g2, hw2, hp2b⟩ := id hp2
      have hps2 := hp2.ps hok.2.2.2.1
      have hs02 := q_sp_fd hs0 hfd hsf2
      have hb2 := hb0.kp (hw00.kp (k := k) (ρ := ρ) hs02)
      obtain ⟨hy1, hy2, hy3⟩ := hb2.fact hy
      have hym := List.mem_of_getElem? hy
      have hyn := hok.2.2.2.2.2.1 y hym
      have hbd : q_bd (c_sec C (420 * i + c)) := fun n hn => Nat.lt_trans (c_sec_bd hok hn) (by decide)
      subst hf'
      rw [hs'] at hw2 hp2
      have cont : ∀ h3 bst', q_sp (q_Sf w p t fd) h h3 → q_wp G h3 b w p t x1.1 x1.2 C pl' ot' (some y.1) (nO (c_sec C (420 * i + c))) → s_mn (c_lt (c_du C) (420 * i + c + 1)) (s_key (c_w C)) last bst' → q_bst h3 C fd bst' → wp_X2_isNext_L38 G b Q k5 N h3 ma (some fd) (if bst'.isSome then 1 else 0) (nI i) (some w) := fun h3 bst' a1 a2 a3 a4 =>
        ih pl' ot' _ _ h3 bst' (by omega) a1 a2 (s_mn_skip a3 (by omega) (fun m h1 h2 => by
          refine c_du_f (x1 := x1) (by rw [show m / 420 = i by omega]; exact hx) ?_
          rw [show m % 420 = m - 420 * i by omega]
          exact hc5 _ (by omega) (by omega))) a4
      have hlex : ∀ {m' : Nat} {fi' : FI}, m' < 3360 → c_mk C m' fi' → (c_lex (x1.2 10) (c_nw (y.2.1 0) (c_sec C (420 * i + c))) i (y.2.1 0) (q_oc (c_sec C (420 * i + c))) (c_w C (m' / 420)) (c_nw fi'.2.1 fi'.2.2) (m' / 420) fi'.2.1 (q_oc fi'.2.2) ↔ s_key (c_w C) (420 * i + c) < s_key (c_w C) m') := by
        intro m' fi' hm' hmk'
        have := c_lex_key hok (m := 420 * i + c) (by omega) hm' hmk hmk'
        rw [← this, show (420 * i + c) / 420 = i by omega, c_w_of hx]
      -- it is taken
      have take : (∀ l, last = some l → s_key (c_w C) l < s_key (c_w C) (420 * i + c)) → (∀ q, bst = some q → s_key (c_w C) (420 * i + c) ≤ s_key (c_w C) q) → c_fired y x1.1 (c_sec C (420 * i + c)) = false → wp_X2_isNext_L101 G b Q (fun h x1 x2 x3 x4 x5 => wp_X2_isNext_L38 G b Q k5 N h x1 x2 x3 x4 x5) h2 ma (some fd) (nI i) w := by
        intro a1 a2 a3
        obtain ⟨l1, l2, hc⟩ := hy1.c
        obtain ⟨v1, v2, v3, e⟩ := hbst2.1
        unfold wp_X2_isNext_L101
        refine w_geta_of hw2.1 rfl <| w_geta_of hw2.1 rfl <| w_nn_of <| w_geti_of hc rfl <| w_geti_of hw2.1 rfl <| w_nn_of <| w_is_of e <| sp_X12_become e (fun h3 hh3 h3fd => ?_)
        have hwfd : ∀ c, q_S w p t c → c ≠ fd := fun c hc z => hfdS (z ▸ hc)
        refine cont h3 (some (420 * i + c)) (hsf2.tr (q_sp.of hh3 (Or.inr rfl))) ⟨g2, ⟨?_, ?_, ?_, hw2.2.2.2⟩, hp2b.1, fun q => ?_, hp2b.2.2⟩ (s_mn_take hmn2 (by rw [hdu, a3]; rfl) a1 a2) ⟨⟨_, _, _, h3fd⟩, fun m hm => ?_⟩
        · rw [hh3 w (hwfd w (Or.inl rfl))]; exact hw2.1
        · rw [hh3 p (hwfd p (Or.inr (Or.inl rfl)))]; exact hw2.2.1
        · rw [hh3 t (hwfd t (Or.inr (Or.inr rfl)))]; exact hw2.2.2.1
        · rw [← hs']; exact hp2b.2.1 q
        · cases hm
          exact ⟨by omega, _, hmk, h3fd⟩
      have stay : ((∃ l, last = some l ∧ s_key (c_w C) (420 * i + c) ≤ s_key (c_w C) l) ∨ (c_fired y x1.1 (c_sec C (420 * i + c)) = true) ∨ ∃ q, bst = some q ∧ s_key (c_w C) q ≤ s_key (c_w C) (420 * i + c)) → wp_X2_isNext_L38 G b Q k5 N h2 ma (some fd) (if bst.isSome then 1 else 0) (nI i) (some w) := by
        intro a1
        refine cont h2 bst hsf2 hp2 (s_mn_stay hmn2 (fun hd => ?_)) hbst2
        rcases a1 with a1 | a1 | a1
        · exact Or.inl a1
        · rw [hdu, a1] at hd
          cases hd
        · exact Or.inr a1
      -- not ahead of the last one
      have L72 : (∀ l, last = some l → s_key (c_w C) l < s_key (c_w C) (420 * i + c)) → wp_X2_isNext_L72 G b Q (fun h x1 x2 x3 x4 x5 => wp_X2_isNext_L38 G b Q k5 N h x1 x2 x3 x4 x5) h2 ma (some fd) (if bst.isSome then 1 else 0) (nI i) w := by
        intro a1
        unfold wp_X2_isNext_L72 wp_X2_isNext_L73
        refine q_bt rfl <| w_is_of hw2.1 <| sp_X3_isDue hw2 hy1 (fun fi hfi n hn => Nat.lt_trans (((hok.2.2.2.2.2.2 y hym).2 fi hfi).2 n hn) (by decide)) hbd ?_
        cases ef : c_fired y x1.1 (c_sec C (420 * i + c)) with
        | true => exact br_t rfl (stay (Or.inr (Or.inl ef)))
        | false =>
          refine br_f (by decide) ?_
          cases bst with
          | none => exact br_t rfl (take a1 (fun q hq => by cases hq) ef)
          | some q =>
            obtain ⟨hq1, fi, hq2, hq3⟩ := hbst2.2 q rfl
            obtain ⟨x2, y2, hx2, hy2', rfl, -⟩ := id hq2
            refine br_f (by simp) <| w_is_of hw2.1 <| sp_X3_isAheadOf (fi := (x2.1, y2.2.1 0, c_sec C q)) (x2 := x2) hb2 hok.2.1 hw2 hx hx2 hy1.c (Nat.lt_trans hyn (by decide)) hbd hq3 (Nat.lt_trans (hok.2.2.2.2.2.1 y2 (List.mem_of_getElem? hy2')) (by decide)) (fun n hn => Nat.lt_trans (c_sec_bd hok hn) (by decide)) (Nat.lt_of_le_of_lt hok.1 (by decide)) (fun z => ?_) (fun z => ?_)
            · rw [← c_w_of hx2, hlex hq1 hq2] at z
              exact br_f (by decide) (take a1 (fun q' hq' => by cases hq'; omega) ef)
            · rw [← c_w_of hx2, hlex hq1 hq2] at z
              exact br_t rfl (stay (Or.inr (Or.inr ⟨q, rfl, by omega⟩)))
      have L68 : ∀ a, ma = some a → (∃ l, last = some l ∧ s_key (c_w C) (420 * i + c) ≤ s_key (c_w C) l) → wp_X2_isNext_L68 G b Q (fun h x1 x2 x3 x4 x5 => wp_X2_isNext_L38 G b Q k5 N h x1 x2 x3 x4 x5) h2 a (some fd) (if bst.isSome then 1 else 0) (nI i) w := by
        intro a ha a1
        unfold wp_X2_isNext_L68 wp_X2_isNext_L73
        rw [← ha]
        exact q_bf (by decide) (stay (Or.inl a1))
      cases ema : ma with
      | none =>
        have hl0 := hma0 ema
        have := L72 (fun l hl => by rw [hl0] at hl; cases hl)
        rw [ema] at this
        exact ⟨fun _ => this, fun a z => by cases z⟩
      | some a =>
        refine ⟨fun z => (by cases z), fun a' z => ?_⟩
        cases z
        obtain ⟨hafd, l, fi, hl, hl1, hl2, hl3⟩ := hma a ema
        obtain ⟨x2, y2, hx2, hy2', rfl, -⟩ := id hl2
        have haS : ¬ q_S w p t a := by
          obtain ⟨_, _, _, _, _, _, hwh⟩ := hwh
          exact hwh.ne hl3 (q_wl.ob (by decide))
        have hl4 : q_fcl h2 a (x2.1, y2.2.1 0, c_sec C l) := hsf2 a _ hl3 (fun q => q.elim haS hafd)
        refine w_is_of hw2.1 <| sp_X3_isAheadOf (fi := (x2.1, y2.2.1 0, c_sec C l)) (x2 := x2) hb2 hok.2.1 hw2 hx hx2 hy1.c (Nat.lt_trans hyn (by decide)) hbd hl4 (Nat.lt_trans (hok.2.2.2.2.2.1 y2 (List.mem_of_getElem? hy2')) (by decide)) (fun n hn => Nat.lt_trans (c_sec_bd hok hn) (by decide)) (Nat.lt_of_le_of_lt hok.1 (by decide)) (fun z => ?_) (fun z => ?_)
        · rw [← c_w_of hx2, hlex hl1 hl2] at z
          exact q_bf (by decide) (L68 a ema ⟨l, hl, by omega⟩)
        · rw [← c_w_of hx2, hlex hl1 hl2] at z
          refine q_bt rfl <| w_is_of hw2.1 <| sp_X3_isAt hw2 hy1.c (Nat.lt_trans hyn (by decide)) hbd hl4 (Nat.lt_trans (hok.2.2.2.2.2.1 y2 (List.mem_of_getElem? hy2')) (by decide)) (fun n hn => Nat.lt_trans (c_sec_bd hok hn) (by decide)) (fun e => ?_) (fun e => ?_)
          · rw [e] at hl2
            have := c_mk.inj hok hl2 hmk
            exact br_f (by decide) (L68 a ema ⟨l, hl, by rw [this]; exact Nat.le_refl _⟩)
          · refine br_t rfl ?_
            have := L72 (fun l' hl' => by
              rw [hl] at hl'
              cases hl'
              have hne : s_key (c_w C) l ≠ s_key (c_w C) (420 * i + c) := fun e2 => by
                have := s_key_inj hl1 (by omega) e2
                subst this
                obtain ⟨x3, y3, e3, e4, e5, -⟩ := hl2
                obtain ⟨x4, y4, e6, e7, e8, -⟩ := hmk
                rw [e3] at e6
                rw [e4] at e7
                cases e6
                cases e7
                exact e (e5.trans e8.symm)
              omega)
            rw [ema] at this
            exact this
    · refine br_t rfl ?_
      rw [nI_1]
      refine hk5 h2 bst (hs.tr (hs2.mono (fun c z => Or.inl z))) hp2.v (s_mn_skip hmn (by omega) (fun m h1 h2 => ?_)) (hbst.st (hfd2 hs2))
      refine c_du_f (x1 := x1) (by rw [show m / 420 = i by omega]; exact hx) ?_
      rw [show m % 420 = m - 420 * i by omega]
      exact hno _ (by omega)
end AG
