set_option maxRecDepth 100000
/-! to find facts; counts over facts -/
section FIND
variable {G : GG} {h h0 : HH} {ρ : RO} {k b w p t : Nat} {C : CC}
theorem q_no_kp {h1 : HH} (hs : q_sp q_no h h1) : q_kp G k h ρ h1 ρ := ⟨fun _ _ _ => rfl, fun c e hc _ _ => hs c e hc q_no.not⟩
theorem q_eachF {lf it i : Nat} {E : HH → Prop} {B : Nat → HH → Prop} (g4 : q_ls G h ρ (k, 6) lf (C.2.1.map Prod.fst)) (hi : q_it h lf it i) (hle : i ≤ C.2.1.length) (hE : i = C.2.1.length → E h)
    (hB : ∀ y h', C.2.1[i]? = some y → (∀ c, c ≠ it → h' c = h c) → q_it h' lf it (i + 1) → B y.1 h') : w_is h it 13 (wp_J15_hasNext G h it (fun r h8 => ((r = 0 → E h8) ∧ (¬ r = 0 → w_is h8 it 13 (wp_J15_next G h8 it (fun r9 h10 => w_nn r9 (fun a11 => B a11 h10))))))) := by
  refine q_each g4 hi (by rw [List.length_map]; exact hle) (fun z => hE (by rw [List.length_map] at z; exact z)) (fun x1 h' hx hh hi' => ?_)
  rw [List.getElem?_map] at hx
  obtain ⟨y, hy, rfl⟩ := Option.map_eq_some_iff.mp hx
  exact hB y h' hy hh hi'
theorem q_eachK {tt : Nat × Nat} {a it i : Nat} {fis : List FI} {xs : List Nat} {E : HH → Prop} {B : Nat → HH → Prop} (g4 : q_ls G h ρ tt a xs) (hxs : xs.length = fis.length) (hi : q_it h a it i) (hle : i ≤ fis.length) (hE : i = fis.length → E h)
    (hB : ∀ x1 fi h', xs[i]? = some x1 → fis[i]? = some fi → (∀ c, c ≠ it → h' c = h c) → q_it h' a it (i + 1) → B x1 h') : w_is h it 13 (wp_J15_hasNext G h it (fun r h8 => ((r = 0 → E h8) ∧ (¬ r = 0 → w_is h8 it 13 (wp_J15_next G h8 it (fun r9 h10 => w_nn r9 (fun a11 => B a11 h10))))))) := by
  refine q_each g4 hi (by omega) (fun z => hE (by omega)) (fun x1 h' hx hh hi' => ?_)
  have hlt := (List.getElem?_eq_some_iff.mp hx).1
  exact hB x1 _ h' hx (List.getElem?_eq_getElem (show i < fis.length by omega)) hh hi'
theorem q_bk.nd (hb : q_bk G h ρ k b w C) (hok : c_ok C) : (C.2.1.map Prod.fst).Nodup := by
  obtain ⟨-, lr, lf, -, -, -, -, h5⟩ := hb
  refine List.pairwise_iff_getElem.mpr (fun i j hi hj hij => ?_)
  rw [List.length_map] at hi hj
  simp only [List.getElem_map]
  intro e
  have e1 := (h5 _ (List.getElem_mem hi)).1
  have e2 := (h5 _ (List.getElem_mem hj)).1
  rw [e, e2] at e1
  have := hok.2.2.2.2.1 i j _ _ (List.getElem?_eq_getElem hi) (List.getElem?_eq_getElem hj) hij
  have := (Prod.mk.inj e1).2
  omega
theorem sp_facts_indexOf {lf i : Nat} {y : CF} {Q : Int32 → HH → Prop} (hb : q_bk G h ρ k b w C) (hok : c_ok C) (hl : q_ls G h ρ (k, 6) lf (C.2.1.map Prod.fst)) (hi : C.2.1[i]? = some y) (hQ : Q (nI i) h) : wp_J2_indexOf G h lf (some y.1) Q := by
  obtain ⟨l1, l2, hc⟩ := (hb.fact hi).1.c
  have hi' := (hb.fact hi).2.1
  refine sp_J2_indexOf hl (Or.inr ⟨_, hc⟩) (fun j hj _ => ?_) (fun hno => absurd hi' (hno i))
  rw [q_nd (hb.nd hok) hj hi']
  exact hQ
theorem sp_X2_find {mc ms : Nat} {v : Int32} {Q : Option Nat → HH → Prop} (hb : q_bk G h ρ k b w C) (hc : 1 ≤ mc) (hms : 4 ≤ ms)
    (hQ1 : ∀ h' (i : Nat) (y : CF), q_sp q_no h h' → C.2.1[i]? = some y → nI (y.2.1 0) = v → Q (some y.1) h') (hQ0 : ∀ h', q_sp q_no h h' → (∀ y ∈ C.2.1, nI (y.2.1 0) ≠ v) → Q none h') : wp_X2_find G mc ms h b v Q := by
  obtain ⟨lr, lf, g1, g3, g2, ⟨fs3, g5⟩, ⟨fs4, g4⟩⟩ := hb.len
  unfold wp_X2_find
  refine w_geta_of g1 rfl <| w_nn_of ⟨1, 4, by omega, by omega, w_is_of g4 <| sp_J2_iterator g2 (by omega) (by omega) (fun it h2 hit hh2 hi2 => ?_)⟩
  have main : ∀ d i h1, i + d = C.2.1.length → q_sp q_no h h1 → q_it h1 lf it i → (∀ (j : Nat) (y : CF), j < i → C.2.1[j]? = some y → nI (y.2.1 0) ≠ v) → wp_X2_find_L8 G mc ms b Q (d + 1) h1 (0 + 1) (0 + 4) v (some it) := by
    intro d
    induction d with
    | zero =>
      intro i h1 hd hs hi hno
      unfold wp_X2_find_L8
      refine w_nn_of <| q_eachF (g2.kp (q_no_kp hs) rfl) hi (by omega) (fun _ => hQ0 h1 hs (fun y hy => ?_)) (fun y h' hy => ?_)
      · obtain ⟨j, hj⟩ := List.getElem?_of_mem hy
        have := (List.getElem?_eq_some_iff.mp hj).1
        exact hno j y (by omega) hj
      · have := (List.getElem?_eq_some_iff.mp hy).1
        omega
    | succ d ih =>
      intro i h1 hd hs hi hno
      unfold wp_X2_find_L8
      refine w_nn_of <| q_eachF (g2.kp (q_no_kp hs) rfl) hi (by omega) (fun z => by omega) (fun y h' hy hh hi' => ?_)
      have hs' := hs.nx hit hh
      obtain ⟨l1, l2, hc⟩ := ((hb.kp (q_no_kp hs')).fact hy).1.c
      refine w_cast_of hc <| w_geti_of hc rfl ⟨fun z => ih (i + 1) h' (by omega) hs' hi' (fun j y' hj hy' => ?_), fun z => hQ1 h' i y hs' hy z⟩
      by_cases q : j = i
      · subst q
        rw [hy] at hy'
        cases hy'
        exact z
      · exact hno j y' (by omega) hy'
  have := main C.2.1.length 0 h2 (by omega) (q_sp.nw hit hh2) hi2 (fun j y hj => absurd hj (Nat.not_lt_zero _))
  exact ⟨_, this⟩
theorem sp_X10_is {a : Nat} {F : Nat → Nat} {v1 v2 v3 : Int32} {Q : Int32 → HH → Prop} (hF : q_fc h a F) (hQ1 : nI (F 1) = v1 → nI (F 2) = v2 → nI (F 3) = v3 → Q 1 h) (hQ0 : ¬ (nI (F 1) = v1 ∧ nI (F 2) = v2 ∧ nI (F 3) = v3) → Q 0 h) : wp_X10_is G h a v1 v2 v3 Q := by
  obtain ⟨l1, l2, hc⟩ := hF
  unfold wp_X10_is
  exact w_geti_of hc rfl ⟨fun z => hQ0 (fun q => z q.1), fun z => w_geti_of hc rfl ⟨fun z2 => hQ0 (fun q => z2 q.2.1), fun z2 => w_geti_of hc rfl ⟨fun z3 => hQ0 (fun q => z3 q.2.2), fun z3 => hQ1 z z2 z3⟩⟩⟩
theorem sp_X2_find_2 {mc ms : Nat} {v1 v2 v3 : Int32} {Q : Option Nat → HH → Prop} (hb : q_bk G h ρ k b w C) (hc : 1 ≤ mc) (hms : 4 ≤ ms)
    (hQ1 : ∀ h' (i : Nat) (y : CF), q_sp q_no h h' → C.2.1[i]? = some y → nI (y.2.1 1) = v1 → nI (y.2.1 2) = v2 → nI (y.2.1 3) = v3 → (∀ (j : Nat) (z : CF), j < i → C.2.1[j]? = some z → ¬ (nI (z.2.1 1) = v1 ∧ nI (z.2.1 2) = v2 ∧ nI (z.2.1 3) = v3)) → Q (some y.1) h') (hQ0 : ∀ h', q_sp q_no h h' → (∀ y : CF, y ∈ C.2.1 → ¬ (nI (y.2.1 1) = v1 ∧ nI (y.2.1 2) = v2 ∧ nI (y.2.1 3) = v3)) → Q none h') : wp_X2_find_2 G mc ms h b v1 v2 v3 Q := by
  obtain ⟨lr, lf, g1, g3, g2, ⟨fs3, g5⟩, ⟨fs4, g4⟩⟩ := hb.len
  unfold wp_X2_find_2
  refine w_geta_of g1 rfl <| w_nn_of ⟨1, 4, by omega, by omega, w_is_of g4 <| sp_J2_iterator g2 (by omega) (by omega) (fun it h2 hit hh2 hi2 => ?_)⟩
  have main : ∀ d i h1, i + d = C.2.1.length → q_sp q_no h h1 → q_it h1 lf it i → (∀ (j : Nat) (y : CF), j < i → C.2.1[j]? = some y → ¬ (nI (y.2.1 1) = v1 ∧ nI (y.2.1 2) = v2 ∧ nI (y.2.1 3) = v3)) → wp_X2_find_2_L9 G mc ms b Q (d + 1) h1 (0 + 1) (0 + 4) v1 v2 v3 (some it) := by
    intro d
    induction d with
    | zero =>
      intro i h1 hd hs hi hno
      unfold wp_X2_find_2_L9
      refine w_nn_of <| q_eachF (g2.kp (q_no_kp hs) rfl) hi (by omega) (fun _ => hQ0 h1 hs (fun y hy => ?_)) (fun y h' hy => ?_)
      · obtain ⟨j, hj⟩ := List.getElem?_of_mem hy
        have := (List.getElem?_eq_some_iff.mp hj).1
        exact hno j y (by omega) hj
      · have := (List.getElem?_eq_some_iff.mp hy).1
        omega
    | succ d ih =>
      intro i h1 hd hs hi hno
      unfold wp_X2_find_2_L9
      refine w_nn_of <| q_eachF (g2.kp (q_no_kp hs) rfl) hi (by omega) (fun z => by omega) (fun y h' hy hh hi' => ?_)
      have hs' := hs.nx hit hh
      have hF := ((hb.kp (q_no_kp hs')).fact hy).1.c
      obtain ⟨l1, l2, hc⟩ := id hF
      refine w_cast_of hc <| w_is_of hc <| sp_X10_is hF (fun z1 z2 z3 => br_f (by decide) (hQ1 h' i y hs' hy z1 z2 z3 hno)) (fun z => br_t rfl (ih (i + 1) h' (by omega) hs' hi' (fun j y' hj hy' => ?_)))
      by_cases q : j = i
      · subst q
        rw [hy] at hy'
        cases hy'
        exact z
      · exact hno j y' (by omega) hy'
  have := main C.2.1.length 0 h2 (by omega) (q_sp.nw hit hh2) hi2 (fun j y hj => absurd hj (Nat.not_lt_zero _))
  exact ⟨_, this⟩
/-- a sum over facts: of natural numbers -/
def c_sum (f : CF → Nat) : List CF → Nat
  | [] => 0
  | y :: ys => f y + c_sum f ys
theorem c_sum_take {f : CF → Nat} {ys : List CF} {i : Nat} {y : CF} (h : ys[i]? = some y) : c_sum f (ys.take (i + 1)) = c_sum f (ys.take i) + f y := by
  induction ys generalizing i with
  | nil => cases h
  | cons z zs ih =>
    cases i with
    | zero =>
      cases h
      simp [c_sum]
    | succ i =>
      simp only [List.getElem?_cons_succ] at h
      simp only [List.take_succ_cons, c_sum, ih h]
      omega
theorem sp_X2_told_2 {mc ms : Nat} {Q : Int32 → HH → Prop} (hb : q_bk G h ρ k b w C) (hc : 1 ≤ mc) (hms : 4 ≤ ms) (h4 : ∀ y ∈ C.2.1, y.2.1 4 ≤ 1)
    (hQ : ∀ h', q_sp q_no h h' → Q (nI (c_sum (fun y => y.2.1 4) C.2.1)) h') : wp_X2_told_2 G mc ms h b Q := by
  obtain ⟨lr, lf, g1, g3, g2, ⟨fs3, g5⟩, ⟨fs4, g4⟩⟩ := hb.len
  unfold wp_X2_told_2
  refine w_geta_of g1 rfl <| w_nn_of ⟨1, 4, by omega, by omega, w_is_of g4 <| sp_J2_iterator g2 (by omega) (by omega) (fun it h2 hit hh2 hi2 => ?_)⟩
  have main : ∀ d i h1, i + d = C.2.1.length → q_sp q_no h h1 → q_it h1 lf it i → wp_X2_told_2_L10 G mc ms b Q (d + 1) h1 (0 + 1) (0 + 4) (nI (c_sum (fun y => y.2.1 4) (C.2.1.take i))) (some it) := by
    intro d
    induction d with
    | zero =>
      intro i h1 hd hs hi
      unfold wp_X2_told_2_L10
      refine w_nn_of <| q_eachF (g2.kp (q_no_kp hs) rfl) hi (by omega) (fun _ => ?_) (fun y h' hy => ?_)
      · rw [List.take_of_length_le (by omega)]
        exact hQ h1 hs
      · have := (List.getElem?_eq_some_iff.mp hy).1
        omega
    | succ d ih =>
      intro i h1 hd hs hi
      unfold wp_X2_told_2_L10
      refine w_nn_of <| q_eachF (g2.kp (q_no_kp hs) rfl) hi (by omega) (fun z => by omega) (fun y h' hy hh hi' => ?_)
      have hs' := hs.nx hit hh
      obtain ⟨l1, l2, hc⟩ := ((hb.kp (q_no_kp hs')).fact hy).1.c
      have := ih (i + 1) h' (by omega) hs' hi'
      rw [c_sum_take hy] at this
      have h41 := h4 y (List.mem_of_getElem? hy)
      refine w_cast_of hc <| w_geti_of hc rfl ⟨fun z => ?_, fun z => ?_⟩
      · have e : y.2.1 4 = 0 := (nI_eq (b := 0) (by omega) (by omega)).mp z
        rw [e] at this
        show wp_X2_told_2_L10 G mc ms b Q (d + 1) h' (0 + 1) (0 + 4) (nI (c_sum (fun y => y.2.1 4) (C.2.1.take i)) + nI 0) (some it)
        rw [nI_add]
        exact this
      · have e : y.2.1 4 = 1 := by
          rcases Nat.lt_or_ge (y.2.1 4) 1 with q | q
          · exact absurd (by rw [show y.2.1 4 = 0 by omega]; rfl) z
          · omega
        rw [e] at this
        rw [nI_1]
        exact this
  have := main C.2.1.length 0 h2 (by omega) (q_sp.nw hit hh2) hi2
  exact ⟨_, this⟩
theorem q_fl.len {tt : Nat × Nat} {a : Nat} {fis : List FI} (hl : q_fl G h ρ tt a fis) : ∃ xs, q_ls G h ρ tt a xs ∧ xs.length = fis.length ∧ (∃ fs, h a = some (.inr (4, fs))) ∧ fis.length < 10000 := by
  obtain ⟨xs, h1, h2, -⟩ := hl
  exact ⟨xs, h1, h2, h1.ob, by have := h1.2.1; omega⟩
theorem sp_X2_reasons {mc ms : Nat} {Q : Int32 → HH → Prop} (hb : q_bk G h ρ k b w C) (hc : 1 ≤ mc) (hms : 4 ≤ ms)
    (hQ : ∀ h', q_sp q_no h h' → Q (nI (c_sum (fun y => y.2.2.1.length) C.2.1)) h') : wp_X2_reasons G mc ms h b Q := by
  obtain ⟨lr, lf, g1, g3, g2, ⟨fs3, g5⟩, ⟨fs4, g4⟩⟩ := hb.len
  unfold wp_X2_reasons
  refine w_geta_of g1 rfl <| w_nn_of ⟨1, 4, by omega, by omega, w_is_of g4 <| sp_J2_iterator g2 (by omega) (by omega) (fun it h2 hit hh2 hi2 => ?_)⟩
  have main : ∀ d i h1, i + d = C.2.1.length → q_sp q_no h h1 → q_it h1 lf it i → wp_X2_reasons_L10 G mc ms b Q (d + 1) h1 (0 + 1) (0 + 4) (nI (c_sum (fun y => y.2.2.1.length) (C.2.1.take i))) (some it) := by
    intro d
    induction d with
    | zero =>
      intro i h1 hd hs hi
      unfold wp_X2_reasons_L10
      refine w_nn_of <| q_eachF (g2.kp (q_no_kp hs) rfl) hi (by omega) (fun _ => ?_) (fun y h' hy => ?_)
      · rw [List.take_of_length_le (by omega)]
        exact hQ h1 hs
      · have := (List.getElem?_eq_some_iff.mp hy).1
        omega
    | succ d ih =>
      intro i h1 hd hs hi
      unfold wp_X2_reasons_L10
      refine w_nn_of <| q_eachF (g2.kp (q_no_kp hs) rfl) hi (by omega) (fun z => by omega) (fun y h' hy hh hi' => ?_)
      have hs' := hs.nx hit hh
      obtain ⟨-, l1, l2, hc, hfl, -⟩ := ((hb.kp (q_no_kp hs')).fact hy).1
      obtain ⟨xs, e1, e2, ⟨fs, e3⟩, -⟩ := hfl.len
      have := ih (i + 1) h' (by omega) hs' hi'
      rw [c_sum_take hy] at this
      refine w_cast_of hc <| w_geta_of hc rfl <| w_nn_of <| w_is_of e3 <| sp_J2_size e1 ?_
      rw [nI_add, e2]
      exact this
  have := main C.2.1.length 0 h2 (by omega) (q_sp.nw hit hh2) hi2
  exact ⟨_, this⟩
end FIND
/-! depths: the plain part -/
def c_T (C : CC) (n : Nat) : Prop := ∃ y ∈ C.2.1, y.2.1 0 = n ∧ y.2.1 4 = 1
def c_R (C : CC) (m a : Nat) (o : Option Nat) : Prop := ∃ y ∈ C.2.1, y.2.1 0 = m ∧ ∃ fi ∈ y.2.2.1, fi.2.1 = a ∧ fi.2.2 = o
/-- the facts of reasons are there -/
def c_cl (C : CC) : Prop := ∀ y ∈ C.2.1, ∀ fi ∈ y.2.2.1, (∃ z ∈ C.2.1, z.2.1 0 = fi.2.1) ∧ ∀ n, fi.2.2 = some n → ∃ z ∈ C.2.1, z.2.1 0 = n
def c_ixL (m : Nat) : List CF → Nat
  | [] => 0
  | y :: ys => if y.2.1 0 = m then 0 else c_ixL m ys + 1
theorem c_ixL_of {m : Nat} : ∀ {ys : List CF} {i : Nat} {y : CF}, ys[i]? = some y → y.2.1 0 = m → (∀ (j : Nat) (z : CF), j < i → ys[j]? = some z → z.2.1 0 ≠ m) → c_ixL m ys = i
  | [], i, y, h, _, _ => by cases h
  | z :: ys, 0, y, h, hm, _ => by
    cases h
    unfold c_ixL
    rw [if_pos hm]
  | z :: ys, i + 1, y, h, hm, hno => by
    unfold c_ixL
    rw [if_neg (hno 0 z (by omega) rfl)]
    have := c_ixL_of (ys := ys) (i := i) (y := y) (by simpa using h) hm (fun j z' hj hz => hno (j + 1) z' (by omega) (by simpa using hz))
    rw [this]
def c_ix (C : CC) (m : Nat) : Nat := c_ixL m C.2.1
theorem c_un {C : CC} (hok : c_ok C) {i j : Nat} {y z : CF} (hi : C.2.1[i]? = some y) (hj : C.2.1[j]? = some z) (e : y.2.1 0 = z.2.1 0) : i = j := by
  rcases Nat.lt_trichotomy i j with q | q | q
  · have := hok.2.2.2.2.1 i j y z hi hj q
    omega
  · exact q
  · have := hok.2.2.2.2.1 j i z y hj hi q
    omega
theorem c_unM {C : CC} (hok : c_ok C) {y z : CF} (hi : y ∈ C.2.1) (hj : z ∈ C.2.1) (e : y.2.1 0 = z.2.1 0) : y = z := by
  obtain ⟨i, h1⟩ := List.getElem?_of_mem hi
  obtain ⟨j, h2⟩ := List.getElem?_of_mem hj
  have := c_un hok h1 h2 e
  rw [this, h2] at h1
  exact (Option.some.inj h1).symm
theorem c_ix_of {C : CC} (hok : c_ok C) {i : Nat} {y : CF} (hi : C.2.1[i]? = some y) : c_ix C (y.2.1 0) = i :=
  c_ixL_of hi rfl (fun j z hj hz e => by
    have := c_un hok hz hi e
    omega)
def c_val (C : CC) (D : Nat → Nat) : Option Nat → Nat
  | none => 0
  | some m => D (c_ix C m)
def dp_up (D : Nat → Nat) (i v : Nat) : Nat → Nat := fun j => if j = i then v else D j
def dp_I (C : CC) (D : Nat → Nat) : Prop := ∀ (i : Nat) (y : CF), C.2.1[i]? = some y → D i ≤ 1000 ∧ (y.2.1 4 = 1 → D i = 0) ∧ (D i < 1000 → dv_d (c_T C) (c_R C) (y.2.1 0) (D i))
theorem dp_I.val {C : CC} {D : Nat → Nat} (hok : c_ok C) (hI : dp_I C D) {o : Option Nat} {m : Nat} (ho : o = some m) (hin : ∃ z ∈ C.2.1, z.2.1 0 = m) (hlt : c_val C D o < 1000) : dv_d (c_T C) (c_R C) m (c_val C D o) := by
  subst ho
  obtain ⟨z, hz, rfl⟩ := hin
  obtain ⟨i, hi⟩ := List.getElem?_of_mem hz
  have e := c_ix_of hok hi
  simp only [c_val, e] at hlt ⊢
  exact (hI i z hi).2.2 hlt
theorem dp_I.dep {C : CC} {D : Nat → Nat} (hok : c_ok C) (hcl : c_cl C) (hI : dp_I C D) {i : Nat} {y : CF} {fi : FI} (hy : C.2.1[i]? = some y) (hfi : fi ∈ y.2.2.1) (hlt : 1 + max (c_val C D (some fi.2.1)) (c_val C D fi.2.2) < 1000) : dv_d (c_T C) (c_R C) (y.2.1 0) (1 + max (c_val C D (some fi.2.1)) (c_val C D fi.2.2)) := by
  have hym := List.mem_of_getElem? hy
  obtain ⟨c1, c2⟩ := hcl y hym fi hfi
  have h1 := hI.val hok (o := some fi.2.1) rfl c1 (by omega)
  refine dv_d.step (b := fi.2.2) (d := max (c_val C D (some fi.2.1)) (c_val C D fi.2.2)) ⟨y, hym, rfl, fi, hfi, rfl, rfl⟩ (h1.mono (Nat.le_max_left _ _)) (fun c hc => ?_) (by omega)
  have h2 := hI.val hok hc (c2 c hc) (by omega)
  exact h2.mono (Nat.le_max_right _ _)
theorem dp_I.step {C : CC} {D : Nat → Nat} (hok : c_ok C) (hcl : c_cl C) (hI : dp_I C D) {i : Nat} {y : CF} {fi : FI} (hy : C.2.1[i]? = some y) (hfi : fi ∈ y.2.2.1) : dp_I C (dp_up D i (min (D i) (1 + max (c_val C D (some fi.2.1)) (c_val C D fi.2.2)))) := by
  intro j z hz
  unfold dp_up
  by_cases q : j = i
  · subst q
    rw [hy] at hz
    cases hz
    rw [if_pos rfl]
    obtain ⟨h1, h2, h3⟩ := hI j y hy
    refine ⟨by omega, fun q => by have := h2 q; omega, fun q => ?_⟩
    rcases Nat.lt_or_ge (1 + max (c_val C D (some fi.2.1)) (c_val C D fi.2.2)) (D j) with g | g
    · rw [Nat.min_eq_right (by omega)]
      exact hI.dep hok hcl hy hfi (by omega)
    · rw [Nat.min_eq_left g] at q ⊢
      exact h3 q
  · rw [if_neg q]
    exact hI j z hz
theorem c_val_le {C : CC} {D D' : Nat → Nat} (h : ∀ i, D i ≤ D' i) {o : Option Nat} : c_val C D o ≤ c_val C D' o := by
  cases o with
  | none => exact Nat.le_refl _
  | some m => exact h _
/-- within a pass: what has been done by now -/
def dp_P (C : CC) (Ds D : Nat → Nat) (i j : Nat) : Prop := (∀ i', D i' ≤ Ds i') ∧ ∀ (i' : Nat) (y' : CF), C.2.1[i']? = some y' → ∀ (j' : Nat) (fi : FI), y'.2.2.1[j']? = some fi → (i' < i ∨ i' = i ∧ j' < j) → D i' ≤ 1 + max (c_val C Ds (some fi.2.1)) (c_val C Ds fi.2.2)
theorem dp_P.step {C : CC} {Ds D : Nat → Nat} {i j : Nat} {y : CF} {fi : FI} (hP : dp_P C Ds D i j) (hy : C.2.1[i]? = some y) (hfi : y.2.2.1[j]? = some fi) : dp_P C Ds (dp_up D i (min (D i) (1 + max (c_val C D (some fi.2.1)) (c_val C D fi.2.2)))) i (j + 1) := by
  have hle : ∀ i', dp_up D i (min (D i) (1 + max (c_val C D (some fi.2.1)) (c_val C D fi.2.2))) i' ≤ D i' := by
    intro i'
    unfold dp_up
    split
    · next q => rw [q]; exact Nat.min_le_left _ _
    · exact Nat.le_refl _
  refine ⟨fun i' => Nat.le_trans (hle i') (hP.1 i'), fun i' y' hy' j' fi' hfi' hlt => ?_⟩
  by_cases q : i' = i ∧ j' = j
  · obtain ⟨rfl, rfl⟩ := q
    rw [hy] at hy'
    cases hy'
    rw [hfi] at hfi'
    cases hfi'
    have h1 := c_val_le (C := C) hP.1 (o := some fi.2.1)
    have h2 := c_val_le (C := C) hP.1 (o := fi.2.2)
    unfold dp_up
    rw [if_pos rfl]
    omega
  · exact Nat.le_trans (hle i') (hP.2 i' y' hy' j' fi' hfi' (by omega))
theorem dp_P.next {C : CC} {Ds D : Nat → Nat} {i j : Nat} {y : CF} (hP : dp_P C Ds D i j) (hy : C.2.1[i]? = some y) (hj : y.2.2.1.length ≤ j) : dp_P C Ds D (i + 1) 0 := by
  refine ⟨hP.1, fun i' y' hy' j' fi' hfi' hlt => hP.2 i' y' hy' j' fi' hfi' ?_⟩
  by_cases q : i' = i
  · subst q
    rw [hy] at hy'
    cases hy'
    have := (List.getElem?_eq_some_iff.mp hfi').1
    omega
  · omega
def dp_3 (C : CC) (D : Nat → Nat) (k : Nat) : Prop := ∀ (i : Nat) (y : CF), C.2.1[i]? = some y → ∀ d, d ≤ k → dv_d (c_T C) (c_R C) (y.2.1 0) d → D i ≤ d
theorem dp_3.val {C : CC} {D : Nat → Nat} {k : Nat} (hok : c_ok C) (h3 : dp_3 C D k) {m d : Nat} (hin : ∃ z ∈ C.2.1, z.2.1 0 = m) (hd : d ≤ k) (h : dv_d (c_T C) (c_R C) m d) : c_val C D (some m) ≤ d := by
  obtain ⟨z, hz, rfl⟩ := hin
  obtain ⟨i, hi⟩ := List.getElem?_of_mem hz
  simp only [c_val, c_ix_of hok hi]
  exact h3 i z hi d hd h
theorem dp_3.next {C : CC} {Ds D : Nat → Nat} {k : Nat} (hok : c_ok C) (hcl : c_cl C) (h3 : dp_3 C Ds k) (hI : dp_I C D) (hP : dp_P C Ds D C.2.1.length 0) : dp_3 C D (k + 1) := by
  intro i y hy d hd hdv
  have hym := List.mem_of_getElem? hy
  rcases hdv.inv with ⟨y', hy', e1, e2⟩ | ⟨a, b, d0, ⟨y', hy', e1, fi, hfi, rfl, rfl⟩, hlt, ha, hb⟩
  · have := c_unM hok hy' hym e1
    subst this
    rw [(hI i y' hy).2.1 e2]
    exact Nat.zero_le _
  · have := c_unM hok hy' hym e1
    subst this
    obtain ⟨j, hj⟩ := List.getElem?_of_mem hfi
    have h1 := hP.2 i y' hy j fi hj (Or.inl (List.getElem?_eq_some_iff.mp hy).1)
    obtain ⟨c1, c2⟩ := hcl y' hym fi hfi
    have h2 := h3.val hok c1 (by omega) ha
    have h4 : c_val C Ds fi.2.2 ≤ d0 := by
      cases e : fi.2.2 with
      | none => exact Nat.zero_le _
      | some m => exact h3.val hok (c2 m e) (by omega) (hb m e)
    omega
theorem dp_3.stop {C : CC} {Ds D : Nat → Nat} {i : Nat} {y : CF} {fi : FI} (hok : c_ok C) (hcl : c_cl C) (h3 : dp_3 C Ds 19) (hI : dp_I C D) (hD : ∀ i, D i ≤ Ds i) (hy : C.2.1[i]? = some y) (hfi : fi ∈ y.2.2.1) : D i ≤ 1 + max (c_val C D (some fi.2.1)) (c_val C D fi.2.2) := by
  rcases Nat.lt_or_ge (1 + max (c_val C D (some fi.2.1)) (c_val C D fi.2.2)) (D i) with g | g
  · have h1 := (hI i y hy).1
    have h2 := hI.dep hok hcl hy hfi (by omega)
    obtain ⟨l, hl⟩ := h2.g.l
    have h5 := hl.2 _ h2
    have h6 := dv_l.lt (N := C.2.1.map (fun y => y.2.1 0)) (fun n hn => by
      obtain ⟨y, h1, h2, -⟩ := hn
      exact List.mem_map.mpr ⟨y, h1, h2⟩) (fun m a b hm => by
      obtain ⟨y, h1, h2, -⟩ := hm
      exact List.mem_map.mpr ⟨y, h1, h2⟩) hl
    rw [List.length_map] at h6
    have := hok.2.2.2.1
    have h7 := h3 i y hy l (by omega) hl.1
    have := hD i
    omega
  · exact g
/-- what depths answers -/
def c_dep (C : CC) (D : Nat → Nat) : Prop := ∀ (i : Nat) (y : CF), C.2.1[i]? = some y → (∀ d, dv_l (c_T C) (c_R C) (y.2.1 0) d → D i = d) ∧ (¬ dv_g (c_T C) (c_R C) (y.2.1 0) → D i = 1000) ∧ (dv_g (c_T C) (c_R C) (y.2.1 0) → D i < 20)
theorem dp_end {C : CC} {D : Nat → Nat} (hok : c_ok C) (hcl : c_cl C) (hI : dp_I C D) (hP : dp_P C D D C.2.1.length 0) : c_dep C D := by
  have key : ∀ n d, dv_d (c_T C) (c_R C) n d → ∀ (i : Nat) (y : CF), C.2.1[i]? = some y → y.2.1 0 = n → D i ≤ d := by
    intro n d h
    refine h (fun n d => ∀ (i : Nat) (y : CF), C.2.1[i]? = some y → y.2.1 0 = n → D i ≤ d) ?_ ?_
    · rintro n d ⟨y', hy', e1, e2⟩ i y hy e
      have := c_unM hok hy' (List.mem_of_getElem? hy) (by omega)
      subst this
      rw [(hI i y' hy).2.1 e2]
      exact Nat.zero_le _
    · rintro m a b d d' ⟨y', hy', e1, fi, hfi, rfl, rfl⟩ ha hb hlt i y hy e
      have := c_unM hok hy' (List.mem_of_getElem? hy) (by omega)
      subst this
      obtain ⟨j, hj⟩ := List.getElem?_of_mem hfi
      have h1 := hP.2 i y' hy j fi hj (Or.inl (List.getElem?_eq_some_iff.mp hy).1)
      obtain ⟨⟨z, hz, ez⟩, c2⟩ := hcl y' hy' fi hfi
      obtain ⟨iz, hiz⟩ := List.getElem?_of_mem hz
      have h2 : c_val C D (some fi.2.1) ≤ d := by
        rw [← ez]
        simp only [c_val, c_ix_of hok hiz]
        exact ha iz z hiz ez
      have h4 : c_val C D fi.2.2 ≤ d := by
        cases e : fi.2.2 with
        | none => exact Nat.zero_le _
        | some m =>
          obtain ⟨z, hz, ez⟩ := c2 m e
          obtain ⟨iz, hiz⟩ := List.getElem?_of_mem hz
          rw [← ez]
          simp only [c_val, c_ix_of hok hiz]
          exact hb m e iz z hiz ez
      omega
  intro i y hy
  obtain ⟨h1, h2, h3⟩ := hI i y hy
  have hex : ∀ d, dv_l (c_T C) (c_R C) (y.2.1 0) d → D i = d := by
    intro d hd
    have h4 := key _ d hd.1 i y hy rfl
    have h6 := dv_l.lt (N := C.2.1.map (fun y => y.2.1 0)) (fun n hn => by
      obtain ⟨y, h1, h2, -⟩ := hn
      exact List.mem_map.mpr ⟨y, h1, h2⟩) (fun m a b hm => by
      obtain ⟨y, h1, h2, -⟩ := hm
      exact List.mem_map.mpr ⟨y, h1, h2⟩) hd
    rw [List.length_map] at h6
    have := hok.2.2.2.1
    have h5 := hd.2 _ (h3 (by omega))
    omega
  refine ⟨hex, fun hg => ?_, fun hg => ?_⟩
  · rcases Nat.lt_or_ge (D i) 1000 with q | q
    · exact absurd (h3 q).g hg
    · omega
  · obtain ⟨l, hl⟩ := hg.l
    have h6 := dv_l.lt (N := C.2.1.map (fun y => y.2.1 0)) (fun n hn => by
      obtain ⟨y, h1, h2, -⟩ := hn
      exact List.mem_map.mpr ⟨y, h1, h2⟩) (fun m a b hm => by
      obtain ⟨y, h1, h2, -⟩ := hm
      exact List.mem_map.mpr ⟨y, h1, h2⟩) hl
    rw [List.length_map] at h6
    have := hok.2.2.2.1
    rw [hex l hl]
    omega
/-! depths: in the heap -/
theorem nI_max {a b : Nat} (ha : a < 2 ^ 31) (hb : b < 2 ^ 31) : (if nI a < nI b then nI b else nI a) = nI (max a b) := by
  by_cases q : a < b
  · rw [if_pos (nI_lt q hb), Nat.max_eq_right (by omega)]
  · rw [if_neg (nI_nlt (by omega) ha), Nat.max_eq_left (by omega)]
theorem nI_min {a b : Nat} (ha : a < 2 ^ 31) (hb : b < 2 ^ 31) : (if nI b < nI a then nI b else nI a) = nI (min a b) := by
  by_cases q : b < a
  · rw [if_pos (nI_lt q ha), Nat.min_eq_right (by omega)]
  · rw [if_neg (nI_nlt (by omega) hb), Nat.min_eq_left (by omega)]
section DEP
variable {G : GG} {h h0 : HH} {ρ : RO} {k b w p t : Nat} {C : CC}
theorem sp_X2_depth {mc ms a2 : Nat} {f : Nat → Int32} {D : Nat → Nat} {o : Option Nat} {Q : Int32 → HH → Prop} (hb : q_bk G h ρ k b w C) (hok : c_ok C) (hc : 1 ≤ mc) (hms : 4 ≤ ms) (harr : h a2 = some (.inl (G.2.1 0, C.2.1.length, .inl f))) (hf : ∀ i, i < C.2.1.length → f i = nI (D i)) (hin : ∀ m, o = some m → ∃ z ∈ C.2.1, z.2.1 0 = m)
    (hQ : ∀ h', q_sp q_no h h' → Q (nI (c_val C D o)) h') : wp_X2_depth G mc ms h b (nO o) (some a2) Q := by
  obtain ⟨lr, lf, g1, g3, g2, ⟨fs3, g5⟩, ⟨fs4, g4⟩⟩ := hb.len
  unfold wp_X2_depth
  cases o with
  | none => exact ⟨fun z => absurd rfl z, fun _ => hQ h q_sp.rf⟩
  | some m =>
    obtain ⟨z, hz, ez⟩ := hin m rfl
    have hm := hok.2.2.2.2.2.1 z hz
    refine ⟨fun _ => w_geta_of g1 rfl ⟨1, 4, by omega, by omega, w_is_of g1 <| sp_X2_find hb (by omega) (by omega) (fun h' i y hs hy e => ?_) (fun h' hs hno => absurd (show nI (z.2.1 0) = nO (some m) by rw [ez]; rfl) (hno z hz))⟩, fun q => absurd q (nO_neg (by omega))⟩
    have hyn := hok.2.2.2.2.2.1 y (List.mem_of_getElem? hy)
    have e1 : y.2.1 0 = m := (nI_eq (by omega) (by omega)).mp e
    have hlt := (List.getElem?_eq_some_iff.mp hy).1
    have := hok.2.2.2.1
    have hb' := hb.kp (q_no_kp hs)
    refine w_nn_of <| w_is_of (hs lf _ g4 q_no.not) <| sp_facts_indexOf hb' hok (g2.kp (q_no_kp hs) rfl) hy <| w_nn_of <| w_ild_of (hs a2 _ harr q_no.not) hlt (by omega) ?_
    rw [hf i hlt]
    have e2 := hQ h' hs
    rw [← e1] at e2
    simp only [c_val, c_ix_of hok hy] at e2
    exact e2
theorem sp_X2_depths {mc ms : Nat} {Q : Option Nat → HH → Prop} (hb : q_bk G h ρ k b w C) (hok : c_ok C) (hcl : c_cl C) (h41 : ∀ y ∈ C.2.1, y.2.1 4 ≤ 1)
    (hmc : 1 + 20 * (C.2.1.length + 2 * c_sum (fun y => y.2.2.1.length) C.2.1) ≤ mc) (hms : C.2.1.length + 80 * (C.2.1.length + 2 * c_sum (fun y => y.2.2.1.length) C.2.1) ≤ ms)
    (hQ : ∀ h' da f D, h da = none → q_sp q_no h h' → h' da = some (.inl (G.2.1 0, C.2.1.length, .inl f)) → (∀ i, i < C.2.1.length → f i = nI (D i)) → c_dep C D → Q (some da) h') : wp_X2_depths G mc ms h b Q := by
  obtain ⟨lr, lf, g1, g3, g2, ⟨fs3, g5⟩, ⟨fs4, g4⟩⟩ := hb.len
  have hl20 := hok.2.2.2.1
  generalize hR : c_sum (fun y => y.2.2.1.length) C.2.1 = R at *
  generalize hP : C.2.1.length + 2 * R = P at *
  unfold wp_X2_depths
  refine w_geta_of g1 rfl <| w_nn_of <| w_is_of g4 <| sp_J2_size g2 ?_
  rw [List.length_map, nI_clamp (by omega)]
  refine ⟨nI_pos (by omega), by omega, by omega, by omega, fun da hda => ?_⟩
  -- a place's value put
  have put : ∀ {h1 : HH} {f : Nat → Int32} {D : Nat → Nat} {i v : Nat}, q_sp q_no h h1 → h1 da = some (.inl (G.2.1 0, C.2.1.length, .inl f)) → (∀ i, i < C.2.1.length → f i = nI (D i)) → i < C.2.1.length →
      q_sp q_no h (va_up h1 da (some (.inl (G.2.1 0, C.2.1.length, .inl (upd f i (nI v)))))) ∧ (∀ j, j < C.2.1.length → upd f i (nI v) j = nI (dp_up D i v j)) := by
    intro h1 f D i v hs h1a hf hi
    refine ⟨fun c e hc _ => by rw [q_h_ne (q_new_ne hda hc)]; exact hs c e hc q_no.not, fun j hj => ?_⟩
    unfold dp_up
    by_cases q : j = i
    · rw [if_pos q, q]
      exact pk_us
    · rw [if_neg q, pk_un q]
      exact hf j hj
  -- one reason after another
  have inner : ∀ (kp i : Nat) (y : CF) (Ds : Nat → Nat) (k61 : HH → Nat → Nat → Nat → Int32 → Int32 → Prop) (it2 : Nat) (xs : List Nat) (lr2 : Nat), C.2.1[i]? = some y → kp ≤ 19 → dp_3 C Ds kp →
      (∀ h1 nc nk f D fl, q_sp q_no h h1 → h1 da = some (.inl (G.2.1 0, C.2.1.length, .inl f)) → (∀ i, i < C.2.1.length → f i = nI (D i)) → dp_I C D → dp_P C Ds D (i + 1) 0 → (fl = false → ∀ i, D i = Ds i) → (fl = true → kp < 19) → nc ≤ 1 + kp * P + (i + 1) + 2 * c_sum (fun y => y.2.2.1.length) (C.2.1.take (i + 1)) → nk + 4 = C.2.1.length + 4 * nc → k61 h1 nc nk da (if fl then 1 else 0) (nI (i + 1))) →
      ∀ d j h1 nc nk f D fl, j + d = y.2.2.1.length → q_sp q_no h h1 → h1 da = some (.inl (G.2.1 0, C.2.1.length, .inl f)) → (∀ i, i < C.2.1.length → f i = nI (D i)) → dp_I C D → dp_P C Ds D i j → (fl = false → ∀ i, D i = Ds i) → (fl = true → kp < 19) → nc ≤ 1 + kp * P + (i + 1) + 2 * (c_sum (fun y => y.2.2.1.length) (C.2.1.take i) + j) → nk + 4 = C.2.1.length + 4 * nc → h it2 = none → q_it h1 lr2 it2 j → q_ls G h ρ (k, 8 + 5 * y.2.1 0 + 1) lr2 xs → xs.length = y.2.2.1.length → (∀ (i x1 : Nat) (fi : FI), xs[i]? = some x1 → y.2.2.1[i]? = some fi → q_fi h ρ x1 fi) →
        wp_X2_depths_L86 G mc ms b Q k61 (d + 1) h1 nc nk da (if fl then 1 else 0) (nI i) (some it2) := by
    intro kp i y Ds k61 it2 xs lr2 hy hkp h3 hk d
    have hi := (List.getElem?_eq_some_iff.mp hy).1
    have hym := List.mem_of_getElem? hy
    have hsum : c_sum (fun y => y.2.2.1.length) (C.2.1.take (i + 1)) = c_sum (fun y => y.2.2.1.length) (C.2.1.take i) + y.2.2.1.length := c_sum_take hy
    have hsumR : c_sum (fun y => y.2.2.1.length) (C.2.1.take (i + 1)) ≤ R := by
      rw [← hR]
      have : ∀ (n : Nat) (ys : List CF), c_sum (fun y => y.2.2.1.length) (ys.take n) ≤ c_sum (fun y => y.2.2.1.length) ys := by
        intro n
        induction n with
        | zero => intro ys; simp [c_sum]
        | succ n ih =>
          intro ys
          cases ys with
          | nil => simp
          | cons z zs =>
            simp only [List.take_succ_cons, c_sum]
            have := ih zs
            omega
      exact this _ _
    have hkP : kp * P + P ≤ 20 * P := by
      have : (kp + 1) * P ≤ 20 * P := Nat.mul_le_mul_right _ (by omega)
      rw [Nat.add_mul] at this
      omega
    induction d with
    | zero =>
      intro j h1 nc nk f D fl hd hs harr hf hI hPj hfl hfl2 hnc hnk hit hi2 hls hxs hfis
      unfold wp_X2_depths_L86
      refine w_nn_of <| q_eachK (hls.kp (q_no_kp hs) rfl) hxs hi2 (by omega) (fun _ => ?_) (fun x1 fi h' hx hfi => ?_)
      · rw [nI_1]
        exact hk h1 nc nk f D fl hs harr hf hI (hPj.next hy (by omega)) hfl hfl2 (by omega) hnk
      · have := (List.getElem?_eq_some_iff.mp hfi).1
        omega
    | succ d ih =>
      intro j h1 nc nk f D fl hd hs harr hf hI hPj hfl hfl2 hnc hnk hit hi2 hls hxs hfis
      unfold wp_X2_depths_L86
      refine w_nn_of <| q_eachK (hls.kp (q_no_kp hs) rfl) hxs hi2 (by omega) (fun z => by omega) (fun x1 fi h' hx hfi hh hi' => ?_)
      have hs' := hs.nx hit hh
      have hfim := List.mem_of_getElem? hfi
      have hda2 : da ≠ it2 := fun z => by
        obtain ⟨fs, e⟩ := hi2.ob
        rw [← z, harr] at e
        cases e
      have harr' : h' da = _ := (hh da hda2).trans harr
      obtain ⟨-, hfc⟩ := (hfis j x1 fi hx hfi).kp (q_no_kp (G := G) (k := k) hs')
      obtain ⟨c1, c2⟩ := hcl y hym fi hfim
      have hb' := hb.kp (q_no_kp hs')
      have b1' := hs' b _ g1 q_no.not
      refine w_cast_of hfc <| w_geti_of hfc rfl ⟨1, 4, by omega, by omega, w_is_of b1' <| sp_X2_depth (o := some fi.2.1) hb' hok (by omega) (by omega) harr' hf (fun m hm => by cases hm; exact c1) (fun h2 hs2 => ?_)⟩
      refine w_geti_of (hs2 x1 _ hfc q_no.not) rfl ⟨1, 4, by omega, by omega, w_is_of (hs2 b _ b1' q_no.not) <| sp_X2_depth (hb'.kp (q_no_kp hs2)) hok (by omega) (by omega) (hs2 da _ harr' q_no.not) hf (fun m hm => c2 m hm) (fun h3 hs3 => ?_)⟩
      have hs23 := hs2.tr hs3
      have hs03 := hs'.tr hs23
      have harr3 := hs23 da _ harr' q_no.not
      have hi3 := hi'.sp hs23 q_no.not q_no.not
      have v1 : c_val C D (some fi.2.1) ≤ 1000 := by
        obtain ⟨z, hz, ez⟩ := c1
        obtain ⟨iz, hiz⟩ := List.getElem?_of_mem hz
        rw [← ez]
        simp only [c_val, c_ix_of hok hiz]
        exact (hI iz z hiz).1
      have v2 : c_val C D fi.2.2 ≤ 1000 := by
        cases e : fi.2.2 with
        | none => exact Nat.zero_le _
        | some m =>
          obtain ⟨z, hz, ez⟩ := c2 m e
          obtain ⟨iz, hiz⟩ := List.getElem?_of_mem hz
          rw [← ez]
          simp only [c_val, c_ix_of hok hiz]
          exact (hI iz z hiz).1
      have hDi := (hI i y hy).1
      have edep : (1 : Int32) + (if nI (c_val C D (some fi.2.1)) < nI (c_val C D fi.2.2) then nI (c_val C D fi.2.2) else nI (c_val C D (some fi.2.1))) = nI (1 + max (c_val C D (some fi.2.1)) (c_val C D fi.2.2)) := by
        rw [nI_max (by omega) (by omega), ← nI_add]
        rfl
      rw [edep]
      refine w_ild_of harr3 hi (by omega) ?_
      rw [hf i hi]
      have fin : ∀ fl2, (fl2 = true ↔ 1 + max (c_val C D (some fi.2.1)) (c_val C D fi.2.2) < D i) → wp_X2_depths_L149 G mc ms b Q (fun h nc nk x1 x2 x3 x4 => wp_X2_depths_L86 G mc ms b Q k61 (d + 1) h nc nk x1 x2 x3 x4) h3 ((nc + 1) + 1) ((nk + 4) + 4) da (nI i) it2 (nI (1 + max (c_val C D (some fi.2.1)) (c_val C D fi.2.2))) (if fl then 1 else 0) (if fl2 then 1 else 0) := by
        intro fl2 hfl3
        unfold wp_X2_depths_L149
        refine w_ild_of harr3 hi (by omega) ?_
        rw [hf i hi, nI_min (by omega) (by omega)]
        obtain ⟨p1, p2⟩ := put (v := min (D i) (1 + max (c_val C D (some fi.2.1)) (c_val C D fi.2.2))) hs03 harr3 hf hi
        refine w_ist_of harr3 hi (by omega) ?_
        rw [q_or]
        refine ih (j + 1) _ _ _ _ _ (fl || fl2) (by omega) p1 q_h_same p2 (hI.step hok hcl hy hfim) (hPj.step hy hfi) (fun e => ?_) (fun e => ?_) (by omega) (by omega) hit ?_ hls hxs hfis
        · simp only [Bool.or_eq_false_iff] at e
          intro i'
          have h9 := hfl e.1 i'
          unfold dp_up
          split
          · next q =>
            rw [q]
            rw [q] at h9
            have : ¬ 1 + max (c_val C D (some fi.2.1)) (c_val C D fi.2.2) < D i := fun z => by
              rw [hfl3.mpr z] at e
              exact absurd e.2 (by decide)
            omega
          · exact h9
        · rcases Nat.lt_or_ge kp 19 with q | q
          · exact q
          · have hk19 : kp = 19 := by omega
            subst hk19
            cases hfl9 : fl with
            | true => exact hfl2 hfl9
            | false =>
              rw [hfl9] at e
              have := hfl3.mp (by simpa using e)
              have := dp_3.stop hok hcl h3 hI hPj.1 hy hfim
              omega
        · obtain ⟨lr9, mc9, arr9, n9, e1, e2⟩ := id hi3
          refine ⟨lr9, mc9, arr9, n9, ?_, ?_⟩
          · rw [q_h_ne (q_c_ne e1 harr3 (by intro q; cases q))]
            exact e1
          · rw [q_h_ne (q_c_ne e2 harr3 (by intro q; cases q))]
            exact e2
      rw [nI_leI (by omega) (by omega)]
      exact ⟨fun z => fin false (by simp; omega), fun z => fin true (by simp; omega)⟩
  -- one fact after another
  have outer : ∀ (kp : Nat) (Ds : Nat → Nat) (k53 : HH → Nat → Nat → Nat → Int32 → Prop), kp ≤ 19 → dp_3 C Ds kp →
      (∀ h1 nc nk f D fl, q_sp q_no h h1 → h1 da = some (.inl (G.2.1 0, C.2.1.length, .inl f)) → (∀ i, i < C.2.1.length → f i = nI (D i)) → dp_I C D → dp_P C Ds D C.2.1.length 0 → (fl = false → ∀ i, D i = Ds i) → (fl = true → kp < 19) → nc ≤ 1 + (kp + 1) * P → nk + 4 = C.2.1.length + 4 * nc → k53 h1 nc nk da (if fl then 1 else 0)) →
      ∀ d i h1 nc nk f D fl, i + d = C.2.1.length → q_sp q_no h h1 → h1 da = some (.inl (G.2.1 0, C.2.1.length, .inl f)) → (∀ i, i < C.2.1.length → f i = nI (D i)) → dp_I C D → dp_P C Ds D i 0 → (fl = false → ∀ i, D i = Ds i) → (fl = true → kp < 19) → nc ≤ 1 + kp * P + i + 2 * c_sum (fun y => y.2.2.1.length) (C.2.1.take i) → nk + 4 = C.2.1.length + 4 * nc →
        wp_X2_depths_L61 G mc ms b Q k53 (d + 1) h1 nc nk da (if fl then 1 else 0) (nI i) := by
    intro kp Ds k53 hkp h3 hk d
    induction d with
    | zero =>
      intro i h1 nc nk f D fl hd hs harr hf hI hPj hfl hfl2 hnc hnk
      unfold wp_X2_depths_L61
      refine Or.inl ⟨0, _, by decide, harr, ?_⟩
      show (nI C.2.1.length ≤ nI i → _) ∧ (¬ nI C.2.1.length ≤ nI i → _)
      refine br_t (nI_le (by omega) (by omega)) (hk h1 nc nk f D fl hs harr hf hI ?_ hfl hfl2 ?_ hnk)
      · rw [show C.2.1.length = i by omega]; exact hPj
      · rw [List.take_of_length_le (by omega), hR] at hnc
        rw [Nat.add_mul]
        omega
    | succ d ih =>
      intro i h1 nc nk f D fl hd hs harr hf hI hPj hfl hfl2 hnc hnk
      have hi : i < C.2.1.length := by omega
      obtain ⟨y, hy⟩ : ∃ y, C.2.1[i]? = some y := ⟨_, List.getElem?_eq_getElem hi⟩
      have hkP : kp * P + P ≤ 20 * P := by
        have : (kp + 1) * P ≤ 20 * P := Nat.mul_le_mul_right _ (by omega)
        rw [Nat.add_mul] at this
        omega
      have hsumR : c_sum (fun y => y.2.2.1.length) (C.2.1.take (i + 1)) ≤ R := by
        rw [← hR]
        have : ∀ (n : Nat) (ys : List CF), c_sum (fun y => y.2.2.1.length) (ys.take n) ≤ c_sum (fun y => y.2.2.1.length) ys := by
          intro n
          induction n with
          | zero => intro ys; simp [c_sum]
          | succ n ih =>
            intro ys
            cases ys with
            | nil => simp
            | cons z zs =>
              simp only [List.take_succ_cons, c_sum]
              have := ih zs
              omega
        exact this _ _
      have hsum : c_sum (fun y => y.2.2.1.length) (C.2.1.take (i + 1)) = c_sum (fun y => y.2.2.1.length) (C.2.1.take i) + y.2.2.1.length := c_sum_take hy
      have hb1 := hb.kp (q_no_kp hs)
      obtain ⟨-, lr2, l2, hc, -, -⟩ := (hb1.fact hy).1
      obtain ⟨-, lr3, l3, hc0, ⟨xs, u1, u2, u3⟩, -⟩ := (hb.fact hy).1
      have hc1 := hs y.1 _ hc0 q_no.not
      rw [hc1] at hc
      cases hc
      unfold wp_X2_depths_L61
      refine Or.inl ⟨0, _, by decide, harr, ?_⟩
      show (nI C.2.1.length ≤ nI i → _) ∧ (¬ nI C.2.1.length ≤ nI i → _)
      refine br_f (nI_ge hi (by omega)) <| w_geta_of (hs b _ g1 q_no.not) rfl <| w_nn_of <| w_is_of (hs lf _ g4 q_no.not) <| sp_J2_get (g2.kp (q_no_kp hs) rfl) (hb.fact hy).2.1 <| w_nn_of <| w_cast_of hc1 <| w_geta_of hc1 rfl <| w_nn_of ⟨1, 4, by omega, by omega, ?_⟩
      obtain ⟨fs9, u9⟩ := u1.ob
      refine w_is_of (hs _ _ u9 q_no.not) <| sp_J2_iterator (u1.kp (q_no_kp hs) rfl) (by omega) (by omega) (fun it2 h2 hit hh2 hi2 => ?_)
      have hit0 : h it2 = none := by
        cases e : h it2 with
        | none => rfl
        | some e' =>
          rw [hs it2 e' e q_no.not] at hit
          cases hit
      have hda2 : da ≠ it2 := q_new_ne hit harr
      exact ⟨_, inner kp i y Ds _ it2 xs _ hy hkp h3 (fun h1 nc nk f D fl a1 a2 a3 a4 a5 a6 a7 a8 a9 => ih (i + 1) h1 nc nk f D fl (by omega) a1 a2 a3 a4 a5 a6 a7 (by omega) a9) y.2.2.1.length 0 h2 (nc + 1) (nk + 4) f D fl (by omega) (hs.nx hit0 hh2) ((hh2 da hda2).trans harr) hf hI hPj hfl hfl2 (by omega) (by omega) hit0 hi2 u1 u2 u3⟩
  -- pass after pass
  have pass : ∀ d kp h1 nc nk f D, kp + d = 19 → q_sp q_no h h1 → h1 da = some (.inl (G.2.1 0, C.2.1.length, .inl f)) → (∀ i, i < C.2.1.length → f i = nI (D i)) → dp_I C D → dp_3 C D kp → nc ≤ 1 + kp * P → nk + 4 = C.2.1.length + 4 * nc → wp_X2_depths_L53 G mc ms b Q (d + 2) h1 nc nk da 1 := by
    intro d
    induction d with
    | zero =>
      intro kp h1 nc nk f D hd hs harr hf hI h3 hnc hnk
      unfold wp_X2_depths_L53
      refine br_f (by decide) ⟨_, outer kp D _ (by omega) h3 (fun h1 nc nk f D' fl a1 a2 a3 a4 a5 a6 a7 a8 a9 => ?_) C.2.1.length 0 h1 nc nk f D false (by omega) hs harr hf hI ⟨fun _ => Nat.le_refl _, fun i' y' _ j' fi _ hlt => by omega⟩ (fun _ _ => rfl) (fun z => by cases z) (by simpa [c_sum] using hnc) hnk⟩
      cases fl with
      | true =>
        have := a7 rfl
        omega
      | false =>
        have e : D' = D := funext (a6 rfl)
        subst e
        show wp_X2_depths_L53 G mc ms b Q (0 + 1) h1 nc nk da 0
        unfold wp_X2_depths_L53
        exact br_t rfl (hQ h1 da f D' hda a1 a2 a3 (dp_end hok hcl a4 a5))
    | succ d ih =>
      intro kp h1 nc nk f D hd hs harr hf hI h3 hnc hnk
      unfold wp_X2_depths_L53
      refine br_f (by decide) ⟨_, outer kp D _ (by omega) h3 (fun h1 nc nk f D' fl a1 a2 a3 a4 a5 a6 a7 a8 a9 => ?_) C.2.1.length 0 h1 nc nk f D false (by omega) hs harr hf hI ⟨fun _ => Nat.le_refl _, fun i' y' _ j' fi _ hlt => by omega⟩ (fun _ _ => rfl) (fun z => by cases z) (by simpa [c_sum] using hnc) hnk⟩
      cases fl with
      | true => exact ih (kp + 1) h1 nc nk f D' (by omega) a1 a2 a3 a4 (h3.next hok hcl a4 a5) a8 a9
      | false =>
        have e : D' = D := funext (a6 rfl)
        subst e
        show wp_X2_depths_L53 G mc ms b Q (d + 1 + 1) h1 nc nk da 0
        unfold wp_X2_depths_L53
        exact br_t rfl (hQ h1 da f D' hda a1 a2 a3 (dp_end hok hcl a4 a5))
  -- the start
  have start : ∀ d i h1 f (D : Nat → Nat), i + d = C.2.1.length → q_sp q_no h h1 → h1 da = some (.inl (G.2.1 0, C.2.1.length, .inl f)) → (∀ j, j < i → f j = nI (D j)) → (∀ (j : Nat) (y : CF), C.2.1[j]? = some y → D j = if y.2.1 4 = 1 then 0 else 1000) → wp_X2_depths_L12 G mc ms b Q (d + 1) h1 (0 + 1) (0 + C.2.1.length) da (nI i) := by
    intro d
    induction d with
    | zero =>
      intro i h1 f D hd hs harr hf hD
      unfold wp_X2_depths_L12
      refine Or.inl ⟨0, _, by decide, harr, ?_⟩
      show (nI C.2.1.length ≤ nI i → _) ∧ (¬ nI C.2.1.length ≤ nI i → _)
      refine br_t (nI_le (by omega) (by omega)) ⟨_, pass 19 0 h1 (0 + 1) (0 + C.2.1.length) f D (by omega) hs harr (fun j hj => hf j (by omega)) (fun j y hy => ?_) (fun j y hy d hd hdv => ?_) (by omega) (by omega)⟩
      · rw [hD j y hy]
        by_cases q : y.2.1 4 = 1
        · rw [if_pos q]
          exact ⟨by omega, fun _ => rfl, fun _ => dv_d.told ⟨y, List.mem_of_getElem? hy, rfl, q⟩⟩
        · rw [if_neg q]
          exact ⟨by omega, fun z => absurd z q, fun z => by omega⟩
      · rw [hD j y hy]
        rcases hdv.inv with ⟨y', hy', e1, e2⟩ | ⟨a, b, d0, -, hlt, -⟩
        · have := c_unM hok hy' (List.mem_of_getElem? hy) e1
          subst this
          rw [if_pos e2]
          exact Nat.zero_le _
        · omega
    | succ d ih =>
      intro i h1 f D hd hs harr hf hD
      have hi : i < C.2.1.length := by omega
      obtain ⟨y, hy⟩ : ∃ y, C.2.1[i]? = some y := ⟨_, List.getElem?_eq_getElem hi⟩
      obtain ⟨l1, l2, hc⟩ := ((hb.kp (q_no_kp hs)).fact hy).1.c
      have h41y := h41 y (List.mem_of_getElem? hy)
      unfold wp_X2_depths_L12
      refine Or.inl ⟨0, _, by decide, harr, ?_⟩
      show (nI C.2.1.length ≤ nI i → _) ∧ (¬ nI C.2.1.length ≤ nI i → _)
      have key : ∀ v : Nat, D i = v → wp_X2_depths_L12 G mc ms b Q (d + 1) (va_up h1 da (some (.inl (G.2.1 0, C.2.1.length, .inl (upd f i (nI v)))))) (0 + 1) (0 + C.2.1.length) da (nI i + 1) := by
        intro v hv
        rw [nI_1]
        refine ih (i + 1) _ _ D (by omega) (fun c e hc _ => by rw [q_h_ne (q_new_ne hda hc)]; exact hs c e hc q_no.not) q_h_same (fun j hj => ?_) hD
        by_cases q : j = i
        · rw [q, hv]
          exact pk_us
        · rw [pk_un q]
          exact hf j (by omega)
      refine br_f (nI_ge hi (by omega)) <| w_geta_of (hs b _ g1 q_no.not) rfl <| w_nn_of <| w_is_of (hs lf _ g4 q_no.not) <| sp_J2_get (g2.kp (q_no_kp hs) rfl) (hb.fact hy).2.1 <| w_nn_of <| w_cast_of hc <| w_geti_of hc rfl ⟨fun z => w_ist_of harr hi (by omega) (key 1000 ?_), fun z => w_ist_of harr hi (by omega) (key 0 ?_)⟩
      · rw [hD i y hy, if_neg (fun q => by rw [q] at z; exact absurd z (by decide))]
      · have : y.2.1 4 = 1 := by
          rcases Nat.lt_or_ge (y.2.1 4) 1 with q | q
          · exact absurd (by rw [show y.2.1 4 = 0 by omega]; rfl) z
          · omega
        rw [hD i y hy, if_pos this]
  exact ⟨_, start C.2.1.length 0 _ _ (fun j => match C.2.1[j]? with | some y => if y.2.1 4 = 1 then 0 else 1000 | none => 0) (by omega) (q_sp.new hda) q_h_same (fun j hj => absurd hj (Nat.not_lt_zero _)) (fun j y hy => by rw [hy])⟩
end DEP
