set_option maxRecDepth 100000
/-! facts by trust; a book in order -/
def s_cmp (a c : UInt32) : Int32 := Op.cmpValue (FP.fcmp a c) .l
/-- a fact y stands ahead of z by trust -/
def c_ta (y z : CF) : Bool := decide (0 < s_cmp (q_tb (y.2.1 5)) (q_tb (z.2.1 5))) || (decide (s_cmp (q_tb (y.2.1 5)) (q_tb (z.2.1 5)) = 0) && decide (y.2.1 0 < z.2.1 0))
section TRU
variable {G : GG} {h h' : HH} {ρ ρ' : RO} {k b w p t : Nat} {C : CC}
theorem sp_X2_isAhead {a1 a2 : Nat} {y z : CF} {l1 l2 l3 l4 : Nat} {Q : Int32 → HH → Prop} (h1 : h a1 = some (.inr (14, q_fv y.2.1 l1 l2))) (h2 : h a2 = some (.inr (14, q_fv z.2.1 l3 l4))) (n1 : y.2.1 0 < 2 ^ 31) (n2 : z.2.1 0 < 2 ^ 31) (hQ : Q (if c_ta y z then 1 else 0) h) : wp_X2_isAhead G h b (some a1) (some a2) Q := by
  unfold wp_X2_isAhead
  refine w_nn_of <| w_getf_of h1 rfl <| w_nn_of <| w_getf_of h2 rfl ⟨fun q => ?_, fun q => ?_⟩
  · have : c_ta y z = true := by
      unfold c_ta
      rw [decide_eq_true (show 0 < s_cmp (q_tb (y.2.1 5)) (q_tb (z.2.1 5)) from q)]
      rfl
    rw [this] at hQ
    exact hQ
  · have e1 : decide (0 < s_cmp (q_tb (y.2.1 5)) (q_tb (z.2.1 5))) = false := decide_eq_false q
    refine w_getf_of h1 rfl <| w_getf_of h2 rfl ⟨fun q2 => ?_, fun q2 => ?_⟩
    · have : c_ta y z = false := by
        unfold c_ta
        rw [e1, decide_eq_false (show ¬ s_cmp (q_tb (y.2.1 5)) (q_tb (z.2.1 5)) = 0 from q2)]
        rfl
      rw [this] at hQ
      exact hQ
    · have e2 : decide (s_cmp (q_tb (y.2.1 5)) (q_tb (z.2.1 5)) = 0) = true := decide_eq_true q2
      refine w_geti_of h1 rfl <| w_geti_of h2 rfl ?_
      have e3 := nI_leI n2 n1
      refine ⟨fun q3 => ?_, fun q3 => ?_⟩
      · have : c_ta y z = false := by
          unfold c_ta
          rw [e1, e2, decide_eq_false (by have := e3.mp q3; omega)]
          rfl
        rw [this] at hQ
        exact hQ
      · have : c_ta y z = true := by
          unfold c_ta
          rw [e1, e2, decide_eq_true (by
            rcases Nat.lt_or_ge (y.2.1 0) (z.2.1 0) with g | g
            · exact g
            · exact absurd (e3.mpr g) q3)]
          rfl
        rw [this] at hQ
        exact hQ
theorem sp_X2_trusted {mc ms : Nat} {v : Int32} {Q : Option Nat → HH → Prop} (hB : q_B G h ρ k b w p t C) (hok : c_ok C) (hm : 30 ≤ mc) (hs : 120 ≤ ms)
    (hQ1 : ∀ h' (i : Nat) (y : CF), q_sp q_no h h' → C.2.1[i]? = some y → nI (C.2.1.countP (fun z => c_ta z y)) = v → (∀ (j : Nat) (z : CF), j < i → C.2.1[j]? = some z → nI (C.2.1.countP (fun u => c_ta u z)) ≠ v) → Q (some y.1) h')
    (hQ0 : ∀ h', q_sp q_no h h' → (∀ z ∈ C.2.1, nI (C.2.1.countP (fun u => c_ta u z)) ≠ v) → Q none h') : wp_X2_trusted G mc ms h b v Q := by
  obtain ⟨lr, lf, g1, g3, g2, ⟨fs3, g5⟩, ⟨fs4, g4⟩⟩ := hB.1.len
  have hl20 := hok.2.2.2.1
  unfold wp_X2_trusted
  refine w_geta_of g1 rfl <| w_nn_of ⟨1, 4, by omega, by omega, w_is_of g4 <| sp_J2_iterator g2 (by omega) (by omega) (fun it h2 hit hh2 hi2 => ?_)⟩
  have main : ∀ d i h1 nc nk, i + d = C.2.1.length → q_sp q_no h h1 → q_it h1 lf it i → nc + d ≤ mc → nk + 4 * d ≤ ms → (∀ (j : Nat) (z : CF), j < i → C.2.1[j]? = some z → nI (C.2.1.countP (fun u => c_ta u z)) ≠ v) → wp_X2_trusted_L8 G mc ms b Q (d + 1) h1 nc nk v (some it) := by
    intro d
    induction d with
    | zero =>
      intro i h1 nc nk hd hs hi hc hk9 hno
      unfold wp_X2_trusted_L8
      refine w_nn_of <| q_eachF (g2.kp (q_no_kp hs) rfl) hi (by omega) (fun _ => hQ0 h1 hs (fun z hz => ?_)) (fun y h' hy => ?_)
      · obtain ⟨j, hj⟩ := List.getElem?_of_mem hz
        have := (List.getElem?_eq_some_iff.mp hj).1
        exact hno j z (by omega) hj
      · have := (List.getElem?_eq_some_iff.mp hy).1
        omega
    | succ d ih =>
      intro i h1 nc nk hd hs hi hc hk9 hno
      unfold wp_X2_trusted_L8
      refine w_nn_of <| q_eachF (g2.kp (q_no_kp hs) rfl) hi (by omega) (fun z => by omega) (fun y h3 hy hh hi' => ?_)
      have hs' := hs.nx hit hh
      have hB' := hB.no hs'
      obtain ⟨l1, l2, hcy⟩ := hB'.cell hy
      have hyn := hok.2.2.2.2.2.1 y (List.mem_of_getElem? hy)
      refine w_cast_of hcy <| w_geta_of (hs' b _ g1 q_no.not) rfl <| w_nn_of ⟨1, 4, by omega, by omega, w_is_of (hs' lf _ g4 q_no.not) <| sp_J2_iterator (g2.kp (q_no_kp hs') rfl) (by omega) (by omega) (fun it2 h4 hit2 hh4 hi4 => ?_)⟩
      have hs4 : q_sp q_no h h4 := hs'.tr (q_sp.nw hit2 hh4)
      have hit20 := q_sp_none hs' hit2
      have hne : it ≠ it2 := by
        obtain ⟨fs, ho⟩ := hi'.ob
        exact q_new_ne hit2 ho
      have hi4' : q_it h4 lf it (i + 1) := hi'.sp (q_sp.nw (S := q_no) hit2 hh4) q_no.not q_no.not
      have inner : ∀ d2 j h5, j + d2 = C.2.1.length → q_sp q_no h h5 → q_it h5 lf it (i + 1) → q_it h5 lf it2 j → wp_X2_trusted_L39 G mc ms b Q (fun h nc nk x1 x2 => wp_X2_trusted_L8 G mc ms b Q (d + 1) h nc nk x1 x2) (d2 + 1) h5 (nc + 1) (nk + 4) v it y.1 (nI ((C.2.1.take j).countP (fun z => c_ta z y))) (some it2) := by
        intro d2
        induction d2 with
        | zero =>
          intro j h5 hd2 hs5 hi5 hi52
          unfold wp_X2_trusted_L39
          refine w_nn_of <| q_eachF (g2.kp (q_no_kp hs5) rfl) hi52 (by omega) (fun _ => ?_) (fun z h' hz => ?_)
          · rw [List.take_of_length_le (by omega)]
            refine ⟨fun z => ih (i + 1) h5 _ _ (by omega) hs5 hi5 (by omega) (by omega) (fun j' z' hj' hz' => ?_), fun z => hQ1 h5 i y hs5 hy z hno⟩
            by_cases q : j' = i
            · subst q
              rw [hy] at hz'
              cases hz'
              exact z
            · exact hno j' z' (by omega) hz'
          · have := (List.getElem?_eq_some_iff.mp hz).1
            omega
        | succ d2 ih2 =>
          intro j h5 hd2 hs5 hi5 hi52
          unfold wp_X2_trusted_L39
          refine w_nn_of <| q_eachF (g2.kp (q_no_kp hs5) rfl) hi52 (by omega) (fun z => by omega) (fun z h6 hz hh6 hi6 => ?_)
          have hs6 := hs5.nx hit20 hh6
          have hB6 := hB.no hs6
          obtain ⟨l3, l4, hcz⟩ := hB6.cell hz
          obtain ⟨l5, l6, hcy6⟩ := hB6.cell hy
          have hzn := hok.2.2.2.2.2.1 z (List.mem_of_getElem? hz)
          have hi6' : q_it h6 lf it (i + 1) := by
            obtain ⟨a1, a2, a3, a4, a5, a6⟩ := id hi5
            obtain ⟨c1, c2, c3, c4, c5, c6⟩ := id hi6
            have : h5 lf = h6 lf := (hh6 lf (fun z => by rw [z, c5] at c6; cases c6)).symm
            exact ⟨a1, a2, a3, a4, by rw [hh6 it hne]; exact a5, by rw [← this]; exact a6⟩
          have := ih2 (j + 1) h6 (by omega) hs6 hi6' hi6
          rw [List.take_add_one, hz, Option.toList_some, List.countP_append] at this
          refine w_cast_of hcz <| w_is_of (hs6 b _ g1 q_no.not) <| sp_X2_isAhead hcz hcy6 (by omega) (by omega) ?_
          cases e : c_ta z y with
          | false =>
            refine br_t rfl ?_
            rw [show ([z].countP fun z => c_ta z y) = 0 by simp [e]] at this
            rw [← nI_add] at this
            exact this
          | true =>
            refine br_f (by decide) ?_
            rw [show ([z].countP fun z => c_ta z y) = 1 by simp [e]] at this
            rw [nI_1]
            exact this
      have := inner C.2.1.length 0 h4 (by omega) hs4 hi4' hi4
      exact ⟨_, this⟩
  have := main C.2.1.length 0 h2 (0 + 1) (0 + 4) (by omega) (q_sp.nw hit hh2) hi2 (by omega) (by omega) (fun j z hj => absurd hj (Nat.not_lt_zero _))
  exact ⟨_, this⟩
end TRU
def c_ord (C : CC) : Prop := (∀ y ∈ C.2.1, dv_g (c_T C) (c_R C) (y.2.1 0)) ∧ (∀ (i j : Nat) (y z : CF), C.2.1[i]? = some y → C.2.1[j]? = some z → y.2.1 1 = z.2.1 1 → y.2.1 2 = z.2.1 2 → y.2.1 3 = z.2.1 3 → i = j) ∧ ∀ y ∈ C.2.1, (∀ fi ∈ y.2.2.2, fi.2.1 = y.2.1 0) ∧ y.2.2.2.Nodup
section ORD
variable {G : GG} {h h' : HH} {ρ ρ' : RO} {k b w p t : Nat} {C : CC}
theorem sp_X12_isLike {a1 a2 : Nat} {f1 f2 : FI} {Q : Int32 → HH → Prop} (h1 : h a1 = some (.inr (16, [.ref f1.1, .int (nI f1.2.1), .int (nO f1.2.2)]))) (h2 : h a2 = some (.inr (16, [.ref f2.1, .int (nI f2.2.1), .int (nO f2.2.2)]))) (n1 : f1.2.1 < 2 ^ 31) (n2 : f2.2.1 < 2 ^ 31) (b1 : q_bd f1.2.2) (b2 : q_bd f2.2.2) (hQ : Q (if (f1 == f2) = true then 1 else 0) h) : wp_X12_isLike G h a1 (some a2) Q := by
  have key : ∀ P : Prop, (P ↔ f1 = f2) → (¬ P → Q 0 h) ∧ (P → Q 1 h) := fun P hP => ⟨fun z => by
    rw [if_neg (fun q => z (hP.mpr (beq_iff_eq.mp q)))] at hQ
    exact hQ, fun z => by
    rw [if_pos (beq_iff_eq.mpr (hP.mp z))] at hQ
    exact hQ⟩
  unfold wp_X12_isLike
  refine w_geta_of h1 rfl <| w_nn_of <| w_geta_of h2 rfl ⟨fun z => ?_, fun z => w_geti_of h1 rfl <| w_geti_of h2 rfl ⟨fun z2 => ?_, fun z2 => w_geti_of h1 rfl <| w_geti_of h2 rfl ⟨fun z3 => ?_, fun z3 => ?_⟩⟩⟩
  · rw [if_neg (fun q => z (by rw [beq_iff_eq.mp q]))] at hQ
    exact hQ
  · rw [if_neg (fun q => z2 (by rw [beq_iff_eq.mp q]))] at hQ
    exact hQ
  · rw [if_neg (fun q => z3 (by rw [beq_iff_eq.mp q]))] at hQ
    exact hQ
  · have e1 := Option.some.inj z
    have e2 := (nI_eq n1 n2).mp z2
    have e3 := (nO_inj b1 b2).mp z3
    rw [if_pos (beq_iff_eq.mpr (Prod.ext e1 (Prod.ext e2 e3)))] at hQ
    exact hQ
theorem q_test_like {ta fd x1 : Nat} {fi f2 : FI} {P : Int32 → HH → Prop} (hta : h ta = some (.inl (G.2.1 10, 1, .inr (.inr (.inr (.inr (fun _ => some fd))))))) (hfd : h fd = some (.inr (16, [.ref f2.1, .int (nI f2.2.1), .int (nO f2.2.2)]))) (hf : h x1 = some (.inr (16, [.ref fi.1, .int (nI fi.2.1), .int (nO fi.2.2)]))) (n1 : fi.2.1 < 2 ^ 31) (n2 : f2.2.1 < 2 ^ 31) (b1 : q_bd fi.2.2) (b2 : q_bd f2.2.2) (hP : P (if (fi == f2) = true then 1 else 0) h) : w_test G h ta (some x1) P := by
  have hnar : ∀ c : Bool, narrow .boolean (.int (if c then 1 else 0)) = .int (if c then 1 else 0) := fun c => by cases c <;> rfl
  exact Or.inl ⟨some fd, hta, w_nn_of <| w_is_of hf <| sp_X12_isLike hf hfd n1 n2 b1 b2 ⟨hnar _, hnar _, hP⟩⟩
theorem sp_X2_isThere {mc ms : Nat} {o : Option Nat} {Q : Int32 → HH → Prop} (hb : q_bk G h ρ k b w C) (hok : c_ok C) (hc : 1 ≤ mc) (hms : 4 ≤ ms) (hin : ∀ m, o = some m → ∃ z ∈ C.2.1, z.2.1 0 = m) (hQ : ∀ h', q_sp q_no h h' → Q 1 h') : wp_X2_isThere G mc ms h b (nO o) Q := by
  obtain ⟨lr, lf, g1, -⟩ := hb.len
  unfold wp_X2_isThere
  cases o with
  | none => exact ⟨fun _ => hQ h q_sp.rf, fun z => absurd rfl z⟩
  | some m =>
    obtain ⟨z, hz, ez⟩ := hin m rfl
    have hm := hok.2.2.2.2.2.1 z hz
    refine ⟨fun q => absurd q (nO_neg (by omega)), fun _ => ⟨1, 4, by omega, by omega, w_is_of g1 <| sp_X2_find hb (by omega) (by omega) (fun h' i y hs hy e => ⟨fun q => (by cases q), fun _ _ => hQ h' hs⟩) (fun h' hs hno => absurd (show nI (z.2.1 0) = nO (some m) by rw [ez]; rfl) (hno z hz))⟩⟩
theorem sp_X2_isInOrder {mc ms : Nat} {Q : Int32 → HH → Prop} (hB : q_B G h ρ k b w p t C) (hok : c_ok C) (hfw : c_fw C) (hcl : c_cl C) (hord : c_ord C)
    (hmc : (1 + 20 * (C.2.1.length + 2 * c_sum (fun y => y.2.2.1.length) C.2.1)) + 70 + 2 * c_sum c_all C.2.1 ≤ mc) (hms : (C.2.1.length + 80 * (C.2.1.length + 2 * c_sum (fun y => y.2.2.1.length) C.2.1)) + 260 + 8 * c_sum c_all C.2.1 ≤ ms)
    (hQ : ∀ h', q_sp q_no h h' → Q 1 h') : wp_X2_isInOrder G mc ms h b Q := by
  obtain ⟨lr, lf, g1, g3, g2, ⟨fs3, g5⟩, ⟨fs4, g4⟩⟩ := hB.1.len
  have hl20 := hok.2.2.2.1
  have hnd := hB.1.nd hok
  have nar1 : narrow .boolean (.int (1 : Int32)) = .int 1 := rfl
  have sum_take : ∀ i, c_sum c_all (C.2.1.take i) ≤ c_sum c_all C.2.1 := by
    have : ∀ (n : Nat) (ys : List CF), c_sum c_all (ys.take n) ≤ c_sum c_all ys := by
      intro n
      induction n with
      | zero => intro ys; simp [c_sum]
      | succ n ih =>
        intro ys
        cases ys with
        | nil => simp
        | cons z zs =>
          simp only [List.take_succ_cons, c_sum]
          have := ih zs
          omega
    exact fun i => this i _
  generalize hcc : 1 + 20 * (C.2.1.length + 2 * c_sum (fun y => y.2.2.1.length) C.2.1) = cc at hmc
  generalize hkk : C.2.1.length + 80 * (C.2.1.length + 2 * c_sum (fun y => y.2.2.1.length) C.2.1) = kk at hms
  refine ⟨cc, kk, by omega, by omega, w_is_of g1 <| sp_X2_greatestDepth hB.1 hok hcl (fun y hy => (hfw y hy).2.2.2.1) (Nat.le_of_eq hcc) (Nat.le_of_eq hkk) (fun h1 D hs1 hD => ?_)⟩
  have hgd : c_gD D C.2.1.length < 1000 := c_gD_lt (by decide) (fun i hi => by
    have := (hD i _ (List.getElem?_eq_getElem hi)).2.2 (hord.1 _ (List.getElem_mem hi))
    omega)
  refine br_f (nI_ge (b := 1000) hgd (by decide)) <| w_geta_of (hs1 b _ g1 q_no.not) rfl <| w_nn_of ⟨1, 4, by omega, by omega, w_is_of (hs1 lf _ g4 q_no.not) <| sp_J2_iterator (g2.kp (q_no_kp hs1) rfl) (by omega) (by omega) (fun it h2 hit hh2 hi2 => ?_)⟩
  have hs2 : q_sp q_no h h2 := hs1.tr (q_sp.nw hit hh2)
  have hit0 := q_sp_none hs1 hit
  have main : ∀ d i h3 nc nk, i + d = C.2.1.length → q_sp q_no h h3 → q_it h3 lf it i → nc ≤ cc + 1 + 3 * i + 2 * c_sum c_all (C.2.1.take i) → nk ≤ kk + 4 + 12 * i + 8 * c_sum c_all (C.2.1.take i) → wp_X2_isInOrder_L24 G mc ms b Q (d + 1) h3 nc nk 1 (some it) := by
    intro d
    induction d with
    | zero =>
      intro i h3 nc nk hd hs hi hnc hnk
      unfold wp_X2_isInOrder_L24
      refine w_nn_of <| q_eachF (g2.kp (q_no_kp hs) rfl) hi (by omega) (fun _ => ⟨nar1, hQ h3 hs⟩) (fun y h' hy => ?_)
      have := (List.getElem?_eq_some_iff.mp hy).1
      omega
    | succ d ih =>
      intro i h3 nc nk hd hs hi hnc hnk
      unfold wp_X2_isInOrder_L24
      refine w_nn_of <| q_eachF (g2.kp (q_no_kp hs) rfl) hi (by omega) (fun z => by omega) (fun y h4 hy hh hi4 => ?_)
      have hs4 := hs.nx hit0 hh
      have hB4 := hB.no hs4
      have hym := List.mem_of_getElem? hy
      obtain ⟨-, l1, l2, hcy, -, -⟩ := (hB4.1.fact hy).1
      obtain ⟨-, l1', l2', hcy0, ⟨xs, u1, u2, u3⟩, ⟨ys, v1, v2, v3⟩⟩ := (hB.1.fact hy).1
      have hcy4 := hs4 _ _ hcy0 q_no.not
      obtain ⟨fsu, uo⟩ := u1.ob
      obtain ⟨fsv, vo⟩ := v1.ob
      have hst : c_sum c_all (C.2.1.take (i + 1)) = c_sum c_all (C.2.1.take i) + c_all y := c_sum_take hy
      have hal : c_all y = y.2.2.1.length + y.2.2.2.length := rfl
      have hst2 := sum_take (i + 1)
      obtain ⟨⟨y1, y1'⟩, y2, y3, -⟩ := hfw y hym
      have hokb := hok.2.2.2.2.2.2 y hym
      refine w_cast_of hcy4 <| w_geti_of hcy4 rfl <| w_geti_of hcy4 rfl <| w_geti_of hcy4 rfl ⟨1, 4, by omega, by omega, w_is_of (hs4 b _ g1 q_no.not) <| sp_X2_find_2 hB4.1 (by omega) (by omega) (fun h5 j z hs5 hz e1 e2 e3 _ => ?_) (fun h5 hs5 hno => absurd ⟨rfl, rfl, rfl⟩ (hno y hym))⟩
      have hzm := List.mem_of_getElem? hz
      obtain ⟨⟨z1, z1'⟩, z2, z3, -⟩ := hfw z hzm
      have ej : j = i := hord.2.1 j i z y hz hy ((nI_eq (by omega) (by omega)).mp e1) ((nI_eq (by omega) (by omega)).mp e2) ((nI_eq (by omega) (by omega)).mp e3)
      subst ej
      rw [hy] at hz
      cases hz
      have hs05 := hs4.tr hs5
      have hi5 := hi4.sp hs5 q_no.not q_no.not
      refine q_bt rfl <| w_geta_of (hs05 _ _ hcy0 q_no.not) rfl <| w_nn_of ⟨1, 4, by omega, by omega, w_is_of (hs05 _ _ uo q_no.not) <| sp_J2_iterator (u1.kp (q_no_kp hs05) rfl) (by omega) (by omega) (fun it2 h6 hit2 hh6 hi6 => ?_)⟩
      have hs06 : q_sp q_no h h6 := hs05.tr (q_sp.nw hit2 hh6)
      have hit20 := q_sp_none hs05 hit2
      have hi6' : q_it h6 lf it (j + 1) := hi5.sp (q_sp.nw (S := q_no) hit2 hh6) q_no.not q_no.not
      -- an iterator beside the facts' one
      have beside : ∀ {h7 h8 : HH} {it3 : Nat}, q_it h7 lf it (j + 1) → h it3 = none → it ≠ it3 → (∀ c, c ≠ it3 → h8 c = h7 c) → q_it h8 lf it (j + 1) := by
        intro h7 h8 it3 a1 a2 a3 a4
        obtain ⟨c1, c2, c3, c4, c5, c6⟩ := a1
        exact ⟨c1, c2, c3, c4, by rw [a4 it a3]; exact c5, by rw [a4 lf (q_new_ne a2 g4)]; exact c6⟩
      have e11 : (1 : Int32) &&& 1 = 1 := by decide
      -- what has fired
      have loop3 : ∀ d3 m h7 nc nk it3, m + d3 = y.2.2.2.length → q_sp q_no h h7 → q_it h7 lf it (j + 1) → q_it h7 l2' it3 m → h it3 = none → it ≠ it3 → nc + 2 * d3 ≤ cc + 1 + 3 * (j + 1) + 2 * c_sum c_all (C.2.1.take (j + 1)) → nk + 8 * d3 ≤ kk + 4 + 12 * (j + 1) + 8 * c_sum c_all (C.2.1.take (j + 1)) →
          wp_X2_isInOrder_L146 G mc ms b Q (fun h nc nk x1 x2 => wp_X2_isInOrder_L24 G mc ms b Q (d + 1) h nc nk x1 x2) (d3 + 1) h7 nc nk 1 it y.1 (some it3) := by
        intro d3
        induction d3 with
        | zero =>
          intro m h7 nc nk it3 hm hs7 hi7 hi73 hit30 hne hnc hnk
          unfold wp_X2_isInOrder_L146
          refine w_nn_of <| q_eachK (v1.kp (q_no_kp hs7) rfl) v2 hi73 (by omega) (fun _ => ?_) (fun x1 fi h' hx hf => ?_)
          · exact ih (j + 1) h7 nc nk (by omega) hs7 hi7 (by omega) (by omega)
          · have := (List.getElem?_eq_some_iff.mp hf).1
            omega
        | succ d3 ih3 =>
          intro m h7 nc nk it3 hm hs7 hi7 hi73 hit30 hne hnc hnk
          unfold wp_X2_isInOrder_L146
          refine w_nn_of <| q_eachK (v1.kp (q_no_kp hs7) rfl) v2 hi73 (by omega) (fun z => by omega) (fun x1 fi h8 hx hf hh8 hi83 => ?_)
          have hs8 := hs7.nx hit30 hh8
          have hi8 := beside hi7 hit30 hne hh8
          have hfm := List.mem_of_getElem? hf
          have hf0 := v3 m x1 fi hx hf
          have hfx := hs8 _ _ hf0.2 q_no.not
          have hcy8 := hs8 _ _ hcy0 q_no.not
          have hfb := hokb.2 fi hfm
          refine w_cast_of hfx <| w_geti_of hfx rfl <| w_geti_of hcy8 rfl <| q_bt (by rw [(hord.2.2 y hym).1 fi hfm]) ?_
          refine w_geta_of hcy8 rfl ⟨by omega, by omega, fun ta hta => ⟨1, 4, by omega, by omega, ?_⟩⟩
          have up : ∀ {c : Nat} {e : va_E}, h8 c = some e → va_up h8 ta (some (.inl (G.2.1 10, 1, .inr (.inr (.inr (.inr (fun _ => some x1))))))) c = some e := fun hc => by rw [q_h_ne (q_new_ne hta hc)]; exact hc
          have hs9 : q_sp q_no h (va_up h8 ta (some (.inl (G.2.1 10, 1, .inr (.inr (.inr (.inr (fun _ => some x1)))))))) := fun c e hc _ => up (hs8 c e hc q_no.not)
          have hfl9 : q_fl G (va_up h8 ta (some (.inl (G.2.1 10, 1, .inr (.inr (.inr (.inr (fun _ => some x1)))))))) ρ (k, 8 + 5 * y.2.1 0 + 3) l2' y.2.2.2 := ⟨ys, v1.kp (q_no_kp hs9) rfl, v2, fun i x1 fi hx hf => ⟨(v3 i x1 fi hx hf).1, hs9 _ _ (v3 i x1 fi hx hf).2 q_no.not⟩⟩
          refine sp_X1_count (T := fun f => f == fi) hfl9 (by omega) (by omega) (fun h10 x2 f2 P hs10 hf2 hq2 hP => ?_) (fun h10 hs10 => ?_)
          · have hfb2 := hokb.2 f2 hf2
            exact q_test_like (hs10 ta _ q_h_same q_no.not) (hs10 _ _ (up hfx) q_no.not) hq2.2 (Nat.lt_trans hfb2.1 (by decide)) (Nat.lt_trans hfb.1 (by decide)) (fun n hn => Nat.lt_trans (hfb2.2 n hn) (by decide)) (fun n hn => Nat.lt_trans (hfb.2 n hn) (by decide)) hP
          · have hcnt : y.2.2.2.countP (fun f => f == fi) = 1 := by
              have h1 := (hord.2.2 y hym).2
              have : y.2.2.2.count fi = 1 := by
                refine Nat.le_antisymm ?_ (List.one_le_count_iff.mpr hfm)
                exact List.nodup_iff_count.mp h1 fi
              exact this
            rw [hcnt]
            refine q_bt rfl ?_
            rw [e11]
            have hs11 : q_sp q_no h h10 := fun c e hc _ => hs10 c e (hs9 c e hc q_no.not) q_no.not
            have hi11 : q_it h10 lf it (j + 1) := by
              obtain ⟨a1, a2, a3, a4, a5, a6⟩ := id hi8
              exact ⟨a1, a2, a3, a4, hs10 _ _ (up a5) q_no.not, hs10 _ _ (up a6) q_no.not⟩
            have hi113 : q_it h10 l2' it3 (m + 1) := by
              obtain ⟨a1, a2, a3, a4, a5, a6⟩ := id hi83
              exact ⟨a1, a2, a3, a4, hs10 _ _ (up a5) q_no.not, hs10 _ _ (up a6) q_no.not⟩
            exact ih3 (m + 1) h10 _ _ it3 (by omega) hs11 hi11 hi113 hit30 hne (by omega) (by omega)
      -- the reasons
      have loop2 : ∀ d3 m h7 nc nk, m + d3 = y.2.2.1.length → q_sp q_no h h7 → q_it h7 lf it (j + 1) → q_it h7 l1' it2 m → nc + 2 * d3 + 1 + 2 * y.2.2.2.length ≤ cc + 1 + 3 * (j + 1) + 2 * c_sum c_all (C.2.1.take (j + 1)) → nk + 8 * d3 + 4 + 8 * y.2.2.2.length ≤ kk + 4 + 12 * (j + 1) + 8 * c_sum c_all (C.2.1.take (j + 1)) →
          wp_X2_isInOrder_L80 G mc ms b Q (fun h nc nk x1 x2 => wp_X2_isInOrder_L24 G mc ms b Q (d + 1) h nc nk x1 x2) (d3 + 1) h7 nc nk 1 it y.1 (some it2) := by
        have hne2 : it ≠ it2 := by
          obtain ⟨fs, ho⟩ := hi5.ob
          exact q_new_ne hit2 ho
        intro d3
        induction d3 with
        | zero =>
          intro m h7 nc nk hm hs7 hi7 hi72 hnc hnk
          unfold wp_X2_isInOrder_L80
          refine w_nn_of <| q_eachK (u1.kp (q_no_kp hs7) rfl) u2 hi72 (by omega) (fun _ => ?_) (fun x1 fi h' hx hf => ?_)
          · refine w_geta_of (hs7 _ _ hcy0 q_no.not) rfl <| w_nn_of ⟨1, 4, by omega, by omega, w_is_of (hs7 _ _ vo q_no.not) <| sp_J2_iterator (v1.kp (q_no_kp hs7) rfl) (by omega) (by omega) (fun it3 h8 hit3 hh8 hi83 => ?_)⟩
            have hit30 := q_sp_none hs7 hit3
            have hne3 : it ≠ it3 := by
              obtain ⟨fs, ho⟩ := hi7.ob
              exact q_new_ne hit3 ho
            exact ⟨_, loop3 y.2.2.2.length 0 h8 (nc + 1) (nk + 4) it3 (by omega) (hs7.tr (q_sp.nw hit3 hh8)) (beside hi7 hit30 hne3 hh8) hi83 hit30 hne3 (by omega) (by omega)⟩
          · have := (List.getElem?_eq_some_iff.mp hf).1
            omega
        | succ d3 ih3 =>
          intro m h7 nc nk hm hs7 hi7 hi72 hnc hnk
          unfold wp_X2_isInOrder_L80
          refine w_nn_of <| q_eachK (u1.kp (q_no_kp hs7) rfl) u2 hi72 (by omega) (fun z => by omega) (fun x1 fi h8 hx hf hh8 hi82 => ?_)
          have hs8 := hs7.nx hit20 hh8
          have hi8 := beside hi7 hit20 hne2 hh8
          have hfm := List.mem_of_getElem? hf
          have hf0 := u3 m x1 fi hx hf
          have hfx := hs8 _ _ hf0.2 q_no.not
          obtain ⟨c1, c2⟩ := hcl y hym fi hfm
          have hB8 := hB.no hs8
          refine w_cast_of hfx <| w_geti_of hfx rfl ⟨1, 4, by omega, by omega, w_is_of (hs8 b _ g1 q_no.not) <| sp_X2_isThere (o := some fi.2.1) hB8.1 hok (by omega) (by omega) (fun m hm => by cases hm; exact c1) (fun h9 hs9 => br_f (by decide) ?_)⟩
          refine w_geti_of (hs9 _ _ hfx q_no.not) rfl ⟨1, 4, by omega, by omega, w_is_of (hs9 b _ (hs8 b _ g1 q_no.not) q_no.not) <| sp_X2_isThere (hB8.no hs9).1 hok (by omega) (by omega) (fun m hm => c2 m hm) (fun h10 hs10 => br_f (by decide) ?_)⟩
          rw [e11]
          have hs90 := hs9.tr hs10
          exact ih3 (m + 1) h10 _ _ (by omega) (hs8.tr hs90) (hi8.sp hs90 q_no.not q_no.not) (hi82.sp hs90 q_no.not q_no.not) (by omega) (by omega)
      rw [e11]
      exact ⟨_, loop2 y.2.2.1.length 0 h6 _ _ (by omega) hs06 hi6' hi6 (by omega) (by omega)⟩
  have := main C.2.1.length 0 h2 (0 + cc + 1) (0 + kk + 4) (by omega) hs2 hi2 (by simp [c_sum]) (by simp [c_sum])
  exact ⟨_, this⟩
end ORD
