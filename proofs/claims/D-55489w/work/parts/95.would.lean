set_option maxRecDepth 100000
/-! what would go; uses; facts by trust -/
def c_untold (C : CC) (i : Nat) : CC := match C.2.1[i]? with
  | none => C
  | some y => (C.1, C.2.1.set i (y.1, c_st y.2.1 4 0, y.2.2.1, y.2.2.2), C.2.2)
theorem c_set4 {C : CC} {i v : Nat} {y : CF} (hy : C.2.1[i]? = some y) (hok : c_ok C) (hcl : c_cl C) (h41 : ∀ y ∈ C.2.1, y.2.1 4 ≤ 1) (hv : v ≤ 1) : c_ok (C.1, C.2.1.set i (y.1, c_st y.2.1 4 v, y.2.2.1, y.2.2.2), C.2.2) ∧ c_cl (C.1, C.2.1.set i (y.1, c_st y.2.1 4 v, y.2.2.1, y.2.2.2), C.2.2) ∧ (∀ z ∈ C.2.1.set i (y.1, c_st y.2.1 4 v, y.2.2.1, y.2.2.2), z.2.1 4 ≤ 1) ∧ c_sum (fun y => y.2.2.1.length) (C.2.1.set i (y.1, c_st y.2.1 4 v, y.2.2.1, y.2.2.2)) = c_sum (fun y => y.2.2.1.length) C.2.1 := by
  have hlt := (List.getElem?_eq_some_iff.mp hy).1
  have hat : ∀ (j : Nat) (z : CF), (C.2.1.set i (y.1, c_st y.2.1 4 v, y.2.2.1, y.2.2.2))[j]? = some z → ∃ z0, C.2.1[j]? = some z0 ∧ z.2.1 0 = z0.2.1 0 ∧ z.2.2 = z0.2.2 ∧ z.2.1 4 ≤ 1 := by
    intro j z hz
    by_cases q : j = i
    · subst q
      rw [List.getElem?_set_self hlt] at hz
      cases hz
      refine ⟨y, hy, rfl, rfl, ?_⟩
      show c_st y.2.1 4 v 4 ≤ 1
      unfold c_st
      rw [if_pos rfl]
      exact hv
    · rw [List.getElem?_set_ne (Ne.symm q)] at hz
      exact ⟨z, hz, rfl, rfl, h41 z (List.mem_of_getElem? hz)⟩
  have hat2 : ∀ z0 ∈ C.2.1, ∃ z ∈ C.2.1.set i (y.1, c_st y.2.1 4 v, y.2.2.1, y.2.2.2), z.2.1 0 = z0.2.1 0 := by
    intro z0 hz0
    obtain ⟨j, hj⟩ := List.getElem?_of_mem hz0
    by_cases q : j = i
    · subst q
      rw [hy] at hj
      cases hj
      exact ⟨_, List.mem_of_getElem? (List.getElem?_set_self hlt), rfl⟩
    · exact ⟨z0, List.mem_of_getElem? (by rw [List.getElem?_set_ne (Ne.symm q)]; exact hj), rfl⟩
  refine ⟨hok.sub rfl (by simp) (fun j z hz => ?_), fun z hz fi hfi => ?_, fun z hz => ?_, ?_⟩
  · obtain ⟨z0, q1, q2, q3, -⟩ := hat j z hz
    exact ⟨z0, q1, q2, fun fi hfi => by rw [q3] at hfi; exact hfi, fun fi hfi => by rw [q3] at hfi; exact hfi⟩
  · obtain ⟨j, hj⟩ := List.getElem?_of_mem hz
    obtain ⟨z0, q1, q2, q3, -⟩ := hat j z hj
    rw [q3] at hfi
    obtain ⟨⟨u, hu, eu⟩, h2⟩ := hcl z0 (List.mem_of_getElem? q1) fi hfi
    obtain ⟨u', hu', eu'⟩ := hat2 u hu
    refine ⟨⟨u', hu', by rw [eu', eu]⟩, fun n hn => ?_⟩
    obtain ⟨u, hu, eu⟩ := h2 n hn
    obtain ⟨u', hu', eu'⟩ := hat2 u hu
    exact ⟨u', hu', by rw [eu', eu]⟩
  · obtain ⟨j, hj⟩ := List.getElem?_of_mem hz
    obtain ⟨z0, -, -, -, q4⟩ := hat j z hj
    exact q4
  · have key : ∀ (ys : List CF) (i : Nat), ys[i]? = some y → c_sum (fun y => y.2.2.1.length) (ys.set i (y.1, c_st y.2.1 4 v, y.2.2.1, y.2.2.2)) = c_sum (fun y => y.2.2.1.length) ys := by
      intro ys
      induction ys with
      | nil => intro i hi; cases hi
      | cons z zs ih =>
        intro i hi
        cases i with
        | zero =>
          cases hi
          rfl
        | succ i =>
          simp only [List.set_cons_succ, c_sum]
          rw [ih i (by simpa using hi)]
    exact key _ _ hy
section GO3
variable {G : GG} {h h' : HH} {ρ ρ' : RO} {k b w p t : Nat} {C : CC}
theorem sp_X2_wouldGo {mc ms k' n : Nat} {v : Int32} {Q : Int32 → HH → Prop} {X : String → Nat → HH → Prop} (hB : q_B G h ρ k b w p t C) (hI : c_I C n) (hn : n < 3990) (hkk : k ≠ k') (hk' : 10 ≤ k') (hown : ∀ c, (ρ c).1 ≠ k')
    (hmc : 160 + c_sum c_all C.2.1 + (1 + 20 * (C.2.1.length + 2 * c_sum (fun y => y.2.2.1.length) C.2.1) + 1700) ≤ mc) (hms : 3450 + 6 * c_sum c_all C.2.1 + (C.2.1.length + 80 * (C.2.1.length + 2 * c_sum (fun y => y.2.2.1.length) C.2.1) + 4200) ≤ ms)
    (hX : ∀ h' q, q_sp q_no h h' → (∀ y ∈ C.2.1, nI (y.2.1 0) ≠ v) → h' q = none → X "java/util/NoSuchElementException" q h')
    (hQ0 : ∀ h' (i : Nat) (y : CF), q_sp q_no h h' → C.2.1[i]? = some y → nI (y.2.1 0) = v → y.2.1 4 = 0 → Q 0 h')
    (hQ1 : ∀ h' (i : Nat) (y : CF) C1 D, q_sp q_no h h' → C.2.1[i]? = some y → nI (y.2.1 0) = v → y.2.1 4 = 1 → c_eqv C C1 → c_dep (c_untold C1 i) D → Q (nI (c_los D (c_untold C1 i)).2) h') : wp_X2_wouldGo G mc ms h b v Q X := by
  obtain ⟨lr, lf, g1, -⟩ := hB.1.len
  have hok := hI.1
  have hfw := hI.2.1
  have hcl := hI.2.2.2.1
  have hL : ∀ y ∈ C.2.1, y.2.2.1.length < 3999 ∧ y.2.2.2.length < 3999 := fun y hy => by
    have := hI.2.2.2.2.2 y hy
    omega
  unfold wp_X2_wouldGo
  refine ⟨3, 20, by omega, by omega, w_is_of g1 <| sp_X2_fact hB.1 (by omega) (by omega) (fun h1 i y hs1 hy e => ?_) (fun h1 q hs hno hq => hX h1 q hs hno hq)⟩
  have hym := List.mem_of_getElem? hy
  have hyn := hok.2.2.2.2.2.1 y hym
  have h4 := (hfw y hym).2.2.2.1
  have hB1 := hB.no hs1
  obtain ⟨l1, l2, hc⟩ := hB1.cell hy
  have g11 := hs1 b _ g1 q_no.not
  refine w_nn_of <| w_geti_of hc rfl ⟨140 + c_sum c_all C.2.1, 3400 + 6 * c_sum c_all C.2.1, by omega, by omega, w_is_of g11 <| sp_X2_copy hB1 hok hfw hkk hk' (fun c _ _ => hown c) hL (Nat.le_refl _) (Nat.le_refl _) (fun h2 ρ2 b' w' p' t' C1 hb' hs2 hex2 hB2 heqv => ?_)⟩
  obtain ⟨lr2, lf2, g12, -⟩ := hB2.1.len
  have hok1 := heqv.ok hok
  have hfw1 := heqv.fw hfw
  refine w_nn_of ⟨1, 4, by omega, by omega, w_is_of g12 <| sp_X2_find hB2.1 (by omega) (by omega) (fun h3 i' y' hs3 hy' e' => ?_) (fun h3 hs3 hno => ?_)⟩
  · obtain ⟨y0, hy0, ey⟩ := heqv.at hy'
    have hyn' := hok1.2.2.2.2.2.1 y' (List.mem_of_getElem? hy')
    have ei : i' = i := by
      refine c_un hok hy0 hy ?_
      rw [← ey]
      have := e'.trans e.symm
      exact (nI_eq (by omega) (by omega)).mp this
    subst ei
    rw [hy] at hy0
    cases hy0
    have hB3 := hB2.no hs3
    obtain ⟨l3, l4, hc3⟩ := hB3.cell hy'
    have ht3 := hB3.told (v := 0) hk' hok1 hy' hc3
    have hs03 : q_sp q_no h (va_up h3 y'.1 (some (.inr (14, q_fv (c_st y'.2.1 4 0) l3 l4)))) := fun c e hc0 _ => by
      have hry := (hB3.1.fact hy').1.1
      have h1c := hs1 c e hc0 q_no.not
      rw [q_h_ne (fun z => ?_)]
      · exact hs3 c e (hs2 c e h1c q_no.not) q_no.not
      · have := hex2 c e h1c
        rw [z, hry] at this
        exact hown y'.1 (by rw [← this])
    refine w_nn_of <| w_put_of hc3 (Nat.le_of_ble_eq_true rfl) rfl ⟨fun z => ?_, fun z => ?_⟩
    · exact hQ0 _ i' y hs03 hy e ((nI_eq (b := 0) (by omega) (by omega)).mp z)
    · have e4 : y.2.1 4 = 1 := by
        rcases Nat.lt_or_ge (y.2.1 4) 1 with q | q
        · exact absurd (by rw [show y.2.1 4 = 0 by omega]; rfl) z
        · omega
      obtain ⟨s1, s2, s3, s4⟩ := c_set4 (v := 0) hy' hok1 (heqv.cl hcl) (fun z hz => (hfw1 z hz).2.2.2.1) (by omega)
      have eun : c_untold C1 i' = (C1.1, C1.2.1.set i' (y'.1, c_st y'.2.1 4 0, y'.2.2.1, y'.2.2.2), C1.2.2) := by
        unfold c_untold
        rw [hy']
      obtain ⟨lr9, lf9, m1, -⟩ := ht3.1.len
      have esum : c_sum (fun y => y.2.2.1.length) C1.2.1 = c_sum (fun y => y.2.2.1.length) C.2.1 := heqv.sum (fun u => u.2.1.length)
      have elen := heqv.len
      refine ⟨1 + 20 * (C.2.1.length + 2 * c_sum (fun y => y.2.2.1.length) C.2.1) + 1700, C.2.1.length + 80 * (C.2.1.length + 2 * c_sum (fun y => y.2.2.1.length) C.2.1) + 4200, by omega, by omega, w_is_of m1 <| sp_X2_loseGround ht3 hk' s1 s2 s3 (by rw [s4, List.length_set, esum, elen]; exact Nat.le_refl _) (by rw [s4, List.length_set, esum, elen]; exact Nat.le_refl _) (fun h5 ρ5 D a1 a2 a3 a4 a5 => ?_)⟩
      rw [← eun] at a4 ⊢
      refine hQ1 h5 i' y C1 D (fun c e hc0 _ => a3 c e (hs03 c e hc0 q_no.not) (fun z => ?_)) hy e e4 heqv a4
      have := hex2 c e (hs1 c e hc0 q_no.not)
      dsimp only at z
      rw [this] at z
      exact hown c z
  · obtain ⟨y', hy', ey⟩ := heqv.symm.mem hym
    exact absurd (by rw [← ey]; exact e) (hno y' hy')
theorem q_test_uses {ta fa x1 : Nat} {F : Nat → Nat} {fi : FI} {P : Int32 → HH → Prop} (hta : h ta = some (.inl (G.2.1 15, 1, .inr (.inr (.inr (.inr (fun _ => some fa))))))) (hF : q_fc h fa F) (hn : F 0 < 2 ^ 31) (hf : h x1 = some (.inr (16, [.ref fi.1, .int (nI fi.2.1), .int (nO fi.2.2)]))) (hb1 : fi.2.1 < 2 ^ 31) (hb2 : q_bd fi.2.2) (hP : P (if c_has (F 0) fi then 1 else 0) h) : w_test G h ta (some x1) P := by
  obtain ⟨l1, l2, hc⟩ := hF
  have hnar : ∀ c : Bool, narrow .boolean (.int (if c then 1 else 0)) = .int (if c then 1 else 0) := fun c => by cases c <;> rfl
  refine Or.inr (Or.inr (Or.inr (Or.inr (Or.inr ⟨some fa, hta, w_nn_of <| w_geti_of hc rfl <| w_nn_of <| w_is_of hf <| sp_X12_has hf ?_⟩))))
  have e : (nI fi.2.1 = nI (F 0) ∨ nO fi.2.2 = nI (F 0)) ↔ c_has (F 0) fi = true := by
    have e2 : nO fi.2.2 = nI (F 0) ↔ fi.2.2 = some (F 0) := nO_inj (b := some (F 0)) hb2 (fun m hm => by cases hm; exact hn)
    rw [nI_eq hb1 hn, e2]
    simp [c_has]
  by_cases q : c_has (F 0) fi = true
  · rw [if_pos (e.mpr q)]
    rw [if_pos q] at hP
    exact ⟨rfl, rfl, hP⟩
  · rw [if_neg (fun z => q (e.mp z))]
    rw [if_neg q] at hP
    exact ⟨rfl, rfl, hP⟩
def c_use (n : Nat) (y : CF) : Nat := if y.2.1 0 = n then 0 else y.2.2.1.countP (c_has n)
theorem sp_X2_uses {mc ms i0 : Nat} {y0 : CF} {Q : Int32 → HH → Prop} (hB : q_B G h ρ k b w p t C) (hok : c_ok C) (hy0 : C.2.1[i0]? = some y0) (hm : 50 ≤ mc) (hs : 150 ≤ ms)
    (hQ : ∀ h', q_sp q_no h h' → Q (nI (c_sum (c_use (y0.2.1 0)) C.2.1)) h') : wp_X2_uses G mc ms h b (some y0.1) Q := by
  obtain ⟨lr, lf, g1, g3, g2, ⟨fs3, g5⟩, ⟨fs4, g4⟩⟩ := hB.1.len
  have hl20 := hok.2.2.2.1
  have hnd := hB.1.nd hok
  have hyn0 := hok.2.2.2.2.2.1 y0 (List.mem_of_getElem? hy0)
  unfold wp_X2_uses
  refine w_geta_of g1 rfl <| w_nn_of ⟨1, 4, by omega, by omega, w_is_of g4 <| sp_J2_iterator g2 (by omega) (by omega) (fun it h2 hit hh2 hi2 => ?_)⟩
  have main : ∀ d i h1 nc nk, i + d = C.2.1.length → q_sp q_no h h1 → q_it h1 lf it i → nc + 2 * d ≤ mc → nk + 5 * d ≤ ms → wp_X2_uses_L10 G mc ms b Q (d + 1) h1 nc nk (some y0.1) (nI (c_sum (c_use (y0.2.1 0)) (C.2.1.take i))) (some it) := by
    intro d
    induction d with
    | zero =>
      intro i h1 nc nk hd hs hi hc hk9
      unfold wp_X2_uses_L10
      refine w_nn_of <| q_eachF (g2.kp (q_no_kp hs) rfl) hi (by omega) (fun _ => ?_) (fun y h' hy => ?_)
      · rw [List.take_of_length_le (by omega)]
        exact hQ h1 hs
      · have := (List.getElem?_eq_some_iff.mp hy).1
        omega
    | succ d ih =>
      intro i h1 nc nk hd hs hi hc hk9
      unfold wp_X2_uses_L10
      refine w_nn_of <| q_eachF (g2.kp (q_no_kp hs) rfl) hi (by omega) (fun z => by omega) (fun y h' hy hh hi' => ?_)
      have hs' := hs.nx hit hh
      have hB' := hB.no hs'
      obtain ⟨hry, l1, l2, hcy, hfl1, -⟩ := (hB'.1.fact hy).1
      have hst : c_sum (c_use (y0.2.1 0)) (C.2.1.take (i + 1)) = c_sum (c_use (y0.2.1 0)) (C.2.1.take i) + c_use (y0.2.1 0) y := c_sum_take hy
      have ha1 : (C.2.1.map Prod.fst)[i]? = some y.1 := by rw [List.getElem?_map, hy]; rfl
      have ha0 : (C.2.1.map Prod.fst)[i0]? = some y0.1 := by rw [List.getElem?_map, hy0]; rfl
      refine w_cast_of hcy ⟨fun z => ?_, fun z => ?_⟩
      · have hne : y.2.1 0 ≠ y0.2.1 0 := fun e => z (by
          have := c_un hok hy hy0 e
          subst this
          rw [hy] at hy0
          cases hy0
          rfl)
        refine w_geta_of hcy rfl ⟨by omega, by omega, fun ta hta => ⟨1, 4, by omega, by omega, ?_⟩⟩
        have up : ∀ {c : Nat} {e : va_E}, h' c = some e → va_up h' ta (some (.inl (G.2.1 15, 1, .inr (.inr (.inr (.inr (fun _ => some y0.1))))))) c = some e := fun hc => by rw [q_h_ne (q_new_ne hta hc)]; exact hc
        have hkR : q_kR G (fun _ => True) h' ρ (va_up h' ta (some (.inl (G.2.1 15, 1, .inr (.inr (.inr (.inr (fun _ => some y0.1)))))))) ρ := ⟨fun _ _ _ => rfl, fun c e hc _ _ => up hc⟩
        refine sp_X1_count (T := c_has (y0.2.1 0)) (hfl1.kR hkR trivial trivial trivial) (by omega) (by omega) (fun h3 x1 fi P hs3 hfi hf hP => ?_) (fun h3 hs3 => ?_)
        · have hbb := (hok.2.2.2.2.2.2 y (List.mem_of_getElem? hy)).1 fi hfi
          obtain ⟨m1, m2, hc0⟩ := hB'.cell hy0
          exact q_test_uses (hs3 ta _ q_h_same q_no.not) ⟨m1, m2, hs3 _ _ (up hc0) q_no.not⟩ (by omega) hf.2 (by omega) (fun n hn => Nat.lt_trans (hbb.2 n hn) (by decide)) hP
        · have hs3' : q_sp q_no h h3 := fun c e hc _ => hs3 c e (up (hs' c e hc q_no.not)) q_no.not
          have hi3 : q_it h3 lf it (i + 1) := by
            obtain ⟨a1, a2, a3, a4, a5, a6⟩ := id hi'
            exact ⟨a1, a2, a3, a4, hs3 _ _ (up a5) q_no.not, hs3 _ _ (up a6) q_no.not⟩
          have := ih (i + 1) h3 ((nc + 1) + 1) ((nk + 1) + 4) (by omega) hs3' hi3 (by omega) (by omega)
          rw [hst, show c_use (y0.2.1 0) y = y.2.2.1.countP (c_has (y0.2.1 0)) by unfold c_use; rw [if_neg hne]] at this
          rw [nI_add]
          exact this
      · have e1 : y.2.1 0 = y0.2.1 0 := by
          have := Option.some.inj z
          rw [this] at ha1
          have := q_nd hnd ha1 ha0
          subst this
          rw [hy] at hy0
          cases hy0
          rfl
        have := ih (i + 1) h' nc nk (by omega) hs' hi' (by omega) (by omega)
        rw [hst, show c_use (y0.2.1 0) y = 0 by unfold c_use; rw [if_pos e1], ← nI_add] at this
        exact this
  have := main C.2.1.length 0 h2 (0 + 1) (0 + 4) (by omega) (q_sp.nw hit hh2) hi2 (by omega) (by omega)
  exact ⟨_, this⟩
end GO3
