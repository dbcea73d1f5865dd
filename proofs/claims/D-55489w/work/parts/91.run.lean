set_option maxRecDepth 100000
/-! what a match binds; a book's invariant -/
def s_bnd (g : Nat → Int32) (v : Nat) : Prop := ∃ q : Nat, q ≤ 9 ∧ g v = nI q
theorem s_fit_bnd {g : Nat → Int32} {t q0 : Nat} (hq : q0 ≤ 9) (hg : ∀ v, g v = -1 ∨ s_bnd g v) : (∀ v, (s_fit g t (nI q0)).2 v = -1 ∨ s_bnd (s_fit g t (nI q0)).2 v) ∧ (∀ v, s_bnd g v → s_bnd (s_fit g t (nI q0)).2 v) ∧ (9 < t → s_bnd (s_fit g t (nI q0)).2 (t - 10)) := by
  unfold s_fit
  split
  · exact ⟨hg, fun _ h => h, fun h => by omega⟩
  · have key : ∃ q1 : Nat, q1 ≤ 9 ∧ (if g (t - 10) = -1 then nI q0 else g (t - 10)) = nI q1 := by
      split
      · exact ⟨q0, hq, rfl⟩
      · next h =>
        obtain ⟨q1, h1, h2⟩ := (hg (t - 10)).resolve_left h
        exact ⟨q1, h1, h2⟩
    obtain ⟨q1, h1, h2⟩ := key
    simp only [h2]
    have hv : ∀ v, upd g (t - 10) (nI q1) v = if v = t - 10 then nI q1 else g v := fun v => rfl
    refine ⟨fun v => ?_, fun v h => ?_, fun _ => ⟨q1, h1, by rw [hv, if_pos rfl]⟩⟩
    · by_cases z : v = t - 10
      · exact Or.inr ⟨q1, h1, by rw [hv, if_pos z]⟩
      · rcases hg v with g1 | ⟨q2, g2, g3⟩
        · exact Or.inl (by rw [hv, if_neg z]; exact g1)
        · exact Or.inr ⟨q2, g2, by rw [hv, if_neg z]; exact g3⟩
    · by_cases z : v = t - 10
      · exact ⟨q1, h1, by rw [hv, if_pos z]⟩
      · obtain ⟨q2, g2, g3⟩ := h
        exact ⟨q2, g2, by rw [hv, if_neg z]; exact g3⟩
theorem s_fits_bnd {g : Nat → Int32} {k fk : Int32} {t0 t1 p0 p1 : Nat} (h0 : p0 ≤ 9) (h1 : p1 ≤ 9) (hg : ∀ v, g v = -1 ∨ s_bnd g v) : (∀ v, (s_fits g k t0 t1 fk (nI p0) (nI p1)).2 v = -1 ∨ s_bnd (s_fits g k t0 t1 fk (nI p0) (nI p1)).2 v) ∧ (∀ v, s_bnd g v → s_bnd (s_fits g k t0 t1 fk (nI p0) (nI p1)).2 v) ∧ ((s_fits g k t0 t1 fk (nI p0) (nI p1)).1 = true → (9 < t0 → s_bnd (s_fits g k t0 t1 fk (nI p0) (nI p1)).2 (t0 - 10)) ∧ (9 < t1 → s_bnd (s_fits g k t0 t1 fk (nI p0) (nI p1)).2 (t1 - 10))) := by
  unfold s_fits
  split
  · obtain ⟨a1, a2, a3⟩ := s_fit_bnd (t := t0) h0 hg
    split
    · obtain ⟨b1, b2, b3⟩ := s_fit_bnd (t := t1) h1 a1
      exact ⟨b1, fun v h => b2 v (a2 v h), fun _ => ⟨fun h => b2 _ (a3 h), b3⟩⟩
    · exact ⟨a1, a2, fun h => by cases h⟩
  · exact ⟨hg, fun _ h => h, fun h => by cases h⟩
/-- a rule's variables stand where they may -/
def c_rw (r : Nat → Nat) : Prop := (∀ t, (t = r 8 ∨ t = r 9) → t ≤ 9 ∨ t = r 1 ∨ t = r 2 ∨ (r 3 = 1 ∧ (t = r 5 ∨ t = r 6))) ∧ (r 3 = 2 → ∀ t, (t = r 5 ∨ t = r 6) → t ≤ 9 ∨ t = r 1 ∨ t = r 2) ∧ (97 ≤ r 7 ∧ r 7 ≤ 102) ∧ (97 ≤ r 0 ∧ r 0 ≤ 102) ∧ (r 3 ≠ 0 → 97 ≤ r 4 ∧ r 4 ≤ 102)
theorem c_pers {r : Nat → Nat} {y : CF} {oz : Option CF} (hr : c_rw r) (hy : y.2.1 2 ≤ 9 ∧ y.2.1 3 ≤ 9) (h1 : (s_f1 r y.2.1).1 = true) (hz : ∀ z, oz = some z → (z.2.1 2 ≤ 9 ∧ z.2.1 3 ≤ 9) ∧ (s_f2 r (s_f1 r y.2.1).2 z.2.1).1 = true) (hn : oz = none → r 3 ≠ 1) {t : Nat} (ht : t = r 8 ∨ t = r 9) : ∃ q : Nat, q ≤ 9 ∧ s_pers (c_bind r y oz) t = nI q := by
  unfold s_pers
  by_cases q : t ≤ 9
  · rw [if_pos q]
    exact ⟨t, q, rfl⟩
  · rw [if_neg q]
    obtain ⟨a1, a2, a3⟩ := s_fits_bnd (g := s_g0) (k := nI (r 0)) (fk := nI (y.2.1 1)) (t0 := r 1) (t1 := r 2) hy.1 hy.2 (fun v => Or.inl rfl)
    obtain ⟨a4, a5⟩ := a3 h1
    have b12 : (t = r 1 ∨ t = r 2) → s_bnd (s_f1 r y.2.1).2 (t - 10) := by
      rintro (g | g)
      · rw [g]; exact a4 (by omega)
      · rw [g]; exact a5 (by omega)
    cases oz with
    | none =>
      rcases hr.1 t ht with g | g | g | ⟨g, -⟩
      · omega
      · exact b12 (Or.inl g)
      · exact b12 (Or.inr g)
      · exact absurd g (hn rfl)
    | some z =>
      obtain ⟨⟨z1, z2⟩, z3⟩ := hz z rfl
      obtain ⟨c1, c2, c3⟩ := s_fits_bnd (g := (s_f1 r y.2.1).2) (k := nI (r 4)) (fk := nI (z.2.1 1)) (t0 := r 5) (t1 := r 6) z1 z2 a1
      obtain ⟨c4, c5⟩ := c3 z3
      show s_bnd (s_f2 r (s_f1 r y.2.1).2 z.2.1).2 (t - 10)
      rcases hr.1 t ht with g | g | g | ⟨-, g | g⟩
      · omega
      · exact c2 _ (b12 (Or.inl g))
      · exact c2 _ (b12 (Or.inr g))
      · rw [g]; exact c4 (by omega)
      · rw [g]; exact c5 (by omega)
def c_I (C : CC) (n : Nat) : Prop := c_ok C ∧ c_fw C ∧ (∀ x1 ∈ C.1, c_rw x1.2) ∧ c_cl C ∧ C.2.2 0 ≤ n ∧ ∀ y ∈ C.2.1, y.2.2.1.length ≤ n ∧ y.2.2.2.length ≤ n
/-- the second fact of a mark -/
def c_oz (C : CC) (m : Nat) : Option CF := if m % 21 = 0 then none else C.2.1[m % 21 - 1]?
theorem c_oz_sec {C : CC} {m : Nat} : (c_oz C m).map (fun z => z.2.1 0) = c_sec C m := by
  unfold c_oz c_sec
  split <;> rfl
/-- the first of the agenda fires -/
def c_step (C C' : CC) (made : Option Nat) : Prop := ∃ m x1 y a one two, s_mn (c_du C) (s_key (c_w C)) none (some m) ∧ C.1[m / 420]? = some x1 ∧ C.2.1[m / 21 % 20]? = some y ∧ one ≤ 9 ∧ two ≤ 9 ∧ s_pers (c_bind x1.2 y (c_oz C m)) (x1.2 8) = nI one ∧ s_pers (c_bind x1.2 y (c_oz C m)) (x1.2 9) = nI two ∧ c_fire C (m / 21 % 20) (x1.1, y.2.1 0, c_sec C m) (x1.2 7) one two (c_trz y (c_oz C m)) a C' made
theorem c_du_oz {C : CC} {m : Nat} {x1 : Nat × (Nat → Nat)} {y : CF} (hx : C.1[m / 420]? = some x1) (hy : C.2.1[m / 21 % 20]? = some y) (hd : c_du C m = true) : (s_f1 x1.2 y.2.1).1 = true ∧ (∀ z, c_oz C m = some z → z ∈ C.2.1 ∧ x1.2 3 = 1 ∧ (s_f2 x1.2 (s_f1 x1.2 y.2.1).2 z.2.1).1 = true) ∧ (c_oz C m = none → x1.2 3 ≠ 1) := by
  obtain ⟨x1', y', e1, e2, e3, -⟩ := c_du_is hd
  rw [hx] at e1
  cases e1
  rw [hy] at e2
  cases e2
  unfold s_is at e3
  have f1 : m % 420 / 21 = m / 21 % 20 := by omega
  have f2 : m % 420 % 21 = m % 21 := by omega
  have f3 : (q_fs C)[m / 21 % 20]? = some y.2.1 := by rw [q_fs, List.getElem?_map, hy]; rfl
  rw [f1, f2, f3] at e3
  simp only at e3
  unfold c_oz
  by_cases q : m % 21 = 0
  · rw [if_pos q] at e3
    simp only [Bool.and_eq_true, bne_iff_ne, ne_eq, s_fst] at e3
    exact ⟨e3.2.1, fun z hz => (by rw [if_pos q] at hz; cases hz), fun _ => e3.1⟩
  · rw [if_neg q] at e3
    rw [if_neg q]
    rw [q_fs, List.getElem?_map] at e3
    cases e : C.2.1[m % 21 - 1]? with
    | none =>
      rw [e] at e3
      cases e3
    | some z =>
      rw [e] at e3
      simp only [Option.map_some, Bool.and_eq_true, beq_iff_eq] at e3
      exact ⟨e3.1.2, fun z' hz => (by cases hz; exact ⟨List.mem_of_getElem? e, e3.1.1, e3.2⟩), fun h => by cases h⟩
theorem c_I.fire {C C' : CC} {n i : Nat} {y : CF} {fi : FI} {kd one two a : Nat} {tr : UInt32} {made : Option Nat} (hI : c_I C n) (hn : n < 99999) (hy : C.2.1[i]? = some y) (hfi1 : fi.2.1 = y.2.1 0) (hfi2 : ∀ m, fi.2.2 = some m → ∃ z ∈ C.2.1, z.2.1 0 = m) (hkd : 97 ≤ kd ∧ kd ≤ 102) (ho : one ≤ 9) (ht : two ≤ 9) (htr : q_tr tr) (hf : c_fire C i fi kd one two tr a C' made) : c_I C' (n + 1) ∧ C'.1 = C.1 := by
  obtain ⟨hok, hfw, hrw, hcl, h0, hL⟩ := hI
  have hfib : fi.2.1 < 100000 ∧ ∀ m, fi.2.2 = some m → m < 100000 := by
    refine ⟨by rw [hfi1]; exact hok.2.2.2.2.2.1 y (List.mem_of_getElem? hy), fun m hm => ?_⟩
    obtain ⟨z, hz, rfl⟩ := hfi2 m hm
    exact hok.2.2.2.2.2.1 z hz
  have hcnt : ∀ y ∈ C.2.1, y.2.1 0 < C.2.2 0 := fun y hy => (hfw y hy).2.2.2.2.2
  have hok0 : c_ok (c_fir C) := hok
  -- a book D of facts like C's, fi added somewhere
  have aF : ∀ {D : CC} {i : Nat}, (c_addF D i fi).1 = D.1 ∧ (c_addF D i fi).2.2 = D.2.2 ∧ (∀ z ∈ (c_addF D i fi).2.1, ∃ z0 ∈ D.2.1, z.2.1 = z0.2.1 ∧ z.2.2.1 = z0.2.2.1 ∧ z.2.2.2.length ≤ z0.2.2.2.length + 1) ∧ (∀ z0 ∈ D.2.1, ∃ z ∈ (c_addF D i fi).2.1, z.2.1 = z0.2.1) := by
    intro D i
    unfold c_addF
    split
    · exact ⟨rfl, rfl, fun z hz => ⟨z, hz, rfl, rfl, by omega⟩, fun z hz => ⟨z, hz, rfl⟩⟩
    · next u hu =>
      have hlt := (List.getElem?_eq_some_iff.mp hu).1
      refine ⟨rfl, rfl, fun z hz => ?_, fun z0 hz0 => ?_⟩
      · obtain ⟨j, hj⟩ := List.getElem?_of_mem hz
        by_cases q : j = i
        · subst q
          rw [List.getElem?_set_self hlt] at hj
          cases hj
          exact ⟨u, List.mem_of_getElem? hu, rfl, rfl, by simp⟩
        · rw [List.getElem?_set_ne (Ne.symm q)] at hj
          exact ⟨z, List.mem_of_getElem? hj, rfl, rfl, by omega⟩
      · obtain ⟨j, hj⟩ := List.getElem?_of_mem hz0
        by_cases q : j = i
        · subst q
          rw [hu] at hj
          cases hj
          exact ⟨_, List.mem_of_getElem? (List.getElem?_set_self hlt), rfl⟩
        · exact ⟨z0, List.mem_of_getElem? (by rw [List.getElem?_set_ne (Ne.symm q)]; exact hj), rfl⟩
  have aR : ∀ {D : CC} {i : Nat}, (c_addR D i fi).1 = D.1 ∧ (c_addR D i fi).2.2 = D.2.2 ∧ (∀ z ∈ (c_addR D i fi).2.1, ∃ z0 ∈ D.2.1, z.2.1 = z0.2.1 ∧ z.2.2.2 = z0.2.2.2 ∧ z.2.2.1.length ≤ z0.2.2.1.length + 1 ∧ ∀ u ∈ z.2.2.1, u ∈ z0.2.2.1 ∨ u = fi) ∧ (∀ z0 ∈ D.2.1, ∃ z ∈ (c_addR D i fi).2.1, z.2.1 = z0.2.1) := by
    intro D i
    unfold c_addR
    split
    · exact ⟨rfl, rfl, fun z hz => ⟨z, hz, rfl, rfl, by omega, fun u hu => Or.inl hu⟩, fun z hz => ⟨z, hz, rfl⟩⟩
    · next u hu =>
      have hlt := (List.getElem?_eq_some_iff.mp hu).1
      refine ⟨rfl, rfl, fun z hz => ?_, fun z0 hz0 => ?_⟩
      · obtain ⟨j, hj⟩ := List.getElem?_of_mem hz
        by_cases q : j = i
        · subst q
          rw [List.getElem?_set_self hlt] at hj
          cases hj
          refine ⟨u, List.mem_of_getElem? hu, rfl, rfl, by simp, fun v hv => ?_⟩
          rcases List.mem_append.mp hv with g | g
          · exact Or.inl g
          · exact Or.inr (List.mem_singleton.mp g)
        · rw [List.getElem?_set_ne (Ne.symm q)] at hj
          exact ⟨z, List.mem_of_getElem? hj, rfl, rfl, by omega, fun u hu => Or.inl hu⟩
      · obtain ⟨j, hj⟩ := List.getElem?_of_mem hz0
        by_cases q : j = i
        · subst q
          rw [hu] at hj
          cases hj
          exact ⟨_, List.mem_of_getElem? (List.getElem?_set_self hlt), rfl⟩
        · exact ⟨z0, List.mem_of_getElem? (by rw [List.getElem?_set_ne (Ne.symm q)]; exact hj), rfl⟩
  -- both lists
  have both : ∀ {D : CC} {i j : Nat}, c_ok D → c_fw D → c_cl D → (∀ x1 ∈ D.1, c_rw x1.2) → D.2.2 0 ≤ n + 1 → (∀ y ∈ D.2.1, y.2.2.1.length ≤ n ∧ y.2.2.2.length ≤ n) → (∃ z ∈ D.2.1, z.2.1 0 = fi.2.1) → (∀ m, fi.2.2 = some m → ∃ z ∈ D.2.1, z.2.1 0 = m) → c_I (c_addR (c_addF D i fi) j fi) (n + 1) := by
    intro D i j d1 d2 d3 d4 d5 d6 d7 d8
    have fwd : ∀ z0 ∈ D.2.1, ∃ z ∈ (c_addR (c_addF D i fi) j fi).2.1, z.2.1 = z0.2.1 := fun z0 hz0 => by
      obtain ⟨z1, h1, e1⟩ := aF.2.2.2 z0 hz0
      obtain ⟨z2, h2, e2⟩ := aR.2.2.2 z1 h1
      exact ⟨z2, h2, e2.trans e1⟩
    have bwd : ∀ z ∈ (c_addR (c_addF D i fi) j fi).2.1, ∃ z0 ∈ D.2.1, z.2.1 = z0.2.1 ∧ z.2.2.1.length ≤ z0.2.2.1.length + 1 ∧ z.2.2.2.length ≤ z0.2.2.2.length + 1 ∧ ∀ u ∈ z.2.2.1, u ∈ z0.2.2.1 ∨ u = fi := fun z hz => by
      obtain ⟨z1, h1, e1, e2, e3, e4⟩ := aR.2.2.1 z hz
      obtain ⟨z0, h0, f1, f2, f3⟩ := aF.2.2.1 z1 h1
      exact ⟨z0, h0, e1.trans f1, by rw [← f2]; exact e3, by rw [e2]; exact f3, by rw [← f2]; exact e4⟩
    refine ⟨(d1.addF hfib).addR hfib, fun z hz => ?_, by rw [aR.1, aF.1]; exact d4, fun z hz u hu => ?_, by rw [aR.2.1, aF.2.1]; exact d5, fun z hz => ?_⟩
    · obtain ⟨z0, hz0, e1, -⟩ := bwd z hz
      rw [e1, aR.2.1, aF.2.1]
      exact d2 z0 hz0
    · obtain ⟨z0, hz0, e1, -, -, e4⟩ := bwd z hz
      have key : (∃ z ∈ D.2.1, z.2.1 0 = u.2.1) ∧ ∀ m, u.2.2 = some m → ∃ z ∈ D.2.1, z.2.1 0 = m := by
        rcases e4 u hu with g | g
        · exact d3 z0 hz0 u g
        · rw [g]; exact ⟨d7, d8⟩
      obtain ⟨⟨v, hv, ev⟩, k2⟩ := key
      obtain ⟨v', hv', ev'⟩ := fwd v hv
      refine ⟨⟨v', hv', by rw [ev', ev]⟩, fun m hm => ?_⟩
      obtain ⟨v, hv, ev⟩ := k2 m hm
      obtain ⟨v', hv', ev'⟩ := fwd v hv
      exact ⟨v', hv', by rw [ev', ev]⟩
    · obtain ⟨z0, hz0, -, e2, e3, -⟩ := bwd z hz
      have := d6 z0 hz0
      omega
  have hd7 : ∃ z ∈ C.2.1, z.2.1 0 = fi.2.1 := ⟨y, List.mem_of_getElem? hy, hfi1.symm⟩
  rcases hf with ⟨j, u, hu, e1, e2, e3, rfl, rfl⟩ | ⟨hno, hl, rfl, rfl⟩ | ⟨hno, hl, rfl, rfl⟩
  · exact ⟨both (D := c_fir C) hok hfw hcl hrw (show C.2.2 0 ≤ n + 1 by omega) hL hd7 hfi2, by rw [aR.1, aF.1]; rfl⟩
  · refine ⟨both (D := c_come (c_fir C) a kd one two tr) (c_come_ok (C := c_fir C) hok hcnt (show C.2.2 0 < 100000 by omega) hl) (fun z hz => ?_) (fun z hz fi' hfi' => ?_) hrw (show (c_st (c_fir C).2.2 0 (C.2.2 0 + 1)) 0 ≤ n + 1 by unfold c_st; rw [if_pos rfl]; omega) (fun z hz => ?_) ?_ (fun m hm => ?_), by rw [aR.1, aF.1]; rfl⟩
    · have e0 : (c_come (c_fir C) a kd one two tr).2.2 0 = C.2.2 0 + 1 := by
        show c_st (c_fir C).2.2 0 ((c_fir C).2.2 0 + 1) 0 = _
        unfold c_st
        rw [if_pos rfl]
        rfl
      rw [e0]
      rcases List.mem_append.mp hz with g | g
      · obtain ⟨q1, q2, q3, q4, q5, q6⟩ := hfw z g
        exact ⟨q1, q2, q3, q4, q5, by omega⟩
      · rw [List.mem_singleton.mp g]
        refine ⟨hkd, ho, ht, Nat.zero_le _, ?_, ?_⟩
        · show q_tr (q_tb (tr.toNat))
          unfold q_tb
          rw [UInt32.ofNat_toNat]
          exact htr
        · show C.2.2 0 < C.2.2 0 + 1
          omega
    · rcases List.mem_append.mp hz with g | g
      · obtain ⟨⟨v, hv, ev⟩, k2⟩ := hcl z g fi' hfi'
        refine ⟨⟨v, List.mem_append_left _ hv, ev⟩, fun m hm => ?_⟩
        obtain ⟨v, hv, ev⟩ := k2 m hm
        exact ⟨v, List.mem_append_left _ hv, ev⟩
      · rw [List.mem_singleton.mp g] at hfi'
        cases hfi'
    · rcases List.mem_append.mp hz with g | g
      · exact hL z g
      · rw [List.mem_singleton.mp g]
        exact ⟨Nat.zero_le _, Nat.zero_le _⟩
    · obtain ⟨v, hv, ev⟩ := hd7
      exact ⟨v, List.mem_append_left _ hv, ev⟩
    · obtain ⟨v, hv, ev⟩ := hfi2 m hm
      exact ⟨v, List.mem_append_left _ hv, ev⟩
  · refine ⟨⟨hok0.addF hfib, fun z hz => ?_, by show ∀ x1 ∈ (c_addF (c_fir C) i fi).1, c_rw x1.2; rw [aF.1]; exact hrw, fun z hz fi' hfi' => ?_, ?_, fun z hz => ?_⟩, by show (c_addF (c_fir C) i fi).1 = C.1; rw [aF.1]; rfl⟩
    · obtain ⟨z0, hz0, e1, -⟩ := aF.2.2.1 z hz
      have : (c_idle (c_addF (c_fir C) i fi)).2.2 0 = C.2.2 0 := by
        show c_st (c_addF (c_fir C) i fi).2.2 3 ((c_addF (c_fir C) i fi).2.2 3 + 1) 0 = _
        rw [aF.2.1]
        rfl
      rw [e1, this]
      exact hfw z0 hz0
    · obtain ⟨z0, hz0, e1, e2, -⟩ := aF.2.2.1 z hz
      rw [e2] at hfi'
      obtain ⟨⟨v, hv, ev⟩, k2⟩ := hcl z0 hz0 fi' hfi'
      obtain ⟨v', hv', ev'⟩ := (aF (D := c_fir C) (i := i)).2.2.2 v hv
      refine ⟨⟨v', hv', by rw [ev', ev]⟩, fun m hm => ?_⟩
      obtain ⟨v, hv, ev⟩ := k2 m hm
      obtain ⟨v', hv', ev'⟩ := (aF (D := c_fir C) (i := i)).2.2.2 v hv
      exact ⟨v', hv', by rw [ev', ev]⟩
    · show c_st (c_addF (c_fir C) i fi).2.2 3 ((c_addF (c_fir C) i fi).2.2 3 + 1) 0 ≤ _
      rw [aF.2.1]
      show C.2.2 0 ≤ n + 1
      omega
    · obtain ⟨z0, hz0, e1, e2, e3⟩ := aF.2.2.1 z hz
      have := hL z0 hz0
      rw [e2]
      omega
/-! to run -/
theorem c_I.mono {C : CC} {n n' : Nat} (h : c_I C n) (hn : n ≤ n') : c_I C n' := by
  obtain ⟨h1, h2, h3, h4, h5, h6⟩ := h
  exact ⟨h1, h2, h3, h4, by omega, fun y hy => by have := h6 y hy; omega⟩
def c_quiet (C : CC) : Prop := s_mn (c_du C) (s_key (c_w C)) none none
def c_runs : Nat → CC → CC → Nat → Prop
  | 0, C, C', c => C' = C ∧ c = 0
  | n + 1, C, C', c => (c_quiet C ∧ C' = C ∧ c = 0) ∨ ∃ C1 made c1, c_step C C1 made ∧ c_runs n C1 C' c1 ∧ c = c1 + 1
section RUN
variable {G : GG} {h h' : HH} {ρ ρ' : RO} {k b w p t : Nat} {C : CC}
theorem q_B.spn (hB : q_B G h ρ k b w p t C) (hs : q_sp (q_S w p t) h h') (hw : q_wv G h' b w p t) (he : q_ex h ρ ρ') : q_B G h' ρ' k b w p t C :=
  hB.ro (hB.1.kp ⟨he, fun c e hc hl _ => hs c e hc (hB.2.1.ne hc hl)⟩) hw he
theorem q_S_k (hB : q_B G h ρ k b w p t C) (hs : q_sp (q_S w p t) h h') : q_sp (fun c => (ρ c).1 = k) h h' := fun c e hc hS => hs c e hc (fun z => by
  rcases z with z | z | z
  · exact hS (show (ρ c).1 = k by rw [z, hB.2.2.1])
  · exact hS (show (ρ c).1 = k by rw [z, hB.2.2.2.1])
  · exact hS (show (ρ c).1 = k by rw [z, hB.2.2.2.2]))
theorem q_S_dm (hw : q_wv G h' b w p t) (hs : q_sp (q_S w p t) h h') : q_dm h h' := fun c e hc => by
  obtain ⟨c1, c2, c3⟩ := hw.cells
  by_cases z : q_S w p t c
  · rcases z with z | z | z
    · rw [z]; exact c1
    · rw [z]; exact c2
    · rw [z]; exact c3
  · exact ⟨e, hs c e hc z⟩
/-- a match of the agenda fires -/
theorem sp_fire_m {mc ms n m fd : Nat} {fi : FI} {Q : Int32 → HH → Prop} (hB : q_B G h ρ k b w p t C) (hk : 10 ≤ k) (hI : c_I C n) (hn : n < 3990) (hmn : s_mn (c_du C) (s_key (c_w C)) none (some m)) (hmk : c_mk C m fi) (hfd : q_fi h ρ fd fi) (hnc : 10 ≤ mc) (hnk : 4 * n + 130 ≤ ms)
    (hQ : ∀ h' ρ' C' made, c_step C C' made → c_I C' (n + 1) → C'.1 = C.1 → q_dm h h' → q_ex h ρ ρ' → q_sp (fun c => (ρ c).1 = k) h h' → q_B G h' ρ' k b w p t C' → Q (nO made) h') : wp_X2_fire G mc ms h b (some fd) Q := by
  obtain ⟨hok, hfw, hrw, hcl, h0, hL⟩ := id hI
  obtain ⟨x1, y, hx, hy, hfi, -⟩ := hmk
  have hd := (hmn.1 m rfl).1
  obtain ⟨d1, d2, d3⟩ := c_du_oz hx hy hd
  have hym := List.mem_of_getElem? hy
  have hxm := List.mem_of_getElem? hx
  have hrx := hrw x1 hxm
  obtain ⟨y1, y2, y3, y4, y5, y6⟩ := hfw y hym
  have hz : ∀ z, c_oz C m = some z → (z.2.1 2 ≤ 9 ∧ z.2.1 3 ≤ 9) ∧ (s_f2 x1.2 (s_f1 x1.2 y.2.1).2 z.2.1).1 = true := fun z hz => by
    obtain ⟨e1, e2, e3⟩ := d2 z hz
    obtain ⟨-, q2, q3, -⟩ := hfw z e1
    exact ⟨⟨q2, q3⟩, e3⟩
  obtain ⟨one, ho, hone⟩ := c_pers hrx ⟨y2, y3⟩ d1 hz d3 (t := x1.2 8) (Or.inl rfl)
  obtain ⟨two, ht, htwo⟩ := c_pers hrx ⟨y2, y3⟩ d1 hz d3 (t := x1.2 9) (Or.inr rfl)
  have htr : q_tr (c_trz y (c_oz C m)) := by
    cases e : c_oz C m with
    | none => exact y5
    | some z =>
      obtain ⟨-, -, -, -, z5, -⟩ := hfw z (d2 z e).1
      exact fm01 y5 z5
  obtain ⟨ix, hix⟩ := List.getElem?_of_mem hxm
  have hkd : 97 ≤ x1.2 7 ∧ x1.2 7 ≤ 102 := hrx.2.2.1
  refine sp_X2_fire (y := y) (oz := c_oz C m) (x1 := x1) (Lb := n) hB hk hok hfw (by omega) hxm hy (fun z hz => ⟨(d2 z hz).1, by rw [(d2 z hz).2.1]; decide⟩) hfd (by rw [hfi, c_oz_sec]) hone htwo ho ht hL (by omega) hnc hnk (fun h' ρ' a C' made a1 a2 a3 a4 a5 => ?_)
  have hI' := hI.fire (by omega) hy (by rw [hfi]) (fun q hq => by
    rw [hfi, ← c_oz_sec] at hq
    obtain ⟨z, hz, e⟩ := Option.map_eq_some_iff.mp hq
    exact ⟨z, (d2 z hz).1, e⟩) hkd ho ht htr a1
  rw [hfi] at a1
  exact hQ h' ρ' C' made ⟨m, x1, y, a, one, two, hmn, hx, hy, ho, ht, hone, htwo, a1⟩ hI'.1 hI'.2 a2 a3 a4 a5
theorem sp_X2_run {mc ms n : Nat} {v : Int32} {Q : Int32 → HH → Prop} {X : String → Nat → HH → Prop} (hB : q_B G h ρ k b w p t C) (hk : 10 ≤ k) (hI : c_I C n) (hn : n + 30 < 3990) (hnc : 340 ≤ mc) (hnk : 30 * (4 * (n + 30) + 140) + 10 ≤ ms)
    (hX : ¬ (0 ≤ v.toInt ∧ v.toInt ≤ 30) → ∀ q, h q = none → X "java/lang/IllegalArgumentException" q h)
    (hQ : ∀ most C' c h' ρ', v = nI most → most ≤ 30 → c_runs most C C' c → c ≤ most → c_I C' (n + c) → C'.1 = C.1 → q_dm h h' → q_ex h ρ ρ' → q_sp (fun c => (ρ c).1 = k) h h' → q_B G h' ρ' k b w p t C' → Q (nI c) h') : wp_X2_run G mc ms h b v Q X := by
  unfold wp_X2_run
  refine sp_inR 0 30 (by decide) (by decide) (fun a1 a2 => ⟨1, 6, by omega, by omega, sp_X1_checkArgument (by omega) (by omega) (fun _ => ?_) (fun z => absurd z (by decide))⟩) (fun hno => ⟨1, 6, by omega, by omega, sp_X1_checkArgument (by omega) (by omega) (fun z => absurd rfl z) (fun _ => hX hno)⟩)
  obtain ⟨most, rfl, -, hmost⟩ := q_nat (a := 0) (c := 30) a1 a2
  clear a1 a2
  obtain ⟨K, hK⟩ : ∃ K, K = 4 * (n + 30) + 140 := ⟨_, rfl⟩
  rw [← hK] at hnk
  have main : ∀ d j C1 h1 ρ1 nc nk fd m fi, j + (d + 1) = most → (∀ C' c, c_runs (d + 1) C1 C' c → c_runs most C C' (j + c)) → c_I C1 (n + j) → C1.1 = C.1 → q_dm h h1 → q_ex h ρ ρ1 → q_sp (fun c => (ρ c).1 = k) h h1 → q_B G h1 ρ1 k b w p t C1 → s_mn (c_du C1) (s_key (c_w C1)) none (some m) → c_mk C1 m fi → q_fi h1 ρ1 fd fi → nc + 11 * (d + 1) ≤ mc → nk + (d + 1) * K ≤ ms →
      wp_X2_run_L27 G mc ms b Q X (d + 2) h1 nc nk (nI most) (nI j) (some fd) := by
    intro d
    induction d with
    | zero =>
      intro j C1 h1 ρ1 nc nk fd m fi hj hacc hI1 hC1 hdm hex hsp hB1 hmn hmk hfd hc hs
      obtain ⟨lr, lf, g1, -⟩ := hB1.1.len
      have hs' : nk + K ≤ ms := by rw [Nat.zero_add, Nat.one_mul] at hs; exact hs
      have hc' : nc + 11 ≤ mc := hc
      have hj' : j < 31 := by omega
      clear hs hc
      unfold wp_X2_run_L27
      refine ⟨fun z => (by cases z), fun a z => ?_⟩
      cases z
      have q1 : nc + 10 ≤ mc := by omega
      have q2 : nk + (4 * (n + 30) + 130) ≤ ms := by omega
      have q3 : n + j < 3990 := by omega
      have q4 : 4 * (n + j) + 130 ≤ 4 * (n + 30) + 130 := by omega
      refine ⟨10, 4 * (n + 30) + 130, q1, q2, ?_⟩
      refine w_is_of g1 ?_
      refine sp_fire_m hB1 hk hI1 q3 hmn hmk hfd (Nat.le_refl _) q4 ?_
      intro h2 ρ2 C2 made a1 a2 a3 a4 a5 a6 a7
      rw [nI_1]
      refine q_bt (by rw [hj]) ?_
      unfold wp_X2_run_L27
      refine ⟨fun _ => ?_, fun a z => (by cases z)⟩
      exact hQ most C2 (j + 1) h2 ρ2 rfl hmost (hacc C2 1 (Or.inr ⟨C2, made, 0, a1, ⟨rfl, rfl⟩, rfl⟩)) (by omega) a2 (a3.trans hC1) (hdm.tr a4) (q_ex.tr hdm hex a5) (fun c e hc hS => a6 c e (hsp c e hc hS) (fun z => hS (by dsimp only at z ⊢; rw [hex c e hc] at z; exact z))) a7
    | succ d ih =>
      intro j C1 h1 ρ1 nc nk fd m fi hj hacc hI1 hC1 hdm hex hsp hB1 hmn hmk hfd hc hs
      obtain ⟨lr, lf, g1, -⟩ := hB1.1.len
      unfold wp_X2_run_L27
      refine ⟨fun z => (by cases z), fun a z => ?_⟩
      cases z
      rw [Nat.succ_mul] at hs
      generalize hP : (d + 1) * K = P at hs
      have hj' : j < 31 := by omega
      have q1 : nc + 10 ≤ mc := by omega
      have q2 : nk + (4 * (n + 30) + 130) ≤ ms := by omega
      have q3 : n + j < 3990 := by omega
      have q4 : 4 * (n + j) + 130 ≤ 4 * (n + 30) + 130 := by omega
      refine ⟨10, 4 * (n + 30) + 130, q1, q2, ?_⟩
      refine w_is_of g1 ?_
      refine sp_fire_m hB1 hk hI1 q3 hmn hmk hfd (Nat.le_refl _) q4 ?_
      intro h2 ρ2 C2 made a1 a2 a3 a4 a5 a6 a7
      have hdm2 := hdm.tr a4
      have hex2 : q_ex h ρ ρ2 := q_ex.tr hdm hex a5
      have hsp2 : q_sp (fun c => (ρ c).1 = k) h h2 := fun c e hc hS => a6 c e (hsp c e hc hS) (fun z => hS (by dsimp only at z ⊢; rw [hex c e hc] at z; exact z))
      obtain ⟨lr2, lf2, g12, -⟩ := a7.1.len
      rw [nI_1]
      refine q_bf (fun z => ?_) ⟨1, 3, by omega, by omega, w_is_of g12 <| sp_X2_foremost a2.1 a7.1 a7.2.1 (by omega) (by omega) (fun h3 b1 b2 b3 => ?_) (fun h3 fd3 m3 fi3 b0 b1 b2 b3 b4 b5 b6 => ?_)⟩
      · have := (nI_eq (by omega) (by omega)).mp z
        omega
      · unfold wp_X2_run_L27
        refine ⟨fun _ => ?_, fun a z => (by cases z)⟩
        have hB3 := a7.sp b1 b2
        exact hQ most C2 (j + 1) h3 ρ2 rfl hmost (hacc C2 1 (Or.inr ⟨C2, made, 0, a1, Or.inl ⟨b3, rfl, rfl⟩, rfl⟩)) (by omega) a2 (a3.trans hC1) (hdm2.tr (q_S_dm b2 b1)) hex2 (fun c e hc hS => q_S_k a7 b1 c e (hsp2 c e hc hS) (fun z => hS (by dsimp only at z ⊢; rw [hex2 c e hc] at z; exact z))) hB3
      · have he3 : q_ex h2 ρ2 (q_up ρ2 fd3 (0, 0)) := q_ex_up b0
        have hB3 : q_B G h3 (q_up ρ2 fd3 (0, 0)) k b w p t C2 := a7.spn b1 b2 he3
        refine ih (j + 1) C2 h3 (q_up ρ2 fd3 (0, 0)) _ _ fd3 m3 fi3 (by omega) (fun C' c hr => ?_) a2 (a3.trans hC1) (hdm2.tr (q_S_dm b2 b1)) (q_ex.tr hdm2 hex2 he3) (fun c e hc hS => q_S_k a7 b1 c e (hsp2 c e hc hS) (fun z => hS (by dsimp only at z ⊢; rw [hex2 c e hc] at z; exact z))) hB3 b3 b5 ⟨q_up_same, b6⟩ (by omega) (by rw [hP]; omega)
        have := hacc C' (c + 1) (Or.inr ⟨C2, made, c, a1, hr, rfl⟩)
        rw [show j + 1 + c = j + (c + 1) by omega]
        exact this
  obtain ⟨lr, lf, g1, -⟩ := hB.1.len
  refine ⟨fun z => ⟨1, 3, by omega, by omega, w_is_of g1 <| sp_X2_foremost hI.1 hB.1 hB.2.1 (by omega) (by omega) (fun h3 b1 b2 b3 => ⟨1, ?_⟩) (fun h3 fd3 m3 fi3 b0 b1 b2 b3 b4 b5 b6 => ?_)⟩, fun z => ⟨1, ?_⟩⟩
  · unfold wp_X2_run_L27
    refine ⟨fun _ => ?_, fun a z => (by cases z)⟩
    have hr : c_runs most C C 0 := by
      cases most with
      | zero => exact ⟨rfl, rfl⟩
      | succ q => exact Or.inl ⟨b3, rfl, rfl⟩
    exact hQ most C 0 h3 ρ rfl hmost hr (by omega) hI rfl (q_S_dm b2 b1) (fun _ _ _ => rfl) (q_S_k hB b1) (hB.sp b1 b2)
  · have hpos : 0 < most := by
      rcases Nat.eq_zero_or_pos most with q | q
      · rw [q] at z
        exact absurd rfl z
      · exact q
    obtain ⟨d, rfl⟩ : ∃ d, most = d + 1 := ⟨most - 1, by omega⟩
    have he3 : q_ex h ρ (q_up ρ fd3 (0, 0)) := q_ex_up b0
    have hmul : (d + 1) * K ≤ 30 * K := Nat.mul_le_mul_right _ hmost
    generalize hP : (d + 1) * K = P at hmul
    refine ⟨d + 2, main d 0 C h3 (q_up ρ fd3 (0, 0)) _ _ fd3 m3 fi3 (by omega) (fun C' c hr => by rw [Nat.zero_add]; exact hr) hI rfl (q_S_dm b2 b1) he3 (q_S_k hB b1) (hB.spn b1 b2 he3) b3 b5 ⟨q_up_same, b6⟩ (by omega) (by rw [hP]; omega)⟩
  · have : most = 0 := (nI_eq (b := 0) (by omega) (by omega)).mp z
    subst this
    unfold wp_X2_run_L27
    exact ⟨fun _ => hQ 0 C 0 h ρ rfl (by omega) ⟨rfl, rfl⟩ (by omega) hI rfl q_dm.rf (fun _ _ _ => rfl) q_sp.rf hB, fun a z => (by cases z)⟩
theorem sp_X2_fireFirst {mc ms n : Nat} {Q : Int32 → HH → Prop} {X : String → Nat → HH → Prop} (hB : q_B G h ρ k b w p t C) (hk : 10 ≤ k) (hI : c_I C n) (hn : n < 3990) (hnc : 20 ≤ mc) (hnk : 4 * n + 150 ≤ ms)
    (hX : c_quiet C → ∀ a h', h a = none → q_dm h h' → q_sp (fun c => (ρ c).1 = k) h h' → q_B G h' ρ k b w p t C → q_rf h' a 5 (nI (C.2.2 2)) → X "MatchmakerRules$Refused" a h')
    (hQ : ∀ h' ρ' C' made, c_step C C' made → c_I C' (n + 1) → C'.1 = C.1 → q_dm h h' → q_ex h ρ ρ' → q_sp (fun c => (ρ c).1 = k) h h' → q_B G h' ρ' k b w p t C' → Q (nO made) h') : wp_X2_fireFirst G mc ms h b Q X := by
  obtain ⟨lr, lf, g1, -⟩ := hB.1.len
  unfold wp_X2_fireFirst
  refine ⟨1, 3, by omega, by omega, w_is_of g1 <| sp_X2_foremost hI.1 hB.1 hB.2.1 (by omega) (by omega) (fun h3 b1 b2 b3 => ⟨fun _ => ?_, fun a z => (by cases z)⟩) (fun h3 fd3 m3 fi3 b0 b1 b2 b3 b4 b5 b6 => ⟨fun z => (by cases z), fun a z => ?_⟩)⟩
  · have hB3 := hB.sp b1 b2
    obtain ⟨lr3, lf3, g13, -⟩ := hB3.1.len
    unfold wp_X2_fireFirst_L14
    refine w_geti_of g13 rfl ⟨1, 8, by omega, by omega, sp_X11_check (by omega) (by omega) (fun z => absurd rfl z) (fun _ a h4 ha hh hrf => ?_)⟩
    have ha0 : h a = none := by
      cases e : h a with
      | none => rfl
      | some x1 =>
        obtain ⟨e', he'⟩ := q_S_dm b2 b1 a x1 e
        rw [ha] at he'
        cases he'
    have hs4 : q_sp q_no h3 h4 := q_sp.nw ha hh
    exact hX b3 a h4 ha0 ((q_S_dm b2 b1).tr (fun c e hc => ⟨e, hs4 c e hc q_no.not⟩)) (fun c e hc hS => hs4 c e (q_S_k hB b1 c e hc hS) q_no.not) (hB3.no hs4) hrf
  · cases z
    have he3 : q_ex h ρ (q_up ρ fd3 (0, 0)) := q_ex_up b0
    have hB3 := hB.spn b1 b2 he3
    obtain ⟨lr3, lf3, g13, -⟩ := hB3.1.len
    unfold wp_X2_fireFirst_L14
    refine w_geti_of g13 rfl ⟨1, 8, by omega, by omega, sp_X11_check (by omega) (by omega) (fun _ => ?_) (fun z => absurd z (by decide))⟩
    refine ⟨10, 4 * n + 130, by omega, by omega, w_is_of g13 <| sp_fire_m hB3 hk hI (by omega) b3 b5 ⟨q_up_same, b6⟩ (by omega) (by omega) (fun h4 ρ4 C4 made a1 a2 a3 a4 a5 a6 a7 => ?_)⟩
    refine hQ h4 ρ4 C4 made a1 a2 a3 ((q_S_dm b2 b1).tr a4) (q_ex.tr (q_S_dm b2 b1) he3 a5) (fun c e hc hS => a6 c e (q_S_k hB b1 c e hc hS) (fun z => hS ?_)) a7
    dsimp only at z ⊢
    rw [he3 c e hc] at z
    exact z
end RUN
