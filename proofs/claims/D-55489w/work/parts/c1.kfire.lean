set_option maxRecDepth 100000
/-! to fire: the firings grow by one -/
def k_ext (i : Nat) (oj : Option Nat) (fi : FI) (l : Nat) (z : CF) : CF := (z.1, z.2.1, z.2.2.1 ++ (if oj = some l then [fi] else []), z.2.2.2 ++ (if i = l then [fi] else []))
theorem k_addF_at {C : CC} {i l : Nat} {fi : FI} : (c_addF C i fi).2.1[l]? = (C.2.1[l]?).map (fun z => (z.1, z.2.1, z.2.2.1, z.2.2.2 ++ (if i = l then [fi] else []))) := by
  unfold c_addF
  cases hy : C.2.1[i]? with
  | none =>
    cases hl : C.2.1[l]? with
    | none => simp only [hl, Option.map_none]
    | some z =>
      have : i ≠ l := fun e => by rw [e, hl] at hy; cases hy
      simp only [hl, Option.map_some, if_neg this, List.append_nil]
  | some y =>
    simp only [List.getElem?_set]
    by_cases e : i = l
    · subst e
      have := (List.getElem?_eq_some_iff.mp hy).1
      rw [hy]
      simp only [if_true, if_pos this, Option.map_some]
    · simp only [if_neg e, List.append_nil]
      cases C.2.1[l]? <;> rfl
theorem k_addR_at {C : CC} {i l : Nat} {fi : FI} : (c_addR C i fi).2.1[l]? = (C.2.1[l]?).map (fun z => (z.1, z.2.1, z.2.2.1 ++ (if i = l then [fi] else []), z.2.2.2)) := by
  unfold c_addR
  cases hy : C.2.1[i]? with
  | none =>
    cases hl : C.2.1[l]? with
    | none => simp only [hl, Option.map_none]
    | some z =>
      have : i ≠ l := fun e => by rw [e, hl] at hy; cases hy
      simp only [hl, Option.map_some, if_neg this, List.append_nil]
  | some y =>
    simp only [List.getElem?_set]
    by_cases e : i = l
    · subst e
      have := (List.getElem?_eq_some_iff.mp hy).1
      rw [hy]
      simp only [if_true, if_pos this, Option.map_some]
    · simp only [if_neg e, List.append_nil]
      cases C.2.1[l]? <;> rfl
theorem k_addF_1 {C : CC} {i : Nat} {fi : FI} : (c_addF C i fi).1 = C.1 ∧ (c_addF C i fi).2.2 = C.2.2 := by unfold c_addF; split <;> exact ⟨rfl, rfl⟩
theorem k_addR_1 {C : CC} {i : Nat} {fi : FI} : (c_addR C i fi).1 = C.1 ∧ (c_addR C i fi).2.2 = C.2.2 := by unfold c_addR; split <;> exact ⟨rfl, rfl⟩
theorem k_add_at {C : CC} {i j l : Nat} {fi : FI} : (c_addR (c_addF C i fi) j fi).2.1[l]? = (C.2.1[l]?).map (k_ext i (some j) fi l) := by
  rw [k_addR_at, k_addF_at, Option.map_map]
  cases C.2.1[l]? with
  | none => rfl
  | some z => simp only [Option.map_some, Function.comp, k_ext, Option.some.injEq]
theorem k_addF_ext {C : CC} {i l : Nat} {fi : FI} : (c_addF C i fi).2.1[l]? = (C.2.1[l]?).map (k_ext i none fi l) := by
  rw [k_addF_at]
  cases C.2.1[l]? with
  | none => rfl
  | some z => simp [k_ext]
section KEXT
variable {C C' : CC} {K : List FK} {i : Nat} {oj : Option Nat} {fi : FI} {q : FK}
theorem k_ext_in (hat : ∀ l, C'.2.1[l]? = (C.2.1[l]?).map (k_ext i oj fi l)) {m : Nat} (h : c_in C m) : c_in C' m := by
  obtain ⟨y, hy, e⟩ := h
  obtain ⟨l, hl⟩ := List.getElem?_of_mem hy
  have := hat l
  rw [hl] at this
  exact ⟨_, List.mem_of_getElem? this, e⟩
theorem k_ok.ext (hk : k_ok C K) (hc : c_num C) (h1 : C'.1 = C.1) (hat : ∀ l, C'.2.1[l]? = (C.2.1[l]?).map (k_ext i oj fi l)) {y : CF} (hy : C.2.1[i]? = some y) (hq : fi = k_fi C.1 q) (hq0 : q.1 < C.1.length) (hq1 : q.2.1 = y.2.1 0) (hq2 : ∀ m, q.2.2.1 = some m → c_in C m)
    (hoj : (q.2.2.2 = none ∧ oj = none) ∨ ∃ j u, oj = some j ∧ C.2.1[j]? = some u ∧ q.2.2.2 = some (u.2.1 0)) (hnew : k_tr q ∉ K.map k_tr) : k_ok C' (K ++ [q]) := by
  refine ⟨?_, fun p hp => ?_, fun z hz => ?_⟩
  · rw [List.map_append, List.nodup_append]
    refine ⟨hk.1, by simp, fun a ha b hb e => ?_⟩
    rw [List.map_singleton, List.mem_singleton] at hb
    rw [e, hb] at ha
    exact hnew ha
  · rw [h1]
    rcases List.mem_append.mp hp with hp | hp
    · obtain ⟨e1, e2, e3, e4⟩ := hk.2.1 p hp
      exact ⟨e1, k_ext_in hat e2, fun m hm => k_ext_in hat (e3 m hm), fun m hm => k_ext_in hat (e4 m hm)⟩
    · rw [List.mem_singleton] at hp
      rw [hp]
      refine ⟨hq0, k_ext_in hat (by rw [hq1]; exact c_in_of hy), fun m hm => k_ext_in hat (hq2 m hm), fun m hm => ?_⟩
      rcases hoj with ⟨e, -⟩ | ⟨j, u, -, hu, e⟩
      · rw [e] at hm; cases hm
      · rw [e] at hm
        rw [← Option.some.inj hm]
        exact k_ext_in hat (c_in_of hu)
  · obtain ⟨l, hl⟩ := List.getElem?_of_mem hz
    rw [hat l] at hl
    obtain ⟨w, hw, e⟩ := Option.map_eq_some_iff.mp hl
    obtain ⟨e1, e2⟩ := hk.2.2 w (List.mem_of_getElem? hw)
    rw [h1, ← e]
    simp only [k_ext]
    unfold k_F k_R at *
    rw [List.filter_append, List.filter_append, List.map_append, List.map_append, ← e1, ← e2]
    refine ⟨congrArg _ ?_, congrArg _ ?_⟩
    · simp only [List.filter_cons, List.filter_nil, hq1]
      by_cases z : i = l
      · subst z
        rw [hy] at hw
        rw [if_pos rfl, Option.some.inj hw, if_pos (by simp), List.map_singleton, hq]
      · rw [if_neg z, if_neg]
        · rfl
        · intro h
          exact z (k_un hc hy hw (by simpa using h))
    · simp only [List.filter_cons, List.filter_nil]
      rcases hoj with ⟨a1, a2⟩ | ⟨j, u, a1, a2, a3⟩
      · rw [a1, a2]; simp
      · rw [a1, a3]
        by_cases z : j = l
        · subst z
          rw [a2] at hw
          rw [if_pos rfl, Option.some.inj hw, if_pos (by simp), List.map_singleton, hq]
        · rw [if_neg (by simpa using z), if_neg]
          · rfl
          · intro h
            exact z (k_un hc a2 hw (by simpa using h))
theorem k_ext_T (hat : ∀ l, C'.2.1[l]? = (C.2.1[l]?).map (k_ext i oj fi l)) : (∀ m, c_T C m → c_T C' m) ∧ ∀ m a b, c_R C m a b → c_R C' m a b := by
  refine ⟨fun m ⟨y, hy, e1, e2⟩ => ?_, fun m a b ⟨y, hy, e1, f, hf, e2⟩ => ?_⟩
  · obtain ⟨l, hl⟩ := List.getElem?_of_mem hy
    have := hat l
    rw [hl] at this
    exact ⟨_, List.mem_of_getElem? this, e1, e2⟩
  · obtain ⟨l, hl⟩ := List.getElem?_of_mem hy
    have := hat l
    rw [hl] at this
    exact ⟨_, List.mem_of_getElem? this, e1, f, List.mem_append_left _ hf, e2⟩
theorem k_ext_dis (hat : ∀ l, C'.2.1[l]? = (C.2.1[l]?).map (k_ext i oj fi l)) (hd : c_dis C) : c_dis C' := by
  intro a b y z ha hb
  rw [hat] at ha hb
  obtain ⟨y', h1, rfl⟩ := Option.map_eq_some_iff.mp ha
  obtain ⟨z', h2, rfl⟩ := Option.map_eq_some_iff.mp hb
  exact hd a b y' z' h1 h2
theorem k_come_ok {a kd one two : Nat} {tr : UInt32} (hk : k_ok C K) (hf : c_fw C) {C0 : CC} (h1 : C0.1 = C.1) (h2 : C0.2.1 = C.2.1) (h3 : C0.2.2 0 = C.2.2 0) : k_ok (c_come C0 a kd one two tr) K := by
  have hin : ∀ {m}, c_in C m → c_in (c_come C0 a kd one two tr) m := fun ⟨y, hy, e⟩ => ⟨y, List.mem_append_left _ (by rw [h2]; exact hy), e⟩
  refine ⟨hk.1, fun p hp => ?_, fun z hz => ?_⟩
  · obtain ⟨e1, e2, e3, e4⟩ := hk.2.1 p hp
    exact ⟨by show p.1 < C0.1.length; rw [h1]; exact e1, hin e2, fun m hm => hin (e3 m hm), fun m hm => hin (e4 m hm)⟩
  · rcases List.mem_append.mp hz with hz | hz
    · rw [h2] at hz
      show _ = (k_F K _).map (k_fi C0.1) ∧ _ = (k_R K _).map (k_fi C0.1)
      rw [h1]
      exact hk.2.2 z hz
    · rw [List.mem_singleton] at hz
      rw [hz]
      unfold k_F k_R
      rw [List.filter_eq_nil_iff.mpr, List.filter_eq_nil_iff.mpr]
      · exact ⟨rfl, rfl⟩
      · intro p hp
        simp only [beq_iff_eq]
        intro e
        have := hf.num ((hk.2.1 p hp).2.2.2 _ e)
        simp only [c_newF] at this
        omega
      · intro p hp
        simp only [beq_iff_eq]
        intro e
        have := hf.num ((hk.2.1 p hp).2.1)
        simp only [c_newF] at e
        omega
end KEXT
section KFIRE
variable {C C' : CC} {K : List FK} {n : Nat}
theorem k_tr_new (hk : k_ok C K) (hr : (C.1.map Prod.fst).Nodup) {i r : Nat} {y : CF} {x1 : Nat × (Nat → Nat)} {o : Option Nat} (hx : C.1[r]? = some x1) (hy : C.2.1[i]? = some y) (hn : c_fired y x1.1 o = false) (made : Option Nat) : k_tr (r, y.2.1 0, o, made) ∉ K.map k_tr := by
  intro hm
  obtain ⟨p, hp, e⟩ := List.mem_map.mp hm
  have e1 : p.1 = r := congrArg Prod.fst e
  have e2 : p.2.1 = y.2.1 0 := congrArg (fun x => x.2.1) e
  have e3 : p.2.2.1 = o := congrArg (fun x => x.2.2) e
  have h1 : k_fi C.1 p ∈ y.2.2.2 := by
    rw [(hk.2.2 y (List.mem_of_getElem? hy)).1]
    exact List.mem_map_of_mem (List.mem_filter.mpr ⟨hp, by simp [e2]⟩)
  have h2 : c_fired y x1.1 o = true := by
    unfold c_fired
    rw [List.any_eq_true]
    refine ⟨_, h1, ?_⟩
    simp only [k_fi, e1, k_ra_of hx, e3]
    simp
  rw [hn] at h2
  cases h2
theorem c_du_fired {m : Nat} {x1 : Nat × (Nat → Nat)} {y : CF} (hx : C.1[m / 420]? = some x1) (hy : C.2.1[m / 21 % 20]? = some y) (hd : c_du C m = true) : c_fired y x1.1 (c_sec C m) = false := by
  obtain ⟨x2, y2, h1, h2, -, h3⟩ := c_du_is hd
  rw [hx] at h1
  rw [hy] at h2
  cases h1
  cases h2
  exact h3
theorem k_trz (hI : k_I C K n) {m : Nat} {x1 : Nat × (Nat → Nat)} {y : CF} (hx : C.1[m / 420]? = some x1) (hy : C.2.1[m / 21 % 20]? = some y) (hd : c_du C m = true) : q_tr (c_trz y (c_oz C m)) := by
  have hfw := hI.1.2.1.2.2.1
  obtain ⟨-, d2, -⟩ := c_du_oz hx hy hd
  obtain ⟨-, -, -, -, y5, -⟩ := hfw y (List.mem_of_getElem? hy)
  cases e : c_oz C m with
  | none => exact y5
  | some z =>
    obtain ⟨-, -, -, -, z5, -⟩ := hfw z (d2 z e).1
    exact fm01 y5 z5
theorem k_I.fire (hI : k_I C K n) (hn : n < 99998) {m one two a : Nat} {x1 : Nat × (Nat → Nat)} {y : CF} {made : Option Nat} (hd : c_du C m = true) (hx : C.1[m / 420]? = some x1) (hy : C.2.1[m / 21 % 20]? = some y) (ho : one ≤ 9) (ht : two ≤ 9)
    (hf : c_fire C (m / 21 % 20) (x1.1, y.2.1 0, c_sec C m) (x1.2 7) one two (c_trz y (c_oz C m)) a C' made) : k_I C' (K ++ [(m / 420, y.2.1 0, c_sec C m, made)]) (n + 1) ∧ C'.1 = C.1 := by
  obtain ⟨hB, hk, hKn, hg⟩ := id hI
  obtain ⟨⟨b1, b2, b3⟩, ⟨b4, b5, b6, b7⟩, b8, b9⟩ := id hB
  obtain ⟨d1, d2, d3⟩ := c_du_oz hx hy hd
  have hxm := List.mem_of_getElem? hx
  have hx0 := (List.getElem?_eq_some_iff.mp hx).1
  have hsec : ∀ q, c_sec C m = some q → c_in C q := fun q hq => by
    rw [← c_oz_sec] at hq
    obtain ⟨z, hz, e⟩ := Option.map_eq_some_iff.mp hq
    exact ⟨z, (d2 z hz).1, e⟩
  obtain ⟨hI', h1'⟩ := (hB.I hk hKn).fire (by omega) hy rfl hsec (b3 x1 hxm).1.2.2.1 ho ht (k_trz hI hx hy hd) hf
  have hnew : k_tr (m / 420, y.2.1 0, c_sec C m, made) ∉ K.map k_tr := k_tr_new hk b2 hx hy (c_du_fired hx hy hd) made
  have hfi : ∀ mm, ((x1.1, y.2.1 0, c_sec C m) : FI) = k_fi C.1 (m / 420, y.2.1 0, c_sec C m, mm) := fun mm => by unfold k_fi; rw [k_ra_of hx]
  have fin : k_ok C' (K ++ [(m / 420, y.2.1 0, c_sec C m, made)]) → c_dis C' → c_gnd C' → k_I C' (K ++ [(m / 420, y.2.1 0, c_sec C m, made)]) (n + 1) ∧ C'.1 = C.1 := fun g1 g2 g3 =>
    ⟨⟨⟨by rw [h1']; exact ⟨b1, b2, b3⟩, ⟨hI'.1.2.2.2.1, hI'.1.2.2.2.2.1, hI'.2.1, g2⟩, hI'.2.2.2.2.1, by omega⟩, g1, by simp only [List.length_append, List.length_singleton]; omega, g3⟩, h1'⟩
  rcases hf with ⟨j, u, hu, u1, u2, u3, e1, e2⟩ | ⟨hno, hl, e1, e2⟩ | ⟨hno, hl, e1, e2⟩
  · have hat : ∀ l, C'.2.1[l]? = (C.2.1[l]?).map (k_ext (m / 21 % 20) (some j) (x1.1, y.2.1 0, c_sec C m) l) := fun l => by rw [e1, k_add_at]; rfl
    refine fin (hk.ext b5 h1' hat hy (hfi made) hx0 rfl hsec (Or.inr ⟨j, u, rfl, hu, e2⟩) hnew) (k_ext_dis hat b7) (fun z hz => ?_)
    obtain ⟨l, hl⟩ := List.getElem?_of_mem hz
    rw [hat l] at hl
    obtain ⟨w, hw, e⟩ := Option.map_eq_some_iff.mp hl
    have := hg w (List.mem_of_getElem? hw)
    rw [← e]
    exact this.mono (k_ext_T hat).1 (k_ext_T hat).2
  · have hat : ∀ l, C'.2.1[l]? = ((c_come (c_fir C) a (x1.2 7) one two (c_trz y (c_oz C m))).2.1[l]?).map (k_ext (m / 21 % 20) (some C.2.1.length) (x1.1, y.2.1 0, c_sec C m) l) := fun l => by rw [e1, k_add_at]
    have hold : ∀ {l : Nat} {z : CF}, C.2.1[l]? = some z → (c_come (c_fir C) a (x1.2 7) one two (c_trz y (c_oz C m))).2.1[l]? = some z := fun {l z} hz => by
      show (C.2.1 ++ _)[l]? = some z
      rw [List.getElem?_append_left (List.getElem?_eq_some_iff.mp hz).1]
      exact hz
    have hnw : (c_come (c_fir C) a (x1.2 7) one two (c_trz y (c_oz C m))).2.1[C.2.1.length]? = some (a, c_newF (c_fir C) (x1.2 7) one two (c_trz y (c_oz C m)), [], []) := by
      show (C.2.1 ++ _)[C.2.1.length]? = _
      rw [List.getElem?_append_right (Nat.le_refl _), Nat.sub_self]
      rfl
    have hinv : ∀ {l : Nat} {z : CF}, (c_come (c_fir C) a (x1.2 7) one two (c_trz y (c_oz C m))).2.1[l]? = some z → C.2.1[l]? = some z ∨ (l = C.2.1.length ∧ z = (a, c_newF (c_fir C) (x1.2 7) one two (c_trz y (c_oz C m)), [], [])) := fun {l z} hz => by
      have hz : (C.2.1 ++ [(a, c_newF (c_fir C) (x1.2 7) one two (c_trz y (c_oz C m)), [], [])])[l]? = some z := hz
      by_cases hlt : l < C.2.1.length
      · rw [List.getElem?_append_left hlt] at hz
        exact Or.inl hz
      · have hlt2 := (List.getElem?_eq_some_iff.mp hz).1
        simp only [List.length_append, List.length_singleton] at hlt2
        have : l = C.2.1.length := by omega
        subst this
        rw [List.getElem?_append_right (Nat.le_refl _), Nat.sub_self] at hz
        exact Or.inr ⟨rfl, (Option.some.inj hz).symm⟩
    have hin : ∀ {q}, c_in C q → c_in (c_come (c_fir C) a (x1.2 7) one two (c_trz y (c_oz C m))) q := fun ⟨z, hz, e⟩ => ⟨z, List.mem_append_left _ hz, e⟩
    have hnum : c_num (c_come (c_fir C) a (x1.2 7) one two (c_trz y (c_oz C m))) := by
      intro p q z w hz hw hpq
      rcases hinv hz with hz2 | ⟨hp, hz2⟩
      · rcases hinv hw with hw2 | ⟨hq, hw2⟩
        · exact b5 p q z w hz2 hw2 hpq
        · rw [hw2]
          have := (b6 z (List.mem_of_getElem? hz2)).2.2.2.2.2
          exact this
      · rcases hinv hw with hw2 | ⟨hq, hw2⟩
        · have := (List.getElem?_eq_some_iff.mp hw2).1
          omega
        · omega
    have hk1 : k_ok (c_come (c_fir C) a (x1.2 7) one two (c_trz y (c_oz C m))) K := k_come_ok hk b6 rfl rfl rfl
    have hTR : (∀ q, c_T C q → c_T C' q) ∧ ∀ q c d, c_R C q c d → c_R C' q c d := by
      obtain ⟨t1, t2⟩ := k_ext_T hat
      exact ⟨fun q ⟨z, hz, e⟩ => t1 q ⟨z, List.mem_append_left _ hz, e⟩, fun q c d ⟨z, hz, e⟩ => t2 q c d ⟨z, List.mem_append_left _ hz, e⟩⟩
    have hgo : ∀ {q}, c_in C q → dv_g (c_T C') (c_R C') q := fun ⟨z, hz, e⟩ => by
      rw [← e]
      exact (hg z hz).mono hTR.1 hTR.2
    refine fin (hk1.ext hnum h1' hat (hold hy) (hfi made) hx0 rfl (fun q hq => hin (hsec q hq)) (Or.inr ⟨C.2.1.length, _, rfl, hnw, e2⟩) hnew) (k_ext_dis hat ?_) (fun z hz => ?_)
    · intro p q z w hz hw e1 e2 e3
      rcases hinv hz with hz2 | ⟨hp, hz2⟩
      · rcases hinv hw with hw2 | ⟨hq, hw2⟩
        · exact b7 p q z w hz2 hw2 e1 e2 e3
        · rw [hw2] at e1 e2 e3
          exact absurd ⟨e1, e2, e3⟩ (hno z (List.mem_of_getElem? hz2))
      · rcases hinv hw with hw2 | ⟨hq, hw2⟩
        · rw [hz2] at e1 e2 e3
          exact absurd ⟨e1.symm, e2.symm, e3.symm⟩ (hno w (List.mem_of_getElem? hw2))
        · omega
    · obtain ⟨l, hl2⟩ := List.getElem?_of_mem hz
      have hat' := hat l
      rw [hl2] at hat'
      obtain ⟨w, hw, e⟩ := Option.map_eq_some_iff.mp hat'.symm
      rcases hinv hw with hw2 | ⟨rfl, hw2⟩
      · rw [← e]
        exact hgo (q := w.2.1 0) (c_in_of hw2)
      · refine dv_g.step (a := y.2.1 0) (b := c_sec C m) ⟨z, hz, rfl, (x1.1, y.2.1 0, c_sec C m), ?_, rfl, rfl⟩ (hgo (c_in_of hy)) (fun q hq => hgo (hsec q hq))
        rw [← e]
        simp [k_ext]
  · have hat : ∀ l, C'.2.1[l]? = (C.2.1[l]?).map (k_ext (m / 21 % 20) none (x1.1, y.2.1 0, c_sec C m) l) := fun l => by
      rw [e1]
      show (c_addF (c_fir C) _ _).2.1[l]? = _
      rw [k_addF_ext]
      rfl
    refine fin (hk.ext b5 h1' hat hy (hfi made) hx0 rfl hsec (Or.inl ⟨e2, rfl⟩) hnew) (k_ext_dis hat b7) (fun z hz => ?_)
    obtain ⟨l, hl⟩ := List.getElem?_of_mem hz
    rw [hat l] at hl
    obtain ⟨w, hw, e⟩ := Option.map_eq_some_iff.mp hl
    have := hg w (List.mem_of_getElem? hw)
    rw [← e]
    exact this.mono (k_ext_T hat).1 (k_ext_T hat).2
end KFIRE
