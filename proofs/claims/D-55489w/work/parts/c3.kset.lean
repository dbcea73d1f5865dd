set_option maxRecDepth 100000
/-! a rule dropped or added; a fact told, told no more -/
def d_sh (i : Nat) (q : FK) : FK := (if i < q.1 then q.1 - 1 else q.1, q.2)
def d_K (i : Nat) (K : List FK) : List FK := (K.filter (fun q => q.1 != i)).map (d_sh i)
theorem d_ra {rs : List (Nat × (Nat → Nat))} {i r : Nat} (hr : r ≠ i) : k_ra (rs.eraseIdx i) (if i < r then r - 1 else r) = k_ra rs r := by
  have : (rs.eraseIdx i)[if i < r then r - 1 else r]? = rs[r]? := by
    rw [List.getElem?_eraseIdx]
    by_cases h : i < r
    · rw [if_pos h, if_neg (by omega)]
      have : r - 1 + 1 = r := by omega
      rw [this]
    · rw [if_neg h, if_pos (by omega)]
  unfold k_ra
  rw [this]
theorem d_nodup {α : Type} {l : List α} (h : l.Nodup) (i : Nat) : (l.eraseIdx i).Nodup := h.sublist (List.eraseIdx_sublist ..)
section KSET
variable {C : CC} {K : List FK} {n : Nat}
theorem k_drop (hB : k_B C n) (hk : k_ok C K) {i : Nat} {x1 : Nat × (Nat → Nat)} (hx : C.1[i]? = some x1) : k_B (c_dropR C i x1.1) n ∧ k_ok (c_dropR C i x1.1) (d_K i K) ∧ (d_K i K).length ≤ K.length := by
  obtain ⟨⟨b1, b2, b3⟩, ⟨b4, b5, b6, b7⟩, b8, b9⟩ := id hB
  have hi := (List.getElem?_eq_some_iff.mp hx).1
  have hby : ∀ q ∈ K, (!(c_by x1.1 (k_fi C.1 q))) = (q.1 != i) := fun q hq => by
    unfold c_by k_fi
    rw [← k_ra_of hx]
    simp only
    by_cases e : q.1 = i
    · rw [e]; simp
    · have : k_ra C.1 q.1 ≠ k_ra C.1 i := fun z => e (k_ra_inj b2 (hk.2.1 q hq).1 hi z)
      rw [beq_eq_false_iff_ne.mpr this]
      simp [e]
  have hin : ∀ {m}, c_in C m → c_in (c_dropR C i x1.1) m := fun ⟨y, hy, e⟩ => ⟨_, List.mem_map_of_mem hy, e⟩
  refine ⟨⟨⟨?_, ?_, fun y hy => b3 y (List.mem_of_mem_eraseIdx hy)⟩, ⟨?_, ?_, ?_, ?_⟩, b8, b9⟩, ⟨?_, fun q hq => ?_, fun y hy => ?_⟩, ?_⟩
  · show (C.1.eraseIdx i).length ≤ 8
    have := List.length_eraseIdx_le C.1 i
    omega
  · show ((C.1.eraseIdx i).map Prod.fst).Nodup
    exact b2.sublist ((List.eraseIdx_sublist C.1 i).map _)
  · show (C.2.1.map _).length ≤ 20
    rw [List.length_map]; exact b4
  · rw [c_num_pw]
    show (C.2.1.map _).Pairwise _
    rw [List.pairwise_map]
    exact c_num_pw.mp b5
  · intro y hy
    obtain ⟨z, hz, rfl⟩ := List.mem_map.mp hy
    exact b6 z hz
  · rw [c_dis_pw]
    show (C.2.1.map _).Pairwise _
    rw [List.pairwise_map]
    exact c_dis_pw.mp b7
  · unfold d_K
    rw [List.map_map]
    obtain ⟨h1, h2⟩ := k_nd_of k_tr K hk.1
    refine k_nodup _ _ (fun a ha b hb e => ?_) (h1.filter _)
    obtain ⟨ha, ha2⟩ := List.mem_filter.mp ha
    obtain ⟨hb, hb2⟩ := List.mem_filter.mp hb
    refine h2 a ha b hb ?_
    have ha2 : a.1 ≠ i := by simpa using ha2
    have hb2 : b.1 ≠ i := by simpa using hb2
    have e1 : (if i < a.1 then a.1 - 1 else a.1) = if i < b.1 then b.1 - 1 else b.1 := congrArg Prod.fst e
    have e2 := congrArg Prod.snd e
    have e3 : a.1 = b.1 := by
      split at e1 <;> split at e1 <;> omega
    show (a.1, a.2.1, a.2.2.1) = (b.1, b.2.1, b.2.2.1)
    rw [e3]
    exact congrArg _ e2
  · obtain ⟨p, hp, rfl⟩ := List.mem_map.mp hq
    obtain ⟨hp, hp2⟩ := List.mem_filter.mp hp
    have hp2 : p.1 ≠ i := by simpa using hp2
    obtain ⟨e1, e2, e3, e4⟩ := hk.2.1 p hp
    refine ⟨?_, hin e2, fun m hm => hin (e3 m hm), fun m hm => hin (e4 m hm)⟩
    show (if i < p.1 then p.1 - 1 else p.1) < (C.1.eraseIdx i).length
    rw [List.length_eraseIdx, if_pos hi]
    split <;> omega
  · obtain ⟨z, hz, rfl⟩ := List.mem_map.mp hy
    obtain ⟨g1, g2⟩ := hk.2.2 z hz
    have key : ∀ p : FK → Bool, (∀ q, p (d_sh i q) = p q) → ((K.filter p).map (k_fi C.1)).filter (fun fi => !c_by x1.1 fi) = ((d_K i K).filter p).map (k_fi (C.1.eraseIdx i)) := fun p hp => by
      unfold d_K
      rw [List.filter_map, List.filter_filter, List.filter_map, List.map_map, List.filter_filter]
      have : (K.filter fun a => ((fun fi => !c_by x1.1 fi) ∘ k_fi C.1) a && p a) = K.filter fun a => (p ∘ d_sh i) a && (a.1 != i) := by
        refine List.filter_congr (fun q hq => ?_)
        simp only [Function.comp]
        rw [hby q hq, hp q, Bool.and_comm]
      rw [this]
      refine List.map_congr_left (fun q hq => ?_)
      have := (List.mem_filter.mp hq).2
      simp only [Bool.and_eq_true, bne_iff_ne] at this
      unfold k_fi d_sh
      simp only [Function.comp, d_ra this.2]
    refine ⟨?_, ?_⟩
    · show List.filter _ z.2.2.2 = _
      rw [g1]
      exact key _ (fun q => rfl)
    · show List.filter _ z.2.2.1 = _
      rw [g2]
      exact key _ (fun q => rfl)
  · unfold d_K
    rw [List.length_map]
    exact List.length_filter_le _ _
/-- what a fact says of being told -/
theorem k_set {i v : Nat} {y : CF} (hB : k_B C n) (hk : k_ok C K) (hy : C.2.1[i]? = some y) (hv : v ≤ 1) {C' : CC} (hC : C' = (C.1, C.2.1.set i (y.1, c_st y.2.1 4 v, y.2.2.1, y.2.2.2), C.2.2)) : k_B C' n ∧ k_ok C' K ∧ ∀ l, C'.2.1[l]? = (C.2.1[l]?).map (fun z => if i = l then (z.1, c_st z.2.1 4 v, z.2.2.1, z.2.2.2) else z) := by
  obtain ⟨⟨b1, b2, b3⟩, ⟨b4, b5, b6, b7⟩, b8, b9⟩ := id hB
  have hat : ∀ l, C'.2.1[l]? = (C.2.1[l]?).map (fun z => if i = l then (z.1, c_st z.2.1 4 v, z.2.2.1, z.2.2.2) else z) := fun l => by
    rw [hC]
    show (C.2.1.set _ _)[l]? = _
    rw [List.getElem?_set]
    by_cases e : i = l
    · subst e
      rw [if_pos rfl, if_pos (List.getElem?_eq_some_iff.mp hy).1, hy]
      simp
    · rw [if_neg e]
      cases C.2.1[l]? <;> simp [e]
  have hat2 : ∀ {l : Nat} {z' : CF}, C'.2.1[l]? = some z' → ∃ z : CF, C.2.1[l]? = some z ∧ z'.2.2 = z.2.2 ∧ (∀ j, j ≠ 4 → z'.2.1 j = z.2.1 j) ∧ (z'.2.1 4 = v ∨ z'.2.1 4 = z.2.1 4) := fun {l z'} h => by
    rw [hat l] at h
    obtain ⟨z, hz, e⟩ := Option.map_eq_some_iff.mp h
    refine ⟨z, hz, ?_⟩
    rw [← e]
    split
    · exact ⟨rfl, fun j hj => if_neg hj, Or.inl rfl⟩
    · exact ⟨rfl, fun j hj => rfl, Or.inr rfl⟩
  have hin : ∀ {m}, c_in C m → c_in C' m := fun {m} ⟨z, hz, e⟩ => by
    obtain ⟨l, hl⟩ := List.getElem?_of_mem hz
    have := hat l
    rw [hl] at this
    refine ⟨_, List.mem_of_getElem? this, ?_⟩
    split
    · exact e
    · exact e
  have h1 : C'.1 = C.1 ∧ C'.2.2 = C.2.2 := by rw [hC]; exact ⟨rfl, rfl⟩
  refine ⟨⟨by rw [h1.1]; exact ⟨b1, b2, b3⟩, ⟨?_, ?_, ?_, ?_⟩, by rw [h1.2]; exact b8, b9⟩, ⟨hk.1, fun q hq => ?_, fun z hz => ?_⟩, hat⟩
  · rw [hC]
    show (C.2.1.set _ _).length ≤ 20
    rw [List.length_set]; exact b4
  · intro a b z w hz hw hab
    obtain ⟨z0, g1, -, g2, -⟩ := hat2 hz
    obtain ⟨w0, g3, -, g4, -⟩ := hat2 hw
    rw [g2 0 (by decide), g4 0 (by decide)]
    exact b5 a b z0 w0 g1 g3 hab
  · intro z hz
    obtain ⟨l, hl⟩ := List.getElem?_of_mem hz
    obtain ⟨z0, g1, -, g2, g3⟩ := hat2 hl
    obtain ⟨f1, f2, f3, f4, f5, f6⟩ := b6 z0 (List.mem_of_getElem? g1)
    rw [g2 1 (by decide), g2 2 (by decide), g2 3 (by decide), g2 5 (by decide), g2 0 (by decide), h1.2]
    refine ⟨f1, f2, f3, ?_, f5, f6⟩
    rcases g3 with g3 | g3 <;> omega
  · intro a b z w hz hw e1 e2 e3
    obtain ⟨z0, g1, -, g2, -⟩ := hat2 hz
    obtain ⟨w0, g3, -, g4, -⟩ := hat2 hw
    rw [g2 1 (by decide), g4 1 (by decide)] at e1
    rw [g2 2 (by decide), g4 2 (by decide)] at e2
    rw [g2 3 (by decide), g4 3 (by decide)] at e3
    exact b7 a b z0 w0 g1 g3 e1 e2 e3
  · obtain ⟨e1, e2, e3, e4⟩ := hk.2.1 q hq
    exact ⟨by rw [h1.1]; exact e1, hin e2, fun m hm => hin (e3 m hm), fun m hm => hin (e4 m hm)⟩
  · obtain ⟨l, hl⟩ := List.getElem?_of_mem hz
    obtain ⟨z0, g1, g0, g2, -⟩ := hat2 hl
    rw [g0, h1.1, g2 0 (by decide)]
    exact hk.2.2 z0 (List.mem_of_getElem? g1)
theorem k_I.told {i : Nat} {y : CF} (hI : k_I C K n) (hy : C.2.1[i]? = some y) {C' : CC} (hC : C' = (C.1, C.2.1.set i (y.1, c_st y.2.1 4 1, y.2.2.1, y.2.2.2), C.2.2)) : k_I C' K n := by
  obtain ⟨h1, h2, hat⟩ := k_set hI.1 hI.2.1 hy (v := 1) (Nat.le_refl _) hC
  have hmem : ∀ {z : CF}, z ∈ C.2.1 → ∃ z' ∈ C'.2.1, z'.2.1 0 = z.2.1 0 ∧ (z.2.1 4 = 1 → z'.2.1 4 = 1) ∧ z'.2.2 = z.2.2 := fun {z} hz => by
    obtain ⟨l, hl⟩ := List.getElem?_of_mem hz
    have := hat l
    rw [hl] at this
    refine ⟨_, List.mem_of_getElem? this, ?_⟩
    split
    · exact ⟨rfl, fun _ => rfl, rfl⟩
    · exact ⟨rfl, fun h => h, rfl⟩
  refine ⟨h1, h2, hI.2.2.1, fun z hz => ?_⟩
  obtain ⟨l, hl⟩ := List.getElem?_of_mem hz
  rw [hat l] at hl
  obtain ⟨w, hw, e⟩ := Option.map_eq_some_iff.mp hl
  have e0 : z.2.1 0 = w.2.1 0 := by
    rw [← e]
    split <;> rfl
  rw [e0]
  refine (hI.2.2.2 w (List.mem_of_getElem? hw)).mono (fun m ⟨u, hu, f1, f2⟩ => ?_) (fun m a b ⟨u, hu, f1, f, hf, f2⟩ => ?_)
  · obtain ⟨u', hu', f3, f4, -⟩ := hmem hu
    exact ⟨u', hu', by rw [f3]; exact f1, f4 f2⟩
  · obtain ⟨u', hu', f3, -, f5⟩ := hmem hu
    exact ⟨u', hu', by rw [f3]; exact f1, f, by rw [f5]; exact hf, f2⟩
theorem k_I.tell {a kd one two : Nat} {tr : UInt32} (hI : k_I C K n) (hn : n < 99998) (hl : C.2.1.length < 20) (hkd : 97 ≤ kd ∧ kd ≤ 102) (ho : one ≤ 9) (ht : two ≤ 9) (htr : q_tr tr) (hno : ∀ y ∈ C.2.1, ¬ (y.2.1 1 = kd ∧ y.2.1 2 = one ∧ y.2.1 3 = two)) : k_I (c_tell C a kd one two tr) K (n + 1) := by
  obtain ⟨hB, hk, hKn, hg⟩ := id hI
  obtain ⟨⟨b1, b2, b3⟩, ⟨b4, b5, b6, b7⟩, b8, b9⟩ := id hB
  have htb : q_tb tr.toNat = tr := by unfold q_tb; exact UInt32.ofNat_toNat
  have hin : ∀ {m}, c_in C m → c_in (c_tell C a kd one two tr) m := fun ⟨y, hy, e⟩ => ⟨y, List.mem_append_left _ hy, e⟩
  refine ⟨⟨⟨b1, b2, b3⟩, ⟨?_, ?_, ?_, ?_⟩, ?_, by omega⟩, ⟨hk.1, fun q hq => ?_, fun z hz => ?_⟩, by omega, fun z hz => ?_⟩
  · show (C.2.1 ++ _).length ≤ 20
    rw [List.length_append, List.length_singleton]; omega
  · rw [c_num_pw]
    show (C.2.1 ++ _).Pairwise _
    rw [List.pairwise_append]
    refine ⟨c_num_pw.mp b5, List.pairwise_singleton _ _, fun y hy z hz => ?_⟩
    rw [List.mem_singleton] at hz
    rw [hz]
    exact (b6 y hy).2.2.2.2.2
  · intro z hz
    rcases List.mem_append.mp hz with hz | hz
    · obtain ⟨f1, f2, f3, f4, f5, f6⟩ := b6 z hz
      refine ⟨f1, f2, f3, f4, f5, ?_⟩
      show _ < C.2.2 0 + 1
      omega
    · rw [List.mem_singleton] at hz
      rw [hz]
      refine ⟨hkd, ho, ht, Nat.le_refl _, ?_, Nat.lt_succ_self _⟩
      show q_tr (q_tb tr.toNat)
      rw [htb]
      exact htr
  · rw [c_dis_pw]
    show (C.2.1 ++ _).Pairwise _
    rw [List.pairwise_append]
    refine ⟨c_dis_pw.mp b7, List.pairwise_singleton _ _, fun y hy z hz => ?_⟩
    rw [List.mem_singleton] at hz
    rw [hz]
    exact fun ⟨e1, e2, e3⟩ => hno y hy ⟨e1, e2, e3⟩
  · show C.2.2 0 + 1 ≤ n + 1
    omega
  · obtain ⟨e1, e2, e3, e4⟩ := hk.2.1 q hq
    exact ⟨e1, hin e2, fun m hm => hin (e3 m hm), fun m hm => hin (e4 m hm)⟩
  · rcases List.mem_append.mp hz with hz | hz
    · exact hk.2.2 z hz
    · rw [List.mem_singleton] at hz
      rw [hz]
      unfold k_F k_R
      rw [List.filter_eq_nil_iff.mpr, List.filter_eq_nil_iff.mpr]
      · exact ⟨rfl, rfl⟩
      · intro p hp
        simp only [beq_iff_eq]
        intro e
        have := b6.num ((hk.2.1 p hp).2.2.2 _ e)
        simp only [c_newF, c_st] at this
        simp at this
      · intro p hp
        simp only [beq_iff_eq]
        intro e
        have := b6.num ((hk.2.1 p hp).2.1)
        simp only [c_newF, c_st] at e
        simp at e
        omega
  · rcases List.mem_append.mp hz with hz2 | hz2
    · exact (hg z hz2).mono (fun m ⟨u, hu, f⟩ => ⟨u, List.mem_append_left _ hu, f⟩) (fun m a b ⟨u, hu, f⟩ => ⟨u, List.mem_append_left _ hu, f⟩)
    · refine dv_g.told ⟨z, hz, rfl, ?_⟩
      rw [List.mem_singleton] at hz2
      rw [hz2]
      rfl
theorem k_I.add {y : Nat × (Nat → Nat)} (hI : k_I C K n) (hl : C.1.length < 8) (hy : y.1 ∉ C.1.map Prod.fst) (hr : c_rg y.2) : k_I (C.1 ++ [y], C.2.1, C.2.2) K n := by
  obtain ⟨hB, hk, hKn, hg⟩ := id hI
  obtain ⟨⟨b1, b2, b3⟩, b4, b8, b9⟩ := id hB
  refine ⟨⟨⟨?_, ?_, fun z hz => ?_⟩, b4, b8, b9⟩, ⟨hk.1, fun q hq => ?_, fun z hz => ?_⟩, hKn, hg⟩
  · show (C.1 ++ [y]).length ≤ 8
    rw [List.length_append, List.length_singleton]; omega
  · show ((C.1 ++ [y]).map Prod.fst).Nodup
    rw [List.map_append, List.nodup_append]
    refine ⟨b2, by simp, fun a ha b hb e => ?_⟩
    rw [List.map_singleton, List.mem_singleton] at hb
    rw [e, hb] at ha
    exact hy ha
  · rcases List.mem_append.mp hz with hz | hz
    · exact b3 z hz
    · rw [List.mem_singleton] at hz
      rw [hz]
      exact hr
  · obtain ⟨e1, e2⟩ := hk.2.1 q hq
    refine ⟨?_, e2⟩
    show q.1 < (C.1 ++ [y]).length
    rw [List.length_append]; omega
  · have : ∀ L : List FK, (∀ q ∈ L, q ∈ K) → L.map (k_fi (C.1 ++ [y])) = L.map (k_fi C.1) := fun L hL => by
      refine List.map_congr_left (fun q hq => ?_)
      unfold k_fi k_ra
      rw [List.getElem?_append_left (hk.2.1 q (hL q hq)).1]
    show _ = (k_F K _).map (k_fi (C.1 ++ [y])) ∧ _ = (k_R K _).map (k_fi (C.1 ++ [y]))
    rw [this (k_F K _) (fun q hq => (List.mem_filter.mp hq).1), this (k_R K _) (fun q hq => (List.mem_filter.mp hq).1)]
    exact hk.2.2 z hz
end KSET
