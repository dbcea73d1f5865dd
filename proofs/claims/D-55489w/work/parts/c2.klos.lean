set_option maxRecDepth 100000
/-! facts without ground go: what is left -/
def l_kl (D : Nat → Nat) : Nat → List CF → List CF
  | 0, _ => []
  | i + 1, ys => l_kl D i ys ++ (if D i < 1000 then (ys[i]?).toList else [])
def l_rm (D : Nat → Nat) : Nat → List CF → List Nat
  | 0, _ => []
  | i + 1, ys => if D i < 1000 then l_rm D i ys else ((ys[i]?).map (fun y => y.2.1 0)).toList ++ l_rm D i ys
def l_has (ns : List Nat) (fi : FI) : Bool := ns.any (fun n => c_has n fi)
theorem l_clean_id {T : FI → Bool} (hT : ∀ fi, T fi = false) (ys : List CF) : ys.map (c_clean T) = ys := by
  have : ∀ y : CF, c_clean T y = y := fun y => by
    unfold c_clean
    rw [List.filter_eq_self.mpr (fun fi _ => by rw [hT]; rfl), List.filter_eq_self.mpr (fun fi _ => by rw [hT]; rfl)]
  rw [List.map_congr_left (fun y _ => this y), List.map_id']
theorem l_clean2 {T U : FI → Bool} (y : CF) : c_clean U (c_clean T y) = c_clean (fun fi => T fi || U fi) y := by
  unfold c_clean
  simp only [List.filter_filter, Bool.not_or, Bool.and_comm]
theorem l_kl_map {D : Nat → Nat} {T : FI → Bool} {ys zs : List CF} : ∀ i, (∀ l, l < i → zs[l]? = (ys[l]?).map (c_clean T)) → l_kl D i zs = (l_kl D i ys).map (c_clean T) ∧ l_rm D i zs = l_rm D i ys
  | 0, _ => ⟨rfl, rfl⟩
  | i + 1, h => by
    obtain ⟨h1, h2⟩ := l_kl_map (D := D) i (fun l hl => h l (by omega))
    unfold l_kl l_rm
    rw [h1, h2, h i (by omega), List.map_append]
    refine ⟨congrArg _ ?_, ?_⟩
    · split
      · cases ys[i]? <;> rfl
      · rfl
    · split
      · rfl
      · cases ys[i]? <;> rfl
theorem l_lo {D : Nat → Nat} : ∀ (i : Nat) (C : CC), i ≤ C.2.1.length → c_lo D i C = ((C.1, (l_kl D i C.2.1 ++ C.2.1.drop i).map (c_clean (l_has (l_rm D i C.2.1))), C.2.2), (l_rm D i C.2.1).length)
  | 0, C, _ => by
    unfold c_lo l_kl l_rm
    simp only [List.nil_append, List.drop_zero, List.length_nil]
    rw [l_clean_id (T := l_has []) (fun fi => rfl)]
  | i + 1, C, hi => by
    unfold c_lo l_kl l_rm
    have hg : C.2.1[i]? = some C.2.1[i] := List.getElem?_eq_getElem hi
    by_cases hD : D i < 1000
    · rw [if_pos hD, if_pos hD, if_pos hD, l_lo i C (by omega), hg, Option.toList_some, List.append_assoc, List.singleton_append, List.drop_eq_getElem_cons hi]
    · rw [if_neg hD, if_neg hD, if_neg hD, hg]
      have e : c_delF C i = (C.1, (C.2.1.eraseIdx i).map (c_clean (c_has (C.2.1[i].2.1 0))), C.2.2) := by unfold c_delF; rw [hg]
      have hlen : (c_delF C i).2.1.length = C.2.1.length - 1 := by
        rw [e]
        simp only [List.length_map, List.length_eraseIdx, if_pos (show i < C.2.1.length by omega)]
      rw [l_lo i (c_delF C i) (by omega)]
      have hat : ∀ l, l < i → (c_delF C i).2.1[l]? = (C.2.1[l]?).map (c_clean (c_has (C.2.1[i].2.1 0))) := fun l hl => by
        rw [e]
        simp only [List.getElem?_map, List.getElem?_eraseIdx, if_pos hl]
      obtain ⟨h1, h2⟩ := l_kl_map (D := D) i hat
      have hdrop : (c_delF C i).2.1.drop i = (C.2.1.drop (i + 1)).map (c_clean (c_has (C.2.1[i].2.1 0))) := by
        rw [e]
        show ((C.2.1.eraseIdx i).map _).drop i = _
        rw [← List.map_drop]
        congr 1
        apply List.ext_getElem?
        intro l
        rw [List.getElem?_drop, List.getElem?_drop, List.getElem?_eraseIdx, if_neg (by omega)]
        congr 1
        omega
      rw [h1, h2, hdrop, ← List.map_append, List.map_map]
      have h3 : (c_delF C i).1 = C.1 ∧ (c_delF C i).2.2 = C.2.2 := by rw [e]; exact ⟨rfl, rfl⟩
      rw [h3.1, h3.2]
      simp only [Option.map_some, Option.toList_some, List.singleton_append, List.append_nil, List.length_cons]
      refine Prod.ext (Prod.ext rfl (Prod.ext (List.map_congr_left (fun y _ => ?_)) rfl)) rfl
      simp only [Function.comp]
      rw [l_clean2]
      congr 1
theorem l_kl_mem {D : Nat → Nat} {ys : List CF} {y : CF} : ∀ i, i ≤ ys.length → (y ∈ l_kl D i ys ↔ ∃ l, l < i ∧ ys[l]? = some y ∧ D l < 1000)
  | 0, _ => by simp [l_kl]
  | i + 1, hi => by
    unfold l_kl
    rw [List.mem_append, l_kl_mem i (by omega)]
    have hg : ys[i]? = some ys[i] := List.getElem?_eq_getElem hi
    constructor
    · rintro (⟨l, h1, h2⟩ | h)
      · exact ⟨l, by omega, h2⟩
      · split at h
        · next hD => exact ⟨i, by omega, by simpa using h, hD⟩
        · cases h
    · rintro ⟨l, h1, h2, h3⟩
      by_cases e : l = i
      · subst e
        rw [if_pos h3, h2]
        exact Or.inr (by simp)
      · exact Or.inl ⟨l, by omega, h2, h3⟩
theorem l_rm_mem {D : Nat → Nat} {ys : List CF} {n : Nat} : ∀ i, i ≤ ys.length → (n ∈ l_rm D i ys ↔ ∃ l y, l < i ∧ ys[l]? = some y ∧ ¬ D l < 1000 ∧ y.2.1 0 = n)
  | 0, _ => by simp [l_rm]
  | i + 1, hi => by
    unfold l_rm
    have hg : ys[i]? = some ys[i] := List.getElem?_eq_getElem hi
    have ih := l_rm_mem (D := D) (n := n) (ys := ys) i (by omega)
    split
    · next hD =>
      rw [ih]
      constructor
      · rintro ⟨l, y, h1, h2⟩
        exact ⟨l, y, by omega, h2⟩
      · rintro ⟨l, y, h1, h2, h3, h4⟩
        have : l ≠ i := fun e => h3 (e ▸ hD)
        exact ⟨l, y, by omega, h2, h3, h4⟩
    · next hD =>
      rw [List.mem_append, ih, hg]
      constructor
      · rintro (h | ⟨l, y, h1, h2⟩)
        · exact ⟨i, ys[i], by omega, hg, hD, by simp at h; exact h.symm⟩
        · exact ⟨l, y, by omega, h2⟩
      · rintro ⟨l, y, h1, h2, h3, h4⟩
        by_cases e : l = i
        · subst e
          rw [hg] at h2
          cases h2
          exact Or.inl (by simp [h4])
        · exact Or.inr ⟨l, y, by omega, h2, h3, h4⟩
theorem l_kl_sub {D : Nat → Nat} {ys : List CF} : ∀ i, (l_kl D i ys).Sublist (ys.take i)
  | 0 => by simp [l_kl]
  | i + 1 => by
    unfold l_kl
    rw [List.take_add_one]
    refine (l_kl_sub i).append ?_
    split
    · exact List.Sublist.refl _
    · exact List.nil_sublist _
theorem l_kl_len {D : Nat → Nat} {ys : List CF} : ∀ i, i ≤ ys.length → (l_kl D i ys).length + (l_rm D i ys).length = i
  | 0, _ => rfl
  | i + 1, hi => by
    have ih := l_kl_len (D := D) (ys := ys) i (by omega)
    have hg : ys[i]? = some ys[i] := List.getElem?_eq_getElem hi
    unfold l_kl l_rm
    rw [hg]
    split <;> simp <;> omega
theorem c_num_pw {C : CC} : c_num C ↔ C.2.1.Pairwise (fun y z => y.2.1 0 < z.2.1 0) := by
  rw [List.pairwise_iff_getElem]
  constructor
  · intro h i j hi hj hij
    exact h i j _ _ (List.getElem?_eq_getElem hi) (List.getElem?_eq_getElem hj) hij
  · intro h i j y z hi hj hij
    obtain ⟨h1, h2⟩ := List.getElem?_eq_some_iff.mp hi
    obtain ⟨h3, h4⟩ := List.getElem?_eq_some_iff.mp hj
    have := h i j h1 h3 hij
    rw [h2, h4] at this
    exact this
def l_same (y z : CF) : Prop := y.2.1 1 = z.2.1 1 ∧ y.2.1 2 = z.2.1 2 ∧ y.2.1 3 = z.2.1 3
theorem c_dis_pw {C : CC} : c_dis C ↔ C.2.1.Pairwise (fun y z => ¬ l_same y z) := by
  rw [List.pairwise_iff_getElem]
  constructor
  · intro h i j hi hj hij e
    have := h i j _ _ (List.getElem?_eq_getElem hi) (List.getElem?_eq_getElem hj) e.1 e.2.1 e.2.2
    omega
  · intro h i j y z hi hj e1 e2 e3
    obtain ⟨h1, h2⟩ := List.getElem?_eq_some_iff.mp hi
    obtain ⟨h3, h4⟩ := List.getElem?_eq_some_iff.mp hj
    rcases Nat.lt_trichotomy i j with q | q | q
    · have := h i j h1 h3 q
      rw [h2, h4] at this
      exact absurd ⟨e1, e2, e3⟩ this
    · exact q
    · have := h j i h3 h1 q
      rw [h2, h4] at this
      exact absurd ⟨e1.symm, e2.symm, e3.symm⟩ this
def l_kp (L : List CF) (n : Nat) : Bool := L.any (fun y => y.2.1 0 == n)
def l_kq (L : List CF) (q : FK) : Bool := l_kp L q.2.1 && (match q.2.2.1 with | none => true | some m => l_kp L m)
theorem l_kp_iff {L : List CF} {n : Nat} : l_kp L n = true ↔ ∃ y ∈ L, y.2.1 0 = n := by
  unfold l_kp
  simp only [List.any_eq_true, beq_iff_eq]
section KLOS
variable {C : CC} {K : List FK} {n : Nat} {D : Nat → Nat}
/-- what is left when facts without ground have gone -/
theorem k_los (hB : k_B C n) (hk : k_ok C K) (hn : K.length ≤ n) (hD : c_dep C D) (L : List CF) (hL : L = l_kl D C.2.1.length C.2.1) :
    (c_los D C).1.1 = C.1 ∧ (c_los D C).1.2.1 = L.map (c_clean (l_has (l_rm D C.2.1.length C.2.1))) ∧ (c_los D C).1.2.2 = (fun j => if j = 1 then C.2.2 1 + (c_los D C).2 else C.2.2 j) ∧ (c_los D C).2 + L.length = C.2.1.length ∧
    k_I (c_los D C).1 (K.filter (l_kq L)) n := by
  obtain ⟨⟨b1, b2, b3⟩, ⟨b4, b5, b6, b7⟩, b8, b9⟩ := id hB
  have hlo := l_lo (D := D) C.2.1.length C (Nat.le_refl _)
  rw [List.drop_length, List.append_nil, ← hL] at hlo
  generalize hrm : l_rm D C.2.1.length C.2.1 = rm at hlo
  have e2 : (c_los D C).2 = rm.length := by unfold c_los; rw [hlo]
  have e1 : (c_los D C).1 = (C.1, L.map (c_clean (l_has rm)), fun j => if j = 1 then C.2.2 1 + (c_los D C).2 else C.2.2 j) := by
    rw [e2]
    unfold c_los c_cnt
    rw [hlo]
  have hlen : rm.length + L.length = C.2.1.length := by
    have := l_kl_len (D := D) (ys := C.2.1) C.2.1.length (Nat.le_refl _)
    rw [← hL, hrm] at this
    omega
  have hsub : L.Sublist C.2.1 := by
    have := l_kl_sub (D := D) (ys := C.2.1) C.2.1.length
    rw [← hL, List.take_length] at this
    exact this
  have hLm : ∀ {y : CF}, y ∈ L ↔ ∃ l, C.2.1[l]? = some y ∧ D l < 1000 := fun {y} => by
    rw [hL, l_kl_mem _ (Nat.le_refl _)]
    constructor
    · rintro ⟨l, -, h⟩
      exact ⟨l, h⟩
    · rintro ⟨l, h1, h2⟩
      exact ⟨l, (List.getElem?_eq_some_iff.mp h1).1, h1, h2⟩
  have hgr : ∀ {y : CF}, y ∈ C.2.1 → (y ∈ L ↔ dv_g (c_T C) (c_R C) (y.2.1 0)) := fun {y} hy => by
    rw [hLm]
    constructor
    · rintro ⟨l, h1, h2⟩
      refine Classical.byContradiction fun z => ?_
      have := (hD l y h1).2.1 z
      omega
    · intro h
      obtain ⟨l, hl⟩ := List.getElem?_of_mem hy
      exact ⟨l, hl, by have := (hD l y hl).2.2 h; omega⟩
  have hkp : ∀ {m}, c_in C m → (l_kp L m = true ↔ dv_g (c_T C) (c_R C) m) := fun {m} ⟨y, hy, e⟩ => by
    rw [l_kp_iff, ← e, ← hgr hy]
    constructor
    · rintro ⟨z, hz, e2⟩
      obtain ⟨i, hi⟩ := List.getElem?_of_mem hy
      obtain ⟨j, hj⟩ := List.getElem?_of_mem (hsub.subset hz)
      have := k_un b5 hj hi e2
      subst this
      rw [hi] at hj
      cases hj
      exact hz
    · intro h
      exact ⟨y, h, rfl⟩
  have hrmm : ∀ {m}, c_in C m → (m ∈ rm ↔ l_kp L m = false) := fun {m} hm => by
    rw [← hrm, l_rm_mem _ (Nat.le_refl _), ← Bool.not_eq_true, hkp hm]
    obtain ⟨y, hy, e⟩ := hm
    constructor
    · rintro ⟨l, z, h1, h2, h3, h4⟩ hg
      exact h3 (by have := (hD l z h2).2.2 (by rw [h4]; exact hg); omega)
    · intro hg
      obtain ⟨l, hl⟩ := List.getElem?_of_mem hy
      refine ⟨l, y, (List.getElem?_eq_some_iff.mp hl).1, hl, fun z => ?_, e⟩
      have := (hD l y hl).2.1 (by rw [e]; exact hg)
      omega
  have hin' : ∀ {m}, l_kp L m = true → c_in (c_los D C).1 m := fun {m} h => by
    obtain ⟨y, hy, e⟩ := l_kp_iff.mp h
    rw [e1]
    exact ⟨_, List.mem_map_of_mem hy, e⟩
  have hhas : ∀ q ∈ K, (!(l_has rm (k_fi C.1 q))) = l_kq L q := fun q hq => by
    obtain ⟨-, c1, c2, -⟩ := hk.2.1 q hq
    have a1 := hrmm c1
    rw [Bool.eq_iff_iff]
    unfold l_has l_kq
    simp only [Bool.not_eq_true', List.any_eq_false, Bool.and_eq_true]
    unfold c_has k_fi
    constructor
    · intro h
      refine ⟨?_, ?_⟩
      · rw [← Bool.not_eq_false]
        intro z
        have := h _ (a1.mpr z)
        simp at this
      · cases e : q.2.2.1 with
        | none => rfl
        | some m =>
          show l_kp L m = true
          rw [← Bool.not_eq_false]
          intro z
          have := h _ ((hrmm (c2 m e)).mpr z)
          simp [e] at this
    · rintro ⟨h1, h2⟩ m hm
      simp only [Bool.or_eq_true, beq_iff_eq, not_or]
      refine ⟨fun z => ?_, fun z => ?_⟩
      · rw [← z] at hm
        rw [a1.mp hm] at h1
        cases h1
      · rw [z] at h2
        have h2 : l_kp L m = true := h2
        rw [(hrmm (c2 m z)).mp hm] at h2
        cases h2
  have hmade : ∀ q ∈ K, l_kq L q = true → ∀ m, q.2.2.2 = some m → l_kp L m = true := fun q hq hl m hm => by
    obtain ⟨-, c1, c2, c3⟩ := hk.2.1 q hq
    unfold l_kq at hl
    rw [Bool.and_eq_true] at hl
    refine (hkp (c3 m hm)).mpr (dv_g.step (a := q.2.1) (b := q.2.2.1) ?_ ((hkp c1).mp hl.1) (fun p hp => ?_))
    · obtain ⟨y, hy, e⟩ := c3 m hm
      refine ⟨y, hy, e, k_fi C.1 q, ?_, rfl, rfl⟩
      rw [(hk.2.2 y hy).2]
      exact List.mem_map_of_mem (List.mem_filter.mpr ⟨hq, by simp [hm, e]⟩)
    · have h2 := hl.2
      rw [hp] at h2
      exact (hkp (c2 p hp)).mp h2
  have hT : ∀ {m}, dv_g (c_T C) (c_R C) m → dv_g (c_T C) (c_R C) m ∧ dv_g (c_T (c_los D C).1) (c_R (c_los D C).1) m := fun {m} h => by
    refine h (fun m => dv_g (c_T C) (c_R C) m ∧ dv_g (c_T (c_los D C).1) (c_R (c_los D C).1) m) (fun m ht => ?_) (fun m a b hr ha hb => ?_)
    · have hg0 := dv_g.told (R := c_R C) ht
      refine ⟨hg0, dv_g.told ?_⟩
      obtain ⟨y, hy, f1, f2⟩ := ht
      have := (hgr hy).mpr (by rw [f1]; exact hg0)
      rw [e1]
      exact ⟨_, List.mem_map_of_mem this, f1, f2⟩
    · have hg0 := dv_g.step hr ha.1 (fun c hc => (hb c hc).1)
      refine ⟨hg0, dv_g.step (a := a) (b := b) ?_ ha.2 (fun c hc => (hb c hc).2)⟩
      obtain ⟨y, hy, f1, fi, hfi, f2, f3⟩ := hr
      have hyL := (hgr hy).mpr (by rw [f1]; exact hg0)
      rw [e1]
      refine ⟨_, List.mem_map_of_mem hyL, f1, fi, ?_, f2, f3⟩
      refine List.mem_filter.mpr ⟨hfi, ?_⟩
      obtain ⟨q, hq, g1, g2⟩ := hk.reas hy hfi
      obtain ⟨-, c1, c2, -⟩ := hk.2.1 q hq
      rw [← g1, hhas q hq]
      rw [← g1] at f2 f3
      unfold l_kq
      rw [Bool.and_eq_true]
      refine ⟨(hkp c1).mpr (by have := ha.1; rw [← f2] at this; exact this), ?_⟩
      cases e : q.2.2.1 with
      | none => rfl
      | some p => exact (hkp (c2 p e)).mpr (hb p (by rw [← f3]; exact e)).1
  refine ⟨by rw [e1], by rw [e1], by rw [e1], by rw [e2]; exact hlen, ⟨⟨by rw [e1]; exact ⟨b1, b2, b3⟩, ⟨?_, ?_, ?_, ?_⟩, by rw [e1]; exact b8, b9⟩, ⟨?_, fun q hq => ?_, fun y hy => ?_⟩, Nat.le_trans (List.length_filter_le _ _) hn, fun y hy => ?_⟩⟩
  · rw [e1]
    show (L.map _).length ≤ 20
    rw [List.length_map]
    omega
  · rw [e1, c_num_pw]
    show (L.map _).Pairwise _
    rw [List.pairwise_map]
    exact (c_num_pw.mp b5).sublist hsub
  · intro y hy
    rw [e1] at hy ⊢
    obtain ⟨z, hz, rfl⟩ := List.mem_map.mp hy
    exact b6 z (hsub.subset hz)
  · rw [e1, c_dis_pw]
    show (L.map _).Pairwise _
    rw [List.pairwise_map]
    exact (c_dis_pw.mp b7).sublist hsub
  · exact hk.1.sublist ((List.filter_sublist (l := K)).map _)
  · obtain ⟨hq1, hq2⟩ := List.mem_filter.mp hq
    obtain ⟨c0, c1, c2, c3⟩ := hk.2.1 q hq1
    have hq3 := hq2
    unfold l_kq at hq3
    rw [Bool.and_eq_true] at hq3
    refine ⟨by rw [e1]; exact c0, hin' hq3.1, fun m hm => hin' ?_, fun m hm => hin' (hmade q hq1 hq2 m hm)⟩
    have := hq3.2
    rw [hm] at this
    exact this
  · rw [e1] at hy ⊢
    obtain ⟨z, hz, rfl⟩ := List.mem_map.mp hy
    obtain ⟨g1, g2⟩ := hk.2.2 z (hsub.subset hz)
    have key : ∀ p : FK → Bool, ((K.filter p).map (k_fi C.1)).filter (fun fi => !l_has rm fi) = ((K.filter (l_kq L)).filter p).map (k_fi C.1) := fun p => by
      rw [List.filter_map, List.filter_filter, List.filter_filter]
      congr 1
      refine List.filter_congr (fun q hq => ?_)
      simp only [Function.comp]
      rw [hhas q hq, Bool.and_comm]
    refine ⟨?_, ?_⟩
    · show List.filter _ z.2.2.2 = _
      rw [g1]
      exact key _
    · show List.filter _ z.2.2.1 = _
      rw [g2]
      exact key _
  · have hy' := hy
    rw [e1] at hy'
    obtain ⟨z, hz, rfl⟩ := List.mem_map.mp hy'
    exact (hT ((hgr (hsub.subset hz)).mp hz)).2
end KLOS
