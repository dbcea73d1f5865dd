set_option maxRecDepth 100000
/-! THE REFERENCE's FIRINGS beside the class's: a rule's place, the first fact, the second one, what was made -/
abbrev FK : Type := Nat × Nat × Option Nat × Option Nat
def k_ra (rs : List (Nat × (Nat → Nat))) (i : Nat) : Nat := match rs[i]? with
  | none => 0
  | some x1 => x1.1
def k_fi (rs : List (Nat × (Nat → Nat))) (q : FK) : FI := (k_ra rs q.1, q.2.1, q.2.2.1)
def k_tr (q : FK) : Nat × Nat × Option Nat := (q.1, q.2.1, q.2.2.1)
def c_in (C : CC) (n : Nat) : Prop := ∃ y ∈ C.2.1, y.2.1 0 = n
def k_F (K : List FK) (n : Nat) : List FK := K.filter (fun q => q.2.1 == n)
def k_R (K : List FK) (n : Nat) : List FK := K.filter (fun q => q.2.2.2 == some n)
def k_ok (C : CC) (K : List FK) : Prop := (K.map k_tr).Nodup ∧ (∀ q ∈ K, q.1 < C.1.length ∧ c_in C q.2.1 ∧ (∀ m, q.2.2.1 = some m → c_in C m) ∧ ∀ m, q.2.2.2 = some m → c_in C m) ∧
  ∀ y ∈ C.2.1, y.2.2.2 = (k_F K (y.2.1 0)).map (k_fi C.1) ∧ y.2.2.1 = (k_R K (y.2.1 0)).map (k_fi C.1)
/-- a good rule -/
def c_rg (r : Nat → Nat) : Prop := c_rw r ∧ r 3 ≤ 2 ∧ r 10 ≤ 9 ∧ ∀ k, (k = 1 ∨ k = 2 ∨ k = 5 ∨ k = 6 ∨ k = 8 ∨ k = 9) → r k ≤ 12
def c_num (C : CC) : Prop := ∀ (i j : Nat) (y z : CF), C.2.1[i]? = some y → C.2.1[j]? = some z → i < j → y.2.1 0 < z.2.1 0
def c_dis (C : CC) : Prop := ∀ (i j : Nat) (y z : CF), C.2.1[i]? = some y → C.2.1[j]? = some z → y.2.1 1 = z.2.1 1 → y.2.1 2 = z.2.1 2 → y.2.1 3 = z.2.1 3 → i = j
def c_gnd (C : CC) : Prop := ∀ y ∈ C.2.1, dv_g (c_T C) (c_R C) (y.2.1 0)
def k_B (C : CC) (n : Nat) : Prop := (C.1.length ≤ 8 ∧ (C.1.map Prod.fst).Nodup ∧ ∀ x1 ∈ C.1, c_rg x1.2) ∧ (C.2.1.length ≤ 20 ∧ c_num C ∧ c_fw C ∧ c_dis C) ∧ C.2.2 0 ≤ n ∧ n < 100000
/-- the invariant at rest -/
def k_I (C : CC) (K : List FK) (n : Nat) : Prop := k_B C n ∧ k_ok C K ∧ K.length ≤ n ∧ c_gnd C
theorem c_in_of {C : CC} {i : Nat} {y : CF} (h : C.2.1[i]? = some y) : c_in C (y.2.1 0) := ⟨y, List.mem_of_getElem? h, rfl⟩
theorem k_un {C : CC} (hn : c_num C) {i j : Nat} {y z : CF} (hi : C.2.1[i]? = some y) (hj : C.2.1[j]? = some z) (e : y.2.1 0 = z.2.1 0) : i = j := by
  rcases Nat.lt_trichotomy i j with q | q | q
  · have := hn i j y z hi hj q; omega
  · exact q
  · have := hn j i z y hj hi q; omega
theorem k_sum_add {f g : CF → Nat} : ∀ ys : List CF, c_sum (fun y => f y + g y) ys = c_sum f ys + c_sum g ys
  | [] => rfl
  | y :: ys => by simp only [c_sum, k_sum_add ys]; omega
theorem k_sum_cong {f g : CF → Nat} : ∀ ys : List CF, (∀ y ∈ ys, f y = g y) → c_sum f ys = c_sum g ys
  | [], _ => rfl
  | y :: ys, h => by simp only [c_sum, h y (List.mem_cons_self ..), k_sum_cong ys (fun z hz => h z (List.mem_cons_of_mem _ hz))]
theorem k_sum_0 {f : CF → Nat} : ∀ ys : List CF, (∀ y ∈ ys, f y = 0) → c_sum f ys = 0
  | [], _ => rfl
  | y :: ys, h => by simp only [c_sum, h y (List.mem_cons_self ..), k_sum_0 ys (fun z hz => h z (List.mem_cons_of_mem _ hz))]
theorem k_sum_1 (o : Option Nat) : ∀ ys : List CF, ys.Pairwise (fun y z => y.2.1 0 ≠ z.2.1 0) → c_sum (fun y => if o == some (y.2.1 0) then 1 else 0) ys ≤ 1
  | [], _ => Nat.zero_le _
  | y :: ys, h => by
    obtain ⟨h1, h2⟩ := List.pairwise_cons.mp h
    have ih := k_sum_1 o ys h2
    simp only [c_sum]
    by_cases e : o = some (y.2.1 0)
    · rw [k_sum_0 ys]
      · split <;> omega
      · intro z hz
        have := h1 z hz
        rw [if_neg]
        simp only [beq_iff_eq]
        intro e2
        rw [e] at e2
        exact this (Option.some.inj e2)
    · rw [if_neg (by simpa using e)]
      omega
theorem k_sum_le {f : FK → Option Nat} {ys : List CF} (hd : ys.Pairwise (fun y z => y.2.1 0 ≠ z.2.1 0)) : ∀ K : List FK, c_sum (fun y => (K.filter (fun q => f q == some (y.2.1 0))).length) ys ≤ K.length
  | [] => by rw [k_sum_0]; exact Nat.zero_le _; intro y _; rfl
  | q :: K => by
    have ih := k_sum_le (f := f) hd K
    have h1 := k_sum_1 (f q) ys hd
    rw [k_sum_cong (g := fun y => (if f q == some (y.2.1 0) then 1 else 0) + (K.filter (fun q => f q == some (y.2.1 0))).length) ys, k_sum_add]
    · simp only [List.length_cons]; omega
    · intro y _
      simp only [List.filter_cons]
      split <;> simp <;> omega
theorem c_num.pw {C : CC} (h : c_num C) : C.2.1.Pairwise (fun y z => y.2.1 0 ≠ z.2.1 0) := by
  rw [List.pairwise_iff_getElem]
  intro i j hi hj hij e
  have := h i j _ _ (List.getElem?_eq_getElem hi) (List.getElem?_eq_getElem hj) hij
  omega
theorem k_ra_of {rs : List (Nat × (Nat → Nat))} {i : Nat} {x1 : Nat × (Nat → Nat)} (h : rs[i]? = some x1) : k_ra rs i = x1.1 := by unfold k_ra; rw [h]
theorem k_ra_inj {rs : List (Nat × (Nat → Nat))} (hn : (rs.map Prod.fst).Nodup) {i j : Nat} (hi : i < rs.length) (hj : j < rs.length) (e : k_ra rs i = k_ra rs j) : i = j := by
  rw [k_ra_of (List.getElem?_eq_getElem hi), k_ra_of (List.getElem?_eq_getElem hj)] at e
  have h1 : (rs.map Prod.fst)[i]? = some (rs[i]).1 := by rw [List.getElem?_map, List.getElem?_eq_getElem hi]; rfl
  have h2 : (rs.map Prod.fst)[j]? = some (rs[i]).1 := by rw [List.getElem?_map, List.getElem?_eq_getElem hj, e]; rfl
  exact q_nd hn h1 h2
theorem k_nodup {α β : Type} (f : α → β) : ∀ K : List α, (∀ x ∈ K, ∀ y ∈ K, f x = f y → x = y) → K.Nodup → (K.map f).Nodup
  | [], _, _ => by simp
  | x :: K, h, hn => by
    obtain ⟨h1, h2⟩ := List.nodup_cons.mp hn
    rw [List.map_cons, List.nodup_cons]
    refine ⟨fun hm => ?_, k_nodup f K (fun a ha b hb => h a (List.mem_cons_of_mem _ ha) b (List.mem_cons_of_mem _ hb)) h2⟩
    obtain ⟨z, hz, e⟩ := List.mem_map.mp hm
    have := h z (List.mem_cons_of_mem _ hz) x (List.mem_cons_self ..) e
    exact h1 (this ▸ hz)
theorem k_nd_of {α β : Type} (f : α → β) : ∀ K : List α, (K.map f).Nodup → K.Nodup ∧ ∀ x ∈ K, ∀ y ∈ K, f x = f y → x = y
  | [], _ => ⟨List.nodup_nil, fun x hx => by cases hx⟩
  | x :: K, h => by
    rw [List.map_cons, List.nodup_cons] at h
    obtain ⟨h3, h4⟩ := k_nd_of f K h.2
    refine ⟨List.nodup_cons.mpr ⟨fun hm => h.1 (List.mem_map_of_mem hm), h3⟩, fun a ha b hb e => ?_⟩
    rcases List.mem_cons.mp ha with p1 | p1
    · rcases List.mem_cons.mp hb with p2 | p2
      · rw [p1, p2]
      · exact absurd (by rw [← p1, e]; exact List.mem_map_of_mem p2) h.1
    · rcases List.mem_cons.mp hb with p2 | p2
      · exact absurd (by rw [← p2, ← e]; exact List.mem_map_of_mem p1) h.1
      · exact h4 a p1 b p2 e
section KJ
variable {C : CC} {K : List FK} {n : Nat}
theorem k_ok.fired (hk : k_ok C K) {y : CF} (hy : y ∈ C.2.1) {fi : FI} (hf : fi ∈ y.2.2.2) : ∃ q ∈ K, k_fi C.1 q = fi ∧ q.2.1 = y.2.1 0 := by
  rw [(hk.2.2 y hy).1] at hf
  obtain ⟨q, h1, h2⟩ := List.mem_map.mp hf
  obtain ⟨h3, h4⟩ := List.mem_filter.mp h1
  exact ⟨q, h3, h2, by simpa using h4⟩
theorem k_ok.reas (hk : k_ok C K) {y : CF} (hy : y ∈ C.2.1) {fi : FI} (hf : fi ∈ y.2.2.1) : ∃ q ∈ K, k_fi C.1 q = fi ∧ q.2.2.2 = some (y.2.1 0) := by
  rw [(hk.2.2 y hy).2] at hf
  obtain ⟨q, h1, h2⟩ := List.mem_map.mp hf
  obtain ⟨h3, h4⟩ := List.mem_filter.mp h1
  exact ⟨q, h3, h2, by simpa using h4⟩
theorem k_ok.ru (hk : k_ok C K) : c_ru C := by
  intro y hy
  have h : ∀ q ∈ K, ∀ fi, k_fi C.1 q = fi → ∃ (i : Nat) (x1 : Nat × (Nat → Nat)), C.1[i]? = some x1 ∧ fi.1 = x1.1 := by
    intro q hq fi e
    have := (hk.2.1 q hq).1
    exact ⟨q.1, C.1[q.1], List.getElem?_eq_getElem this, by rw [← e]; exact k_ra_of (List.getElem?_eq_getElem this)⟩
  refine ⟨fun fi hfi => ?_, fun fi hfi => ?_⟩
  · obtain ⟨q, hq, e, -⟩ := hk.reas hy hfi
    exact h q hq fi e
  · obtain ⟨q, hq, e, -⟩ := hk.fired hy hfi
    exact h q hq fi e
theorem k_ok.cl (hk : k_ok C K) : c_cl C := by
  intro y hy fi hfi
  obtain ⟨q, hq, e, -⟩ := hk.reas hy hfi
  obtain ⟨-, h1, h2, -⟩ := hk.2.1 q hq
  rw [← e]
  exact ⟨h1, h2⟩
theorem k_ok.firedNd (hk : k_ok C K) (hr : (C.1.map Prod.fst).Nodup) {y : CF} (hy : y ∈ C.2.1) : y.2.2.2.Nodup := by
  rw [(hk.2.2 y hy).1]
  obtain ⟨h1, h2⟩ := k_nd_of k_tr K hk.1
  refine k_nodup _ _ (fun a ha b hb e => ?_) (h1.filter _)
  obtain ⟨ha, -⟩ := List.mem_filter.mp ha
  obtain ⟨hb, -⟩ := List.mem_filter.mp hb
  refine h2 a ha b hb ?_
  have e1 := k_ra_inj hr (hk.2.1 a ha).1 (hk.2.1 b hb).1 (congrArg Prod.fst e)
  have e2 := congrArg Prod.snd e
  show (a.1, a.2.1, a.2.2.1) = (b.1, b.2.1, b.2.2.1)
  rw [e1]
  exact congrArg _ e2
theorem c_fw.num (hf : c_fw C) {m : Nat} (h : c_in C m) : m < C.2.2 0 := by
  obtain ⟨y, hy, e⟩ := h
  have := (hf y hy).2.2.2.2.2
  omega
theorem k_B.ok (hB : k_B C n) (hk : k_ok C K) : c_ok C := by
  obtain ⟨⟨b1, b2, b3⟩, ⟨b4, b5, b6, b7⟩, b8, b9⟩ := hB
  refine ⟨b1, b2, fun x1 hx => (b3 x1 hx).2.2.1, b4, b5, fun y hy => ?_, fun y hy => ⟨fun fi hfi => ?_, fun fi hfi => ?_⟩⟩
  · have := (b6 y hy).2.2.2.2.2
    omega
  · obtain ⟨q, hq, e, -⟩ := hk.reas hy hfi
    obtain ⟨-, h1, h2, -⟩ := hk.2.1 q hq
    rw [← e]
    refine ⟨?_, fun m hm => ?_⟩
    · have := b6.num h1; show q.2.1 < _; omega
    · have := b6.num (h2 m hm); omega
  · obtain ⟨q, hq, e, -⟩ := hk.fired hy hfi
    obtain ⟨-, h1, h2, -⟩ := hk.2.1 q hq
    rw [← e]
    refine ⟨?_, fun m hm => ?_⟩
    · have := b6.num h1; show q.2.1 < _; omega
    · have := b6.num (h2 m hm); omega
theorem k_B.I (hB : k_B C n) (hk : k_ok C K) (hn : K.length ≤ n) : c_I C n := by
  refine ⟨hB.ok hk, hB.2.1.2.2.1, fun x1 hx => (hB.1.2.2 x1 hx).1, hk.cl, hB.2.2.1, fun y hy => ?_⟩
  rw [(hk.2.2 y hy).1, (hk.2.2 y hy).2, List.length_map, List.length_map]
  unfold k_R k_F
  have h1 := List.length_filter_le (fun q : FK => q.2.2.2 == some (y.2.1 0)) K
  have h2 := List.length_filter_le (fun q : FK => q.2.1 == y.2.1 0) K
  omega
theorem k_ok.sumF (hk : k_ok C K) (hc : c_num C) : c_sum (fun y => y.2.2.2.length) C.2.1 ≤ K.length := by
  rw [k_sum_cong (g := fun y => (K.filter (fun q => some q.2.1 == some (y.2.1 0))).length)]
  · exact k_sum_le hc.pw K
  · intro y hy
    rw [(hk.2.2 y hy).1, List.length_map]
    unfold k_F
    congr 1
theorem k_ok.sumR (hk : k_ok C K) (hc : c_num C) : c_sum (fun y => y.2.2.1.length) C.2.1 ≤ K.length := by
  rw [k_sum_cong (g := fun y => (K.filter (fun q => q.2.2.2 == some (y.2.1 0))).length)]
  · exact k_sum_le hc.pw K
  · intro y hy
    rw [(hk.2.2 y hy).2, List.length_map]
    rfl
theorem k_I.ord (hI : k_I C K n) : c_ord C := by
  obtain ⟨hB, hk, hn, hg⟩ := hI
  refine ⟨hg, hB.2.1.2.2.2, fun y hy => ⟨fun fi hfi => ?_, hk.firedNd hB.1.2.1 hy⟩⟩
  obtain ⟨q, -, e1, e2⟩ := hk.fired hy hfi
  rw [← e1]
  exact e2
theorem k_I.J (hI : k_I C K n) : c_J C n := by
  have ho := hI.ord
  obtain ⟨hB, hk, hn, hg⟩ := hI
  exact ⟨hB.I hk hn, hk.ru, ho, Nat.le_trans (hk.sumR hB.2.1.2.1) hn, Nat.le_trans (hk.sumF hB.2.1.2.1) hn⟩
theorem k_I.ok (hI : k_I C K n) : c_ok C := hI.1.ok hI.2.1
theorem k_I.mono (hI : k_I C K n) {n' : Nat} (h : n ≤ n') (h2 : n' < 100000) : k_I C K n' := ⟨⟨hI.1.1, hI.1.2.1, Nat.le_trans hI.1.2.2.1 h, h2⟩, hI.2.1, Nat.le_trans hI.2.2.1 h, hI.2.2.2⟩
end KJ
theorem dv_g.mono {T T' : Nat → Prop} {R R' : Nat → Nat → Option Nat → Prop} (hT : ∀ n, T n → T' n) (hR : ∀ m a b, R m a b → R' m a b) {n : Nat} (h : dv_g T R n) : dv_g T' R' n := fun P h1 h2 => h P (fun n hn => h1 n (hT n hn)) (fun m a b hr => h2 m a b (hR m a b hr))
