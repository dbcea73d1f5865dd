set_option maxRecDepth 100000
/-! the reference: facts without ground go -/
def r_fa (s : Nat → Int32) (j : Nat) (y : CF) : Prop := (∀ m, m < 5 → s (95 + 20 * m + j) = nI (y.2.1 m)) ∧ s (195 + j) = (q_tb (y.2.1 5)).toInt32 ∧ s (215 + j) = nI (y.2.1 6)
def r_fq (s : Nat → Int32) (k : Nat) (q : FK) : Prop := s (235 + 4 * k) = nI q.1 ∧ s (235 + 4 * k + 1) = nI q.2.1 ∧ s (235 + 4 * k + 2) = nO q.2.2.1 ∧ s (235 + 4 * k + 3) = nO q.2.2.2
theorem r_fa.cp {s s' : Nat → Int32} {f n : Nat} {y : CF} (h : r_fa s f y) (hc : ∀ m, m < 7 → s' (95 + 20 * m + n) = s (95 + 20 * m + f)) : r_fa s' n y :=
  ⟨fun m hm => (hc m (by omega)).trans (h.1 m hm), (hc 5 (by decide)).trans h.2.1, (hc 6 (by decide)).trans h.2.2⟩
theorem r_fa.st {s s' : Nat → Int32} {j : Nat} {y : CF} (h : r_fa s j y) (hc : ∀ m, m < 7 → s' (95 + 20 * m + j) = s (95 + 20 * m + j)) : r_fa s' j y := h.cp hc
theorem r_fq.cp {s s' : Nat → Int32} {k k' : Nat} {q : FK} (h : r_fq s k q) (hc : ∀ w, w < 4 → s' (235 + 4 * k' + w) = s (235 + 4 * k + w)) : r_fq s' k' q :=
  ⟨(hc 0 (by decide)).trans h.1, (hc 1 (by decide)).trans h.2.1, (hc 2 (by decide)).trans h.2.2.1, (hc 3 (by decide)).trans h.2.2.2⟩
section RC
variable {F : Nat → Int32} {A A' : Nat → Nat → Int32} {L : Nat → UInt32} {C : CC} {K : List FK} {n : Nat} {Q : Int32 → FQ} {P : FQ}
theorem rf_movesFact {f g : Nat} (hf : f < 20) (hg : g < 20) (hP : ∀ A', g_A A A' 1 → (∀ m, m < 7 → A' 1 (95 + 20 * m + g) = A 1 (95 + 20 * m + f)) → (∀ x, (∀ m, m < 7 → x ≠ 95 + 20 * m + g) → A' 1 x = A 1 x) → P F A' L) : wp_X4_movesFact F A L (nI f) (nI g) P := by
  unfold wp_X4_movesFact
  have e1 : (95 + nI f : Int32).toNatClampNeg = 95 + f := (r_x 95 (i := f) (N := 13675) (by omega) (by decide)).2
  have e2 : (95 + nI g : Int32).toNatClampNeg = 95 + g := (r_x 95 (i := g) (N := 13675) (by omega) (by decide)).2
  have e3 : (115 + nI f : Int32).toNatClampNeg = 115 + f := (r_x 115 (i := f) (N := 13675) (by omega) (by decide)).2
  have e4 : (115 + nI g : Int32).toNatClampNeg = 115 + g := (r_x 115 (i := g) (N := 13675) (by omega) (by decide)).2
  have e5 : (135 + nI f : Int32).toNatClampNeg = 135 + f := (r_x 135 (i := f) (N := 13675) (by omega) (by decide)).2
  have e6 : (135 + nI g : Int32).toNatClampNeg = 135 + g := (r_x 135 (i := g) (N := 13675) (by omega) (by decide)).2
  have e7 : (155 + nI f : Int32).toNatClampNeg = 155 + f := (r_x 155 (i := f) (N := 13675) (by omega) (by decide)).2
  have e8 : (155 + nI g : Int32).toNatClampNeg = 155 + g := (r_x 155 (i := g) (N := 13675) (by omega) (by decide)).2
  have e9 : (175 + nI f : Int32).toNatClampNeg = 175 + f := (r_x 175 (i := f) (N := 13675) (by omega) (by decide)).2
  have e10 : (175 + nI g : Int32).toNatClampNeg = 175 + g := (r_x 175 (i := g) (N := 13675) (by omega) (by decide)).2
  have e11 : (195 + nI f : Int32).toNatClampNeg = 195 + f := (r_x 195 (i := f) (N := 13675) (by omega) (by decide)).2
  have e12 : (195 + nI g : Int32).toNatClampNeg = 195 + g := (r_x 195 (i := g) (N := 13675) (by omega) (by decide)).2
  have e13 : (215 + nI f : Int32).toNatClampNeg = 215 + f := (r_x 215 (i := f) (N := 13675) (by omega) (by decide)).2
  have e14 : (215 + nI g : Int32).toNatClampNeg = 215 + g := (r_x 215 (i := g) (N := 13675) (by omega) (by decide)).2
  refine ⟨(r_x 95 (i := f) (N := 13675) (by omega) (by decide)).1, (r_x 95 (i := g) (N := 13675) (by omega) (by decide)).1, (r_x 115 (i := f) (N := 13675) (by omega) (by decide)).1, (r_x 115 (i := g) (N := 13675) (by omega) (by decide)).1, (r_x 135 (i := f) (N := 13675) (by omega) (by decide)).1, (r_x 135 (i := g) (N := 13675) (by omega) (by decide)).1, (r_x 155 (i := f) (N := 13675) (by omega) (by decide)).1, (r_x 155 (i := g) (N := 13675) (by omega) (by decide)).1, (r_x 175 (i := f) (N := 13675) (by omega) (by decide)).1, (r_x 175 (i := g) (N := 13675) (by omega) (by decide)).1, (r_x 195 (i := f) (N := 13675) (by omega) (by decide)).1, (r_x 195 (i := g) (N := 13675) (by omega) (by decide)).1, (r_x 215 (i := f) (N := 13675) (by omega) (by decide)).1, (r_x 215 (i := g) (N := 13675) (by omega) (by decide)).1, ?_⟩
  rw [e1, e2, e3, e4, e5, e6, e7, e8, e9, e10, e11, e12, e13, e14]
  refine hP _ (fun j hj => by simp only [r_un hj]) (fun m hm => ?_) (fun x hx => ?_)
  · simp only [r_us]
    match m, hm with
    | 0, _ => show upd _ _ _ (95 + g) = A 1 (95 + f); simp (disch := omega) only [pk_us, pk_un]
    | 1, _ => show upd _ _ _ (115 + g) = A 1 (115 + f); simp (disch := omega) only [pk_us, pk_un]
    | 2, _ => show upd _ _ _ (135 + g) = A 1 (135 + f); simp (disch := omega) only [pk_us, pk_un]
    | 3, _ => show upd _ _ _ (155 + g) = A 1 (155 + f); simp (disch := omega) only [pk_us, pk_un]
    | 4, _ => show upd _ _ _ (175 + g) = A 1 (175 + f); simp (disch := omega) only [pk_us, pk_un]
    | 5, _ => show upd _ _ _ (195 + g) = A 1 (195 + f); simp (disch := omega) only [pk_us, pk_un]
    | 6, _ => show upd _ _ _ (215 + g) = A 1 (215 + f); simp (disch := omega) only [pk_us, pk_un]
  · have h0 := hx 0 (by decide)
    have h1 := hx 1 (by decide)
    have h2 := hx 2 (by decide)
    have h3 := hx 3 (by decide)
    have h4 := hx 4 (by decide)
    have h5 := hx 5 (by decide)
    have h6 := hx 6 (by decide)
    simp only [r_us]
    simp (disch := omega) only [pk_un]
theorem rf_movesFiring {k g : Nat} (hk : k < 3300) (hg : g ≤ k) (hP : ∀ A', g_A A A' 1 → (∀ w, w < 4 → A' 1 (235 + 4 * g + w) = A 1 (235 + 4 * k + w)) → (∀ x, (∀ w, w < 4 → x ≠ 235 + 4 * g + w) → A' 1 x = A 1 x) → P F A' L) : wp_X4_movesFiring F A L (nI k) (nI g) P := by
  have ix : ∀ k w, k < 3300 → w < 4 → vp_in (235 + 4 * nI k + nI w : Int32) 13675 ∧ (235 + 4 * nI k + nI w : Int32).toNatClampNeg = 235 + 4 * k + w := fun k w h1 h2 => by
    have e : (235 + 4 * nI k + nI w : Int32) = nI (235 + 4 * k + w) := by
      show (nI 235 + nI 4 * nI k + nI w : Int32) = _
      rw [pk_mul, nI_add, nI_add]
    rw [e]
    exact r_x0 (by omega) (by decide)
  have main : ∀ d w A', w + d = 4 → g_A A A' 1 → (∀ w', w' < w → A' 1 (235 + 4 * g + w') = A 1 (235 + 4 * k + w')) → (∀ x, (∀ w', w' < w → x ≠ 235 + 4 * g + w') → A' 1 x = A 1 x) → wp_X4_movesFiring_L2 P (d + 1) F A' L (nI k) (nI g) (nI w) := by
    intro d
    induction d with
    | zero =>
      intro w A' hw h1 h2 h3
      refine pk_le 4 w (fun _ => ?_) (fun h => by omega) rfl rfl
      have : w = 4 := by omega
      subst this
      exact hP A' h1 h2 h3
    | succ d ih =>
      intro w A' hw h1 h2 h3
      refine pk_le 4 w (fun h => by omega) (fun _ => ⟨(ix k w hk (by omega)).1, (ix g w (by omega) (by omega)).1, ?_⟩) rfl rfl
      rw [(ix k w hk (by omega)).2, (ix g w (by omega) (by omega)).2, nI_1]
      refine ih (w + 1) _ (by omega) h1.up (fun w' hw' => ?_) (fun x hx => ?_)
      · rw [r_us]
        by_cases e : w' = w
        · subst e
          rw [pk_us]
          exact h3 _ (fun w2 hw2 => by omega)
        · rw [pk_un (by omega)]
          exact h2 w' (by omega)
      · rw [r_us, pk_un (hx w (by omega))]
        exact h3 x (fun w' hw' => hx w' (by omega))
  exact ⟨5, main 4 0 A (by omega) g_A.rf (fun w' h => by omega) (fun x _ => rfl)⟩
/-- slots of a list of facts -/
theorem rf_slotW {ys : List CF} (h1 : A 1 1 = nI ys.length) (hl : ys.length ≤ 20) (hn : ∀ i y, ys[i]? = some y → A 1 (95 + i) = nI (y.2.1 0)) {v : Int32} (hQ1 : ∀ (i : Nat) (y : CF), ys[i]? = some y → nI (y.2.1 0) = v → Q (nI i) F A L) (hQ0 : (∀ y ∈ ys, nI (y.2.1 0) ≠ v) → Q (-1) F A L) : wp_X4_slotOf F A L v Q := by
  have main : ∀ d i, i + d = ys.length → (∀ (j : Nat) (z : CF), j < i → ys[j]? = some z → nI (z.2.1 0) ≠ v) → wp_X4_slotOf_L2 Q (d + 1) F A L v (nI i) := by
    intro d
    induction d with
    | zero =>
      intro i hi hno
      refine pk_le ys.length i (fun _ => hQ0 (fun y hy => ?_)) (fun h => by omega) h1 rfl
      obtain ⟨j, hj⟩ := List.getElem?_of_mem hy
      exact hno j y (by have := (List.getElem?_eq_some_iff.mp hj).1; omega) hj
    | succ d ih =>
      intro i hi hno
      have hy : ys[i]? = some ys[i] := List.getElem?_eq_getElem (by omega)
      have hx := r_x 95 (i := i) (N := 13675) (by omega) (by decide)
      have e : (95 + nI i : Int32).toNatClampNeg = 95 + i := hx.2
      refine pk_le ys.length i (fun h => by omega) (fun _ => ⟨hx.1, ?_⟩) h1 rfl
      rw [e, hn i _ hy, nI_1]
      exact ⟨fun z => ih (i + 1) (by omega) (fun j w hj hw => by
        by_cases q : j = i
        · subst q; rw [hy] at hw; cases hw; exact z
        · exact hno j w (by omega) hw), fun z => hQ1 i _ hy z⟩
  exact ⟨ys.length + 1, main ys.length 0 (by omega) (fun j z hj => by omega)⟩
def l_kpo (ys : List CF) : Option Nat → Bool
  | none => true
  | some m => l_kp ys m
theorem rf_isThereW {ys : List CF} (h1 : A 1 1 = nI ys.length) (hl : ys.length ≤ 20) (hn : ∀ i y, ys[i]? = some y → A 1 (95 + i) = nI (y.2.1 0)) (hb : ∀ y ∈ ys, y.2.1 0 < 3300) {o : Option Nat} (ho : ∀ m, o = some m → m < 3300) (hQ : Q (g_b (l_kpo ys o)) F A L) : wp_X4_isThere F A L (nO o) Q := by
  cases o with
  | none => exact ⟨fun _ => hQ, fun h => absurd rfl h⟩
  | some m =>
    have hm := ho m rfl
    refine ⟨fun h => absurd h (nI_ne1 (by omega)), fun _ => rf_slotW h1 hl hn (fun i y hy e => ?_) (fun hno => ?_)⟩
    · have hlt := (List.getElem?_eq_some_iff.mp hy).1
      have hby := hb y (List.mem_of_getElem? hy)
      have e' : y.2.1 0 = m := (nI_eq (by omega) (by omega)).mp e
      have : l_kp ys m = true := l_kp_iff.mpr ⟨y, List.mem_of_getElem? hy, e'⟩
      refine ⟨fun h => absurd h (nI_ne1 (by omega)), fun _ => ?_⟩
      have hQ : Q (g_b (l_kp ys m)) F A L := hQ
      rw [this] at hQ
      exact hQ
    · have : l_kp ys m = false := by
        rw [← Bool.not_eq_true, l_kp_iff]
        rintro ⟨y, hy, e⟩
        exact hno y hy (by rw [e]; rfl)
      have hQ : Q (g_b (l_kp ys m)) F A L := hQ
      rw [this] at hQ
      exact ⟨fun _ => hQ, fun h => absurd rfl h⟩
theorem l_take_filter {K : List FK} {p : FK → Bool} {k : Nat} {q : FK} (hq : K[k]? = some q) : (K.take (k + 1)).filter p = (K.take k).filter p ++ if p q then [q] else [] := by
  rw [List.take_add_one, hq, Option.toList_some, List.filter_append]
  congr 1
  simp only [List.filter_cons, List.filter_nil]
/-- the firings with a fact that went go -/
theorem rf_cleans_L65 {ys : List CF} {x1 : Int32} {p : FK → Bool} (h1 : A 1 1 = nI ys.length) (hl : ys.length ≤ 20) (hn : ∀ i y, ys[i]? = some y → A 1 (95 + i) = nI (y.2.1 0)) (hb : ∀ y ∈ ys, y.2.1 0 < 3300) (h6 : A 1 6 = nI K.length) (hK : K.length < 3300) (hK2 : ∀ q ∈ K, q.2.1 < 3300 ∧ ∀ m, q.2.2.1 = some m → m < 3300)
    (hp : ∀ q ∈ K, p q = (l_kp ys q.2.1 && l_kpo ys q.2.2.1)) (h4 : ∀ i q, K[i]? = some q → r_fq (A 1) i q)
    (hQ : ∀ A', g_A A A' 1 → (∀ x, x < 235 → x ≠ 4 → x ≠ 6 → A' 1 x = A 1 x) → A' 1 4 = A 1 4 + x1 → A' 1 6 = nI (K.filter p).length → (∀ i q, (K.filter p)[i]? = some q → r_fq (A' 1) i q) → Q x1 F A' L) :
    ∀ d k A', k + d = K.length → g_A A A' 1 → (∀ x, x < 235 → A' 1 x = A 1 x) → (∀ i q, ((K.take k).filter p)[i]? = some q → r_fq (A' 1) i q) → (∀ i q, k ≤ i → K[i]? = some q → r_fq (A' 1) i q) → wp_X4_cleans_L65 Q (d + 1) F A' L x1 (nI ((K.take k).filter p).length) (nI k) := by
  intro d
  induction d with
  | zero =>
    intro k A' hk hA hx ha hb2
    have hkk : k = K.length := by omega
    subst hkk
    rw [List.take_length] at ha ⊢
    refine pk_le K.length K.length (fun _ => ?_) (fun h => by omega) (by rw [hx 6 (by decide)]; exact h6) rfl
    refine hQ _ (hA.up.up) (fun x h1 h2 h3 => ?_) ?_ ?_ (fun i q hq => ?_)
    · rw [r_us, r_us, pk_un h2, pk_un h3]
      exact hx x h1
    · rw [r_us, pk_us, r_us, pk_un (by decide), hx 4 (by decide)]
    · rw [r_us, r_us, pk_un (by decide), pk_us]
    · refine (ha i q hq).cp (fun w hw => ?_)
      rw [r_us, r_us, pk_un (by omega), pk_un (by omega)]
  | succ d ih =>
    intro k A' hk hA hx ha hb2
    have hq : K[k]? = some K[k] := List.getElem?_eq_getElem (by omega)
    have hqm := List.mem_of_getElem? hq
    have hfq := hb2 k _ (Nat.le_refl _) hq
    have hlen : ((K.take k).filter p).length ≤ k := by
      have := List.length_filter_le p (K.take k)
      have h2 : (K.take k).length ≤ k := by rw [List.length_take]; omega
      omega
    have htf := l_take_filter (p := p) hq
    have hpq := hp _ hqm
    obtain ⟨c1, c2⟩ := hK2 _ hqm
    generalize K[k] = q at hq hqm hfq htf hpq c1 c2
    have h1' : A' 1 1 = nI ys.length := by rw [hx 1 (by decide)]; exact h1
    have hn' : ∀ i y, ys[i]? = some y → A' 1 (95 + i) = nI (y.2.1 0) := fun i y hy => by
      have := (List.getElem?_eq_some_iff.mp hy).1
      rw [hx _ (by omega)]
      exact hn i y hy
    have fr : ∀ (w : Nat) {v : Int32} {Q' : Int32 → FQ}, w < 4 → A' 1 (235 + 4 * k + w) = v → Q' v F A' L → wp_X4_firing F A' L (nI k) (nI w) Q' := fun w v Q' hw hv hq' => by
      have e : (235 + 4 * nI k + nI w : Int32) = nI (235 + 4 * k + w) := by
        show (nI 235 + nI 4 * nI k + nI w : Int32) = _
        rw [pk_mul, nI_add, nI_add]
      unfold wp_X4_firing
      rw [e, (r_x0 (i := 235 + 4 * k + w) (N := 13675) (by omega) (by decide)).2, hv]
      exact ⟨(r_x0 (i := 235 + 4 * k + w) (N := 13675) (by omega) (by decide)).1, hq'⟩
    have skip : p q = false → wp_X4_cleans_L65 Q (d + 1) F A' L x1 (nI ((K.take k).filter p).length) (nI k + 1) := fun z => by
      have := ih (k + 1) A' (by omega) hA hx
      rw [htf, if_neg (by rw [z]; decide), List.append_nil, ← nI_1] at this
      exact this ha (fun i q hi => hb2 i q (by omega))
    refine pk_le K.length k (fun h => by omega) (fun _ => fr 1 (by decide) hfq.2.1 ?_) (by rw [hx 6 (by decide)]; exact h6) rfl
    refine rf_isThereW (o := some q.2.1) h1' hl hn' hb (fun m hm => by cases hm; exact c1) (g_b1 (fun z1 => ?_) (fun z1 => skip (by rw [hpq]; have z1 : l_kp ys q.2.1 = false := z1; rw [z1]; rfl)))
    refine fr 2 (by decide) hfq.2.2.1 ?_
    refine rf_isThereW (o := q.2.2.1) h1' hl hn' hb c2 (g_b0 (fun z2 => ?_) (fun z2 => skip (by rw [hpq, z2, Bool.and_false])))
    have z1 : l_kp ys q.2.1 = true := z1
    have hpt : p q = true := by rw [hpq, z1, z2]; rfl
    refine rf_movesFiring (by omega) hlen (fun A2 a1 a2 a3 => ?_)
    have := ih (k + 1) A2 (by omega) (fun j hj => by rw [a1 j hj, hA j hj]) (fun x hx2 => by rw [a3 x (fun w _ => by omega)]; exact hx x hx2)
    rw [htf, if_pos hpt, List.length_append, List.length_singleton, ← nI_1, ← nI_1] at this
    refine this (fun i q' hi => ?_) (fun i q' hi hq' => ?_)
    · by_cases e : i < ((K.take k).filter p).length
      · rw [List.getElem?_append_left e] at hi
        exact (ha i q' hi).cp (fun w hw => a3 _ (fun w' hw' => by omega))
      · have hlt := (List.getElem?_eq_some_iff.mp hi).1
        rw [List.length_append, List.length_singleton] at hlt
        have ei : i = ((K.take k).filter p).length := by omega
        rw [List.getElem?_append_right (by omega), show i - ((K.take k).filter p).length = 0 by omega] at hi
        cases hi
        rw [ei]
        exact hfq.cp (fun w hw => a2 w hw)
    · exact (hb2 i q' (by omega) hq').cp (fun w hw => a3 _ (fun w' hw' => by omega))
end RC
