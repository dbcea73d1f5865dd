set_option maxRecDepth 100000
/-! THE REFERENCE: how its numbers hold a book -/
def r_s (s : Nat → Int32) (C : CC) (K : List FK) : Prop :=
  (s 0 = nI C.1.length ∧ s 1 = nI C.2.1.length ∧ s 2 = nI (C.2.2 0) ∧ s 3 = nI (C.2.2 2) ∧ s 4 = nI (C.2.2 1) ∧ s 5 = nI (C.2.2 3) ∧ s 6 = nI K.length) ∧
  (∀ (i : Nat) (x1 : Nat × (Nat → Nat)), C.1[i]? = some x1 → ∀ j, j < 11 → s (7 + 11 * i + j) = nI (x1.2 j)) ∧
  (∀ (i : Nat) (y : CF), C.2.1[i]? = some y → (∀ j, j < 5 → s (95 + 20 * j + i) = nI (y.2.1 j)) ∧ s (195 + i) = (q_tb (y.2.1 5)).toInt32 ∧ s (215 + i) = nI (y.2.1 6)) ∧
  ∀ (k : Nat) (q : FK), K[k]? = some q → s (235 + 4 * k) = nI q.1 ∧ s (235 + 4 * k + 1) = nI q.2.1 ∧ s (235 + 4 * k + 2) = nO q.2.2.1 ∧ s (235 + 4 * k + 3) = nO q.2.2.2
def r_E (s : Nat → Int32) (C : CC) (K : List FK) (n : Nat) : Prop := r_s s C K ∧ k_B C n ∧ k_ok C K ∧ K.length ≤ n ∧ n < 3300
abbrev FQ : Type := (Nat → Int32) → (Nat → Nat → Int32) → (Nat → UInt32) → Prop
theorem r_x (a : Nat) {i N : Nat} (h : a + i < N) (hN : N < 2 ^ 31) : vp_in (nI a + nI i) N ∧ (nI a + nI i).toNatClampNeg = a + i := by
  rw [nI_add]
  exact ⟨vp_in_nI h hN, nI_clamp (by omega)⟩
theorem r_x0 {i N : Nat} (h : i < N) (hN : N < 2 ^ 31) : vp_in (nI i) N ∧ (nI i).toNatClampNeg = i := ⟨vp_in_nI h hN, nI_clamp (by omega)⟩
section RE
variable {s : Nat → Int32} {C : CC} {K : List FK} {n : Nat}
theorem r_E.f (hE : r_E s C K n) {i : Nat} {y : CF} (hy : C.2.1[i]? = some y) (j : Nat) (hj : j < 5) : s (95 + 20 * j + i) = nI (y.2.1 j) := (hE.1.2.2.1 i y hy).1 j hj
theorem r_E.num (hE : r_E s C K n) {i : Nat} {y : CF} (hy : C.2.1[i]? = some y) : s (95 + i) = nI (y.2.1 0) := hE.f hy 0 (by decide)
theorem r_E.kind (hE : r_E s C K n) {i : Nat} {y : CF} (hy : C.2.1[i]? = some y) : s (115 + i) = nI (y.2.1 1) := hE.f hy 1 (by decide)
theorem r_E.one (hE : r_E s C K n) {i : Nat} {y : CF} (hy : C.2.1[i]? = some y) : s (135 + i) = nI (y.2.1 2) := hE.f hy 2 (by decide)
theorem r_E.two (hE : r_E s C K n) {i : Nat} {y : CF} (hy : C.2.1[i]? = some y) : s (155 + i) = nI (y.2.1 3) := hE.f hy 3 (by decide)
theorem r_E.told (hE : r_E s C K n) {i : Nat} {y : CF} (hy : C.2.1[i]? = some y) : s (175 + i) = nI (y.2.1 4) := hE.f hy 4 (by decide)
theorem r_E.trust (hE : r_E s C K n) {i : Nat} {y : CF} (hy : C.2.1[i]? = some y) : s (195 + i) = (q_tb (y.2.1 5)).toInt32 := (hE.1.2.2.1 i y hy).2.1
theorem r_E.born (hE : r_E s C K n) {i : Nat} {y : CF} (hy : C.2.1[i]? = some y) : s (215 + i) = nI (y.2.1 6) := (hE.1.2.2.1 i y hy).2.2
theorem r_E.rules (hE : r_E s C K n) : s 0 = nI C.1.length := hE.1.1.1
theorem r_E.facts (hE : r_E s C K n) : s 1 = nI C.2.1.length := hE.1.1.2.1
theorem r_E.fir (hE : r_E s C K n) : s 6 = nI K.length := hE.1.1.2.2.2.2.2.2
theorem r_E.len (hE : r_E s C K n) : C.2.1.length ≤ 20 := hE.2.1.2.1.1
theorem r_E.rlen (hE : r_E s C K n) : C.1.length ≤ 8 := hE.2.1.1.1
theorem r_E.klen (hE : r_E s C K n) : K.length < 3300 := by have := hE.2.2.2.1; have := hE.2.2.2.2; omega
theorem r_E.fw (hE : r_E s C K n) : c_fw C := hE.2.1.2.1.2.2.1
theorem r_E.nm (hE : r_E s C K n) : c_num C := hE.2.1.2.1.2.1
theorem r_E.ok (hE : r_E s C K n) : c_ok C := hE.2.1.ok hE.2.2.1
theorem r_E.kok (hE : r_E s C K n) : k_ok C K := hE.2.2.1
theorem r_E.lt (hE : r_E s C K n) {m : Nat} (h : c_in C m) : m < 3300 := by
  have := hE.fw.num h
  have := hE.2.1.2.2.1
  have := hE.2.2.2.2
  omega
theorem r_E.ltm (hE : r_E s C K n) {y : CF} (h : y ∈ C.2.1) : y.2.1 0 < 3300 := hE.lt ⟨y, h, rfl⟩
theorem r_E.q (hE : r_E s C K n) {k : Nat} {q : FK} (hq : K[k]? = some q) : q.1 < C.1.length ∧ c_in C q.2.1 ∧ (∀ m, q.2.2.1 = some m → c_in C m) ∧ ∀ m, q.2.2.2 = some m → c_in C m := hE.kok.2.1 q (List.mem_of_getElem? hq)
theorem r_i20 (hE : r_E s C K n) {i : Nat} {y : CF} (hy : C.2.1[i]? = some y) : i < 20 := by
  have := (List.getElem?_eq_some_iff.mp hy).1
  have := hE.len
  omega
end RE
theorem nO_eqn {o : Option Nat} {m : Nat} (ho : ∀ p, o = some p → p < 2 ^ 31) (hm : m < 2 ^ 31) : nO o = nI m ↔ o = some m := by
  cases o with
  | none =>
    constructor
    · intro e
      have : (nO none).toInt = -1 := by decide
      rw [e, nI_toInt hm] at this
      omega
    · intro e; cases e
  | some p =>
    show nI p = nI m ↔ _
    rw [nI_eq (ho p rfl) hm]
    simp
theorem nO_none {o : Option Nat} (ho : ∀ p, o = some p → p < 2 ^ 31) : nO o = -1 ↔ o = none := by
  cases o with
  | none => simp [nO]
  | some p =>
    constructor
    · intro e
      have : (nI p).toInt = -1 := by
        show (nO (some p)).toInt = -1
        rw [e]; decide
      rw [nI_toInt (ho p rfl)] at this
      omega
    · intro e; cases e
theorem nI_ne1 {n : Nat} (h : n < 2 ^ 31) : ¬ nI n = -1 := fun e => by
  have := (nO_none (o := some n) (fun p hp => by cases hp; exact h)).mp e
  cases this
section RB
variable {F : Nat → Int32} {A : Nat → Nat → Int32} {L : Nat → UInt32} {C : CC} {K : List FK} {n : Nat} {Q : Int32 → FQ}
theorem rf_slotOf (hE : r_E (A 1) C K n) {v : Int32} (hQ1 : ∀ (i : Nat) (y : CF), C.2.1[i]? = some y → nI (y.2.1 0) = v → Q (nI i) F A L) (hQ0 : (∀ y ∈ C.2.1, nI (y.2.1 0) ≠ v) → Q (-1) F A L) : wp_X4_slotOf F A L v Q := by
  have hl := hE.len
  have main : ∀ d i, i + d = C.2.1.length → (∀ (j : Nat) (z : CF), j < i → C.2.1[j]? = some z → nI (z.2.1 0) ≠ v) → wp_X4_slotOf_L2 Q (d + 1) F A L v (nI i) := by
    intro d
    induction d with
    | zero =>
      intro i hi hno
      refine pk_le C.2.1.length i (fun _ => hQ0 (fun y hy => ?_)) (fun h => by omega) hE.facts rfl
      obtain ⟨j, hj⟩ := List.getElem?_of_mem hy
      exact hno j y (by have := (List.getElem?_eq_some_iff.mp hj).1; omega) hj
    | succ d ih =>
      intro i hi hno
      have hy : C.2.1[i]? = some C.2.1[i] := List.getElem?_eq_getElem (by omega)
      have hx := r_x 95 (i := i) (N := 13675) (by omega) (by decide)
      have e : (95 + nI i : Int32).toNatClampNeg = 95 + i := hx.2
      refine pk_le C.2.1.length i (fun h => by omega) (fun _ => ⟨hx.1, ?_⟩) hE.facts rfl
      rw [e, hE.num hy, nI_1]
      exact ⟨fun z => ih (i + 1) (by omega) (fun j w hj hw => by
        by_cases q : j = i
        · subst q; rw [hy] at hw; cases hw; exact z
        · exact hno j w (by omega) hw), fun z => hQ1 i _ hy z⟩
  exact ⟨C.2.1.length + 1, main C.2.1.length 0 (by omega) (fun j z hj => by omega)⟩
/-- the place of a fact that is there -/
theorem rf_slotAt (hE : r_E (A 1) C K n) {i : Nat} {y : CF} (hy : C.2.1[i]? = some y) (hQ : Q (nI i) F A L) : wp_X4_slotOf F A L (nI (y.2.1 0)) Q := by
  refine rf_slotOf hE (fun j z hz e => ?_) (fun h => absurd rfl (h y (List.mem_of_getElem? hy)))
  have h1 := hE.ltm (List.mem_of_getElem? hy)
  have h2 := hE.ltm (List.mem_of_getElem? hz)
  rw [k_un hE.nm hz hy ((nI_eq (by omega) (by omega)).mp e)]
  exact hQ
theorem rf_slotIn (hE : r_E (A 1) C K n) {m : Nat} (hm : c_in C m) (hQ : ∀ (i : Nat) (y : CF), C.2.1[i]? = some y → y.2.1 0 = m → Q (nI i) F A L) : wp_X4_slotOf F A L (nI m) Q := by
  obtain ⟨y, hy, e⟩ := hm
  obtain ⟨i, hi⟩ := List.getElem?_of_mem hy
  rw [← e]
  exact rf_slotAt hE hi (hQ i y hi e)
theorem rf_slotOf3 (hE : r_E (A 1) C K n) {a b c : Int32} (hQ1 : ∀ (i : Nat) (y : CF), C.2.1[i]? = some y → o_3 y a b c → (∀ (j : Nat) (z : CF), j < i → C.2.1[j]? = some z → ¬ o_3 z a b c) → Q (nI i) F A L) (hQ0 : (∀ y ∈ C.2.1, ¬ o_3 y a b c) → Q (-1) F A L) : wp_X4_slotOf3 F A L a b c Q := by
  have hl := hE.len
  have main : ∀ d i, i + d = C.2.1.length → (∀ (j : Nat) (z : CF), j < i → C.2.1[j]? = some z → ¬ o_3 z a b c) → wp_X4_slotOf3_L3 Q (d + 1) F A L a b c (nI i) := by
    intro d
    induction d with
    | zero =>
      intro i hi hno
      refine pk_le C.2.1.length i (fun _ => hQ0 (fun y hy => ?_)) (fun h => by omega) hE.facts rfl
      obtain ⟨j, hj⟩ := List.getElem?_of_mem hy
      exact hno j y (by have := (List.getElem?_eq_some_iff.mp hj).1; omega) hj
    | succ d ih =>
      intro i hi hno
      have hy : C.2.1[i]? = some C.2.1[i] := List.getElem?_eq_getElem (by omega)
      have hx := r_x 115 (i := i) (N := 13675) (by omega) (by decide)
      have hx2 := r_x 135 (i := i) (N := 13675) (by omega) (by decide)
      have hx3 := r_x 155 (i := i) (N := 13675) (by omega) (by decide)
      have e : (115 + nI i : Int32).toNatClampNeg = 115 + i := hx.2
      have e2 : (135 + nI i : Int32).toNatClampNeg = 135 + i := hx2.2
      have e3 : (155 + nI i : Int32).toNatClampNeg = 155 + i := hx3.2
      have next : ¬ o_3 C.2.1[i] a b c → wp_X4_slotOf3_L3 Q (d + 1) F A L a b c (nI (i + 1)) := fun z => ih (i + 1) (by omega) (fun j w hj hw => by
        by_cases q : j = i
        · subst q; rw [hy] at hw; cases hw; exact z
        · exact hno j w (by omega) hw)
      refine pk_le C.2.1.length i (fun h => by omega) (fun _ => ⟨hx.1, ?_⟩) hE.facts rfl
      rw [e, hE.kind hy, e2, hE.one hy, e3, hE.two hy, nI_1]
      exact ⟨fun z => next (fun q => z q.1), fun z1 => ⟨hx2.1, fun z => next (fun q => z q.2.1), fun z2 => ⟨hx3.1, fun z => next (fun q => z q.2.2), fun z3 => hQ1 i _ hy ⟨z1, z2, z3⟩ hno⟩⟩⟩
  exact ⟨C.2.1.length + 1, main C.2.1.length 0 (by omega) (fun j z hj => by omega)⟩
theorem r_fx (hE : r_E (A 1) C K n) {k : Nat} {q : FK} (hq : K[k]? = some q) (w : Nat) (hw : w < 4) : vp_in (235 + 4 * nI k + nI w : Int32) 13675 ∧ (235 + 4 * nI k + nI w : Int32).toNatClampNeg = 235 + 4 * k + w := by
  have h1 := (List.getElem?_eq_some_iff.mp hq).1
  have h2 := hE.klen
  have e : (235 + 4 * nI k + nI w : Int32) = nI (235 + 4 * k + w) := by
    show (nI 235 + nI 4 * nI k + nI w : Int32) = _
    rw [pk_mul, nI_add, nI_add]
  rw [e]
  exact r_x0 (by omega) (by decide)
theorem rf_f0 (hE : r_E (A 1) C K n) {k : Nat} {q : FK} (hq : K[k]? = some q) (h : Q (nI q.1) F A L) : wp_X4_firing F A L (nI k) 0 Q := by
  have hx := r_fx hE hq 0 (by decide)
  have e : (235 + 4 * nI k + 0 : Int32).toNatClampNeg = 235 + 4 * k + 0 := hx.2
  refine ⟨hx.1, ?_⟩
  rw [e]
  have := (hE.1.2.2.2 k q hq).1
  rw [show (235 + 4 * k + 0) = 235 + 4 * k from rfl, this]
  exact h
theorem rf_f1 (hE : r_E (A 1) C K n) {k : Nat} {q : FK} (hq : K[k]? = some q) (h : Q (nI q.2.1) F A L) : wp_X4_firing F A L (nI k) 1 Q := by
  have hx := r_fx hE hq 1 (by decide)
  have e : (235 + 4 * nI k + 1 : Int32).toNatClampNeg = 235 + 4 * k + 1 := hx.2
  refine ⟨hx.1, ?_⟩
  rw [e, (hE.1.2.2.2 k q hq).2.1]
  exact h
theorem rf_f2 (hE : r_E (A 1) C K n) {k : Nat} {q : FK} (hq : K[k]? = some q) (h : Q (nO q.2.2.1) F A L) : wp_X4_firing F A L (nI k) 2 Q := by
  have hx := r_fx hE hq 2 (by decide)
  have e : (235 + 4 * nI k + 2 : Int32).toNatClampNeg = 235 + 4 * k + 2 := hx.2
  refine ⟨hx.1, ?_⟩
  rw [e, (hE.1.2.2.2 k q hq).2.2.1]
  exact h
theorem rf_f3 (hE : r_E (A 1) C K n) {k : Nat} {q : FK} (hq : K[k]? = some q) (h : Q (nO q.2.2.2) F A L) : wp_X4_firing F A L (nI k) 3 Q := by
  have hx := r_fx hE hq 3 (by decide)
  have e : (235 + 4 * nI k + 3 : Int32).toNatClampNeg = 235 + 4 * k + 3 := hx.2
  refine ⟨hx.1, ?_⟩
  rw [e, (hE.1.2.2.2 k q hq).2.2.2]
  exact h
/-- a loop over the firings that counts -/
theorem r_q2 (hE : r_E (A 1) C K n) {k : Nat} {q : FK} (hq : K[k]? = some q) : (∀ m, q.2.2.1 = some m → m < 3300) ∧ (∀ m, q.2.2.2 = some m → m < 3300) ∧ q.2.1 < 3300 := by
  obtain ⟨-, h1, h2, h3⟩ := hE.q hq
  exact ⟨fun m hm => hE.lt (h2 m hm), fun m hm => hE.lt (h3 m hm), hE.lt h1⟩
theorem k_cp {α : Type} {K : List α} {p : α → Bool} {k : Nat} {q : α} (hq : K[k]? = some q) : (K.take (k + 1)).countP p = (K.take k).countP p + if p q then 1 else 0 := by
  rw [List.take_add_one, hq, Option.toList_some, List.countP_append, List.countP_singleton]
theorem rf_reasons (hE : r_E (A 1) C K n) {m : Nat} (hm : m < 3300) (hQ : Q (nI ((k_R K m).length)) F A L) : wp_X4_reasons F A L (nI m) Q := by
  have hk := hE.klen
  have main : ∀ d i, i + d = K.length → wp_X4_reasons_L4 Q (d + 1) F A L (nI m) (nI ((K.take i).countP (fun q => q.2.2.2 == some m))) (nI i) := by
    intro d
    induction d with
    | zero =>
      intro i hi
      refine pk_le K.length i (fun _ => ?_) (fun h => by omega) hE.fir rfl
      rw [show i = K.length by omega, List.take_length, List.countP_eq_length_filter]
      exact hQ
    | succ d ih =>
      intro i hi
      have hy : K[i]? = some K[i] := List.getElem?_eq_getElem (by omega)
      have ih' := ih (i + 1) (by omega)
      rw [k_cp hy] at ih'
      refine pk_le K.length i (fun h => by omega) (fun _ => rf_f3 hE hy ?_) hE.fir rfl
      obtain ⟨-, g2, -⟩ := r_q2 hE hy
      have e := nO_eqn (o := K[i].2.2.2) (m := m) (fun p hp => by have := g2 p hp; omega) (by omega)
      rw [nI_1]
      by_cases z : K[i].2.2.2 = some m
      · rw [if_pos (by simpa using z)] at ih'
        exact ⟨fun h => absurd (e.mpr z) h, fun _ => ⟨fun h => absurd h (by decide), fun _ => by rw [nI_1]; exact ih'⟩⟩
      · rw [if_neg (by simpa using z)] at ih'
        exact ⟨fun _ => ⟨fun _ => by rw [Int32.add_zero]; exact ih', fun h => absurd rfl h⟩, fun h => absurd (e.mp h) z⟩
  exact ⟨K.length + 1, main K.length 0 (by omega)⟩
end RB
