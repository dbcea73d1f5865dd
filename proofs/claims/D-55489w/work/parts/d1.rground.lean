set_option maxRecDepth 100000
/-! the reference: grounds -/
theorem r_un {A : Nat → Nat → Int32} {k i j : Nat} {x : Int32} (h : j ≠ k) : ml_up A k i x j = A j := by unfold ml_up va_up; rw [if_neg h]
theorem r_us {A : Nat → Nat → Int32} {k i : Nat} {x : Int32} : ml_up A k i x k = upd (A k) i x := by unfold ml_up va_up; rw [if_pos rfl]
def g_b (b : Bool) : Int32 := if b then 1 else 0
theorem g_b0 {b : Bool} {A B : Prop} (h1 : b = true → A) (h0 : b = false → B) : (¬ g_b b = 0 → A) ∧ (g_b b = 0 → B) := by
  cases b
  · exact ⟨fun h => absurd rfl h, fun _ => h0 rfl⟩
  · exact ⟨fun _ => h1 rfl, fun h => absurd h (by decide)⟩
theorem g_b1 {b : Bool} {A B : Prop} (h1 : b = true → A) (h0 : b = false → B) : (g_b b = 0 → B) ∧ (¬ g_b b = 0 → A) := ⟨(g_b0 h1 h0).2, (g_b0 h1 h0).1⟩
theorem g_nar (b : Bool) : vp_nar .boolean (g_b b) = g_b b := by cases b <;> decide
def g_v (C : CC) (hg : Nat → Bool) : Option Nat → Bool
  | none => true
  | some m => hg (c_ix C m)
def g_c (C : CC) (hg : Nat → Bool) (q : FK) : Prop := ∀ m, q.2.2.2 = some m → g_v C hg (some q.2.1) = true → g_v C hg q.2.2.1 = true → hg (c_ix C m) = true
def g_S (C : CC) (hg : Nat → Bool) : Prop := ∀ (i : Nat) (y : CF), C.2.1[i]? = some y → (y.2.1 4 = 1 → hg i = true) ∧ (hg i = true → dv_g (c_T C) (c_R C) (y.2.1 0))
def g_n (C : CC) (hg : Nat → Bool) : Nat := s_cn (fun j => !hg j) C.2.1.length
def g_A (A A' : Nat → Nat → Int32) (k : Nat) : Prop := ∀ j, j ≠ k → A' j = A j
theorem g_A.rf {A : Nat → Nat → Int32} {k : Nat} : g_A A A k := fun _ _ => rfl
theorem g_A.up {A A' : Nat → Nat → Int32} {k i : Nat} {x : Int32} (h : g_A A A' k) : g_A A (ml_up A' k i x) k := fun j hj => by rw [r_un hj]; exact h j hj
def g_H (A : Nat → Nat → Int32) (C : CC) (hg : Nat → Bool) : Prop := ∀ i, i < C.2.1.length → A 14 i = g_b (hg i)
section RG
variable {F : Nat → Int32} {A A' : Nat → Nat → Int32} {L : Nat → UInt32} {C : CC} {K : List FK} {n : Nat} {Q : Int32 → FQ} {hg : Nat → Bool}
theorem r_cR (hk : k_ok C K) {q : FK} (hq : q ∈ K) {m : Nat} (hm : q.2.2.2 = some m) : c_R C m q.2.1 q.2.2.1 := by
  obtain ⟨-, -, -, h3⟩ := hk.2.1 q hq
  obtain ⟨y, hy, e⟩ := h3 m hm
  refine ⟨y, hy, e, k_fi C.1 q, ?_, rfl, rfl⟩
  rw [(hk.2.2 y hy).2]
  exact List.mem_map_of_mem (List.mem_filter.mpr ⟨hq, by simp [hm, e]⟩)
theorem r_cR' (hk : k_ok C K) {m a : Nat} {b : Option Nat} (h : c_R C m a b) : ∃ q ∈ K, q.2.2.2 = some m ∧ q.2.1 = a ∧ q.2.2.1 = b := by
  obtain ⟨y, hy, e, fi, hfi, e1, e2⟩ := h
  obtain ⟨q, hq, h1, h2⟩ := hk.reas hy hfi
  rw [← h1] at e1 e2
  exact ⟨q, hq, by rw [h2, e], e1, e2⟩
theorem g_S.v (hok : c_ok C) (hS : g_S C hg) {m : Nat} (hm : c_in C m) (h : hg (c_ix C m) = true) : dv_g (c_T C) (c_R C) m := by
  obtain ⟨y, hy, e⟩ := hm
  obtain ⟨i, hi⟩ := List.getElem?_of_mem hy
  rw [← e] at h ⊢
  rw [c_ix_of hok hi] at h
  exact (hS i y hi).2 h
theorem g_fin (hok : c_ok C) (hk : k_ok C K) (hS : g_S C hg) (hc : ∀ q ∈ K, g_c C hg q) : ∀ (i : Nat) (y : CF), C.2.1[i]? = some y → (hg i = true ↔ dv_g (c_T C) (c_R C) (y.2.1 0)) := by
  intro i y hi
  refine ⟨(hS i y hi).2, fun h => ?_⟩
  have := h (fun m => hg (c_ix C m) = true) (fun m ⟨z, hz, e1, e2⟩ => ?_) (fun m a b hr ha hb => ?_)
  · rw [c_ix_of hok hi] at this
    exact this
  · obtain ⟨j, hj⟩ := List.getElem?_of_mem hz
    rw [← e1, c_ix_of hok hj]
    exact (hS j z hj).1 e2
  · obtain ⟨q, hq, e1, e2, e3⟩ := r_cR' hk hr
    refine hc q hq m e1 ?_ ?_
    · rw [e2]; exact ha
    · rw [e3]
      cases b with
      | none => rfl
      | some p => exact hb p rfl
theorem rf_isGrounded (hE : r_E (A 1) C K n) (hH : g_H A C hg) {o : Option Nat} (ho : ∀ m, o = some m → c_in C m) (hQ : Q (g_b (g_v C hg o)) F A L) : wp_X4_isGrounded F A L (nO o) Q := by
  cases o with
  | none => exact ⟨fun _ => hQ, fun h => absurd rfl h⟩
  | some m =>
    have hm := ho m rfl
    refine ⟨fun h => absurd h (nI_ne1 (by have := hE.lt hm; omega)), fun _ => rf_slotIn hE hm (fun i y hi e => ?_)⟩
    have hx := r_x0 (i := i) (N := 20) (r_i20 hE hi) (by decide)
    refine ⟨hx.1, ?_⟩
    rw [hx.2, hH i (List.getElem?_eq_some_iff.mp hi).1]
    have hQ : Q (g_b (hg (c_ix C m))) F A L := hQ
    rw [← e, c_ix_of hE.ok hi] at hQ
    cases hh : hg i
    · rw [hh] at hQ
      exact ⟨fun _ => hQ, fun h => absurd rfl h⟩
    · rw [hh] at hQ
      exact ⟨fun h => absurd h (by decide), fun _ => hQ⟩
theorem g_n_up {f : Nat} (hf : f < C.2.1.length) (h : hg f = false) : g_n C hg = g_n C (fun j => if j = f then true else hg j) + 1 := by
  unfold g_n
  refine s_cn_add (a := f) hf (by simp) (by simp [h]) (fun m _ hm => by simp [hm])
theorem rf_grounds_L148 (hE : r_E (A 1) C K n) (hH : g_H A C hg) (hQ : Q (nI (g_n C hg)) F A L) : ∀ d i, i + d = C.2.1.length → wp_X4_grounds_L148 Q (d + 1) F A L (nI (s_cn (fun j => !hg j) i)) (nI i) := by
  have hl := hE.len
  intro d
  induction d with
  | zero =>
    intro i hi
    refine pk_le C.2.1.length i (fun _ => ?_) (fun h => by omega) hE.facts rfl
    rw [show i = C.2.1.length by omega]
    exact hQ
  | succ d ih =>
    intro i hi
    have hx := r_x0 (i := i) (N := 20) (by omega) (by decide)
    have ih' := ih (i + 1) (by omega)
    refine pk_le C.2.1.length i (fun h => by omega) (fun _ => ⟨hx.1, ?_⟩) hE.facts rfl
    rw [hx.2, hH i (by omega), nI_1 i]
    unfold s_cn at ih'
    refine g_b1 (fun z => ?_) (fun z => ?_)
    · rw [if_neg (by simp [z])] at ih'
      rw [Int32.add_zero]
      exact ih'
    · rw [if_pos (by simp [z])] at ih'
      rw [nI_1]
      exact ih'
theorem rf_grounds_L53 {hg0 : Nat → Bool} {k45 : (Nat → Int32) → (Nat → Nat → Int32) → (Nat → UInt32) → Int32 → Prop} (hE : r_E (A 1) C K n)
    (hk : ∀ A' hg ch, g_A A A' 14 → g_H A' C hg → g_S C hg → (ch = false → ∀ q ∈ K, g_c C hg q) → (ch = true → g_n C hg < g_n C hg0) → k45 F A' L (g_b ch)) :
    ∀ d i A' hg ch, i + d = K.length → g_A A A' 14 → g_H A' C hg → g_S C hg → (ch = false → hg = hg0 ∧ ∀ k q, k < i → K[k]? = some q → g_c C hg q) → (ch = true → g_n C hg < g_n C hg0) → wp_X4_grounds_L53 Q k45 (d + 1) F A' L (g_b ch) (nI i) := by
  have hkl := hE.klen
  intro d
  induction d with
  | zero =>
    intro i A' hg ch hi hA hH hS h0 h1
    have hE' : r_E (A' 1) C K n := by rw [hA 1 (by decide)]; exact hE
    refine pk_le K.length i (fun _ => hk A' hg ch hA hH hS (fun z q hq => ?_) h1) (fun h => by omega) hE'.fir rfl
    obtain ⟨k, hq⟩ := List.getElem?_of_mem hq
    exact (h0 z).2 k q (by have := (List.getElem?_eq_some_iff.mp hq).1; omega) hq
  | succ d ih =>
    intro i A' hg ch hi hA hH hS h0 h1
    have hE' : r_E (A' 1) C K n := by rw [hA 1 (by decide)]; exact hE
    have hq : K[i]? = some K[i] := List.getElem?_eq_getElem (by omega)
    obtain ⟨c0, c1, c2, c3⟩ := hE.q hq
    generalize K[i] = q at hq c0 c1 c2 c3
    have next : g_c C hg q → wp_X4_grounds_L53 Q k45 (d + 1) F A' L (g_b ch) (nI (i + 1)) := fun z => ih (i + 1) A' hg ch (by omega) hA hH hS (fun e => ⟨(h0 e).1, fun k p hk hp => by
      by_cases e2 : k = i
      · subst e2; rw [hq] at hp; cases hp; exact z
      · exact (h0 e).2 k p (by omega) hp⟩) h1
    refine pk_le K.length i (fun h => by omega) (fun _ => rf_f3 hE' hq ?_) hE'.fir rfl
    rw [nI_1]
    cases e3 : q.2.2.2 with
    | none => exact ⟨fun h => absurd rfl h, fun _ => next (fun m hm => by rw [e3] at hm; cases hm)⟩
    | some m =>
      have hm := c3 m e3
      refine ⟨fun _ => rf_f3 hE' hq ?_, fun h => absurd h (nI_ne1 (by have := hE.lt hm; omega))⟩
      rw [e3]
      refine rf_slotIn hE' hm (fun f y hf e => ?_)
      have hf0 := (List.getElem?_eq_some_iff.mp hf).1
      have hx := r_x0 (i := f) (N := 20) (r_i20 hE hf) (by decide)
      have hix : c_ix C m = f := by rw [← e]; exact c_ix_of hE.ok hf
      refine ⟨hx.1, ?_⟩
      rw [hx.2, hH f hf0]
      refine g_b0 (fun z => next (fun p hp _ _ => by rw [e3] at hp; cases hp; rw [hix]; exact z)) (fun z => ?_)
      refine rf_f1 hE' hq (rf_isGrounded hE' hH (o := some q.2.1) (fun p hp => by cases hp; exact c1) ?_)
      refine g_b1 (fun z1 => ?_) (fun z1 => next (fun p hp h _ => by rw [z1] at h; cases h))
      refine rf_f2 hE' hq (rf_isGrounded hE' hH (o := q.2.2.1) c2 ?_)
      refine g_b0 (fun z2 => ⟨hx.1, ?_⟩) (fun z2 => next (fun p hp _ h => by rw [z2] at h; cases h))
      have hgf : dv_g (c_T C) (c_R C) (y.2.1 0) := by
        refine dv_g.step (a := q.2.1) (b := q.2.2.1) (by rw [e]; exact r_cR hE.kok (List.mem_of_getElem? hq) e3) (g_S.v hE.ok hS c1 z1) (fun p hp => g_S.v hE.ok hS (c2 p hp) ?_)
        rw [hp] at z2
        exact z2
      have hcnt := g_n_up (hg := hg) hf0 z
      refine ih (i + 1) _ (fun j => if j = f then true else hg j) true (by omega) hA.up (fun j hj => ?_) (fun j w hj => ?_) (fun h => by cases h) (fun _ => ?_)
      · rw [r_us]
        by_cases ej : j = f
        · rw [ej, pk_us]
          simp only [if_true]
          exact g_nar true
        · rw [pk_un ej]
          simp only [if_neg ej]
          exact hH j hj
      · dsimp only
        by_cases ej : j = f
        · rw [if_pos ej]
          subst ej
          rw [hf] at hj
          cases hj
          exact ⟨fun _ => rfl, fun _ => hgf⟩
        · rw [if_neg ej]
          exact hS j w hj
      · cases ch with
        | false => have := (h0 rfl).1; rw [← this]; omega
        | true => have := h1 rfl; omega
theorem rf_grounds (hE : r_E (A 1) C K n) (hQ : ∀ A' hg, g_A A A' 14 → g_H A' C hg → (∀ (i : Nat) (y : CF), C.2.1[i]? = some y → (hg i = true ↔ dv_g (c_T C) (c_R C) (y.2.1 0))) → Q (nI (g_n C hg)) F A' L) : wp_X4_grounds F A L Q := by
  have hl := hE.len
  have hkl := hE.klen
  have outer : ∀ N A' hg ch, (ch = true → g_n C hg + 2 ≤ N) → (ch = false → 1 ≤ N) → g_A A A' 14 → g_H A' C hg → g_S C hg → (ch = false → ∀ q ∈ K, g_c C hg q) → wp_X4_grounds_L45 Q N F A' L (g_b ch) := by
    intro N
    induction N with
    | zero => intro A' hg ch h1 h0; cases ch <;> simp at h1 h0
    | succ N ih =>
      intro A' hg ch h1 h0 hA hH hS hc
      have hE' : r_E (A' 1) C K n := by rw [hA 1 (by decide)]; exact hE
      refine g_b1 (fun z => ?_) (fun z => ?_)
      · refine ⟨K.length + 1, rf_grounds_L53 (hg0 := hg) hE' (fun A2 hg2 ch2 a1 a2 a3 a4 a5 => ih A2 hg2 ch2 (fun e => ?_) (fun e => ?_) (fun j hj => by rw [a1 j hj, hA j hj]) a2 a3 a4) K.length 0 A' hg false (by omega) g_A.rf hH hS (fun _ => ⟨rfl, fun k q hk => by omega⟩) (fun e => by cases e)⟩
        · have := a5 e; have := h1 z; omega
        · have := h1 z; omega
      · exact ⟨C.2.1.length + 1, rf_grounds_L148 hE' hH (hQ A' hg hA hH (g_fin hE.ok hE.kok hS (hc z))) C.2.1.length 0 (by omega)⟩
  have main : ∀ d i A', i + d = C.2.1.length → g_A A A' 14 → (∀ j y, j < i → C.2.1[j]? = some y → A' 14 j = g_b (y.2.1 4 == 1)) → wp_X4_grounds_L2 Q (d + 1) F A' L (nI i) := by
    intro d
    induction d with
    | zero =>
      intro i A' hi hA hz
      have hE' : r_E (A' 1) C K n := by rw [hA 1 (by decide)]; exact hE
      refine pk_le C.2.1.length i (fun _ => ⟨C.2.1.length + 2, outer _ A' (fun j => match C.2.1[j]? with | none => false | some y => y.2.1 4 == 1) true (fun _ => ?_) (fun e => by cases e) hA (fun j hj => ?_) (fun j y hj => ?_) (fun e => by cases e)⟩) (fun h => by omega) hE'.facts rfl
      · have : g_n C (fun j => match C.2.1[j]? with | none => false | some y => y.2.1 4 == 1) ≤ C.2.1.length := s_cn_le
        omega
      · have hy : C.2.1[j]? = some C.2.1[j] := List.getElem?_eq_getElem hj
        rw [hz j _ (by omega) hy]
        simp only [hy]
      · simp only [hj]
        exact ⟨fun e => by simp [e], fun e => dv_g.told ⟨y, List.mem_of_getElem? hj, rfl, by simpa using e⟩⟩
    | succ d ih =>
      intro i A' hi hA hz
      have hE' : r_E (A' 1) C K n := by rw [hA 1 (by decide)]; exact hE
      have hy : C.2.1[i]? = some C.2.1[i] := List.getElem?_eq_getElem (by omega)
      have hx := r_x 175 (i := i) (N := 13675) (by omega) (by decide)
      have e : (175 + nI i : Int32).toNatClampNeg = 175 + i := hx.2
      have hx2 := r_x0 (i := i) (N := 20) (by omega) (by decide)
      obtain ⟨-, -, -, f4, -, -⟩ := hE.fw _ (List.mem_of_getElem? hy)
      generalize C.2.1[i] = y at hy f4
      have nx : ∀ b : Bool, b = (y.2.1 4 == 1) → wp_X4_grounds_L2 Q (d + 1) F (ml_up A' 14 (nI i).toNatClampNeg (vp_nar .boolean (g_b b))) L (nI (i + 1)) := fun b hb => by
        rw [hx2.2, g_nar]
        refine ih (i + 1) _ (by omega) hA.up (fun j w hj hw => ?_)
        rw [r_us]
        by_cases ej : j = i
        · subst ej
          rw [hy] at hw
          cases hw
          rw [pk_us, hb]
        · rw [pk_un ej]
          exact hz j w (by omega) hw
      refine pk_le C.2.1.length i (fun h => by omega) (fun _ => ⟨hx.1, ?_⟩) hE'.facts rfl
      rw [e, hE'.told hy, nI_1]
      have e1 : nI (y.2.1 4) = 1 ↔ y.2.1 4 = 1 := nI_eq (b := 1) (by omega) (by decide)
      exact ⟨fun h => ⟨hx2.1, nx false (by have : y.2.1 4 ≠ 1 := fun z => h (e1.mpr z); simp [this])⟩, fun h => ⟨hx2.1, nx true (by simp [e1.mp h])⟩⟩
  exact ⟨C.2.1.length + 1, main C.2.1.length 0 A (by omega) g_A.rf (fun j y hj => by omega)⟩
end RG
