set_option maxRecDepth 100000
theorem r_E.fq {s : Nat → Int32} {C : CC} {K : List FK} {n : Nat} (hE : r_E s C K n) {k : Nat} {q : FK} (hq : K[k]? = some q) : r_fq s k q := hE.1.2.2.2 k q hq
theorem r_E.fa {s : Nat → Int32} {C : CC} {K : List FK} {n : Nat} (hE : r_E s C K n) {k : Nat} {q : CF} (hq : C.2.1[k]? = some q) : r_fa s k q := hE.1.2.2.1 k q hq
section RC2
variable {F : Nat → Int32} {A A' : Nat → Nat → Int32} {L : Nat → UInt32} {C : CC} {K : List FK} {n : Nat} {Q : Int32 → FQ} {P : FQ} {D : Nat → Nat} {hg : Nat → Bool}
theorem l_kl_snoc {ys : List CF} {i : Nat} {y : CF} (hy : ys[i]? = some y) : l_kl D (i + 1) ys = l_kl D i ys ++ (if D i < 1000 then [y] else []) := by
  show l_kl D i ys ++ _ = _
  rw [hy]
  rfl
theorem rf_cleans_L17 (hE : r_E (A 1) C K n) (hH : g_H A C hg) (hD : ∀ (i : Nat) (y : CF), C.2.1[i]? = some y → (hg i = true ↔ D i < 1000)) {x1 : Int32} {A0 : Nat → Nat → Int32} (hA0 : g_A A A0 1)
    (hQ : ∀ A', g_A A A' 1 → (∀ x, x < 95 → x ≠ 1 → A' 1 x = A 1 x) → A' 1 1 = nI (l_kl D C.2.1.length C.2.1).length → (∀ i y, (l_kl D C.2.1.length C.2.1)[i]? = some y → r_fa (A' 1) i y) → (∀ x, 235 ≤ x → A' 1 x = A 1 x) → ∃ n65, wp_X4_cleans_L65 Q n65 F A' L x1 0 0) :
    ∀ d f A', f + d = C.2.1.length → g_A A A' 1 → (∀ x, (x < 95 ∨ 235 ≤ x) → A' 1 x = A 1 x) → (∀ i y, (l_kl D f C.2.1)[i]? = some y → r_fa (A' 1) i y) → (∀ i y, f ≤ i → C.2.1[i]? = some y → r_fa (A' 1) i y) → wp_X4_cleans_L17 Q (d + 1) F A' L x1 (nI C.2.1.length) (nI (l_kl D f C.2.1).length) (nI f) := by
  have hl := hE.len
  have hlen : ∀ f, f ≤ C.2.1.length → (l_kl D f C.2.1).length ≤ f := fun f hf => by
    have := l_kl_len (D := D) (ys := C.2.1) f hf
    omega
  intro d
  induction d with
  | zero =>
    intro f A' hf hA hx ha hb
    have hff : f = C.2.1.length := by omega
    subst hff
    have := hlen _ (Nat.le_refl C.2.1.length)
    refine pk_le C.2.1.length C.2.1.length (fun _ => ?_) (fun h => by omega) rfl rfl
    refine hQ _ hA.up (fun x h1 h2 => ?_) ?_ (fun i y hy => ?_) (fun x h1 => ?_)
    · rw [r_us, pk_un h2]; exact hx x (Or.inl h1)
    · rw [r_us, pk_us]
    · refine (ha i y hy).st (fun m hm => ?_)
      rw [r_us, pk_un (by omega)]
    · rw [r_us, pk_un (by omega)]; exact hx x (Or.inr h1)
  | succ d ih =>
    intro f A' hf hA hx ha hb
    have hy : C.2.1[f]? = some C.2.1[f] := List.getElem?_eq_getElem (by omega)
    have hlf := hlen f (by omega)
    have hfy := hb f _ (Nat.le_refl _) hy
    have hx0 := r_x0 (i := f) (N := 20) (by omega) (by decide)
    have hs := l_kl_snoc (D := D) hy
    have hDf := hD f _ hy
    generalize C.2.1[f] = y at hy hfy hs hDf
    refine pk_le C.2.1.length f (fun h => by omega) (fun _ => ⟨hx0.1, ?_⟩) rfl rfl
    rw [hx0.2, hA 14 (by decide), hH f (by omega), nI_1 f]
    refine g_b0 (fun z => ?_) (fun z => ?_)
    · rw [if_pos (hDf.mp z)] at hs
      refine rf_movesFact (by omega) (by omega) (fun A2 a1 a2 a3 => ?_)
      have := ih (f + 1) A2 (by omega) (fun j hj => by rw [a1 j hj, hA j hj]) (fun x hxx => by rw [a3 x (fun m hm => by omega)]; exact hx x hxx)
      rw [hs, List.length_append, List.length_singleton, ← nI_1 (l_kl D f C.2.1).length] at this
      refine this (fun i w hi => ?_) (fun i w hi hw => ?_)
      · by_cases e : i < (l_kl D f C.2.1).length
        · rw [List.getElem?_append_left e] at hi
          exact (ha i w hi).st (fun m hm => a3 _ (fun m' hm' => by omega))
        · have hlt := (List.getElem?_eq_some_iff.mp hi).1
          rw [List.length_append, List.length_singleton] at hlt
          rw [List.getElem?_append_right (by omega), show i - (l_kl D f C.2.1).length = 0 by omega] at hi
          cases hi
          rw [show i = (l_kl D f C.2.1).length by omega]
          exact hfy.cp a2
      · have := (List.getElem?_eq_some_iff.mp hw).1
        exact (hb i w (by omega) hw).st (fun m hm => a3 _ (fun m' hm' => by omega))
    · rw [if_neg (fun q => by rw [hDf.mpr q] at z; cases z), List.append_nil] at hs
      have := ih (f + 1) A' (by omega) hA hx
      rw [hs] at this
      exact this ha (fun i w hi => hb i w (by omega))
theorem s_cn_kl {ys : List CF} {hg : Nat → Bool} (hD : ∀ i, i < ys.length → (hg i = true ↔ D i < 1000)) : ∀ i, i ≤ ys.length → s_cn (fun j => !hg j) i = (l_rm D i ys).length
  | 0, _ => rfl
  | i + 1, hi => by
    have hy : ys[i]? = some ys[i] := List.getElem?_eq_getElem hi
    have h := hD i hi
    unfold s_cn l_rm
    rw [s_cn_kl hD i (by omega), hy]
    by_cases z : D i < 1000
    · rw [if_pos z, if_neg (by simp [h.mpr z])]
      rfl
    · rw [if_neg z, if_pos (by simpa using fun q => z (h.mp q))]
      simp
/-- the reference's cleaning is the class's -/
theorem rf_cleans (hE : r_E (A 1) C K n) (hD : c_dep C D) (hQ : ∀ A', (∀ j, j ≠ 1 → j ≠ 14 → A' j = A j) → r_E (A' 1) (c_los D C).1 (K.filter (l_kq (l_kl D C.2.1.length C.2.1))) n → k_I (c_los D C).1 (K.filter (l_kq (l_kl D C.2.1.length C.2.1))) n → Q (nI (c_los D C).2) F A' L) : wp_X4_cleans F A L Q := by
  have hl := hE.len
  have hkl := hE.klen
  obtain ⟨e1, e2, e3, e4, e5⟩ := k_los hE.2.1 hE.kok hE.2.2.2.1 hD _ rfl
  refine rf_grounds hE (fun A1 hg a1 a2 a3 => ?_)
  have hE1 : r_E (A1 1) C K n := by rw [a1 1 (by decide)]; exact hE
  have hDg : ∀ (i : Nat) (y : CF), C.2.1[i]? = some y → (hg i = true ↔ D i < 1000) := fun i y hy => by
    rw [a3 i y hy]
    constructor
    · intro h; have := (hD i y hy).2.2 h; omega
    · intro h
      refine Classical.byContradiction fun z => ?_
      have := (hD i y hy).2.1 z
      omega
  have hcnt : g_n C hg = (c_los D C).2 := by
    have h1 := s_cn_kl (D := D) (ys := C.2.1) (hg := hg) (fun i hi => hDg i _ (List.getElem?_eq_getElem hi)) C.2.1.length (Nat.le_refl _)
    have h2 := l_kl_len (D := D) (ys := C.2.1) C.2.1.length (Nat.le_refl _)
    unfold g_n
    omega
  rw [hcnt]
  refine ⟨C.2.1.length + 1, ?_⟩
  have main := rf_cleans_L17 (Q := Q) (F := F) (L := L) (x1 := nI (c_los D C).2) hE1 a2 hDg (A0 := A1) g_A.rf (fun A2 b1 b2 b3 b4 b5 => ?_) C.2.1.length 0 A1 (by omega) g_A.rf (fun x _ => rfl) (fun i y hy => by cases hy) (fun i y _ hy => hE1.1.2.2.1 i y hy)
  · rw [hE1.facts]
    exact main
  · generalize hLL : l_kl D C.2.1.length C.2.1 = LL at *
    refine ⟨K.length + 1, rf_cleans_L65 (ys := LL) (p := l_kq LL) b3 (by omega) (fun i y hy => (b4 i y hy).1 0 (by decide)) (fun y hy => ?_) (by rw [b2 6 (by decide) (by decide)]; exact hE1.fir) hkl (fun q hq => ?_) (fun q hq => ?_) (fun i q hq => (hE1.fq hq).cp (fun w hw => b5 _ (by omega))) (fun A3 c1 c2 c3 c4 c5 => ?_) K.length 0 A2 (by omega) g_A.rf (fun x _ => rfl) (fun i q hq => by cases hq) (fun i q _ hq => (hE1.fq hq).cp (fun w hw => b5 _ (by omega)))⟩
    · have hs : LL.Sublist C.2.1 := by
        have := l_kl_sub (D := D) (ys := C.2.1) C.2.1.length
        rw [hLL, List.take_length] at this
        exact this
      exact hE.ltm (hs.subset hy)
    · obtain ⟨k, hk⟩ := List.getElem?_of_mem hq
      obtain ⟨g1, g2, g3⟩ := r_q2 hE hk
      exact ⟨g3, g1⟩
    · unfold l_kq l_kpo
      cases q.2.2.1 <;> rfl
    · refine hQ A3 (fun j h1 h2 => by rw [c1 j h1, b1 j h1, a1 j h2]) ⟨⟨⟨?_, ?_, ?_, ?_, ?_, ?_, ?_⟩, fun i x1 hx j hj => ?_, fun i y hy => ?_, fun k q hq => c5 k q hq⟩, e5.1, e5.2.1, e5.2.2.1, hE.2.2.2.2⟩ e5
      · rw [c2 0 (by decide) (by decide) (by decide), b2 0 (by decide) (by decide), e1]; exact hE1.1.1.1
      · rw [c2 1 (by decide) (by decide) (by decide), b3, e2, List.length_map]
      · rw [c2 2 (by decide) (by decide) (by decide), b2 2 (by decide) (by decide), e3]; exact hE1.1.1.2.2.1
      · rw [c2 3 (by decide) (by decide) (by decide), b2 3 (by decide) (by decide), e3]; exact hE1.1.1.2.2.2.1
      · rw [c3, b2 4 (by decide) (by decide), e3, hE1.1.1.2.2.2.2.1, nI_add]
        rfl
      · rw [c2 5 (by decide) (by decide) (by decide), b2 5 (by decide) (by decide), e3]; exact hE1.1.1.2.2.2.2.2.1
      · exact c4
      · rw [e1] at hx
        have hi := (List.getElem?_eq_some_iff.mp hx).1
        have := hE.rlen
        rw [c2 _ (by omega) (by omega) (by omega), b2 _ (by omega) (by omega)]
        exact hE1.1.2.1 i x1 hx j hj
      · rw [e2, List.getElem?_map] at hy
        obtain ⟨z, hz, rfl⟩ := Option.map_eq_some_iff.mp hy
        have hi := (List.getElem?_eq_some_iff.mp hz).1
        have := (b4 i z hz).st (s' := A3 1) (fun m hm => c2 _ (by omega) (by omega) (by omega))
        exact this
end RC2
