/-! SPECS: roles, frames, lists -/
set_option maxRecDepth 100000
abbrev RO : Type := Nat → Nat × Nat
def q_up (ρ : RO) (a : Nat) (t : Nat × Nat) : RO := fun b => if b = a then t else ρ b
def q_ex (h : HH) (ρ ρ' : RO) : Prop := ∀ a e, h a = some e → ρ' a = ρ a
def q_fr (W : Nat × Nat → Prop) (h : HH) (ρ : RO) (h' : HH) : Prop := ∀ a e, h a = some e → ¬ W (ρ a) → h' a = some e
theorem w_geti_of {h : HH} {a ci k : Nat} {Q : Int32 → Prop} {fs : List Value} {v : Int32} (h1 : h a = some (.inr (ci, fs))) (h2 : fs[k]? = some (.int v)) (h3 : Q v) : w_geti h a ci k Q := ⟨fs, v, h1, h2, h3⟩
theorem w_getf_of {h : HH} {a ci k : Nat} {Q : UInt32 → Prop} {fs : List Value} {v : UInt32} (h1 : h a = some (.inr (ci, fs))) (h2 : fs[k]? = some (.float v)) (h3 : Q v) : w_getf h a ci k Q := ⟨fs, v, h1, h2, h3⟩
theorem w_geta_of {h : HH} {a ci k : Nat} {Q : Option Nat → Prop} {fs : List Value} {v : Nat} (h1 : h a = some (.inr (ci, fs))) (h2 : fs[k]? = some (.ref v)) (h3 : Q (some v)) : w_getq h a ci k Q := ⟨fs, some v, h1, h2, h3⟩
theorem w_getn_of {h : HH} {a ci k : Nat} {Q : Option Nat → Prop} {fs : List Value} (h1 : h a = some (.inr (ci, fs))) (h2 : fs[k]? = some .null) (h3 : Q none) : w_getq h a ci k Q := ⟨fs, none, h1, h2, h3⟩
theorem w_getr_of {h : HH} {a ci k : Nat} {Q : Option Nat → Prop} {fs : List Value} {v : Option Nat} (h1 : h a = some (.inr (ci, fs))) (h2 : fs[k]? = some (va_rf v)) (h3 : Q v) : w_getq h a ci k Q := ⟨fs, v, h1, h2, h3⟩
theorem w_nn_of {a : Nat} {Q : Nat → Prop} (h : Q a) : w_nn (some a) Q := ⟨a, rfl, h⟩
theorem w_is_of {h : HH} {a ci : Nat} {Q : Prop} {fs : List Value} (h1 : h a = some (.inr (ci, fs))) (h2 : Q) : w_is h a ci Q := ⟨⟨fs, h1⟩, h2⟩
theorem w_cast_of {h : HH} {a ci : Nat} {Q : Prop} {fs : List Value} (h1 : h a = some (.inr (ci, fs))) (h2 : Q) : w_cast h a ci Q := ⟨fs, h1, h2⟩
theorem w_put_of {h : HH} {a ci k : Nat} {v : Value} {Q : HH → Prop} {fs fs' : List Value} (h1 : h a = some (.inr (ci, fs))) (h2 : k < fs.length) (h3 : fs.set k v = fs') (h4 : Q (va_up h a (some (.inr (ci, fs'))))) : w_put h a ci k v Q := ⟨fs, h1, h2, by rw [h3]; exact h4⟩
theorem w_qld_of {G : GG} {h : HH} {a i n : Nat} {Q : Option Nat → Prop} {f : Nat → Option Nat} (h1 : h a = some (.inl (G.2.1 6, n, .inr (.inr (.inr (.inr f)))))) (hi : i < n) (hn : n < 2 ^ 31) (h3 : Q (f i)) : w_qld G h a (nI i) Q := ⟨n, f, f i, h1, vp_in_nI hi hn, by rw [nI_clamp (by omega)], h3⟩
def q_ar (G : GG) (h : HH) (ρ : RO) (t : Nat × Nat) (arr : Nat) (xs : List Nat) : Prop :=
  (arr = G.2.2 0 ∧ xs = []) ∨ (ρ arr = (t.1, t.2 + 1) ∧ ∃ N f, h arr = some (.inl (G.2.1 6, N, .inr (.inr (.inr (.inr f))))) ∧ xs.length ≤ N ∧ 0 < N ∧ N < 10000 ∧ ∀ i, i < xs.length → f i = xs[i]?)
/-- an ArrayList at a, of the role t, its array of the role behind -/
def q_ls (G : GG) (h : HH) (ρ : RO) (t : Nat × Nat) (a : Nat) (xs : List Nat) : Prop :=
  ρ a = t ∧ xs.length < 10000 ∧ ∃ (mc : Int32) (arr : Nat), h a = some (.inr (4, [.int mc, .ref arr, .int (nI xs.length)])) ∧ q_ar G h ρ t arr xs
theorem sp_J2_size {G : GG} {h : HH} {ρ : RO} {t : Nat × Nat} {a : Nat} {xs : List Nat} {Q : Int32 → HH → Prop} (hl : q_ls G h ρ t a xs) (hQ : Q (nI xs.length) h) : wp_J2_size G h a Q := by
  obtain ⟨-, -, mc, arr, ha, -⟩ := hl
  exact w_geti_of ha rfl hQ
theorem sp_J9_checkIndex {G : GG} {h : HH} {i n : Nat} {f : Option Nat} {Q : Int32 → HH → Prop} (hi : i < n) (hn : n < 2 ^ 31) (hQ : Q (nI i) h) : wp_J9_checkIndex G h (nI i) (nI n) f Q := by
  unfold wp_J9_checkIndex
  have h1 := nI_pos (n := i) (by omega)
  have h2 := nI_lt hi hn
  simp only [h1, h2, not_true_eq_false, not_false_eq_true, true_implies, false_implies, and_true, true_and, hQ, forall_const, implies_true]
theorem sp_J19_checkIndex {G : GG} {h : HH} {i n : Nat} {Q : Int32 → HH → Prop} (hi : i < n) (hn : n < 2 ^ 31) (hQ : Q (nI i) h) : wp_J19_checkIndex G h (nI i) (nI n) Q := sp_J9_checkIndex hi hn hQ
theorem q_ls.at {G : GG} {h : HH} {ρ : RO} {t : Nat × Nat} {a : Nat} {xs : List Nat} (hl : q_ls G h ρ t a xs) {i : Nat} (hi : i < xs.length) : ∃ mc arr N f, h a = some (.inr (4, [.int mc, .ref arr, .int (nI xs.length)])) ∧ h arr = some (.inl (G.2.1 6, N, .inr (.inr (.inr (.inr f))))) ∧ ρ arr = (t.1, t.2 + 1) ∧ xs.length ≤ N ∧ N < 10000 ∧ ∀ i, i < xs.length → f i = xs[i]? := by
  obtain ⟨-, -, mc, arr, ha, ⟨-, rfl⟩ | ⟨hr, N, f, h1, h2, h3, h4, h5⟩⟩ := hl
  · exact absurd hi (Nat.not_lt_zero _)
  · exact ⟨mc, arr, N, f, ha, h1, hr, h2, h4, h5⟩
theorem sp_J2_get {G : GG} {h : HH} {ρ : RO} {t : Nat × Nat} {a i x1 : Nat} {xs : List Nat} {Q : Option Nat → HH → Prop} (hl : q_ls G h ρ t a xs) (hi : xs[i]? = some x1) (hQ : Q (some x1) h) : wp_J2_get G h a (nI i) Q := by
  have hlt : i < xs.length := (List.getElem?_eq_some_iff.mp hi).1
  obtain ⟨mc, arr, N, f, ha, hb, -, hN, hN2, hf⟩ := hl.at hlt
  refine w_geti_of ha rfl (sp_J19_checkIndex hlt (by omega) (w_is_of ha (w_geta_of ha rfl (w_nn_of (w_qld_of hb (by omega) (by omega) ?_)))))
  rw [hf i hlt, hi]
  exact hQ

theorem q_h_same {h : HH} {a : Nat} {e : Option va_E} : va_up h a e a = e := by simp [va_up]
theorem q_h_ne {h : HH} {a b : Nat} {e : Option va_E} (hn : b ≠ a) : va_up h a e b = h b := by simp [va_up, hn]
theorem q_h_up {h : HH} {a : Nat} {e e' : Option va_E} : va_up (va_up h a e) a e' = va_up h a e' := by
  funext b
  by_cases z : b = a <;> simp [va_up, z]
theorem q_up_same {ρ : RO} {a : Nat} {t : Nat × Nat} : q_up ρ a t a = t := by simp [q_up]
theorem q_up_ne {ρ : RO} {a b : Nat} {t : Nat × Nat} (hn : b ≠ a) : q_up ρ a t b = ρ b := by simp [q_up, hn]
theorem q_new_ne {h : HH} {a q : Nat} {e : va_E} (hq : h q = none) (ha : h a = some e) : a ≠ q := fun z => by rw [z, hq] at ha; cases ha
theorem q_ro_ne {ρ : RO} {a b : Nat} {t u : Nat × Nat} (ha : ρ a = t) (hb : ρ b = u) (hn : t ≠ u) : a ≠ b := fun z => hn (by rw [← ha, ← hb, z])
theorem sp_J2_init {G : GG} {h : HH} {a : Nat} {Q : HH → Prop} (ha : h a = some (.inr (4, df_J2))) (hQ : Q (va_up h a (some (.inr (4, [.int 0, .ref (G.2.2 0), .int 0]))))) : wp_J2_init G h a Q := by
  unfold wp_J2_init wp_J1_init
  refine w_put_of ha (by decide) rfl (w_put_of q_h_same (by decide) rfl ?_)
  rw [q_h_up]
  exact hQ
theorem nI_half {n : Nat} (h : n < 2 ^ 31) : nI n >>> ((1 : Int32) &&& 31) = nI (n / 2) := pk_shrN h _ 1 (by decide +kernel)
theorem sp_J17_newLength {G : GG} {h : HH} {N d pf : Nat} {Q : Int32 → HH → Prop} (h1 : 0 < N + max d pf) (h2 : N + max d pf < 1000000) (hQ : Q (nI (N + max d pf)) h) : wp_J17_newLength G h (nI N) (nI d) (nI pf) Q := by
  unfold wp_J17_newLength
  have e : (nI N + (if nI d < nI pf then nI pf else nI d)) = nI (N + max d pf) := by
    rw [Nat.max_def]
    by_cases z : d < pf
    · rw [if_pos (nI_lt z (by omega)), if_pos (by omega), nI_add]
    · rw [if_neg (nI_nlt (by omega) (by omega)), nI_add]
      by_cases z2 : d ≤ pf
      · rw [if_pos z2, show d = pf by omega]
      · rw [if_neg z2]
  rw [e]
  have e1 : ¬ nI (N + max d pf) ≤ (0 : Int32) := nI_nle h1 (by omega)
  have e2 : ¬ (2147483639 : Int32) < nI (N + max d pf) := by
    have : (2147483639 : Int32) = nI 2147483639 := by decide +kernel
    rw [this]
    exact nI_nlt (by omega) (by omega)
  exact ⟨fun z => absurd z e1, fun _ => ⟨fun z => absurd z e2, fun _ => hQ⟩⟩
/-- Arrays.copyOf of an Object[], to a greater length -/
theorem sp_J18_copyOf {G : GG} {h : HH} {arr N M mc ms : Nat} {f : Nat → Option Nat} {Q : Option Nat → HH → Prop} (ha : h arr = some (.inl (G.2.1 6, N, .inr (.inr (.inr (.inr f)))))) (hNM : N ≤ M) (hM : M < 1000000) (hc : 1 ≤ mc) (hs : M ≤ ms) (hob : ∀ i, i < N → ∀ y, f i = some y → ∃ e, h y = some e ∧ hv_ob G e)
    (hQ : ∀ q, h q = none → Q (some q) (va_up h q (some (.inl (G.2.1 6, M, .inr (.inr (.inr (.inr (fun i => if i < N then f i else none)))))))) ) : wp_J18_copyOf G mc ms h (some arr) (nI M) Q := by
  unfold wp_J18_copyOf wp_J18_copyOf_2 wp_J18_copyOf_2_L24
  refine w_nn_of ⟨_, ha, mc, ms, by omega, by omega, fun z => absurd rfl z, fun _ => ⟨nI_pos (by omega), by rw [nI_clamp (by omega)]; omega, by omega, by rw [nI_clamp (by omega)]; omega, fun q hq => ?_⟩⟩
  rw [nI_clamp (by omega)]
  have hne : arr ≠ q := q_new_ne hq ha
  have e : (if nI M < Int32.ofNat N then nI M else Int32.ofNat N) = nI N := by
    show (if nI M < nI N then nI M else nI N) = nI N
    rw [if_neg (nI_nlt hNM (by omega))]
  refine w_nn_of (Or.inl ⟨6, _, by decide, by rw [q_h_ne hne]; exact ha, ?_⟩)
  show w_cpq G _ arr 0 q 0 (if nI M < Int32.ofNat N then nI M else Int32.ofNat N) _
  rw [e]
  have c0 : (0 : Int32).toNatClampNeg = 0 := by decide +kernel
  refine ⟨N, M, f, _, by rw [q_h_ne hne]; exact ha, q_h_same, by decide, by decide, nI_pos (by omega), by rw [c0, nI_clamp (by omega)]; omega, by rw [c0, nI_clamp (by omega)]; omega, fun i hi y hy => ?_, ?_⟩
  · rw [nI_clamp (by omega)] at hi
    rw [c0] at hy
    obtain ⟨e1, he, ho⟩ := hob i hi y (by simpa using hy)
    exact ⟨e1, by rw [q_h_ne (q_new_ne hq he)]; exact he, ho⟩
  · rw [q_h_up, c0, nI_clamp (by omega)]
    have hf : va_cpy f (fun _ => none) 0 0 N = (fun i => if i < N then f i else none) := by
      funext i
      simp [va_cpy]
    rw [hf]
    exact hQ q hq
/-- in the array of a list: the new element stored -/
theorem q_ar_put {xs : List Nat} {f : Nat → Option Nat} {x1 : Nat} (hf : ∀ i, i < xs.length → f i = xs[i]?) : ∀ i, i < (xs ++ [x1]).length → va_up f xs.length (some x1) i = (xs ++ [x1])[i]? := by
  intro i hi
  rw [List.length_append] at hi
  by_cases z : i = xs.length
  · subst z
    rw [va_up_self, List.getElem?_append_right (Nat.le_refl _), Nat.sub_self]
    rfl
  · have h1 : i < xs.length := by simp at hi; omega
    rw [va_up_ne _ _ z, hf i h1, List.getElem?_append_left h1]
/-- what is there stays there -/
def q_dm (h h' : HH) : Prop := ∀ c e, h c = some e → ∃ e', h' c = some e'
theorem q_dm.rf {h : HH} : q_dm h h := fun c e hc => ⟨e, hc⟩
theorem q_dm.tr {h h' h'' : HH} (h1 : q_dm h h') (h2 : q_dm h' h'') : q_dm h h'' := fun c e hc => by
  obtain ⟨e', hc'⟩ := h1 c e hc
  exact h2 c e' hc'
theorem q_dm.up {h h' : HH} {a : Nat} {e : va_E} (h1 : q_dm h h') : q_dm h (va_up h' a (some e)) := fun c x hc => by
  by_cases z : c = a
  · exact ⟨e, by rw [z]; exact q_h_same⟩
  · obtain ⟨e', hc'⟩ := h1 c x hc
    exact ⟨e', by rw [q_h_ne z]; exact hc'⟩
theorem sp_J2_add {G : GG} {h : HH} {ρ : RO} {t : Nat × Nat} {a x1 mc ms : Nat} {xs : List Nat} {Q : Int32 → HH → Prop} (hl : q_ls G h ρ t a xs) (hx : ∃ e, h x1 = some e ∧ hv_ob G e) (hel : ∀ y ∈ xs, ∃ e, h y = some e ∧ hv_ob G e) (hc : 1 ≤ mc) (hs : 2 * xs.length + 10 ≤ ms) (hn : xs.length < 4000)
    (hQ : ∀ h' ρ', q_dm h h' → q_ex h ρ ρ' → q_fr (fun r => r = t ∨ r = (t.1, t.2 + 1)) h ρ h' → q_ls G h' ρ' t a (xs ++ [x1]) → Q 1 h') : wp_J2_add G mc ms h a (some x1) Q := by
  obtain ⟨hr, -, mc0, arr, ha, hA⟩ := hl
  unfold wp_J2_add
  refine w_geti_of ha rfl (w_put_of ha (Nat.le_of_ble_eq_true rfl) rfl (w_geta_of q_h_same rfl (w_geti_of q_h_same rfl ⟨mc, ms, by omega, by omega, w_is_of q_h_same ?_⟩)))
  have hxne : ∀ {h2 : HH} {b : Nat} {e : va_E}, h b = some e → va_up h a (some (.inr (4, [.int (mc0 + 1), .ref arr, .int (nI xs.length)]))) b = some e ∨ b = a := by
    intro h2 b e hb
    by_cases z : b = a
    · exact Or.inr z
    · exact Or.inl (by rw [q_h_ne z]; exact hb)
  have hob1 : ∀ y e, h y = some e → hv_ob G e → ∃ e', va_up h a (some (.inr (4, [.int (mc0 + 1), .ref arr, .int (nI xs.length)]))) y = some e' ∧ hv_ob G e' := by
    intro y e hy ho
    by_cases z : y = a
    · subst z
      exact ⟨_, q_h_same, Or.inl ⟨4, _, by decide, rfl⟩⟩
    · exact ⟨e, by rw [q_h_ne z]; exact hy, ho⟩
  unfold wp_J2_add_2
  refine w_nn_of ?_
  rcases hA with ⟨rfl, rfl⟩ | ⟨har, N, f, hb, h2, h3, h4, h5⟩
  · refine Or.inr (Or.inl ⟨rfl, fun z => absurd rfl z, fun _ => ⟨mc, ms, by omega, by omega, w_is_of q_h_same ?_⟩⟩)
    unfold wp_J2_grow wp_J2_grow_2
    refine w_geti_of q_h_same rfl ⟨mc, ms, by omega, by omega, w_is_of q_h_same (w_geta_of q_h_same rfl (w_nn_of (Or.inr (Or.inl ⟨rfl, fun z => absurd z (by decide), fun _ => w_geta_of q_h_same rfl ⟨fun _ => ?_, fun z => absurd rfl z⟩⟩))))⟩
    have e10 : (if (10 : Int32) < nI ([] : List Nat).length + 1 then nI ([] : List Nat).length + 1 else (10 : Int32)) = nI 10 := by decide +kernel
    rw [e10]
    refine ⟨by decide +kernel, by decide +kernel, by omega, by rw [nI_clamp (by omega)]; omega, fun q hq => ?_⟩
    rw [nI_clamp (by omega)]
    have hqa : a ≠ q := q_new_ne hq (q_h_same)
    have hq0 : h q = none := by rw [q_h_ne (Ne.symm hqa)] at hq; exact hq
    refine w_put_of (by rw [q_h_ne hqa]; exact q_h_same) (Nat.le_of_ble_eq_true rfl) rfl (w_nn_of ?_)
    obtain ⟨ex, hx1, hx2⟩ := hx
    have hxq : x1 ≠ q := q_new_ne hq0 hx1
    refine ⟨10, _, by rw [q_h_ne (Ne.symm hqa), q_h_same], vp_in_nI (n := 0) (by omega) (by omega), fun y hy => ?_, ?_⟩
    · cases hy
      obtain ⟨e', he, ho⟩ := hob1 x1 ex hx1 hx2
      by_cases z : x1 = a
      · subst z
        exact ⟨_, q_h_same, Or.inl ⟨4, _, by decide, rfl⟩⟩
      · exact ⟨e', by rw [q_h_ne z, q_h_ne hxq]; exact he, ho⟩
    · refine w_put_of (by rw [q_h_ne hqa]; exact q_h_same) (Nat.le_of_ble_eq_true rfl) rfl (hQ _ (q_up ρ q (t.1, t.2 + 1)) (by repeat' first | exact q_dm.rf | apply q_dm.up) ?_ ?_ ?_)
      · intro b e hb
        exact q_up_ne (q_new_ne hq0 hb)
      · intro b e hb hW
        have b1 : b ≠ a := fun z => hW (Or.inl (by rw [z]; exact hr))
        have b2 : b ≠ q := q_new_ne hq0 hb
        rw [q_h_ne b1, q_h_ne b2, q_h_ne b1, q_h_ne b2, q_h_ne b1]
        exact hb
      · refine ⟨by rw [q_up_ne hqa]; exact hr, by simp, _, q, q_h_same, Or.inr ⟨q_up_same, 10, _, by rw [q_h_ne (Ne.symm hqa), q_h_same], by simp, by omega, by omega, ?_⟩⟩
        intro i hi
        have : i = 0 := by simp at hi; omega
        subst this
        rfl
  · have hne : arr ≠ a := q_ro_ne har hr (by intro z; have := congrArg Prod.snd z; simp at this)
    have hb2 : va_up h a (some (.inr (4, [.int (mc0 + 1), .ref arr, .int (nI xs.length)]))) arr = some (.inl (G.2.1 6, N, .inr (.inr (.inr (.inr f))))) := by rw [q_h_ne hne]; exact hb
    refine Or.inl ⟨6, _, by decide, hb2, ?_⟩
    show (¬ nI xs.length = nI N → _) ∧ (nI xs.length = nI N → _)
    refine ⟨fun z => ?_, fun z => ?_⟩
    · have hlt : xs.length < N := by
        rcases Nat.lt_or_ge xs.length N with q | q
        · exact q
        · exact absurd (by rw [show xs.length = N by omega]) z
      refine ⟨N, f, hb2, vp_in_nI hlt (by omega), fun y hy => ?_, ?_⟩
      · cases hy
        obtain ⟨ex, hx1, hx2⟩ := hx
        exact hob1 _ _ hx1 hx2
      · rw [nI_clamp (by omega)]
        refine w_put_of (by rw [q_h_ne (Ne.symm hne)]; exact q_h_same) (Nat.le_of_ble_eq_true rfl) rfl (hQ _ ρ (by repeat' first | exact q_dm.rf | apply q_dm.up) (fun _ _ _ => rfl) ?_ ?_)
        · intro b e hb9 hW
          have b1 : b ≠ a := fun z => hW (Or.inl (by rw [z]; exact hr))
          have b2 : b ≠ arr := fun z => hW (Or.inr (by rw [z]; exact har))
          rw [q_h_ne b1, q_h_ne b2, q_h_ne b1]
          exact hb9
        · refine ⟨hr, by rw [List.length_append]; simp; omega, _, arr, by rw [q_h_same, List.length_append, show [x1].length = 1 from rfl, ← nI_1]; rfl, Or.inr ⟨har, N, _, by rw [q_h_ne hne, q_h_same], by rw [List.length_append]; simp; omega, h3, h4, q_ar_put h5⟩⟩
    · have hN : xs.length = N := (nI_eq (by omega) (by omega)).mp z
      subst hN
      refine ⟨mc, ms, by omega, by omega, w_is_of q_h_same ?_⟩
      unfold wp_J2_grow wp_J2_grow_2
      refine w_geti_of q_h_same rfl ⟨mc, ms, by omega, by omega, w_is_of q_h_same (w_geta_of q_h_same rfl (w_nn_of (Or.inl ⟨6, _, by decide, hb2, ?_⟩)))⟩
      show (0 < nI xs.length → _) ∧ (¬ 0 < nI xs.length → _)
      refine ⟨fun _ => ?_, fun z => absurd (by have := nI_lt h3 (show xs.length < 2 ^ 31 by omega); rw [nI_0] at this; exact this) z⟩
      unfold wp_J2_grow_2_L20
      show wp_J17_newLength G _ (nI xs.length) (nI xs.length + 1 - nI xs.length) (nI xs.length >>> ((1 : Int32) &&& 31)) _
      rw [nI_half (by omega), nI_1, pk_sub (show xs.length ≤ xs.length + 1 by omega), show xs.length + 1 - xs.length = 1 by omega]
      refine sp_J17_newLength (by omega) (by omega) (w_geta_of q_h_same rfl ⟨mc, ms, by omega, by omega, ?_⟩)
      refine sp_J18_copyOf hb2 (by omega) (by omega) (by omega) (by omega) (fun i hi y hy => ?_) (fun q hq => ?_)
      · rw [h5 i hi] at hy
        obtain ⟨e1, he, ho⟩ := hel y (List.mem_of_getElem? hy)
        exact hob1 _ _ he ho
      · have hqa : a ≠ q := q_new_ne hq q_h_same
        have hq0 : h q = none := by rw [q_h_ne (Ne.symm hqa)] at hq; exact hq
        refine w_put_of (by rw [q_h_ne hqa]; exact q_h_same) (Nat.le_of_ble_eq_true rfl) rfl (w_nn_of ?_)
        obtain ⟨ex, hx1, hx2⟩ := hx
        have hxq : x1 ≠ q := q_new_ne hq0 hx1
        refine ⟨_, _, by rw [q_h_ne (Ne.symm hqa), q_h_same], vp_in_nI (by omega) (by omega), fun y hy => ?_, ?_⟩
        · cases hy
          obtain ⟨e', he, ho⟩ := hob1 x1 ex hx1 hx2
          by_cases z : x1 = a
          · subst z
            exact ⟨_, q_h_same, Or.inl ⟨4, _, by decide, rfl⟩⟩
          · exact ⟨e', by rw [q_h_ne z, q_h_ne hxq]; exact he, ho⟩
        · rw [nI_clamp (by omega)]
          refine w_put_of (by rw [q_h_ne hqa]; exact q_h_same) (Nat.le_of_ble_eq_true rfl) rfl (hQ _ (q_up ρ q (t.1, t.2 + 1)) (by repeat' first | exact q_dm.rf | apply q_dm.up) ?_ ?_ ?_)
          · intro b e hb9
            exact q_up_ne (q_new_ne hq0 hb9)
          · intro b e hb9 hW
            have b1 : b ≠ a := fun z => hW (Or.inl (by rw [z]; exact hr))
            have b2 : b ≠ q := q_new_ne hq0 hb9
            rw [q_h_ne b1, q_h_ne b2, q_h_ne b1, q_h_ne b2, q_h_ne b1]
            exact hb9
          · refine ⟨by rw [q_up_ne hqa]; exact hr, by rw [List.length_append]; simp; omega, _, q, by rw [q_h_same, List.length_append, show [x1].length = 1 from rfl, ← nI_1]; rfl, Or.inr ⟨q_up_same, _, _, by rw [q_h_ne (Ne.symm hqa), q_h_same], by rw [List.length_append]; simp; omega, by omega, by omega, q_ar_put (fun i hi => by rw [if_pos hi]; exact h5 i hi)⟩⟩
/-- ArrayList.indexOf of a Rule or a Fact -/
theorem sp_J2_indexOfRange_L42 {G : GG} {h : HH} {a a2 arr N : Nat} {f : Nat → Option Nat} {xs : List Nat} {Q : Int32 → HH → Prop} (hb : h arr = some (.inl (G.2.1 6, N, .inr (.inr (.inr (.inr f)))))) (hN : xs.length ≤ N) (hN2 : N < 10000) (hf : ∀ i : Nat, i < xs.length → f i = xs[i]?)
    (hk : (∃ fs, h a2 = some (.inr (12, fs))) ∨ ∃ fs, h a2 = some (.inr (14, fs))) (k : Nat) (hk0 : ∀ i : Nat, i < k → xs[i]? ≠ some a2)
    (hQ1 : ∀ i : Nat, xs[i]? = some a2 → (∀ j : Nat, j < i → xs[j]? ≠ some a2) → Q (nI i) h) (hQ2 : (∀ i : Nat, xs[i]? ≠ some a2) → Q (-1) h) :
    ∀ d, k + d = xs.length → wp_J2_indexOfRange_L42 G a Q (d + 1) h a2 (nI xs.length) (some arr) (nI k) := by
  intro d
  induction d generalizing k with
  | zero =>
    intro hd
    unfold wp_J2_indexOfRange_L42
    refine ⟨fun _ => hQ2 fun i => ?_, fun z => absurd (nI_le (show xs.length ≤ k by omega) (by omega)) z⟩
    rcases Nat.lt_or_ge i k with q | q
    · exact hk0 i q
    · rw [List.getElem?_eq_none (by omega)]
      exact fun z => by cases z
  | succ d ih =>
    intro hd
    have hlt : k < xs.length := by omega
    unfold wp_J2_indexOfRange_L42
    refine ⟨fun z => absurd z (nI_ge hlt (by omega)), fun _ => w_nn_of (w_qld_of hb (by omega) (by omega) ⟨hk, ?_⟩)⟩
    rw [hf k hlt]
    by_cases z : some a2 = xs[k]?
    · rw [if_pos z]
      exact ⟨fun q => absurd q (by decide), fun _ => hQ1 k z.symm hk0⟩
    · rw [if_neg z]
      refine ⟨fun _ => ?_, fun q => absurd rfl q⟩
      rw [nI_1]
      exact ih (k + 1) (fun i hi => by
        by_cases q : i = k
        · subst q
          exact fun q2 => z q2.symm
        · exact hk0 i (by omega)) (by omega)
theorem sp_J2_indexOf {G : GG} {h : HH} {ρ : RO} {t : Nat × Nat} {a a2 : Nat} {xs : List Nat} {Q : Int32 → HH → Prop} (hl : q_ls G h ρ t a xs) (hk : (∃ fs, h a2 = some (.inr (12, fs))) ∨ ∃ fs, h a2 = some (.inr (14, fs)))
    (hQ1 : ∀ i : Nat, xs[i]? = some a2 → (∀ j : Nat, j < i → xs[j]? ≠ some a2) → Q (nI i) h) (hQ2 : (∀ i : Nat, xs[i]? ≠ some a2) → Q (-1) h) : wp_J2_indexOf G h a (some a2) Q := by
  obtain ⟨hr, hlen, mc, arr, ha, hA⟩ := hl
  unfold wp_J2_indexOf wp_J2_indexOfRange
  refine w_geti_of ha rfl (w_is_of ha (w_geta_of ha rfl ⟨(fun z => by cases z), fun a3 hz => ?_⟩))
  cases hz
  rcases hA with ⟨rfl, rfl⟩ | ⟨har, N, f, hb, h2, h3, h4, h5⟩
  · refine ⟨1, ?_⟩
    unfold wp_J2_indexOfRange_L42
    exact ⟨fun _ => hQ2 fun i => by simp, fun z => absurd (by decide +kernel) z⟩
  · have := sp_J2_indexOfRange_L42 (Q := Q) (a := a) hb h2 h4 h5 hk 0 (fun i hi => absurd hi (Nat.not_lt_zero _)) hQ1 hQ2 xs.length (by omega)
    rw [nI_0] at this
    exact ⟨_, this⟩
/-- an iterator at b over the list at a, whose next element is the one of number k -/
def q_it (h : HH) (a b k : Nat) : Prop := ∃ (lr mc : Int32) (arr n : Value), h b = some (.inr (13, [.int (nI k), .int lr, .int mc, .ref a])) ∧ h a = some (.inr (4, [.int mc, arr, n]))
theorem sp_J2_iterator {G : GG} {h : HH} {ρ : RO} {t : Nat × Nat} {a mc ms : Nat} {xs : List Nat} {Q : Option Nat → HH → Prop} (hl : q_ls G h ρ t a xs) (hc : 1 ≤ mc) (hs : 4 ≤ ms)
    (hQ : ∀ b h', h b = none → (∀ c, c ≠ b → h' c = h c) → q_it h' a b 0 → Q (some b) h') : wp_J2_iterator G mc ms h a Q := by
  obtain ⟨hr, hlen, m0, arr, ha, hA⟩ := hl
  unfold wp_J2_iterator
  refine ⟨by omega, by omega, fun b hb => ?_⟩
  have hab : a ≠ b := q_new_ne hb ha
  unfold wp_J15_init
  refine w_put_of q_h_same (Nat.le_of_ble_eq_true rfl) rfl ?_
  rw [q_h_up]
  refine w_put_of q_h_same (Nat.le_of_ble_eq_true rfl) rfl ?_
  rw [q_h_up]
  refine w_geta_of q_h_same rfl (w_nn_of (w_geti_of (by rw [q_h_ne hab]; exact ha) rfl (w_put_of q_h_same (Nat.le_of_ble_eq_true rfl) rfl ?_)))
  rw [q_h_up]
  refine hQ b _ hb (fun c hc => q_h_ne hc) ⟨-1, m0, _, _, by rw [q_h_same, nI_0]; rfl, by rw [q_h_ne hab]; exact ha⟩
theorem sp_J15_hasNext {G : GG} {h : HH} {ρ : RO} {t : Nat × Nat} {a b k : Nat} {xs : List Nat} {Q : Int32 → HH → Prop} (hl : q_ls G h ρ t a xs) (hi : q_it h a b k) (hk : k ≤ xs.length) (hQ1 : k < xs.length → Q 1 h) (hQ0 : k = xs.length → Q 0 h) : wp_J15_hasNext G h b Q := by
  obtain ⟨hr, hlen, m0, arr, ha, hA⟩ := hl
  obtain ⟨lr, mc, a1, n1, hb, ha1⟩ := hi
  cases ha.symm.trans ha1
  unfold wp_J15_hasNext
  refine w_geti_of hb rfl (w_geta_of hb rfl (w_nn_of (w_geti_of ha rfl ⟨fun z => ?_, fun z => ?_⟩)))
  · exact hQ0 ((nI_eq (by omega) (by omega)).mp z)
  · refine hQ1 ?_
    rcases Nat.lt_or_ge k xs.length with q | q
    · exact q
    · exact absurd (by rw [show k = xs.length by omega]) z
theorem sp_J15_next {G : GG} {h : HH} {ρ : RO} {t : Nat × Nat} {a b k x1 : Nat} {xs : List Nat} {Q : Option Nat → HH → Prop} (hl : q_ls G h ρ t a xs) (hi : q_it h a b k) (hx : xs[k]? = some x1)
    (hQ : ∀ h', (∀ c, c ≠ b → h' c = h c) → q_it h' a b (k + 1) → Q (some x1) h') : wp_J15_next G h b Q := by
  have hlt : k < xs.length := (List.getElem?_eq_some_iff.mp hx).1
  obtain ⟨m1, arr, N, f, ha, hb2, -, hN, hN2, hf⟩ := hl.at hlt
  obtain ⟨lr, mc, a1, n1, hb, ha1⟩ := hi
  cases ha.symm.trans ha1
  have hab : a ≠ b := fun z => by rw [z, hb] at ha; cases ha
  have hrb : arr ≠ b := fun z => by rw [z, hb] at hb2; cases hb2
  unfold wp_J15_next wp_J15_checkForComodification
  refine w_is_of hb (w_geta_of hb rfl (w_nn_of (w_geti_of ha rfl (w_geti_of hb rfl ⟨fun _ => ?_, fun z => absurd rfl z⟩))))
  refine w_geti_of hb rfl (w_geta_of hb rfl (w_nn_of (w_geti_of ha rfl ⟨fun _ => ?_, fun z => absurd (nI_lt hlt (by omega)) z⟩)))
  refine w_geta_of hb rfl (w_nn_of (w_geta_of ha rfl (w_nn_of (Or.inl ⟨6, _, by decide, hb2, ?_⟩))))
  refine ⟨fun _ => ?_, fun z => absurd (nI_lt (show k < N by omega) (by omega)) z⟩
  refine w_put_of hb (Nat.le_of_ble_eq_true rfl) rfl (w_put_of q_h_same (Nat.le_of_ble_eq_true rfl) rfl ?_)
  rw [q_h_up]
  refine w_qld_of (by rw [q_h_ne hrb]; exact hb2) (by omega) (by omega) ?_
  rw [hf k hlt, hx]
  refine hQ _ (fun c hc => q_h_ne hc) ⟨nI k, m1, _, _, by rw [q_h_same, ← nI_1]; rfl, by rw [q_h_ne hab]; exact ha⟩
/-- a list is kept by a frame that spares its roles -/
theorem q_ls.fr {G : GG} {h h' : HH} {ρ ρ' : RO} {t : Nat × Nat} {a : Nat} {xs : List Nat} {W : Nat × Nat → Prop} (hl : q_ls G h ρ t a xs) (he : q_ex h ρ ρ') (hf : q_fr W h ρ h') (h0 : ¬ W t) (h1 : ¬ W (t.1, t.2 + 1)) : q_ls G h' ρ' t a xs := by
  obtain ⟨hr, hlen, mc, arr, ha, hA⟩ := hl
  refine ⟨by rw [he a _ ha]; exact hr, hlen, mc, arr, hf a _ ha (by rw [hr]; exact h0), ?_⟩
  rcases hA with ⟨e1, e2⟩ | ⟨har, N, f, hb, h2, h3, h4, h5⟩
  · exact Or.inl ⟨e1, e2⟩
  · exact Or.inr ⟨by rw [he arr _ hb]; exact har, N, f, hf arr _ hb (by rw [har]; exact h1), h2, h3, h4, h5⟩
theorem q_ex.tr {h h' : HH} {ρ ρ' ρ'' : RO} (hd : ∀ a e, h a = some e → ∃ e', h' a = some e') (h1 : q_ex h ρ ρ') (h2 : q_ex h' ρ' ρ'') : q_ex h ρ ρ'' := fun a e ha => by
  obtain ⟨e', he'⟩ := hd a e ha
  rw [h2 a e' he', h1 a e ha]
/-- an iterator's own cell spoils nothing: what is there keeps -/
theorem q_fr_it {h h' : HH} {ρ : RO} {b : Nat} (hb : h b = none) (hh : ∀ c, c ≠ b → h' c = h c) : q_fr (fun _ => False) h ρ h' := fun a e ha _ => by rw [hh a (q_new_ne hb ha)]; exact ha
/-- a term against a person, with what is bound: whether it fits, and what is bound then -/
def s_fit (g : Nat → Int32) (t : Nat) (q : Int32) : Bool × (Nat → Int32) :=
  if t ≤ 9 then (decide (nI t = q), g) else (decide ((if g (t - 10) = -1 then q else g (t - 10)) = q), upd g (t - 10) (if g (t - 10) = -1 then q else g (t - 10)))
/-- a pattern: its kind and its two terms -/
def q_pat (G : GG) (h : HH) (a : Nat) (k : Int32) (t0 t1 : Nat) : Prop := ∃ b n f, h a = some (.inr (11, [.int k, .ref b])) ∧ h b = some (.inl (G.2.1 0, n, .inl f)) ∧ n = 2 ∧ f 0 = nI t0 ∧ f 1 = nI t1 ∧ t0 ≤ 12 ∧ t1 ≤ 12
theorem sp_X8_fits_2 {G : GG} {h : HH} {a b pa i t : Nat} {k q : Int32} {f g : Nat → Int32} {Q : Int32 → HH → Prop} (ha : h a = some (.inr (11, [.int k, .ref b]))) (hb : h b = some (.inl (G.2.1 0, 2, .inl f))) (hp : h pa = some (.inl (G.2.1 0, 3, .inl g))) (hi : i < 2) (hf : f i = nI t) (ht : t ≤ 12)
    (hQ : ∀ h', (∀ c, c ≠ pa → h' c = h c) → h' pa = some (.inl (G.2.1 0, 3, .inl (s_fit g t q).2)) → Q (if (s_fit g t q).1 then 1 else 0) h') : wp_X8_fits_2 G h a (nI i) q (some pa) Q := by
  unfold wp_X8_fits_2
  refine w_geta_of ha rfl (w_nn_of ⟨2, f, hb, vp_in_nI hi (by omega), ?_⟩)
  rw [nI_clamp (by omega), hf]
  refine ⟨fun z => w_nn_of ?_, fun z => ?_⟩
  · have h9 : 9 < t := by
      rcases Nat.lt_or_ge 9 t with q1 | q1
      · exact q1
      · exact absurd z (nI_nlt (a := 9) (b := t) q1 (by omega))
    have e : (nI t - (9 : Int32)) - (1 : Int32) = nI (t - 10) := by
      rw [show (9 : Int32) = nI 9 from rfl, pk_sub (by omega), show (1 : Int32) = nI 1 from rfl, pk_sub (by omega)]
      rfl
    rw [e]
    have hs : s_fit g t q = (decide ((if g (t - 10) = -1 then q else g (t - 10)) = q), upd g (t - 10) (if g (t - 10) = -1 then q else g (t - 10))) := by
      unfold s_fit
      rw [if_neg (by omega)]
    have fin : ∀ v : Int32, v = (if g (t - 10) = -1 then q else g (t - 10)) → wp_X8_fits_2_L67 G a Q h q pa (nI (t - 10)) pa (nI (t - 10)) v := by
      intro v hv
      unfold wp_X8_fits_2_L67
      refine ⟨3, g, hp, vp_in_nI (by omega) (by omega), 3, _, q_h_same, vp_in_nI (by omega) (by omega), ?_⟩
      rw [nI_clamp (by omega)]
      have hu : upd g (t - 10) v (t - 10) = v := by simp [upd]
      have hQ' := hQ (va_up h pa (some (.inl (G.2.1 0, 3, .inl (upd g (t - 10) v))))) (fun c hc => q_h_ne hc) (by rw [q_h_same, hs, hv])
      rw [hs, ← hv] at hQ'
      refine ⟨fun w => ?_, fun w => ?_⟩
      · rw [hu] at w
        simpa [w] using hQ'
      · rw [hu] at w
        simpa [w] using hQ'
    refine ⟨3, g, hp, vp_in_nI (by omega) (by omega), ?_⟩
    rw [nI_clamp (by omega)]
    unfold wp_X8_fits_2_L49
    refine ⟨fun w => ⟨fun _ => ⟨3, g, hp, vp_in_nI (by omega) (by omega), ?_⟩, fun w2 => absurd rfl w2⟩, fun w => ⟨fun w2 => absurd w2 (by decide), fun _ => fin q (by rw [if_pos w])⟩⟩
    rw [nI_clamp (by omega)]
    exact fin _ (by rw [if_neg w])
  · have h9 : t ≤ 9 := by
      rcases Nat.lt_or_ge 9 t with q1 | q1
      · exact absurd (nI_lt (a := 9) (b := t) q1 (by omega)) z
      · exact q1
    have hs : s_fit g t q = (decide (nI t = q), g) := by
      unfold s_fit
      rw [if_pos h9]
    have hQ' := hQ h (fun _ _ => rfl) (by rw [hs]; exact hp)
    rw [hs] at hQ'
    refine ⟨fun w => ?_, fun w => ?_⟩
    · simpa [w] using hQ'
    · simpa [w] using hQ'
/-- a pattern against a fact -/
def s_fits (g : Nat → Int32) (k : Int32) (t0 t1 : Nat) (fk : Int32) (p0 p1 : Int32) : Bool × (Nat → Int32) :=
  if fk = k then (if (s_fit g t0 p0).1 then s_fit (s_fit g t0 p0).2 t1 p1 else (false, (s_fit g t0 p0).2)) else (false, g)
theorem sp_X8_fits {G : GG} {h : HH} {a fa pa : Nat} {t0 t1 : Nat} {k : Int32} {g : Nat → Int32} {fs : List Value} {fk p0 p1 : Int32} {Q : Int32 → HH → Prop} (hpat : q_pat G h a k t0 t1) (hp : h pa = some (.inl (G.2.1 0, 3, .inl g))) (hne : ∀ b, h a = some (.inr (11, [.int k, .ref b])) → b ≠ pa)
    (hf : h fa = some (.inr (14, fs))) (h1 : fs[1]? = some (.int fk)) (h2 : fs[2]? = some (.int p0)) (h3 : fs[3]? = some (.int p1))
    (hQ : ∀ h', (∀ c, c ≠ pa → h' c = h c) → h' pa = some (.inl (G.2.1 0, 3, .inl (s_fits g k t0 t1 fk p0 p1).2)) → Q (if (s_fits g k t0 t1 fk p0 p1).1 then 1 else 0) h') : wp_X8_fits G h a (some fa) (some pa) Q := by
  obtain ⟨b, n, f, ha, hb, rfl, f0, f1, l0, l1⟩ := hpat
  have hbp := hne b ha
  have hap : a ≠ pa := fun z => by rw [z, hp] at ha; cases ha
  have hfp : fa ≠ pa := fun z => by rw [z, hp] at hf; cases hf
  unfold wp_X8_fits
  refine w_nn_of (w_geti_of hf h1 (w_geti_of ha rfl ⟨fun z => ?_, fun z => ?_⟩))
  · have := hQ h (fun _ _ => rfl) (by unfold s_fits; rw [if_neg z]; exact hp)
    unfold s_fits at this
    rw [if_neg z] at this
    exact this
  · refine w_geti_of hf h2 (w_is_of ha ?_)
    rw [← nI_0]
    refine sp_X8_fits_2 ha hb hp (by omega) f0 l0 (fun h' hh hpa => ?_)
    refine ⟨fun w => ?_, fun w => ?_⟩
    · have e0 : (s_fit g t0 p0).1 = false := by
        cases e : (s_fit g t0 p0).1 with
        | false => rfl
        | true => rw [e, if_pos rfl] at w; exact absurd w (by decide)
      have := hQ h' hh (by unfold s_fits; rw [if_pos z, e0]; exact hpa)
      unfold s_fits at this
      rw [if_pos z, e0] at this
      exact this
    · have e0 : (s_fit g t0 p0).1 = true := by
        cases e : (s_fit g t0 p0).1 with
        | true => rfl
        | false => rw [e] at w; exact absurd rfl w
      have ha' : h' a = _ := (hh a hap).trans ha
      refine w_geti_of ((hh fa hfp).trans hf) h3 (w_is_of ha' ?_)
      rw [show (1 : Int32) = nI 1 from rfl]
      refine sp_X8_fits_2 ha' ((hh b hbp).trans hb) hpa (by omega) f1 l1 (fun h'' hh' hpa' => ?_)
      have := hQ h'' (fun c hc => (hh' c hc).trans (hh c hc)) (by unfold s_fits; rw [if_pos z, if_pos e0]; exact hpa')
      unfold s_fits at this
      rw [if_pos z, if_pos e0] at this
      cases e1 : (s_fit (s_fit g t0 p0).2 t1 p1).1 with
      | false =>
        rw [e1] at this
        exact ⟨fun _ => this, fun q => absurd rfl q⟩
      | true =>
        rw [e1, if_pos rfl] at this
        exact ⟨fun q => absurd q (by decide), fun _ => this⟩
theorem sp_X9_wantsTwo {G : GG} {h : HH} {a : Nat} {f s2 c2 : Value} {w k : Int32} {so : Option Nat} {Q : Int32 → HH → Prop} (ha : h a = some (.inr (12, [f, va_rf so, .int w, c2, .int k]))) (hQ : Q (if so ≠ none ∧ w = 0 then 1 else 0) h) : wp_X9_wantsTwo G h a Q := by
  unfold wp_X9_wantsTwo
  refine w_getr_of ha rfl ⟨fun z => ?_, fun b z => w_geti_of ha rfl ⟨fun z2 => ?_, fun z2 => ?_⟩⟩
  · rw [z] at hQ
    simpa using hQ
  · rw [z] at hQ
    simpa [z2] using hQ
  · rw [z] at hQ
    simpa [z2] using hQ
theorem sp_X12_has {G : GG} {h : HH} {a : Nat} {r : Value} {p q n : Int32} {Q : Int32 → HH → Prop} (ha : h a = some (.inr (16, [r, .int p, .int q]))) (hQ : Q (if p = n ∨ q = n then 1 else 0) h) : wp_X12_has G h a n Q := by
  unfold wp_X12_has
  refine w_geti_of ha rfl ⟨fun z => ?_, fun z => w_geti_of ha rfl ⟨fun z2 => ?_, fun z2 => ?_⟩⟩
  · simpa [z] using hQ
  · simpa [z, z2] using hQ
  · simpa [z, z2] using hQ
