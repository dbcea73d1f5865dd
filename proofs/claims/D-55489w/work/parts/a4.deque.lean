set_option maxRecDepth 100000
/-! a deque of at most 8, in 17 places -/
def q_dq (G : GG) (h : HH) (a arr : Nat) (xs : List Nat) : Prop := ∃ hd f, hd < 17 ∧ xs.length ≤ 8 ∧ h a = some (.inr (5, [.ref arr, .int (nI hd), .int (nI ((hd + xs.length) % 17))])) ∧ h arr = some (.inl (G.2.1 6, 17, .inr (.inr (.inr (.inr f))))) ∧ ∀ i, i < xs.length → f ((hd + i) % 17) = xs[i]?
section DEQ
variable {G : GG} {h h' : HH} {a arr : Nat} {xs : List Nat}
theorem q_dq.ne (hd : q_dq G h a arr xs) : a ≠ arr := by
  obtain ⟨d, f, -, -, e1, e2, -⟩ := hd
  exact q_c_ne e1 e2 (by simp)
theorem sp_J3_init {mc ms : Nat} {Q : HH → Prop} (ha : h a = some (.inr (5, df_J3))) (hm : 1 ≤ mc) (hs : 17 ≤ ms) (hQ : ∀ h' q, h q = none → (∀ c, c ≠ a → c ≠ q → h' c = h c) → q_dq G h' a q [] → Q h') : wp_J3_init G mc ms h a Q := by
  unfold wp_J3_init wp_J0_init
  refine ⟨by omega, by omega, fun q hq => ?_⟩
  have aq : a ≠ q := q_new_ne hq ha
  refine w_put_of ((q_h_ne aq).trans ha) (by decide) rfl ?_
  exact hQ _ q hq (fun c c1 c2 => by rw [q_h_ne c1, q_h_ne c2]) ⟨0, _, by decide, by decide, q_h_same, (q_h_ne (Ne.symm aq)).trans q_h_same, fun i hi => absurd hi (Nat.not_lt_zero _)⟩
theorem sp_J3_size {Q : Int32 → HH → Prop} (hd : q_dq G h a arr xs) (hQ : Q (nI xs.length) h) : wp_J3_size G h a Q := by
  obtain ⟨d, f, h1, h2, ha, hb, -⟩ := hd
  unfold wp_J3_size wp_J3_sub
  refine w_geti_of ha rfl <| w_geti_of ha rfl <| w_geta_of ha rfl <| w_nn_of <| Or.inl ⟨6, _, by decide, hb, ?_⟩
  rcases Nat.lt_or_ge (d + xs.length) 17 with q | q
  · have e : nI ((d + xs.length) % 17) - nI d = nI xs.length := by
      rw [Nat.mod_eq_of_lt q, pk_sub (by omega), show d + xs.length - d = xs.length by omega]
    rw [e]
    exact br_t (nI_pos' (by omega)) hQ
  · have e1 : (d + xs.length) % 17 = d + xs.length - 17 := by omega
    have hlt : ¬ (0 : Int32) ≤ nI ((d + xs.length) % 17) - nI d := fun z => by
      have := (pk_sub0 (a := (d + xs.length) % 17) (b := d) (by omega) (by omega)).2.mp z
      omega
    refine br_f hlt ?_
    have e : nI ((d + xs.length) % 17) - nI d + Int32.ofNat 17 = nI xs.length := by
      have : nI ((d + xs.length) % 17) - nI d + nI 17 = nI ((d + xs.length) % 17) + nI 17 - nI d := by
        rw [Int32.sub_eq_add_neg, Int32.sub_eq_add_neg, Int32.add_assoc, Int32.add_comm (-nI d), ← Int32.add_assoc]
      rw [show Int32.ofNat 17 = nI 17 from rfl, this, nI_add, pk_sub (by omega), show (d + xs.length) % 17 + 17 - d = xs.length by omega]
    rw [show Int32.ofNat (17, (Sum.inr (Sum.inr (Sum.inr (Sum.inr f))) : (Nat → Int32) ⊕ (Nat → Int64) ⊕ (Nat → UInt32) ⊕ (Nat → UInt64) ⊕ (Nat → Option Nat))).1 = Int32.ofNat 17 from rfl, e]
    exact hQ
theorem sp_J3_isEmpty {Q : Int32 → HH → Prop} (hd : q_dq G h a arr xs) (hQ : Q (if xs = [] then 1 else 0) h) : wp_J3_isEmpty G h a Q := by
  obtain ⟨d, f, h1, h2, ha, hb, -⟩ := hd
  unfold wp_J3_isEmpty
  refine w_geti_of ha rfl <| w_geti_of ha rfl ⟨fun z => ?_, fun z => ?_⟩
  · rw [if_neg (fun q => z (by rw [q]; simp only [List.length_nil, Nat.add_zero]; rw [Nat.mod_eq_of_lt h1]))] at hQ
    exact hQ
  · have := (nI_eq (by omega) (by omega)).mp z
    rw [if_pos (List.length_eq_zero_iff.mp (by omega))] at hQ
    exact hQ
theorem t_inc {m : Nat} {Q : Int32 → HH → Prop} (hm : m < 17) (hQ : Q (nI ((m + 1) % 17)) h) : wp_J3_inc G h (nI m) (nI 17) Q := by
  unfold wp_J3_inc
  rw [show (1 : Int32) = nI 1 from rfl, nI_add]
  rcases Nat.lt_or_ge (m + 1) 17 with q | q
  · rw [Nat.mod_eq_of_lt q] at hQ
    exact br_t (nI_lt q (by decide)) hQ
  · rw [show (m + 1) % 17 = 0 by omega] at hQ
    exact br_f (nI_nlt q (by omega)) hQ
theorem t_dec {m : Nat} {Q : Int32 → HH → Prop} (hm : m < 17) (hQ : Q (nI ((m + 16) % 17)) h) : wp_J3_dec G h (nI m) (nI 17) Q := by
  unfold wp_J3_dec
  rcases Nat.eq_zero_or_pos m with q | q
  · subst q
    exact br_f (by decide) hQ
  · rw [t_m1 q]
    refine br_t (nI_pos' (by omega)) ?_
    rw [show (m + 16) % 17 = m - 1 by omega] at hQ
    exact hQ
theorem w_len6 {n : Nat} {f : Nat → Option Nat} {Q : Int32 → Prop} (h1 : h a = some (.inl (G.2.1 6, n, .inr (.inr (.inr (.inr f)))))) (h2 : Q (nI n)) : w_len G h a Q := Or.inl ⟨6, _, by decide, h1, h2⟩
theorem w_qst_of {i n : Nat} {x : Option Nat} {Q : HH → Prop} {f : Nat → Option Nat} (h1 : h a = some (.inl (G.2.1 6, n, .inr (.inr (.inr (.inr f)))))) (hi : i < n) (hn : n < 2 ^ 31) (hx : ∀ y, x = some y → ∃ e, h y = some e ∧ hv_ob G e) (h3 : Q (va_up h a (some (.inl (G.2.1 6, n, .inr (.inr (.inr (.inr (va_up f i x))))))))) : w_qst G h a (nI i) x Q := ⟨n, f, h1, vp_in_nI hi hn, hx, by rw [nI_clamp (by omega)]; exact h3⟩
theorem q_f_ne {α : Type} {f : Nat → Option α} {i j : Nat} {x : Option α} (hn : j ≠ i) : va_up f i x j = f j := by simp [va_up, hn]
theorem q_f_same {α : Type} {f : Nat → Option α} {i : Nat} {x : Option α} : va_up f i x i = x := by simp [va_up]
theorem sp_J3_addLast {x mc ms : Nat} {Q : HH → Prop} (hd : q_dq G h a arr xs) (hx : ∃ e, h x = some e ∧ hv_ob G e) (hn : xs.length < 8) (hQ : ∀ h', (∀ c, c ≠ a → c ≠ arr → h' c = h c) → q_dq G h' a arr (xs ++ [x]) → Q h') : wp_J3_addLast G mc ms h a (some x) Q := by
  have hne := hd.ne
  obtain ⟨d, f, h1, h2, ha, hb, hf⟩ := hd
  unfold wp_J3_addLast
  refine ⟨fun z => (by cases z), fun a1 z => ?_⟩
  cases z
  refine w_geta_of ha rfl <| w_geti_of ha rfl <| w_nn_of <| w_qst_of hb (Nat.mod_lt _ (by decide)) (by decide) (fun y hy => by cases hy; exact hx) ?_
  have ha1 := (q_h_ne (h := h) (e := some (.inl (G.2.1 6, 17, .inr (.inr (.inr (.inr (va_up f ((d + xs.length) % 17) (some x)))))))) hne).trans ha
  refine w_geti_of ha1 rfl <| w_geti_of ha1 rfl <| w_len6 q_h_same <| t_inc (Nat.mod_lt _ (by decide)) ?_
  refine w_put_of ha1 (Nat.le_of_ble_eq_true rfl) rfl ⟨fun _ => ?_, fun z => ?_⟩
  · refine hQ _ (fun c c1 c2 => by rw [q_h_ne c1, q_h_ne c2]) ⟨d, va_up f ((d + xs.length) % 17) (some x), h1, by rw [List.length_append, List.length_singleton]; omega, ?_, (q_h_ne (Ne.symm hne)).trans q_h_same, fun i hi => ?_⟩
    · rw [q_h_same, List.length_append, List.length_singleton, show ((d + xs.length) % 17 + 1) % 17 = (d + (xs.length + 1)) % 17 by omega]
      rfl
    · rw [List.length_append, List.length_singleton] at hi
      rcases Nat.lt_or_ge i xs.length with q | q
      · rw [q_f_ne (by omega), hf i q, List.getElem?_append_left q]
      · have : i = xs.length := by omega
        subst this
        rw [q_f_same, List.getElem?_append_right (Nat.le_refl _), Nat.sub_self]
        rfl
  · have := (nI_eq (by omega) (by omega)).mp z
    omega
theorem sp_J3_removeFirst {x : Nat} {Q : Option Nat → HH → Prop} (hd : q_dq G h a arr (x :: xs)) (hQ : ∀ h', (∀ c, c ≠ a → c ≠ arr → h' c = h c) → q_dq G h' a arr xs → Q (some x) h') : wp_J3_removeFirst G h a Q := by
  have hne := hd.ne
  obtain ⟨d, f, h1, h2, ha, hb, hf⟩ := hd
  unfold wp_J3_removeFirst
  refine w_is_of ha ?_
  unfold wp_J3_pollFirst wp_J3_elementAt
  have hf0 : f d = some x := by
    have := hf 0 (by simp)
    rw [Nat.add_zero, Nat.mod_eq_of_lt h1] at this
    exact this
  refine w_geta_of ha rfl <| w_geti_of ha rfl <| w_nn_of <| w_qld_of hb h1 (by decide) ?_
  rw [hf0]
  refine ⟨fun z => (by cases z), fun a5 z => ?_⟩
  cases z
  refine w_nn_of <| w_qst_of hb h1 (by decide) (fun y hy => by cases hy) <| w_len6 q_h_same <| t_inc h1 ?_
  refine w_put_of ((q_h_ne hne).trans ha) (Nat.le_of_ble_eq_true rfl) rfl ⟨fun z => (by cases z), fun a6 z => ?_⟩
  cases z
  rw [List.length_cons] at h2
  refine hQ _ (fun c c1 c2 => by rw [q_h_ne c1, q_h_ne c2]) ⟨(d + 1) % 17, va_up f d none, Nat.mod_lt _ (by decide), by omega, ?_, (q_h_ne (Ne.symm hne)).trans q_h_same, fun i hi => ?_⟩
  · rw [q_h_same, List.length_cons, show (d + (xs.length + 1)) % 17 = ((d + 1) % 17 + xs.length) % 17 by omega]
    rfl
  · have := hf (i + 1) (by rw [List.length_cons]; omega)
    rw [List.getElem?_cons_succ] at this
    rw [q_f_ne (by omega), show ((d + 1) % 17 + i) % 17 = (d + (i + 1)) % 17 by omega, this]
theorem sp_J3_removeLast {x : Nat} {Q : Option Nat → HH → Prop} (hd : q_dq G h a arr (xs ++ [x])) (hQ : ∀ h', (∀ c, c ≠ a → c ≠ arr → h' c = h c) → q_dq G h' a arr xs → Q (some x) h') : wp_J3_removeLast G h a Q := by
  have hne := hd.ne
  obtain ⟨d, f, h1, h2, ha, hb, hf⟩ := hd
  rw [List.length_append, List.length_singleton] at h2 ha
  unfold wp_J3_removeLast
  refine w_is_of ha ?_
  unfold wp_J3_pollLast wp_J3_elementAt
  have hf0 : f ((d + xs.length) % 17) = some x := by
    rw [hf xs.length (by simp), List.getElem?_append_right (Nat.le_refl _), Nat.sub_self]
    rfl
  refine w_geta_of ha rfl <| w_geti_of ha rfl <| w_nn_of <| w_len6 hb ?_
  refine t_dec (Nat.mod_lt _ (by decide)) ?_
  rw [show ((d + (xs.length + 1)) % 17 + 16) % 17 = (d + xs.length) % 17 by omega]
  refine w_nn_of <| w_qld_of hb (Nat.mod_lt _ (by decide)) (by decide) ?_
  rw [hf0]
  refine ⟨fun z => (by cases z), fun a5 z => ?_⟩
  cases z
  refine w_put_of ha (Nat.le_of_ble_eq_true rfl) rfl <| w_qst_of ((q_h_ne (Ne.symm hne)).trans hb) (Nat.mod_lt _ (by decide)) (by decide) (fun y hy => by cases hy) ⟨fun z => (by cases z), fun a6 z => ?_⟩
  cases z
  refine hQ _ (fun c c1 c2 => by rw [q_h_ne c2, q_h_ne c1]) ⟨d, va_up f ((d + xs.length) % 17) none, h1, by omega, ?_, q_h_same, fun i hi => ?_⟩
  · rw [q_h_ne hne, q_h_same]
    rfl
  · have := hf i (by rw [List.length_append, List.length_singleton]; omega)
    rw [List.getElem?_append_left hi] at this
    rw [q_f_ne (by omega), this]
theorem sp_J3_clear_L12 {Q : HH → Prop} {e1 : Nat} : ∀ (n i b3 : Nat) (h1 : HH) (f : Nat → Option Nat), h1 arr = some (.inl (G.2.1 6, 17, .inr (.inr (.inr (.inr f))))) → i ≤ 17 → b3 ≤ 17 → e1 ≤ 17 → (b3 = e1 ∨ b3 = 17) → (b3 - i) + (if b3 = e1 then 0 else e1 + 1) < n → (∀ h' f', (∀ c, c ≠ arr → h' c = h1 c) → h' arr = some (.inl (G.2.1 6, 17, .inr (.inr (.inr (.inr f'))))) → Q h') → wp_J3_circularClear_L12 G Q n h1 (some arr) (nI i) (nI e1) (nI b3) := by
  intro n
  induction n with
  | zero => intro i b3 h1 f _ _ _ _ _ hn; omega
  | succ n ih =>
    intro i b3 h1 f hb hi hb3 he hor hn hQ
    unfold wp_J3_circularClear_L12
    refine ⟨fun z => ⟨fun z2 => ?_, fun z2 => hQ h1 f (fun c _ => rfl) hb⟩, fun z => ?_⟩
    · have hne : ¬ b3 = e1 := fun q => z2 (by rw [q])
      rw [if_neg hne] at hn
      exact ih 0 e1 h1 f hb (by omega) he he (Or.inl rfl) (by rw [if_pos rfl]; omega) hQ
    · have hlt : i < b3 := by
        rcases Nat.lt_or_ge i b3 with q | q
        · exact q
        · exact absurd (nI_le q (by omega)) z
      refine w_nn_of <| w_qst_of hb (by omega) (by decide) (fun y hy => by cases hy) ?_
      rw [show (1 : Int32) = nI 1 from rfl, nI_add]
      exact ih (i + 1) b3 _ _ q_h_same (by omega) hb3 he hor (by omega) (fun h' f' hh hb' => hQ h' f' (fun c hc => by rw [hh c hc, q_h_ne hc]) hb')
theorem sp_J3_clear {Q : HH → Prop} (hd : q_dq G h a arr xs) (hQ : ∀ h', (∀ c, c ≠ a → c ≠ arr → h' c = h c) → q_dq G h' a arr [] → Q h') : wp_J3_clear G h a Q := by
  have hne := hd.ne
  obtain ⟨d, f, h1, h2, ha, hb, hf⟩ := hd
  unfold wp_J3_clear wp_J3_circularClear
  have hm := Nat.mod_lt (d + xs.length) (show 0 < 17 by decide)
  have fin : ∀ h' f', (∀ c, c ≠ arr → h' c = h c) → h' arr = some (.inl (G.2.1 6, 17, .inr (.inr (.inr (.inr f'))))) → w_put h' a 5 2 (.int (0 : Int32)) (fun h5 => w_put h5 a 5 1 (.int (0 : Int32)) (fun h6 => Q h6)) := by
    intro h' f' hh hb'
    refine w_put_of ((hh a hne).trans ha) (Nat.le_of_ble_eq_true rfl) rfl <| w_put_of q_h_same (Nat.le_of_ble_eq_true rfl) rfl ?_
    rw [q_h_up]
    exact hQ _ (fun c c1 c2 => by rw [q_h_ne c1, hh c c2]) ⟨0, f', by decide, by decide, q_h_same, (q_h_ne (Ne.symm hne)).trans hb', fun i hi => absurd hi (Nat.not_lt_zero _)⟩
  refine w_geta_of ha rfl <| w_geti_of ha rfl <| w_geti_of ha rfl ⟨fun z => w_nn_of <| w_len6 hb ⟨60, ?_⟩, fun z => ⟨60, ?_⟩⟩
  · refine sp_J3_clear_L12 60 d 17 h f hb (by omega) (by omega) (by omega) (Or.inr rfl) ?_ (fun h' f' hh hb' => fin h' f' hh hb')
    split <;> omega
  · exact sp_J3_clear_L12 60 d ((d + xs.length) % 17) h f hb (by omega) (by omega) (by omega) (Or.inl rfl) (by rw [if_pos rfl]; omega) (fun h' f' hh hb' => fin h' f' hh hb')
end DEQ
