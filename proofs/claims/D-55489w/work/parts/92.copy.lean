set_option maxRecDepth 100000
/-! lists with their capacity: what an add costs -/
def q_lsN (G : GG) (h : HH) (ρ : RO) (t : Nat × Nat) (a : Nat) (xs : List Nat) (N : Nat) : Prop :=
  ρ a = t ∧ xs.length < 10000 ∧ ∃ (mc : Int32) (arr : Nat), h a = some (.inr (4, [.int mc, .ref arr, .int (nI xs.length)])) ∧ ((arr = G.2.2 0 ∧ xs = [] ∧ N = 0) ∨ (ρ arr = (t.1, t.2 + 1) ∧ ∃ f, h arr = some (.inl (G.2.1 6, N, .inr (.inr (.inr (.inr f))))) ∧ xs.length ≤ N ∧ 0 < N ∧ N < 10000 ∧ ∀ i, i < xs.length → f i = xs[i]?))
theorem q_lsN.ls {G : GG} {h : HH} {ρ : RO} {t : Nat × Nat} {a N : Nat} {xs : List Nat} (hl : q_lsN G h ρ t a xs N) : q_ls G h ρ t a xs := by
  obtain ⟨h1, h2, mc, arr, h3, h4⟩ := hl
  refine ⟨h1, h2, mc, arr, h3, ?_⟩
  rcases h4 with ⟨e1, e2, -⟩ | ⟨e1, f, e2, e3, e4, e5, e6⟩
  · exact Or.inl ⟨e1, e2⟩
  · exact Or.inr ⟨e1, N, f, e2, e3, e4, e5, e6⟩
def a_cap (n N : Nat) : Nat := if N = 0 then 10 else if n < N then N else N + max 1 (N / 2)
def a_cost (n N : Nat) : Nat := if N = 0 then 10 else if n < N then 0 else N + max 1 (N / 2)
theorem sp_J2_addN {G : GG} {h : HH} {ρ : RO} {t : Nat × Nat} {a x1 mc ms N : Nat} {xs : List Nat} {Q : Int32 → HH → Prop} (hl : q_lsN G h ρ t a xs N) (hx : ∃ e, h x1 = some e ∧ hv_ob G e) (hel : ∀ y ∈ xs, ∃ e, h y = some e ∧ hv_ob G e) (hc : 1 ≤ mc) (hs : a_cost xs.length N ≤ ms) (hn : xs.length < 4000)
    (hQ : ∀ h' ρ', q_dm h h' → q_ex h ρ ρ' → q_fr (fun r => r = t ∨ r = (t.1, t.2 + 1)) h ρ h' → (∀ c e, h' c = some e → h c = none → ρ' c = (t.1, t.2 + 1)) → q_lsN G h' ρ' t a (xs ++ [x1]) (a_cap xs.length N) → Q 1 h') : wp_J2_add G mc ms h a (some x1) Q := by
  obtain ⟨hr, -, mc0, arr, ha, hA⟩ := hl
  unfold wp_J2_add
  refine w_geti_of ha rfl (w_put_of ha (Nat.le_of_ble_eq_true rfl) rfl (w_geta_of q_h_same rfl (w_geti_of q_h_same rfl ⟨mc, ms, by omega, by omega, w_is_of q_h_same ?_⟩)))
  have hxne : ∀ {h2 : HH} {b : Nat} {e : va_E}, h b = some e → va_up h a (some (.inr (4, [.int (mc0 + 1), .ref arr, .int (nI xs.length)]))) b = some e ∨ b = a := by
    intro h2 b e hb
    by_cases z : b = a
    · exact Or.inr z
    · exact Or.inl (by rw [q_h_ne z]; exact hb)
  have hob1 : ∀ y e, h y = some e → hv_ob G e → ∃ e', va_up h a (some (.inr (4, [.int (mc0 + 1), .ref arr, .int (nI xs.length)]))) y = some e' ∧ hv_ob G e' := by
    intro y e hy ho
    by_cases z : y = a
    · subst z
      exact ⟨_, q_h_same, Or.inl ⟨4, _, by decide, rfl⟩⟩
    · exact ⟨e, by rw [q_h_ne z]; exact hy, ho⟩
  unfold wp_J2_add_2
  refine w_nn_of ?_
  rcases hA with ⟨rfl, rfl, rfl⟩ | ⟨har, f, hb, h2, h3, h4, h5⟩
  · have hs10 : 10 ≤ ms := hs
    refine Or.inr (Or.inl ⟨rfl, fun z => absurd rfl z, fun _ => ⟨mc, ms, by omega, by omega, w_is_of q_h_same ?_⟩⟩)
    unfold wp_J2_grow wp_J2_grow_2
    refine w_geti_of q_h_same rfl ⟨mc, ms, by omega, by omega, w_is_of q_h_same (w_geta_of q_h_same rfl (w_nn_of (Or.inr (Or.inl ⟨rfl, fun z => absurd z (by decide), fun _ => w_geta_of q_h_same rfl ⟨fun _ => ?_, fun z => absurd rfl z⟩⟩))))⟩
    have e10 : (if (10 : Int32) < nI ([] : List Nat).length + 1 then nI ([] : List Nat).length + 1 else (10 : Int32)) = nI 10 := by decide +kernel
    rw [e10]
    refine ⟨by decide +kernel, by decide +kernel, by omega, by rw [nI_clamp (by omega)]; omega, fun q hq => ?_⟩
    rw [nI_clamp (by omega)]
    have hqa : a ≠ q := q_new_ne hq (q_h_same)
    have hq0 : h q = none := by rw [q_h_ne (Ne.symm hqa)] at hq; exact hq
    refine w_put_of (by rw [q_h_ne hqa]; exact q_h_same) (Nat.le_of_ble_eq_true rfl) rfl (w_nn_of ?_)
    obtain ⟨ex, hx1, hx2⟩ := hx
    have hxq : x1 ≠ q := q_new_ne hq0 hx1
    refine ⟨10, _, by rw [q_h_ne (Ne.symm hqa), q_h_same], vp_in_nI (n := 0) (by omega) (by omega), fun y hy => ?_, ?_⟩
    · cases hy
      obtain ⟨e', he, ho⟩ := hob1 x1 ex hx1 hx2
      by_cases z : x1 = a
      · subst z
        exact ⟨_, q_h_same, Or.inl ⟨4, _, by decide, rfl⟩⟩
      · exact ⟨e', by rw [q_h_ne z, q_h_ne hxq]; exact he, ho⟩
    · refine w_put_of (by rw [q_h_ne hqa]; exact q_h_same) (Nat.le_of_ble_eq_true rfl) rfl (hQ _ (q_up ρ q (t.1, t.2 + 1)) (by repeat' first | exact q_dm.rf | apply q_dm.up) ?_ ?_ (fun c e hc hn => by
            by_cases z : c = q
            · rw [z]; exact q_up_same
            · exfalso
              by_cases z2 : c = a
              · rw [z2, ha] at hn; cases hn
              · simp only [va_up, if_neg z, if_neg z2] at hc
                rw [hn] at hc; cases hc) ?_)
      · intro b e hb
        exact q_up_ne (q_new_ne hq0 hb)
      · intro b e hb hW
        have b1 : b ≠ a := fun z => hW (Or.inl (by rw [z]; exact hr))
        have b2 : b ≠ q := q_new_ne hq0 hb
        rw [q_h_ne b1, q_h_ne b2, q_h_ne b1, q_h_ne b2, q_h_ne b1]
        exact hb
      · refine ⟨by rw [q_up_ne hqa]; exact hr, by simp, _, q, q_h_same, Or.inr ⟨q_up_same, _, by rw [q_h_ne (Ne.symm hqa), q_h_same]; rfl, by simp [a_cap], by simp [a_cap], by simp [a_cap], ?_⟩⟩
        intro i hi
        have : i = 0 := by simp at hi; omega
        subst this
        rfl
  · have hne : arr ≠ a := q_ro_ne har hr (by intro z; have := congrArg Prod.snd z; simp at this)
    have hb2 : va_up h a (some (.inr (4, [.int (mc0 + 1), .ref arr, .int (nI xs.length)]))) arr = some (.inl (G.2.1 6, N, .inr (.inr (.inr (.inr f))))) := by rw [q_h_ne hne]; exact hb
    refine Or.inl ⟨6, _, by decide, hb2, ?_⟩
    show (¬ nI xs.length = nI N → _) ∧ (nI xs.length = nI N → _)
    refine ⟨fun z => ?_, fun z => ?_⟩
    · have hlt : xs.length < N := by
        rcases Nat.lt_or_ge xs.length N with q | q
        · exact q
        · exact absurd (by rw [show xs.length = N by omega]) z
      have hcapN : a_cap xs.length N = N := by
        unfold a_cap
        rw [if_neg (by omega), if_pos hlt]
      refine ⟨N, f, hb2, vp_in_nI hlt (by omega), fun y hy => ?_, ?_⟩
      · cases hy
        obtain ⟨ex, hx1, hx2⟩ := hx
        exact hob1 _ _ hx1 hx2
      · rw [nI_clamp (by omega)]
        refine w_put_of (by rw [q_h_ne (Ne.symm hne)]; exact q_h_same) (Nat.le_of_ble_eq_true rfl) rfl (hQ _ ρ (by repeat' first | exact q_dm.rf | apply q_dm.up) (fun _ _ _ => rfl) ?_ (fun c e hc hn => by
            exfalso
            by_cases z2 : c = a
            · rw [z2, ha] at hn; cases hn
            · by_cases z3 : c = arr
              · rw [z3, hb] at hn; cases hn
              · simp only [va_up, if_neg z3, if_neg z2] at hc
                rw [hn] at hc; cases hc) ?_)
        · intro b e hb9 hW
          have b1 : b ≠ a := fun z => hW (Or.inl (by rw [z]; exact hr))
          have b2 : b ≠ arr := fun z => hW (Or.inr (by rw [z]; exact har))
          rw [q_h_ne b1, q_h_ne b2, q_h_ne b1]
          exact hb9
        · refine ⟨hr, by rw [List.length_append]; simp; omega, _, arr, by rw [q_h_same, List.length_append, show [x1].length = 1 from rfl, ← nI_1]; rfl, Or.inr ⟨har, _, by rw [q_h_ne hne, q_h_same, hcapN], by rw [List.length_append, hcapN]; simp; omega, by rw [hcapN]; exact h3, by rw [hcapN]; exact h4, q_ar_put h5⟩⟩
    · have hN : xs.length = N := (nI_eq (by omega) (by omega)).mp z
      subst hN
      have hcapG : a_cap xs.length xs.length = xs.length + max 1 (xs.length / 2) := by
        unfold a_cap
        rw [if_neg (by omega), if_neg (by omega)]
      have hcost : a_cost xs.length xs.length = xs.length + max 1 (xs.length / 2) := by
        unfold a_cost
        rw [if_neg (by omega), if_neg (by omega)]
      rw [hcost] at hs
      rw [hcapG] at hQ
      refine ⟨mc, ms, by omega, by omega, w_is_of q_h_same ?_⟩
      unfold wp_J2_grow wp_J2_grow_2
      refine w_geti_of q_h_same rfl ⟨mc, ms, by omega, by omega, w_is_of q_h_same (w_geta_of q_h_same rfl (w_nn_of (Or.inl ⟨6, _, by decide, hb2, ?_⟩)))⟩
      show (0 < nI xs.length → _) ∧ (¬ 0 < nI xs.length → _)
      refine ⟨fun _ => ?_, fun z => absurd (by have := nI_lt h3 (show xs.length < 2 ^ 31 by omega); rw [nI_0] at this; exact this) z⟩
      unfold wp_J2_grow_2_L20
      show wp_J17_newLength G _ (nI xs.length) (nI xs.length + 1 - nI xs.length) (nI xs.length >>> ((1 : Int32) &&& 31)) _
      rw [nI_half (by omega), nI_1, pk_sub (show xs.length ≤ xs.length + 1 by omega), show xs.length + 1 - xs.length = 1 by omega]
      refine sp_J17_newLength (by omega) (by omega) (w_geta_of q_h_same rfl ⟨mc, ms, by omega, by omega, ?_⟩)
      refine sp_J18_copyOf hb2 (by omega) (by omega) (by omega) (by omega) (fun i hi y hy => ?_) (fun q hq => ?_)
      · rw [h5 i hi] at hy
        obtain ⟨e1, he, ho⟩ := hel y (List.mem_of_getElem? hy)
        exact hob1 _ _ he ho
      · have hqa : a ≠ q := q_new_ne hq q_h_same
        have hq0 : h q = none := by rw [q_h_ne (Ne.symm hqa)] at hq; exact hq
        refine w_put_of (by rw [q_h_ne hqa]; exact q_h_same) (Nat.le_of_ble_eq_true rfl) rfl (w_nn_of ?_)
        obtain ⟨ex, hx1, hx2⟩ := hx
        have hxq : x1 ≠ q := q_new_ne hq0 hx1
        refine ⟨_, _, by rw [q_h_ne (Ne.symm hqa), q_h_same], vp_in_nI (by omega) (by omega), fun y hy => ?_, ?_⟩
        · cases hy
          obtain ⟨e', he, ho⟩ := hob1 x1 ex hx1 hx2
          by_cases z : x1 = a
          · subst z
            exact ⟨_, q_h_same, Or.inl ⟨4, _, by decide, rfl⟩⟩
          · exact ⟨e', by rw [q_h_ne z, q_h_ne hxq]; exact he, ho⟩
        · rw [nI_clamp (by omega)]
          refine w_put_of (by rw [q_h_ne hqa]; exact q_h_same) (Nat.le_of_ble_eq_true rfl) rfl (hQ _ (q_up ρ q (t.1, t.2 + 1)) (by repeat' first | exact q_dm.rf | apply q_dm.up) ?_ ?_ (fun c e hc hn => by
            by_cases z : c = q
            · rw [z]; exact q_up_same
            · exfalso
              by_cases z2 : c = a
              · rw [z2, ha] at hn; cases hn
              · simp only [va_up, if_neg z, if_neg z2] at hc
                rw [hn] at hc; cases hc) ?_)
          · intro b e hb9
            exact q_up_ne (q_new_ne hq0 hb9)
          · intro b e hb9 hW
            have b1 : b ≠ a := fun z => hW (Or.inl (by rw [z]; exact hr))
            have b2 : b ≠ q := q_new_ne hq0 hb9
            rw [q_h_ne b1, q_h_ne b2, q_h_ne b1, q_h_ne b2, q_h_ne b1]
            exact hb9
          · refine ⟨by rw [q_up_ne hqa]; exact hr, by rw [List.length_append]; simp; omega, _, q, by rw [q_h_same, List.length_append, show [x1].length = 1 from rfl, ← nI_1]; rfl, Or.inr ⟨q_up_same, _, by rw [q_h_ne (Ne.symm hqa), q_h_same], by rw [List.length_append]; simp; omega, by omega, by omega, q_ar_put (fun i hi => by rw [if_pos hi]; exact h5 i hi)⟩⟩
def a_inv (j N : Nat) : Prop := (N = 0 ∧ j = 0) ∨ (1 ≤ j ∧ 10 ≤ N ∧ j ≤ N ∧ (N = 10 ∨ 2 * N ≤ 3 * j))
theorem a_inv.step {j N : Nat} (h : a_inv j N) : a_inv (j + 1) (a_cap j N) ∧ a_cost j N + 4 * N ≤ 4 * a_cap j N := by
  unfold a_inv a_cap a_cost at *
  rcases h with ⟨rfl, rfl⟩ | ⟨h1, h2, h3, h4⟩
  · exact ⟨Or.inr (by simp), by simp⟩
  · have hN : N ≠ 0 := by omega
    simp only [if_neg hN]
    by_cases q : j < N
    · simp only [if_pos q]
      exact ⟨Or.inr ⟨by omega, h2, by omega, by omega⟩, by omega⟩
    · simp only [if_neg q]
      have : j = N := by omega
      subst this
      exact ⟨Or.inr ⟨by omega, by omega, by omega, by omega⟩, by omega⟩
theorem a_inv.le {j N : Nat} (h : a_inv j N) : 4 * N ≤ 6 * j + 40 := by
  unfold a_inv at h
  omega
section COPY
variable {G : GG} {h h' : HH} {ρ ρ' : RO} {k b w p t : Nat} {C : CC}
theorem q_lsN.kR {R : Nat × Nat → Prop} {t : Nat × Nat} {a N : Nat} {xs : List Nat} (hl : q_lsN G h ρ t a xs N) (hk : q_kR G R h ρ h' ρ') (h0 : R t) (h1 : R (t.1, t.2 + 1)) : q_lsN G h' ρ' t a xs N := by
  obtain ⟨hr, hlen, mc, arr, ha, hA⟩ := hl
  refine ⟨by rw [hk.1 a _ ha]; exact hr, hlen, mc, arr, hk.2 a _ ha (q_wl.ob (by decide)) (by rw [hr]; exact h0), ?_⟩
  rcases hA with ⟨e1, e2, e3⟩ | ⟨har, f, hb, h2, h3, h4, h5⟩
  · exact Or.inl ⟨e1, e2, e3⟩
  · exact Or.inr ⟨by rw [hk.1 arr _ hb]; exact har, f, hk.2 arr _ hb q_wl.ar (by rw [har]; exact h1), h2, h3, h4, h5⟩
/-- a fact that is being copied -/
def q_cf (G : GG) (h0 h : HH) (ρ0 ρ : RO) (k' n a1 l1 l2 : Nat) (F : Nat → Nat) (xs1 xs2 : List Nat) (N1 N2 : Nat) : Prop :=
  h a1 = some (.inr (14, q_fv F l1 l2)) ∧ ρ a1 = (k', 8 + 5 * n) ∧ q_lsN G h ρ (k', 8 + 5 * n + 1) l1 xs1 N1 ∧ q_lsN G h ρ (k', 8 + 5 * n + 3) l2 xs2 N2 ∧ q_sp q_no h0 h ∧ q_ex h0 ρ0 ρ ∧ ∀ c e, h c = some e → h0 c = none → ρ c = (9, 0) ∨ ∃ j, j < 5 ∧ ρ c = (k', 8 + 5 * n + j)
/-- an iterator comes, or goes on -/
theorem q_cf.nw {h0 : HH} {ρ0 : RO} {k' n a1 l1 l2 N1 N2 it : Nat} {F : Nat → Nat} {xs1 xs2 : List Nat} (hc : q_cf G h0 h ρ0 ρ k' n a1 l1 l2 F xs1 xs2 N1 N2) (hit : h it = none) (hh : ∀ c, c ≠ it → h' c = h c) : q_cf G h0 h' ρ0 (q_up ρ it (9, 0)) k' n a1 l1 l2 F xs1 xs2 N1 N2 := by
  obtain ⟨c1, c2, c3, c4, c5, c6, c7⟩ := hc
  have hk : q_kR G (fun _ => True) h ρ h' (q_up ρ it (9, 0)) := ⟨q_ex_up hit, fun c e hc0 _ _ => by rw [hh c (q_new_ne hit hc0)]; exact hc0⟩
  have hit0 : h0 it = none := q_sp_none c5 hit
  refine ⟨by rw [hh _ (q_new_ne hit c1)]; exact c1, by rw [q_up_ne (q_new_ne hit c1)]; exact c2, c3.kR hk trivial trivial, c4.kR hk trivial trivial, c5.tr (q_sp.nw hit hh), fun c e hc0 => ?_, fun c e hc0 hn => ?_⟩
  · rw [q_up_ne (q_new_ne hit0 hc0)]
    exact c6 c e hc0
  · by_cases z : c = it
    · exact Or.inl (by rw [z]; exact q_up_same)
    · rw [q_up_ne z]
      rw [hh c z] at hc0
      exact c7 c e hc0 hn
theorem q_cf.itn {h0 : HH} {ρ0 : RO} {k' n a1 l1 l2 N1 N2 it j a : Nat} {F : Nat → Nat} {xs1 xs2 : List Nat} (hc : q_cf G h0 h ρ0 ρ k' n a1 l1 l2 F xs1 xs2 N1 N2) (hit0 : h0 it = none) (hit : ρ it = (9, 0)) (hk' : 10 ≤ k') (hi : q_it h a it j) (hh : ∀ c, c ≠ it → h' c = h c) : q_cf G h0 h' ρ0 ρ k' n a1 l1 l2 F xs1 xs2 N1 N2 := by
  obtain ⟨c1, c2, c3, c4, c5, c6, c7⟩ := hc
  have hk : q_kR G (fun r => r ≠ (9, 0)) h ρ h' ρ := ⟨fun _ _ _ => rfl, fun c e hc0 _ hr => by rw [hh c (fun z => hr (by rw [z]; exact hit))]; exact hc0⟩
  have hne : ∀ j, ((k', j) : Nat × Nat) ≠ (9, 0) := fun j z => by have := congrArg Prod.fst z; simp only at this; omega
  refine ⟨by rw [hh _ (fun z => by rw [z, hit] at c2; exact hne _ c2.symm)]; exact c1, c2, c3.kR hk (hne _) (hne _), c4.kR hk (hne _) (hne _), c5.nx hit0 hh, c6, fun c e hc0 hn => ?_⟩
  by_cases z : c = it
  · exact Or.inl (by rw [z]; exact hit)
  · rw [hh c z] at hc0
    exact c7 c e hc0 hn
theorem q_cf.add1 {h0 : HH} {ρ0 : RO} {k' n a1 l1 l2 N1 N2 fd mc ms : Nat} {F : Nat → Nat} {xs1 xs2 : List Nat} {Q : Int32 → HH → Prop} (hc : q_cf G h0 h ρ0 ρ k' n a1 l1 l2 F xs1 xs2 N1 N2) (hfree : ∀ c e, h0 c = some e → ∀ j, j < 5 → ρ0 c ≠ (k', 8 + 5 * n + j)) (hfd : ∃ e, h0 fd = some e ∧ hv_ob G e) (hel : ∀ z ∈ xs1, ∃ e, h0 z = some e ∧ hv_ob G e) (hm : 1 ≤ mc) (hs : a_cost xs1.length N1 ≤ ms) (hn : xs1.length < 4000)
    (hQ : ∀ h2 ρ2, q_cf G h0 h2 ρ0 ρ2 k' n a1 l1 l2 F (xs1 ++ [fd]) xs2 (a_cap xs1.length N1) N2 → q_dm h h2 → q_ex h ρ ρ2 → q_sp (fun c => (ρ c).1 = k') h h2 → Q 1 h2) : wp_J2_add G mc ms h l1 (some fd) Q := by
  obtain ⟨c1, c2, c3, c4, c5, c6, c7⟩ := hc
  have up : ∀ {z : Nat}, (∃ e, h0 z = some e ∧ hv_ob G e) → ∃ e, h z = some e ∧ hv_ob G e := fun ⟨e, h1, h2⟩ => ⟨e, c5 _ e h1 q_no.not, h2⟩
  refine sp_J2_addN c3 (up hfd) (fun z hz => up (hel z hz)) hm hs hn (fun h2 ρ2 hdm hex hfr hnw hl => hQ h2 ρ2 ?_ hdm hex (fun c e hc0 hS => hfr c e hc0 (fun z => hS (by dsimp only; rcases z with z | z <;> rw [z]))))
  have hne : ∀ j, j ≠ 1 → j ≠ 2 → ¬ ((k', 8 + 5 * n + j) = ((k', 8 + 5 * n + 1) : Nat × Nat) ∨ (k', 8 + 5 * n + j) = ((k', 8 + 5 * n + 1 + 1) : Nat × Nat)) := fun j h1 h2 z => by
    rcases z with z | z <;> have := congrArg Prod.snd z <;> simp only at this <;> omega
  have hkR : q_kR G (fun r => ¬ (r = (k', 8 + 5 * n + 1) ∨ r = (k', 8 + 5 * n + 1 + 1))) h ρ h2 ρ2 := ⟨hex, fun c e hc0 _ hr => hfr c e hc0 hr⟩
  refine ⟨hkR.2 _ _ c1 (q_wl.ob (by decide)) (by rw [c2]; exact hne 0 (by decide) (by decide)), by rw [hex _ _ c1]; exact c2, hl, c4.kR hkR (hne 3 (by decide) (by decide)) (hne 4 (by decide) (by decide)), fun c e hc0 _ => hfr c e (c5 c e hc0 q_no.not) (fun z => ?_), fun c e hc0 => by rw [hex c e (c5 c e hc0 q_no.not)]; exact c6 c e hc0, fun c e hc0 hn => ?_⟩
  · rw [c6 c e hc0] at z
    rcases z with z | z
    · exact hfree c e hc0 1 (by decide) z
    · exact hfree c e hc0 2 (by decide) z
  · cases e1 : h c with
    | none => exact Or.inr ⟨2, by decide, hnw c e hc0 e1⟩
    | some e' =>
      rw [hex c e' e1]
      exact c7 c e' e1 hn
theorem q_cf.add2 {h0 : HH} {ρ0 : RO} {k' n a1 l1 l2 N1 N2 fd mc ms : Nat} {F : Nat → Nat} {xs1 xs2 : List Nat} {Q : Int32 → HH → Prop} (hc : q_cf G h0 h ρ0 ρ k' n a1 l1 l2 F xs1 xs2 N1 N2) (hfree : ∀ c e, h0 c = some e → ∀ j, j < 5 → ρ0 c ≠ (k', 8 + 5 * n + j)) (hfd : ∃ e, h0 fd = some e ∧ hv_ob G e) (hel : ∀ z ∈ xs2, ∃ e, h0 z = some e ∧ hv_ob G e) (hm : 1 ≤ mc) (hs : a_cost xs2.length N2 ≤ ms) (hn : xs2.length < 4000)
    (hQ : ∀ h2 ρ2, q_cf G h0 h2 ρ0 ρ2 k' n a1 l1 l2 F xs1 (xs2 ++ [fd]) N1 (a_cap xs2.length N2) → q_dm h h2 → q_ex h ρ ρ2 → q_sp (fun c => (ρ c).1 = k') h h2 → Q 1 h2) : wp_J2_add G mc ms h l2 (some fd) Q := by
  obtain ⟨c1, c2, c3, c4, c5, c6, c7⟩ := hc
  have up : ∀ {z : Nat}, (∃ e, h0 z = some e ∧ hv_ob G e) → ∃ e, h z = some e ∧ hv_ob G e := fun ⟨e, h1, h2⟩ => ⟨e, c5 _ e h1 q_no.not, h2⟩
  refine sp_J2_addN c4 (up hfd) (fun z hz => up (hel z hz)) hm hs hn (fun h2 ρ2 hdm hex hfr hnw hl => hQ h2 ρ2 ?_ hdm hex (fun c e hc0 hS => hfr c e hc0 (fun z => hS (by dsimp only; rcases z with z | z <;> rw [z]))))
  have hne : ∀ j, j ≠ 3 → j ≠ 4 → ¬ ((k', 8 + 5 * n + j) = ((k', 8 + 5 * n + 3) : Nat × Nat) ∨ (k', 8 + 5 * n + j) = ((k', 8 + 5 * n + 3 + 1) : Nat × Nat)) := fun j h1 h2 z => by
    rcases z with z | z <;> have := congrArg Prod.snd z <;> simp only at this <;> omega
  have hkR : q_kR G (fun r => ¬ (r = (k', 8 + 5 * n + 3) ∨ r = (k', 8 + 5 * n + 3 + 1))) h ρ h2 ρ2 := ⟨hex, fun c e hc0 _ hr => hfr c e hc0 hr⟩
  refine ⟨hkR.2 _ _ c1 (q_wl.ob (by decide)) (by rw [c2]; exact hne 0 (by decide) (by decide)), by rw [hex _ _ c1]; exact c2, c3.kR hkR (hne 1 (by decide) (by decide)) (hne 2 (by decide) (by decide)), hl, fun c e hc0 _ => hfr c e (c5 c e hc0 q_no.not) (fun z => ?_), fun c e hc0 => by rw [hex c e (c5 c e hc0 q_no.not)]; exact c6 c e hc0, fun c e hc0 hn => ?_⟩
  · rw [c6 c e hc0] at z
    rcases z with z | z
    · exact hfree c e hc0 3 (by decide) z
    · exact hfree c e hc0 4 (by decide) z
  · cases e1 : h c with
    | none => exact Or.inr ⟨4, by decide, hnw c e hc0 e1⟩
    | some e' =>
      rw [hex c e' e1]
      exact c7 c e' e1 hn
theorem sp_X10_copy {mc ms k' : Nat} {y : CF} {Q : Option Nat → HH → Prop} (hy : q_ft G h ρ k y) (hkk : k ≠ k') (hn : y.2.1 0 < 2 ^ 31) (hkd : y.2.1 1 < 65536) (h4 : y.2.1 4 ≤ 1) (hk' : 10 ≤ k') (hfree : ∀ c e, h c = some e → ∀ j, j < 5 → ρ c ≠ (k', 8 + 5 * y.2.1 0 + j)) (hl1 : y.2.2.1.length < 3999) (hl2 : y.2.2.2.length < 3999)
    (hmc : 5 + y.2.2.1.length + y.2.2.2.length ≤ mc) (hms : 103 + 6 * y.2.2.1.length + 6 * y.2.2.2.length ≤ ms)
    (hQ : ∀ h' ρ' a', h a' = none → q_sp q_no h h' → q_ex h ρ ρ' → (∀ c e, h' c = some e → h c = none → ρ' c = (9, 0) ∨ ∃ j, j < 5 ∧ ρ' c = (k', 8 + 5 * y.2.1 0 + j)) → q_ft G h' ρ' k' (a', y.2) → Q (some a') h') : wp_X10_copy G mc ms h y.1 Q := by
  obtain ⟨hry, lr, lf, hcy, ⟨xs, r1, r2, r3⟩, ⟨ys, s1, s2, s3⟩⟩ := hy
  obtain ⟨fsr, ror⟩ := r1.ob
  obtain ⟨fsf, rof⟩ := s1.ob
  unfold wp_X10_copy
  refine ⟨by omega, by omega, fun a1 ha1 => ?_⟩
  have ney : y.1 ≠ a1 := q_new_ne ha1 hcy
  have hcy1 : va_up h a1 (some (.inr (14, df_X10))) y.1 = some (.inr (14, q_fv y.2.1 lr lf)) := by rw [q_h_ne ney]; exact hcy
  refine w_geti_of hcy1 rfl <| w_geti_of hcy1 rfl <| w_geti_of hcy1 rfl <| w_geti_of hcy1 rfl <| w_getf_of hcy1 rfl <| w_geti_of hcy1 rfl ⟨2, 6, by omega, by omega, sp_X10_init (by omega) (by omega) q_h_same hkd (fun h2 l1 l2 hl1n hl2n n12 hh hca hcl1 hcl2 => ?_)⟩
  have na1 : a1 ≠ l1 := q_new_ne hl1n q_h_same
  have na2 : a1 ≠ l2 := q_new_ne hl2n q_h_same
  have hl10 : h l1 = none := by rw [q_h_ne (Ne.symm na1)] at hl1n; exact hl1n
  have hl20 : h l2 = none := by rw [q_h_ne (Ne.symm na2)] at hl2n; exact hl2n
  have hh2 : ∀ c e, h c = some e → h2 c = some e := fun c e hc => by
    rw [hh c (q_new_ne ha1 hc) (q_new_ne hl10 hc) (q_new_ne hl20 hc), q_h_ne (q_new_ne ha1 hc)]
    exact hc
  have hbool : narrow .boolean (.int (nI (y.2.1 4))) = .int (nI (y.2.1 4)) ∧ fits .boolean (.int (nI (y.2.1 4))) = true := by
    rcases Nat.lt_or_ge (y.2.1 4) 1 with q | q
    · rw [show y.2.1 4 = 0 by omega]; exact ⟨rfl, rfl⟩
    · rw [show y.2.1 4 = 1 by omega]; exact ⟨rfl, rfl⟩
  refine w_geti_of (hh2 _ _ hcy) rfl ⟨hbool, w_put_of hca (Nat.le_of_ble_eq_true rfl) rfl ?_⟩
  -- the state
  let n := y.2.1 0
  let ρ1 : RO := q_up (q_up (q_up ρ a1 (k', 8 + 5 * n)) l1 (k', 8 + 5 * n + 1)) l2 (k', 8 + 5 * n + 3)
  have hρ1 : ∀ c e, h c = some e → ρ1 c = ρ c := fun c e hc => by
    show q_up (q_up (q_up ρ a1 _) l1 _) l2 _ c = _
    rw [q_up_ne (q_new_ne hl20 hc), q_up_ne (q_new_ne hl10 hc), q_up_ne (q_new_ne ha1 hc)]
  have ra : ρ1 a1 = (k', 8 + 5 * n) := by
    show q_up (q_up (q_up ρ a1 _) l1 _) l2 _ a1 = _
    rw [q_up_ne na2, q_up_ne na1, q_up_same]
  have rl1 : ρ1 l1 = (k', 8 + 5 * n + 1) := by
    show q_up (q_up (q_up ρ a1 _) l1 _) l2 _ l1 = _
    rw [q_up_ne n12, q_up_same]
  have rl2 : ρ1 l2 = (k', 8 + 5 * n + 3) := q_up_same
  have hcf : q_cf G h (va_up h2 a1 (some (.inr (14, q_fv y.2.1 l1 l2)))) ρ ρ1 k' n a1 l1 l2 y.2.1 [] [] 0 0 := by
    refine ⟨q_h_same, ra, ⟨rl1, by decide, 0, _, by rw [q_h_ne (Ne.symm na1)]; exact hcl1, Or.inl ⟨rfl, rfl, rfl⟩⟩, ⟨rl2, by decide, 0, _, by rw [q_h_ne (Ne.symm na2)]; exact hcl2, Or.inl ⟨rfl, rfl, rfl⟩⟩, fun c e hc _ => by rw [q_h_ne (q_new_ne ha1 hc)]; exact hh2 c e hc, hρ1, fun c e hc hn => ?_⟩
    by_cases z1 : c = a1
    · exact Or.inr ⟨0, by decide, by rw [z1]; exact ra⟩
    · by_cases z2 : c = l1
      · exact Or.inr ⟨1, by decide, by rw [z2]; exact rl1⟩
      · by_cases z3 : c = l2
        · exact Or.inr ⟨3, by decide, by rw [z3]; exact rl2⟩
        · rw [q_h_ne z1, hh c z1 z2 z3, q_h_ne z1, hn] at hc
          cases hc
  have obx : ∀ z ∈ xs, ∃ e, h z = some e ∧ hv_ob G e := fun z hz => by
    obtain ⟨i, hi⟩ := List.getElem?_of_mem hz
    have hlt := (List.getElem?_eq_some_iff.mp hi).1
    have := r3 i z _ hi (List.getElem?_eq_getElem (show i < y.2.2.1.length by omega))
    exact ⟨_, this.2, Or.inl ⟨16, _, by decide, rfl⟩⟩
  have oby : ∀ z ∈ ys, ∃ e, h z = some e ∧ hv_ob G e := fun z hz => by
    obtain ⟨i, hi⟩ := List.getElem?_of_mem hz
    have hlt := (List.getElem?_eq_some_iff.mp hi).1
    have := s3 i z _ hi (List.getElem?_eq_getElem (show i < y.2.2.2.length by omega))
    exact ⟨_, this.2, Or.inl ⟨16, _, by decide, rfl⟩⟩
  have kept : ∀ {h3 : HH}, q_sp q_no h h3 → q_ls G h3 ρ (k, 8 + 5 * y.2.1 0 + 1) lr xs ∧ q_ls G h3 ρ (k, 8 + 5 * y.2.1 0 + 3) lf ys := fun hs => ⟨r1.kp (q_no_kp hs) rfl, s1.kp (q_no_kp hs) rfl⟩
  -- the second list
  have loop2 : ∀ d j h3 ρ3 nc nk N1 N2 it, j + d = ys.length → q_cf G h h3 ρ ρ3 k' n a1 l1 l2 y.2.1 xs (ys.take j) N1 N2 → a_inv j N2 → q_it h3 lf it j → ρ3 it = (9, 0) → h it = none → nc + d ≤ mc → nk + 6 * ys.length + 40 ≤ ms + 4 * N2 →
      wp_X10_copy_L88 G mc ms y.1 Q (d + 1) h3 nc nk a1 (some it) := by
    intro d
    induction d with
    | zero =>
      intro j h3 ρ3 nc nk N1 N2 it hd hcf hin hi hit hit0 hnc hnk
      obtain ⟨c1, c2, c3, c4, c5, c6, c7⟩ := id hcf
      unfold wp_X10_copy_L88
      refine w_nn_of <| q_each (kept c5).2 hi (by omega) (fun _ => ?_) (fun x1 h' hx => ?_)
      · rw [List.take_of_length_le (by omega)] at c4
        refine hQ h3 ρ3 a1 ha1 c5 c6 c7 ⟨c2, l1, l2, c1, ⟨xs, c3.ls, r2, fun i x1 fi hx hf => ?_⟩, ⟨ys, c4.ls, s2, fun i x1 fi hx hf => ?_⟩⟩
        · have := r3 i x1 fi hx hf
          exact ⟨by rw [c6 _ _ this.2]; exact this.1, c5 _ _ this.2 q_no.not⟩
        · have := s3 i x1 fi hx hf
          exact ⟨by rw [c6 _ _ this.2]; exact this.1, c5 _ _ this.2 q_no.not⟩
      · have := (List.getElem?_eq_some_iff.mp hx).1
        omega
    | succ d ih =>
      intro j h3 ρ3 nc nk N1 N2 it hd hcf hin hi hit hit0 hnc hnk
      obtain ⟨c1, c2, c3, c4, c5, c6, c7⟩ := id hcf
      unfold wp_X10_copy_L88
      refine w_nn_of <| q_each (kept c5).2 hi (by omega) (fun z => by omega) (fun x1 h4 hx hh4 hi4 => ?_)
      have hcf4 := hcf.itn hit0 hit hk' hi hh4
      obtain ⟨d1, d2, d3, d4, d5, d6, d7⟩ := id hcf4
      have hlt := (List.getElem?_eq_some_iff.mp hx).1
      have hfx := s3 j x1 _ hx (List.getElem?_eq_getElem (show j < y.2.2.2.length by omega))
      have hobl : ∃ fs, h4 l2 = some (.inr (4, fs)) := d4.ls.ob
      obtain ⟨fsl, hobl⟩ := hobl
      have htl : (ys.take j).length = j := by rw [List.length_take]; omega
      have hst := hin.step
      have hle := hst.1.le
      refine w_cast_of (d5 _ _ hfx.2 q_no.not) <| w_geta_of d1 rfl <| w_nn_of ⟨1, a_cost j N2, by omega, by omega, w_is_of hobl ?_⟩
      refine hcf4.add2 hfree (oby x1 (List.mem_of_getElem? hx)) (fun z hz => oby z (List.mem_of_mem_take hz)) (by omega) (by rw [htl]; exact Nat.le_refl _) (by omega) ?_
      intro h5 ρ5 hcf5 hdm5 hex5 hs5
      rw [htl] at hcf5
      have e9 : ys.take j ++ [x1] = ys.take (j + 1) := by
        rw [List.take_add_one, hx]
        rfl
      rw [e9] at hcf5
      have hito : ∃ e, h4 it = some e := by
        obtain ⟨fs, ho⟩ := hi4.ob
        exact ⟨_, ho⟩
      obtain ⟨eit, hito⟩ := hito
      have hi5 : q_it h5 lf it (j + 1) := hi4.sp hs5 (fun z => by rw [hit] at z; simp only at z; omega) (fun z => by
        rw [c6 lf _ rof, s1.1] at z
        exact hkk z)
      exact ih (j + 1) h5 ρ5 _ _ N1 _ it (by omega) hcf5 hst.1 hi5 (by rw [hex5 it _ hito]; exact hit) hit0 (by omega) (by omega)
  -- the first list
  have loop1 : ∀ d j h3 ρ3 nc nk N1 it, j + d = xs.length → q_cf G h h3 ρ ρ3 k' n a1 l1 l2 y.2.1 (xs.take j) [] N1 0 → a_inv j N1 → q_it h3 lr it j → ρ3 it = (9, 0) → h it = none → nc + d + 1 + ys.length ≤ mc → nk + 6 * xs.length + 40 + 4 + 6 * ys.length + 40 ≤ ms + 4 * N1 →
      wp_X10_copy_L48 G mc ms y.1 Q (d + 1) h3 nc nk a1 (some it) := by
    intro d
    induction d with
    | zero =>
      intro j h3 ρ3 nc nk N1 it hd hcf hin hi hit hit0 hnc hnk
      obtain ⟨c1, c2, c3, c4, c5, c6, c7⟩ := id hcf
      have hle := hin.le
      unfold wp_X10_copy_L48
      refine w_nn_of <| q_each (kept c5).1 hi (by omega) (fun _ => ?_) (fun x1 h' hx => ?_)
      · rw [List.take_of_length_le (by omega)] at hcf
        refine w_geta_of (c5 _ _ hcy q_no.not) rfl <| w_nn_of ⟨1, 4, by omega, by omega, w_is_of (c5 _ _ rof q_no.not) <| sp_J2_iterator (kept c5).2 (by omega) (by omega) (fun it2 h4 hit2 hh4 hi4 => ?_)⟩
        exact ⟨_, loop2 ys.length 0 h4 _ (nc + 1) (nk + 4) N1 0 it2 (by omega) (hcf.nw hit2 hh4) (Or.inl ⟨rfl, rfl⟩) hi4 q_up_same (q_sp_none c5 hit2) (by omega) (by omega)⟩
      · have := (List.getElem?_eq_some_iff.mp hx).1
        omega
    | succ d ih =>
      intro j h3 ρ3 nc nk N1 it hd hcf hin hi hit hit0 hnc hnk
      obtain ⟨c1, c2, c3, c4, c5, c6, c7⟩ := id hcf
      unfold wp_X10_copy_L48
      refine w_nn_of <| q_each (kept c5).1 hi (by omega) (fun z => by omega) (fun x1 h4 hx hh4 hi4 => ?_)
      have hcf4 := hcf.itn hit0 hit hk' hi hh4
      obtain ⟨d1, d2, d3, d4, d5, d6, d7⟩ := id hcf4
      have hlt := (List.getElem?_eq_some_iff.mp hx).1
      have hfx := r3 j x1 _ hx (List.getElem?_eq_getElem (show j < y.2.2.1.length by omega))
      obtain ⟨fsl, hobl⟩ : ∃ fs, h4 l1 = some (.inr (4, fs)) := d3.ls.ob
      have htl : (xs.take j).length = j := by rw [List.length_take]; omega
      have hst := hin.step
      have hle := hst.1.le
      refine w_cast_of (d5 _ _ hfx.2 q_no.not) <| w_geta_of d1 rfl <| w_nn_of ⟨1, a_cost j N1, by omega, by omega, w_is_of hobl ?_⟩
      refine hcf4.add1 hfree (obx x1 (List.mem_of_getElem? hx)) (fun z hz => obx z (List.mem_of_mem_take hz)) (by omega) (by rw [htl]; exact Nat.le_refl _) (by omega) ?_
      intro h5 ρ5 hcf5 hdm5 hex5 hs5
      rw [htl] at hcf5
      have e9 : xs.take j ++ [x1] = xs.take (j + 1) := by
        rw [List.take_add_one, hx]
        rfl
      rw [e9] at hcf5
      obtain ⟨eit, hito⟩ : ∃ e, h4 it = some e := by
        obtain ⟨fs, ho⟩ := hi4.ob
        exact ⟨_, ho⟩
      have hi5 : q_it h5 lr it (j + 1) := hi4.sp hs5 (fun z => by rw [hit] at z; simp only at z; omega) (fun z => by
        rw [c6 lr _ ror, r1.1] at z
        exact hkk z)
      exact ih (j + 1) h5 ρ5 _ _ _ it (by omega) hcf5 hst.1 hi5 (by rw [hex5 it _ hito]; exact hit) hit0 (by omega) (by omega)
  obtain ⟨c1, c2, c3, c4, c5, c6, c7⟩ := id hcf
  refine w_geta_of (c5 _ _ hcy q_no.not) rfl <| w_nn_of ⟨1, 4, by omega, by omega, w_is_of (c5 _ _ ror q_no.not) <| sp_J2_iterator (kept c5).1 (by omega) (by omega) (fun it h4 hit hh4 hi4 => ?_)⟩
  exact ⟨_, loop1 xs.length 0 h4 _ _ _ 0 it (by omega) (hcf.nw hit hh4) (Or.inl ⟨rfl, rfl⟩) hi4 q_up_same (q_sp_none c5 hit) (by omega) (by omega)⟩
end COPY
