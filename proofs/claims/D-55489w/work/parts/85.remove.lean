set_option maxRecDepth 100000
/-! greatest depth; what is kept by roles -/
section DEP2
variable {G : GG} {h h0 : HH} {ρ : RO} {k b w p t : Nat} {C : CC}
theorem sp_X2_depth_2 {mc ms i : Nat} {y : CF} {Q : Int32 → HH → Prop} (hb : q_bk G h ρ k b w C) (hok : c_ok C) (hcl : c_cl C) (h41 : ∀ y ∈ C.2.1, y.2.1 4 ≤ 1) (hy : C.2.1[i]? = some y)
    (hmc : 1 + 20 * (C.2.1.length + 2 * c_sum (fun y => y.2.2.1.length) C.2.1) ≤ mc) (hms : C.2.1.length + 80 * (C.2.1.length + 2 * c_sum (fun y => y.2.2.1.length) C.2.1) ≤ ms)
    (hQ : ∀ h' D, q_sp q_no h h' → c_dep C D → Q (nI (D i)) h') : wp_X2_depth_2 G mc ms h b (some y.1) Q := by
  obtain ⟨lr, lf, g1, g3, g2, ⟨fs3, g5⟩, ⟨fs4, g4⟩⟩ := hb.len
  refine ⟨mc, ms, by omega, by omega, w_is_of g1 <| sp_X2_depths hb hok hcl h41 hmc hms (fun h' da f D hda hs harr hf hD => ?_)⟩
  have hb' := hb.kp (q_no_kp hs)
  have hlt := (List.getElem?_eq_some_iff.mp hy).1
  have := hok.2.2.2.1
  refine w_geta_of (hs b _ g1 q_no.not) rfl <| w_nn_of <| w_is_of (hs lf _ g4 q_no.not) <| sp_facts_indexOf hb' hok (g2.kp (q_no_kp hs) rfl) hy <| w_nn_of <| w_ild_of harr hlt (by omega) ?_
  rw [hf i hlt]
  exact hQ h' D hs hD
def c_gD (D : Nat → Nat) : Nat → Nat
  | 0 => 0
  | n + 1 => max (c_gD D n) (D n)
theorem c_gD_lt {D : Nat → Nat} {n v : Nat} (hv : 0 < v) (h : ∀ i, i < n → D i < v) : c_gD D n < v := by
  induction n with
  | zero => exact hv
  | succ n ih =>
    have h1 := ih (fun i hi => h i (by omega))
    have h2 := h n (by omega)
    simp only [c_gD]
    omega
theorem c_dep.le {D : Nat → Nat} (hD : c_dep C D) {i : Nat} {y : CF} (hy : C.2.1[i]? = some y) : D i ≤ 1000 := by
  obtain ⟨h1, h2, h3⟩ := hD i y hy
  by_cases q : dv_g (c_T C) (c_R C) (y.2.1 0)
  · have := h3 q
    omega
  · rw [h2 q]
    exact Nat.le_refl _
theorem sp_X2_greatestDepth {mc ms : Nat} {Q : Int32 → HH → Prop} (hb : q_bk G h ρ k b w C) (hok : c_ok C) (hcl : c_cl C) (h41 : ∀ y ∈ C.2.1, y.2.1 4 ≤ 1)
    (hmc : 1 + 20 * (C.2.1.length + 2 * c_sum (fun y => y.2.2.1.length) C.2.1) ≤ mc) (hms : C.2.1.length + 80 * (C.2.1.length + 2 * c_sum (fun y => y.2.2.1.length) C.2.1) ≤ ms)
    (hQ : ∀ h' D, q_sp q_no h h' → c_dep C D → Q (nI (c_gD D C.2.1.length)) h') : wp_X2_greatestDepth G mc ms h b Q := by
  obtain ⟨lr, lf, g1, g3, g2, ⟨fs3, g5⟩, ⟨fs4, g4⟩⟩ := hb.len
  refine ⟨mc, ms, by omega, by omega, w_is_of g1 <| sp_X2_depths hb hok hcl h41 hmc hms (fun h' da f D hda hs harr hf hD => ?_)⟩
  have := hok.2.2.2.1
  have hle : ∀ i, i < C.2.1.length → D i ≤ 1000 := fun i hi => hD.le (List.getElem?_eq_getElem hi)
  refine w_nn_of (Or.inl ⟨0, _, by decide, harr, ?_⟩)
  have main : ∀ d i, i + d = C.2.1.length → wp_X2_greatestDepth_L13 G mc ms b Q (d + 1) h' (0 + mc) (0 + ms) (nI (c_gD D i)) da (nI C.2.1.length) (nI i) := by
    intro d
    induction d with
    | zero =>
      intro i hd
      unfold wp_X2_greatestDepth_L13
      refine br_t (nI_le (by omega) (by omega)) ?_
      rw [show i = C.2.1.length by omega]
      exact hQ h' D hs hD
    | succ d ih =>
      intro i hd
      unfold wp_X2_greatestDepth_L13
      refine br_f (nI_ge (by omega) (by omega)) <| w_ild_of harr (by omega) (by omega) ?_
      have hg : c_gD D i < 1001 := c_gD_lt (by decide) (fun j hj => by have := hle j (by omega); omega)
      have h1 := hle i (by omega)
      rw [hf i (by omega), nI_max (by omega) (by omega), nI_1]
      exact ih (i + 1) (by omega)
  exact ⟨_, main C.2.1.length 0 (by omega)⟩
end DEP2
section KR
variable {G : GG} {h h' : HH} {ρ ρ' : RO} {k b w : Nat} {R : Nat × Nat → Prop} {C : CC}
/-- what is kept: the cells of some roles, but for a walk's -/
def q_kR (G : GG) (R : Nat × Nat → Prop) (h : HH) (ρ : RO) (h' : HH) (ρ' : RO) : Prop := q_ex h ρ ρ' ∧ ∀ c e, h c = some e → ¬ q_wl G e → R (ρ c) → h' c = some e
theorem q_kR.mono {R' : Nat × Nat → Prop} (hk : q_kR G R h ρ h' ρ') (hR : ∀ r, R' r → R r) : q_kR G R' h ρ h' ρ' := ⟨hk.1, fun c e h1 h2 h3 => hk.2 c e h1 h2 (hR _ h3)⟩
theorem q_ls.kR {t : Nat × Nat} {a : Nat} {xs : List Nat} (hl : q_ls G h ρ t a xs) (hk : q_kR G R h ρ h' ρ') (h0 : R t) (h1 : R (t.1, t.2 + 1)) : q_ls G h' ρ' t a xs := by
  obtain ⟨hr, hlen, mc, arr, ha, hA⟩ := hl
  refine ⟨by rw [hk.1 a _ ha]; exact hr, hlen, mc, arr, hk.2 a _ ha (q_wl.ob (by decide)) (by rw [hr]; exact h0), ?_⟩
  rcases hA with ⟨e1, e2⟩ | ⟨har, N, f, hb, h2, h3, h4, h5⟩
  · exact Or.inl ⟨e1, e2⟩
  · exact Or.inr ⟨by rw [hk.1 arr _ hb]; exact har, N, f, hk.2 arr _ hb q_wl.ar (by rw [har]; exact h1), h2, h3, h4, h5⟩
theorem q_kR.k0 (hk : q_kR G R h ρ h' ρ') (h0 : R (0, 0)) : ∀ c e, h c = some e → ¬ q_wl G e → ρ c = (0, 0) → h' c = some e ∧ ρ' c = (0, 0) := fun c e h1 h2 h3 => ⟨hk.2 c e h1 h2 (by rw [h3]; exact h0), by rw [hk.1 c e h1]; exact h3⟩
theorem q_pt.kR {a n t0 t1 : Nat} (q : q_pt G h ρ a n t0 t1) (hk : q_kR G R h ρ h' ρ') (hR : R (0, 0)) : q_pt G h' ρ' a n t0 t1 := by
  obtain ⟨h0, hn, b, f, h1, h2, h3, h4⟩ := q
  obtain ⟨a1, a2⟩ := hk.k0 hR a _ h2 (q_wl.ob (by decide)) h0
  obtain ⟨b1, b2⟩ := hk.k0 hR b _ h3 q_wl.i2 h1
  exact ⟨a2, hn, b, f, b2, a1, b1, h4⟩
theorem q_rl.kR {a : Nat} {r : Nat → Nat} (q : q_rl G h ρ a r) (hk : q_kR G R h ρ h' ρ') (hR : R (0, 0)) : q_rl G h' ρ' a r := by
  obtain ⟨h0, h1, h2, p1, p2, p3, h3, h4, h5, h6, h7⟩ := q
  obtain ⟨a1, a2⟩ := hk.k0 hR a _ h3 (q_wl.ob (by decide)) h0
  refine ⟨a2, h1, h2, p1, p2, p3, a1, h4.kR hk hR, h5, fun z => ?_, h7.kR hk hR⟩
  obtain ⟨p, e, hp⟩ := h6 z
  exact ⟨p, e, hp.kR hk hR⟩
theorem q_fi.kR {a : Nat} {fi : FI} (q : q_fi h ρ a fi) (hk : q_kR G R h ρ h' ρ') (hR : R (0, 0)) : q_fi h' ρ' a fi := by
  obtain ⟨a1, a2⟩ := hk.k0 hR a _ q.2 (q_wl.ob (by decide)) q.1
  exact ⟨a2, a1⟩
theorem q_fl.kR {t : Nat × Nat} {a : Nat} {fis : List FI} (q : q_fl G h ρ t a fis) (hk : q_kR G R h ρ h' ρ') (hR : R (0, 0)) (h0 : R t) (h1 : R (t.1, t.2 + 1)) : q_fl G h' ρ' t a fis := by
  obtain ⟨xs, h2, h3, h4⟩ := q
  exact ⟨xs, h2.kR hk h0 h1, h3, fun i x1 fi hx hf => (h4 i x1 fi hx hf).kR hk hR⟩
theorem q_ft.kR {c : CF} (q : q_ft G h ρ k c) (hk : q_kR G R h ρ h' ρ') (hR : R (0, 0)) (h0 : ∀ j, j < 5 → R (k, 8 + 5 * c.2.1 0 + j)) : q_ft G h' ρ' k c := by
  obtain ⟨h1, lr, lf, h2, h3, h4⟩ := q
  exact ⟨by rw [hk.1 _ _ h2]; exact h1, lr, lf, hk.2 _ _ h2 (q_wl.ob (by decide)) (by rw [h1]; exact h0 0 (by decide)), h3.kR hk hR (h0 1 (by decide)) (h0 2 (by decide)), h4.kR hk hR (h0 3 (by decide)) (h0 4 (by decide))⟩
/-- all of a book but one fact -/
def q_bR (k n : Nat) : Nat × Nat → Prop := fun r => r.1 = 0 ∨ (r.1 = k ∧ ¬ (8 + 5 * n ≤ r.2 ∧ r.2 < 8 + 5 * n + 5))
theorem q_bk.set (hb : q_bk G h ρ k b w C) (hok : c_ok C) {i : Nat} {y y' : CF} (hy : C.2.1[i]? = some y) (hk : q_kR G (q_bR k (y.2.1 0)) h ρ h' ρ') (hy' : q_ft G h' ρ' k y') (h1 : y'.1 = y.1) : q_bk G h' ρ' k b w (C.1, C.2.1.set i y', C.2.2) := by
  obtain ⟨h0, lr, lf, g1, g2, g3, g4, g5⟩ := hb
  have hR0 : q_bR k (y.2.1 0) (0, 0) := Or.inl rfl
  have hRk : ∀ j, j < 8 → q_bR k (y.2.1 0) (k, j) := fun j hj => Or.inr ⟨rfl, fun z => by
    have := z.1
    simp only at this
    omega⟩
  refine ⟨by rw [hk.1 _ _ g1]; exact h0, lr, lf, hk.2 _ _ g1 (q_wl.ob (by decide)) (by rw [h0]; exact hRk 0 (by decide)), g2.kR hk (hRk 4 (by decide)) (hRk 5 (by decide)), fun z hz => (g3 z hz).kR hk hR0, ?_, fun z hz => ?_⟩
  · have e : (C.2.1.set i y').map Prod.fst = C.2.1.map Prod.fst := by
      rw [List.map_set, h1]
      refine List.ext_getElem? (fun j => ?_)
      by_cases q : j = i
      · subst q
        have hlt := (List.getElem?_eq_some_iff.mp hy).1
        rw [List.getElem?_set_self (by rw [List.length_map]; exact hlt), List.getElem?_map, hy]
        rfl
      · rw [List.getElem?_set_ne (Ne.symm q)]
    show q_ls G h' ρ' (k, 6) lf ((C.2.1.set i y').map Prod.fst)
    rw [e]
    exact g4.kR hk (hRk 6 (by decide)) (hRk 7 (by decide))
  · obtain ⟨j, hj⟩ := List.getElem?_of_mem hz
    by_cases q : j = i
    · subst q
      have hlt := (List.getElem?_eq_some_iff.mp hy).1
      rw [List.getElem?_set_self hlt] at hj
      cases hj
      exact hy'
    · rw [List.getElem?_set_ne (Ne.symm q)] at hj
      refine (g5 z (List.mem_of_getElem? hj)).kR hk hR0 (fun j' hj' => Or.inr ⟨rfl, fun g => ?_⟩)
      have hne : z.2.1 0 ≠ y.2.1 0 := fun e => q (c_un hok hj hy e)
      simp only at g
      omega
end KR
section JREM
variable {G : GG} {h : HH} {ρ : RO}
/-- ArrayList.remove of a place -/
theorem sp_J2_remove {t : Nat × Nat} {a i x1 : Nat} {xs : List Nat} {Q : Option Nat → HH → Prop} (hl : q_ls G h ρ t a xs) (hi : xs[i]? = some x1) (hel : ∀ y ∈ xs, ∃ e, h y = some e ∧ hv_ob G e)
    (hQ : ∀ h' mc arr, q_dm h h' → (ρ arr = (t.1, t.2 + 1) ∧ ∃ N f, h arr = some (.inl (G.2.1 6, N, .inr (.inr (.inr (.inr f)))))) → (∀ c, c ≠ a → c ≠ arr → h' c = h c) → q_ls G h' ρ t a (xs.eraseIdx i) → h' a = some (.inr (4, [.int mc, .ref arr, .int (nI (xs.length - 1))])) → Q (some x1) h') : wp_J2_remove G h a (nI i) Q := by
  have hlt : i < xs.length := (List.getElem?_eq_some_iff.mp hi).1
  obtain ⟨hr, hlen, -⟩ := id hl
  obtain ⟨mc0, arr, N, f, ha, hb, har, hN, hN2, hf⟩ := hl.at hlt
  have hne : arr ≠ a := q_ro_ne har hr (by intro z; have := congrArg Prod.snd z; simp at this)
  unfold wp_J2_remove
  refine w_geti_of ha rfl (sp_J19_checkIndex hlt (by omega) (w_geta_of ha rfl (w_nn_of (w_qld_of hb (by omega) (by omega) (w_is_of ha ?_)))))
  rw [hf i hlt, hi]
  unfold wp_J2_fastRemove
  refine w_geti_of ha rfl <| w_put_of ha (Nat.le_of_ble_eq_true rfl) rfl <| w_geti_of q_h_same rfl ?_
  have e1 : nI xs.length - 1 = nI (xs.length - 1) := by
    have : xs.length = (xs.length - 1) + 1 := by omega
    rw [this]
    exact nI_pred _
  rw [e1, nI_leI (by omega) (by omega)]
  have hle : (xs.eraseIdx i).length = xs.length - 1 := by rw [List.length_eraseIdx, if_pos hlt]
  refine ⟨fun hge => ?_, fun hlt2 => ?_⟩
  · refine w_put_of q_h_same (Nat.le_of_ble_eq_true rfl) rfl <| w_nn_of ?_
    rw [q_h_up]
    refine ⟨N, f, by rw [q_h_ne hne]; exact hb, vp_in_nI (by omega) (by omega), fun y hy => (by cases hy), ?_⟩
    rw [nI_clamp (by omega)]
    refine hQ _ (mc0 + 1) arr (by repeat' first | exact q_dm.rf | apply q_dm.up) ⟨har, N, f, hb⟩ (fun c h1 h2 => by rw [q_h_ne h2, q_h_ne h1]) ⟨hr, by omega, mc0 + 1, arr, by rw [q_h_ne (Ne.symm hne), q_h_same, hle]; rfl, Or.inr ⟨har, N, _, q_h_same, by omega, by omega, hN2, fun j hj => ?_⟩⟩ (by rw [q_h_ne (Ne.symm hne), q_h_same]; rfl)
    rw [hle] at hj
    rw [va_up_ne _ _ (by omega), hf j (by omega), List.getElem?_eraseIdx, if_pos (by omega)]
  · refine w_nn_of ?_
    have e2 : nI i + 1 = nI (i + 1) := nI_1 i
    have e3 : nI (xs.length - 1) - nI i = nI (xs.length - 1 - i) := pk_sub (by omega)
    rw [e2, e3]
    refine ⟨N, N, f, f, by rw [q_h_ne hne]; exact hb, by rw [q_h_ne hne]; exact hb, nI_pos (by omega), nI_pos (by omega), nI_pos (by omega), ?_⟩
    rw [nI_clamp (by omega), nI_clamp (by omega), nI_clamp (by omega)]
    refine ⟨by omega, by omega, fun j hj y hy => ?_, ?_⟩
    · rw [hf (i + 1 + j) (by omega)] at hy
      obtain ⟨e, he, ho⟩ := hel y (List.mem_of_getElem? hy)
      by_cases z : y = a
      · exact ⟨_, by rw [z]; exact q_h_same, Or.inl ⟨4, _, by decide, rfl⟩⟩
      · exact ⟨e, by rw [q_h_ne z]; exact he, ho⟩
    · refine w_put_of (by rw [q_h_ne (Ne.symm hne)]; exact q_h_same) (Nat.le_of_ble_eq_true rfl) rfl ?_
      refine ⟨N, _, by rw [q_h_ne hne, q_h_same], vp_in_nI (by omega) (by omega), fun y hy => (by cases hy), ?_⟩
      rw [nI_clamp (by omega)]
      refine hQ _ (mc0 + 1) arr (by repeat' first | exact q_dm.rf | apply q_dm.up) ⟨har, N, f, hb⟩ (fun c h1 h2 => by rw [q_h_ne h2, q_h_ne h1, q_h_ne h2, q_h_ne h1]) ⟨hr, by omega, mc0 + 1, arr, by rw [q_h_ne (Ne.symm hne), q_h_same, hle]; rfl, Or.inr ⟨har, N, _, q_h_same, by omega, by omega, hN2, fun j hj => ?_⟩⟩ (by rw [q_h_ne (Ne.symm hne), q_h_same]; rfl)
      rw [hle] at hj
      rw [va_up_ne _ _ (by omega), List.getElem?_eraseIdx]
      by_cases z : j < i
      · rw [if_pos z, pk_cpy_out (Or.inl z), hf j (by omega)]
      · rw [if_neg z, pk_cpy_in (by omega) (by omega), hf _ (by omega)]
        congr 1
        omega
end JREM
/-! to remove firings by a test -/
section REM
variable {G : GG} {h : HH} {ρ : RO}
/-- an iterator right after next -/
def q_it2 (h : HH) (a b j : Nat) : Prop := ∃ (mc : Int32) (arr n : Value), h b = some (.inr (13, [.int (nI (j + 1)), .int (nI j), .int mc, .ref a])) ∧ h a = some (.inr (4, [.int mc, arr, n]))
theorem q_it2.it {a b j : Nat} (hi : q_it2 h a b j) : q_it h a b (j + 1) := by
  obtain ⟨mc, arr, n, h1, h2⟩ := hi
  exact ⟨nI j, mc, arr, n, h1, h2⟩
theorem sp_J15_next2 {t : Nat × Nat} {a b k x1 : Nat} {xs : List Nat} {Q : Option Nat → HH → Prop} (hl : q_ls G h ρ t a xs) (hi : q_it h a b k) (hx : xs[k]? = some x1)
    (hQ : ∀ h', (∀ c, c ≠ b → h' c = h c) → q_it2 h' a b k → Q (some x1) h') : wp_J15_next G h b Q := by
  have hlt : k < xs.length := (List.getElem?_eq_some_iff.mp hx).1
  obtain ⟨m1, arr, N, f, ha, hb2, -, hN, hN2, hf⟩ := hl.at hlt
  obtain ⟨lr, mc, a1, n1, hb, ha1⟩ := hi
  cases ha.symm.trans ha1
  have hab : a ≠ b := fun z => by rw [z, hb] at ha; cases ha
  have hrb : arr ≠ b := fun z => by rw [z, hb] at hb2; cases hb2
  unfold wp_J15_next wp_J15_checkForComodification
  refine w_is_of hb (w_geta_of hb rfl (w_nn_of (w_geti_of ha rfl (w_geti_of hb rfl ⟨fun _ => ?_, fun z => absurd rfl z⟩))))
  refine w_geti_of hb rfl (w_geta_of hb rfl (w_nn_of (w_geti_of ha rfl ⟨fun _ => ?_, fun z => absurd (nI_lt hlt (by omega)) z⟩)))
  refine w_geta_of hb rfl (w_nn_of (w_geta_of ha rfl (w_nn_of (Or.inl ⟨6, _, by decide, hb2, ?_⟩))))
  refine ⟨fun _ => ?_, fun z => absurd (nI_lt (show k < N by omega) (by omega)) z⟩
  refine w_put_of hb (Nat.le_of_ble_eq_true rfl) rfl (w_put_of q_h_same (Nat.le_of_ble_eq_true rfl) rfl ?_)
  rw [q_h_up]
  refine w_qld_of (by rw [q_h_ne hrb]; exact hb2) (by omega) (by omega) ?_
  rw [hf k hlt, hx]
  refine hQ _ (fun c hc => q_h_ne hc) ⟨m1, _, _, by rw [q_h_same, ← nI_1]; rfl, by rw [q_h_ne hab]; exact ha⟩
theorem q_each2 {t : Nat × Nat} {a it j : Nat} {xs : List Nat} {E : HH → Prop} {B : Nat → HH → Prop} (hl : q_ls G h ρ t a xs) (hi : q_it h a it j) (hj : j ≤ xs.length) (hE : j = xs.length → E h)
    (hB : ∀ x1 h', xs[j]? = some x1 → (∀ c, c ≠ it → h' c = h c) → q_it2 h' a it j → B x1 h') : w_is h it 13 (wp_J15_hasNext G h it (fun r h8 => ((r = 0 → E h8) ∧ (¬ r = 0 → w_is h8 it 13 (wp_J15_next G h8 it (fun r9 h10 => w_nn r9 (fun a11 => B a11 h10))))))) := by
  obtain ⟨fs, ho⟩ := hi.ob
  refine w_is_of ho <| sp_J15_hasNext hl hi hj (fun hlt => br_f (by decide) ?_) (fun he => br_t rfl (hE he))
  obtain ⟨x1, hx⟩ : ∃ x1, xs[j]? = some x1 := ⟨_, List.getElem?_eq_getElem hlt⟩
  exact w_is_of ho <| sp_J15_next2 hl hi hx (fun h' hh hi' => w_nn_of (hB x1 h' hx hh hi'))
/-- Iterator.remove, right after next -/
theorem sp_J15_remove {t : Nat × Nat} {a b j x1 : Nat} {xs : List Nat} {Q : HH → Prop} (hl : q_ls G h ρ t a xs) (hi : q_it2 h a b j) (hx : xs[j]? = some x1) (hel : ∀ y ∈ xs, ∃ e, h y = some e ∧ hv_ob G e)
    (hQ : ∀ h' arr, q_dm h h' → (ρ arr = (t.1, t.2 + 1) ∧ ∃ N f, h arr = some (.inl (G.2.1 6, N, .inr (.inr (.inr (.inr f)))))) → (∀ c, c ≠ a → c ≠ arr → c ≠ b → h' c = h c) → q_ls G h' ρ t a (xs.eraseIdx j) → q_it h' a b j → Q h') : wp_J15_remove G h b Q := by
  obtain ⟨mc, arr0, n0, hb, ha⟩ := hi
  have hlt : j < xs.length := (List.getElem?_eq_some_iff.mp hx).1
  have hlen := hl.2.1
  have hba : b ≠ a := q_c_ne hb ha (by intro q; cases q)
  unfold wp_J15_remove wp_J15_checkForComodification
  refine w_geti_of hb rfl <| br_t (nI_pos' (by omega)) <| w_is_of hb <| w_geta_of hb rfl <| w_nn_of <| w_geti_of ha rfl <| w_geti_of hb rfl ⟨fun _ => ?_, fun z => absurd rfl z⟩
  refine w_geta_of hb rfl <| w_geti_of hb rfl <| w_nn_of <| w_is_of ha <| sp_J2_remove hl hx hel (fun h7 mc7 arr hdm hA hh hl7 ha7 => ?_)
  obtain ⟨hA1, N, f, hA2⟩ := id hA
  have hbarr : b ≠ arr := q_c_ne hb hA2 (by intro q; cases q)
  have hb7 : h7 b = _ := (hh b hba hbarr).trans hb
  refine w_geti_of hb7 rfl <| w_put_of hb7 (Nat.le_of_ble_eq_true rfl) rfl <| w_put_of q_h_same (Nat.le_of_ble_eq_true rfl) rfl <| w_geta_of q_h_same rfl <| w_nn_of <| w_geti_of (by rw [q_h_ne (Ne.symm hba), q_h_ne (Ne.symm hba)]; exact ha7) rfl <| w_put_of q_h_same (Nat.le_of_ble_eq_true rfl) rfl ?_
  simp only [q_h_up]
  have hs : q_sp (fun c => c = b) h7 (va_up h7 b (some (.inr (13, [.int (nI j), .int (-1), .int mc7, .ref a])))) := q_sp.up rfl
  refine hQ _ arr hdm.up hA (fun c h1 h2 h3 => ?_) ?_ ⟨-1, mc7, .ref arr, .int (nI (xs.length - 1)), q_h_same, ?_⟩
  · show va_up h7 b _ c = _
    rw [q_h_ne h3, hh c h1 h2]
  · obtain ⟨r1, r2, mc8, arr8, r3, r4⟩ := hl7
    refine ⟨r1, r2, mc8, arr8, ?_, ?_⟩
    · show va_up h7 b _ a = _
      rw [q_h_ne (Ne.symm hba)]; exact r3
    · rcases r4 with r4 | ⟨r4, N8, f8, r5, r6⟩
      · exact Or.inl r4
      · refine Or.inr ⟨r4, N8, f8, ?_, r6⟩
        show va_up h7 b _ arr8 = _
        rw [q_h_ne (q_c_ne r5 hb7 (by intro q; cases q))]; exact r5
  · show va_up h7 b _ a = _
    rw [q_h_ne (Ne.symm hba)]; exact ha7
theorem q_fl.zip {t : Nat × Nat} {a : Nat} {fis : List FI} (hl : q_fl G h ρ t a fis) : ∃ zs : List (Nat × FI), zs.map Prod.snd = fis ∧ q_ls G h ρ t a (zs.map Prod.fst) ∧ ∀ z ∈ zs, q_fi h ρ z.1 z.2 := by
  obtain ⟨xs, h1, h2, h3⟩ := hl
  refine ⟨xs.zip fis, List.map_snd_zip (by omega), by rw [List.map_fst_zip (by omega)]; exact h1, fun z hz => ?_⟩
  obtain ⟨i, hi⟩ := List.getElem?_of_mem hz
  have hlt := (List.getElem?_eq_some_iff.mp hi).1
  rw [List.length_zip] at hlt
  have h4 : xs[i]? = some xs[i] := List.getElem?_eq_getElem (by omega)
  have h5 : fis[i]? = some fis[i] := List.getElem?_eq_getElem (by omega)
  have : (xs.zip fis)[i]? = some (xs[i], fis[i]) := by
    rw [List.getElem?_zip_eq_some]
    exact ⟨h4, h5⟩
  rw [this] at hi
  cases hi
  exact h3 i _ _ h4 h5
theorem q_fl.unzip {t : Nat × Nat} {a : Nat} {zs : List (Nat × FI)} (h1 : q_ls G h ρ t a (zs.map Prod.fst)) (h2 : ∀ z ∈ zs, q_fi h ρ z.1 z.2) : q_fl G h ρ t a (zs.map Prod.snd) := by
  refine ⟨_, h1, by simp, fun i x1 fi hx hf => ?_⟩
  rw [List.getElem?_map] at hx hf
  obtain ⟨z, hz, rfl⟩ := Option.map_eq_some_iff.mp hx
  rw [hz] at hf
  cases hf
  exact h2 z (List.mem_of_getElem? hz)
theorem q_map_erase {α β : Type} {f : α → β} : ∀ (xs : List α) (i : Nat), (xs.map f).eraseIdx i = (xs.eraseIdx i).map f
  | [], _ => rfl
  | x1 :: xs, 0 => rfl
  | x1 :: xs, i + 1 => by
    simp only [List.map_cons, List.eraseIdx_cons_succ, q_map_erase xs i]
theorem q_erase {α : Type} {xs ys : List α} {z : α} : (xs ++ z :: ys).eraseIdx xs.length = xs ++ ys := by
  induction xs with
  | nil => rfl
  | cons w ws ih => simp [ih]
theorem sp_X1_remove {mc ms a ta : Nat} {t : Nat × Nat} {fis : List FI} {T : FI → Bool} {Q : HH → Prop} (hl : q_fl G h ρ t a fis) (ht : t.1 ≠ 0) (hc : 1 ≤ mc) (hms : 4 ≤ ms)
    (htest : ∀ h1 x1 fi (P : Int32 → HH → Prop), q_sp (fun c => ρ c = t ∨ ρ c = (t.1, t.2 + 1)) h h1 → fi ∈ fis → q_fi h1 ρ x1 fi → P (if T fi then 1 else 0) h1 → w_test G h1 ta (some x1) P)
    (hQ : ∀ h', q_dm h h' → q_sp (fun c => ρ c = t ∨ ρ c = (t.1, t.2 + 1)) h h' → q_fl G h' ρ t a (fis.filter (fun fi => !T fi)) → Q h') : wp_X1_remove G mc ms h (some a) (some ta) Q := by
  obtain ⟨zs, rfl, hls, hfi⟩ := hl.zip
  obtain ⟨fsa, hao⟩ := hls.ob
  have hlen := hls.2.1
  rw [List.length_map] at hlen
  have ht0 : ∀ {c}, ρ c = (0, 0) → ¬ (ρ c = t ∨ ρ c = (t.1, t.2 + 1)) := by
    intro c e z
    rw [e] at z
    rcases z with z | z
    · exact ht (by rw [← z])
    · exact ht (congrArg Prod.fst z).symm
  unfold wp_X1_remove
  refine w_nn_of ⟨1, 4, by omega, by omega, w_is_of hao <| sp_J2_iterator hls (by omega) (by omega) (fun it h2 hit hh2 hi2 => ?_)⟩
  have main : ∀ d m h1 (kept : List (Nat × FI)), m + d = zs.length → kept = (zs.take m).filter (fun z => !T z.2) → q_dm h h1 → q_sp (fun c => ρ c = t ∨ ρ c = (t.1, t.2 + 1)) h h1 → q_ls G h1 ρ t a ((kept ++ zs.drop m).map Prod.fst) → q_it h1 a it kept.length → wp_X1_remove_L5 G mc ms Q (d + 1) h1 (0 + 1) (0 + 4) (some ta) (some it) := by
    intro d
    induction d with
    | zero =>
      intro m h1 kept hd hk hdm hs hl1 hi
      have e1 : zs.drop m = [] := List.drop_of_length_le (by omega)
      have e2 : zs.take m = zs := List.take_of_length_le (by omega)
      rw [e1, List.append_nil] at hl1
      rw [e2] at hk
      unfold wp_X1_remove_L5
      refine w_nn_of <| q_each2 hl1 hi (by rw [List.length_map]; omega) (fun _ => hQ h1 hdm hs ?_) (fun x1 h' hx => ?_)
      · have := q_fl.unzip (G := G) hl1 (fun z hz => by
          rw [hk] at hz
          have := hfi z (List.mem_filter.mp hz).1
          exact ⟨this.1, hs _ _ this.2 (ht0 this.1)⟩)
        rw [hk] at this
        rw [List.filter_map]
        exact this
      · rw [List.getElem?_eq_none (by rw [List.length_map]; omega)] at hx
        cases hx
    | succ d ih =>
      intro m h1 kept hd hk hdm hs hl1 hi
      obtain ⟨z, hz⟩ : ∃ z, zs[m]? = some z := ⟨_, List.getElem?_eq_getElem (by omega)⟩
      have hlt := (List.getElem?_eq_some_iff.mp hz).1
      have e1 : zs.drop m = z :: zs.drop (m + 1) := by
        rw [List.drop_eq_getElem_cons hlt, (List.getElem?_eq_some_iff.mp hz).2]
      have e2 : zs.take (m + 1) = zs.take m ++ [z] := by
        rw [List.take_add_one, hz]
        rfl
      have hzm := List.mem_of_getElem? hz
      rw [e1] at hl1
      unfold wp_X1_remove_L5
      refine w_nn_of <| q_each2 hl1 hi (by rw [List.length_map, List.length_append]; omega) (fun e => ?_) (fun x1 h' hx hh hi' => ?_)
      · rw [List.length_map, List.length_append, List.length_cons] at e
        omega
      · have ex : x1 = z.1 := by
          rw [List.getElem?_map, List.getElem?_append_right (Nat.le_refl _), Nat.sub_self] at hx
          exact (Option.some.inj hx).symm
        subst ex
        have hs' := hs.nx hit hh
        have hdm' : q_dm h h' := fun c e hc => by
          rw [hh c (q_new_ne hit hc)]
          exact hdm c e hc
        have hf0 := hfi z hzm
        have hf1 : q_fi h' ρ z.1 z.2 := ⟨hf0.1, hs' _ _ hf0.2 (ht0 hf0.1)⟩
        have hl' : q_ls G h' ρ t a ((kept ++ z :: zs.drop (m + 1)).map Prod.fst) := by
          obtain ⟨r1, r2, mc8, arr8, r3, r4⟩ := hl1
          obtain ⟨fsi, hio⟩ := hi.ob
          refine ⟨r1, r2, mc8, arr8, by rw [hh a (q_c_ne r3 hio (by intro q; cases q))]; exact r3, ?_⟩
          rcases r4 with r4 | ⟨r4, N8, f8, r5, r6⟩
          · exact Or.inl r4
          · exact Or.inr ⟨r4, N8, f8, by rw [hh arr8 (q_c_ne r5 hio (by intro q; cases q))]; exact r5, r6⟩
        have hx' : ((kept ++ z :: zs.drop (m + 1)).map Prod.fst)[kept.length]? = some z.1 := hx
        have hel : ∀ y ∈ (kept ++ z :: zs.drop (m + 1)).map Prod.fst, ∃ e, h' y = some e ∧ hv_ob G e := by
          intro y hy
          obtain ⟨z', hz', rfl⟩ := List.mem_map.mp hy
          have hz0 : z' ∈ zs := by
            rcases List.mem_append.mp hz' with g | g
            · rw [hk] at g
              exact List.mem_of_mem_take (List.mem_filter.mp g).1
            · rw [← e1] at g
              exact List.mem_of_mem_drop g
          have := hfi z' hz0
          exact ⟨_, hs' _ _ this.2 (ht0 this.1), Or.inl ⟨16, _, by decide, rfl⟩⟩
        refine w_cast_of hf1.2 <| w_nn_of <| htest h' z.1 z.2 _ hs' (List.mem_map.mpr ⟨z, hzm, rfl⟩) hf1 ?_
        cases eT : T z.2 with
        | false =>
          refine br_t rfl (ih (m + 1) h' (kept ++ [z]) (by omega) ?_ hdm' hs' ?_ ?_)
          · rw [e2, List.filter_append, ← hk]
            simp [eT]
          · rw [List.append_assoc]
            exact hl'
          · rw [List.length_append]
            exact hi'.it
        | true =>
          obtain ⟨mc9, arr9, n9, hb9, -⟩ := id hi'
          refine br_f (by decide) <| w_is_of hb9 <| sp_J15_remove hl' hi' hx' hel (fun h3 arr hdm3 hA hh3 hl3 hi3 => ?_)
          have hs3 : q_sp (fun c => ρ c = t ∨ ρ c = (t.1, t.2 + 1)) h h3 := fun c e hc hS => by
            rw [hh3 c (fun z => hS (Or.inl (by rw [z]; exact hls.1))) (fun z => hS (Or.inr (by rw [z]; exact hA.1))) (q_new_ne hit hc)]
            exact hs' c e hc hS
          refine ih (m + 1) h3 kept (by omega) ?_ (hdm'.tr hdm3) hs3 ?_ hi3
          · rw [e2, List.filter_append, ← hk]
            simp [eT]
          · rw [q_map_erase, q_erase] at hl3
            exact hl3
  have := main zs.length 0 h2 [] (by omega) rfl (fun c e hc => ⟨e, by rw [hh2 c (q_new_ne hit hc)]; exact hc⟩) (q_sp.nw hit hh2) (by
    obtain ⟨r1, r2, mc8, arr8, r3, r4⟩ := hls
    refine ⟨r1, r2, mc8, arr8, by rw [hh2 a (q_new_ne hit r3)]; exact r3, ?_⟩
    rcases r4 with r4 | ⟨r4, N8, f8, r5, r6⟩
    · exact Or.inl r4
    · exact Or.inr ⟨r4, N8, f8, by rw [hh2 arr8 (q_new_ne hit r5)]; exact r5, r6⟩) hi2
  exact ⟨_, this⟩
/-- how many firings are so -/
theorem sp_X1_count {mc ms a ta : Nat} {t : Nat × Nat} {fis : List FI} {T : FI → Bool} {Q : Int32 → HH → Prop} (hl : q_fl G h ρ t a fis) (hc : 1 ≤ mc) (hms : 4 ≤ ms)
    (htest : ∀ h1 x1 fi (P : Int32 → HH → Prop), q_sp q_no h h1 → fi ∈ fis → q_fi h1 ρ x1 fi → P (if T fi then 1 else 0) h1 → w_test G h1 ta (some x1) P)
    (hQ : ∀ h', q_sp q_no h h' → Q (nI (fis.countP T)) h') : wp_X1_count G mc ms h (some a) (some ta) Q := by
  obtain ⟨xs, hls, hlen, hfi⟩ := hl
  obtain ⟨fsa, hao⟩ := hls.ob
  unfold wp_X1_count
  refine w_nn_of ⟨1, 4, by omega, by omega, w_is_of hao <| sp_J2_iterator hls (by omega) (by omega) (fun it h2 hit hh2 hi2 => ?_)⟩
  have hkl : ∀ {h1}, q_sp q_no h h1 → q_ls G h1 ρ t a xs := fun hs => hls.kR (R := fun _ => True) ⟨fun _ _ _ => rfl, fun c e hc _ _ => hs c e hc q_no.not⟩ trivial trivial
  have main : ∀ d m h1, m + d = fis.length → q_sp q_no h h1 → q_it h1 a it m → wp_X1_count_L7 G mc ms Q (d + 1) h1 (0 + 1) (0 + 4) (some ta) (nI ((fis.take m).countP T)) (some it) := by
    intro d
    induction d with
    | zero =>
      intro m h1 hd hs hi
      unfold wp_X1_count_L7
      refine w_nn_of <| q_eachK (hkl hs) hlen hi (by omega) (fun _ => ?_) (fun x1 fi h' hx hf => ?_)
      · rw [List.take_of_length_le (by omega)]
        exact hQ h1 hs
      · have := (List.getElem?_eq_some_iff.mp hf).1
        omega
    | succ d ih =>
      intro m h1 hd hs hi
      unfold wp_X1_count_L7
      refine w_nn_of <| q_eachK (hkl hs) hlen hi (by omega) (fun z => by omega) (fun x1 fi h' hx hf hh hi' => ?_)
      have hs' := hs.nx hit hh
      have hf0 := hfi m x1 fi hx hf
      have hf1 : q_fi h' ρ x1 fi := ⟨hf0.1, hs' _ _ hf0.2 q_no.not⟩
      have := ih (m + 1) h' (by omega) hs' hi'
      rw [List.take_add_one, hf, Option.toList_some, List.countP_append] at this
      refine w_cast_of hf1.2 <| w_nn_of <| htest h' x1 fi _ hs' (List.mem_of_getElem? hf) hf1 ?_
      cases eT : T fi with
      | false =>
        refine br_t rfl ?_
        show wp_X1_count_L7 G mc ms Q (d + 1) h' (0 + 1) (0 + 4) (some ta) (nI ((fis.take m).countP T) + nI 0) (some it)
        rw [nI_add]
        simpa [eT] using this
      | true =>
        refine br_f (by decide) ?_
        rw [nI_1]
        simpa [eT] using this
  have := main fis.length 0 h2 (by omega) (q_sp.nw hit hh2) hi2
  exact ⟨_, this⟩
end REM
