set_option maxRecDepth 100000
/-! checks; to drop a rule, to add one, to tell no more -/
theorem sp_X1_inRange {G : GG} {h : HH} {x lo hi : Int64} {Q : Int32 → HH → Prop} (hQ1 : lo ≤ x → x ≤ hi → Q 1 h) (hQ0 : ¬ (lo ≤ x ∧ x ≤ hi) → Q 0 h) : wp_X1_inRange G h x lo hi Q := by
  have e1 : lg_cmp x lo < 0 ↔ ¬ lo ≤ x := by
    rw [← lg_cmp_ge]
    rw [Int32.lt_iff_toInt_lt, Int32.le_iff_toInt_le]
    omega
  have e2 : 0 < lg_cmp x hi ↔ ¬ x ≤ hi := by
    rw [← lg_cmp_le]
    rw [Int32.lt_iff_toInt_lt, Int32.le_iff_toInt_le]
    omega
  unfold wp_X1_inRange
  rw [e1, e2]
  exact ⟨fun z => hQ0 (fun q => z q.1), fun z => ⟨fun z2 => hQ0 (fun q => z2 q.2), fun z2 => hQ1 (Decidable.not_not.mp z) (Decidable.not_not.mp z2)⟩⟩
theorem sp_inR {G : GG} {h : HH} {v : Int32} {lo hi : Int64} {Q : Int32 → HH → Prop} (a c : Int) (hlo : lo.toInt = a) (hhi : hi.toInt = c) (hQ1 : a ≤ v.toInt → v.toInt ≤ c → Q 1 h) (hQ0 : ¬ (a ≤ v.toInt ∧ v.toInt ≤ c) → Q 0 h) : wp_X1_inRange G h (Int32.toInt64 v) lo hi Q := by
  refine sp_X1_inRange (fun h1 h2 => hQ1 ?_ ?_) (fun hn => hQ0 (fun q => hn ⟨?_, ?_⟩))
  · rw [Int64.le_iff_toInt_le, hlo, Int32.toInt_toInt64] at h1
    exact h1
  · rw [Int64.le_iff_toInt_le, hhi, Int32.toInt_toInt64] at h2
    exact h2
  · rw [Int64.le_iff_toInt_le, hlo, Int32.toInt_toInt64]
    exact q.1
  · rw [Int64.le_iff_toInt_le, hhi, Int32.toInt_toInt64]
    exact q.2
/-- a place among n -/
theorem sp_inN {G : GG} {h : HH} {v : Int32} {n : Nat} {Q : Int32 → HH → Prop} (hn : n < 2 ^ 30) (hQ1 : ∀ i, i < n → v = nI i → Q 1 h) (hQ0 : (∀ i, i < n → v ≠ nI i) → Q 0 h) : wp_X1_inRange G h (Int32.toInt64 v) (0 : Int64) (Int32.toInt64 (nI n - 1)) Q := by
  have e : (Int32.toInt64 (nI n - 1)).toInt = (n : Int) - 1 := by
    rw [Int32.toInt_toInt64]
    exact pk_sub_toInt (b := 1) hn (by decide)
  refine sp_inR 0 ((n : Int) - 1) (by decide) e (fun h1 h2 => ?_) (fun hno => hQ0 (fun i hi hv => hno ?_))
  · obtain ⟨j, hj, rfl⟩ := nI_of (x := v) (fun z => by
      rw [Int32.lt_iff_toInt_lt] at z
      have : (0 : Int32).toInt = 0 := by decide
      omega)
    rw [nI_toInt hj] at h2
    exact hQ1 j (by omega) rfl
  · rw [hv, nI_toInt (by omega)]
    omega
def q_rf (h : HH) (a : Nat) (r d : Int32) : Prop := ∃ v0 v1 v2 v3 v4 v5, h a = some (.inr (15, [v0, v1, v2, v3, v4, v5, .int r, .int d]))
theorem sp_X11_check {G : GG} {mc ms : Nat} {h : HH} {c r d : Int32} {Q : HH → Prop} {X : String → Nat → HH → Prop} (hm : 1 ≤ mc) (hs : 8 ≤ ms) (hQ : c ≠ 0 → Q h) (hX : c = 0 → ∀ a h', h a = none → (∀ c, c ≠ a → h' c = h c) → q_rf h' a r d → X "MatchmakerRules$Refused" a h') : wp_X11_check G mc ms h c r d Q X := by
  unfold wp_X11_check
  refine ⟨hQ, fun z => ⟨by omega, by omega, fun a ha => ?_⟩⟩
  unfold wp_X11_init wp_J12_init_2_X11 wp_J11_init_2_X11
  refine w_put_of q_h_same (by decide) rfl <| fun r2 => w_put_of q_h_same (Nat.le_of_ble_eq_true rfl) rfl <| fun r4 => w_put_of q_h_same (Nat.le_of_ble_eq_true rfl) rfl <| br_t rfl <| w_put_of q_h_same (Nat.le_of_ble_eq_true rfl) rfl ?_
  unfold wp_J11_init_2_X11_L41
  refine w_put_of q_h_same (Nat.le_of_ble_eq_true rfl) rfl <| w_put_of q_h_same (Nat.le_of_ble_eq_true rfl) rfl <| q_bt rfl <| w_put_of q_h_same (Nat.le_of_ble_eq_true rfl) rfl <| w_put_of q_h_same (Nat.le_of_ble_eq_true rfl) rfl <| w_put_of q_h_same (Nat.le_of_ble_eq_true rfl) rfl ?_
  simp only [q_h_up]
  exact w_is_of q_h_same (hX z a _ ha (fun c hc => q_h_ne hc) ⟨_, _, _, _, _, _, q_h_same⟩)
section DROP
variable {G : GG} {h h' : HH} {ρ ρ' : RO} {k b w p t : Nat} {C : CC}
theorem q_B.rules {lr lf : Nat} {rs : List (Nat × (Nat → Nat))} (hB : q_B G h ρ k b w p t C) (hk : k ≠ 0) (hb : h b = some (.inr (2, q_bv w lr lf C.2.2))) (he : q_ex h ρ ρ') (hs : q_sp (fun c => ρ c = (k, 4) ∨ ρ c = (k, 5)) h h') (hl : q_ls G h' ρ' (k, 4) lr (rs.map Prod.fst)) (hrs : ∀ y ∈ rs, y ∈ C.1 ∨ q_rl G h' ρ' y.1 y.2) : q_B G h' ρ' k b w p t (rs, C.2.1, C.2.2) := by
  obtain ⟨h0, lr1, lf1, g1, g2, g3, g4, g5⟩ := hB.1
  rw [hb] at g1
  cases g1
  have hkR : q_kR G (fun r => r ≠ (k, 4) ∧ r ≠ (k, 5)) h ρ h' ρ' := ⟨he, fun c e hc _ hr => hs c e hc (fun z => z.elim hr.1 hr.2)⟩
  have h00 : ((0, 0) : Nat × Nat) ≠ (k, 4) ∧ ((0, 0) : Nat × Nat) ≠ (k, 5) := ⟨fun z => hk (congrArg Prod.fst z).symm, fun z => hk (congrArg Prod.fst z).symm⟩
  have hkj : ∀ j, j ≠ 4 → j ≠ 5 → ((k, j) : Nat × Nat) ≠ (k, 4) ∧ ((k, j) : Nat × Nat) ≠ (k, 5) := fun j hj hj2 => ⟨fun z => hj (congrArg Prod.snd z), fun z => hj2 (congrArg Prod.snd z)⟩
  have hw : ∀ {c j}, ρ c = (k, j) → j ≠ 4 → j ≠ 5 → ¬ (ρ c = (k, 4) ∨ ρ c = (k, 5)) := fun e1 e2 e3 z => by
    rw [e1] at z
    exact z.elim (hkj _ e2 e3).1 (hkj _ e2 e3).2
  obtain ⟨⟨e1, e2⟩, ⟨e3, e4⟩, ⟨e5, e6⟩⟩ := hB.2.1.cells
  refine ⟨⟨by rw [he _ _ hb]; exact h0, lr, lf, hs _ _ hb (hw h0 (by decide) (by decide)), hl, fun y hy => ?_, g4.kR hkR (hkj 6 (by decide) (by decide)) (hkj 7 (by decide) (by decide)), fun y hy => (g5 y hy).kR hkR h00 (fun j _ => hkj _ (by omega) (by omega))⟩, hB.2.1.S hs (hw hB.2.2.1 (by decide) (by decide)) (hw hB.2.2.2.1 (by decide) (by decide)) (hw hB.2.2.2.2 (by decide) (by decide)), by rw [he _ _ e2]; exact hB.2.2.1, by rw [he _ _ e4]; exact hB.2.2.2.1, by rw [he _ _ e6]; exact hB.2.2.2.2⟩
  rcases hrs y hy with q | q
  · exact (g3 y q).kR hkR h00
  · exact q
def c_dropR (C : CC) (i : Nat) (a : Nat) : CC := (C.1.eraseIdx i, C.2.1.map (c_clean (c_by a)), C.2.2)
theorem c_ok.dropR {i a : Nat} (hok : c_ok C) : c_ok (c_dropR C i a) := by
  have h1 := hok.mid (T := c_by a) (j := C.2.1.length)
  rw [c_mid_all (Nat.le_refl _)] at h1
  obtain ⟨k1, k2, k3, k4⟩ := h1
  refine ⟨Nat.le_trans (List.length_eraseIdx_le _ _) k1, ?_, fun x1 hx => k3 x1 (List.mem_of_mem_eraseIdx hx), k4⟩
  show ((C.1.eraseIdx i).map Prod.fst).Nodup
  rw [← q_map_erase]
  exact List.Nodup.sublist (List.eraseIdx_sublist _ _) k2
theorem c_cl.clean {T : FI → Bool} {rs : List (Nat × (Nat → Nat))} (hcl : c_cl C) : c_cl (rs, C.2.1.map (c_clean T), C.2.2) := by
  intro y hy fi hfi
  obtain ⟨y0, hy0, rfl⟩ := List.mem_map.mp hy
  obtain ⟨⟨z, hz, e1⟩, h2⟩ := hcl y0 hy0 fi (List.mem_filter.mp hfi).1
  refine ⟨⟨_, List.mem_map.mpr ⟨z, hz, rfl⟩, e1⟩, fun n hn => ?_⟩
  obtain ⟨z, hz, e1⟩ := h2 n hn
  exact ⟨_, List.mem_map.mpr ⟨z, hz, rfl⟩, e1⟩
theorem c_sum_clean {T : FI → Bool} : ∀ ys : List CF, c_sum (fun y => y.2.2.1.length) (ys.map (c_clean T)) ≤ c_sum (fun y => y.2.2.1.length) ys
  | [] => Nat.le_refl _
  | y :: ys => by
    have h1 := c_sum_clean (T := T) ys
    have h2 : (y.2.2.1.filter (fun fi => !T fi)).length ≤ y.2.2.1.length := List.length_filter_le _ _
    simp only [List.map_cons, c_sum, c_clean]
    omega
theorem q_B.cell {y : CF} {i : Nat} (hB : q_B G h ρ k b w p t C) (hy : C.2.1[i]? = some y) : ∃ l1 l2, h y.1 = some (.inr (14, q_fv y.2.1 l1 l2)) := (hB.1.fact hy).1.c
theorem sp_X2_drop {mc ms : Nat} {v : Int32} {Q : Int32 → HH → Prop} {X : String → Nat → HH → Prop} (hB : q_B G h ρ k b w p t C) (hk : 10 ≤ k) (hok : c_ok C) (hcl : c_cl C) (h41 : ∀ y ∈ C.2.1, y.2.1 4 ≤ 1)
    (hmc : 1 + 20 * (C.2.1.length + 2 * c_sum (fun y => y.2.2.1.length) C.2.1) + 1800 ≤ mc) (hms : C.2.1.length + 80 * (C.2.1.length + 2 * c_sum (fun y => y.2.2.1.length) C.2.1) + 4500 ≤ ms)
    (hQ : ∀ i x1 h' ρ' D, v = nI i → C.1[i]? = some x1 → q_dm h h' → q_ex h ρ ρ' → q_sp (fun c => (ρ c).1 = k) h h' → c_dep (c_dropR C i x1.1) D → q_B G h' ρ' k b w p t (c_los D (c_dropR C i x1.1)).1 → Q (nI (c_los D (c_dropR C i x1.1)).2) h')
    (hX : (∀ i, i < C.1.length → v ≠ nI i) → ∀ a h', h a = none → (∀ c, c ≠ a → h' c = h c) → q_rf h' a 3 v → X "MatchmakerRules$Refused" a h') : wp_X2_drop G mc ms h b v Q X := by
  obtain ⟨lr, lf, g1, g3, g2, ⟨fs3, g5⟩, ⟨fs4, g4⟩⟩ := hB.1.len
  have hl8 := hok.1
  have hl20 := hok.2.2.2.1
  have hρb := hB.1.1
  unfold wp_X2_drop
  refine w_geta_of g1 rfl <| w_nn_of <| w_is_of g5 <| sp_J2_size g3 ?_
  rw [List.length_map]
  refine sp_inN (by omega) (fun i hi hv => ⟨1, 8, by omega, by omega, sp_X11_check (by omega) (by omega) (fun _ => ?_) (fun z => absurd z (by decide))⟩) (fun hno => ⟨1, 8, by omega, by omega, sp_X11_check (by omega) (by omega) (fun z => absurd rfl z) (fun _ => hX hno)⟩)
  subst hv
  obtain ⟨x1, hx1⟩ : ∃ x1, C.1[i]? = some x1 := ⟨_, List.getElem?_eq_getElem hi⟩
  obtain ⟨hr1, hxa⟩ := hB.1.rule hx1
  obtain ⟨fsr, hro⟩ := hr1.ob
  refine w_geta_of g1 rfl <| w_nn_of <| w_is_of g5 <| sp_J2_remove g3 hxa (fun z hz => ?_) (fun h2 mc2 arr2 hdm2 hA hh2 hl2 ha2 => ?_)
  · obtain ⟨z', hz', rfl⟩ := List.mem_map.mp hz
    obtain ⟨iz, hiz⟩ := List.getElem?_of_mem hz'
    obtain ⟨fsz, hz⟩ := (hB.1.rule hiz).1.ob
    exact ⟨_, hz, Or.inl ⟨12, _, by decide, rfl⟩⟩
  have hS45 : q_sp (fun c => ρ c = (k, 4) ∨ ρ c = (k, 5)) h h2 := fun c e hc hS => by
    rw [hh2 c (fun z => hS (Or.inl (by rw [z]; exact g3.1))) (fun z => hS (Or.inr (by rw [z]; exact hA.1)))]
    exact hc
  rw [q_map_erase] at hl2
  have hB2 : q_B G h2 ρ k b w p t (C.1.eraseIdx i, C.2.1, C.2.2) := hB.rules (by omega) g1 (fun _ _ _ => rfl) hS45 hl2 (fun z hz => Or.inl (List.mem_of_mem_eraseIdx hz))
  have hb2 : h2 b = some (.inr (2, q_bv w lr lf C.2.2)) := hS45 _ _ g1 (fun z => by
    dsimp only at z
    rw [hρb] at z
    rcases z with z | z <;> have := congrArg Prod.snd z <;> simp only at this <;> omega)
  have hro2 : h2 x1.1 = some (.inr (12, fsr)) := hS45 _ _ hro (fun z => by
    dsimp only at z
    rw [hr1.1] at z
    rcases z with z | z <;> have := congrArg Prod.fst z <;> simp only at this <;> omega)
  have hg42 : h2 lf = some (.inr (4, fs4)) := hS45 _ _ g4 (fun z => by
    dsimp only at z
    rw [g2.1] at z
    rcases z with z | z <;> have := congrArg Prod.snd z <;> simp only at this <;> omega)
  obtain ⟨lr9, lf9, q1, q3, q2, -, -⟩ := hB2.1.len
  rw [hb2] at q1
  cases q1
  refine w_nn_of <| w_cast_of hro2 <| w_geta_of hb2 rfl <| w_nn_of ⟨1, 4, by omega, by omega, w_is_of hg42 <| sp_J2_iterator q2 (by omega) (by omega) (fun it h4 hit hh4 hi4 => ?_)⟩
  have hB4 : q_B G h4 (q_up ρ it (9, 0)) k b w p t (C.1.eraseIdx i, C.2.1, C.2.2) := hB2.nw hit hh4
  have ne4 : ∀ {c : Nat} {e : va_E}, h2 c = some e → c ≠ it := fun hc => q_new_ne hit hc
  have hdm4 : q_dm h2 h4 := fun c e hc => ⟨e, by rw [hh4 c (ne4 hc)]; exact hc⟩
  have hokE : c_ok (C.1.eraseIdx i, C.2.1, C.2.2) := by
    obtain ⟨k1, k2, k3, k4⟩ := hok
    refine ⟨Nat.le_trans (List.length_eraseIdx_le _ _) k1, ?_, fun x1 hx => k3 x1 (List.mem_of_mem_eraseIdx hx), k4⟩
    show ((C.1.eraseIdx i).map Prod.fst).Nodup
    rw [← q_map_erase]
    exact List.Nodup.sublist (List.eraseIdx_sublist _ _) k2
  have hbit : b ≠ it := ne4 hb2
  have main : ∀ d j h1 ρ1, j + d = C.2.1.length → q_dm h4 h1 → q_ex h4 (q_up ρ it (9, 0)) ρ1 → q_sp (q_S8t (q_up ρ it (9, 0)) k it) h4 h1 → q_B G h1 ρ1 k b w p t (c_mid (c_by x1.1) (C.1.eraseIdx i, C.2.1, C.2.2) j) → q_it h1 lf it j → wp_X2_drop_L41 G mc ms b Q X (d + 1) h1 ((0 + 1) + 1 + 4 * j) ((0 + 8) + 4 + 10 * j) x1.1 (some it) := by
    have hbS : ¬ q_S8t (q_up ρ it (9, 0)) k it b := fun z => by
      rcases z with z | z
      · have := z.2
        rw [q_up_ne hbit, hρb] at this
        simp only at this
        omega
      · exact hbit z
    have hb4 : h4 b = some (.inr (2, q_bv w lr lf C.2.2)) := by rw [hh4 b hbit]; exact hb2
    obtain ⟨fsi, hito⟩ := hi4.ob
    intro d
    induction d with
    | zero =>
      intro j h1 ρ1 hd hdm he hs hB1 hi
      obtain ⟨lr1, lf1, j1, j3, j2, -, -⟩ := hB1.1.len
      rw [hs b _ hb4 hbS] at j1
      cases j1
      unfold wp_X2_drop_L41
      refine w_nn_of <| q_eachF j2 hi (by rw [c_mid_len]; exact Nat.le_of_eq (by simpa using hd)) (fun _ => ?_) (fun y h' hy => ?_)
      · have hj : C.2.1.length ≤ j := by omega
        rw [c_mid_all (C := (C.1.eraseIdx i, C.2.1, C.2.2)) hj] at hB1
        have hsc := c_sum_clean (T := c_by x1.1) C.2.1
        have hex : q_ex h ρ (q_up ρ it (9, 0)) := fun c e hc => by
          obtain ⟨e', hc'⟩ := hdm2 c e hc
          exact q_up_ne (ne4 hc')
        have hs04 : q_sp (fun c => (ρ c).1 = k) h h4 := fun c e hc hS => by
          have c2 := hS45 c e hc (fun z => hS (by
            dsimp only at z ⊢
            rcases z with z | z <;> rw [z]))
          rw [hh4 c (ne4 c2)]
          exact c2
        have hs01 : q_sp (fun c => (ρ c).1 = k) h h1 := fun c e hc hS => by
          have c4 := hs04 c e hc hS
          obtain ⟨e', hc'⟩ := hdm2 c e hc
          refine hs c e c4 (fun z => ?_)
          rcases z with z | z
          · rw [hex c e hc] at z
            exact hS z.1
          · exact ne4 hc' z
        have hdm01 := (hdm2.tr hdm4).tr hdm
        have hex01 : q_ex h ρ ρ1 := q_ex.tr (hdm2.tr hdm4) hex he
        obtain ⟨lr8, lf8, k1, -⟩ := hB1.1.len
        refine ⟨1 + 20 * (C.2.1.length + 2 * c_sum (fun y => y.2.2.1.length) C.2.1) + 1700, C.2.1.length + 80 * (C.2.1.length + 2 * c_sum (fun y => y.2.2.1.length) C.2.1) + 4200, by omega, by omega, w_is_of k1 <| sp_X2_loseGround (C := c_dropR C i x1.1) hB1 hk hok.dropR hcl.clean (fun y hy => ?_) ?_ ?_ (fun h' ρ' D a1 a2 a3 a4 a5 => ?_)⟩
        · obtain ⟨y0, hy0, rfl⟩ := List.mem_map.mp hy
          exact h41 y0 hy0
        · simp only [c_dropR, List.length_map]
          omega
        · simp only [c_dropR, List.length_map]
          omega
        · refine hQ i x1 h' ρ' D rfl hx1 (hdm01.tr a1) (q_ex.tr hdm01 hex01 a2) (fun c e hc hS => ?_) a4 a5
          exact a3 c e (hs01 c e hc hS) (fun z => hS (by dsimp only at z ⊢; rw [hex01 c e hc] at z; exact z))
      · have := (List.getElem?_eq_some_iff.mp hy).1
        rw [c_mid_len] at this
        simp only at this
        omega
    | succ d ih =>
      intro j h1 ρ1 hd hdm he hs hB1 hi
      obtain ⟨lr1, lf1, j1, j3, j2, -, -⟩ := hB1.1.len
      rw [hs b _ hb4 hbS] at j1
      cases j1
      unfold wp_X2_drop_L41
      refine w_nn_of <| q_eachF j2 hi (by rw [c_mid_len]; simp only; omega) (fun z => by rw [c_mid_len] at z; simp only at z; omega) (fun y h2' hy hh hi2 => ?_)
      rw [c_mid_at, if_neg (by omega)] at hy
      have hit1 : ρ1 it = (9, 0) := by rw [he it _ hito]; exact q_up_same
      have hlf1 : ρ1 lf = (k, 6) := j2.1
      have hB2' := hB1.itn hk hit1 hi hh
      have hdm2' := hdm.tr (q_dm.itn hi2 hh)
      have hs2' := hs.itn (it := it) (Or.inr rfl) hh
      obtain ⟨l1, l2, hcy⟩ := hB2'.cell (show (c_mid (c_by x1.1) (C.1.eraseIdx i, C.2.1, C.2.2) j).2.1[j]? = some y by rw [c_mid_at, if_neg (by omega)]; exact hy)
      refine w_cast_of hcy <| sp_cleanStep (K := fun h nc nk => wp_X2_drop_L41 G mc ms b Q X (d + 1) h nc nk x1.1 (some it)) (T := c_by x1.1) hB2' (by omega) hokE hy (by omega) (by omega) (fun h1 ta x1 fi P a1 a2 a3 a4 => q_test_by (Or.inl a1) a3 a4) (fun h1 ta x1 fi P a1 a2 a3 a4 => q_test_by (Or.inr a1) a3 a4) (fun h3 ρ3 a1 a2 a3 a4 => ?_)
      have hi3 : q_it h3 lf it (j + 1) := hi2.S8 hk a3 hit1 hlf1
      have := ih (j + 1) h3 ρ3 (by omega) (hdm2'.tr a1) (q_ex.tr hdm2' he a2) (fun c e hc hS => a3 c e (hs2' c e hc hS) (fun z => hS (Or.inl (by dsimp only at z; rw [he c e hc] at z; exact z)))) a4 hi3
      rw [show 0 + 1 + 1 + 4 * (j + 1) = 0 + 1 + 1 + 4 * j + 1 + 1 + 1 + 1 by omega, show 0 + 8 + 4 + 10 * (j + 1) = 0 + 8 + 4 + 10 * j + 1 + 4 + 1 + 4 by omega] at this
      exact this
  exact ⟨_, main C.2.1.length 0 h4 _ (by omega) q_dm.rf (fun _ _ _ => rfl) q_sp.rf (by rw [c_mid_0]; exact hB4) hi4⟩
end DROP
