set_option maxRecDepth 100000
def c_los (D : Nat → Nat) (C : CC) : CC × Nat := (c_cnt (c_lo D C.2.1.length C).1 1 ((c_lo D C.2.1.length C).1.2.2 1 + (c_lo D C.2.1.length C).2), (c_lo D C.2.1.length C).2)
theorem c_lo_cnt {D : Nat → Nat} : ∀ (i : Nat) (C : CC), (c_lo D i C).1.2.2 = C.2.2 ∧ (c_lo D i C).1.1 = C.1 ∧ (c_lo D i C).2 ≤ i
  | 0, C => ⟨rfl, rfl, Nat.le_refl _⟩
  | i + 1, C => by
    have e : (c_delF C i).2.2 = C.2.2 ∧ (c_delF C i).1 = C.1 := by
      unfold c_delF
      split <;> exact ⟨rfl, rfl⟩
    unfold c_lo
    split
    · obtain ⟨h1, h2, h3⟩ := c_lo_cnt (D := D) i C
      exact ⟨h1, h2, by omega⟩
    · obtain ⟨h1, h2, h3⟩ := c_lo_cnt (D := D) i (c_delF C i)
      exact ⟨by rw [h1, e.1], by rw [h2, e.2], by simp only; omega⟩
section LOSE2
variable {G : GG} {h h' : HH} {ρ ρ' : RO} {k b w p t : Nat} {C : CC}
def q_S8 (ρ : RO) (k : Nat) : Nat → Prop := fun c => (ρ c).1 = k ∧ 8 ≤ (ρ c).2
theorem q_it.S8 {h1 : HH} {lf it j : Nat} (hi : q_it h lf it j) (hk : 10 ≤ k) (hs : q_sp (q_S8 ρ k) h h1) (hit : ρ it = (9, 0)) (hlf : ρ lf = (k, 6)) : q_it h1 lf it j :=
  hi.sp hs (fun z => by have := z.1; rw [hit] at this; simp only at this; omega) (fun z => by have := z.2; rw [hlf] at this; simp only at this; omega)
/-- an iterator goes on: a book is kept -/
theorem q_B.itn {h1 : HH} {a it j : Nat} (hB : q_B G h ρ k b w p t C) (hk : 10 ≤ k) (hit : ρ it = (9, 0)) (hi : q_it h a it j) (hh : ∀ c, c ≠ it → h1 c = h c) : q_B G h1 ρ k b w p t C := by
  refine hB.ro (hB.1.kp ⟨fun _ _ _ => rfl, fun c e hc _ hr => ?_⟩) (hB.2.1.nx hi hh) (fun _ _ _ => rfl)
  rw [hh c (fun z => by rw [z, hit] at hr; simp only at hr; omega)]
  exact hc
theorem q_dm.itn {h1 : HH} {a it j : Nat} (hi : q_it h1 a it j) (hh : ∀ c, c ≠ it → h1 c = h c) : q_dm h h1 := fun c e hc => by
  by_cases z : c = it
  · obtain ⟨fs, ho⟩ := hi.ob
    exact ⟨_, by rw [z]; exact ho⟩
  · exact ⟨e, by rw [hh c z]; exact hc⟩
/-- frames over an iterator's step: what the roles spare -/
theorem q_sp.itn {S : Nat → Prop} {h1 h2 : HH} {it : Nat} (hs : q_sp S h h1) (hS : S it) (hh : ∀ c, c ≠ it → h2 c = h1 c) : q_sp S h h2 := hs.tr (q_sp.of hh hS)
def q_S8t (ρ : RO) (k it : Nat) : Nat → Prop := fun c => ((ρ c).1 = k ∧ 8 ≤ (ρ c).2) ∨ c = it
theorem sp_loseGround_L50 {mc ms nc0 nk0 da n it lf : Nat} {xs xi : Int32} {Q : Int32 → HH → Prop} {k12 : HH → Nat → Nat → Nat → Int32 → Int32 → Prop} {lr : Nat} (hk : 10 ≤ k) (hok : c_ok C) (hn : n < 100000) (hb : h b = some (.inr (2, q_bv w lr lf C.2.2))) (hρb : ρ b = (k, 0)) (hit : ρ it = (9, 0)) (hlf : ρ lf = (k, 6)) (hlfo : ∃ e, h lf = some e) (hito : ∃ e, h it = some e)
    (hmc : nc0 + 4 * C.2.1.length ≤ mc) (hms : nk0 + 10 * C.2.1.length ≤ ms)
    (hk12 : ∀ h2 ρ2, q_dm h h2 → q_ex h ρ ρ2 → q_sp (q_S8t ρ k it) h h2 → q_B G h2 ρ2 k b w p t (C.1, C.2.1.map (c_clean (c_has n)), C.2.2) → k12 h2 (nc0 + 4 * C.2.1.length) (nk0 + 10 * C.2.1.length) da (xs + 1) (xi + -1)) :
    ∀ d j h1 ρ1, j + d = C.2.1.length → q_dm h h1 → q_ex h ρ ρ1 → q_sp (q_S8t ρ k it) h h1 → q_B G h1 ρ1 k b w p t (c_mid (c_has n) C j) → q_it h1 lf it j → wp_X2_loseGround_L50 G mc ms b Q k12 (d + 1) h1 (nc0 + 4 * j) (nk0 + 10 * j) da xs xi (nI n) (some it) := by
  obtain ⟨elf, hlfo⟩ := hlfo
  obtain ⟨eit, hito⟩ := hito
  have hbS : ¬ q_S8t ρ k it b := fun z => by
    rcases z with z | z
    · have := z.2
      rw [hρb] at this
      simp only at this
      omega
    · rw [z, hit] at hρb
      have := congrArg Prod.fst hρb
      simp only at this
      omega
  intro d
  induction d with
  | zero =>
    intro j h1 ρ1 hd hdm he hs hB hi
    obtain ⟨lr1, lf1, j1, j3, j2, -, -⟩ := hB.1.len
    rw [hs b _ hb hbS] at j1
    cases j1
    unfold wp_X2_loseGround_L50
    refine w_nn_of <| q_eachF j2 hi (by rw [c_mid_len]; omega) (fun _ => ?_) (fun y h' hy => ?_)
    · rw [c_mid_all (by omega)] at hB
      have := hk12 h1 ρ1 hdm he hs hB
      rw [show C.2.1.length = j by omega] at this
      exact this
    · have := (List.getElem?_eq_some_iff.mp hy).1
      rw [c_mid_len] at this
      omega
  | succ d ih =>
    intro j h1 ρ1 hd hdm he hs hB hi
    obtain ⟨lr1, lf1, j1, j3, j2, -, -⟩ := hB.1.len
    rw [hs b _ hb hbS] at j1
    cases j1
    unfold wp_X2_loseGround_L50
    refine w_nn_of <| q_eachF j2 hi (by rw [c_mid_len]; omega) (fun z => by rw [c_mid_len] at z; omega) (fun y h2 hy hh hi2 => ?_)
    rw [c_mid_at, if_neg (by omega)] at hy
    have hit1 : ρ1 it = (9, 0) := by rw [he it _ hito]; exact hit
    have hlf1 : ρ1 lf = (k, 6) := by rw [he lf _ hlfo]; exact hlf
    have hB2 := hB.itn hk hit1 hi hh
    have hdm2 := hdm.tr (q_dm.itn hi2 hh)
    have hs2 := hs.itn (it := it) (Or.inr rfl) hh
    obtain ⟨-, l1, l2, hcy, -, -⟩ := (hB2.1.fact (show (c_mid (c_has n) C j).2.1[j]? = some y by rw [c_mid_at, if_neg (by omega)]; exact hy)).1
    refine w_cast_of hcy <| sp_cleanStep (K := fun h nc nk => wp_X2_loseGround_L50 G mc ms b Q k12 (d + 1) h nc nk da xs xi (nI n) (some it)) (T := c_has n) hB2 (by omega) hok hy (by omega) (by omega) (fun h1 ta x1 fi P a1 a2 a3 a4 => q_test_has (Or.inl a1) (by omega) a3 a2.1 a2.2 a4) (fun h1 ta x1 fi P a1 a2 a3 a4 => q_test_has (Or.inr a1) (by omega) a3 a2.1 a2.2 a4) (fun h3 ρ3 a1 a2 a3 a4 => ?_)
    have hi3 : q_it h3 lf it (j + 1) := hi2.S8 hk a3 hit1 hlf1
    have := ih (j + 1) h3 ρ3 (by omega) (hdm2.tr a1) (q_ex.tr hdm2 he a2) (fun c e hc hS => a3 c e (hs2 c e hc hS) (fun z => hS (Or.inl (by dsimp only at z; rw [he c e hc] at z; exact z)))) a4 hi3
    rw [show nc0 + 4 * (j + 1) = nc0 + 4 * j + 1 + 1 + 1 + 1 by omega, show nk0 + 10 * (j + 1) = nk0 + 10 * j + 1 + 4 + 1 + 4 by omega] at this
    exact this
theorem q_sub1 (i : Nat) : nI i + (-1) = nI i - 1 := by rw [Int32.sub_eq_add_neg]
theorem sp_X2_loseGround {mc ms : Nat} {Q : Int32 → HH → Prop} (hB : q_B G h ρ k b w p t C) (hk : 10 ≤ k) (hok : c_ok C) (hcl : c_cl C) (h41 : ∀ y ∈ C.2.1, y.2.1 4 ≤ 1)
    (hmc : 1 + 20 * (C.2.1.length + 2 * c_sum (fun y => y.2.2.1.length) C.2.1) + 1700 ≤ mc) (hms : C.2.1.length + 80 * (C.2.1.length + 2 * c_sum (fun y => y.2.2.1.length) C.2.1) + 4200 ≤ ms)
    (hQ : ∀ h' ρ' D, q_dm h h' → q_ex h ρ ρ' → q_sp (fun c => (ρ c).1 = k) h h' → c_dep C D → q_B G h' ρ' k b w p t (c_los D C).1 → Q (nI (c_los D C).2) h') : wp_X2_loseGround G mc ms h b Q := by
  obtain ⟨lr, lf, g1, g3, g2, ⟨fs3, g5⟩, ⟨fs4, g4⟩⟩ := hB.1.len
  have hl20 := hok.2.2.2.1
  refine ⟨1 + 20 * (C.2.1.length + 2 * c_sum (fun y => y.2.2.1.length) C.2.1), C.2.1.length + 80 * (C.2.1.length + 2 * c_sum (fun y => y.2.2.1.length) C.2.1), by omega, by omega, w_is_of g1 <| sp_X2_depths hB.1 hok hcl h41 (Nat.le_refl _) (Nat.le_refl _) (fun h3 da f D hda hs3 harr hf hD => ?_)⟩
  generalize 1 + 20 * (C.2.1.length + 2 * c_sum (fun y => y.2.2.1.length) C.2.1) = cc at *
  generalize C.2.1.length + 80 * (C.2.1.length + 2 * c_sum (fun y => y.2.2.1.length) C.2.1) = kk at *
  have hρb := hB.1.1
  have hlfρ := g2.1
  have hB3 : q_B G h3 (q_up ρ da (9, 1)) k b w p t C := by
    have he := q_ex_up (ρ := ρ) (r := (9, 1)) hda
    exact hB.ro (hB.1.kp ⟨he, fun c e hc _ _ => hs3 c e hc q_no.not⟩) (hB.2.1.st hs3) he
  refine w_nn_of (Or.inl ⟨0, _, by decide, harr, ?_⟩)
  have main : ∀ i C1 h1 ρ1 cnt, i ≤ C1.2.1.length → i ≤ C.2.1.length → C1.2.1.length ≤ 20 → c_ok C1 → (cnt + i ≤ C.2.1.length) → q_dm h h1 → q_ex h ρ ρ1 → q_sp (fun c => (ρ c).1 = k) h h1 → q_B G h1 ρ1 k b w p t C1 → h1 da = some (.inl (G.2.1 0, C.2.1.length, .inl f)) → ρ1 da = (9, 1) →
      (∀ h' ρ', q_dm h h' → q_ex h ρ ρ' → q_sp (fun c => (ρ c).1 = k) h h' → q_B G h' ρ' k b w p t (c_cnt (c_lo D i C1).1 1 ((c_lo D i C1).1.2.2 1 + (cnt + (c_lo D i C1).2))) → Q (nI (cnt + (c_lo D i C1).2)) h') →
      ∀ nc nk, nc + 84 * i ≤ mc → nk + 204 * i ≤ ms → wp_X2_loseGround_L12 G mc ms b Q (i + 1) h1 nc nk da (nI cnt) (nI i - 1) := by
    intro i
    induction i with
    | zero =>
      intro C1 h1 ρ1 cnt hi1 hi2 h20 hok1 hcnt hdm he hs hB1 ha hρa hfin nc nk hnc hnk
      obtain ⟨lr1, lf1, j1, j3, j2, -, -⟩ := hB1.1.len
      unfold wp_X2_loseGround_L12
      refine br_t (by decide +kernel) <| w_geti_of j1 rfl <| w_put_of j1 (Nat.le_of_ble_eq_true rfl) rfl ?_
      rw [nI_add]
      refine hfin _ ρ1 hdm.up he (hs.tr (fun c e hc hS => ?_)) (hB1.cnt (by omega) j1 (fun c hc => q_h_ne hc) q_h_same)
      by_cases z : c = b
      · exact absurd (show (ρ c).1 = k by rw [z, hρb]) hS
      · rw [q_h_ne z]
        exact hc
    | succ i ih =>
      intro C1 h1 ρ1 cnt hi1 hi2 h20 hok1 hcnt hdm he hs hB1 ha hρa hfin nc nk hnc hnk
      obtain ⟨lr1, lf1, j1, j3, j2, ⟨fs8, j8⟩, ⟨fs9, j9⟩⟩ := hB1.1.len
      have hDi := hD.le (List.getElem?_eq_getElem (show i < C.2.1.length by omega))
      rw [nI_pred]
      unfold wp_X2_loseGround_L12
      refine br_f (nI_pos (by omega)) <| w_ild_of ha (by omega) (by omega) ?_
      rw [hf i (by omega)]
      by_cases hlt : D i < 1000
      · refine br_t (nI_lt (b := 1000) hlt (by omega)) ?_
        rw [q_sub1]
        refine ih C1 h1 ρ1 cnt (by omega) (by omega) h20 hok1 (by omega) hdm he hs hB1 ha hρa ?_ nc nk (by omega) (by omega)
        have e : c_lo D (i + 1) C1 = c_lo D i C1 := by
          conv => lhs; unfold c_lo
          rw [if_pos hlt]
        rw [e] at hfin
        exact hfin
      · obtain ⟨y, hy⟩ : ∃ y, C1.2.1[i]? = some y := ⟨_, List.getElem?_eq_getElem (by omega)⟩
        have hym := List.mem_of_getElem? hy
        have e : c_lo D (i + 1) C1 = ((c_lo D i (c_delF C1 i)).1, (c_lo D i (c_delF C1 i)).2 + 1) := by
          conv => lhs; unfold c_lo
          rw [if_neg hlt]
        have ed : c_delF C1 i = (C1.1, (C1.2.1.eraseIdx i).map (c_clean (c_has (y.2.1 0))), C1.2.2) := by
          unfold c_delF
          rw [hy]
        have hlen : (C1.2.1.eraseIdx i).length = C1.2.1.length - 1 := by rw [List.length_eraseIdx, if_pos (by omega)]
        have hρb1 := hB1.1.1
        have hlf1 := j2.1
        refine br_f (nI_nlt (b := 1000) (by omega) (by omega)) <| w_geta_of j1 rfl <| w_nn_of <| w_is_of j9 <| sp_J2_remove j2 (hB1.1.fact hy).2.1 (fun z hz => ?_) (fun h2 mc2 arr2 hdm2 hA hh2 hl2 ha2 => ?_)
        · obtain ⟨z', hz', rfl⟩ := List.mem_map.mp hz
          obtain ⟨iz, hiz⟩ := List.getElem?_of_mem hz'
          obtain ⟨l1, l2, hcz⟩ := (hB1.1.fact hiz).1.c
          exact q_fv_ob hcz
        have hS67 : q_sp (fun c => ρ1 c = (k, 6) ∨ ρ1 c = (k, 7)) h1 h2 := fun c e hc hS => by
          rw [hh2 c (fun z => hS (Or.inl (by rw [z]; exact hlf1))) (fun z => hS (Or.inr (by rw [z]; exact hA.1)))]
          exact hc
        rw [q_map_erase] at hl2
        have hB2 : q_B G h2 ρ1 k b w p t (C1.1, C1.2.1.eraseIdx i, C1.2.2) := hB1.facts (by omega) j1 (fun _ _ _ => rfl) hS67 hl2 (fun z hz => Or.inl (List.mem_of_mem_eraseIdx hz))
        obtain ⟨hry, l1, l2, hcy, -, -⟩ := (hB1.1.fact hy).1
        have hcy2 : h2 y.1 = some (.inr (14, q_fv y.2.1 l1 l2)) := hS67 _ _ hcy (fun z => by
          dsimp only at z
          rw [hry] at z
          rcases z with z | z <;> have := congrArg Prod.snd z <;> simp only at this <;> omega)
        have hb2 : h2 b = some (.inr (2, q_bv w lr1 lf1 C1.2.2)) := hS67 _ _ j1 (fun z => by
          dsimp only at z
          rw [hρb1] at z
          rcases z with z | z <;> have := congrArg Prod.snd z <;> simp only at this <;> omega)
        refine w_nn_of <| w_cast_of hcy2 <| w_geti_of hcy2 rfl <| w_geta_of hb2 rfl <| w_nn_of ⟨1, 4, by omega, by omega, ?_⟩
        obtain ⟨fs7, ho7⟩ := hl2.ob
        refine w_is_of ho7 <| sp_J2_iterator hl2 (by omega) (by omega) (fun it h4 hit hh4 hi4 => ?_)
        have hB4 : q_B G h4 (q_up ρ1 it (9, 0)) k b w p t (C1.1, C1.2.1.eraseIdx i, C1.2.2) := hB2.nw hit hh4
        have hokE : c_ok (C1.1, C1.2.1.eraseIdx i, C1.2.2) := hok1.erase
        have ne4 : ∀ {c : Nat} {e : va_E}, h2 c = some e → c ≠ it := fun hc => q_new_ne hit hc
        have hdm4 : q_dm h2 h4 := fun c e hc => ⟨e, by rw [hh4 c (ne4 hc)]; exact hc⟩
        have hex4 : q_ex h ρ (q_up ρ1 it (9, 0)) := q_ex.tr (hdm.tr hdm2) he (q_ex_up hit)
        have hs04 : q_sp (fun c => (ρ c).1 = k) h h4 := fun c e hc hS => by
          have c1 := hs c e hc hS
          have c2 := hS67 c e c1 (fun z => hS (by
            dsimp only at z ⊢
            rw [he c e hc] at z
            rcases z with z | z <;> rw [z]))
          rw [hh4 c (ne4 c2)]
          exact c2
        have hda2 : h2 da = some (.inl (G.2.1 0, C.2.1.length, .inl f)) := hS67 _ _ ha (fun z => by
          dsimp only at z
          rw [hρa] at z
          rcases z with z | z <;> have := congrArg Prod.fst z <;> simp only at this <;> omega)
        have hda4 : h4 da = some (.inl (G.2.1 0, C.2.1.length, .inl f)) := by rw [hh4 da (ne4 hda2)]; exact hda2
        refine ⟨_, sp_loseGround_L50 (ρ := q_up ρ1 it (9, 0)) (C := (C1.1, C1.2.1.eraseIdx i, C1.2.2)) (nc0 := nc + 1) (nk0 := nk + 4) (n := y.2.1 0) hk hokE (hok1.2.2.2.2.2.1 y hym) (by rw [hh4 b (ne4 hb2)]; exact hb2) (by rw [q_up_ne (ne4 hb2)]; exact hρb1) q_up_same (by rw [q_up_ne (ne4 ho7)]; exact hlf1) ⟨_, by rw [hh4 _ (ne4 ho7)]; exact ho7⟩ (by obtain ⟨fs, ho⟩ := hi4.ob; exact ⟨_, ho⟩) (by simp only [hlen]; omega) (by simp only [hlen]; omega) (fun h5 ρ5 b1 b2 b3 b4 => ?_) (C1.2.1.eraseIdx i).length 0 h4 _ (by simp) q_dm.rf (fun _ _ _ => rfl) q_sp.rf (by rw [c_mid_0]; exact hB4) hi4⟩
        have e1 : nI cnt + 1 = nI (cnt + 1) := nI_1 _
        rw [e1, q_sub1]
        rw [← ed] at b4
        refine ih (c_delF C1 i) h5 ρ5 (cnt + 1) ?_ (by omega) ?_ hok1.delF (by omega) (((hdm.tr hdm2).tr hdm4).tr b1) (q_ex.tr ((hdm.tr hdm2).tr hdm4) hex4 b2) (fun c e hc hS => ?_) b4 ?_ ?_ ?_ _ _ ?_ ?_
        · rw [ed]
          simp only [List.length_map, hlen]
          omega
        · rw [ed]
          simp only [List.length_map, hlen]
          omega
        · have c4 := hs04 c e hc hS
          refine b3 c e c4 (fun z => ?_)
          have hc' := hex4 c e hc
          rcases z with z | z
          · exact hS (show (ρ c).1 = k by rw [← hc']; exact z.1)
          · have c1 := hs c e hc hS
            have c2 := hS67 c e c1 (fun z => hS (by
              dsimp only at z ⊢
              rw [he c e hc] at z
              rcases z with z | z <;> rw [z]))
            exact ne4 c2 z
        · refine b3 da _ hda4 (fun z => ?_)
          rw [q_S8t, q_up_ne (ne4 hda2), hρa] at z
          rcases z with z | z
          · have := z.1
            simp only at this
            omega
          · exact ne4 hda2 z
        · rw [b2 da _ hda4, q_up_ne (ne4 hda2)]
          exact hρa
        · rw [e] at hfin
          simp only at hfin
          have e9 : cnt + ((c_lo D i (c_delF C1 i)).2 + 1) = cnt + 1 + (c_lo D i (c_delF C1 i)).2 := by omega
          rw [e9] at hfin
          exact hfin
        · simp only [hlen]
          omega
        · simp only [hlen]
          omega
  have := main C.2.1.length C h3 (q_up ρ da (9, 1)) 0 (Nat.le_refl _) (Nat.le_refl _) hl20 hok (by omega) (fun c e hc => ⟨e, hs3 c e hc q_no.not⟩) (q_ex_up hda) (fun c e hc _ => hs3 c e hc q_no.not) hB3 harr q_up_same (fun h' ρ' a1 a2 a3 a4 => by
    have := hQ h' ρ' D a1 a2 a3 hD
    unfold c_los at this
    rw [Nat.zero_add] at a4 ⊢
    exact this a4) (0 + cc) (0 + kk) (by omega) (by omega)
  exact ⟨_, this⟩
end LOSE2
